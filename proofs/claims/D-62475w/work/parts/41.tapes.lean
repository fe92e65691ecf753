/-! the plain law, first layer: numbers in bytes, tapes -/
-- ===== numbers =====
def zx (v : Int64) : Int64 := (v <<< ((1 : Int32).toInt64 &&& 63)) ^^^ (v >>> ((63 : Int32).toInt64 &&& 63))
def zig (v : Int64) : Nat := (zx v).toBitVec.toNat
theorem zig_lt (v : Int64) : zig v < 2 ^ 64 := (zx v).toBitVec.isLt
theorem zx_lN (v : Int64) : zx v = lN (zig v) := wb_inj (by rw [wb_tb]; unfold zig; simp)
theorem zz_bit (v : Int64) : (((zx v).toUInt64 >>> ((1 : Int32).toInt64.toUInt64 &&& Int64.toUInt64 63)).toInt64) ^^^ (-(zx v &&& 1)) = v := by
  apply wb_inj
  have e1 : ((1 : Int32).toInt64 &&& 63).toBitVec.smod 64 = 1#64 := by decide +kernel
  have e2 : ((63 : Int32).toInt64 &&& 63).toBitVec.smod 64 = 63#64 := by decide +kernel
  have hz : (zx v).toBitVec = (v.toBitVec <<< 1) ^^^ v.toBitVec.sshiftRight 63 := by
    unfold zx
    rw [Int64.toBitVec_xor, Int64.toBitVec_shiftLeft, Int64.toBitVec_shiftRight, e1, e2]
    rfl
  have hs : (((zx v).toUInt64 >>> ((1 : Int32).toInt64.toUInt64 &&& Int64.toUInt64 63)).toInt64).toBitVec = (zx v).toBitVec >>> 1 := by
    show ((zx v).toUInt64 >>> ((1 : Int32).toInt64.toUInt64 &&& Int64.toUInt64 63)).toBitVec = _
    rw [UInt64.toBitVec_shiftRight, show ((1 : Int32).toInt64.toUInt64 &&& Int64.toUInt64 63).toBitVec % 64 = 1#64 by decide +kernel]
    rfl
  rw [Int64.toBitVec_xor, hs, Int64.toBitVec_neg, Int64.toBitVec_and, show (1 : Int64).toBitVec = 1#64 from rfl]
  have h0 : ∀ i, (zx v).toBitVec.getLsbD i = ((decide (1 ≤ i ∧ i < 64) && v.toBitVec.getLsbD (i - 1)) ^^ (decide (i < 64) && v.toBitVec.getLsbD 63)) := by
    intro i
    rw [hz, BitVec.getLsbD_xor, BitVec.getLsbD_shiftLeft, BitVec.getLsbD_sshiftRight]
    by_cases hi : i < 64
    · by_cases h1 : 1 ≤ i
      · simp only [hi, h1, BitVec.msb_eq_getLsbD_last]
        have : ¬ 64 ≤ i := by omega
        have h3 : ¬ i < 1 := by omega
        by_cases h4 : 63 + i < 64
        · omega
        · simp [this, h4, h3]
      · have hi0 : i = 0 := by omega
        subst hi0
        simp
    · simp [hi, show 64 ≤ i by omega]
  have hb : (zx v).toBitVec.getLsbD 0 = v.toBitVec.getLsbD 63 := by rw [h0]; simp
  have hn : -((zx v).toBitVec &&& 1#64) = if v.toBitVec.getLsbD 63 then BitVec.allOnes 64 else 0#64 := by
    have hand : (zx v).toBitVec &&& 1#64 = if v.toBitVec.getLsbD 63 then 1#64 else 0#64 := by
      apply BitVec.eq_of_getLsbD_eq
      intro i hi
      rw [BitVec.getLsbD_and]
      by_cases h1 : i = 0
      · subst h1
        rw [hb]
        cases v.toBitVec.getLsbD 63 <;> rfl
      · have : (1#64).getLsbD i = false := by
          rw [BitVec.getLsbD_one]; simp [h1]
        rw [this, Bool.and_false]
        split
        · exact this.symm
        · simp
    rw [hand]
    split <;> decide
  apply BitVec.eq_of_getLsbD_eq
  intro i hi
  rw [BitVec.getLsbD_xor, BitVec.getLsbD_ushiftRight, h0, hn]
  by_cases h63 : i = 63
  · subst h63
    cases h : v.toBitVec.getLsbD 63 <;> simp
  · have e3 : 1 + i - 1 = i := by omega
    have e4 : 1 ≤ 1 + i ∧ 1 + i < 64 := by omega
    rw [e3]
    have e5 : (BitVec.allOnes 64).getLsbD i = true := by rw [BitVec.getLsbD_allOnes]; simpa using hi
    cases h : v.toBitVec.getLsbD 63
    · simp [e4, hi]
    · rw [if_pos rfl, e5]
      simp only [e4, and_self, decide_true, Bool.true_and]
      cases v.toBitVec.getLsbD i <;> rfl
/-- the bytes of a number -/
def encF : Nat → Nat → List Nat
  | 0, u => [u % 128]
  | f + 1, u => if u < 128 then [u] else (u % 128 + 128) :: encF f (u / 128)
def enc (v : Int64) : List Nat := encF 10 (zig v)
theorem encF_lt : ∀ f u b, b ∈ encF f u → b < 256 := by
  intro f
  induction f with
  | zero => intro u b h; simp [encF] at h; omega
  | succ f ih =>
    intro u b h
    unfold encF at h
    split at h
    · simp at h; omega
    · rcases List.mem_cons.mp h with rfl | h
      · omega
      · exact ih _ _ h
theorem encF_len : ∀ f u, 1 ≤ (encF f u).length ∧ (encF f u).length ≤ f + 1 := by
  intro f
  induction f with
  | zero => intro u; simp [encF]
  | succ f ih =>
    intro u
    unfold encF
    split
    · simp
    · have := ih (u / 128)
      simp; omega
theorem enc_lt {v : Int64} {b : Nat} (h : b ∈ enc v) : b < 256 := encF_lt _ _ _ h
theorem enc_10 : ∀ f u, u < 128 ^ (f + 1) → (encF (f + 1) u).length ≤ f + 1 := by
  intro f
  induction f with
  | zero => intro u h; unfold encF; rw [if_pos (by simpa using h)]; simp
  | succ f ih =>
    intro u h
    unfold encF
    split
    · simp
    · have := ih (u / 128) (by rw [Nat.pow_succ] at h; exact Nat.div_lt_of_lt_mul (by rw [Nat.mul_comm]; exact h))
      simp; omega
theorem enc_len (v : Int64) : 1 ≤ (enc v).length ∧ (enc v).length ≤ 10 := ⟨(encF_len _ _).1, enc_10 9 _ (Nat.lt_of_lt_of_le (zig_lt v) (by decide))⟩
-- ===== loops =====
theorem lp_l {S E : Type} {body : S → Option (S ⊕ E)} {n : Nat} {s s' : S} (h : body s = some (.inl s')) : lp body (n + 1) s = lp body n s' := by
  show (body s).bind _ = _
  rw [h]; rfl
theorem lp_r {S E : Type} {body : S → Option (S ⊕ E)} {n : Nat} {s : S} {e : E} (h : body s = some (.inr e)) : lp body (n + 1) s = some e := by
  show (body s).bind _ = _
  rw [h]; rfl
theorem lt_eq {α β : Type} (a : α) (k : α → Option β) : lt_ a k = k a := rfl
theorem bnd_eq {α β : Type} (a : α) (k : α → Option β) : (some a).bind k = k a := rfl
-- ===== tapes =====
def sb (b : Nat) : Int32 := vp_nar .byte (nI b).toInt8.toInt32
theorem sb_rd : ∀ b, b < 256 → sb b &&& 255 = nI b := by decide +kernel
theorem sb_id : ∀ b, b < 256 → vp_nar .byte (sb b).toInt8.toInt32 = sb b := by decide +kernel
theorem sb_7 : ∀ b, b < 256 → nI b &&& 127 = nI (b % 128) := by decide +kernel
theorem sb_inj : ∀ b, b < 256 → sb b = 1 → b = 1 := by decide +kernel
theorem sb_small : ∀ b, b < 128 → sb b = nI b := by decide +kernel
def bw (σ : Sg) (i p : Nat) (bs : List Nat) : Sg := (fun a b c => if a = 10 ∧ b = i ∧ p ≤ c ∧ c < p + bs.length then sb (bs.getD (c - p) 0) else σ.1 a b c, σ.2)
def sA (σ : Sg) (i p : Nat) : Sg := si σ 2 i 1 (nI p)
theorem gi_bw (σ : Sg) (i p : Nat) (bs : List Nat) (a b c : Nat) : gi (bw σ i p bs) a b c = if a = 10 ∧ b = i ∧ p ≤ c ∧ c < p + bs.length then sb (bs.getD (c - p) 0) else gi σ a b c := rfl
theorem gj_bw (σ : Sg) (i p : Nat) (bs : List Nat) (a b c : Nat) : gj (bw σ i p bs) a b c = gj σ a b c := rfl
theorem gr_bw (σ : Sg) (i p : Nat) (bs : List Nat) (a b c : Nat) : gr (bw σ i p bs) a b c = gr σ a b c := rfl
theorem nt_bw (σ : Sg) (i p : Nat) (bs : List Nat) : nt (bw σ i p bs) = nt σ := rfl
theorem gi_sA (σ : Sg) (i p a b c : Nat) : gi (sA σ i p) a b c = if a = 2 ∧ b = i ∧ c = 1 then nI p else gi σ a b c := rfl
theorem gj_sA (σ : Sg) (i p a b c : Nat) : gj (sA σ i p) a b c = gj σ a b c := rfl
theorem gr_sA (σ : Sg) (i p a b c : Nat) : gr (sA σ i p) a b c = gr σ a b c := rfl
theorem nt_sA (σ : Sg) (i p : Nat) : nt (sA σ i p) = nt σ := rfl
theorem sg_ext {σ τ : Sg} (h1 : ∀ a b c, gi σ a b c = gi τ a b c) (h2 : ∀ a b c, gj σ a b c = gj τ a b c) (h3 : ∀ a b c, gr σ a b c = gr τ a b c) (h4 : nt σ = nt τ) : σ = τ := by
  obtain ⟨a1, a2, a3, a4⟩ := σ
  obtain ⟨b1, b2, b3, b4⟩ := τ
  have e1 : a1 = b1 := funext fun a => funext fun b => funext fun c => h1 a b c
  have e2 : a2 = b2 := funext fun a => funext fun b => funext fun c => h2 a b c
  have e3 : a3 = b3 := funext fun a => funext fun b => funext fun c => h3 a b c
  have e4 : a4 = b4 := h4
  subst e1; subst e2; subst e3; subst e4
  rfl
theorem bw_nil (σ : Sg) (i p : Nat) : bw σ i p [] = σ := sg_ext (fun a b c => by rw [gi_bw, if_neg (by rw [List.length_nil]; omega)]) (fun _ _ _ => rfl) (fun _ _ _ => rfl) rfl
theorem bw_app (σ : Sg) (i p : Nat) (bs cs : List Nat) : bw (bw σ i p bs) i (p + bs.length) cs = bw σ i p (bs ++ cs) := by
  refine sg_ext (fun a b c => ?_) (fun _ _ _ => rfl) (fun _ _ _ => rfl) rfl
  rw [gi_bw, gi_bw, gi_bw, List.length_append]
  by_cases h1 : a = 10 ∧ b = i ∧ p + bs.length ≤ c ∧ c < p + bs.length + cs.length
  · rw [if_pos h1, if_pos (by omega)]
    congr 1
    rw [List.getD_eq_getElem?_getD, List.getD_eq_getElem?_getD, List.getElem?_append_right (by omega)]
    congr 2
    omega
  · rw [if_neg h1]
    by_cases h2 : a = 10 ∧ b = i ∧ p ≤ c ∧ c < p + bs.length
    · rw [if_pos h2, if_pos (by omega)]
      congr 1
      rw [List.getD_eq_getElem?_getD, List.getD_eq_getElem?_getD, List.getElem?_append_left (by omega)]
    · rw [if_neg h2, if_neg (by omega)]
theorem bw_sA (σ : Sg) (i p : Nat) (bs : List Nat) (j q : Nat) : bw (sA σ j q) i p bs = sA (bw σ i p bs) j q := by
  refine sg_ext (fun a b c => ?_) (fun _ _ _ => rfl) (fun _ _ _ => rfl) rfl
  rw [gi_bw, gi_sA, gi_sA, gi_bw]
  by_cases h : a = 2 ∧ b = j ∧ c = 1
  · rw [if_neg (by omega), if_pos h, if_pos h]
  · rw [if_neg h, if_neg h]
theorem sA_sA (σ : Sg) (i p q : Nat) : sA (sA σ i p) i q = sA σ i q := by
  refine sg_ext (fun a b c => ?_) (fun _ _ _ => rfl) (fun _ _ _ => rfl) rfl
  rw [gi_sA, gi_sA, gi_sA]
  split <;> rfl
/-- the tape writes on from where it is -/
def wt (σ : Sg) (i p : Nat) (bs : List Nat) : Sg := sA (bw σ i p bs) i (p + bs.length)
theorem wt_at (σ : Sg) (i p : Nat) (bs : List Nat) : gi (wt σ i p bs) 2 i 1 = nI (p + bs.length) := by
  unfold wt
  rw [gi_sA, if_pos ⟨rfl, rfl, rfl⟩]
theorem wt_wt (σ : Sg) (i p : Nat) (bs cs : List Nat) : wt (wt σ i p bs) i (p + bs.length) cs = wt σ i p (bs ++ cs) := by
  unfold wt
  rw [bw_sA, bw_app, sA_sA, List.length_append, Nat.add_assoc]
theorem alen_le (i : Nat) : alen 10 i ≤ 512 := by
  have e : alen 10 i = if i < 240 then 128 else 512 := rfl
  rw [e]
  split <;> decide
theorem one_eq {σ : Sg} {i p b : Nat} (ha : gi σ 2 i 1 = nI p) (hp : p < alen 10 i) (x : Int32) (hx : vp_nar .byte x.toInt8.toInt32 = sb b) : f_Tp_one i x σ = some (wt σ i p [b]) := by
  have h5 := alen_le i
  have e : f_Tp_one i x σ = some (si (si σ 10 i p (sb b)) 2 i 1 (nI (p + 1))) := by
    unfold f_Tp_one
    rw [ha, chk_pos (vp_in_nI hp (by omega)), nI_clamp (by omega), lt_eq, lt_eq, gi_si, if_neg (by omega), ha, nI_1, hx]
  rw [e]
  refine congrArg some (sg_ext (fun a c d => ?_) (fun a c d => by unfold wt; rw [gj_si, gj_si, gj_sA, gj_bw]) (fun a c d => by unfold wt; rw [gr_si, gr_si, gr_sA, gr_bw]) (by unfold wt; rw [nt_si, nt_si, nt_sA, nt_bw]))
  unfold wt
  rw [gi_si, gi_sA, gi_si, gi_bw, List.length_singleton]
  by_cases h : a = 2 ∧ c = i ∧ d = 1
  · rw [if_pos h, if_pos h]
  · rw [if_neg h, if_neg h]
    by_cases h2 : a = 10 ∧ c = i ∧ d = p
    · rw [if_pos h2, if_pos (by omega), show d - p = 0 by omega, List.getD_cons_zero]
    · rw [if_neg h2, if_neg (by omega)]
theorem one_n {σ : Sg} {i p b : Nat} (ha : gi σ 2 i 1 = nI p) (hp : p < alen 10 i) : f_Tp_one i (nI b) σ = some (wt σ i p [b]) := one_eq ha hp _ rfl
/-- what lies on a tape from a place on -/
def sp (σ : Sg) (i p : Nat) (bs : List Nat) : Prop := ∀ k, k < bs.length → gi σ 10 i (p + k) = sb (bs.getD k 0)
theorem sp_app {σ : Sg} {i p : Nat} {bs cs : List Nat} : sp σ i p (bs ++ cs) ↔ sp σ i p bs ∧ sp σ i (p + bs.length) cs := by
  constructor
  · intro h
    refine ⟨fun k hk => ?_, fun k hk => ?_⟩
    · rw [h k (by rw [List.length_append]; omega), List.getD_eq_getElem?_getD, List.getD_eq_getElem?_getD, List.getElem?_append_left hk]
    · have := h (bs.length + k) (by rw [List.length_append]; omega)
      rw [← Nat.add_assoc] at this
      rw [this, List.getD_eq_getElem?_getD, List.getD_eq_getElem?_getD, List.getElem?_append_right (by omega), show bs.length + k - bs.length = k by omega]
  · rintro ⟨h1, h2⟩ k hk
    rw [List.length_append] at hk
    by_cases hb : k < bs.length
    · rw [h1 k hb, List.getD_eq_getElem?_getD, List.getD_eq_getElem?_getD, List.getElem?_append_left hb]
    · have := h2 (k - bs.length) (by omega)
      rw [show p + bs.length + (k - bs.length) = p + k by omega] at this
      rw [this, List.getD_eq_getElem?_getD, List.getD_eq_getElem?_getD, List.getElem?_append_right (by omega)]
theorem sp_cons {σ : Sg} {i p b : Nat} {bs : List Nat} : sp σ i p (b :: bs) ↔ gi σ 10 i p = sb b ∧ sp σ i (p + 1) bs := by
  have := sp_app (σ := σ) (i := i) (p := p) (bs := [b]) (cs := bs)
  rw [List.singleton_append, List.length_singleton] at this
  rw [this]
  refine and_congr ?_ Iff.rfl
  constructor
  · intro h
    exact h 0 (by simp)
  · intro h k hk
    have hk0 : k = 0 := by simpa using hk
    subst hk0
    exact h
theorem sp_bw (σ : Sg) (i p : Nat) (bs : List Nat) : sp (bw σ i p bs) i p bs := fun k hk => by
  rw [gi_bw, if_pos (by omega), show p + k - p = k by omega]
theorem sp_sA {σ : Sg} {i p j q : Nat} {bs : List Nat} : sp (sA σ j q) i p bs ↔ sp σ i p bs := by
  unfold sp
  refine forall_congr' fun k => imp_congr Iff.rfl ?_
  rw [gi_sA, if_neg (by omega)]
theorem sp_wt (σ : Sg) (i p : Nat) (bs : List Nat) : sp (wt σ i p bs) i p bs := sp_sA.mpr (sp_bw σ i p bs)
theorem sp_bw_ne {σ : Sg} {i p j q : Nat} {bs cs : List Nat} (h : i ≠ j ∨ p + bs.length ≤ q ∨ q + cs.length ≤ p) (hs : sp σ i p bs) : sp (bw σ j q cs) i p bs := fun k hk => by
  rw [gi_bw, if_neg (by omega)]
  exact hs k hk
theorem sp_wt_ne {σ : Sg} {i p j q : Nat} {bs cs : List Nat} (h : i ≠ j ∨ p + bs.length ≤ q ∨ q + cs.length ≤ p) (hs : sp σ i p bs) : sp (wt σ j q cs) i p bs := sp_sA.mpr (sp_bw_ne h hs)
theorem take_eq {σ : Sg} {i p b : Nat} (ha : gi σ 2 i 1 = nI p) (hp : p < alen 10 i) (hb : b < 256) (hs : gi σ 10 i p = sb b) : f_Tp_take i σ = some (nI b, sA σ i (p + 1)) := by
  have h5 := alen_le i
  unfold f_Tp_take
  simp only [lt_eq]
  rw [gi_si, if_pos ⟨rfl, rfl, rfl⟩, ha, nI_1, nI_pred, chk_pos (vp_in_nI hp (by omega)), nI_clamp (by omega), gi_si, if_neg (by omega), hs, sb_rd b hb]
  rfl
theorem le127 {r : Nat} (h : r < 2 ^ 31) : nI r ≤ (127 : Int32) ↔ r ≤ 127 := nI_leI (b := 127) h (by decide)
theorem take_loop (i : Nat) : ∀ (f u k acc r : Nat) (σ : Sg) (p n : Nat), 127 < r → r < 256 → gi σ 2 i 1 = nI p → p + (encF f u).length ≤ alen 10 i → sp σ i p (encF f u) → u < 128 ^ (f + 1) → acc < 128 ^ k → acc + u * 128 ^ k < 2 ^ 64 → k ≤ 9 → f + k ≤ 10 → f + 2 ≤ n →
    lp (fun q => b_Tp_takeNumber_9 i q.1 q.2.1 q.2.2.1 q.2.2.2) n (lN acc, nI (7 * k), nI r, σ) = some (lN (acc + u * 128 ^ k), sA σ i (p + (encF f u).length)) := by
  intro f
  induction f with
  | zero =>
    intro u k acc r σ p n hr hr2 ha hp hs hu hacc htot hk hfk hn
    obtain ⟨n, rfl⟩ : ∃ n', n = n' + 2 := ⟨n - 2, by omega⟩
    have hu' : u < 128 := by simpa using hu
    have he : encF 0 u = [u] := by unfold encF; rw [Nat.mod_eq_of_lt hu']
    rw [he] at hp hs ⊢
    have hs0 : gi σ 10 i p = sb u := (sp_cons.mp hs).1
    have hpow : (128 : Nat) ^ k = 2 ^ (7 * k) := by rw [Nat.pow_mul]
    have step : b_Tp_takeNumber_9 i (lN acc) (nI (7 * k)) (nI r) σ = some (.inl (lN (acc + u * 128 ^ k), nI (7 * (k + 1)), nI u, sA σ i (p + 1))) := by
      unfold b_Tp_takeNumber_9
      rw [if_neg (fun z => absurd ((le127 (by omega)).mp z) (by omega)), take_eq ha (by rw [List.length_singleton] at hp; exact hp) (by omega) hs0, bn2_eq]
      simp only [lt_eq]
      rw [sb_7 u (by omega), Nat.mod_eq_of_lt hu', nI_l (by omega), wb_shl u (by omega), hpow, g_or' rfl (by rw [← hpow]; exact hacc) (by rw [← hpow]; exact htot)]
      congr 4
      show nI (7 * k) + nI 7 = _
      rw [nI_add]; rfl
    rw [lp_l step, lp_r (e := (lN (acc + u * 128 ^ k), sA σ i (p + 1)))]
    · rfl
    · show b_Tp_takeNumber_9 i _ _ _ _ = _
      unfold b_Tp_takeNumber_9
      rw [if_pos ((le127 (by omega)).mpr (by omega))]
  | succ f ih =>
    intro u k acc r σ p n hr hr2 ha hp hs hu hacc htot hk hfk hn
    obtain ⟨n, rfl⟩ : ∃ n', n = n' + 2 := ⟨n - 2, by omega⟩
    have hpow : (128 : Nat) ^ k = 2 ^ (7 * k) := by rw [Nat.pow_mul]
    by_cases hu' : u < 128
    · have he : encF (f + 1) u = [u] := by unfold encF; rw [if_pos hu']
      rw [he] at hp hs ⊢
      have hs0 : gi σ 10 i p = sb u := (sp_cons.mp hs).1
      have step : b_Tp_takeNumber_9 i (lN acc) (nI (7 * k)) (nI r) σ = some (.inl (lN (acc + u * 128 ^ k), nI (7 * (k + 1)), nI u, sA σ i (p + 1))) := by
        unfold b_Tp_takeNumber_9
        rw [if_neg (fun z => absurd ((le127 (by omega)).mp z) (by omega)), take_eq ha (by rw [List.length_singleton] at hp; exact hp) (by omega) hs0, bn2_eq]
        simp only [lt_eq]
        rw [sb_7 u (by omega), Nat.mod_eq_of_lt hu', nI_l (by omega), wb_shl u (by omega), hpow, g_or' rfl (by rw [← hpow]; exact hacc) (by rw [← hpow]; exact htot)]
        congr 4
        show nI (7 * k) + nI 7 = _
        rw [nI_add]; rfl
      rw [lp_l step, lp_r (e := (lN (acc + u * 128 ^ k), sA σ i (p + 1)))]
      · rfl
      · show b_Tp_takeNumber_9 i _ _ _ _ = _
        unfold b_Tp_takeNumber_9
        rw [if_pos ((le127 (by omega)).mpr (by omega))]
    · have he : encF (f + 1) u = (u % 128 + 128) :: encF f (u / 128) := by
        show (if u < 128 then [u] else (u % 128 + 128) :: encF f (u / 128)) = _
        rw [if_neg hu']
      rw [he] at hp hs ⊢
      obtain ⟨hs0, hs1⟩ := sp_cons.mp hs
      rw [List.length_cons] at hp
      have hmod : u % 128 < 128 := Nat.mod_lt _ (by decide)
      have hdm := Nat.div_add_mod u 128
      have hk9 : k ≤ 8 := by
        rcases Nat.lt_or_ge k 9 with h | h
        · omega
        · exfalso
          have h9 : k = 9 := by omega
          subst h9
          have : 128 * 128 ^ 9 ≤ u * 128 ^ 9 := Nat.mul_le_mul_right _ (by omega)
          have e1 : (128 : Nat) * 128 ^ 9 = 2 ^ 70 := by decide
          have e2 : (2 : Nat) ^ 64 < 2 ^ 70 := by decide
          omega
      have hsum : acc + (u % 128) * 128 ^ k + (u / 128) * 128 ^ (k + 1) = acc + u * 128 ^ k := by
        rw [Nat.pow_succ]
        have : u * 128 ^ k = (128 * (u / 128) + u % 128) * 128 ^ k := by rw [hdm]
        rw [this, Nat.add_mul]
        have e3 : u / 128 * (128 ^ k * 128) = 128 * (u / 128) * 128 ^ k := by
          rw [Nat.mul_comm (128 ^ k) 128, ← Nat.mul_assoc, Nat.mul_comm (u / 128) 128]
        rw [e3]; omega
      have hacc2 : acc + (u % 128) * 128 ^ k < 128 ^ (k + 1) := by
        rw [Nat.pow_succ]
        have : (u % 128) * 128 ^ k ≤ 127 * 128 ^ k := Nat.mul_le_mul_right _ (by omega)
        omega
      have step : b_Tp_takeNumber_9 i (lN acc) (nI (7 * k)) (nI r) σ = some (.inl (lN (acc + (u % 128) * 128 ^ k), nI (7 * (k + 1)), nI (u % 128 + 128), sA σ i (p + 1))) := by
        unfold b_Tp_takeNumber_9
        rw [if_neg (fun z => absurd ((le127 (by omega)).mp z) (by omega)), take_eq ha (by omega) (by omega) hs0, bn2_eq]
        simp only [lt_eq]
        rw [sb_7 _ (by omega), show (u % 128 + 128) % 128 = u % 128 by omega, nI_l (by omega), wb_shl _ (by omega), hpow, g_or' rfl (by rw [← hpow]; exact hacc) (by rw [← hpow]; omega)]
        congr 4
        show nI (7 * k) + nI 7 = _
        rw [nI_add]; rfl
      rw [lp_l step, ih (u / 128) (k + 1) _ (u % 128 + 128) (sA σ i (p + 1)) (p + 1) (n + 1) (by omega) (by omega) (by rw [gi_sA, if_pos ⟨rfl, rfl, rfl⟩]) (by omega) (sp_sA.mpr hs1) (by rw [Nat.pow_succ] at hu; exact Nat.div_lt_of_lt_mul (by rw [Nat.mul_comm]; exact hu)) hacc2 (by rw [hsum]; exact htot) (by omega) (by omega) (by omega), hsum, sA_sA, List.length_cons, show p + 1 + (encF f (u / 128)).length = p + ((encF f (u / 128)).length + 1) by omega]
theorem takeNumber_eq {σ : Sg} {i p : Nat} {v : Int64} (ha : gi σ 2 i 1 = nI p) (hp : p + (enc v).length ≤ alen 10 i) (hs : sp σ i p (enc v)) : f_Tp_takeNumber i σ = some (v, sA σ i (p + (enc v).length)) := by
  have hz := zig_lt v
  unfold f_Tp_takeNumber l_Tp_takeNumber_9
  have := take_loop i 10 (zig v) 0 0 128 σ p FU (by omega) (by omega) ha hp hs (Nat.lt_of_lt_of_le hz (by decide)) (by decide) (by omega) (by omega) (by omega) (by decide)
  rw [show lN 0 = (0 : Int64) from rfl, show nI (7 * 0) = (0 : Int32) from rfl, show nI 128 = (128 : Int32) from rfl] at this
  rw [this, bn2_eq]
  have e1 : lN (0 + zig v * 128 ^ 0) = zx v := by rw [zx_lN]; congr 1; omega
  rw [e1, zz_bit]
  rfl
theorem lN_0 {n : Nat} (h : n < 2 ^ 64) : lN n = 0 ↔ n = 0 := by
  constructor
  · intro z
    have := congrArg (fun q : Int64 => q.toBitVec.toNat) z
    simp only [wb_tn h] at this
    exact this
  · rintro rfl; rfl
theorem or128 : ∀ b, b < 128 → nI b ||| 128 = nI (b + 128) := by decide +kernel
theorem number_loop (i : Nat) : ∀ (f u : Nat) (σ : Sg) (p n : Nat), u < 128 ^ (f + 1) → u < 2 ^ 64 → gi σ 2 i 1 = nI p → p + (encF (f + 1) u).length ≤ alen 10 i → f + 1 ≤ n →
    ∃ u' σ1, lp (fun q => b_Tp_number_9 i q.1 q.2) n (lN u, σ) = some (lN u', σ1) ∧ f_Tp_one i (lN u').toInt32 σ1 = some (wt σ i p (encF (f + 1) u)) := by
  have hb : ∀ u σ, u < 2 ^ 64 → b_Tp_number_9 i (lN u) σ = if u < 128 then some (.inr (lN u, σ)) else (f_Tp_one i (nI (u % 128 + 128)) σ).bind (fun σ7 => some (.inl (lN (u / 128), σ7))) := by
    intro u σ hu
    unfold b_Tp_number_9
    have e1 : ((lN u).toUInt64 >>> ((7 : Int32).toInt64.toUInt64 &&& Int64.toUInt64 63)).toInt64 = lN (u / 128) := wb_shr (k := 7) hu (by decide)
    have e2 : (lN u &&& 127).toInt32 ||| 128 = nI (u % 128 + 128) := by
      have e3 : lN u &&& 127 = lN (u % 128) := wb_mask (k := 7) hu (by decide)
      rw [e3, lN_i, or128 _ (Nat.mod_lt _ (by decide))]
    have hd : u / 128 < 2 ^ 64 := Nat.lt_of_le_of_lt (Nat.div_le_self _ _) hu
    rw [e1, e2]
    simp only [lt_eq]
    by_cases h : u < 128
    · rw [if_pos h, if_pos ((lN_0 hd).mpr (by omega))]
    · rw [if_neg h, if_neg (fun z => h (by have := (lN_0 hd).mp z; omega))]
  intro f
  induction f with
  | zero =>
    intro u σ p n hu hu64 ha hp hn
    obtain ⟨n, rfl⟩ : ∃ n', n = n' + 1 := ⟨n - 1, by omega⟩
    have hu' : u < 128 := by simpa using hu
    have he : encF 1 u = [u] := by unfold encF; rw [if_pos hu']
    rw [he] at hp ⊢
    refine ⟨u, σ, lp_r (by show b_Tp_number_9 i (lN u) σ = _; rw [hb u σ hu64, if_pos hu']), ?_⟩
    rw [lN_i]
    exact one_n ha (by rw [List.length_singleton] at hp; exact hp)
  | succ f ih =>
    intro u σ p n hu hu64 ha hp hn
    obtain ⟨n, rfl⟩ : ∃ n', n = n' + 1 := ⟨n - 1, by omega⟩
    by_cases hu' : u < 128
    · have he : encF (f + 1 + 1) u = [u] := by unfold encF; rw [if_pos hu']
      rw [he] at hp ⊢
      refine ⟨u, σ, lp_r (by show b_Tp_number_9 i (lN u) σ = _; rw [hb u σ hu64, if_pos hu']), ?_⟩
      rw [lN_i]
      exact one_n ha (by rw [List.length_singleton] at hp; exact hp)
    · have he : encF (f + 1 + 1) u = (u % 128 + 128) :: encF (f + 1) (u / 128) := by
        show (if u < 128 then [u] else (u % 128 + 128) :: encF (f + 1) (u / 128)) = _
        rw [if_neg hu']
      rw [he] at hp ⊢
      rw [List.length_cons] at hp
      obtain ⟨u', σ1, h1, h2⟩ := ih (u / 128) (wt σ i p [u % 128 + 128]) (p + 1) n (by rw [Nat.pow_succ] at hu; exact Nat.div_lt_of_lt_mul (by rw [Nat.mul_comm]; exact hu)) (by omega) (wt_at _ _ _ _) (by omega) (by omega)
      refine ⟨u', σ1, ?_, ?_⟩
      · rw [lp_l (s' := (lN (u / 128), wt σ i p [u % 128 + 128]))]
        · exact h1
        · show b_Tp_number_9 i (lN u) σ = _
          rw [hb u σ hu64, if_neg hu', one_n ha (by omega)]
          rfl
      · rw [h2]
        have := wt_wt σ i p [u % 128 + 128] (encF (f + 1) (u / 128))
        rw [List.length_singleton, List.singleton_append] at this
        rw [this]
theorem number_eq {σ : Sg} {i p : Nat} {v : Int64} (ha : gi σ 2 i 1 = nI p) (hp : p + (enc v).length ≤ alen 10 i) : f_Tp_number i v σ = some (wt σ i p (enc v)) := by
  obtain ⟨u', σ1, h1, h2⟩ := number_loop i 9 (zig v) σ p FU (Nat.lt_of_lt_of_le (zig_lt v) (by decide)) (zig_lt v) ha hp (by decide)
  unfold f_Tp_number l_Tp_number_9
  rw [lt_eq]
  have e : (v <<< ((1 : Int32).toInt64 &&& 63)) ^^^ (v >>> ((63 : Int32).toInt64 &&& 63)) = lN (zig v) := zx_lN v
  rw [e, h1, bn2_eq, h2]
  rfl
theorem copy_loop {i0 i1 : Nat} (hne : i0 ≠ i1) : ∀ (bs : List Nat) (a p : Nat) (σ : Sg) (n : Nat), gi σ 2 i0 1 = nI p → p + bs.length ≤ alen 10 i0 → a + bs.length ≤ alen 10 i1 → sp σ i1 a bs → (∀ b ∈ bs, b < 256) → bs.length + 1 ≤ n →
    lp (fun q => b_Tp_copy_3 i0 i1 (nI (a + bs.length)) q.1 q.2) n (nI a, σ) = some (wt σ i0 p bs) := by
  have h0 := alen_le i0
  have h1 := alen_le i1
  intro bs
  induction bs with
  | nil =>
    intro a p σ n ha hp hq hs hb hn
    obtain ⟨n, rfl⟩ : ∃ n', n = n' + 1 := ⟨n - 1, by omega⟩
    rw [lp_r (e := σ)]
    · unfold wt
      rw [bw_nil]
      congr 1
      refine sg_ext (fun a b c => ?_) (fun _ _ _ => rfl) (fun _ _ _ => rfl) rfl
      rw [gi_sA]
      split
      · rename_i h; rw [h.1, h.2.1, h.2.2, ha]; rfl
      · rfl
    · show b_Tp_copy_3 i0 i1 _ (nI a) σ = _
      unfold b_Tp_copy_3
      rw [List.length_nil, Nat.add_zero, if_pos (nI_le (Nat.le_refl a) (by rw [List.length_nil] at hq; omega))]
  | cons b bs ih =>
    intro a p σ n ha hp hq hs hb hn
    rw [List.length_cons] at hp hq hn
    obtain ⟨n, rfl⟩ : ∃ n', n = n' + 1 := ⟨n - 1, by omega⟩
    obtain ⟨hs0, hs1⟩ := sp_cons.mp hs
    have hb0 : b < 256 := hb b List.mem_cons_self
    have step : b_Tp_copy_3 i0 i1 (nI (a + (b :: bs).length)) (nI a) σ = some (.inl (nI (a + 1), wt σ i0 p [b])) := by
      unfold b_Tp_copy_3
      rw [List.length_cons, if_neg (nI_ge (by omega) (by omega)), chk_pos (vp_in_nI (by omega) (by omega)), nI_clamp (by omega), hs0, one_eq ha (by omega) (sb b) (sb_id b hb0), bnd_eq, lt_eq, nI_1]
    rw [lp_l (s' := (nI (a + 1), wt σ i0 p [b])) step]
    have k := ih (a + 1) (p + 1) (wt σ i0 p [b]) n (wt_at _ _ _ _) (by omega) (by omega) (sp_wt_ne (Or.inl (fun z => hne z.symm)) hs1) (fun c hc => hb c (List.mem_cons_of_mem _ hc)) (by omega)
    rw [show a + 1 + bs.length = a + (b :: bs).length by rw [List.length_cons]; omega] at k
    rw [k]
    have := wt_wt σ i0 p [b] bs
    rw [List.length_singleton, List.singleton_append] at this
    rw [this]
theorem copy_eq {σ : Sg} {i0 i1 a p e : Nat} {bs : List Nat} (hne : i0 ≠ i1) (ha : gi σ 2 i0 1 = nI p) (hp : p + bs.length ≤ alen 10 i0) (hq : a + bs.length ≤ alen 10 i1) (hs : sp σ i1 a bs) (hb : ∀ b ∈ bs, b < 256) (he : e = a + bs.length) : f_Tp_copy i0 i1 (nI a) (nI e) σ = some (wt σ i0 p bs) := by
  have h0 := alen_le i0
  subst he
  unfold f_Tp_copy l_Tp_copy_3
  rw [copy_loop hne bs a p σ FU ha hp hq hs hb (by unfold FU; omega)]
  rfl
