/-! the plain law: records -/
def ob (o : Option Int64) : Int32 := if o.isSome then 1 else 0
theorem ob_n : ob none = 0 := rfl
theorem ob_s (v : Int64) : ob (some v) = 1 := rfl
def sV (σ : Sg) (i : Nat) (o : Option Int64) : Sg := sj (si σ 5 i 0 (ob o)) 5 i 1 (o.getD 0)
def sVs (σ : Sg) (i : Nat) : List (Option Int64) → Sg
  | [] => σ
  | o :: t => sVs (sV σ i o) (i + 1) t
theorem sV_sA (σ : Sg) (i p j : Nat) (o : Option Int64) : sV (sA σ j p) i o = sA (sV σ i o) j p := by
  refine sg_ext (fun a b c => ?_) (fun a b c => rfl) (fun _ _ _ => rfl) rfl
  show gi (si (sA σ j p) 5 i 0 _) a b c = gi (si (si σ 5 i 0 _) 2 j 1 _) a b c
  rw [gi_si, gi_sA, gi_si, gi_si]
  by_cases h : a = 5 ∧ b = i ∧ c = 0
  · rw [if_pos h, if_neg (by omega), if_pos h]
  · rw [if_neg h, if_neg h]
theorem sVs_sA : ∀ (l : List (Option Int64)) (σ : Sg) (i p j : Nat), sVs (sA σ j p) i l = sA (sVs σ i l) j p := by
  intro l
  induction l with
  | nil => intro σ i p j; rfl
  | cons o t ih =>
    intro σ i p j
    rw [sVs, sVs, sV_sA, ih]
theorem to_eq (σ : Sg) (i : Nat) (v : Int64) : f_Vl_to i v σ = some (sV σ i (some v)) := rfl
theorem none_eq (σ : Sg) (i : Nat) : f_Vl_none i σ = some (sV σ i none) := rfl
theorem gi_sV (σ : Sg) (i : Nat) (o : Option Int64) (a b c : Nat) : gi (sV σ i o) a b c = if a = 5 ∧ b = i ∧ c = 0 then (ob o) else gi σ a b c := rfl
theorem gj_sV (σ : Sg) (i : Nat) (o : Option Int64) (a b c : Nat) : gj (sV σ i o) a b c = if a = 5 ∧ b = i ∧ c = 1 then o.getD 0 else gj σ a b c := rfl
theorem gr_sV (σ : Sg) (i : Nat) (o : Option Int64) (a b c : Nat) : gr (sV σ i o) a b c = gr σ a b c := rfl
theorem nt_sV (σ : Sg) (i : Nat) (o : Option Int64) : nt (sV σ i o) = nt σ := rfl
theorem sp_sV {σ : Sg} {i j p : Nat} {o : Option Int64} {bs : List Nat} : sp (sV σ j o) i p bs ↔ sp σ i p bs := by
  unfold sp
  refine forall_congr' fun k => imp_congr Iff.rfl ?_
  rw [gi_sV, if_neg (by omega)]
theorem gi_sVs : ∀ (l : List (Option Int64)) (σ : Sg) (i a b c : Nat), gi (sVs σ i l) a b c = if a = 5 ∧ i ≤ b ∧ b < i + l.length ∧ c = 0 then (ob (l.getD (b - i) none)) else gi σ a b c := by
  intro l
  induction l with
  | nil =>
    intro σ i a b c
    rw [sVs, if_neg (by rw [List.length_nil]; omega)]
  | cons o t ih =>
    intro σ i a b c
    rw [sVs, ih, gi_sV, List.length_cons]
    by_cases h1 : a = 5 ∧ i + 1 ≤ b ∧ b < i + 1 + t.length ∧ c = 0
    · rw [if_pos h1, if_pos (by omega)]
      obtain ⟨d, hd⟩ : ∃ d, b - i = d + 1 := ⟨b - i - 1, by omega⟩
      rw [hd, show b - (i + 1) = d by omega, List.getD_cons_succ]
    · rw [if_neg h1]
      by_cases h2 : a = 5 ∧ b = i ∧ c = 0
      · rw [if_pos h2, if_pos (by omega), show b - i = 0 by omega, List.getD_cons_zero]
      · rw [if_neg h2, if_neg (by omega)]
theorem gj_sVs : ∀ (l : List (Option Int64)) (σ : Sg) (i a b c : Nat), gj (sVs σ i l) a b c = if a = 5 ∧ i ≤ b ∧ b < i + l.length ∧ c = 1 then (l.getD (b - i) none).getD 0 else gj σ a b c := by
  intro l
  induction l with
  | nil =>
    intro σ i a b c
    rw [sVs, if_neg (by rw [List.length_nil]; omega)]
  | cons o t ih =>
    intro σ i a b c
    rw [sVs, ih, gj_sV, List.length_cons]
    by_cases h1 : a = 5 ∧ i + 1 ≤ b ∧ b < i + 1 + t.length ∧ c = 1
    · rw [if_pos h1, if_pos (by omega)]
      obtain ⟨d, hd⟩ : ∃ d, b - i = d + 1 := ⟨b - i - 1, by omega⟩
      rw [hd, show b - (i + 1) = d by omega, List.getD_cons_succ]
    · rw [if_neg h1]
      by_cases h2 : a = 5 ∧ b = i ∧ c = 1
      · rw [if_pos h2, if_pos (by omega), show b - i = 0 by omega, List.getD_cons_zero]
      · rw [if_neg h2, if_neg (by omega)]
theorem gr_sVs : ∀ (l : List (Option Int64)) (σ : Sg) (i a b c : Nat), gr (sVs σ i l) a b c = gr σ a b c := by
  intro l
  induction l with
  | nil => intro σ i a b c; rfl
  | cons o t ih => intro σ i a b c; rw [sVs, ih]; rfl
theorem nt_sVs : ∀ (l : List (Option Int64)) (σ : Sg) (i : Nat), nt (sVs σ i l) = nt σ := by
  intro l
  induction l with
  | nil => intro σ i; rfl
  | cons o t ih => intro σ i; rw [sVs, ih]; rfl
theorem le_4 : ∀ k, k < 4 → ¬ (4 : Int32) ≤ nI k := by decide +kernel
theorem read_loop (r i m n : Nat) (hm : m < 16) (hn : n ≤ 4) : ∀ (L : List (Option Int64)) (k : Nat) (σ : Sg) (p f : Nat), k + L.length = 4 → m / 2 ^ k = mk L → (∀ j, n ≤ k + j → L.getD j none = none) → gi σ 2 i 1 = nI p → p + (encO L).length ≤ alen 10 i → sp σ i p (encO L) → L.length + 1 ≤ f →
    lp (fun q => b_Rc_read_8 r i (nI n) (nI m) q.1 q.2) f (nI k, σ) = some (sA (sVs σ (4 * r + k) L) i (p + (encO L).length)) := by
  intro L
  induction L with
  | nil =>
    intro k σ p f hk hmk hz ha hp hs hf
    obtain ⟨f, rfl⟩ : ∃ f', f = f' + 1 := ⟨f - 1, by omega⟩
    rw [List.length_nil] at hk
    rw [lp_r (e := σ)]
    · rw [encO, List.length_nil, Nat.add_zero, sVs, sA_id ha]
    · show b_Rc_read_8 r i (nI n) (nI m) (nI k) σ = _
      unfold b_Rc_read_8
      rw [show k = 4 by omega, if_pos (by decide)]
  | cons o L ih =>
    intro k σ p f hk hmk hz ha hp hs hf
    rw [List.length_cons] at hk hf
    obtain ⟨f, rfl⟩ : ∃ f', f = f' + 1 := ⟨f - 1, by omega⟩
    have hdiv : m / 2 ^ (k + 1) = m / 2 ^ k / 2 := by rw [Nat.pow_succ, Nat.div_div_eq_div_mul]
    have hin : vp_in (nI k) 4 := vp_in_nI (by omega) (by decide)
    have hz' : ∀ j, n ≤ k + 1 + j → L.getD j none = none := fun j hj => by
      have := hz (j + 1) (by omega)
      rw [List.getD_cons_succ] at this
      exact this
    cases o with
    | none =>
      simp only [mk] at hmk
      have step : b_Rc_read_8 r i (nI n) (nI m) (nI k) σ = some (.inl (nI (k + 1), sV σ (4 * r + k) none)) := by
        unfold b_Rc_read_8
        rw [if_neg (le_4 k (by omega)), bit_eq m hm k (by omega), hmk, show 2 * mk L % 2 = 0 by omega, if_neg (show ¬ nI 0 = (1 : Int32) by decide), chk_pos hin, nI_clamp (by omega), none_eq, bnd_eq, ite_self, bnd_eq, lt_eq, nI_1]
      rw [lp_l (s' := (nI (k + 1), sV σ (4 * r + k) none)) step, ih (k + 1) (sV σ (4 * r + k) none) p f (by omega) (by rw [hdiv, hmk]; omega) hz' (by rw [gi_sV, if_neg (by omega)]; exact ha) hp (sp_sV.mpr hs) (by omega)]
      rfl
    | some v =>
      simp only [mk] at hmk
      simp only [encO, List.length_append] at hp ⊢
      obtain ⟨hs0, hs1⟩ := sp_app.mp hs
      have hkn : k < n := by
        rcases Nat.lt_or_ge k n with h | h
        · exact h
        · have := hz 0 (by omega)
          rw [List.getD_cons_zero] at this
          cases this
      have step : b_Rc_read_8 r i (nI n) (nI m) (nI k) σ = some (.inl (nI (k + 1), sV (sA σ i (p + (enc v).length)) (4 * r + k) (some v))) := by
        unfold b_Rc_read_8
        rw [if_neg (le_4 k (by omega)), if_neg (nI_ge hkn (by omega)), bit_eq m hm k (by omega), hmk, show (2 * mk L + 1) % 2 = 1 by omega, if_pos (show nI 1 = (1 : Int32) from rfl), chk_pos hin, nI_clamp (by omega), takeNumber_eq ha (by omega) hs0, bn2_eq, to_eq, bnd_eq, bnd_eq, lt_eq, nI_1]
      rw [lp_l (s' := (nI (k + 1), sV (sA σ i (p + (enc v).length)) (4 * r + k) (some v))) step, ih (k + 1) (sV (sA σ i (p + (enc v).length)) (4 * r + k) (some v)) (p + (enc v).length) f (by omega) (by rw [hdiv, hmk]; omega) hz' (by rw [gi_sV, if_neg (by omega)]; exact at_sA _ _ _) (by omega) (sp_sV.mpr (sp_sA.mpr hs1)) (by omega), sV_sA, sVs_sA, sA_sA, Nat.add_assoc]
      rfl
/-- as many as a record has -/
def pad (vs : List (Option Int64)) : List (Option Int64) := vs ++ List.replicate (4 - vs.length) none
theorem encO_app (a b : List (Option Int64)) : encO (a ++ b) = encO a ++ encO b := by
  induction a with
  | nil => rfl
  | cons o t ih => cases o <;> simp [encO, ih]
theorem encO_none : ∀ k, encO (List.replicate k none) = [] := by
  intro k
  induction k with
  | zero => rfl
  | succ k ih => rw [List.replicate_succ]; exact ih
theorem mk_none : ∀ k, mk (List.replicate k none) = 0 := by
  intro k
  induction k with
  | zero => rfl
  | succ k ih => rw [List.replicate_succ, mk, ih]
theorem mk_app (a b : List (Option Int64)) : mk (a ++ b) = mk a + 2 ^ a.length * mk b := by
  induction a with
  | nil => simp [mk]
  | cons o t ih =>
    rw [List.cons_append, List.length_cons, Nat.pow_succ]
    cases o <;> simp only [mk] <;> rw [ih, Nat.mul_add] <;> rw [show 2 * (2 ^ t.length * mk b) = 2 ^ t.length * 2 * mk b by rw [Nat.mul_comm (2 ^ t.length) 2, Nat.mul_assoc]] <;> omega
theorem pad_len {vs : List (Option Int64)} (h : vs.length ≤ 4) : (pad vs).length = 4 := by
  unfold pad
  rw [List.length_append, List.length_replicate]
  omega
theorem read_rec {σ : Sg} {r i p : Nat} {vs : List (Option Int64)} (h4 : vs.length ≤ 4) (ha : gi σ 2 i 1 = nI p) (hp : p + (mk vs :: encO vs).length ≤ alen 10 i) (hs : sp σ i p (mk vs :: encO vs)) : ∃ q, f_Rc_read r i (nI vs.length) σ = some (sA (sVs σ (4 * r) (pad vs)) i q) := by
  obtain ⟨hs0, hs1⟩ := sp_cons.mp hs
  rw [List.length_cons] at hp
  have hm : mk vs < 16 := by
    have := mk_lt vs
    have h2 : 2 ^ vs.length ≤ 2 ^ 4 := Nat.pow_le_pow_right (by decide) h4
    omega
  have e1 : encO (pad vs) = encO vs := by unfold pad; rw [encO_app, encO_none, List.append_nil]
  have e2 : mk (pad vs) = mk vs := by unfold pad; rw [mk_app, mk_none]; simp
  refine ⟨p + 1 + (encO (pad vs)).length, ?_⟩
  unfold f_Rc_read l_Rc_read_8
  rw [take_eq (b := mk vs) ha (by omega) (by omega) hs0, bn2_eq]
  have := read_loop r i (mk vs) vs.length hm h4 (pad vs) 0 (sA σ i (p + 1)) (p + 1) FU (by rw [pad_len h4]) (by rw [e2]; simp) (fun j hj => by
    unfold pad
    rw [List.getD_eq_getElem?_getD, List.getElem?_append_right (by omega)]
    by_cases h : j - vs.length < 4 - vs.length
    · rw [List.getElem?_replicate, if_pos h]; rfl
    · rw [List.getElem?_replicate, if_neg h]; rfl) (at_sA _ _ _) (by rw [e1]; omega) (sp_sA.mpr (by rw [e1]; exact hs1)) (by rw [pad_len h4]; decide)
  rw [show nI 0 = (0 : Int32) from rfl] at this
  rw [this, bnd_eq, sVs_sA, sA_sA, Nat.add_zero (4 * r)]
/-- a record holds these values -/
def hV (σ : Sg) (r : Nat) (vs : List (Option Int64)) : Prop := ∀ k, k < vs.length → gi σ 5 (4 * r + k) 0 = ob (vs.getD k none) ∧ gj σ 5 (4 * r + k) 1 = (vs.getD k none).getD 0
theorem or_k : ∀ k, k < 4 → ∀ a, a < 16 → a < 2 ^ k → nI a ||| ((1 : Int32) <<< (nI k &&& 31)) = nI (a + 2 ^ k) := by decide +kernel
theorem mask_loop (r n : Nat) (vs : List (Option Int64)) (hl : vs.length = n) (hn : n ≤ 4) : ∀ (d k : Nat) (σ : Sg) (f : Nat), k + d = n → hV σ r vs → d + 1 ≤ f →
    lp (fun q => b_Rc_write_5 r (nI n) q.1 q.2.1 q.2.2) f (nI (mk (vs.take k)), nI k, σ) = some (nI (mk vs), σ) := by
  intro d
  induction d with
  | zero =>
    intro k σ f hk hv hf
    obtain ⟨f, rfl⟩ : ∃ f', f = f' + 1 := ⟨f - 1, by omega⟩
    rw [lp_r (e := (nI (mk (vs.take k)), σ))]
    · rw [List.take_of_length_le (by omega)]
    · show b_Rc_write_5 r (nI n) _ (nI k) σ = _
      unfold b_Rc_write_5
      rw [if_pos (nI_le (by omega) (by omega))]
  | succ d ih =>
    intro k σ f hk hv hf
    obtain ⟨f, rfl⟩ : ∃ f', f = f' + 1 := ⟨f - 1, by omega⟩
    obtain ⟨v1, v2⟩ := hv k (by omega)
    have htk : vs.take (k + 1) = vs.take k ++ [vs.getD k none] := by
      rw [List.take_add_one, List.getD_eq_getElem?_getD, List.getElem?_eq_getElem (by omega)]
      rfl
    have hlk : (vs.take k).length = k := by rw [List.length_take]; omega
    have hmlt := mk_lt (vs.take k)
    rw [hlk] at hmlt
    have h16 : 2 ^ k ≤ 2 ^ 4 := Nat.pow_le_pow_right (by decide) (by omega)
    have hmk : mk (vs.take (k + 1)) = mk (vs.take k) + 2 ^ k * mk [vs.getD k none] := by rw [htk, mk_app, hlk]
    have step : b_Rc_write_5 r (nI n) (nI (mk (vs.take k))) (nI k) σ = some (.inl (nI (mk (vs.take (k + 1))), nI (k + 1), σ)) := by
      unfold b_Rc_write_5
      rw [if_neg (nI_ge (by omega) (by omega)), chk_pos (vp_in_nI (by omega) (by decide)), nI_clamp (by omega), lt_eq, lt_eq, lt_eq, v1, nI_1, hmk]
      cases hg : vs.getD k none with
      | none =>
        rw [ob_n, if_pos rfl]
        simp [mk]
      | some x =>
        rw [ob_s, if_neg (by decide), or_k k (by omega) _ (by omega) hmlt]
        simp [mk]
    rw [lp_l (s' := (nI (mk (vs.take (k + 1))), nI (k + 1), σ)) step]
    exact ih (k + 1) σ f (by omega) hv (by omega)
theorem hV_wt {σ : Sg} {r i p : Nat} {vs : List (Option Int64)} {bs : List Nat} (h : hV σ r vs) : hV (wt σ i p bs) r vs := fun k hk => by
  obtain ⟨h1, h2⟩ := h k hk
  refine ⟨?_, h2⟩
  unfold wt
  rw [gi_sA10 _ _ _ _ _ _ (by decide), gi_bw, if_neg (by omega)]
  exact h1
theorem vals_loop (r i n : Nat) (vs : List (Option Int64)) (hl : vs.length = n) (hn : n ≤ 4) : ∀ (rest : List (Option Int64)) (k : Nat) (σ : Sg) (p f : Nat), vs.drop k = rest → k ≤ n → hV σ r vs → gi σ 2 i 1 = nI p → p + (encO rest).length ≤ alen 10 i → rest.length + 1 ≤ f →
    lp (fun q => b_Rc_write_49 r i (nI n) q.1 q.2) f (nI k, σ) = some (wt σ i p (encO rest)) := by
  intro rest
  induction rest with
  | nil =>
    intro k σ p f hd hk hv ha hp hf
    obtain ⟨f, rfl⟩ : ∃ f', f = f' + 1 := ⟨f - 1, by omega⟩
    have hkn : n ≤ k := by
      have := congrArg List.length hd
      rw [List.length_drop, List.length_nil] at this
      omega
    rw [lp_r (e := σ)]
    · unfold wt
      rw [encO, bw_nil, List.length_nil, Nat.add_zero, sA_id ha]
    · show b_Rc_write_49 r i (nI n) (nI k) σ = _
      unfold b_Rc_write_49
      rw [if_pos (nI_le hkn (by omega))]
  | cons o rest ih =>
    intro k σ p f hd hk hv ha hp hf
    rw [List.length_cons] at hf
    obtain ⟨f, rfl⟩ : ∃ f', f = f' + 1 := ⟨f - 1, by omega⟩
    have hlen := congrArg List.length hd
    rw [List.length_drop, List.length_cons] at hlen
    have hkl : k < vs.length := by omega
    have hd2 : vs.drop (k + 1) = rest := by
      have : vs.drop k = vs[k] :: vs.drop (k + 1) := List.drop_eq_getElem_cons hkl
      rw [this] at hd
      exact (List.cons.inj hd).2
    have hg : vs.getD k none = o := by
      have : vs.drop k = vs[k] :: vs.drop (k + 1) := List.drop_eq_getElem_cons hkl
      rw [this] at hd
      rw [List.getD_eq_getElem?_getD, List.getElem?_eq_getElem hkl]
      exact (List.cons.inj hd).1
    obtain ⟨v1, v2⟩ := hv k hkl
    rw [hg] at v1 v2
    have hin : vp_in (nI k) 4 := vp_in_nI (by omega) (by decide)
    cases o with
    | none =>
      have step : b_Rc_write_49 r i (nI n) (nI k) σ = some (.inl (nI (k + 1), σ)) := by
        unfold b_Rc_write_49
        rw [if_neg (nI_ge (by omega) (by omega)), chk_pos hin, nI_clamp (by omega), v1, ob_n, if_pos rfl, bnd_eq, lt_eq, nI_1]
      rw [lp_l (s' := (nI (k + 1), σ)) step]
      exact ih (k + 1) σ p f hd2 (by omega) hv ha hp (by omega)
    | some x =>
      simp only [encO, List.length_append] at hp ⊢
      have step : b_Rc_write_49 r i (nI n) (nI k) σ = some (.inl (nI (k + 1), wt σ i p (enc x))) := by
        unfold b_Rc_write_49
        rw [if_neg (nI_ge (by omega) (by omega)), chk_pos hin, nI_clamp (by omega), v1, ob_s, if_neg (by decide), chk_pos hin, v2]
        show Option.bind ((f_Tp_number i x σ).bind _) _ = _
        rw [number_eq ha (by omega), bnd_eq, bnd_eq, lt_eq, nI_1]
      rw [lp_l (s' := (nI (k + 1), wt σ i p (enc x))) step, ih (k + 1) (wt σ i p (enc x)) (p + (enc x).length) f hd2 (by omega) (hV_wt hv) (wt_at _ _ _ _) (by omega) (by omega), wt_wt]
theorem write_eq {σ : Sg} {r i p : Nat} {vs : List (Option Int64)} (h4 : vs.length ≤ 4) (hv : hV σ r vs) (ha : gi σ 2 i 1 = nI p) (hp : p + (mk vs :: encO vs).length ≤ alen 10 i) : f_Rc_write r i (nI vs.length) σ = some (wt σ i p (mk vs :: encO vs)) := by
  rw [List.length_cons] at hp
  have h1 := mask_loop r vs.length vs rfl h4 vs.length 0 σ FU (by omega) hv (by unfold FU; omega)
  have h2 := vals_loop r i vs.length vs rfl h4 vs 0 (wt σ i p [mk vs]) (p + 1) FU rfl (Nat.zero_le _) (hV_wt hv) (wt_at _ _ _ _) (by omega) (by unfold FU; omega)
  have e0 : nI (mk (vs.take 0)) = (0 : Int32) := by rw [List.take_zero]; rfl
  rw [e0, show nI 0 = (0 : Int32) from rfl] at h1
  rw [show nI 0 = (0 : Int32) from rfl] at h2
  unfold f_Rc_write l_Rc_write_5 l_Rc_write_49
  rw [h1, bn2_eq, one_n ha (by omega), bnd_eq, h2, bnd_eq]
  have := wt_wt σ i p [mk vs] (encO vs)
  rw [List.length_singleton, List.singleton_append] at this
  rw [this]
