/-! the plain law, second layer: cells and pages -/
abbrev Cel : Type := Int64 × List (Option Int64)
abbrev ICel : Type := Int64 × Nat
def encO : List (Option Int64) → List Nat
  | [] => []
  | none :: t => encO t
  | some v :: t => enc v ++ encO t
def mk : List (Option Int64) → Nat
  | [] => 0
  | none :: t => 2 * mk t
  | some _ :: t => 2 * mk t + 1
def encC (c : Cel) : List Nat := enc c.1 ++ (mk c.2 :: encO c.2)
def encI (c : ICel) : List Nat := enc c.1 ++ [c.2]
def lB : List Cel → List Nat
  | [] => []
  | c :: t => encC c ++ lB t
def iB : List ICel → List Nat
  | [] => []
  | c :: t => encI c ++ iB t
theorem lB_app (a b : List Cel) : lB (a ++ b) = lB a ++ lB b := by
  induction a with
  | nil => rfl
  | cons c t ih => rw [List.cons_append, lB, lB, ih, List.append_assoc]
theorem iB_app (a b : List ICel) : iB (a ++ b) = iB a ++ iB b := by
  induction a with
  | nil => rfl
  | cons c t ih => rw [List.cons_append, iB, iB, ih, List.append_assoc]
theorem mk_lt (vs : List (Option Int64)) : mk vs < 2 ^ vs.length := by
  induction vs with
  | nil => decide
  | cons v t ih =>
    rw [List.length_cons, Nat.pow_succ]
    cases v <;> simp only [mk] <;> omega
theorem encO_lt {vs : List (Option Int64)} {b : Nat} (h : b ∈ encO vs) : b < 256 := by
  induction vs with
  | nil => cases h
  | cons v t ih =>
    cases v with
    | none => exact ih h
    | some x =>
      rcases List.mem_append.mp h with h | h
      · exact enc_lt h
      · exact ih h
theorem encO_len (vs : List (Option Int64)) : (encO vs).length ≤ 10 * vs.length := by
  induction vs with
  | nil => decide
  | cons v t ih =>
    cases v with
    | none => simp only [encO, List.length_cons]; omega
    | some x =>
      simp only [encO, List.length_append, List.length_cons]
      have := enc_len x
      omega
def okC (n : Nat) (c : Cel) : Prop := c.2.length = n
theorem encC_lt {c : Cel} (h4 : c.2.length ≤ 4) {b : Nat} (h : b ∈ encC c) : b < 256 := by
  rcases List.mem_append.mp h with h | h
  · exact enc_lt h
  · rcases List.mem_cons.mp h with rfl | h
    · have := mk_lt c.2
      have h2 : 2 ^ c.2.length ≤ 2 ^ 4 := Nat.pow_le_pow_right (by decide) h4
      omega
    · exact encO_lt h
theorem encC_len {c : Cel} (h4 : c.2.length ≤ 4) : 2 ≤ (encC c).length ∧ (encC c).length ≤ 51 := by
  unfold encC
  rw [List.length_append, List.length_cons]
  have h1 := enc_len c.1
  have h2 := encO_len c.2
  omega
theorem lB_lt {cs : List Cel} (h4 : ∀ c ∈ cs, c.2.length ≤ 4) {b : Nat} (h : b ∈ lB cs) : b < 256 := by
  induction cs with
  | nil => cases h
  | cons c t ih =>
    rcases List.mem_append.mp h with h | h
    · exact encC_lt (h4 c List.mem_cons_self) h
    · exact ih (fun c hc => h4 c (List.mem_cons_of_mem _ hc)) h
theorem lB_cnt {cs : List Cel} (h4 : ∀ c ∈ cs, c.2.length ≤ 4) : 2 * cs.length ≤ (lB cs).length := by
  induction cs with
  | nil => decide
  | cons c t ih =>
    have h1 := (encC_len (h4 c List.mem_cons_self)).1
    have h2 := ih (fun c hc => h4 c (List.mem_cons_of_mem _ hc))
    rw [lB, List.length_append, List.length_cons]
    omega
theorem encI_len (c : ICel) : 2 ≤ (encI c).length ∧ (encI c).length ≤ 11 := by
  unfold encI
  rw [List.length_append, List.length_singleton]
  have := enc_len c.1
  omega
theorem iB_cnt (cs : List ICel) : 2 * cs.length ≤ (iB cs).length := by
  induction cs with
  | nil => decide
  | cons c t ih =>
    have h1 := (encI_len c).1
    rw [iB, List.length_append, List.length_cons]
    omega
theorem iB_lt {cs : List ICel} (h : ∀ c ∈ cs, c.2 < 256) {b : Nat} (hb : b ∈ iB cs) : b < 256 := by
  induction cs with
  | nil => cases hb
  | cons c t ih =>
    rcases List.mem_append.mp hb with hb | hb
    · rcases List.mem_append.mp hb with hb | hb
      · exact enc_lt hb
      · rw [List.mem_singleton.mp hb]; exact h c List.mem_cons_self
    · exact ih (fun c hc => h c (List.mem_cons_of_mem _ hc)) hb
-- ===== pages =====
theorem pg_in {p : Nat} (h : p < 240) : vp_in (nI p) 240 := vp_in_nI h (by decide)
theorem pg_c {p : Nat} (h : p < 240) : (nI p).toNatClampNeg = p := nI_clamp (by omega)
theorem pg_len {p : Nat} (h : p < 240) : alen 10 p = 128 := by
  have e : alen 10 p = if p < 240 then 128 else 512 := rfl
  rw [e, if_pos h]
theorem wk_len (t : Nat) : alen 10 (240 + t) = 512 := by
  have e : alen 10 (240 + t) = if 240 + t < 240 then 128 else 512 := rfl
  rw [e, if_neg (by omega)]
theorem c0 : (0 : Int32).toNatClampNeg = 0 := by decide
theorem c1 : (1 : Int32).toNatClampNeg = 1 := by decide
theorem in0 {n : Nat} (h : 0 < n) (h2 : n < 2 ^ 31) : vp_in 0 n := vp_in_nI (n := 0) h h2
theorem in1 {n : Nat} (h : 1 < n) (h2 : n < 2 ^ 31) : vp_in 1 n := vp_in_nI (n := 1) h h2
theorem isLeaf_eq {σ : Sg} {p : Nat} (hp : p < 240) : f_Pg_isLeaf (nI p) σ = some (if gi σ 10 p 0 = 1 then 1 else 0, σ) := by
  unfold f_Pg_isLeaf
  rw [chk_pos (pg_in hp), pg_c hp, pg_len hp, chk_pos (in0 (by decide) (by decide)), lt_eq, c0, chk_pos]
  split
  · exact zb1
  · exact zb0
theorem open_eq {σ : Sg} {p : Nat} (hp : p < 240) : f_Pg_open (nI p) σ = some (p, sA σ p 2) := by
  unfold f_Pg_open
  rw [chk_pos (pg_in hp), pg_c hp, lt_eq, chk_pos (pg_in hp)]
  rfl
theorem cells_eq {σ : Sg} {p : Nat} (hp : p < 240) : f_Pg_cells (nI p) σ = some (gi σ 10 p 1, σ) := by
  unfold f_Pg_cells
  rw [chk_pos (pg_in hp), pg_c hp, pg_len hp, chk_pos (in1 (by decide) (by decide)), c1]
/-- a leaf, an inner page -/
def PL (σ : Sg) (p : Nat) (cs : List Cel) : Prop := gi σ 10 p 0 = 1 ∧ gi σ 10 p 1 = nI cs.length ∧ sp σ p 2 (lB cs) ∧ (lB cs).length ≤ 126
def PI (σ : Sg) (p : Nat) (k0 : Nat) (cs : List ICel) : Prop := gi σ 10 p 0 = 0 ∧ gi σ 10 p 1 = nI cs.length ∧ sp σ p 2 (k0 :: iB cs) ∧ (iB cs).length ≤ 125 ∧ k0 < 240 ∧ ∀ c ∈ cs, c.2 < 240
theorem leaf_L {σ : Sg} {p : Nat} {cs : List Cel} (hp : p < 240) (h : PL σ p cs) : f_Pg_isLeaf (nI p) σ = some (1, σ) := by rw [isLeaf_eq hp, if_pos h.1]
theorem leaf_I {σ : Sg} {p k0 : Nat} {cs : List ICel} (hp : p < 240) (h : PI σ p k0 cs) : f_Pg_isLeaf (nI p) σ = some (0, σ) := by rw [isLeaf_eq hp, if_neg (by rw [h.1]; decide)]
-- ===== passing over cells =====
theorem bit_eq : ∀ m, m < 16 → ∀ k, k < 4 → (nI m >>> (nI k &&& 31)) &&& 1 = nI (m / 2 ^ k % 2) := by decide +kernel
theorem gi_sA10 (σ : Sg) (i p a b c : Nat) (h : a ≠ 2) : gi (sA σ i p) a b c = gi σ a b c := by rw [gi_sA, if_neg (by omega)]
theorem at_sA (σ : Sg) (i p : Nat) : gi (sA σ i p) 2 i 1 = nI p := by rw [gi_sA, if_pos ⟨rfl, rfl, rfl⟩]
theorem sA_id {σ : Sg} {i p : Nat} (h : gi σ 2 i 1 = nI p) : sA σ i p = σ := by
  refine sg_ext (fun a b c => ?_) (fun _ _ _ => rfl) (fun _ _ _ => rfl) rfl
  rw [gi_sA]
  split
  · rename_i z; rw [z.1, z.2.1, z.2.2, h]
  · rfl
theorem pass_loop (t i m : Nat) (hm : m < 16) : ∀ (rest : List (Option Int64)) (k : Nat) (σ : Sg) (p n : Nat), m / 2 ^ k = mk rest → gi σ 3 t 2 = nI (k + rest.length) → k + rest.length ≤ 4 → gi σ 2 i 1 = nI p → p + (encO rest).length ≤ alen 10 i → sp σ i p (encO rest) → rest.length + 1 ≤ n →
    lp (fun q => b_Tr_pass_30 t i (nI m) q.1 q.2) n (nI k, σ) = some (sA σ i (p + (encO rest).length)) := by
  intro rest
  induction rest with
  | nil =>
    intro k σ p n hmk hc h4 ha hp hs hn
    obtain ⟨n, rfl⟩ : ∃ n', n = n' + 1 := ⟨n - 1, by omega⟩
    rw [lp_r (e := σ)]
    · rw [encO, List.length_nil, Nat.add_zero, sA_id ha]
    · show b_Tr_pass_30 t i (nI m) (nI k) σ = _
      unfold b_Tr_pass_30
      rw [hc, List.length_nil, Nat.add_zero, if_pos (nI_le (Nat.le_refl k) (by omega))]
  | cons v rest ih =>
    intro k σ p n hmk hc h4 ha hp hs hn
    rw [List.length_cons] at hc h4 hn
    obtain ⟨n, rfl⟩ : ∃ n', n = n' + 1 := ⟨n - 1, by omega⟩
    have hdiv : m / 2 ^ (k + 1) = m / 2 ^ k / 2 := by rw [Nat.pow_succ, Nat.div_div_eq_div_mul]
    cases v with
    | none =>
      simp only [mk] at hmk
      have step : b_Tr_pass_30 t i (nI m) (nI k) σ = some (.inl (nI (k + 1), σ)) := by
        unfold b_Tr_pass_30
        rw [hc, if_neg (nI_ge (by omega) (by omega)), bit_eq m hm k (by omega), hmk, show 2 * mk rest % 2 = 0 by omega, if_neg (by decide), bnd_eq, lt_eq, nI_1]
      rw [lp_l (s' := (nI (k + 1), σ)) step]
      exact ih (k + 1) σ p n (by rw [hdiv, hmk]; omega) (by rw [hc]; congr 1; omega) (by omega) ha hp hs (by omega)
    | some x =>
      simp only [mk] at hmk
      simp only [encO, List.length_append] at hp ⊢
      obtain ⟨hs0, hs1⟩ := sp_app.mp hs
      have step : b_Tr_pass_30 t i (nI m) (nI k) σ = some (.inl (nI (k + 1), sA σ i (p + (enc x).length))) := by
        unfold b_Tr_pass_30
        rw [hc, if_neg (nI_ge (by omega) (by omega)), bit_eq m hm k (by omega), hmk, show (2 * mk rest + 1) % 2 = 1 by omega, if_pos (show nI 1 = (1 : Int32) from rfl), takeNumber_eq ha (by omega) hs0, bn2_eq, bnd_eq, lt_eq, nI_1]
      rw [lp_l (s' := (nI (k + 1), sA σ i (p + (enc x).length))) step]
      have k9 := ih (k + 1) (sA σ i (p + (enc x).length)) (p + (enc x).length) n (by rw [hdiv, hmk]; omega) (by rw [gi_sA10 _ _ _ _ _ _ (by decide), hc]; congr 1; omega) (by omega) (at_sA _ _ _) (by omega) (sp_sA.mpr hs1) (by omega)
      rw [k9, sA_sA, Nat.add_assoc]
theorem pass_L {t i : Nat} {c : Cel} {σ : Sg} {p : Nat} (h4 : c.2.length ≤ 4) (hc : gi σ 3 t 2 = nI c.2.length) (ha : gi σ 2 i 1 = nI p) (hp : p + (encC c).length ≤ alen 10 i) (hs : sp σ i p (encC c)) : f_Tr_pass t i 1 σ = some (c.1, sA σ i (p + (encC c).length)) := by
  unfold encC at hp hs ⊢
  rw [List.length_append, List.length_cons] at hp ⊢
  obtain ⟨hs0, hs1⟩ := sp_app.mp hs
  obtain ⟨hs2, hs3⟩ := sp_cons.mp hs1
  have hm : mk c.2 < 16 := by
    have := mk_lt c.2
    have h2 : 2 ^ c.2.length ≤ 2 ^ 4 := Nat.pow_le_pow_right (by decide) h4
    omega
  unfold f_Tr_pass l_Tr_pass_30
  rw [takeNumber_eq ha (by omega) hs0, bn2_eq, if_neg (by decide), take_eq (b := mk c.2) (p := p + (enc c.1).length) (at_sA _ _ _) (by omega) (by omega) (by rw [gi_sA10 _ _ _ _ _ _ (by decide)]; exact hs2), bn2_eq, sA_sA]
  have := pass_loop t i (mk c.2) hm c.2 0 (sA σ i (p + (enc c.1).length + 1)) (p + (enc c.1).length + 1) FU (by simp) (by rw [gi_sA10 _ _ _ _ _ _ (by decide), hc, Nat.zero_add]) (by omega) (at_sA _ _ _) (by omega) (sp_sA.mpr hs3) (by unfold FU; omega)
  rw [show nI 0 = (0 : Int32) from rfl] at this
  rw [this, bnd_eq, sA_sA, show p + (enc c.1).length + 1 + (encO c.2).length = p + ((enc c.1).length + ((encO c.2).length + 1)) by omega]
theorem pass_I {t i : Nat} {c : ICel} {σ : Sg} {p : Nat} (ha : gi σ 2 i 1 = nI p) (hp : p + (encI c).length ≤ alen 10 i) (hs : sp σ i p (encI c)) : f_Tr_pass t i 0 σ = some (c.1, sA σ i (p + (encI c).length)) := by
  unfold encI at hp hs ⊢
  rw [List.length_append, List.length_singleton] at hp ⊢
  obtain ⟨hs0, hs1⟩ := sp_app.mp hs
  unfold f_Tr_pass
  rw [takeNumber_eq ha (by omega) hs0, bn2_eq, if_pos rfl, lt_eq, at_sA, nI_1]
  congr 2
  exact sA_sA _ _ _ _
theorem sizeL_loop {t p : Nat} (hp : p < 240) (N : Nat) : ∀ (rest : List Cel) (k : Nat) (σ : Sg) (q n : Nat), (∀ c ∈ rest, c.2.length ≤ 4 ∧ gi σ 3 t 2 = nI c.2.length) → gi σ 10 p 0 = 1 → gi σ 10 p 1 = nI N → k + rest.length = N → N < 1000 → gi σ 2 p 1 = nI q → q + (lB rest).length ≤ 128 → sp σ p q (lB rest) → rest.length + 1 ≤ n →
    lp (fun x => b_Tr_size_32 t (nI p) p x.1 x.2) n (nI k, σ) = some (sA σ p (q + (lB rest).length)) := by
  intro rest
  induction rest with
  | nil =>
    intro k σ q n hc h0 h1 hk hN ha hq hs hn
    obtain ⟨n, rfl⟩ : ∃ n', n = n' + 1 := ⟨n - 1, by omega⟩
    rw [lp_r (e := σ)]
    · rw [lB, List.length_nil, Nat.add_zero, sA_id ha]
    · show b_Tr_size_32 t (nI p) p (nI k) σ = _
      unfold b_Tr_size_32
      rw [cells_eq hp, bn2_eq, h1, if_pos (nI_le (by rw [List.length_nil] at hk; omega) (by omega))]
  | cons c rest ih =>
    intro k σ q n hc h0 h1 hk hN ha hq hs hn
    rw [List.length_cons] at hk hn
    rw [lB, List.length_append] at hq ⊢
    rw [lB] at hs
    obtain ⟨n, rfl⟩ : ∃ n', n = n' + 1 := ⟨n - 1, by omega⟩
    obtain ⟨hs0, hs1⟩ := sp_app.mp hs
    obtain ⟨hc4, hcc⟩ := hc c List.mem_cons_self
    have step : b_Tr_size_32 t (nI p) p (nI k) σ = some (.inl (nI (k + 1), sA σ p (q + (encC c).length))) := by
      unfold b_Tr_size_32
      rw [cells_eq hp, bn2_eq, h1, if_neg (nI_ge (by omega) (by omega)), isLeaf_eq hp, if_pos h0, bn2_eq, pass_L hc4 hcc ha (by rw [pg_len hp]; omega) hs0, bn2_eq, lt_eq, nI_1]
    rw [lp_l (s' := (nI (k + 1), sA σ p (q + (encC c).length))) step, ih (k + 1) (sA σ p (q + (encC c).length)) (q + (encC c).length) n (fun d hd => by rw [gi_sA10 _ _ _ _ _ _ (by decide)]; exact hc d (List.mem_cons_of_mem _ hd)) (by rw [gi_sA10 _ _ _ _ _ _ (by decide)]; exact h0) (by rw [gi_sA10 _ _ _ _ _ _ (by decide)]; exact h1) (by omega) hN (at_sA _ _ _) (by omega) (sp_sA.mpr hs1) (by omega), sA_sA, Nat.add_assoc]
theorem sizeI_loop {t p : Nat} (hp : p < 240) (N : Nat) : ∀ (rest : List ICel) (k : Nat) (σ : Sg) (q n : Nat), gi σ 10 p 0 = 0 → gi σ 10 p 1 = nI N → k + rest.length = N → N < 1000 → gi σ 2 p 1 = nI q → q + (iB rest).length ≤ 128 → sp σ p q (iB rest) → rest.length + 1 ≤ n →
    lp (fun x => b_Tr_size_32 t (nI p) p x.1 x.2) n (nI k, σ) = some (sA σ p (q + (iB rest).length)) := by
  intro rest
  induction rest with
  | nil =>
    intro k σ q n h0 h1 hk hN ha hq hs hn
    obtain ⟨n, rfl⟩ : ∃ n', n = n' + 1 := ⟨n - 1, by omega⟩
    rw [lp_r (e := σ)]
    · rw [iB, List.length_nil, Nat.add_zero, sA_id ha]
    · show b_Tr_size_32 t (nI p) p (nI k) σ = _
      unfold b_Tr_size_32
      rw [cells_eq hp, bn2_eq, h1, if_pos (nI_le (by rw [List.length_nil] at hk; omega) (by omega))]
  | cons c rest ih =>
    intro k σ q n h0 h1 hk hN ha hq hs hn
    rw [List.length_cons] at hk hn
    rw [iB, List.length_append] at hq ⊢
    rw [iB] at hs
    obtain ⟨n, rfl⟩ : ∃ n', n = n' + 1 := ⟨n - 1, by omega⟩
    obtain ⟨hs0, hs1⟩ := sp_app.mp hs
    have step : b_Tr_size_32 t (nI p) p (nI k) σ = some (.inl (nI (k + 1), sA σ p (q + (encI c).length))) := by
      unfold b_Tr_size_32
      rw [cells_eq hp, bn2_eq, h1, if_neg (nI_ge (by omega) (by omega)), isLeaf_eq hp, if_neg (by rw [h0]; decide), bn2_eq, pass_I ha (by rw [pg_len hp]; omega) hs0, bn2_eq, lt_eq, nI_1]
    rw [lp_l (s' := (nI (k + 1), sA σ p (q + (encI c).length))) step, ih (k + 1) (sA σ p (q + (encI c).length)) (q + (encI c).length) n (by rw [gi_sA10 _ _ _ _ _ _ (by decide)]; exact h0) (by rw [gi_sA10 _ _ _ _ _ _ (by decide)]; exact h1) (by omega) hN (at_sA _ _ _) (by omega) (sp_sA.mpr hs1) (by omega), sA_sA, Nat.add_assoc]
theorem size_L {t p : Nat} {σ : Sg} {cs : List Cel} (hp : p < 240) (h : PL σ p cs) (hc : ∀ c ∈ cs, c.2.length ≤ 4 ∧ gi σ 3 t 2 = nI c.2.length) : f_Tr_size t (nI p) σ = some (nI (2 + (lB cs).length), sA σ p (2 + (lB cs).length)) := by
  obtain ⟨h0, h1, hs, hl⟩ := h
  have hn := lB_cnt (fun c hcc => (hc c hcc).1)
  unfold f_Tr_size l_Tr_size_32
  rw [open_eq hp, bn2_eq, isLeaf_eq hp, gi_sA10 _ _ _ _ _ _ (by decide), if_pos h0, bn2_eq, if_neg (by decide), bnd_eq]
  have := sizeL_loop (t := t) hp cs.length cs 0 (sA σ p 2) 2 FU (fun c hcc => by rw [gi_sA10 _ _ _ _ _ _ (by decide)]; exact hc c hcc) (by rw [gi_sA10 _ _ _ _ _ _ (by decide)]; exact h0) (by rw [gi_sA10 _ _ _ _ _ _ (by decide)]; exact h1) (by omega) (by omega) (at_sA _ _ _) (by omega) (sp_sA.mpr hs) (by unfold FU; omega)
  rw [show nI 0 = (0 : Int32) from rfl] at this
  rw [this, bnd_eq, sA_sA, at_sA]
theorem size_I {t p k0 : Nat} {σ : Sg} {cs : List ICel} (hp : p < 240) (h : PI σ p k0 cs) : f_Tr_size t (nI p) σ = some (nI (3 + (iB cs).length), sA σ p (3 + (iB cs).length)) := by
  obtain ⟨h0, h1, hs, hl, -⟩ := h
  have hn := iB_cnt cs
  obtain ⟨-, hs1⟩ := sp_cons.mp hs
  unfold f_Tr_size l_Tr_size_32
  rw [open_eq hp, bn2_eq, isLeaf_eq hp, gi_sA10 _ _ _ _ _ _ (by decide), if_neg (by rw [h0]; decide), bn2_eq, if_pos rfl, lt_eq, bnd_eq, at_sA]
  have e : si (sA σ p 2) 2 p 1 (nI 2 + 1) = sA σ p 3 := by
    rw [nI_1]
    exact sA_sA _ _ _ _
  rw [e]
  have := sizeI_loop (t := t) hp cs.length cs 0 (sA σ p 3) 3 FU (by rw [gi_sA10 _ _ _ _ _ _ (by decide)]; exact h0) (by rw [gi_sA10 _ _ _ _ _ _ (by decide)]; exact h1) (by omega) (by omega) (at_sA _ _ _) (by omega) (sp_sA.mpr hs1) (by unfold FU; omega)
  rw [show nI 0 = (0 : Int32) from rfl] at this
  rw [this, bnd_eq, sA_sA, at_sA]
