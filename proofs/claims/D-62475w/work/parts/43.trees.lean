/-! the plain law, third layer: trees in pages -/
theorem si_si (σ : Sg) (k i j : Nat) (x y : Int32) : si (si σ k i j x) k i j y = si σ k i j y := by
  refine sg_ext (fun a b c => ?_) (fun _ _ _ => rfl) (fun _ _ _ => rfl) rfl
  rw [gi_si, gi_si, gi_si]
  split <;> rfl
theorem si_comm (σ : Sg) {k i j k' i' j' : Nat} (x y : Int32) (h : ¬ (k = k' ∧ i = i' ∧ j = j')) : si (si σ k i j x) k' i' j' y = si (si σ k' i' j' y) k i j x := by
  refine sg_ext (fun a b c => ?_) (fun _ _ _ => rfl) (fun _ _ _ => rfl) rfl
  rw [gi_si, gi_si, gi_si, gi_si]
  by_cases h1 : a = k ∧ b = i ∧ c = j
  · by_cases h2 : a = k' ∧ b = i' ∧ c = j'
    · exact absurd ⟨h1.1.symm.trans h2.1, h1.2.1.symm.trans h2.2.1, h1.2.2.symm.trans h2.2.2⟩ h
    · rw [if_neg h2, if_pos h1, if_pos h1]
  · rw [if_neg h1, if_neg h1]
theorem tA_comm (σ : Sg) (p a t d b : Nat) (x : Int32) : sA (si (sA σ p a) 14 t d x) p b = sA (si σ 14 t d x) p b := by
  unfold sA
  rw [si_comm σ (nI a) x (by omega), si_si]
def oLo (lo : Option Int64) (k : Int64) : Prop := ∀ b, lo = some b → b ≤ k
def oHi (hi : Option Int64) (k : Int64) : Prop := ∀ b, hi = some b → k < b
/-- a child of an inner page: from which key on, its page, its cells, its pages -/
abbrev Ent : Type := Option Int64 × Nat × List Cel × List Nat
def ic (e : Ent) : ICel := (e.1.getD 0, e.2.1)
def fM : List Ent → List Cel
  | [] => []
  | e :: t => e.2.2.1 ++ fM t
def fP : List Ent → List Nat
  | [] => []
  | e :: t => e.2.2.2 ++ fP t
theorem fM_app (a b : List Ent) : fM (a ++ b) = fM a ++ fM b := by
  induction a with
  | nil => rfl
  | cons c t ih => rw [List.cons_append, fM, fM, ih, List.append_assoc]
theorem fP_app (a b : List Ent) : fP (a ++ b) = fP a ++ fP b := by
  induction a with
  | nil => rfl
  | cons c t ih => rw [List.cons_append, fP, fP, ih, List.append_assoc]
def nL (t : List Ent) (hi : Option Int64) : Option Int64 := match t with
  | [] => hi
  | e :: _ => e.1
abbrev Rl : Type := Nat → Option Int64 → Option Int64 → List Cel → List Nat → Prop
def Ks (R : Rl) : List Ent → Option Int64 → Prop
  | [], _ => True
  | e :: t, hi => R e.2.1 e.1 (nL t hi) e.2.2.1 e.2.2.2 ∧ e.2.2.1 ≠ [] ∧ Ks R t hi
theorem nL_app (a b : List Ent) (hi : Option Int64) : nL (a ++ b) hi = nL a (nL b hi) := by
  cases a <;> rfl
theorem Ks_app {R : Rl} {a b : List Ent} {hi : Option Int64} : Ks R (a ++ b) hi ↔ Ks R a (nL b hi) ∧ Ks R b hi := by
  induction a with
  | nil => exact ⟨fun h => ⟨trivial, h⟩, fun h => h.2⟩
  | cons e t ih =>
    rw [List.cons_append, Ks, Ks, ih, nL_app]
    exact ⟨fun h => ⟨⟨h.1, h.2.1, h.2.2.1⟩, h.2.2.2⟩, fun h => ⟨h.1.1, h.1.2.1, h.1.2.2, h.2⟩⟩
theorem Ks_mono {R R' : Rl} (h : ∀ p lo hi M P, R p lo hi M P → R' p lo hi M P) : ∀ (es : List Ent) (hi : Option Int64), Ks R es hi → Ks R' es hi := by
  intro es
  induction es with
  | nil => intro hi _; trivial
  | cons e t ih =>
    intro hi hk
    exact ⟨h _ _ _ _ _ hk.1, hk.2.1, ih hi hk.2.2⟩
def Lf (σ : Sg) (n p : Nat) (lo hi : Option Int64) (M : List Cel) : Prop := p < 240 ∧ PL σ p M ∧ (∀ x ∈ M, x.2.length = n ∧ oLo lo x.1 ∧ oHi hi x.1) ∧ M.Pairwise (fun a b => a.1 < b.1)
def Nd (σ : Sg) (R : Rl) (p : Nat) (lo hi : Option Int64) (e0 : Ent) (es : List Ent) : Prop := p < 240 ∧ PI σ p e0.2.1 (es.map ic) ∧ es ≠ [] ∧ (∀ e ∈ es, e.1.isSome = true ∧ (∀ b, e.1 = some b → oLo lo b ∧ oHi hi b)) ∧ e0.1 = lo ∧ Ks R (e0 :: es) hi
/-- a tree of at most d levels of inner pages; n columns -/
def Tr (σ : Sg) (n : Nat) : Nat → Rl
  | 0, p, lo, hi, M, P => Lf σ n p lo hi M ∧ P = [p]
  | d + 1, p, lo, hi, M, P => (Lf σ n p lo hi M ∧ P = [p]) ∨ ∃ e0 es, Nd σ (Tr σ n d) p lo hi e0 es ∧ M = fM (e0 :: es) ∧ P = p :: fP (e0 :: es)
theorem sp_congr {σ σ' : Sg} {i p : Nat} {bs : List Nat} (h : ∀ j, gi σ' 10 i j = gi σ 10 i j) (hs : sp σ i p bs) : sp σ' i p bs := fun k hk => (h _).trans (hs k hk)
theorem PL_congr {σ σ' : Sg} {p : Nat} {cs : List Cel} (h : ∀ j, gi σ' 10 p j = gi σ 10 p j) (hs : PL σ p cs) : PL σ' p cs := ⟨(h _).trans hs.1, (h _).trans hs.2.1, sp_congr h hs.2.2.1, hs.2.2.2⟩
theorem PI_congr {σ σ' : Sg} {p k0 : Nat} {cs : List ICel} (h : ∀ j, gi σ' 10 p j = gi σ 10 p j) (hs : PI σ p k0 cs) : PI σ' p k0 cs := ⟨(h _).trans hs.1, (h _).trans hs.2.1, sp_congr h hs.2.2.1, hs.2.2.2⟩
theorem Ks_congr {R R' : Rl} : ∀ (es : List Ent) (hi : Option Int64), (∀ p lo hi M P, (∀ q ∈ P, q ∈ fP es) → R p lo hi M P → R' p lo hi M P) → Ks R es hi → Ks R' es hi := by
  intro es
  induction es with
  | nil => intro hi _ _; trivial
  | cons e t ih =>
    intro hi h hk
    exact ⟨h _ _ _ _ _ (fun q hq => List.mem_append_left _ hq) hk.1, hk.2.1, ih hi (fun p lo hi M P hq hr => h p lo hi M P (fun q hqq => List.mem_append_right _ (hq q hqq)) hr) hk.2.2⟩
theorem Tr_congr {σ σ' : Sg} {n : Nat} : ∀ (d p : Nat) (lo hi : Option Int64) (M : List Cel) (P : List Nat), (∀ q ∈ P, ∀ j, gi σ' 10 q j = gi σ 10 q j) → Tr σ n d p lo hi M P → Tr σ' n d p lo hi M P := by
  intro d
  induction d with
  | zero =>
    intro p lo hi M P h ht
    obtain ⟨⟨h1, h2, h3, h4⟩, rfl⟩ := ht
    exact ⟨⟨h1, PL_congr (h p List.mem_cons_self) h2, h3, h4⟩, rfl⟩
  | succ d ih =>
    intro p lo hi M P h ht
    rcases ht with ⟨⟨h1, h2, h3, h4⟩, rfl⟩ | ⟨e0, es, ⟨h1, h2, h3, h4, h5, h6⟩, rfl, rfl⟩
    · exact Or.inl ⟨⟨h1, PL_congr (h p List.mem_cons_self) h2, h3, h4⟩, rfl⟩
    · refine Or.inr ⟨e0, es, ⟨h1, PI_congr (h p List.mem_cons_self) h2, h3, h4, h5, ?_⟩, rfl, rfl⟩
      refine Ks_congr (e0 :: es) hi (fun p' lo' hi' M' P' hq hr => ih p' lo' hi' M' P' (fun q hqq => h q (List.mem_cons_of_mem _ (hq q hqq))) hr) h6
theorem Tr_up {σ : Sg} {n : Nat} : ∀ (d p : Nat) (lo hi : Option Int64) (M : List Cel) (P : List Nat), Tr σ n d p lo hi M P → Tr σ n (d + 1) p lo hi M P := by
  intro d
  induction d with
  | zero => intro p lo hi M P h; exact Or.inl h
  | succ d ih =>
    intro p lo hi M P h
    rcases h with h | ⟨e0, es, ⟨h1, h2, h3, h4, h5, h6⟩, hM, hP⟩
    · exact Or.inl h
    · exact Or.inr ⟨e0, es, ⟨h1, h2, h3, h4, h5, Ks_mono (fun p lo hi M P => ih p lo hi M P) _ _ h6⟩, hM, hP⟩
theorem Tr_le {σ : Sg} {n : Nat} {d d' p : Nat} {lo hi : Option Int64} {M : List Cel} {P : List Nat} (h : d ≤ d') (ht : Tr σ n d p lo hi M P) : Tr σ n d' p lo hi M P := by
  obtain ⟨k, rfl⟩ : ∃ k, d' = d + k := ⟨d' - d, by omega⟩
  induction k with
  | zero => exact ht
  | succ k ih => exact Tr_up _ _ _ _ _ _ (ih (by omega))
/-- a tree, of whatever height -/
def TA (σ : Sg) (n : Nat) : Rl := fun p lo hi M P => ∃ d, Tr σ n d p lo hi M P
theorem Ks_TA {σ : Sg} {n : Nat} : ∀ (es : List Ent) (hi : Option Int64), Ks (TA σ n) es hi → ∃ d, Ks (Tr σ n d) es hi := by
  intro es
  induction es with
  | nil => intro hi _; exact ⟨0, trivial⟩
  | cons e t ih =>
    intro hi h
    obtain ⟨d1, h1⟩ := h.1
    obtain ⟨d2, h2⟩ := ih hi h.2.2
    refine ⟨max d1 d2, Tr_le (Nat.le_max_left _ _) h1, h.2.1, Ks_mono (fun p lo hi M P hr => Tr_le (Nat.le_max_right _ _) hr) _ _ h2⟩
theorem TA_iff {σ : Sg} {n p : Nat} {lo hi : Option Int64} {M : List Cel} {P : List Nat} : TA σ n p lo hi M P ↔ (Lf σ n p lo hi M ∧ P = [p]) ∨ ∃ e0 es, Nd σ (TA σ n) p lo hi e0 es ∧ M = fM (e0 :: es) ∧ P = p :: fP (e0 :: es) := by
  constructor
  · rintro ⟨d, h⟩
    cases d with
    | zero => exact Or.inl h
    | succ d =>
      rcases h with h | ⟨e0, es, ⟨h1, h2, h3, h4, h5, h6⟩, hM, hP⟩
      · exact Or.inl h
      · exact Or.inr ⟨e0, es, ⟨h1, h2, h3, h4, h5, Ks_mono (fun p lo hi M P hr => ⟨d, hr⟩) _ _ h6⟩, hM, hP⟩
  · rintro (h | ⟨e0, es, ⟨h1, h2, h3, h4, h5, h6⟩, hM, hP⟩)
    · exact ⟨0, h⟩
    · obtain ⟨d, hd⟩ := Ks_TA _ _ h6
      exact ⟨d + 1, Or.inr ⟨e0, es, ⟨h1, h2, h3, h4, h5, hd⟩, hM, hP⟩⟩
theorem TA_congr {σ σ' : Sg} {n p : Nat} {lo hi : Option Int64} {M : List Cel} {P : List Nat} (h : ∀ q ∈ P, ∀ j, gi σ' 10 q j = gi σ 10 q j) (ht : TA σ n p lo hi M P) : TA σ' n p lo hi M P := by
  obtain ⟨d, hd⟩ := ht
  exact ⟨d, Tr_congr d p lo hi M P h hd⟩
-- ===== the child for a key =====
/-- the child that is taken: behind how many keys, which page -/
def pick (key : Int64) : Nat → Nat → Nat → List ICel → Nat × Nat
  | _, n, x, [] => (n, x)
  | k, n, x, c :: t => if key < c.1 then pick key (k + 1) n x t else pick key (k + 1) (k + 1) c.2 t
theorem childFor_loop {t p d : Nat} (hp : p < 240) (key : Int64) (N : Nat) (hd : d < 100) : ∀ (rest : List ICel) (k n x : Nat) (σ : Sg) (q m : Nat), (∀ c ∈ rest, c.2 < 240) → gi σ 3 t 6 = nI d → gi σ 10 p 1 = nI N → k + rest.length = N → N < 1000 → gi σ 14 t d = nI n → gi σ 2 p 1 = nI q → q + (iB rest).length ≤ 128 → sp σ p q (iB rest) → rest.length + 1 ≤ m →
    lp (fun y => b_Tr_childFor_30 t (nI p) key p y.1 y.2.1 y.2.2) m (nI x, nI k, σ) = some (nI (pick key k n x rest).2, sA (si σ 14 t d (nI (pick key k n x rest).1)) p (q + (iB rest).length)) := by
  intro rest
  induction rest with
  | nil =>
    intro k n x σ q m hc hdep h1 hk hN ht ha hq hs hm
    obtain ⟨m, rfl⟩ : ∃ m', m = m' + 1 := ⟨m - 1, by omega⟩
    rw [lp_r (e := (nI x, σ))]
    · rw [pick, iB, List.length_nil, Nat.add_zero]
      have e1 : si σ 14 t d (nI n) = σ := by
        refine sg_ext (fun a b c => ?_) (fun _ _ _ => rfl) (fun _ _ _ => rfl) rfl
        rw [gi_si]
        split
        · rename_i z; rw [z.1, z.2.1, z.2.2, ht]
        · rfl
      rw [e1, sA_id ha]
    · show b_Tr_childFor_30 t (nI p) key p (nI x) (nI k) σ = _
      unfold b_Tr_childFor_30
      rw [cells_eq hp, bn2_eq, h1, if_pos (nI_le (by rw [List.length_nil] at hk; omega) (by omega))]
  | cons c rest ih =>
    intro k n x σ q m hc hdep h1 hk hN ht ha hq hs hm
    rw [List.length_cons] at hk hm
    rw [iB, List.length_append] at hq ⊢
    rw [iB] at hs
    obtain ⟨m, rfl⟩ : ∃ m', m = m' + 1 := ⟨m - 1, by omega⟩
    obtain ⟨hs0, hs1⟩ := sp_app.mp hs
    have hc240 := hc c List.mem_cons_self
    have hel : (encI c).length = (enc c.1).length + 1 := by unfold encI; rw [List.length_append, List.length_singleton]
    obtain ⟨hs2, hs3⟩ := sp_app.mp (show sp σ p q (enc c.1 ++ [c.2]) from hs0)
    obtain ⟨hs4, -⟩ := sp_cons.mp hs3
    have t1 : f_Tp_takeNumber p σ = some (c.1, sA σ p (q + (enc c.1).length)) := takeNumber_eq ha (by rw [pg_len hp]; omega) hs2
    have t2 : f_Tp_take p (sA σ p (q + (enc c.1).length)) = some (nI c.2, sA σ p (q + (encI c).length)) := by
      rw [take_eq (b := c.2) (p := q + (enc c.1).length) (at_sA _ _ _) (by rw [pg_len hp]; omega) (by omega) (by rw [gi_sA10 _ _ _ _ _ _ (by decide)]; exact hs4), sA_sA, hel, Nat.add_assoc]
    have hpk : pick key k n x (c :: rest) = if key < c.1 then pick key (k + 1) n x rest else pick key (k + 1) (k + 1) c.2 rest := rfl
    by_cases hlt : key < c.1
    · have step : b_Tr_childFor_30 t (nI p) key p (nI x) (nI k) σ = some (.inl (nI x, nI (k + 1), sA σ p (q + (encI c).length))) := by
        unfold b_Tr_childFor_30
        rw [cells_eq hp, bn2_eq, h1, if_neg (nI_ge (by omega) (by omega)), t1, bn2_eq, t2, bn2_eq, if_pos hlt, bn2_eq, lt_eq, nI_1]
      rw [lp_l (s' := (nI x, nI (k + 1), sA σ p (q + (encI c).length))) step, hpk, if_pos hlt, ih (k + 1) n x (sA σ p (q + (encI c).length)) (q + (encI c).length) m (fun z hz => hc z (List.mem_cons_of_mem _ hz)) (by rw [gi_sA10 _ _ _ _ _ _ (by decide)]; exact hdep) (by rw [gi_sA10 _ _ _ _ _ _ (by decide)]; exact h1) (by omega) hN (by rw [gi_sA10 _ _ _ _ _ _ (by decide)]; exact ht) (at_sA _ _ _) (by omega) (sp_sA.mpr hs1) (by omega)]
      rw [tA_comm, Nat.add_assoc]
    · have step : b_Tr_childFor_30 t (nI p) key p (nI x) (nI k) σ = some (.inl (nI c.2, nI (k + 1), si (sA σ p (q + (encI c).length)) 14 t d (nI (k + 1)))) := by
        unfold b_Tr_childFor_30
        rw [cells_eq hp, bn2_eq, h1, if_neg (nI_ge (by omega) (by omega)), t1, bn2_eq, t2, bn2_eq, if_neg hlt, gi_sA10 _ _ _ _ _ _ (by decide), hdep, chk_pos (vp_in_nI hd (by decide)), lt_eq, nI_clamp (by omega), bn2_eq, lt_eq, nI_1]
      rw [lp_l (s' := (nI c.2, nI (k + 1), si (sA σ p (q + (encI c).length)) 14 t d (nI (k + 1)))) step, hpk, if_neg hlt, ih (k + 1) (k + 1) c.2 (si (sA σ p (q + (encI c).length)) 14 t d (nI (k + 1))) (q + (encI c).length) m (fun z hz => hc z (List.mem_cons_of_mem _ hz)) (by rw [gi_si, if_neg (by omega), gi_sA10 _ _ _ _ _ _ (by decide)]; exact hdep) (by rw [gi_si, if_neg (by omega), gi_sA10 _ _ _ _ _ _ (by decide)]; exact h1) (by omega) hN (by rw [gi_si, if_pos ⟨rfl, rfl, rfl⟩]) (by rw [gi_si, if_neg (by omega), at_sA]) (by omega) (fun z hz => by rw [gi_si, if_neg (by omega), gi_sA10 _ _ _ _ _ _ (by decide)]; exact hs1 z hz) (by omega)]
      rw [si_si, tA_comm, Nat.add_assoc]
theorem childFor_eq {t p d k0 : Nat} {key : Int64} {σ : Sg} {cs : List ICel} (hp : p < 240) (hd : d < 100) (hdep : gi σ 3 t 6 = nI d) (h : PI σ p k0 cs) : f_Tr_childFor t (nI p) key σ = some (nI (pick key 0 0 k0 cs).2, sA (si σ 14 t d (nI (pick key 0 0 k0 cs).1)) p (3 + (iB cs).length)) := by
  obtain ⟨h0, h1, hs, hl, hk0, hc⟩ := h
  have hn := iB_cnt cs
  obtain ⟨hs0, hs1⟩ := sp_cons.mp hs
  unfold f_Tr_childFor l_Tr_childFor_30
  rw [open_eq hp, bn2_eq, take_eq (b := k0) (p := 2) (at_sA _ _ _) (by rw [pg_len hp]; decide) (by omega) (by rw [gi_sA10 _ _ _ _ _ _ (by decide)]; exact hs0), bn2_eq, sA_sA, gi_sA10 _ _ _ _ _ _ (by decide), hdep, chk_pos (vp_in_nI hd (by decide)), lt_eq, nI_clamp (by omega)]
  have := childFor_loop (t := t) hp key cs.length hd cs 0 0 k0 (si (sA σ p 3) 14 t d 0) 3 FU hc (by rw [gi_si, if_neg (by omega), gi_sA10 _ _ _ _ _ _ (by decide)]; exact hdep) (by rw [gi_si, if_neg (by omega), gi_sA10 _ _ _ _ _ _ (by decide)]; exact h1) (by omega) (by omega) (by rw [gi_si, if_pos ⟨rfl, rfl, rfl⟩]; rfl) (by rw [gi_si, if_neg (by omega), at_sA]) (by omega) (fun z hz => by rw [gi_si, if_neg (by omega), gi_sA10 _ _ _ _ _ _ (by decide)]; exact hs1 z hz) (by unfold FU; omega)
  rw [show nI 0 = (0 : Int32) from rfl] at this
  rw [this, bn2_eq, si_si, tA_comm]
