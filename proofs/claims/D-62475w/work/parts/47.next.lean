/-! the plain law: the next leaf, seek, key -/
def kid (k0 : Nat) (cs : List ICel) (j : Nat) : Nat := (k0 :: cs.map (fun c => c.2)).getD j 0
theorem childAt_loop {p : Nat} (hp : p < 240) (J : Nat) (hJ : J < 1000) : ∀ (rest : List ICel) (k x : Nat) (σ : Sg) (q m : Nat), (∀ c ∈ rest, c.2 < 240) → k ≤ J → J ≤ k + rest.length → gi σ 2 p 1 = nI q → q + (iB rest).length ≤ 128 → sp σ p q (iB rest) → rest.length + 1 ≤ m →
    ∃ q', lp (fun y => b_Tr_childAt_18 (nI J) p y.1 y.2.1 y.2.2) m (nI x, nI k, σ) = some (nI (kid x rest (J - k)), sA σ p q') := by
  intro rest
  induction rest with
  | nil =>
    intro k x σ q m hc h1 h2 ha hq hs hm
    obtain ⟨m, rfl⟩ : ∃ m', m = m' + 1 := ⟨m - 1, by omega⟩
    rw [List.length_nil] at h2
    refine ⟨q, ?_⟩
    rw [lp_r (e := (nI x, σ)), sA_id ha]
    · rw [show J - k = 0 by omega]; rfl
    · show b_Tr_childAt_18 (nI J) p (nI x) (nI k) σ = _
      unfold b_Tr_childAt_18
      rw [if_pos (nI_le (by omega) (by omega))]
  | cons c rest ih =>
    intro k x σ q m hc h1 h2 ha hq hs hm
    rw [List.length_cons] at h2 hm
    rw [iB, List.length_append] at hq
    rw [iB] at hs
    obtain ⟨m, rfl⟩ : ∃ m', m = m' + 1 := ⟨m - 1, by omega⟩
    by_cases hk : k = J
    · subst hk
      refine ⟨q, ?_⟩
      rw [lp_r (e := (nI x, σ)), sA_id ha]
      · rw [Nat.sub_self]; rfl
      · show b_Tr_childAt_18 (nI k) p (nI x) (nI k) σ = _
        unfold b_Tr_childAt_18
        rw [if_pos (nI_le (Nat.le_refl _) (by omega))]
    · obtain ⟨hs0, hs1⟩ := sp_app.mp hs
      have hc240 := hc c List.mem_cons_self
      have hel : (encI c).length = (enc c.1).length + 1 := by unfold encI; rw [List.length_append, List.length_singleton]
      obtain ⟨hs2, hs3⟩ := sp_app.mp (show sp σ p q (enc c.1 ++ [c.2]) from hs0)
      obtain ⟨hs4, -⟩ := sp_cons.mp hs3
      have t1 : f_Tp_takeNumber p σ = some (c.1, sA σ p (q + (enc c.1).length)) := takeNumber_eq ha (by rw [pg_len hp]; omega) hs2
      have t2 : f_Tp_take p (sA σ p (q + (enc c.1).length)) = some (nI c.2, sA σ p (q + (encI c).length)) := by
        rw [take_eq (b := c.2) (p := q + (enc c.1).length) (at_sA _ _ _) (by rw [pg_len hp]; omega) (by omega) (by rw [gi_sA10 _ _ _ _ _ _ (by decide)]; exact hs4), sA_sA, hel, Nat.add_assoc]
      have step : b_Tr_childAt_18 (nI J) p (nI x) (nI k) σ = some (.inl (nI c.2, nI (k + 1), sA σ p (q + (encI c).length))) := by
        unfold b_Tr_childAt_18
        rw [if_neg (nI_ge (by omega) (by omega)), t1, bn2_eq, t2, bn2_eq, lt_eq, nI_1]
      obtain ⟨q', h9⟩ := ih (k + 1) c.2 (sA σ p (q + (encI c).length)) (q + (encI c).length) m (fun z hz => hc z (List.mem_cons_of_mem _ hz)) (by omega) (by omega) (at_sA _ _ _) (by omega) (sp_sA.mpr hs1) (by omega)
      refine ⟨q', ?_⟩
      rw [lp_l (s' := (nI c.2, nI (k + 1), sA σ p (q + (encI c).length))) step, h9, sA_sA]
      congr 3
      obtain ⟨j, hj⟩ : ∃ j, J - k = j + 1 := ⟨J - k - 1, by omega⟩
      rw [hj, show J - (k + 1) = j by omega]
      rfl
theorem childAt_eq {t p k0 J : Nat} {σ : Sg} {cs : List ICel} (hp : p < 240) (h : PI σ p k0 cs) (hJ : J ≤ cs.length) : ∃ q, f_Tr_childAt t (nI p) (nI J) σ = some (nI (kid k0 cs J), sA σ p q) := by
  obtain ⟨h0, h1, hs, hl, hk0, hc⟩ := h
  have hn := iB_cnt cs
  obtain ⟨hs0, hs1⟩ := sp_cons.mp hs
  obtain ⟨q, h9⟩ := childAt_loop hp J (by omega) cs 0 k0 (sA σ p 3) 3 FU hc (by omega) (by omega) (at_sA _ _ _) (by omega) (sp_sA.mpr hs1) (by unfold FU; omega)
  refine ⟨q, ?_⟩
  unfold f_Tr_childAt l_Tr_childAt_18
  rw [open_eq hp, bn2_eq, take_eq (b := k0) (p := 2) (at_sA _ _ _) (by rw [pg_len hp]; decide) (by omega) (by rw [gi_sA10 _ _ _ _ _ _ (by decide)]; exact hs0), bn2_eq, sA_sA]
  rw [show nI 0 = (0 : Int32) from rfl] at h9
  rw [h9, bn2_eq, sA_sA, Nat.sub_zero]
theorem kid_ent (e0 : Ent) (es : List Ent) (j : Nat) : kid e0.2.1 (es.map ic) j = ((e0 :: es).map (fun e => e.2.1)).getD j 0 := by
  unfold kid
  rw [List.map_map]
  rfl
theorem climb {σ : Sg} {n t root : Nat} : ∀ (Z : List Lv) (p : Nat) (lo hi : Option Int64) (m : Nat), Cx σ n t root Z p lo hi → Z.length < 100 → Z.length + 1 ≤ m →
    (gB Z = [] ∧ lp (fun q => b_Tr_nextLeaf_7 t q.1 q.2) m (nI Z.length - 1, σ) = some (-1, σ)) ∨
    (∃ Z1 q A b B Z2, Z = Z1 ++ (q, A, b :: B) :: Z2 ∧ (∃ r, gB Z = b.2.2.1 ++ r) ∧ lp (fun q => b_Tr_nextLeaf_7 t q.1 q.2) m (nI Z.length - 1, σ) = some (nI Z2.length, σ) ∧ ∃ p' lo' hi', Cx σ n t root ((q, A, b :: B) :: Z2) p' lo' hi') := by
  intro Z
  induction Z with
  | nil =>
    intro p lo hi m hc hz hm
    obtain ⟨m, rfl⟩ : ∃ m', m = m' + 1 := ⟨m - 1, by omega⟩
    refine Or.inl ⟨rfl, lp_r ?_⟩
    show b_Tr_nextLeaf_7 t (nI 0 - 1) σ = _
    unfold b_Tr_nextLeaf_7
    rw [if_pos (by decide)]
    rfl
  | cons L Z ih =>
    obtain ⟨q, A, B⟩ := L
    intro p lo hi m hc hz hm
    rw [List.length_cons] at hz hm
    obtain ⟨m, rfl⟩ : ∃ m', m = m' + 1 := ⟨m - 1, by omega⟩
    have hc0 := hc
    obtain ⟨loq, hiq, e0, es, c1, c2, c3, c4, c5, c6, c7, c8, c9, c10, c11, c12⟩ := hc
    have hlen : A.length + B.length = es.length := by
      have := congrArg List.length c5
      rw [List.length_append, List.length_cons, List.length_cons] at this
      omega
    have hcn := iB_cnt (es.map ic)
    rw [List.length_map] at hcn
    have h125 := c6.2.2.2.1
    have hpos : ¬ nI Z.length < 0 := nI_pos (by omega)
    have body : b_Tr_nextLeaf_7 t (nI Z.length) σ = if B = [] then some (.inl (nI Z.length - 1, σ)) else some (.inr (nI Z.length, σ)) := by
      unfold b_Tr_nextLeaf_7
      rw [if_neg hpos, chk_pos (vp_in_nI (by omega) (by decide)), chk_pos (vp_in_nI (by omega) (by decide)), nI_clamp (by omega), c2, cells_eq c4, bn2_eq, c6.2.1, c3, List.length_map, lt_eq]
      by_cases hB : B = []
      · rw [if_pos hB, if_pos (by rw [← hlen, hB]; rfl), Int32.sub_eq_add_neg]
      · rw [if_neg hB, if_neg]
        intro z
        have := (nI_eq (by omega) (by omega)).mp z
        have hb1 : B.length = 0 := by omega
        exact hB (List.length_eq_zero_iff.mp hb1)
    have e1 : nI ((q, A, B) :: Z).length - 1 = nI Z.length := by rw [List.length_cons, nI_pred]
    rw [e1]
    cases B with
    | nil =>
      rw [if_pos rfl] at body
      rcases ih q loq hiq m c1 (by omega) (by omega) with ⟨h1, h2⟩ | ⟨Z1, q', A', b, B', Z2, h1, h2, h3, h4⟩
      · exact Or.inl ⟨by rw [gB, h1]; rfl, by rw [lp_l (s' := (nI Z.length - 1, σ)) body]; exact h2⟩
      · exact Or.inr ⟨(q, A, []) :: Z1, q', A', b, B', Z2, by rw [h1]; rfl, by obtain ⟨r, hr⟩ := h2; exact ⟨r, by rw [gB, hr]; rfl⟩, by rw [lp_l (s' := (nI Z.length - 1, σ)) body]; exact h3, h4⟩
    | cons b B =>
      rw [if_neg (by simp)] at body
      exact Or.inr ⟨[], q, A, b, B, Z, rfl, ⟨fM B ++ gB Z, by rw [gB, fM, List.append_assoc]⟩, lp_r body, p, lo, hi, hc0⟩
theorem descend {n t : Nat} : ∀ (d p k : Nat) (lo hi : Option Int64) (M : List Cel) (P : List Nat) (σ : Sg) (m : Nat), Tr σ n d p lo hi M P → M ≠ [] → k + M.length < 99 → d + 1 ≤ m →
    ∃ k' p' M' r σ', lp (fun q => b_Tr_nextLeaf_72 t q.1 q.2.1 q.2.2) m (nI k, nI p, σ) = some (nI k', nI p', σ') ∧ eqS σ σ' ∧ k' < 99 ∧ p' < 240 ∧ PL σ' p' M' ∧ M' ≠ [] ∧ M = M' ++ r := by
  intro d
  have leafcase : ∀ (p k : Nat) (lo hi : Option Int64) (M : List Cel) (σ : Sg) (m : Nat), Lf σ n p lo hi M → M ≠ [] → k + M.length < 99 → 1 ≤ m → ∃ k' p' M' r σ', lp (fun q => b_Tr_nextLeaf_72 t q.1 q.2.1 q.2.2) m (nI k, nI p, σ) = some (nI k', nI p', σ') ∧ eqS σ σ' ∧ k' < 99 ∧ p' < 240 ∧ PL σ' p' M' ∧ M' ≠ [] ∧ M = M' ++ r := by
    intro p k lo hi M σ m hL hM hk hm
    obtain ⟨m, rfl⟩ : ∃ m', m = m' + 1 := ⟨m - 1, by omega⟩
    refine ⟨k, p, M, [], σ, lp_r ?_, eqS.rf σ, by omega, hL.1, hL.2.1, hM, by simp⟩
    show b_Tr_nextLeaf_72 t (nI k) (nI p) σ = _
    unfold b_Tr_nextLeaf_72
    rw [leaf_L hL.1 hL.2.1, bn2_eq, if_neg (by decide)]
  induction d with
  | zero =>
    intro p k lo hi M P σ m ht hM hk hm
    exact leafcase p k lo hi M σ m ht.1 hM hk (by omega)
  | succ d ih =>
    intro p k lo hi M P σ m ht hM hk hm
    rcases ht with ht | ⟨e0, es, ⟨k1, k2, k3, k4, k5, k6⟩, rfl, rfl⟩
    · exact leafcase p k lo hi M σ m ht.1 hM hk (by omega)
    obtain ⟨m, rfl⟩ : ∃ m', m = m' + 1 := ⟨m - 1, by omega⟩
    have hes1 : 1 ≤ es.length := by
      cases es with
      | nil => exact absurd rfl k3
      | cons a b => simp
    have hl2 := fM_len es hi k6.2.2
    rw [fM, List.length_append] at hk
    obtain ⟨q, hca⟩ := childAt_eq (t := t) (J := 0) k1 (PI_congr (σ' := si (si σ 13 t (k + 1) (nI p)) 14 t (k + 1) 0) (fun j => by rw [gi_ne (by omega), gi_ne (by omega)]) k2) (Nat.zero_le _)
    have ekid : kid e0.2.1 (es.map ic) 0 = e0.2.1 := rfl
    rw [ekid, show nI 0 = (0 : Int32) from rfl] at hca
    have step : b_Tr_nextLeaf_72 t (nI k) (nI p) σ = some (.inl (nI (k + 1), nI e0.2.1, sA (si (si σ 13 t (k + 1) (nI p)) 14 t (k + 1) 0) p q)) := by
      unfold b_Tr_nextLeaf_72
      rw [leaf_I k1 k2, bn2_eq, if_pos rfl, lt_eq, nI_1, chk_pos (vp_in_nI (by omega) (by decide)), lt_eq, chk_pos (vp_in_nI (by omega) (by decide)), lt_eq, nI_clamp (by omega), hca, bn2_eq]
    have hS : eqS σ (sA (si (si σ 13 t (k + 1) (nI p)) 14 t (k + 1) 0) p q) := eqS.tr (eqS.tr (eqS_si (Or.inr (Or.inl rfl))) (eqS_si (Or.inr (Or.inr (Or.inl rfl))))) eqS_sA
    obtain ⟨k', p', M', r, σ', r1, r2, r3, r4, r5, r6, r7⟩ := ih e0.2.1 (k + 1) e0.1 (nL es hi) e0.2.2.1 e0.2.2.2 _ m (Tr_pg (fun q hq j => hS.pg hq j) _ _ _ _ _ _ k6.1) k6.2.1 (by omega) (by omega)
    exact ⟨k', p', M', r ++ fM es, σ', by rw [lp_l step]; exact r1, hS.tr r2, r3, r4, r5, r6, by rw [fM, r7, List.append_assoc]⟩
theorem Cx_cnt {σ : Sg} {n t root : Nat} : ∀ (Z : List Lv) (p : Nat) (lo hi : Option Int64), Cx σ n t root Z p lo hi → Z.length ≤ (gA Z).length + (gB Z).length := by
  intro Z
  induction Z with
  | nil => intro p lo hi _; exact Nat.zero_le _
  | cons L Z ih =>
    obtain ⟨q, A, B⟩ := L
    intro p lo hi hc
    obtain ⟨loq, hiq, e0, es, c1, c2, c3, c4, c5, c6, c7, c8, c9, c10, c11, c12⟩ := hc
    have h1 := ih q loq hiq c1
    have hA := fM_len A _ c11
    have hB := fM_len B _ c12
    have hlen : A.length + B.length = es.length := by
      have := congrArg List.length c5
      rw [List.length_append, List.length_cons, List.length_cons] at this
      omega
    have hes1 : 1 ≤ es.length := by
      cases es with
      | nil => exact absurd rfl c7
      | cons a b => simp
    rw [gA, gB, List.length_append, List.length_append, List.length_cons]
    omega
theorem gB_app : ∀ (Z1 Z2 : List Lv), gB (Z1 ++ Z2) = gB Z1 ++ gB Z2 := by
  intro Z1
  induction Z1 with
  | nil => intro Z2; rfl
  | cons L Z ih =>
    obtain ⟨q, A, B⟩ := L
    intro Z2
    rw [List.cons_append, gB, gB, ih, List.append_assoc]
theorem gA_app : ∀ (Z1 Z2 : List Lv), gA (Z1 ++ Z2) = gA Z2 ++ gA Z1 := by
  intro Z1
  induction Z1 with
  | nil => intro Z2; rw [gA, List.append_nil]; rfl
  | cons L Z ih =>
    obtain ⟨q, A, B⟩ := L
    intro Z2
    rw [List.cons_append, gA, gA, ih, List.append_assoc]
/-- the first cell of the next leaf -/
theorem nextLeaf_eq {σ : Sg} {n t root : Nat} {Z : List Lv} {p : Nat} {lo hi : Option Int64} (hc : Cx σ n t root Z p lo hi) (hd : gi σ 3 t 6 = nI Z.length) (hsz : (gA Z).length + (gB Z).length ≤ 91) :
    (gB Z = [] ∧ f_Tr_nextLeaf t σ = some (0, σ)) ∨ (∃ c r σ' k p' M', gB Z = c :: r ∧ f_Tr_nextLeaf t σ = some (1, σ') ∧ eqS σ σ' ∧ k < 100 ∧ gi σ' 3 t 6 = nI k ∧ gi σ' 13 t k = nI p' ∧ p' < 240 ∧ PL σ' p' (c :: M') ∧ gi σ' 3 t 7 = nI 2) := by
  have hz := Cx_cnt Z p lo hi hc
  rcases climb Z p lo hi FU hc (by omega) (by unfold FU; omega) with ⟨h1, h2⟩ | ⟨Z1, q, A, b, B, Z2, h1, ⟨r9, h2⟩, h3, p', lo', hi', h4⟩
  · left
    refine ⟨h1, ?_⟩
    unfold f_Tr_nextLeaf l_Tr_nextLeaf_7
    rw [lt_eq, hd, h2, bn2_eq, if_neg (by decide)]
  · right
    have hz2 := h4
    have hcn2 := Cx_cnt _ _ _ _ h4
    obtain ⟨loq, hiq, e0, es, c1, c2, c3, c4, c5, c6, c7, c8, c9, c10, c11, c12⟩ := h4
    have hcn3 := Cx_cnt Z2 q loq hiq c1
    have hszB : Z2.length + b.2.2.1.length ≤ 91 := by
      have e1 : (gB Z).length = (gB Z1).length + ((fM (b :: B)).length + (gB Z2).length) := by rw [h1, gB_app, List.length_append, gB, List.length_append]
      have e2 : (gA Z).length = (gA Z2).length + (fM A).length + (gA Z1).length := by rw [h1, gA_app, List.length_append, gA, List.length_append]
      rw [fM, List.length_append] at e1
      omega
    obtain ⟨⟨d0, hb1⟩, hb2, hb3⟩ := c12
    have hb1 := Tr_h _ _ _ _ _ _ hb1
    have hlen : A.length + (B.length + 1) = es.length := by
      have := congrArg List.length c5
      simp only [List.length_append, List.length_cons] at this
      omega
    have hkid : kid e0.2.1 (es.map ic) (A.length + 1) = b.2.1 := by
      rw [kid_ent, ← c5, List.map_append, List.map_cons, List.map_cons, List.getD_eq_getElem?_getD, List.getElem?_append_right (by rw [List.length_map]; omega), List.length_map, show A.length + 1 - A.length = 1 by omega]
      rfl
    have hS1 : eqS σ (si σ 14 t Z2.length (nI (A.length + 1))) := eqS_si (Or.inr (Or.inr (Or.inl rfl)))
    obtain ⟨q9, hca⟩ := childAt_eq (t := t) (J := A.length + 1) c4 (PI_congr (fun j => hS1.pg c4 j) c6) (by rw [List.length_map]; omega)
    rw [hkid] at hca
    have hS2 : eqS σ (sA (si σ 14 t Z2.length (nI (A.length + 1))) q q9) := hS1.tr eqS_sA
    obtain ⟨k', p9, M', r', σ3, r1, r2, r3, r4, r5, r6, r7⟩ := descend (t := t) b.2.2.1.length b.2.1 Z2.length b.1 (nL B hiq) b.2.2.1 b.2.2.2 _ FU (Tr_pg (fun q hq j => hS2.pg hq j) _ _ _ _ _ _ hb1) hb2 (by omega) (by unfold FU; omega)
    have hdep : Z2.length < 100 := by omega
    have hrun : f_Tr_nextLeaf t σ = some (1, si (si (si (si σ3 3 t 6 (nI (k' + 1))) 13 t (k' + 1) (nI p9)) 3 t 7 2) 3 t 9 0) := by
      unfold f_Tr_nextLeaf l_Tr_nextLeaf_7 l_Tr_nextLeaf_72
      rw [lt_eq, hd, h3, bn2_eq, if_pos (nI_pos' (by omega)), chk_pos (vp_in_nI hdep (by decide)), chk_pos (vp_in_nI hdep (by decide)), lt_eq, nI_clamp (by omega), c3, nI_1, chk_pos (vp_in_nI hdep (by decide)), chk_pos (vp_in_nI hdep (by decide)), gi_ne (by omega), c2, gi_eq, hca, bn2_eq, r1, bn3_eq, lt_eq, nI_1, gi_eq, chk_pos (vp_in_nI (by omega) (by decide)), lt_eq, nI_clamp (by omega), lt_eq, lt_eq]
    have hS4 : eqS σ3 (si (si (si (si σ3 3 t 6 (nI (k' + 1))) 13 t (k' + 1) (nI p9)) 3 t 7 2) 3 t 9 0) := by
      refine eqS.tr (eqS.tr (eqS.tr (eqS_si ?_) (eqS_si ?_)) (eqS_si ?_)) (eqS_si ?_) <;> (unfold scr; omega)
    obtain ⟨c, M'', rfl⟩ : ∃ c M'', M' = c :: M'' := by
      cases M' with
      | nil => exact absurd rfl r6
      | cons c M'' => exact ⟨c, M'', rfl⟩
    refine ⟨c, M'' ++ r' ++ r9, _, k' + 1, p9, M'', ?_, hrun, (hS2.tr r2).tr hS4, by omega, ?_, ?_, r4, PL_congr (fun j => hS4.pg r4 j) r5, ?_⟩
    · rw [h2, r7]; simp
    · rw [gi_ne (by omega), gi_ne (by omega), gi_ne (by omega), gi_eq]
    · rw [gi_ne (by omega), gi_ne (by omega), gi_eq]
    · rw [gi_ne (by omega), gi_eq]; rfl
theorem key_eq {σ : Sg} {t k p : Nat} {pre r : List Cel} {c : Cel} (hk : k < 100) (hd : gi σ 3 t 6 = nI k) (hw : gi σ 13 t k = nI p) (hp : p < 240) (h : PL σ p (pre ++ c :: r)) (hb : gi σ 3 t 7 = nI (2 + (lB pre).length)) : ∃ σ', f_Tr_key t σ = some (c.1, σ') ∧ eqS σ σ' := by
  obtain ⟨h0, h1, hs, hl⟩ := h
  rw [lB_app, lB] at hs hl
  obtain ⟨-, hs1⟩ := sp_app.mp hs
  obtain ⟨hs2, -⟩ := sp_app.mp hs1
  unfold encC at hs2
  obtain ⟨hs3, -⟩ := sp_app.mp hs2
  rw [List.length_append, List.length_append] at hl
  unfold encC at hl
  rw [List.length_append] at hl
  refine ⟨sA σ p (2 + (lB pre).length + (enc c.1).length), ?_, eqS_sA⟩
  unfold f_Tr_key f_Tr_leaf
  rw [hd, chk_pos (vp_in_nI hk (by decide)), nI_clamp (by omega), hw, bn2_eq, open_eq hp, bn2_eq, lt_eq, gi_sA10 _ _ _ _ _ _ (by decide), hb]
  have e1 : si (sA σ p 2) 2 p 1 (nI (2 + (lB pre).length)) = sA σ p (2 + (lB pre).length) := sA_sA _ _ _ _
  rw [e1, takeNumber_eq (at_sA _ _ _) (by rw [pg_len hp]; omega) (sp_sA.mpr hs3), bn2_eq, sA_sA]
/-- the cells not below a key, or above it -/
def nxt (key : Int64) (ab : Int32) (M : List Cel) : List Cel := M.filter (fun c => if ab = 0 then !decide (c.1 < key) else decide (key < c.1))
/-- the same as to what a tree's key is read from -/
def kS (σ τ : Sg) : Prop := ∀ a b c, (a = 3 ∨ a = 10 ∨ a = 13) → gi τ a b c = gi σ a b c
theorem seek_eqT {σ : Sg} {n t root : Nat} {M : List Cel} {P : List Nat} (h : TO σ n t root M P) (key : Int64) (ab : Int32) : ∃ r σ', f_Tr_seek t key ab σ = some (r, σ') ∧ eqS σ σ' ∧ (nxt key ab M = [] → r = 0) ∧ (∀ c l, nxt key ab M = c :: l → r = 1 ∧ ∀ τ, kS σ' τ → ∃ σ'', f_Tr_key t τ = some (c.1, σ'') ∧ eqS τ σ'') := by
  have hM91 := h.2.2.2.2.2
  obtain ⟨Z, p, lo, hi, pre, post, σ1, h1, h2, h3, h4, h5⟩ := find_eq h key
  have hf := fnd_found h3
  have hfr := frm_eq h3
  obtain ⟨f1, f2, f3, f4, f5, f6, f7, f8, f9, f10, f11, f12, f13, f14⟩ := h3
  have hcnt := lB_cnt (cs := pre ++ post) (fun c hc => by rw [(f2.2.2.1 c hc).1]; exact h.2.2.2.1)
  have h126 := f2.2.1.2.2.2
  -- what is looked for, in the leaf and behind it
  obtain ⟨pr, po, σ2, g1, g2, g3, g4, g5, g6⟩ : ∃ pr po σ2, pre ++ post = pr ++ po ∧ nxt key ab M = po ++ gB Z ∧ eqW t σ1 σ2 ∧ gi σ2 3 t 9 = nI pr.length ∧ gi σ2 3 t 7 = nI (2 + (lB pr).length) ∧ (Option.bind (if (gi σ1 3 t 10) = 0 then (some (σ1)) else (if ab = 0 then (some (σ1)) else (lt_ (si σ1 3 t 7 (gi σ1 3 t 8)) (fun σ6 => lt_ (si σ6 3 t 9 ((gi σ6 3 t 9) + 1)) (fun σ7 => some (σ7)))))) some) = some σ2 := by
    have base : ab = 0 → nxt key ab M = post ++ gB Z := fun hab => by
      unfold nxt
      rw [hab]
      simp only [if_true]
      rw [← h4]
      exact hfr
    by_cases hab : ab = 0
    · refine ⟨pre, post, σ1, rfl, base hab, eqW.rf t σ1, f11, f12, ?_⟩
      rw [if_pos hab]
      split <;> rfl
    · have hn : nxt key ab M = (post ++ gB Z).filter (fun c => decide (key < c.1)) := by
        rw [← hfr, h4]
        unfold frm nxt
        simp only [if_neg hab]
        rw [List.filter_filter]
        congr 1
        funext c
        by_cases hk : key < c.1
        · have : ¬ c.1 < key := fun z => Int64.lt_irrefl (Int64.lt_trans hk z)
          simp [hk, this]
        · simp [hk]
      obtain ⟨b1, b2⟩ := Cx_bnd Z p lo hi f1
      have hgB : (gB Z).filter (fun c => decide (key < c.1)) = gB Z := by
        rw [List.filter_eq_self]
        intro c hc
        obtain ⟨b, hb1, hb2⟩ := b2 c hc
        exact decide_eq_true (Int64.lt_of_lt_of_le (f4 b hb1) hb2)
      have hsort := (List.pairwise_append.mp f2.2.2.2).2.1
      by_cases hfd : ∃ c r, post = c :: r ∧ c.1 = key
      · obtain ⟨c, r, rfl, hk⟩ := hfd
        refine ⟨pre ++ [c], r, si (si σ1 3 t 7 (gi σ1 3 t 8)) 3 t 9 (gi σ1 3 t 9 + 1), by simp, ?_, (eqW_si (by decide)).tr (eqW_si (by decide)), ?_, ?_, ?_⟩
        · rw [hn, List.filter_append, hgB, List.filter_cons, if_neg (by rw [hk]; simp [Int64.lt_irrefl])]
          congr 1
          rw [List.filter_eq_self]
          intro z hz
          have := (List.pairwise_cons.mp hsort).1 z hz
          rw [hk] at this
          exact decide_eq_true this
        · rw [gi_eq, f11, nI_1, List.length_append, List.length_singleton]
        · rw [gi_ne (by omega), gi_eq, (f13 c r rfl).1, lB_app, lB, lB, List.append_nil, List.length_append, Nat.add_assoc]
        · rw [hf.1 ⟨c, r, rfl, hk⟩, if_neg (by decide), if_neg hab, lt_eq, lt_eq, gi_ne (by omega)]
          rfl
      · refine ⟨pre, post, σ1, rfl, ?_, eqW.rf t σ1, f11, f12, ?_⟩
        · rw [hn, List.filter_append, hgB]
          congr 1
          rw [List.filter_eq_self]
          intro z hz
          have h9 := f10 z hz
          have hne : z.1 ≠ key := by
            intro hzk
            cases post with
            | nil => cases hz
            | cons c r =>
              rcases List.mem_cons.mp hz with rfl | hz
              · exact hfd ⟨z, r, rfl, hzk⟩
              · have h8 := (List.pairwise_cons.mp hsort).1 z hz
                rw [hzk] at h8
                exact f10 c List.mem_cons_self h8
          refine decide_eq_true ?_
          rcases Int64.lt_or_eq_of_le (Int64.not_lt.mp h9) with h8 | h8
          · exact h8
          · exact absurd h8.symm hne
        · rw [hf.2 hfd, if_pos rfl]
          rfl
  have hL2 := Lf_S g3.1 f2
  rw [g1] at hL2 hcnt h126
  have hC2 := Cx_W g3 f1
  have hd2 : gi σ2 3 t 6 = nI Z.length := by rw [g3.2.2.2]; exact f5
  have hw2 : gi σ2 13 t Z.length = nI p := by rw [g3.2.1]; exact f6
  have hp := f2.1
  have hdep : Z.length < 100 := by omega
  have hpre : ∀ (k : Sg → Option (Int32 × Sg)), Option.bind (if (gi σ1 3 t 10) = 0 then (some (σ1)) else (if ab = 0 then (some (σ1)) else (lt_ (si σ1 3 t 7 (gi σ1 3 t 8)) (fun σ6 => lt_ (si σ6 3 t 9 ((gi σ6 3 t 9) + 1)) (fun σ7 => some (σ7)))))) k = k σ2 := by
    intro k
    generalize hX : (if (gi σ1 3 t 10) = 0 then (some (σ1)) else (if ab = 0 then (some (σ1)) else (lt_ (si σ1 3 t 7 (gi σ1 3 t 8)) (fun σ6 => lt_ (si σ6 3 t 9 ((gi σ6 3 t 9) + 1)) (fun σ7 => some (σ7)))))) = X at g6 ⊢
    cases X with
    | none => cases g6
    | some y => cases g6; rfl
  have hlen : (pr ++ po).length = pr.length + po.length := List.length_append
  rw [hlen] at hcnt
  have hrun : f_Tr_seek t key ab σ = bn2 (if nI pr.length < nI (pr.length + po.length) then (some ((1 : Int32), σ2)) else (bn2 (f_Tr_nextLeaf t σ2) (fun r22 σ20 => (if r22 = 0 then (some (0, σ20)) else (some (1, σ20)))))) (fun (x16 : Int32) (σ17 : Sg) => chk (zb x16) (some (x16, σ17))) := by
    unfold f_Tr_seek f_Tr_leaf
    rw [h1, bnd_eq, hpre, hd2, chk_pos (vp_in_nI hdep (by decide)), nI_clamp (by omega), hw2, bn2_eq, cells_eq hp, bn2_eq, g4, hL2.2.1.2.1, hlen]
  cases po with
  | cons c r =>
    rw [if_pos (nI_lt (by rw [List.length_cons]; omega) (by omega)), bn2_eq, chk_pos zb1] at hrun
    refine ⟨1, σ2, hrun, h2.tr g3.1, (fun z => by rw [g2] at z; cases z), fun c' l hcl => ?_⟩
    rw [g2, List.cons_append] at hcl
    obtain ⟨rfl, rfl⟩ := List.cons.inj hcl
    exact ⟨rfl, fun τ hτ => key_eq hdep ((hτ _ _ _ (by omega)).trans hd2) ((hτ _ _ _ (by omega)).trans hw2) hp (PL_congr (fun j => hτ _ _ _ (by omega)) hL2.2.1) ((hτ _ _ _ (by omega)).trans g5)⟩
  | nil =>
    rw [List.length_nil, Nat.add_zero, if_neg (nI_nlt (Nat.le_refl _) (by omega))] at hrun
    rw [List.nil_append] at g2
    have hsz : (gA Z).length + (gB Z).length ≤ 91 := by
      rw [← h4, gM_eq, List.length_append, List.length_append] at hM91
      omega
    rcases nextLeaf_eq hC2 hd2 hsz with ⟨n1, n2⟩ | ⟨c, r, σ', k, p', M', n1, n2, n3, n4, n5, n6, n7, n8, n9⟩
    · rw [n2, bn2_eq, if_pos rfl, bn2_eq, chk_pos zb0] at hrun
      exact ⟨0, σ2, hrun, h2.tr g3.1, fun _ => rfl, (fun c l hcl => by rw [g2, n1] at hcl; cases hcl)⟩
    · rw [n2, bn2_eq, if_neg (by decide), bn2_eq, chk_pos zb1] at hrun
      refine ⟨1, σ', hrun, (h2.tr g3.1).tr n3, (fun z => by rw [g2, n1] at z; cases z), fun c' l hcl => ?_⟩
      rw [g2, n1] at hcl
      obtain ⟨rfl, rfl⟩ := List.cons.inj hcl
      exact ⟨rfl, fun τ hτ => key_eq (pre := []) n4 ((hτ _ _ _ (by omega)).trans n5) ((hτ _ _ _ (by omega)).trans n6) n7 (PL_congr (fun j => hτ _ _ _ (by omega)) n8) ((hτ _ _ _ (by omega)).trans n9)⟩
theorem seek_eq {σ : Sg} {n t root : Nat} {M : List Cel} {P : List Nat} (h : TO σ n t root M P) (key : Int64) (ab : Int32) : ∃ r σ', f_Tr_seek t key ab σ = some (r, σ') ∧ eqS σ σ' ∧ (nxt key ab M = [] → r = 0) ∧ (∀ c l, nxt key ab M = c :: l → r = 1 ∧ ∃ σ'', f_Tr_key t σ' = some (c.1, σ'') ∧ eqS σ' σ'') := by
  obtain ⟨r, σ', h1, h2, h3, h4⟩ := seek_eqT h key ab
  exact ⟨r, σ', h1, h2, h3, fun c l hcl => ⟨(h4 c l hcl).1, (h4 c l hcl).2 σ' (fun _ _ _ _ => rfl)⟩⟩
