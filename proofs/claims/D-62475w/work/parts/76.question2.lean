/-! the plain law: output, condition, join -/
theorem snoc_cs {α : Type} {A : List α} {x y : α} {i : Nat} (h : (A ++ [x])[i]? = some y) : (i < A.length ∧ A[i]? = some y) ∨ (i = A.length ∧ y = x) := by
  by_cases hi : i < A.length
  · rw [List.getElem?_append_left hi] at h
    exact Or.inl ⟨hi, h⟩
  · rw [List.getElem?_append_right (by omega)] at h
    have h0 : i - A.length = 0 := by
      have := (List.getElem?_eq_some_iff.mp h).1
      rw [List.length_singleton] at this
      omega
    rw [h0] at h
    have hx : x = y := by simpa using h
    exact Or.inr ⟨by omega, hx.symm⟩
theorem nI_2 (a : Nat) : 2 * nI a = nI (2 * a) := by rw [show (2 : Int32) = nI 2 from rfl, nI_mul]
theorem nI_eq4 {L : Nat} (h : L ≤ 4) : nI L = (4 : Int32) ↔ L = 4 := ⟨fun z => nI_inj (by omega) (by decide) (z.trans (show (4 : Int32) = nI 4 from rfl)), fun z => by rw [z]; rfl⟩
theorem Db_cols {σ : Sg} {N : Nat} {col : Nat → Nat} {R : List Row} (hd : Db σ N col R) : ∀ t, t < N → 1 ≤ col t ∧ col t ≤ 4 := fun t ht => ⟨(Ct_col hd.1 ht).2.1, (Ct_col hd.1 ht).2.2.1⟩
theorem law_15 {σ : Sg} (a1 a2 a3 a4 : Int32) (h : Iv σ) : ∃ σ', g_law_15 a1 a2 a3 a4 σ = some σ' ∧ Iv σ' := by
  unfold g_law_15
  have hi := h
  obtain ⟨N, col, R, v, Q, Rs, ⟨q1, q2, cs, os, j0, j1, j2⟩, hd, hr⟩ := h
  obtain ⟨f1, f2, f3, f4, f5, f6, f7⟩ := Db_fit hd
  obtain ⟨qc, qm, qw⟩ := hr.2.2.2.1
  obtain ⟨x1, x2, x3, x4, x5, x6, x7, x8, x9⟩ := qc
  obtain ⟨y1, y2, y3, y4, y5, y6, y7, y8, y9⟩ := qm
  obtain ⟨x, hx, hx1, tc, tm⟩ := isCol_cs (R := R) qw f2 (Db_cols hd) a1 a2
  have hol : os.length ≤ 4 := qw.2.2.2.2.1
  have x4' : gi σ 0 0 20 = nI os.length := x4
  have y4' : gi σ 9 0 25 = nI os.length := y4
  unfold f_TM_output f_Md_output
  by_cases h4 : os.length = 4
  · refine ⟨si σ 9 0 0 0, ?_, Iv_fI fI_thr hi⟩
    have e4 := (nI_eq4 hol).mpr h4
    rw [x4', if_pos e4, bn2_eq, lt_eq, gi_ne (by omega), y4', if_pos e4, bn2_eq, if_pos rfl]
  · have e4 : ¬ nI os.length = (4 : Int32) := fun z => h4 ((nI_eq4 hol).mp z)
    have c1 := tc σ hd.1 x1 x2
    rcases hx with rfl | rfl
    · have c2 := tm (si σ 9 0 0 0) (Db_fD (fI_thr (x := 0)).1 hd).2.2.1 (by rw [gi_ne (by omega)]; exact y1) (by rw [gi_ne (by omega)]; exact y2)
      refine ⟨si σ 9 0 0 0, ?_, Iv_fI fI_thr hi⟩
      rw [x4', if_neg e4, c1, bn2_eq, i00, bn2_eq, lt_eq, gi_ne (by omega), y4', if_neg e4, c2, bn2_eq, i00, bn2_eq, if_pos rfl]
    · obtain ⟨hp, hq⟩ := hx1 rfl
      generalize hL : os.length = L at *
      have a20 : ∀ z, gi (si σ 25 0 (2 * L) z) 0 0 20 = nI L := fun z => by rw [gi_ne (by omega)]; exact x4'
      have b20 : ∀ z w, gi (si (si σ 25 0 (2 * L) z) 25 0 (2 * L + 1) w) 0 0 20 = nI L := fun z w => by rw [gi_ne (by omega), gi_ne (by omega)]; exact x4'
      have i1 : vp_in (nI (2 * L)) 8 := vp_in_nI (by omega) (by decide)
      have i2 : vp_in (nI (2 * L + 1)) 8 := vp_in_nI (by omega) (by decide)
      have l1 : (nI (2 * L)).toNatClampNeg = 2 * L := nI_clamp (by omega)
      have l2 : (nI (2 * L + 1)).toNatClampNeg = 2 * L + 1 := nI_clamp (by omega)
      generalize hσ1 : si (si (si σ 25 0 (2 * L) a1) 25 0 (2 * L + 1) a2) 0 0 20 (nI (L + 1)) = σ1
      have k1 : ∀ a b c, ¬ (a = 0 ∧ c = 20) → ¬ (a = 25 ∧ (c = 2 * L ∨ c = 2 * L + 1)) → gi σ1 a b c = gi σ a b c := fun a b c z1 z2 => by
        rw [← hσ1, gi_ne (by omega), gi_ne (by omega), gi_ne (by omega)]
      have hd1 : Db (si σ1 9 0 0 0) N col R := Db_q hd (fun a b c hh => by rw [gi_ne (by omega)]; exact k1 a b c (by omega) (by omega)) (fun a b c => by rw [← hσ1]; rfl) (by rw [← hσ1]; rfl)
      have m25 : gi (si σ1 9 0 0 0) 9 0 25 = nI L := by rw [gi_ne (by omega), k1 _ _ _ (by omega) (by omega)]; exact y4'
      have c2 := tm (si σ1 9 0 0 0) hd1.2.2.1 (by rw [gi_ne (by omega), k1 _ _ _ (by omega) (by omega)]; exact y1) (by rw [gi_ne (by omega), k1 _ _ _ (by omega) (by omega)]; exact y2)
      have a25 : ∀ z, gi (si (si σ1 9 0 0 0) 42 0 (2 * L) z) 9 0 25 = nI L := fun z => by rw [gi_ne (by omega)]; exact m25
      have b25 : ∀ z w, gi (si (si (si σ1 9 0 0 0) 42 0 (2 * L) z) 42 0 (2 * L + 1) w) 9 0 25 = nI L := fun z w => by rw [gi_ne (by omega), gi_ne (by omega)]; exact m25
      generalize hσ2 : si (si (si (si σ1 9 0 0 0) 42 0 (2 * L) a1) 42 0 (2 * L + 1) a2) 9 0 25 (nI (L + 1)) = σ2
      have k2 : ∀ a b c, ¬ (a = 0 ∧ c = 20) → ¬ (a = 25 ∧ (c = 2 * L ∨ c = 2 * L + 1)) → ¬ (a = 9 ∧ (c = 0 ∨ c = 25)) → ¬ (a = 42 ∧ (c = 2 * L ∨ c = 2 * L + 1)) → gi σ2 a b c = gi σ a b c := fun a b c z1 z2 z3 z4 => by
        rw [← hσ2, gi_ne (by omega), gi_ne (by omega), gi_ne (by omega), gi_ne (by omega)]
        exact k1 a b c z1 z2
      refine ⟨σ2, ?_, N, col, R, v, Q, Rs, (q1, q2, cs, os ++ [(a1, a2)], j0, j1, j2), Db_q hd (fun a b c hh => k2 a b c (by omega) (by omega) (by omega) (by omega)) (fun a b c => by rw [← hσ2, ← hσ1]; rfl) (by rw [← hσ2, ← hσ1]; rfl), Rt_q hr (fun a b c hh => k2 a b c (by omega) (by omega) (by omega) (by omega)) (fun a b c => by rw [← hσ2, ← hσ1]; rfl) (fun a b c => by rw [← hσ2, ← hσ1]; rfl) (by rw [← hσ2, ← hσ1]; rfl) ⟨?_, ?_, ?_, ?_, ?_, ?_, ?_, fun i x hx => ?_, fun i x hx => ?_⟩ ⟨?_, ?_, ?_, ?_, ?_, ?_, ?_, fun i x hx => ?_, fun i x hx => ?_⟩ ?_⟩
      · rw [x4', if_neg e4, c1, bn2_eq, i10, x4', nI_2, chk_pos i1, l1, lt_eq, a20, nI_2, nI_1, chk_pos i2, l2, lt_eq, b20, nI_1, lt_eq, hσ1, bn2_eq, lt_eq, m25, if_neg e4, c2, bn2_eq, i10, m25, nI_2, chk_pos i1, l1, lt_eq, a25, nI_2, nI_1, chk_pos i2, l2, lt_eq, b25, nI_1, lt_eq, hσ2, bn2_eq, if_pos rfl]
      · exact (k2 _ _ _ (by omega) (by omega) (by omega) (by omega)).trans x1
      · exact (k2 _ _ _ (by omega) (by omega) (by omega) (by omega)).trans x2
      · exact (k2 _ _ _ (by omega) (by omega) (by omega) (by omega)).trans x3
      · show _ = nI (os ++ [(a1, a2)]).length
        rw [← hσ2, gi_ne (by omega), gi_ne (by omega), gi_ne (by omega), gi_ne (by omega), ← hσ1, gi_eq, List.length_append, List.length_singleton, hL]
      · exact (k2 _ _ _ (by omega) (by omega) (by omega) (by omega)).trans x5
      · exact (k2 _ _ _ (by omega) (by omega) (by omega) (by omega)).trans x6
      · exact (k2 _ _ _ (by omega) (by omega) (by omega) (by omega)).trans x7
      · obtain ⟨z1, z2, z3, z4⟩ := x8 i x hx
        exact ⟨(k2 _ _ _ (by omega) (by omega) (by omega) (by omega)).trans z1, (k2 _ _ _ (by omega) (by omega) (by omega) (by omega)).trans z2, (k2 _ _ _ (by omega) (by omega) (by omega) (by omega)).trans z3, (k2 _ _ _ (by omega) (by omega) (by omega) (by omega)).trans z4⟩
      · rcases snoc_cs hx with ⟨z, z1⟩ | ⟨rfl, rfl⟩
        · obtain ⟨w1, w2⟩ := x9 i x z1
          exact ⟨(k2 _ _ _ (by omega) (by omega) (by omega) (by omega)).trans w1, (k2 _ _ _ (by omega) (by omega) (by omega) (by omega)).trans w2⟩
        · rw [hL]
          refine ⟨?_, ?_⟩
          · rw [← hσ2, gi_ne (by omega), gi_ne (by omega), gi_ne (by omega), gi_ne (by omega), ← hσ1, gi_ne (by omega), gi_ne (by omega), gi_eq]
          · rw [← hσ2, gi_ne (by omega), gi_ne (by omega), gi_ne (by omega), gi_ne (by omega), ← hσ1, gi_ne (by omega), gi_eq]
      · exact (k2 _ _ _ (by omega) (by omega) (by omega) (by omega)).trans y1
      · exact (k2 _ _ _ (by omega) (by omega) (by omega) (by omega)).trans y2
      · exact (k2 _ _ _ (by omega) (by omega) (by omega) (by omega)).trans y3
      · show _ = nI (os ++ [(a1, a2)]).length
        rw [← hσ2, gi_eq, List.length_append, List.length_singleton, hL]
      · exact (k2 _ _ _ (by omega) (by omega) (by omega) (by omega)).trans y5
      · exact (k2 _ _ _ (by omega) (by omega) (by omega) (by omega)).trans y6
      · exact (k2 _ _ _ (by omega) (by omega) (by omega) (by omega)).trans y7
      · obtain ⟨z1, z2, z3, z4⟩ := y8 i x hx
        exact ⟨(k2 _ _ _ (by omega) (by omega) (by omega) (by omega)).trans z1, (k2 _ _ _ (by omega) (by omega) (by omega) (by omega)).trans z2, (k2 _ _ _ (by omega) (by omega) (by omega) (by omega)).trans z3, (k2 _ _ _ (by omega) (by omega) (by omega) (by omega)).trans z4⟩
      · rcases snoc_cs hx with ⟨z, z1⟩ | ⟨rfl, rfl⟩
        · obtain ⟨w1, w2⟩ := y9 i x z1
          exact ⟨(k2 _ _ _ (by omega) (by omega) (by omega) (by omega)).trans w1, (k2 _ _ _ (by omega) (by omega) (by omega) (by omega)).trans w2⟩
        · rw [hL]
          refine ⟨?_, ?_⟩
          · rw [← hσ2, gi_ne (by omega), gi_ne (by omega), gi_eq]
          · rw [← hσ2, gi_ne (by omega), gi_eq]
      · obtain ⟨u1, u2, u3, u4, u5, u6, u7, u8, u9⟩ := qw
        refine ⟨u1, u2, u3, u4, ?_, u6, fun x hx => ?_, u8, u9⟩
        · show (os ++ [(a1, a2)]).length ≤ 4
          rw [List.length_append, List.length_singleton]
          omega
        · rcases List.mem_append.mp hx with hx | hx
          · exact u7 x hx
          · rcases List.mem_singleton.mp hx with rfl
            exact ⟨hp, hq⟩
theorem a_le7 {a : Int32} (h0 : ¬ a < 0) (h7 : a ≤ 7) : ∃ k, k ≤ 7 ∧ a = nI k := by
  obtain ⟨k, hk, rfl⟩ := nI_ofn h0
  refine ⟨k, ?_, rfl⟩
  rcases Nat.lt_or_ge 7 k with z | z
  · exact absurd h7 (nI_ge (a := 7) z hk)
  · exact z
theorem law_16 {σ : Sg} (a1 a2 a3 a4 : Int32) (h : Iv σ) : ∃ σ', g_law_16 a1 a2 a3 a4 σ = some σ' ∧ Iv σ' := by
  unfold g_law_16
  have hi := h
  obtain ⟨N, col, R, v, Q, Rs, ⟨q1, q2, cs, os, j0, j1, j2⟩, hd, hr⟩ := h
  obtain ⟨f1, f2, f3, f4, f5, f6, f7⟩ := Db_fit hd
  obtain ⟨qc, qm, qw⟩ := hr.2.2.2.1
  obtain ⟨x1, x2, x3, x4, x5, x6, x7, x8, x9⟩ := qc
  obtain ⟨y1, y2, y3, y4, y5, y6, y7, y8, y9⟩ := qm
  obtain ⟨x, hx, hx1, tc, tm⟩ := isCol_cs (R := R) qw f2 (Db_cols hd) a1 a2
  have hol : cs.length ≤ 4 := qw.2.2.2.1
  have x4' : gi σ 0 0 18 = nI cs.length := x3
  have y4' : gi σ 9 0 27 = nI cs.length := y3
  unfold f_TM_condition f_Md_condition
  by_cases h4 : cs.length = 4
  · refine ⟨si σ 9 0 0 0, ?_, Iv_fI fI_thr hi⟩
    have e4 := (nI_eq4 hol).mpr h4
    rw [x4', if_pos e4, bn2_eq, lt_eq, gi_ne (by omega), y4', if_pos e4, bn2_eq, if_pos rfl]
  · have e4 : ¬ nI cs.length = (4 : Int32) := fun z => h4 ((nI_eq4 hol).mp z)
    have c1 := tc σ hd.1 x1 x2
    have c2 := tm (si σ 9 0 0 0) (Db_fD (fI_thr (x := 0)).1 hd).2.2.1 (by rw [gi_ne (by omega)]; exact y1) (by rw [gi_ne (by omega)]; exact y2)
    rcases hx with rfl | rfl
    · refine ⟨si σ 9 0 0 0, ?_, Iv_fI fI_thr hi⟩
      rw [x4', if_neg e4, c1, bn2_eq, i00, bn2_eq, lt_eq, gi_ne (by omega), y4', if_neg e4, c2, bn2_eq, i00, bn2_eq, if_pos rfl]
    · by_cases h30 : a3 < 0
      · refine ⟨si σ 9 0 0 0, ?_, Iv_fI fI_thr hi⟩
        rw [x4', if_neg e4, c1, bn2_eq, i10, if_pos h30, bn2_eq, lt_eq, gi_ne (by omega), y4', if_neg e4, c2, bn2_eq, i10, if_pos h30, bn2_eq, if_pos rfl]
      by_cases h37 : ¬ a3 ≤ 7
      · refine ⟨si σ 9 0 0 0, ?_, Iv_fI fI_thr hi⟩
        rw [x4', if_neg e4, c1, bn2_eq, i10, if_neg h30, if_neg h37, bn2_eq, lt_eq, gi_ne (by omega), y4', if_neg e4, c2, bn2_eq, i10, if_neg h30, if_neg h37, bn2_eq, if_pos rfl]
      have h37 := Classical.not_not.mp h37
      clear c2
      obtain ⟨hp, hq⟩ := hx1 rfl
      have hkk := a_le7 h30 h37
      generalize hL : cs.length = L at *
      have l1 : (nI L).toNatClampNeg = L := nI_clamp (by omega)
      have i4 : vp_in (nI L) 4 := vp_in_nI (by omega) (by decide)
      have b18 : gi (si (si (si (si σ 8 L 0 a1) 8 L 1 a2) 8 L 2 a3) 8 L 3 a4) 0 0 18 = nI L := by rw [gi_ne (by omega), gi_ne (by omega), gi_ne (by omega), gi_ne (by omega)]; exact x4'
      generalize hσ1 : si (si (si (si (si σ 8 L 0 a1) 8 L 1 a2) 8 L 2 a3) 8 L 3 a4) 0 0 18 (nI (L + 1)) = σ1
      have k1 : ∀ a b c, ¬ (a = 0 ∧ c = 18) → ¬ (a = 8 ∧ b = L) → gi σ1 a b c = gi σ a b c := fun a b c z1 z2 => by
        rw [← hσ1, gi_ne (by omega), gi_ne (by omega), gi_ne (by omega), gi_ne (by omega), gi_ne (by omega)]
      have hd1 : Db (si σ1 9 0 0 0) N col R := Db_q hd (fun a b c hh => by rw [gi_ne (by omega)]; exact k1 a b c (by omega) (by omega)) (fun a b c => by rw [← hσ1]; rfl) (by rw [← hσ1]; rfl)
      have m27 : gi (si σ1 9 0 0 0) 9 0 27 = nI L := by rw [gi_ne (by omega), k1 _ _ _ (by omega) (by omega)]; exact y4'
      have c2 := tm (si σ1 9 0 0 0) hd1.2.2.1 (by rw [gi_ne (by omega), k1 _ _ _ (by omega) (by omega)]; exact y1) (by rw [gi_ne (by omega), k1 _ _ _ (by omega) (by omega)]; exact y2)
      have b27 : gi (si (si (si (si (si σ1 9 0 0 0) 43 0 (4 * L) a1) 43 0 (4 * L + 1) a2) 43 0 (4 * L + 2) a3) 43 0 (4 * L + 3) a4) 9 0 27 = nI L := by rw [gi_ne (by omega), gi_ne (by omega), gi_ne (by omega), gi_ne (by omega)]; exact m27
      have p2 : nI (4 * L) + 2 = nI (4 * L + 2) := nI_plus (4 * L) 2
      have p3 : nI (4 * L) + 3 = nI (4 * L + 3) := nI_plus (4 * L) 3
      have j1' : vp_in (nI (4 * L)) 16 := vp_in_nI (by omega) (by decide)
      have j2' : vp_in (nI (4 * L + 1)) 16 := vp_in_nI (by omega) (by decide)
      have j3' : vp_in (nI (4 * L + 2)) 16 := vp_in_nI (by omega) (by decide)
      have j4' : vp_in (nI (4 * L + 3)) 16 := vp_in_nI (by omega) (by decide)
      have t1 : (nI (4 * L)).toNatClampNeg = 4 * L := nI_clamp (by omega)
      have t2 : (nI (4 * L + 1)).toNatClampNeg = 4 * L + 1 := nI_clamp (by omega)
      have t3 : (nI (4 * L + 2)).toNatClampNeg = 4 * L + 2 := nI_clamp (by omega)
      have t4 : (nI (4 * L + 3)).toNatClampNeg = 4 * L + 3 := nI_clamp (by omega)
      generalize hσ2 : si (si (si (si (si (si σ1 9 0 0 0) 43 0 (4 * L) a1) 43 0 (4 * L + 1) a2) 43 0 (4 * L + 2) a3) 43 0 (4 * L + 3) a4) 9 0 27 (nI (L + 1)) = σ2
      have k2 : ∀ a b c, ¬ (a = 0 ∧ c = 18) → ¬ (a = 8 ∧ b = L) → ¬ (a = 9 ∧ (c = 0 ∨ c = 27)) → ¬ (a = 43 ∧ 4 * L ≤ c ∧ c < 4 * L + 4) → gi σ2 a b c = gi σ a b c := fun a b c z1 z2 z3 z4 => by
        rw [← hσ2, gi_ne (by omega), gi_ne (by omega), gi_ne (by omega), gi_ne (by omega), gi_ne (by omega), gi_ne (by omega)]
        exact k1 a b c z1 z2
      refine ⟨σ2, ?_, N, col, R, v, Q, Rs, (q1, q2, cs ++ [(a1, a2, a3, a4)], os, j0, j1, j2), Db_q hd (fun a b c hh => k2 a b c (by omega) (by omega) (by omega) (by omega)) (fun a b c => by rw [← hσ2, ← hσ1]; rfl) (by rw [← hσ2, ← hσ1]; rfl), Rt_q hr (fun a b c hh => k2 a b c (by omega) (by omega) (by omega) (by omega)) (fun a b c => by rw [← hσ2, ← hσ1]; rfl) (fun a b c => by rw [← hσ2, ← hσ1]; rfl) (by rw [← hσ2, ← hσ1]; rfl) ⟨?_, ?_, ?_, ?_, ?_, ?_, ?_, fun i x hx => ?_, fun i x hx => ?_⟩ ⟨?_, ?_, ?_, ?_, ?_, ?_, ?_, fun i x hx => ?_, fun i x hx => ?_⟩ ?_⟩
      · rw [x4', if_neg e4, c1, bn2_eq, i10, if_neg h30, if_pos h37, x4', chk_pos i4, l1, lt_eq, lt_eq, lt_eq, lt_eq, b18, nI_1, lt_eq, hσ1, bn2_eq, lt_eq, m27, if_neg e4, c2, bn2_eq, i10, if_neg h30, if_pos h37, m27, lt_eq, nI_4, chk_pos j1', t1, lt_eq, nI_1, chk_pos j2', t2, lt_eq, p2, chk_pos j3', t3, lt_eq, p3, chk_pos j4', t4, lt_eq, b27, nI_1, lt_eq, hσ2, bn2_eq, if_pos rfl]
      · exact (k2 _ _ _ (by omega) (by omega) (by omega) (by omega)).trans x1
      · exact (k2 _ _ _ (by omega) (by omega) (by omega) (by omega)).trans x2
      · show _ = nI (cs ++ [(a1, a2, a3, a4)]).length
        rw [← hσ2, gi_ne (by omega), gi_ne (by omega), gi_ne (by omega), gi_ne (by omega), gi_ne (by omega), gi_ne (by omega), ← hσ1, gi_eq, List.length_append, List.length_singleton, hL]
      · exact (k2 _ _ _ (by omega) (by omega) (by omega) (by omega)).trans x4
      · exact (k2 _ _ _ (by omega) (by omega) (by omega) (by omega)).trans x5
      · exact (k2 _ _ _ (by omega) (by omega) (by omega) (by omega)).trans x6
      · exact (k2 _ _ _ (by omega) (by omega) (by omega) (by omega)).trans x7
      · rcases snoc_cs hx with ⟨z, z1⟩ | ⟨rfl, rfl⟩
        · obtain ⟨w1, w2, w3, w4⟩ := x8 i x z1
          rw [hL] at z
          exact ⟨(k2 _ _ _ (by omega) (by omega) (by omega) (by omega)).trans w1, (k2 _ _ _ (by omega) (by omega) (by omega) (by omega)).trans w2, (k2 _ _ _ (by omega) (by omega) (by omega) (by omega)).trans w3, (k2 _ _ _ (by omega) (by omega) (by omega) (by omega)).trans w4⟩
        · rw [hL]
          have hu : ∀ c, gi σ2 8 L c = gi (si (si (si (si σ 8 L 0 a1) 8 L 1 a2) 8 L 2 a3) 8 L 3 a4) 8 L c := fun c => by
            rw [← hσ2, gi_ne (by omega), gi_ne (by omega), gi_ne (by omega), gi_ne (by omega), gi_ne (by omega), gi_ne (by omega), ← hσ1, gi_ne (by omega)]
          refine ⟨?_, ?_, ?_, ?_⟩
          · rw [hu, gi_ne (by omega), gi_ne (by omega), gi_ne (by omega), gi_eq]
          · rw [hu, gi_ne (by omega), gi_ne (by omega), gi_eq]
          · rw [hu, gi_ne (by omega), gi_eq]
          · rw [hu, gi_eq]
      · obtain ⟨z1, z2⟩ := x9 i x hx
        exact ⟨(k2 _ _ _ (by omega) (by omega) (by omega) (by omega)).trans z1, (k2 _ _ _ (by omega) (by omega) (by omega) (by omega)).trans z2⟩
      · exact (k2 _ _ _ (by omega) (by omega) (by omega) (by omega)).trans y1
      · exact (k2 _ _ _ (by omega) (by omega) (by omega) (by omega)).trans y2
      · show _ = nI (cs ++ [(a1, a2, a3, a4)]).length
        rw [← hσ2, gi_eq, List.length_append, List.length_singleton, hL]
      · exact (k2 _ _ _ (by omega) (by omega) (by omega) (by omega)).trans y4
      · exact (k2 _ _ _ (by omega) (by omega) (by omega) (by omega)).trans y5
      · exact (k2 _ _ _ (by omega) (by omega) (by omega) (by omega)).trans y6
      · exact (k2 _ _ _ (by omega) (by omega) (by omega) (by omega)).trans y7
      · rcases snoc_cs hx with ⟨z, z1⟩ | ⟨rfl, rfl⟩
        · obtain ⟨w1, w2, w3, w4⟩ := y8 i x z1
          rw [hL] at z
          exact ⟨(k2 _ _ _ (by omega) (by omega) (by omega) (by omega)).trans w1, (k2 _ _ _ (by omega) (by omega) (by omega) (by omega)).trans w2, (k2 _ _ _ (by omega) (by omega) (by omega) (by omega)).trans w3, (k2 _ _ _ (by omega) (by omega) (by omega) (by omega)).trans w4⟩
        · rw [hL]
          refine ⟨?_, ?_, ?_, ?_⟩
          · rw [← hσ2, gi_ne (by omega), gi_ne (by omega), gi_ne (by omega), gi_ne (by omega), gi_eq]
          · rw [← hσ2, gi_ne (by omega), gi_ne (by omega), gi_ne (by omega), gi_eq]
          · rw [← hσ2, gi_ne (by omega), gi_ne (by omega), gi_eq]
          · rw [← hσ2, gi_ne (by omega), gi_eq]
      · obtain ⟨z1, z2⟩ := y9 i x hx
        exact ⟨(k2 _ _ _ (by omega) (by omega) (by omega) (by omega)).trans z1, (k2 _ _ _ (by omega) (by omega) (by omega) (by omega)).trans z2⟩
      · obtain ⟨u1, u2, u3, u4, u5, u6, u7, u8, u9⟩ := qw
        refine ⟨u1, u2, u3, ?_, u5, fun x hx => ?_, u7, u8, u9⟩
        · show (cs ++ [(a1, a2, a3, a4)]).length ≤ 4
          rw [List.length_append, List.length_singleton]
          omega
        · rcases List.mem_append.mp hx with hx | hx
          · exact u6 x hx
          · rcases List.mem_singleton.mp hx with rfl
            exact ⟨hp, hq, hkk⟩
theorem law_17 {σ : Sg} (a1 a2 a3 a4 : Int32) (h : Iv σ) : ∃ σ', g_law_17 a1 a2 a3 a4 σ = some σ' ∧ Iv σ' := by
  unfold g_law_17
  have hi := h
  obtain ⟨N, col, R, v, Q, Rs, ⟨q1, q2, cs, os, j0, j1, j2⟩, hd, hr⟩ := h
  obtain ⟨f1, f2, f3, f4, f5, f6, f7⟩ := Db_fit hd
  obtain ⟨qc, qm, qw⟩ := hr.2.2.2.1
  obtain ⟨x1, x2, x3, x4, x5, x6, x7, x8, x9⟩ := qc
  obtain ⟨y1, y2, y3, y4, y5, y6, y7, y8, y9⟩ := qm
  obtain ⟨x, hx, hx1, tc, tm⟩ := isCol_cs (R := R) qw f2 (Db_cols hd) 0 a1
  obtain ⟨y, hy, hy1, uc, um⟩ := isCol_cs (R := R) qw f2 (Db_cols hd) 1 a2
  have x1' : gi σ 0 0 15 = q1 := x1
  have x2' : gi σ 0 0 16 = q2 := x2
  have y2' : gi σ 9 0 24 = q2 := y2
  have hw3 : q1 = -1 → q2 = -1 := qw.2.2.1
  have n24 : gi (si σ 9 0 0 0) 9 0 24 = q2 := by rw [gi_ne (by omega)]; exact y2'
  by_cases h2 : q2 = -1
  · refine ⟨si σ 9 0 0 0, ?_, Iv_fI fI_thr hi⟩
    have cl : f_TM_join a1 a2 σ = some (0, σ) := by
      unfold f_TM_join
      rw [x2', if_pos h2]
      split <;> rfl
    rw [cl, bn2_eq]
    unfold f_Md_join
    rw [lt_eq, n24, if_pos (by rw [h2]; exact neg1_lt), bn2_eq, if_pos rfl]
  · unfold f_TM_join f_Md_join
    have h1 : ¬ q1 = -1 := fun z => h2 (hw3 z)
    have hn2 : ¬ q2 < 0 := by
      rcases qw.2.1 with z | ⟨t, z1, z2⟩
      · exact absurd z h2
      · have z2' : q2 = nI t := z2
        rw [z2']
        exact nI_pos (by omega)
    have m0 : Mo (si σ 9 0 0 0) N col R := (Db_fD (fI_thr (x := 0)).1 hd).2.2.1
    have n23 : gi (si σ 9 0 0 0) 9 0 23 = q1 := by rw [gi_ne (by omega)]; exact y1
    rcases hx with rfl | rfl
    · refine ⟨si σ 9 0 0 0, ?_, Iv_fI fI_thr hi⟩
      rw [x1', if_neg h1, x2', if_neg h2, tc σ hd.1 x1 x2, bn2_eq, i00, bn2_eq, lt_eq, n24, if_neg hn2, tm _ m0 n23 n24, bn2_eq, i00, bn2_eq, if_pos rfl]
    · rcases hy with rfl | rfl
      · refine ⟨si σ 9 0 0 0, ?_, Iv_fI fI_thr hi⟩
        rw [x1', if_neg h1, x2', if_neg h2, tc σ hd.1 x1 x2, bn2_eq, i10, uc σ hd.1 x1 x2, bn2_eq, i00, bn2_eq, lt_eq, n24, if_neg hn2, tm _ m0 n23 n24, bn2_eq, i10, um _ m0 n23 n24, bn2_eq, i00, bn2_eq, if_pos rfl]
      · generalize hσ1 : si (si (si (si σ 0 0 21 1) 0 0 22 a1) 0 0 23 a2) 9 0 0 0 = σ1
        have k1 : ∀ a b c, ¬ (a = 0 ∧ (c = 21 ∨ c = 22 ∨ c = 23)) → ¬ (a = 9 ∧ c = 0) → gi σ1 a b c = gi σ a b c := fun a b c z1 z2 => by
          rw [← hσ1, gi_ne (by omega), gi_ne (by omega), gi_ne (by omega), gi_ne (by omega)]
        have hd1 : Db σ1 N col R := Db_q hd (fun a b c hh => k1 a b c (by omega) (by omega)) (fun a b c => by rw [← hσ1]; rfl) (by rw [← hσ1]; rfl)
        have p23 : gi σ1 9 0 23 = q1 := (k1 _ _ _ (by omega) (by omega)).trans y1
        have p24 : gi σ1 9 0 24 = q2 := (k1 _ _ _ (by omega) (by omega)).trans y2
        generalize hσ2 : si (si (si σ1 9 0 29 1) 9 0 30 a1) 9 0 31 a2 = σ2
        have k2 : ∀ a b c, ¬ (a = 0 ∧ (c = 21 ∨ c = 22 ∨ c = 23)) → ¬ (a = 9 ∧ (c = 0 ∨ c = 29 ∨ c = 30 ∨ c = 31)) → gi σ2 a b c = gi σ a b c := fun a b c z1 z2 => by
          rw [← hσ2, gi_ne (by omega), gi_ne (by omega), gi_ne (by omega)]
          exact k1 a b c z1 (by omega)
        refine ⟨σ2, ?_, N, col, R, v, Q, Rs, (q1, q2, cs, os, 1, a1, a2), Db_q hd (fun a b c hh => k2 a b c (by omega) (by omega)) (fun a b c => by rw [← hσ2, ← hσ1]; rfl) (by rw [← hσ2, ← hσ1]; rfl), Rt_q hr (fun a b c hh => k2 a b c (by omega) (by omega)) (fun a b c => by rw [← hσ2, ← hσ1]; rfl) (fun a b c => by rw [← hσ2, ← hσ1]; rfl) (by rw [← hσ2, ← hσ1]; rfl) ⟨?_, ?_, ?_, ?_, ?_, ?_, ?_, fun i x hx => ?_, fun i x hx => ?_⟩ ⟨?_, ?_, ?_, ?_, ?_, ?_, ?_, fun i x hx => ?_, fun i x hx => ?_⟩ ?_⟩
        · rw [x1', if_neg h1, x2', if_neg h2, tc σ hd.1 x1 x2, bn2_eq, i10, uc σ hd.1 x1 x2, bn2_eq, i10, lt_eq, lt_eq, lt_eq, bn2_eq, lt_eq, hσ1, p24, if_neg hn2, tm _ hd1.2.2.1 p23 p24, bn2_eq, i10, um _ hd1.2.2.1 p23 p24, bn2_eq, i10, lt_eq, lt_eq, lt_eq, hσ2, bn2_eq, if_pos rfl]
        · exact (k2 _ _ _ (by omega) (by omega)).trans x1
        · exact (k2 _ _ _ (by omega) (by omega)).trans x2
        · exact (k2 _ _ _ (by omega) (by omega)).trans x3
        · exact (k2 _ _ _ (by omega) (by omega)).trans x4
        · rw [← hσ2, gi_ne (by omega), gi_ne (by omega), gi_ne (by omega), ← hσ1, gi_ne (by omega), gi_ne (by omega), gi_ne (by omega), gi_eq]
        · rw [← hσ2, gi_ne (by omega), gi_ne (by omega), gi_ne (by omega), ← hσ1, gi_ne (by omega), gi_ne (by omega), gi_eq]
        · rw [← hσ2, gi_ne (by omega), gi_ne (by omega), gi_ne (by omega), ← hσ1, gi_ne (by omega), gi_eq]
        · obtain ⟨z1, z2, z3, z4⟩ := x8 i x hx
          exact ⟨(k2 _ _ _ (by omega) (by omega)).trans z1, (k2 _ _ _ (by omega) (by omega)).trans z2, (k2 _ _ _ (by omega) (by omega)).trans z3, (k2 _ _ _ (by omega) (by omega)).trans z4⟩
        · obtain ⟨z1, z2⟩ := x9 i x hx
          exact ⟨(k2 _ _ _ (by omega) (by omega)).trans z1, (k2 _ _ _ (by omega) (by omega)).trans z2⟩
        · exact (k2 _ _ _ (by omega) (by omega)).trans y1
        · exact (k2 _ _ _ (by omega) (by omega)).trans y2
        · exact (k2 _ _ _ (by omega) (by omega)).trans y3
        · exact (k2 _ _ _ (by omega) (by omega)).trans y4
        · rw [← hσ2, gi_ne (by omega), gi_ne (by omega), gi_eq]
        · rw [← hσ2, gi_ne (by omega), gi_eq]
        · rw [← hσ2, gi_eq]
        · obtain ⟨z1, z2, z3, z4⟩ := y8 i x hx
          exact ⟨(k2 _ _ _ (by omega) (by omega)).trans z1, (k2 _ _ _ (by omega) (by omega)).trans z2, (k2 _ _ _ (by omega) (by omega)).trans z3, (k2 _ _ _ (by omega) (by omega)).trans z4⟩
        · obtain ⟨z1, z2⟩ := y9 i x hx
          exact ⟨(k2 _ _ _ (by omega) (by omega)).trans z1, (k2 _ _ _ (by omega) (by omega)).trans z2⟩
        · obtain ⟨u1, u2, u3, u4, u5, u6, u7, u8, u9⟩ := qw
          exact ⟨u1, u2, u3, u4, u5, u6, u7, zb1, fun _ => ⟨h2, (hx1 rfl).2, (hy1 rfl).2⟩⟩
