/-! the plain law: the cases that ask or change rows -/
theorem Db_fit {σ : Sg} {N : Nat} {col : Nat → Nat} {R : List Row} (h : Db σ N col R) : nt σ = N ∧ N ≤ 3 ∧ gi σ 0 0 2 = nI N ∧ gi σ 9 0 1 = nI N ∧ R.length ≤ 90 ∧ (∀ r ∈ R, r.1 < 3) ∧ (∀ r ∈ R, r.2.2.length ≤ 4) := by
  obtain ⟨h1, h2, h3⟩ := Ct_N h.1
  refine ⟨h1, h2, h3, h.2.2.1.1, h.2.2.2.1, fun r hr => Nat.lt_of_lt_of_le (h.2.2.2.2 r hr).1 h2, fun r hr => ?_⟩
  rw [(h.2.2.2.2 r hr).2]
  exact (Ct_col h.1 (h.2.2.2.2 r hr).1).2.2.1
theorem i10 {α : Type} (a b : α) : (if (1 : Int32) = 0 then a else b) = b := if_neg (by decide)
theorem i00 {α : Type} (a b : α) : (if (0 : Int32) = 0 then a else b) = a := if_pos rfl
theorem law_4 {σ : Sg} (a1 a2 a3 a4 : Int32) (h : Iv σ) : ∃ σ', g_law_4 a1 a2 a3 a4 σ = some σ' ∧ Iv σ' := by
  obtain ⟨N, col, R, v, Q, Rs, q, hd, hr⟩ := h
  obtain ⟨f1, f2, f3, f4, f5, f6, f7⟩ := Db_fit hd
  refine ⟨si σ 9 0 0 0, ?_, Iv_fI fI_thr ⟨N, col, R, v, Q, Rs, q, hd, hr⟩⟩
  have hm : gi (si σ 9 0 0 0) 9 0 3 = nI R.length := by rw [gi_ne (by omega)]; exact hd.2.2.1.2.2.1
  have hN : gi (si σ 9 0 0 0) 9 0 1 = nI N := by rw [gi_ne (by omega)]; exact f4
  obtain ⟨x, c1, c2⟩ := count_eq (σ := si σ 9 0 0 0) a1 hm (Mo_fr (fun a b c hh => gi_ne (by omega)) (fun _ _ _ _ => rfl) hd.2.2.1).2.2.2 f5 f6
  unfold g_law_4 f_TM_count f_Md_count
  rcases isT_cs N a1 f2 with ⟨t1, t2⟩ | ⟨t, ht, rfl, t1, t2⟩
  · rw [t1 σ f3, bn2_eq, if_pos rfl, bnd_eq, bn2_eq, lt_eq, c1, bn2_eq, t2 _ hN, bn2_eq, lt_eq, if_pos rfl, bn2_eq, if_pos rfl]
  · obtain ⟨k1, k2, k3, k4⟩ := Ct_col hd.1 ht
    have hx := c2 t (by omega) rfl
    rw [t1 σ f3, bn2_eq, i10, chk_pos (vp_in_nI (by omega) (by decide)), nI_clamp (by omega), chk_pos (by rw [f1]; exact ht), bnd_eq, bn2_eq, lt_eq, c1, bn2_eq, t2 _ hN, bn2_eq, lt_eq, if_neg (by decide), bn2_eq, k4, hx, if_pos rfl]
theorem le01 : ¬ (1 : Int32) ≤ 0 := by decide
theorem le02 : ¬ (2 : Int32) ≤ 0 := by decide
theorem le00 : (0 : Int32) ≤ 0 := by decide
theorem n0p : ¬ (0 : Int32) ≤ -1 := by decide
theorem law_5 {σ : Sg} (a1 a2 a3 a4 : Int32) (h : Iv σ) : ∃ σ', g_law_5 a1 a2 a3 a4 σ = some σ' ∧ Iv σ' := by
  unfold g_law_5
  generalize hky : ((a2.toInt64 <<< ((32 : Int32).toInt64 &&& 63)) ||| (a3.toInt64 &&& 4294967295)) = key
  generalize hab : ((if a4 = 0 then 0 else 1) : Int32) = ab
  rw [lt_eq]
  obtain ⟨N, col, R, v, Q, Rs, q, hd, hr⟩ := h
  have hi : Iv σ := ⟨N, col, R, v, Q, Rs, q, hd, hr⟩
  obtain ⟨f1, f2, f3, f4, f5, f6, f7⟩ := Db_fit hd
  unfold f_Lw_next f_TM_next f_Md_next
  rcases isT_cs N a1 f2 with ⟨t1, t2⟩ | ⟨t, ht, rfl, t1, t2⟩
  · refine ⟨si σ 9 0 0 1, ?_, Iv_fI fI_thr hi⟩
    rw [t1 σ f3, bn2_eq, check_0, bnX_r, bnH_r, if_pos rfl]
    show bn2 (some (1, σ)) _ = _
    rw [bn2_eq, lt_eq, t2 _ f4, bn2_eq, lt_eq, lt_eq, i00, gi_eq, if_neg le01, bn2_eq, thr_eq, gi_eq, bn2_eq, if_pos rfl, if_neg (by decide)]
  · obtain ⟨r, σ1, s1, s2, s3, s4⟩ := seek_Ct hd.1 ht key ab
    have hd1 := Db_fD (fD_eqS s2) hd
    have n1 : nt σ1 = N := s2.2.2.2.trans f1
    have hin : vp_in (nI t) 3 := vp_in_nI (by omega) (by decide)
    have hcl : (nI t).toNatClampNeg = t := nI_clamp (by omega)
    rw [t1 σ f3, bn2_eq, check_1, bnX_l, chk_pos hin, hcl, chk_pos (by rw [f1]; exact ht), s1, bn2_eq]
    have mo : ∀ τ, gi τ 9 0 3 = nI R.length → mR τ R → ∃ x, f_Md_rowFrom (nI t) key ab τ = some (x, τ) ∧ low R t (qk key ab) x := fun τ k1 k2 => rowFrom_eq key ab k1 k2 f5 f6 (by omega)
    have mo2 : ∀ τ, fI σ τ → gi τ 9 0 1 = nI N ∧ ∃ x, f_Md_rowFrom (nI t) key ab (si τ 9 0 0 0) = some (x, si τ 9 0 0 0) ∧ low R t (qk key ab) x := fun τ hf => by
      have hd2 := Db_fD (hf.1.tr (fI_thr (x := 0)).1) hd
      exact ⟨(Db_fD hf.1 hd).2.2.1.1, mo _ hd2.2.2.1.2.2.1 hd2.2.2.1.2.2.2⟩
    by_cases hnone : ∀ c ∈ own R t, ¬ qk key ab c.1
    · have hr0 := s3 hnone
      subst hr0
      rw [if_pos rfl, bnH_r]
      show ∃ σ', bn2 (some (2, σ1)) _ = _ ∧ _
      obtain ⟨m1, x, m2, m3⟩ := mo2 σ1 (fI_eqS s2)
      have hx : x = -1 := by
        rcases m3 with ⟨z, -⟩ | ⟨j, c, z1, -, z3, -⟩
        · exact z
        · exact absurd z3 (hnone c (mem_own.mpr (List.mem_of_getElem? z1)))
      subst hx
      refine ⟨si (si σ1 9 0 0 0) 9 0 0 2, ?_, Iv_fI ((fI_eqS s2).tr (fI_thr.tr fI_thr)) hi⟩
      rw [bn2_eq, lt_eq, t2 _ m1, bn2_eq, lt_eq, lt_eq, i10, gi_eq, if_pos le00, m2, bn2_eq, lt_eq, lt_eq, if_neg n0p, if_neg n0p, bnd_eq, bn2_eq, thr_eq, gi_eq, bn2_eq, if_pos rfl, if_neg (by decide)]
    · obtain ⟨m1, x, m2, m3⟩ := mo2 σ (fI_rf σ)
      rcases m3 with ⟨z, z2⟩ | ⟨j, c, z1, z2, z3, z4⟩
      · exact absurd z2 hnone
      obtain ⟨k1, σ2, k2, k3⟩ := s4 c (mem_own.mpr (List.mem_of_getElem? z1)) z3 z4
      subst k1
      rw [i10, chk_pos hin, chk_pos (by rw [n1]; exact ht), k2, bn2_eq, bnH_l, chk_pos in01, lt_eq, bn2_eq]
      have hf : fI σ (sj σ2 44 0 ((0 : Int32).toNatClampNeg) c.1) := (fI_eqS s2).tr ((fI_eqS k3).tr fI_out)
      have hcl0 : (0 : Int32).toNatClampNeg = 0 := by decide
      generalize hσ3 : sj σ2 44 0 ((0 : Int32).toNatClampNeg) c.1 = σ3 at hf
      obtain ⟨m1', x', m2', m3'⟩ := mo2 σ3 hf
      have hd3 := Db_fD (hf.1.tr (fI_thr (x := 0)).1) hd
      rcases m3' with ⟨y, y2⟩ | ⟨j', c', y1, y2, y3, y4⟩
      · exact absurd y2 hnone
      have hkey : c'.1 = c.1 := by
        have h1 := z4 c' (mem_own.mpr (List.mem_of_getElem? y1)) y3
        have h2 := y4 c (mem_own.mpr (List.mem_of_getElem? z1)) z3
        exact Int64.le_antisymm (Int64.not_lt.mp h2) (Int64.not_lt.mp h1)
      have hj' := (List.getElem?_eq_some_iff.mp y1).1
      subst y2
      have hrow := (hd3.2.2.1.2.2.2 j' _ y1).2.1
      refine ⟨si (si σ3 9 0 0 0) 9 0 0 0, ?_, Iv_fI (hf.tr (fI_thr.tr fI_thr)) hi⟩
      rw [lt_eq, t2 _ m1', bn2_eq, lt_eq, lt_eq, i10, gi_eq, if_pos le00, m2', bn2_eq, lt_eq, lt_eq, if_pos (nI_pos' (by omega)), if_pos (nI_pos' (by omega)), chk_pos (vp_in_90 (by omega)), bnd_eq, bn2_eq, thr_eq, gi_eq, bn2_eq, if_pos rfl, if_pos rfl, chk_pos in01, nI_clamp (by omega)]
      rw [if_pos ?_]
      show gj σ3 44 0 ((0 : Int32).toNatClampNeg) = gj σ3 28 0 j'
      have e1 : gj σ3 28 0 j' = c'.1 := hrow
      rw [e1, ← hσ3, gj_eq, hkey]
