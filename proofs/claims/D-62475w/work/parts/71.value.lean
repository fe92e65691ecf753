/-! the plain law: the cases that read a value -/
theorem asked_cs {σ : Sg} {N : Nat} {col : Nat → Nat} {R : List Row} (hd : Db σ N col R) (a1 : Int32) (key : Int64) (a4 : Int32) :
    (f_TM_valueOf a1 key a4 σ = some (.inr 0, σ) ∧ ∀ τ, fI σ τ → ∃ τ', f_Md_asked a1 key a4 τ = some (-1, τ') ∧ fI τ τ' ∧ gi τ' 9 0 0 = 1 ∧ ∀ a b c, gj τ' a b c = gj τ a b c) ∨
    (∃ σ1, f_TM_valueOf a1 key a4 σ = some (.inr 3, σ1) ∧ fI σ σ1 ∧ ∀ τ, fI σ τ → ∃ τ', f_Md_asked a1 key a4 τ = some (-1, τ') ∧ fI τ τ' ∧ gi τ' 9 0 0 = 2 ∧ ∀ a b c, gj τ' a b c = gj τ a b c) ∨
    (∃ σ1 k o, f_TM_valueOf a1 key a4 σ = some (.inl (4 * 1 + k), σ1) ∧ fI σ σ1 ∧ V5 σ1 (4 * 1 + k) o ∧ a4 = nI k ∧ k < 4 ∧ ∀ τ, fI σ τ → ∃ τ' j, j < 90 ∧ f_Md_asked a1 key a4 τ = some (nI j, τ') ∧ fI τ τ' ∧ gi τ' 9 0 0 = 0 ∧ Vm τ' 30 29 (4 * j + k) o ∧ ∀ a b c, gj τ' a b c = gj τ a b c) := by
  obtain ⟨f1, f2, f3, f4, f5, f6, f7⟩ := Db_fit hd
  unfold f_TM_valueOf f_Md_asked
  rcases isT_cs N a1 f2 with ⟨t1, t2⟩ | ⟨t, ht, rfl, t1, t2⟩
  · left
    refine ⟨?_, fun τ hf => ⟨si τ 9 0 0 1, ?_, fI_thr, gi_eq, fun _ _ _ => rfl⟩⟩
    · rw [t1 σ f3, bn2_eq, if_pos rfl, bnd_eq, check_0, bnX_r]
    · rw [t2 τ (Db_fD hf.1 hd).2.2.1.1, bn2_eq, lt_eq, lt_eq, i00, gi_eq, if_neg le01]
  · obtain ⟨k1, k2, k3, k4⟩ := Ct_col hd.1 ht
    have hin : vp_in (nI t) 3 := vp_in_nI (by omega) (by decide)
    have hcl : (nI t).toNatClampNeg = t := nI_clamp (by omega)
    have mo : ∀ τ, fI σ τ → ∃ x, f_Md_rowOf (nI t) key (si τ 9 0 0 0) = some (x, si τ 9 0 0 0) ∧ rowOfS R t key x ∧ gi (si τ 9 0 0 0) 26 0 t = nI (col t) ∧ gi τ 9 0 1 = nI N ∧ mR (si τ 9 0 0 0) R := fun τ hf => by
      have hd2 := Db_fD (hf.1.tr (fI_thr (x := 0)).1) hd
      obtain ⟨x, x1, x2⟩ := rowOf_eq key hd2.2.2.1.2.2.1 hd2.2.2.1.2.2.2 f5 f6 (t := t) (by omega)
      exact ⟨x, x1, x2, hd2.2.2.1.2.1 t ht, (Db_fD hf.1 hd).2.2.1.1, hd2.2.2.1.2.2.2⟩
    rcases i_cs a4 (N := col t) (by omega) with h1 | ⟨h1, h2⟩ | ⟨k, hk, rfl⟩
    · left
      refine ⟨?_, fun τ hf => ?_⟩
      · rw [t1 σ f3, bn2_eq, i10, if_pos h1, bnd_eq, check_0, bnX_r]
      · obtain ⟨x, x1, x2, x3, x4, x5⟩ := mo τ hf
        refine ⟨si (si τ 9 0 0 0) 9 0 0 1, ?_, fI_thr.tr fI_thr, gi_eq, fun _ _ _ => rfl⟩
        rw [t2 τ x4, bn2_eq, lt_eq, lt_eq, i10, gi_eq, if_pos le00, x1, bn2_eq, if_pos h1, bnd_eq, lt_eq, lt_eq, gi_eq, if_neg le01]
    · left
      refine ⟨?_, fun τ hf => ?_⟩
      · rw [t1 σ f3, bn2_eq, i10, if_neg h1, chk_pos hin, hcl, chk_pos (by rw [f1]; exact ht), k1, if_pos h2, bnd_eq, check_0, bnX_r]
      · obtain ⟨x, x1, x2, x3, x4, x5⟩ := mo τ hf
        refine ⟨si (si τ 9 0 0 0) 9 0 0 1, ?_, fI_thr.tr fI_thr, gi_eq, fun _ _ _ => rfl⟩
        rw [t2 τ x4, bn2_eq, lt_eq, lt_eq, i10, gi_eq, if_pos le00, x1, bn2_eq, if_neg h1, chk_pos hin, hcl, x3, if_neg (Int32.not_lt.mpr h2), bnd_eq, lt_eq, lt_eq, gi_eq, if_neg le01]
    · right
      have hn1 : ¬ nI k < 0 := nI_pos (by omega)
      have hn2 : ¬ nI (col t) ≤ nI k := nI_ge hk (by omega)
      obtain ⟨r, σ1, s1, s2, s3, s4⟩ := has_Ct hd.1 ht key
      have n1 : nt σ1 = N := s2.2.2.2.trans f1
      have hd1 := Db_fD (fD_eqS s2) hd
      by_cases hK : hasK key (own R t)
      · right
        have hr1 := s3 hK
        subst hr1
        obtain ⟨c, hc, hck⟩ := hK
        obtain ⟨σ2, e1, e2⟩ := read_Ct hd1.1 ht hc 1
        rw [hck] at e1
        have hcl4 : c.2.length = col t := Ct_len hd.1 ht hc
        have hpl : (pad c.2).length = 4 := pad_len (by omega)
        refine ⟨σ2, k, c.2.getD k none, ?_, (fI_eqS s2).tr ((fI_sVs (i := 4 * 1) (by omega) (by omega)).tr (fI_eqS e2)), ⟨?_, ?_⟩, rfl, by omega, fun τ hf => ?_⟩
        · rw [t1 σ f3, bn2_eq, i10, if_neg hn1, chk_pos hin, hcl, chk_pos (by rw [f1]; exact ht), k1, if_neg hn2, bnd_eq, check_1, bnX_l, chk_pos hin, chk_pos (by rw [f1]; exact ht), s1, bn2_eq, i10, chk_pos hin, chk_pos (by rw [n1]; exact ht), e1, bnd_eq, chk_pos (vp_in_nI (by omega) (by decide)), nI_clamp (by omega)]
        · rw [e2.1 _ _ _ (by unfold scr; omega), gi_sVs, if_pos (by omega), show 4 * 1 + k - 4 * 1 = k by omega]
          unfold pad
          rw [List.getD_eq_getElem?_getD, List.getElem?_append_left (by omega), ← List.getD_eq_getElem?_getD]
        · rw [e2.2.1 _ _ _ (by omega), gj_sVs, if_pos (by omega), show 4 * 1 + k - 4 * 1 = k by omega]
          unfold pad
          rw [List.getD_eq_getElem?_getD, List.getElem?_append_left (by omega), ← List.getD_eq_getElem?_getD]
        · obtain ⟨x, x1, x2, x3, x4, x5⟩ := mo τ hf
          rcases x2 with ⟨-, y⟩ | ⟨j, d, ⟨y1, y2, y3⟩, rfl⟩
          · exact absurd ⟨c, hc, hck⟩ y
          have hj := (List.getElem?_eq_some_iff.mp y1).1
          have hdc : d = c := Ct_uq hd.1 ht (mem_own.mpr (List.mem_of_getElem? y1)) hc (y2.trans hck.symm)
          subst hdc
          have hv := (x5 j _ y1).2.2 k (by show k < d.2.length; omega)
          refine ⟨si (si τ 9 0 0 0) 9 0 0 0, j, by omega, ?_, fI_thr.tr fI_thr, gi_eq, ⟨?_, hv.2⟩, fun _ _ _ => rfl⟩
          · rw [t2 τ x4, bn2_eq, lt_eq, lt_eq, i10, gi_eq, if_pos le00, x1, bn2_eq, if_neg hn1, chk_pos hin, hcl, x3, if_pos (nI_lt hk (by omega)), if_pos (nI_pos' (by omega)), bnd_eq, lt_eq, lt_eq, gi_eq, if_pos le00]
          · rw [gi_ne (by omega)]
            exact hv.1
      · left
        have hr0 := s4 hK
        subst hr0
        refine ⟨σ1, ?_, fI_eqS s2, fun τ hf => ?_⟩
        · rw [t1 σ f3, bn2_eq, i10, if_neg hn1, chk_pos hin, hcl, chk_pos (by rw [f1]; exact ht), k1, if_neg hn2, bnd_eq, check_1, bnX_l, chk_pos hin, chk_pos (by rw [f1]; exact ht), s1, bn2_eq, if_pos rfl]
        · obtain ⟨x, x1, x2, x3, x4, x5⟩ := mo τ hf
          have hx : x = -1 := by
            rcases x2 with ⟨y, -⟩ | ⟨j, d, ⟨y1, y2, y3⟩, -⟩
            · exact y
            · exact absurd ⟨d, mem_own.mpr (List.mem_of_getElem? y1), y2⟩ hK
          subst hx
          refine ⟨si (si τ 9 0 0 0) 9 0 0 2, ?_, fI_thr.tr fI_thr, gi_eq, fun _ _ _ => rfl⟩
          rw [t2 τ x4, bn2_eq, lt_eq, lt_eq, i10, gi_eq, if_pos le00, x1, bn2_eq, if_neg hn1, chk_pos hin, hcl, x3, if_pos (nI_lt hk (by omega)), if_neg n0p, bnd_eq, lt_eq, lt_eq, gi_eq, if_neg le02]
theorem law_6 {σ : Sg} (a1 a2 a3 a4 : Int32) (h : Iv σ) : ∃ σ', g_law_6 a1 a2 a3 a4 σ = some σ' ∧ Iv σ' := by
  unfold g_law_6
  generalize hky : ((a2.toInt64 <<< ((32 : Int32).toInt64 &&& 63)) ||| (a3.toInt64 &&& 4294967295)) = key
  have hi := h
  obtain ⟨N, col, R, v, Q, Rs, q, hd, hr⟩ := h
  unfold f_Lw_value f_TM_value f_Md_value
  rcases asked_cs hd a1 key a4 with ⟨e1, e2⟩ | ⟨σ1, e1, e0, e2⟩ | ⟨σ1, k, o, e1, e0, e3, rfl, hk, e2⟩
  · obtain ⟨τ', x1, x2, x3, x4⟩ := e2 σ (fI_rf σ)
    refine ⟨τ', ?_, Iv_fI x2 hi⟩
    rw [e1, bnX_r, bnH_r, if_pos rfl]
    show bn2 (some (1, σ)) _ = _
    rw [bn2_eq, x1, bn2_eq, if_neg n0p, bnd_eq, bn2_eq, thr_eq, bn2_eq, x3, if_pos rfl, if_neg (by decide)]
  · obtain ⟨τ', x1, x2, x3, x4⟩ := e2 σ1 e0
    refine ⟨τ', ?_, Iv_fI (e0.tr x2) hi⟩
    rw [e1, bnX_r, bnH_r, if_neg (by decide), if_pos rfl]
    show bn2 (some (2, σ1)) _ = _
    rw [bn2_eq, x1, bn2_eq, if_neg n0p, bnd_eq, bn2_eq, thr_eq, bn2_eq, x3, if_pos rfl, if_neg (by decide)]
  · have hf : fI σ (sj σ1 44 0 ((0 : Int32).toNatClampNeg) (gj σ1 5 (4 * 1 + k) 1)) := e0.tr fI_out
    obtain ⟨τ', j, hj, x1, x2, x3, x5, x4⟩ := e2 _ hf
    refine ⟨τ', ?_, Iv_fI (hf.tr x2) hi⟩
    rw [e1, bnX_l, bnH_l, chk_pos in01, lt_eq, bn2_eq, x1, bn2_eq, if_pos (nI_pos' (by omega)), nI_4k, chk_pos (vp_in_nI (by omega) (by decide)), nI_clamp (by omega), bnd_eq, bn2_eq, thr_eq, bn2_eq, x3, if_pos rfl, if_pos rfl, chk_pos in01, if_pos ?_]
    rw [x4, gj_eq, x5.2, e3.2]
theorem law_7 {σ : Sg} (a1 a2 a3 a4 : Int32) (h : Iv σ) : ∃ σ', g_law_7 a1 a2 a3 a4 σ = some σ' ∧ Iv σ' := by
  unfold g_law_7
  generalize hky : ((a2.toInt64 <<< ((32 : Int32).toInt64 &&& 63)) ||| (a3.toInt64 &&& 4294967295)) = key
  have hi := h
  obtain ⟨N, col, R, v, Q, Rs, q, hd, hr⟩ := h
  unfold f_Lw_isNull f_TM_isNull f_Md_isNull
  rcases asked_cs hd a1 key a4 with ⟨e1, e2⟩ | ⟨σ1, e1, e0, e2⟩ | ⟨σ1, k, o, e1, e0, e3, rfl, hk, e2⟩
  · obtain ⟨τ', x1, x2, x3, x4⟩ := e2 σ (fI_rf σ)
    refine ⟨τ', ?_, Iv_fI x2 hi⟩
    rw [e1, bnX_r, bnH_r, if_pos rfl]
    show bn2 (some (1, σ)) _ = _
    rw [bn2_eq, x1, bn2_eq, if_pos neg1_lt, bnd_eq, chk_pos zb0, bn2_eq, thr_eq, bn2_eq, x3, if_pos rfl, if_neg (by decide)]
  · obtain ⟨τ', x1, x2, x3, x4⟩ := e2 σ1 e0
    refine ⟨τ', ?_, Iv_fI (e0.tr x2) hi⟩
    rw [e1, bnX_r, bnH_r, if_neg (by decide), if_pos rfl]
    show bn2 (some (2, σ1)) _ = _
    rw [bn2_eq, x1, bn2_eq, if_pos neg1_lt, bnd_eq, chk_pos zb0, bn2_eq, thr_eq, bn2_eq, x3, if_pos rfl, if_neg (by decide)]
  · generalize hw : ((if ((if (ob o) = 0 then 1 else 0) : Int32) = 0 then 0 else 1) : Int64) = w
    have hf : fI σ (sj σ1 44 0 ((0 : Int32).toNatClampNeg) w) := e0.tr fI_out
    obtain ⟨τ', j, hj, x1, x2, x3, x5, x4⟩ := e2 _ hf
    refine ⟨τ', ?_, Iv_fI (hf.tr x2) hi⟩
    have hz : zb ((if ob o = 0 then 1 else 0) : Int32) := by
      cases o
      · exact Or.inr rfl
      · exact Or.inl rfl
    have hif : (if ob o = 0 then (some (1 : Int32)) else (some 0)) = some (if ob o = 0 then 1 else 0) := by split <;> rfl
    rw [e1, bnX_l, lt_eq, e3.1, chk_pos hz, bnH_l, lt_eq, hw, chk_pos in01, lt_eq, bn2_eq, x1, bn2_eq, if_neg (nI_pos (by omega)), nI_4k, chk_pos (vp_in_nI (by omega) (by decide)), nI_clamp (by omega), x5.1, hif, bnd_eq, chk_pos hz, bn2_eq, thr_eq, bn2_eq, x3, if_pos rfl, if_pos rfl, chk_pos in01, lt_eq, if_pos ?_]
    rw [x4, gj_eq, hw]
