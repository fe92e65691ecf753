/-! the plain law: wasNull, the question -/
theorem law_13 {σ : Sg} (a1 a2 a3 a4 : Int32) (h : Iv σ) : ∃ σ', g_law_13 a1 a2 a3 a4 σ = some σ' ∧ Iv σ' := by
  unfold g_law_13
  have hi := h
  obtain ⟨N, col, R, v, Q, Rs, q, hd, hr⟩ := h
  obtain ⟨c, p, ⟨r1, r2, r3⟩, rr⟩ := hr
  unfold f_Lw_wasNull f_TM_wasNull f_Md_wasNull
  have hR := r3.1
  rcases i_cs a1 (N := Rs.length) (by omega) with h1 | ⟨h1, h2⟩ | ⟨i, hil, rfl⟩
  · refine ⟨si σ 9 0 0 1, ?_, Iv_fI fI_thr hi⟩
    rw [if_pos h1, bnd_eq, there_0, bnX_r, bnH_r, if_pos rfl]
    show bn2 (some (1, σ)) _ = _
    rw [bn2_eq, lt_eq, if_pos h1, lt_eq, gi_eq, if_neg le01, bn2_eq, thr_eq, bn2_eq, gi_eq, if_pos rfl, if_neg (by decide)]
  · refine ⟨si σ 9 0 0 1, ?_, Iv_fI fI_thr hi⟩
    rw [if_neg h1, r1.1, if_pos h2, bnd_eq, there_0, bnX_r, bnH_r, if_pos rfl]
    show bn2 (some (1, σ)) _ = _
    rw [bn2_eq, lt_eq, if_neg h1, r2.1, if_neg (Int32.not_lt.mpr h2), lt_eq, gi_eq, if_neg le01, bn2_eq, thr_eq, bn2_eq, gi_eq, if_pos rfl, if_neg (by decide)]
  · have n1 : ¬ nI i < 0 := nI_pos (by omega)
    have n2 : ¬ nI Rs.length ≤ nI i := nI_ge hil (by omega)
    have n3 : nI i < nI Rs.length := nI_lt hil (by omega)
    obtain ⟨w, hw⟩ : ∃ w, Rs[i]? = some w := ⟨Rs[i], List.getElem?_eq_getElem hil⟩
    obtain ⟨s1, s2⟩ := r1.2 i w hw
    obtain ⟨u1, u2⟩ := r2.2 i w hw
    have hw4 := r3.2 w (List.mem_of_getElem? hw)
    have hin : vp_in (nI i) 64 := vp_in_nI (by omega) (by decide)
    have hcl : (nI i).toNatClampNeg = i := nI_clamp (by omega)
    have e39 : ∀ x, gi (si σ 9 0 0 x) 39 0 i = nI w.length := fun x => by rw [gi_ne (by omega)]; exact u1
    by_cases hm2 : a2 < 0
    · refine ⟨si (si σ 9 0 0 0) 9 0 0 1, ?_, Iv_fI (fI_thr.tr fI_thr) hi⟩
      rw [if_neg n1, r1.1, if_neg n2, if_pos hm2, bnd_eq, there_0, bnX_r, bnH_r, if_pos rfl]
      show bn2 (some (1, σ)) _ = _
      rw [bn2_eq, lt_eq, if_neg n1, r2.1, if_pos n3, lt_eq, gi_eq, if_pos le00, if_pos hm2, bnd_eq, lt_eq, gi_eq, i10, bnd_eq, chk_pos zb0, bn2_eq, thr_eq, bn2_eq, gi_eq, if_pos rfl, if_neg (by decide)]
    · by_cases hm3 : nI w.length ≤ a2
      · refine ⟨si (si σ 9 0 0 0) 9 0 0 1, ?_, Iv_fI (fI_thr.tr fI_thr) hi⟩
        rw [if_neg n1, r1.1, if_neg n2, if_neg hm2, chk_pos hin, hcl, s1, if_pos hm3, bnd_eq, there_0, bnX_r, bnH_r, if_pos rfl]
        show bn2 (some (1, σ)) _ = _
        rw [bn2_eq, lt_eq, if_neg n1, r2.1, if_pos n3, lt_eq, gi_eq, if_pos le00, if_neg hm2, chk_pos hin, e39, if_neg (Int32.not_lt.mpr hm3), bnd_eq, lt_eq, gi_eq, i10, bnd_eq, chk_pos zb0, bn2_eq, thr_eq, bn2_eq, gi_eq, if_pos rfl, if_neg (by decide)]
      · obtain ⟨k, hk, rfl⟩ := nI_ofn hm2
        have hkw : k < w.length := by
          rcases Nat.lt_or_ge k w.length with z | z
          · exact z
          · exact absurd (nI_le z hk) hm3
        have hlt2 : nI k < nI w.length := Int32.not_le.mp hm3
        generalize ho : w.getD k none = o at *
        have so : gi σ 5 (24 + (4 * i + k)) 0 = ob o := by rw [← ho]; exact (s2 k hkw).1
        have uo : gi σ 41 0 (4 * i + k) = ob o := by rw [← ho]; exact (u2 k hkw).1
        have hz : zb ((if ob o = 0 then 1 else 0) : Int32) := by
          cases o
          · exact Or.inr rfl
          · exact Or.inl rfl
        have hif : (if ob o = 0 then (some (1 : Int32)) else (some 0)) = some (if ob o = 0 then 1 else 0) := by split <;> rfl
        generalize hw' : ((if ((if (ob o) = 0 then 1 else 0) : Int32) = 0 then 0 else 1) : Int64) = z
        have hf : fI σ (sj σ 44 0 ((0 : Int32).toNatClampNeg) z) := fI_out
        refine ⟨si (si (sj σ 44 0 ((0 : Int32).toNatClampNeg) z) 9 0 0 0) 9 0 0 0, ?_, Iv_fI (hf.tr (fI_thr.tr fI_thr)) hi⟩
        have f39 : ∀ x, gi (si (sj σ 44 0 ((0 : Int32).toNatClampNeg) z) 9 0 0 x) 39 0 i = nI w.length := fun x => by rw [gi_ne (by omega)]; exact u1
        have f41 : ∀ x y, gi (si (si (sj σ 44 0 ((0 : Int32).toNatClampNeg) z) 9 0 0 x) 9 0 0 y) 41 0 (4 * i + k) = ob o := fun x y => by rw [gi_ne (by omega), gi_ne (by omega)]; exact uo
        have f919 : gi (sj σ 44 0 ((0 : Int32).toNatClampNeg) z) 9 0 19 = nI Rs.length := r2.1
        rw [if_neg n1, r1.1, if_neg n2, if_neg hm2, chk_pos hin, hcl, s1, if_neg hm3, bnd_eq, there_1, bnX_l, nI_4k, chk_pos (vp_in_nI (by omega) (by decide)), nI_clamp (by omega), so, lt_eq, chk_pos hz, bnH_l, lt_eq, hw', chk_pos in01, lt_eq, bn2_eq, lt_eq, if_neg n1, f919, if_pos n3, lt_eq, gi_eq, if_pos le00, if_neg hm2, chk_pos hin, f39, if_pos hlt2, bnd_eq, lt_eq, gi_eq, i00, chk_pos (vp_in_nI (by omega) (by decide)), f41, hif, bnd_eq, chk_pos hz, bn2_eq, thr_eq, bn2_eq, gi_eq, if_pos rfl, if_pos rfl, chk_pos in01, lt_eq, hw', gj_si, gj_si, gj_eq, if_pos rfl]
-- ===== the question =====
theorem Rt_q {σ σ' : Sg} {N : Nat} {v : Nat → Option Int64} {Q : List Ins} {Rs : List Vals} {q q' : Que} (hr : Rt σ N v Q Rs q) (k1 : ∀ a b c, ¬ (a = 8 ∨ a = 25 ∨ a = 42 ∨ a = 43 ∨ (a = 0 ∧ 15 ≤ c) ∨ (a = 9 ∧ (c = 0 ∨ 23 ≤ c))) → gi σ' a b c = gi σ a b c) (k2 : ∀ a b c, gj σ' a b c = gj σ a b c) (k3 : ∀ a b c, gr σ' a b c = gr σ a b c) (k4 : nt σ' = nt σ) (c1 : Quc σ' q') (c2 : Qum σ' q') (c3 : wQu N q') : Rt σ' N v Q Rs q' := by
  obtain ⟨c, ⟨p1, p2, p3⟩, ⟨r1, r2, r3⟩, ⟨q1, q2, q3⟩, o⟩ := hr
  exact ⟨Co_fr (fun a b c hh => k1 a b c (by omega)) (fun a b c hh => k2 a b c) c,
    ⟨Prc_fr (fun a b c hh => k1 a b c (by omega)) (fun a b c hh => k3 a b c) p1, Prm_fr (fun a b c hh => k1 a b c (by omega)) p2, p3⟩,
    ⟨Rsc_fr (fun a b c hh => k1 a b c (by omega)) (fun a b c hh => k2 a b c) r1, Rsm_fr (fun a b c hh => k1 a b c (by omega)) (fun a b c hh => k2 a b c) r2, r3⟩,
    ⟨c1, c2, c3⟩, fun i t hi ht => by rw [k4]; exact o i t hi ((k3 7 i 0).symm.trans ht)⟩
theorem Db_q {σ σ' : Sg} {N : Nat} {col : Nat → Nat} {R : List Row} (hd : Db σ N col R) (k1 : ∀ a b c, ¬ (a = 8 ∨ a = 25 ∨ a = 42 ∨ a = 43 ∨ (a = 0 ∧ 15 ≤ c) ∨ (a = 9 ∧ (c = 0 ∨ 23 ≤ c))) → gi σ' a b c = gi σ a b c) (k2 : ∀ a b c, gj σ' a b c = gj σ a b c) (k4 : nt σ' = nt σ) : Db σ' N col R := Db_fD ⟨fun a b c hh => k1 a b c (by omega), fun a b c _ => k2 a b c, k4⟩ hd
theorem law_14 {σ : Sg} (a1 a2 a3 a4 : Int32) (h : Iv σ) : ∃ σ', g_law_14 a1 a2 a3 a4 σ = some σ' ∧ Iv σ' := by
  unfold g_law_14
  have hi := h
  obtain ⟨N, col, R, v, Q, Rs, q, hd, hr⟩ := h
  obtain ⟨f1, f2, f3, f4, f5, f6, f7⟩ := Db_fit hd
  unfold f_TM_ask f_Md_ask
  have f4' : ∀ τ : Sg, gi τ 9 0 1 = nI N → gi (si τ 9 0 0 0) 9 0 1 = nI N := fun τ h => by rw [gi_ne (by omega)]; exact h
  have good : ∀ t : Nat, t < N → (a2 = -1 ∨ ∃ s, s < N ∧ a2 = nI s) → ∃ σ', some (si (si (si (si (si (si (si (si (si (si (si σ 0 0 15 (nI t)) 0 0 16 a2) 0 0 18 0) 0 0 20 0) 0 0 21 0) 9 0 0 0) 9 0 23 (nI t)) 9 0 24 a2) 9 0 25 0) 9 0 27 0) 9 0 29 0) = some σ' ∧ Iv σ' := fun t ht hq2 => by
    generalize hσ' : si (si (si (si (si (si (si (si (si (si (si σ 0 0 15 (nI t)) 0 0 16 a2) 0 0 18 0) 0 0 20 0) 0 0 21 0) 9 0 0 0) 9 0 23 (nI t)) 9 0 24 a2) 9 0 25 0) 9 0 27 0) 9 0 29 0 = σ'
    have k1 : ∀ a b c, ¬ (a = 0 ∧ (c = 15 ∨ c = 16 ∨ c = 18 ∨ c = 20 ∨ c = 21)) → ¬ (a = 9 ∧ (c = 0 ∨ c = 23 ∨ c = 24 ∨ c = 25 ∨ c = 27 ∨ c = 29)) → gi σ' a b c = gi σ a b c := fun a b c x1 x2 => by
      rw [← hσ', gi_ne (by omega), gi_ne (by omega), gi_ne (by omega), gi_ne (by omega), gi_ne (by omega), gi_ne (by omega), gi_ne (by omega), gi_ne (by omega), gi_ne (by omega), gi_ne (by omega), gi_ne (by omega)]
    refine ⟨σ', rfl, N, col, R, v, Q, Rs, (nI t, a2, [], [], 0, gi σ 0 0 22, gi σ 0 0 23), Db_q hd (fun a b c hh => k1 a b c (by omega) (by omega)) (fun a b c => by rw [← hσ']; rfl) (by rw [← hσ']; rfl), Rt_q hr (fun a b c hh => k1 a b c (by omega) (by omega)) (fun a b c => by rw [← hσ']; rfl) (fun a b c => by rw [← hσ']; rfl) (by rw [← hσ']; rfl) ⟨?_, ?_, ?_, ?_, ?_, ?_, ?_, fun i x hx => (by cases hx), fun i x hx => (by cases hx)⟩ ⟨?_, ?_, ?_, ?_, ?_, ?_, ?_, fun i x hx => (by cases hx), fun i x hx => (by cases hx)⟩ ⟨Or.inr ⟨t, ht, rfl⟩, hq2, fun z => absurd z (neg1_nI (by omega)), Nat.zero_le _, Nat.zero_le _, fun x hx => (by cases hx), fun x hx => (by cases hx), zb0, fun z => absurd z (show ¬ (0 : Int32) = 1 by decide)⟩⟩
    · rw [← hσ', gi_ne (by omega), gi_ne (by omega), gi_ne (by omega), gi_ne (by omega), gi_ne (by omega), gi_ne (by omega), gi_ne (by omega), gi_ne (by omega), gi_ne (by omega), gi_ne (by omega), gi_eq]
    · rw [← hσ', gi_ne (by omega), gi_ne (by omega), gi_ne (by omega), gi_ne (by omega), gi_ne (by omega), gi_ne (by omega), gi_ne (by omega), gi_ne (by omega), gi_ne (by omega), gi_eq]
    · rw [← hσ', gi_ne (by omega), gi_ne (by omega), gi_ne (by omega), gi_ne (by omega), gi_ne (by omega), gi_ne (by omega), gi_ne (by omega), gi_ne (by omega), gi_eq]; rfl
    · rw [← hσ', gi_ne (by omega), gi_ne (by omega), gi_ne (by omega), gi_ne (by omega), gi_ne (by omega), gi_ne (by omega), gi_ne (by omega), gi_eq]; rfl
    · rw [← hσ', gi_ne (by omega), gi_ne (by omega), gi_ne (by omega), gi_ne (by omega), gi_ne (by omega), gi_ne (by omega), gi_eq]
    · exact k1 _ _ _ (by omega) (by omega)
    · exact k1 _ _ _ (by omega) (by omega)
    · rw [← hσ', gi_ne (by omega), gi_ne (by omega), gi_ne (by omega), gi_ne (by omega), gi_eq]
    · rw [← hσ', gi_ne (by omega), gi_ne (by omega), gi_ne (by omega), gi_eq]
    · rw [← hσ', gi_ne (by omega), gi_eq]; rfl
    · rw [← hσ', gi_ne (by omega), gi_ne (by omega), gi_eq]; rfl
    · rw [← hσ', gi_eq]
    · rw [k1 _ _ _ (by omega) (by omega), hr.2.2.2.1.2.1.2.2.2.2.2.1]
      exact hr.2.2.2.1.1.2.2.2.2.2.1.symm
    · rw [k1 _ _ _ (by omega) (by omega), hr.2.2.2.1.2.1.2.2.2.2.2.2.1]
      exact hr.2.2.2.1.1.2.2.2.2.2.2.1.symm
  have g91 : ∀ t, gi (si (si (si (si (si (si σ 0 0 15 (nI t)) 0 0 16 a2) 0 0 18 0) 0 0 20 0) 0 0 21 0) 9 0 0 0) 9 0 1 = nI N := fun t => by
    rw [gi_ne (by omega), gi_ne (by omega), gi_ne (by omega), gi_ne (by omega), gi_ne (by omega), gi_ne (by omega)]; exact f4
  rcases isT_cs N a1 f2 with ⟨t1, t2⟩ | ⟨t, ht, rfl, t1, t2⟩
  · refine ⟨si σ 9 0 0 0, ?_, Iv_fI fI_thr hi⟩
    rw [t1 σ f3, bn2_eq, i00, bn2_eq, lt_eq, t2 _ (f4' σ f4), bn2_eq, i00, bn2_eq, if_pos rfl]
  · by_cases hm : a2 = -1
    · rw [t1 σ f3, bn2_eq, i10, if_pos hm, lt_eq, lt_eq, lt_eq, lt_eq, lt_eq, bn2_eq, lt_eq, t2 _ (g91 t), bn2_eq, i10, if_pos hm, lt_eq, lt_eq, lt_eq, lt_eq, lt_eq, bn2_eq, if_pos rfl]
      exact good t ht (Or.inl hm)
    · rcases isT_cs N a2 f2 with ⟨u1, u2⟩ | ⟨s, hs, hs2, u1, u2⟩
      · refine ⟨si σ 9 0 0 0, ?_, Iv_fI fI_thr hi⟩
        rw [t1 σ f3, bn2_eq, i10, if_neg hm, u1 σ f3, bn2_eq, i00, bn2_eq, lt_eq, t2 _ (f4' σ f4), bn2_eq, i10, if_neg hm, u2 _ (f4' σ f4), bn2_eq, i00, bn2_eq, if_pos rfl]
      · rw [t1 σ f3, bn2_eq, i10, if_neg hm, u1 σ f3, bn2_eq, i10, lt_eq, lt_eq, lt_eq, lt_eq, lt_eq, bn2_eq, lt_eq, t2 _ (g91 t), bn2_eq, i10, if_neg hm, u2 _ (g91 t), bn2_eq, i10, lt_eq, lt_eq, lt_eq, lt_eq, lt_eq, bn2_eq, if_pos rfl]
        exact good t ht (Or.inr ⟨s, hs, hs2⟩)
/-- the column of the question's table is there, or it is not: both sides say the same -/
theorem isCol_cs {N : Nat} {col : Nat → Nat} {R : List Row} {q : Que} (hw : wQu N q) (hN : N ≤ 3) (hc : ∀ t, t < N → 1 ≤ col t ∧ col t ≤ 4) (a1 a2 : Int32) :
    ∃ x : Int32, (x = 0 ∨ x = 1) ∧ (x = 1 → qP q a1 ∧ qC a2) ∧ (∀ σ, Ct σ N col R → gi σ 0 0 15 = q.1 → gi σ 0 0 16 = q.2.1 → f_TM_isColumn a1 a2 σ = some (x, σ)) ∧ (∀ σ, Mo σ N col R → gi σ 9 0 23 = q.1 → gi σ 9 0 24 = q.2.1 → f_Md_isColumn a1 a2 σ = some (x, σ)) := by
  generalize hT : (if a1 = 0 then q.1 else (if a1 = 1 then q.2.1 else (-1))) = T
  have hTq : T = -1 ∨ ∃ t, t < N ∧ T = nI t ∧ qP q a1 := by
    by_cases h0 : a1 = 0
    · rw [if_pos h0] at hT
      rcases hw.1 with z | ⟨t, z1, z2⟩
      · exact Or.inl (hT.symm.trans z)
      · exact Or.inr ⟨t, z1, hT.symm.trans z2, Or.inl h0⟩
    · rw [if_neg h0] at hT
      by_cases h1 : a1 = 1
      · rw [if_pos h1] at hT
        rcases hw.2.1 with z | ⟨t, z1, z2⟩
        · exact Or.inl (hT.symm.trans z)
        · exact Or.inr ⟨t, z1, hT.symm.trans z2, Or.inr ⟨h1, by rw [z2]; exact neg1_nI (by omega)⟩⟩
      · rw [if_neg h1] at hT
        exact Or.inl hT.symm
  rcases hTq with hT1 | ⟨t, ht, hT1, hqp⟩
  · subst hT1
    refine ⟨0, Or.inl rfl, fun z => absurd z (by decide), fun σ _ k1 k2 => ?_, fun σ _ k1 k2 => ?_⟩
    · unfold f_TM_isColumn
      rw [lt_eq, k1, k2, hT, if_pos rfl, bnd_eq, chk_pos zb0]
    · unfold f_Md_isColumn f_Md_tableOf
      rw [lt_eq, k1, k2, hT, bn2_eq, if_pos neg1_lt, bnd_eq, chk_pos zb0]
  · subst hT1
    have hin : vp_in (nI t) 3 := vp_in_nI (by omega) (by decide)
    have hcl : (nI t).toNatClampNeg = t := nI_clamp (by omega)
    obtain ⟨hc1, hc4⟩ := hc t ht
    have n1 : ¬ nI t < 0 := nI_pos (by omega)
    have n2 : 0 ≤ nI t := nI_pos' (by omega)
    by_cases hlo : a2 < -1
    · refine ⟨0, Or.inl rfl, fun z => absurd z (by decide), fun σ _ k1 k2 => ?_, fun σ _ k1 k2 => ?_⟩
      · unfold f_TM_isColumn
        rw [lt_eq, k1, k2, hT, if_neg (neg1_nI (by omega)), if_pos hlo, bnd_eq, chk_pos zb0]
      · unfold f_Md_isColumn f_Md_tableOf
        rw [lt_eq, k1, k2, hT, bn2_eq, if_neg n1, if_pos hlo, bnd_eq, chk_pos zb0]
    · by_cases hhi : nI (col t) ≤ a2
      · refine ⟨0, Or.inl rfl, fun z => absurd z (by decide), fun σ hσ k1 k2 => ?_, fun σ hσ k1 k2 => ?_⟩
        · unfold f_TM_isColumn
          rw [lt_eq, k1, k2, hT, if_neg (neg1_nI (by omega)), if_neg hlo, chk_pos hin, hcl, chk_pos (by rw [(Ct_N hσ).1]; exact ht), (Ct_col hσ ht).1, if_pos hhi, bnd_eq, chk_pos zb0]
        · unfold f_Md_isColumn f_Md_tableOf
          rw [lt_eq, k1, k2, hT, bn2_eq, if_neg n1, if_neg hlo, lt_eq, if_pos n2, chk_pos hin, hcl, hσ.2.1 t ht, if_pos hhi, bnd_eq, chk_pos zb0]
      · refine ⟨1, Or.inr rfl, fun _ => ⟨hqp, ?_⟩, fun σ hσ k1 k2 => ?_, fun σ hσ k1 k2 => ?_⟩
        · by_cases hm4 : a2 = -1
          · exact Or.inl hm4
          · have hnn : ¬ a2 < 0 := fun z => by
              have y1 := lt_toInt.mp z
              have y2 : ¬ a2.toInt < (-1 : Int32).toInt := fun y => hlo (lt_toInt.mpr y)
              rw [show (-1 : Int32).toInt = -1 by decide] at y2
              rw [show (0 : Int32).toInt = 0 by decide] at y1
              exact hm4 (Int32.toInt_inj.mp (by rw [show (-1 : Int32).toInt = -1 by decide]; omega))
            obtain ⟨k, hk, rfl⟩ := nI_ofn hnn
            refine Or.inr ⟨k, ?_, rfl⟩
            rcases Nat.lt_or_ge k (col t) with z | z
            · omega
            · exact absurd (nI_le z hk) hhi
        · unfold f_TM_isColumn
          rw [lt_eq, k1, k2, hT, if_neg (neg1_nI (by omega)), if_neg hlo, chk_pos hin, hcl, chk_pos (by rw [(Ct_N hσ).1]; exact ht), (Ct_col hσ ht).1, if_neg hhi, bnd_eq, chk_pos zb1]
        · unfold f_Md_isColumn f_Md_tableOf
          rw [lt_eq, k1, k2, hT, bn2_eq, if_neg n1, if_neg hlo, lt_eq, if_pos n2, chk_pos hin, hcl, hσ.2.1 t ht, if_neg hhi, bnd_eq, chk_pos zb1]
