/-! the plain law: wipe, code, result, wasNull, the question -/
theorem neg1_nI {k : Nat} (h : k < 2 ^ 31) : ¬ nI k = -1 := fun z => by
  have := congrArg Int32.toInt z
  rw [nI_toInt h, show (-1 : Int32).toInt = -1 by decide] at this
  omega
theorem law_9 {σ : Sg} (a1 a2 a3 a4 : Int32) (h : Iv σ) : ∃ σ', g_law_9 a1 a2 a3 a4 σ = some σ' ∧ Iv σ' := by
  obtain ⟨N, col, R, v, Q, Rs, q, hd, hr⟩ := h
  refine ⟨si (si (si σ 0 0 8 0) 9 0 0 0) 9 0 10 0, rfl, N, col, R, v, [], Rs, q, Db_fD ((fD_si (by omega)).tr ((fD_si (by omega)).tr (fD_si (by omega)))) hd, ?_⟩
  obtain ⟨c, ⟨p1, p2, p3⟩, ⟨r1, r2, r3⟩, ⟨q1, q2, q3⟩, o'⟩ := hr
  have k1 : ∀ a b c, ¬ (a = 0 ∧ c = 8) → ¬ (a = 9 ∧ (c = 0 ∨ c = 10)) → gi (si (si (si σ 0 0 8 0) 9 0 0 0) 9 0 10 0) a b c = gi σ a b c := fun a b c x1 x2 => by
    rw [gi_ne (by omega), gi_ne (by omega), gi_ne (by omega)]
  refine ⟨Co_fr (fun a b c hh => k1 a b c (by omega) (by omega)) (fun _ _ _ _ => rfl) c, ⟨⟨?_, fun i x hx => (by cases hx)⟩, ⟨?_, fun i x hx => (by cases hx)⟩, Nat.zero_le _, fun x hx => (by cases hx)⟩,
    ⟨Rsc_fr (fun a b c hh => k1 a b c (by omega) (by omega)) (fun _ _ _ _ => rfl) r1, Rsm_fr (fun a b c hh => k1 a b c (by omega) (by omega)) (fun _ _ _ _ => rfl) r2, r3⟩,
    ⟨Quc_fr (fun a b c hh => k1 a b c (by omega) (by omega)) q1, Qum_fr (fun a b c hh => k1 a b c (by omega) (by omega)) q2, q3⟩, o'⟩
  · rw [gi_ne (by omega), gi_ne (by omega), gi_eq]; rfl
  · rw [gi_eq]; rfl
theorem a_le3 {a : Int32} : (¬ (4 : Int32) ≤ a) ↔ a ≤ 3 := by
  rw [le_toInt, le_toInt, show (4 : Int32).toInt = 4 by decide, show (3 : Int32).toInt = 3 by decide]
  omega
theorem a_gt3 {a : Int32} : (4 : Int32) ≤ a ↔ 3 < a := by
  rw [le_toInt, lt_toInt, show (4 : Int32).toInt = 4 by decide, show (3 : Int32).toInt = 3 by decide]
  omega
theorem law_10 {σ : Sg} (a1 a2 a3 a4 : Int32) (h : Iv σ) : ∃ σ', g_law_10 a1 a2 a3 a4 σ = some σ' ∧ Iv σ' := by
  unfold g_law_10
  have hi := h
  obtain ⟨N, col, R, v, Q, Rs, q, hd, hr⟩ := h
  obtain ⟨c, ⟨p1, p2, p3⟩, rr⟩ := hr
  unfold f_Lw_code f_TM_code f_Md_code
  have bad : (∀ x y : Int32, (if a1 < 0 then x else (if nI Q.length ≤ a1 then x else (if a2 < 0 then x else (if 3 < a2 then x else y)))) = x) → (∀ x y : Int32, (if a1 < 0 then x else (if nI Q.length ≤ a1 then x else (if a2 < 0 then x else (if a2 ≤ 3 then y else x)))) = x) →
      ∃ σ', bn2 (bnH (lt_ ((if a1 < 0 then 0 else (if (gi σ 0 0 8) ≤ a1 then 0 else (if a2 < 0 then 0 else (if 3 < a2 then 0 else 1)))) : Int32) (fun (x1 : Int32) => bnX (f_TM_there x1 σ) (fun (r10 : Unit) (σ8 : Sg) => Option.bind (if a2 = 0 then (chk (vp_in a1 60) ((gr σ8 6 a1.toNatClampNeg 0).bind (fun o18 => chk (o18 < 22) (some (nI o18))))) else (chk (vp_in a1 60) (chk (vp_in (a2 - 1) 3) (some (gi σ8 16 a1.toNatClampNeg ((a2 - 1).toNatClampNeg)))))) (fun (x12 : Int32) => some (.inl x12, σ8))))) (fun e => if e = 2 then some 1 else none) (fun (r3 : Int32) (σ1 : Sg) => chk (vp_in 0 1) (lt_ (sj σ1 44 0 ((0 : Int32).toNatClampNeg) r3.toInt64) (fun σ8 => some (0, σ8)))))
        (fun (r140 : Int32) (σ138 : Sg) => bn2 (lt_ ((if a1 < 0 then 1 else (if (gi σ138 9 0 10) ≤ a1 then 1 else (if a2 < 0 then 1 else (if a2 ≤ 3 then 0 else 1)))) : Int32) (fun (x1 : Int32) => lt_ (si σ138 9 0 0 x1) (fun σ8 => Option.bind (if (gi σ8 9 0 0) ≤ 0 then (chk (vp_in ((4 * a1) + a2) 240) (some (gi σ8 33 0 (((4 * a1) + a2).toNatClampNeg)))) else (some (0))) (fun (x9 : Int32) => some (x9, σ8))))) (fun (r143 : Int32) (σ141 : Sg) => bn2 (f_Md_thrown σ141) (fun (r146 : Int32) (σ144 : Sg) => (if r146 = r140 then (if r140 = 0 then (chk (vp_in 0 1) ((if (gj σ144 44 0 ((0 : Int32).toNatClampNeg)) = r143.toInt64 then (some σ144) else none))) else (some σ144)) else none)))) = some σ' ∧ Iv σ' := fun e1 e2 => by
    refine ⟨si σ 9 0 0 1, ?_, Iv_fI fI_thr hi⟩
    rw [lt_eq, p1.1, e1 0 1, there_0, bnX_r, bnH_r, if_pos rfl]
    show bn2 (some (1, σ)) _ = _
    rw [bn2_eq, lt_eq, p2.1, e2 1 0, lt_eq, gi_eq, if_neg le01, bnd_eq, bn2_eq, thr_eq, bn2_eq, gi_eq, if_pos rfl, if_neg (by decide)]
  have hQ := p3.1
  rcases i_cs a1 (N := Q.length) (by omega) with h1 | ⟨h1, h2⟩ | ⟨i, hil, rfl⟩
  · exact bad (fun x y => by rw [if_pos h1]) (fun x y => by rw [if_pos h1])
  · exact bad (fun x y => by rw [if_neg h1, if_pos h2]) (fun x y => by rw [if_neg h1, if_pos h2])
  · have n1 : ¬ nI i < 0 := nI_pos (by omega)
    have n2 : ¬ nI Q.length ≤ nI i := nI_ge hil (by omega)
    rcases i_cs a2 (N := 4) (by decide) with h1 | ⟨h1, h2⟩ | ⟨k, hk, rfl⟩
    · exact bad (fun x y => by rw [if_neg n1, if_neg n2, if_pos h1]) (fun x y => by rw [if_neg n1, if_neg n2, if_pos h1])
    · have h3 := a_gt3.mp h2
      exact bad (fun x y => by rw [if_neg n1, if_neg n2, if_neg h1, if_pos h3]) (fun x y => by rw [if_neg n1, if_neg n2, if_neg h1, if_neg (Int32.not_le.mpr h3)])
    · clear bad
      have n3 : ¬ nI k < 0 := nI_pos (by omega)
      have n4 : nI k ≤ (3 : Int32) := nI_le (b := 3) (by omega) (by decide)
      have n5 : ¬ (3 : Int32) < nI k := nI_nlt (a := 3) (by omega) (by decide)
      obtain ⟨x, hx⟩ : ∃ x, Q[i]? = some x := ⟨Q[i], List.getElem?_eq_getElem hil⟩
      obtain ⟨o1, o2, o3, o4⟩ := p1.2 i x hx
      obtain ⟨m1, m2, m3, m4⟩ := p2.2 i x hx
      have hox : x.1 < 22 := (p3.2 x (List.mem_of_getElem? hx)).1
      have hcl : (nI i).toNatClampNeg = i := nI_clamp (by omega)
      have hin : vp_in (nI i) 60 := vp_in_nI (by omega) (by decide)
      have val : ∃ w, (if nI k = 0 then (chk (vp_in (nI i) 60) ((gr σ 6 (nI i).toNatClampNeg 0).bind (fun o18 => chk (o18 < 22) (some (nI o18))))) else (chk (vp_in (nI i) 60) (chk (vp_in (nI k - 1) 3) (some (gi σ 16 (nI i).toNatClampNeg ((nI k - 1).toNatClampNeg)))))) = some w ∧ gi σ 33 0 (4 * i + k) = w := by
        rw [chk_pos hin, chk_pos hin, hcl, o1, bnd_eq, chk_pos hox]
        have h4 : k = 0 ∨ k = 1 ∨ k = 2 ∨ k = 3 := by omega
        rcases h4 with rfl | rfl | rfl | rfl
        · exact ⟨_, if_pos rfl, m1⟩
        · rw [if_neg (by decide), show nI 1 - 1 = nI 0 from nI_pred 0, chk_pos (vp_in_nI (by decide) (by decide)), nI_clamp (by decide)]
          exact ⟨_, rfl, m2.trans o2.symm⟩
        · rw [if_neg (by decide), show nI 2 - 1 = nI 1 from nI_pred 1, chk_pos (vp_in_nI (by decide) (by decide)), nI_clamp (by decide)]
          exact ⟨_, rfl, m3.trans o3.symm⟩
        · rw [if_neg (by decide), show nI 3 - 1 = nI 2 from nI_pred 2, chk_pos (vp_in_nI (by decide) (by decide)), nI_clamp (by decide)]
          exact ⟨_, rfl, m4.trans o4.symm⟩
      obtain ⟨w, w1, w2⟩ := val
      have hf : fI σ (sj σ 44 0 ((0 : Int32).toNatClampNeg) w.toInt64) := fI_out
      refine ⟨si (sj σ 44 0 ((0 : Int32).toNatClampNeg) w.toInt64) 9 0 0 0, ?_, Iv_fI (hf.tr fI_thr) hi⟩
      rw [lt_eq, p1.1, if_neg n1, if_neg n2, if_neg n3, if_neg n5, there_1, bnX_l, w1, bnd_eq, bnH_l, chk_pos in01, lt_eq, bn2_eq, lt_eq, show gi (sj σ 44 0 ((0 : Int32).toNatClampNeg) w.toInt64) 9 0 10 = nI Q.length from p2.1, if_neg n1, if_neg n2, if_neg n3, if_pos n4, lt_eq, gi_eq, if_pos le00, nI_4k, chk_pos (vp_in_nI (by omega) (by decide)), nI_clamp (by omega), bnd_eq, bn2_eq, thr_eq, bn2_eq, gi_eq, if_pos rfl, if_pos rfl, chk_pos in01, gi_ne (by omega), gi_sj, w2, gj_si, gj_eq, if_pos rfl]
theorem law_12 {σ : Sg} (a1 a2 a3 a4 : Int32) (h : Iv σ) : ∃ σ', g_law_12 a1 a2 a3 a4 σ = some σ' ∧ Iv σ' := by
  unfold g_law_12
  have hi := h
  obtain ⟨N, col, R, v, Q, Rs, q, hd, hr⟩ := h
  obtain ⟨c, p, ⟨r1, r2, r3⟩, rr⟩ := hr
  unfold f_Lw_result f_TM_result f_Md_result
  by_cases hm1 : a1 = -1
  · subst hm1
    have hf : fI σ (sj σ 44 0 ((0 : Int32).toNatClampNeg) ((nI Rs.length).toInt64)) := fI_out
    refine ⟨si (sj σ 44 0 ((0 : Int32).toNatClampNeg) ((nI Rs.length).toInt64)) 9 0 0 0, ?_, Iv_fI (hf.tr fI_thr) hi⟩
    rw [if_pos rfl, bnH_l, r1.1, chk_pos in01, lt_eq, bn2_eq, lt_eq, if_pos rfl, bn2_eq, thr_eq, bn2_eq, gi_eq, if_pos rfl, if_pos rfl, chk_pos in01, gi_ne (by omega), gi_sj, r2.1, gj_si, gj_eq, if_pos rfl]
  · rw [if_neg hm1]
    have hR := r3.1
    have w1s : ∀ x y : Int32, si (si σ 9 0 0 x) 9 0 0 y = si σ 9 0 0 y := fun x y => si_si _ _ _ _ _ _
    rcases i_cs a1 (N := Rs.length) (by omega) with h1 | ⟨h1, h2⟩ | ⟨i, hil, rfl⟩
    · refine ⟨si (si σ 9 0 0 0) 9 0 0 1, ?_, Iv_fI (fI_thr.tr fI_thr) hi⟩
      rw [if_pos h1, bnd_eq, there_0, bnX_r, bnH_r, if_pos rfl]
      show bn2 (some (1, σ)) _ = _
      rw [bn2_eq, lt_eq, if_neg hm1, lt_eq, if_pos h1, lt_eq, gi_eq, if_neg le01, bn2_eq, thr_eq, bn2_eq, gi_eq, if_pos rfl, if_neg (by decide)]
    · refine ⟨si (si σ 9 0 0 0) 9 0 0 1, ?_, Iv_fI (fI_thr.tr fI_thr) hi⟩
      rw [if_neg h1, r1.1, if_pos h2, bnd_eq, there_0, bnX_r, bnH_r, if_pos rfl]
      show bn2 (some (1, σ)) _ = _
      rw [bn2_eq, lt_eq, if_neg hm1, lt_eq, if_neg h1, gi_ne (by omega), r2.1, if_neg (Int32.not_lt.mpr h2), lt_eq, gi_eq, if_neg le01, bn2_eq, thr_eq, bn2_eq, gi_eq, if_pos rfl, if_neg (by decide)]
    · have n1 : ¬ nI i < 0 := nI_pos (by omega)
      have n2 : ¬ nI Rs.length ≤ nI i := nI_ge hil (by omega)
      have n3 : nI i < nI Rs.length := nI_lt hil (by omega)
      obtain ⟨w, hw⟩ : ∃ w, Rs[i]? = some w := ⟨Rs[i], List.getElem?_eq_getElem hil⟩
      obtain ⟨s1, s2⟩ := r1.2 i w hw
      obtain ⟨u1, u2⟩ := r2.2 i w hw
      have hw4 := r3.2 w (List.mem_of_getElem? hw)
      have hin : vp_in (nI i) 64 := vp_in_nI (by omega) (by decide)
      have hcl : (nI i).toNatClampNeg = i := nI_clamp (by omega)
      have e39 : ∀ x, gi (si (si σ 9 0 0 0) 9 0 0 x) 39 0 i = nI w.length := fun x => by rw [gi_ne (by omega), gi_ne (by omega)]; exact u1
      by_cases hm2 : a2 < -1
      · refine ⟨si (si (si σ 9 0 0 0) 9 0 0 0) 9 0 0 1, ?_, Iv_fI (fI_thr.tr (fI_thr.tr fI_thr)) hi⟩
        rw [if_neg n1, r1.1, if_neg n2, if_pos hm2, bnd_eq, there_0, bnX_r, bnH_r, if_pos rfl]
        show bn2 (some (1, σ)) _ = _
        rw [bn2_eq, lt_eq, if_neg hm1, lt_eq, if_neg n1, gi_ne (by omega), r2.1, if_pos n3, lt_eq, gi_eq, if_pos le00, if_pos hm2, bnd_eq, lt_eq, gi_eq, if_neg le01, bnd_eq, bn2_eq, thr_eq, bn2_eq, gi_eq, if_pos rfl, if_neg (by decide)]
      · by_cases hm3 : nI w.length ≤ a2
        · refine ⟨si (si (si σ 9 0 0 0) 9 0 0 0) 9 0 0 1, ?_, Iv_fI (fI_thr.tr (fI_thr.tr fI_thr)) hi⟩
          rw [if_neg n1, r1.1, if_neg n2, if_neg hm2, chk_pos hin, hcl, s1, if_pos hm3, bnd_eq, there_0, bnX_r, bnH_r, if_pos rfl]
          show bn2 (some (1, σ)) _ = _
          rw [bn2_eq, lt_eq, if_neg hm1, lt_eq, if_neg n1, gi_ne (by omega), r2.1, if_pos n3, lt_eq, gi_eq, if_pos le00, if_neg hm2, chk_pos hin, e39, if_neg (Int32.not_lt.mpr hm3), bnd_eq, lt_eq, gi_eq, if_neg le01, bnd_eq, bn2_eq, thr_eq, bn2_eq, gi_eq, if_pos rfl, if_neg (by decide)]
        · have val : ∃ z, (∀ τ, (∀ a b c, ¬ (a = 9 ∧ c = 0) → gi τ a b c = gi σ a b c) → (∀ a b c, ¬ a = 44 → gj τ a b c = gj σ a b c) → (if a2 = (-1) then (chk (vp_in (nI i) 64) (some ((gi τ 23 0 i).toInt64))) else (chk (vp_in ((4 * nI i) + a2) 256) (some (gj τ 5 (24 + ((4 * nI i) + a2).toNatClampNeg) 1)))) = some z) ∧ (∀ τ, (∀ a b c, ¬ (a = 9 ∧ c = 0) → gi τ a b c = gi σ a b c) → (∀ a b c, ¬ a = 44 → gj τ a b c = gj σ a b c) → (if a2 = (-1) then (chk (vp_in (nI i) 64) (some ((gi τ 39 0 i).toInt64))) else (chk (vp_in ((4 * nI i) + a2) 256) (some (gj τ 40 0 (((4 * nI i) + a2).toNatClampNeg))))) = some z) := by
            by_cases hm4 : a2 = -1
            · subst hm4
              refine ⟨(nI w.length).toInt64, fun τ k1 k2 => ?_, fun τ k1 k2 => ?_⟩
              · rw [if_pos rfl, chk_pos hin, k1 _ _ _ (by omega), s1]
              · rw [if_pos rfl, chk_pos hin, k1 _ _ _ (by omega), u1]
            · have hnn : ¬ a2 < 0 := fun z => by
                have y1 := lt_toInt.mp z
                have y2 : ¬ a2.toInt < (-1 : Int32).toInt := fun y => hm2 (lt_toInt.mpr y)
                rw [show (-1 : Int32).toInt = -1 by decide] at y2
                rw [show (0 : Int32).toInt = 0 by decide] at y1
                exact hm4 (Int32.toInt_inj.mp (by rw [show (-1 : Int32).toInt = -1 by decide]; omega))
              obtain ⟨k, hk, rfl⟩ := nI_ofn hnn
              have hkw : k < w.length := by
                rcases Nat.lt_or_ge k w.length with z | z
                · exact z
                · exact absurd (nI_le z hk) hm3
              refine ⟨(w.getD k none).getD 0, fun τ k1 k2 => ?_, fun τ k1 k2 => ?_⟩
              · rw [if_neg hm4, nI_4k, chk_pos (vp_in_nI (by omega) (by decide)), nI_clamp (by omega), k2 _ _ _ (by omega), (s2 k hkw).2]
              · rw [if_neg hm4, nI_4k, chk_pos (vp_in_nI (by omega) (by decide)), nI_clamp (by omega), k2 _ _ _ (by omega), (u2 k hkw).2]
          obtain ⟨z, z1, z2⟩ := val
          have hf : fI σ (sj σ 44 0 ((0 : Int32).toNatClampNeg) z) := fI_out
          refine ⟨si (si (si (sj σ 44 0 ((0 : Int32).toNatClampNeg) z) 9 0 0 0) 9 0 0 0) 9 0 0 0, ?_, Iv_fI (hf.tr (fI_thr.tr (fI_thr.tr fI_thr))) hi⟩
          have hlt2 : a2 < nI w.length := Int32.not_le.mp hm3
          have f39 : ∀ x, gi (si (si (sj σ 44 0 ((0 : Int32).toNatClampNeg) z) 9 0 0 0) 9 0 0 x) 39 0 i = nI w.length := fun x => by rw [gi_ne (by omega), gi_ne (by omega)]; exact u1
          have f919 : gi (si (sj σ 44 0 ((0 : Int32).toNatClampNeg) z) 9 0 0 0) 9 0 19 = nI Rs.length := by rw [gi_ne (by omega)]; exact r2.1
          rw [if_neg n1, r1.1, if_neg n2, if_neg hm2, chk_pos hin, hcl, s1, if_neg hm3, bnd_eq, there_1, bnX_l, z1 σ (fun _ _ _ _ => rfl) (fun _ _ _ _ => rfl), bnd_eq, bnH_l, chk_pos in01, lt_eq, bn2_eq, lt_eq, if_neg hm1, lt_eq, if_neg n1, f919, if_pos n3, lt_eq, gi_eq, if_pos le00, if_neg hm2, chk_pos hin, f39, if_pos hlt2, bnd_eq, lt_eq, gi_eq, if_pos le00, z2 _ (fun a b c hn => by rw [gi_ne (by omega), gi_ne (by omega), gi_ne (by omega), gi_sj]) (fun a b c hn => by rw [gj_si, gj_si, gj_si, gj_ne (by omega)]), bnd_eq, bn2_eq, thr_eq, bn2_eq, gi_eq, if_pos rfl, if_pos rfl, chk_pos in01, gj_si, gj_si, gj_si, gj_eq, if_pos rfl]
