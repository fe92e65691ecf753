/-! the plain law: add -/
theorem fits_chain {β : Type} (o : Nat) (a b c : Int32) (σ : Sg) (K : Int32 → Sg → Option β) : bn2 (f_TM_fits (chr o ((0 : Int32).toNatClampNeg)) a σ) (fun r14 σ12 => bn2 (if r14 = 0 then (some (0, σ12)) else (chk (vp_in 1 3) (bn2 (f_TM_fits (chr o ((1 : Int32).toNatClampNeg)) b σ12) (fun r22 σ20 => (if r22 = 0 then (some (0, σ20)) else (chk (vp_in 2 3) (bn2 (f_TM_fits (chr o ((2 : Int32).toNatClampNeg)) c σ20) (fun r26 σ24 => (if r26 = 0 then (some (0, σ24)) else (if o = 18 then (if 16 < (a + b) then (some (0, σ24)) else (some (1, σ24))) else (some (1, σ24)))))))))))) K) = K (fit3 o a b c) σ := by
  have v1 : vp_in 1 3 := in1 (by decide) (by decide)
  have v2 : vp_in 2 3 := vp_in_nI (n := 2) (by decide) (by decide)
  have t2 : (2 : Int32).toNatClampNeg = 2 := by decide
  rw [c0, c1, t2, fits_c, bn2_eq]
  unfold fit3
  by_cases h1 : fB (chr o 0) a = 0
  · rw [if_pos h1, if_pos h1, bn2_eq]
  rw [if_neg h1, if_neg h1, chk_pos v1, fits_c, bn2_eq]
  by_cases h2 : fB (chr o 1) b = 0
  · rw [if_pos h2, if_pos h2, bn2_eq]
  rw [if_neg h2, if_neg h2, chk_pos v2, fits_c, bn2_eq]
  by_cases h3 : fB (chr o 2) c = 0
  · rw [if_pos h3, if_pos h3, bn2_eq]
  rw [if_neg h3, if_neg h3]
  by_cases h4 : o = 18
  · rw [if_pos h4, if_pos h4]
    by_cases h5 : 16 < a + b
    · rw [if_pos h5, if_pos h5, bn2_eq]
    · rw [if_neg h5, if_neg h5, bn2_eq]
  · rw [if_neg h4, if_neg h4, bn2_eq]
theorem law_8 {σ : Sg} (a1 a2 a3 a4 : Int32) (h : Iv σ) : ∃ σ', g_law_8 a1 a2 a3 a4 σ = some σ' ∧ Iv σ' := by
  unfold g_law_8
  have hi := h
  obtain ⟨N, col, R, v, Q, Rs, q, hd, hr⟩ := h
  obtain ⟨cc, ⟨p1, p2, p3⟩, ⟨r1, r2, r3⟩, ⟨q1, q2, q3⟩, oo⟩ := hr
  have hQ := p3.1
  unfold f_Lw_add f_TM_add f_Md_add
  have bad : (a1 < 0 ∨ (¬ a1 < 0 ∧ 22 ≤ a1)) → ∃ σ', bn2 (bnH (lt_ ((if a1 < 0 then 0 else (if 22 ≤ a1 then 0 else 1)) : Int32) (fun (x1 : Int32) => bnX (f_TM_check x1 σ) (fun (r8 : Unit) (σ6 : Sg) => chk (vp_in a1 22) (chk (vp_in 0 3) (bn2 (f_TM_fits (chr a1.toNatClampNeg ((0 : Int32).toNatClampNeg)) a2 σ6) (fun r14 σ12 => bn2 (if r14 = 0 then (some (0, σ12)) else (chk (vp_in 1 3) (bn2 (f_TM_fits (chr a1.toNatClampNeg ((1 : Int32).toNatClampNeg)) a3 σ12) (fun r22 σ20 => (if r22 = 0 then (some (0, σ20)) else (chk (vp_in 2 3) (bn2 (f_TM_fits (chr a1.toNatClampNeg ((2 : Int32).toNatClampNeg)) a4 σ20) (fun r26 σ24 => (if r26 = 0 then (some (0, σ24)) else (if a1.toNatClampNeg = 18 then (if 16 < (a2 + a3) then (some (0, σ24)) else (some (1, σ24))) else (some (1, σ24)))))))))))) (fun (x15 : Int32) (σ16 : Sg) => bnX (f_TM_check x15 σ16) (fun (r34 : Unit) (σ32 : Sg) => lt_ ((if 60 ≤ (gi σ32 0 0 8) then 0 else 1) : Int32) (fun (x36 : Int32) => bnX (f_TM_demand x36 σ32) (fun (r42 : Unit) (σ40 : Sg) => (f_TM_emit a1.toNatClampNeg a2 a3 a4 σ40).bind (fun σ44 => some (.inl ((gi σ44 0 0 8) - 1), σ44)))))))))))) (fun e => if e = 0 then some 1 else if e = 1 then some 2 else none) (fun (r3 : Int32) (σ1 : Sg) => chk (vp_in 0 1) (lt_ (sj σ1 44 0 ((0 : Int32).toNatClampNeg) r3.toInt64) (fun σ8 => some (0, σ8)))))
      (fun (r123 : Int32) (σ121 : Sg) => bn2 (bn2 (f_Md_fits a1 a2 a3 a4 σ121) (fun r3 σ1 => lt_ ((if r3 = 0 then 1 else (if (gi σ1 9 0 10) = 60 then 2 else 0)) : Int32) (fun (x4 : Int32) => lt_ (si σ1 9 0 0 x4) (fun σ9 => (if (gi σ9 9 0 0) ≤ 0 then ((f_Md_put a1 a2 a3 a4 σ9).bind (fun σ10 => some ((gi σ10 9 0 10) - 1, σ10))) else (some (0, σ9))))))) (fun (r126 : Int32) (σ124 : Sg) => bn2 (f_Md_thrown σ124) (fun (r129 : Int32) (σ127 : Sg) => (if r129 = r123 then (if r123 = 0 then (chk (vp_in 0 1) ((if (gj σ127 44 0 ((0 : Int32).toNatClampNeg)) = r126.toInt64 then (some σ127) else none))) else (some σ127)) else none)))) = some σ' ∧ Iv σ' := fun hb => by
    refine ⟨si σ 9 0 0 1, ?_, Iv_fI fI_thr hi⟩
    have e1 : ((if a1 < 0 then 0 else (if 22 ≤ a1 then 0 else 1)) : Int32) = 0 := by
      rcases hb with hb | ⟨hb, hb2⟩
      · rw [if_pos hb]
      · rw [if_neg hb, if_pos hb2]
    rw [lt_eq, e1, check_0, bnX_r, bnH_r, if_pos rfl]
    show bn2 (some (1, σ)) _ = _
    rw [bn2_eq, mf_bad a1 (hb.imp id (fun z => z.2)), bn2_eq, lt_eq, lt_eq, i00, gi_eq, if_neg le01, bn2_eq, thr_eq, bn2_eq, gi_eq, if_pos rfl, if_neg (by decide)]
  rcases i_cs a1 (N := 22) (by decide) with h1 | ⟨h1, h2⟩ | ⟨o, ho, rfl⟩
  · exact bad (Or.inl h1)
  · exact bad (Or.inr ⟨h1, h2⟩)
  · clear bad
    have n1 : ¬ nI o < 0 := nI_pos (by omega)
    have n2 : ¬ (22 : Int32) ≤ nI o := nI_ge (b := 22) ho (by decide)
    have hcl : (nI o).toNatClampNeg = o := nI_clamp (by omega)
    rw [lt_eq, if_neg n1, if_neg n2, check_1, bnX_l, chk_pos (vp_in_nI ho (by decide)), chk_pos (in0 (by decide) (by decide)), hcl, fits_chain]
    by_cases hf : fit3 o a2 a3 a4 = 0
    · refine ⟨si σ 9 0 0 1, ?_, Iv_fI fI_thr hi⟩
      rw [hf, check_0, bnX_r, bnH_r, if_pos rfl]
      show bn2 (some (1, σ)) _ = _
      rw [bn2_eq, mf o ho, bn2_eq, lt_eq, lt_eq, hf, i00, gi_eq, if_neg le01, bn2_eq, thr_eq, bn2_eq, gi_eq, if_pos rfl, if_neg (by decide)]
    · have hf1 : fit3 o a2 a3 a4 = 1 := (fit3_01 o a2 a3 a4).resolve_left hf
      have hok := fit3_ok ho hf
      rw [hf1, check_1, bnX_l, lt_eq, p1.1]
      by_cases h60 : Q.length = 60
      · refine ⟨si σ 9 0 0 2, ?_, Iv_fI fI_thr hi⟩
        rw [h60, if_pos (show (60 : Int32) ≤ nI 60 by decide), demand_0, bnX_r, bnH_r, if_neg (by decide), if_pos rfl]
        show bn2 (some (2, σ)) _ = _
        rw [bn2_eq, mf o ho, bn2_eq, lt_eq, lt_eq, hf1, i10, p2.1, h60, if_pos (show nI 60 = (60 : Int32) by decide), gi_eq, if_neg le02, bn2_eq, thr_eq, bn2_eq, gi_eq, if_pos rfl, if_neg (by decide)]
      · have hlt : Q.length < 60 := by omega
        have e60 : ¬ nI Q.length = (60 : Int32) := fun z => h60 (nI_inj (by omega) (by decide) (z.trans (show (60 : Int32) = nI 60 by decide)))
        generalize hx : insOf o a2 a3 a4 = x at hok
        generalize hσ1 : emS σ Q.length x = σ1
        have g8 : gi σ1 0 0 8 = nI (Q.length + 1) := by rw [← hσ1]; unfold emS; rw [gi_eq]
        have c1' : Prc σ1 (Q ++ [x]) := by rw [← hσ1]; exact emS_Prc p1
        generalize hσ2 : si (sj σ1 44 0 ((0 : Int32).toNatClampNeg) (nI Q.length).toInt64) 9 0 0 0 = σ2
        have k2 : ∀ a b c, ¬ (a = 16 ∧ b = Q.length) → ¬ (a = 0 ∧ c = 8) → ¬ (a = 9 ∧ c = 0) → gi σ2 a b c = gi σ a b c := fun a b c z1 z2 z3 => by
          rw [← hσ2, gi_ne (by omega), gi_sj, ← hσ1]
          exact emS_gi z1 z2
        have m2 : Prm σ2 Q := Prm_fr (fun a b c hh => k2 a b c (by omega) (by omega) (by omega)) p2
        generalize hσ3 : ptS σ2 Q.length x = σ3
        have k3 : ∀ a b c, ¬ (a = 16 ∧ b = Q.length) → ¬ (a = 0 ∧ c = 8) → ¬ (a = 9 ∧ (c = 0 ∨ c = 10)) → ¬ a = 33 → gi σ3 a b c = gi σ a b c := fun a b c z1 z2 z3 z4 => by
          rw [← hσ3, ptS_gi (by omega) (by omega)]
          exact k2 a b c z1 z2 (by omega)
        have j3 : ∀ a b c, ¬ a = 44 → gj σ3 a b c = gj σ a b c := fun a b c z => by
          rw [← hσ3, ← hσ2]
          show gj (sj σ1 44 0 _ _) a b c = _
          rw [gj_ne (by omega), ← hσ1]
          rfl
        have r3' : ∀ a b c, ¬ (a = 6 ∧ b = Q.length) → gr σ3 a b c = gr σ a b c := fun a b c z => by
          rw [← hσ3, ← hσ2]
          show gr σ1 a b c = _
          rw [← hσ1]
          exact emS_gr z
        have nt3 : nt σ3 = nt σ := by rw [← hσ3, ← hσ2]; show nt σ1 = _; rw [← hσ1]; rfl
        refine ⟨σ3, ?_, N, col, R, v, Q ++ [x], Rs, q, Db_fD ⟨fun a b c hh => k3 a b c (by omega) (by omega) (by omega) (by omega), fun a b c hh => j3 a b c (by omega), nt3⟩ hd, ?_⟩
        · rw [if_neg (show ¬ (60 : Int32) ≤ nI Q.length from nI_ge (b := 60) hlt (by decide)), demand_1, bnX_l, emit_S hlt p1.1, bnd_eq, hx, hσ1, g8, nI_pred, bnH_l, chk_pos in01, lt_eq, bn2_eq, mf o ho, bn2_eq, lt_eq, lt_eq, hf1, i10, show gi (sj σ1 44 0 ((0 : Int32).toNatClampNeg) (nI Q.length).toInt64) 9 0 10 = nI Q.length by rw [gi_sj, ← hσ1, emS_gi (by omega) (by omega)]; exact p2.1]
          rw [if_neg e60, hσ2, show gi σ2 9 0 0 = 0 by rw [← hσ2, gi_eq], if_pos le00, put_S hlt ho m2.1, bnd_eq, hx, hσ3, bn2_eq, thr_eq, bn2_eq, show gi σ3 9 0 0 = 0 by rw [← hσ3, ptS_gi (by omega) (by omega), ← hσ2, gi_eq], if_pos rfl, if_pos rfl, chk_pos in01, show gi σ3 9 0 10 = nI (Q.length + 1) by rw [← hσ3]; unfold ptS; rw [gi_eq], nI_pred, if_pos ?_]
          rw [← hσ3, ← hσ2]
          show gj (sj σ1 44 0 _ _) 44 0 _ = _
          exact gj_eq
        · refine ⟨Co_fr (fun a b c hh => k3 a b c (by omega) (by omega) (by omega) (by omega)) (fun a b c hh => j3 a b c (by omega)) cc, ⟨?_, ?_, ?_, ?_⟩, ⟨Rsc_fr (fun a b c hh => k3 a b c (by omega) (by omega) (by omega) (by omega)) (fun a b c hh => j3 a b c (by omega)) r1, Rsm_fr (fun a b c hh => k3 a b c (by omega) (by omega) (by omega) (by omega)) (fun a b c hh => j3 a b c (by omega)) r2, r3⟩, ⟨Quc_fr (fun a b c hh => k3 a b c (by omega) (by omega) (by omega) (by omega)) q1, Qum_fr (fun a b c hh => k3 a b c (by omega) (by omega) (by omega) (by omega)) q2, q3⟩, fun i t hi' ht => by rw [nt3]; exact oo i t hi' ((r3' 7 i 0 (by omega)).symm.trans ht)⟩
          · refine Prc_fr (σ := σ1) (fun a b c hh => ?_) (fun a b c hh => ?_) c1'
            · rw [← hσ3, ptS_gi (by omega) (by omega), ← hσ2, gi_ne (by omega), gi_sj]
            · rw [← hσ3, ← hσ2]; rfl
          · rw [← hσ3]; exact ptS_Prm m2
          · rw [List.length_append, List.length_singleton]; omega
          · intro y hy
            rcases List.mem_append.mp hy with hy | hy
            · exact p3.2 y hy
            · rcases List.mem_singleton.mp hy with rfl
              exact hok
