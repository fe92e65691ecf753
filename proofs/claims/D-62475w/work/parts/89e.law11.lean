/-! the plain law: run, the case -/
theorem law_11 {σ : Sg} (a1 a2 a3 a4 : Int32) (h : Iv σ) : ∃ σ', g_law_11 a1 a2 a3 a4 σ = some σ' ∧ Iv σ' := by
  unfold g_law_11
  have hi := h
  obtain ⟨N, col, R, v, Q, Rs, q, hd, hr⟩ := h
  obtain ⟨f1, f2, f3, f4, f5, f6, f7⟩ := Db_fit hd
  obtain ⟨cc, ⟨p1, p2, p3⟩, ⟨r1, r2, r3⟩, ⟨q1, q2, q3⟩, oo⟩ := hr
  obtain ⟨xc, sc1, sc2⟩ := sound_C f2 f3 p1 p3
  -- both refuse
  have bad : (bn2 (if a1 < 0 then (some (0, σ)) else (if 4000 < a1 then (some (0, σ)) else (bn2 (f_TM_isSound σ) (fun r7 σ5 => (if r7 = 0 then (some (0, σ5)) else (some (1, σ5))))))) (fun (x1 : Int32) (σ2 : Sg) => bnX (f_TM_check x1 σ2) (fun (r13 : Unit) (σ11 : Sg) => (l_TM_run_28 0 σ11).bind (fun σ25 => (l_TM_run_51 0 σ25).bind (fun σ40 => lt_ (si σ40 0 0 13 0) (fun σ43 => lt_ (si σ43 0 0 14 (-1)) (fun σ44 => (l_TM_run_95 a1 0 0 σ44).bind (fun σ64 => (some (.inl (gi σ64 0 0 14), σ64) : Option ((Int32 ⊕ Nat) × Sg)))))))))) = some (.inr 0, σ) → (∀ K : Int32 → Sg → Option (Int32 × Sg), bn2 (if a1 < 0 then (some (1, σ)) else (if 4000 < a1 then (some (1, σ)) else (bn2 (f_Md_sound σ) (fun r7 σ5 => (if r7 = 0 then (some (1, σ5)) else (some (0, σ5))))))) K = K 1 σ) → ∃ σ', bn2 (f_Lw_run a1 σ) (fun (r153 : Int32) (σ151 : Sg) => bn2 (f_Md_run a1 σ151) (fun (r156 : Int32) (σ154 : Sg) => bn2 (f_Md_thrown σ154) (fun (r159 : Int32) (σ157 : Sg) => (if r159 = r153 then (if r153 = 0 then (chk (vp_in 0 1) ((if (gj σ157 44 0 ((0 : Int32).toNatClampNeg)) = r156.toInt64 then (some σ157) else none))) else (some σ157)) else none)))) = some σ' ∧ Iv σ' := fun e1 e2 => by
    refine ⟨si σ 9 0 0 1, ?_, Iv_fI fI_thr hi⟩
    unfold f_Lw_run f_TM_run f_Md_run
    rw [e1, bnH_r, if_pos rfl]
    show bn2 (some (1, σ)) _ = _
    rw [bn2_eq, e2, lt_eq, gi_eq, if_neg le01, bn2_eq, thr_eq, bn2_eq, gi_eq, if_pos rfl, if_neg (by decide)]
  rcases i_cs a1 (N := 4001) (by decide) with h1 | ⟨h1, h2⟩ | ⟨T, hT, rfl⟩
  · exact bad (by rw [if_pos h1, bn2_eq, check_0, bnX_r]) (fun K => by rw [if_pos h1, bn2_eq])
  · have h4 : (4000 : Int32) < a1 := by
      rw [lt_toInt, show (4000 : Int32).toInt = 4000 by decide]
      have := le_toInt.mp h2
      rw [nI_toInt (by decide)] at this
      omega
    exact bad (by rw [if_neg h1, if_pos h4, bn2_eq, check_0, bnX_r]) (fun K => by rw [if_neg h1, if_pos h4, bn2_eq])
  have n1 : ¬ nI T < 0 := nI_pos (by omega)
  have n2 : ¬ (4000 : Int32) < nI T := nI_nlt (a := 4000) (by omega) (by decide)
  rcases sc2 with ⟨rfl, hsound⟩ | ⟨rfl, hun⟩
  · clear bad
    obtain ⟨σ1, σ2, b1, b2, b3, b4⟩ := beg_C hd.1 hd.2.1 hd.2.2.2
    generalize hσ3 : si (si σ2 0 0 13 0) 0 0 14 (-1) = σ3 at b3 b4
    obtain ⟨σ4, R', rg', cu', Rs', cd, l1, l2, l3, l4, l5⟩ := run_ok (col := col) p3 hsound (T := T) (by omega) T 0 0 σ3 R _ _ _ FU (by omega) b3 (Prc_fK b4 p1) (by rw [← hσ3, gi_eq]) (Nat.zero_le _) (by unfold FU; omega)
    have hf4 : fKc σ σ4 := b4.tr l3
    generalize hσ5 : sj σ4 44 0 ((0 : Int32).toNatClampNeg) cd.toInt64 = σ5
    have k5 : ∀ a b c, gi σ5 a b c = gi σ4 a b c := fun a b c => by rw [← hσ5, gi_sj]
    have j5 : ∀ a b c, ¬ a = 44 → gj σ5 a b c = gj σ4 a b c := fun a b c h => by rw [← hσ5, gj_ne (by omega)]
    have p5 : Prm σ5 Q := Prm_fr (fun a b c hh => (k5 a b c).trans (hf4.1 a b c (by omega))) p2
    have N5 : gi σ5 9 0 1 = nI N := (k5 _ _ _).trans ((hf4.1 _ _ _ (by omega)).trans f4)
    obtain ⟨xm, sm1, sm2⟩ := sound_M f2 N5 p5 p3
    have hxm : xm = 1 := by
      rcases sm2 with ⟨z, -⟩ | ⟨-, z⟩
      · exact z
      · exact absurd hsound z
    subst hxm
    have M5 : Mo (si σ5 9 0 0 0) N col R := Mo_fr (fun a b c hh => by rw [gi_ne (by omega)]; exact (k5 a b c).trans (hf4.1 a b c (by omega))) (fun a b c hh => (j5 a b c (by omega)).trans (hf4.2.1 a b c (by omega))) hd.2.2.1
    obtain ⟨τ1, τ2, m1, m2, m3, m4, m5⟩ := beg_M M5
    generalize hτ3 : si (si (si τ2 9 0 19 0) 9 0 17 0) 9 0 18 0 = τ3 at m3 m4
    have pτ3 : Prm τ3 Q := Prm_fK m4 (Prm_fr (fun a b c hh => gi_ne (by omega)) p5)
    obtain ⟨τ4, t1, t2, t3⟩ := l5 τ3 FU m3 pτ3 (by rw [← hτ3, gi_eq]; rfl) (by rw [← hτ3, gi_ne (by omega), gi_eq]) (by unfold FU; omega)
    -- the state at the end
    have z0 : gi τ3 9 0 0 = 0 := by rw [← hτ3, gi_ne (by omega), gi_ne (by omega), gi_ne (by omega), m5, gi_eq]
    have fin : ∀ τ5, (∀ a b c, ¬ (a = 9 ∧ c = 17) → gi τ5 a b c = gi τ4 a b c) → (∀ a b c, gj τ5 a b c = gj τ4 a b c) → (∀ a b c, gr τ5 a b c = gr τ4 a b c) → nt τ5 = nt τ4 → Iv τ5 := fun τ5 g1 g2 g3 g4 => by
      have fm0 : fKm (si σ5 9 0 0 0) τ4 := m4.tr t2
      have fm1 : ∀ a b c, ¬ ((a = 9 ∧ (c = 0 ∨ c = 3 ∨ c = 17 ∨ c = 18 ∨ c = 19)) ∨ a = 27 ∨ a = 30 ∨ a = 35 ∨ a = 36 ∨ a = 37 ∨ a = 39 ∨ a = 41) → gi τ4 a b c = gi σ5 a b c := fun a b c hn => (fm0.1 a b c (by omega)).trans (gi_ne (by omega))
      have c1' : ∀ a b c, ¬ ((a = 9 ∧ (c = 0 ∨ c = 3 ∨ c = 17 ∨ c = 18 ∨ c = 19)) ∨ a = 27 ∨ a = 30 ∨ a = 35 ∨ a = 36 ∨ a = 37 ∨ a = 39 ∨ a = 41) → gi τ5 a b c = gi σ4 a b c := fun a b c hn => (g1 a b c (by omega)).trans ((fm1 a b c hn).trans (k5 a b c))
      have c2' : ∀ a b c, ¬ (a = 28 ∨ a = 29 ∨ a = 34 ∨ a = 38 ∨ a = 40) → ¬ a = 44 → gj τ5 a b c = gj σ4 a b c := fun a b c hn h44 => (g2 a b c).trans ((fm0.2.1 a b c hn).trans (j5 a b c h44))
      have c3' : ∀ a b c, gr τ5 a b c = gr σ4 a b c := fun a b c => by rw [g3, fm0.2.2.1, ← hσ5]; rfl
      have c4' : nt τ5 = nt σ4 := by rw [g4, fm0.2.2.2, ← hσ5]; rfl
      obtain ⟨u1, u2, u3, u4, u5, u6, u7⟩ := l2
      obtain ⟨w1, w2, w3, w4⟩ := t1
      refine ⟨N, col, R', v, Q, Rs', q, ⟨Ct_fC ⟨fun a b c hh => c1' a b c (by omega), c4'⟩ u1, (c1' _ _ _ (by omega)).trans u2, Mo_fr (fun a b c hh => g1 a b c (by omega)) (fun a b c hh => g2 a b c) w1, u3⟩, ?_, ⟨?_, ?_, p3⟩, ⟨?_, ?_, u7⟩, ⟨?_, ?_, q3⟩, fun i t hi' ht => ?_⟩
      · exact Co_fr (fun a b c hh => (c1' a b c (by omega)).trans (hf4.1 a b c (by omega))) (fun a b c hh => (c2' a b c (by omega) (by omega)).trans (hf4.2.1 a b c (by omega))) cc
      · exact Prc_fr (fun a b c hh => (c1' a b c (by omega)).trans (hf4.1 a b c (by omega))) (fun a b c hh => (c3' a b c).trans (hf4.2.2.1 a b c (by omega))) p1
      · exact Prm_fr (fun a b c hh => (c1' a b c (by omega)).trans (hf4.1 a b c (by omega))) p2
      · exact Rsc_fr (fun a b c hh => c1' a b c (by omega)) (fun a b c hh => c2' a b c (by omega) (by omega)) u6
      · exact Rsm_fr (fun a b c hh => g1 a b c (by omega)) (fun a b c hh => g2 a b c) w4
      · exact Quc_fr (fun a b c hh => (c1' a b c (by omega)).trans (hf4.1 a b c (by omega))) q1
      · exact Qum_fr (fun a b c hh => (c1' a b c (by omega)).trans (hf4.1 a b c (by omega))) q2
      · rw [c4', (Ct_N u1).1]
        have hcu := u5 i hi'
        rw [c3'] at ht
        cases hc : cu' i with
        | none =>
          rw [hc] at hcu
          have hcu' : gr σ4 7 i 0 = none := hcu
          rw [hcu'] at ht
          cases ht
        | some p =>
          rw [hc] at hcu
          obtain ⟨x1, x2, -⟩ := hcu
          rw [x2] at ht
          cases ht
          exact x1
    have tm : f_Lw_run (nI T) σ = some (0, σ5) := by
      unfold f_Lw_run f_TM_run l_TM_run_95
      rw [if_neg n1, if_neg n2, sc1, bn2_eq, i10, bn2_eq, check_1, bnX_l, b1, bnd_eq, b2, bnd_eq, lt_eq, lt_eq, hσ3]
      rw [show (lp (fun q => b_TM_run_95 (nI T) q.1 q.2.1 q.2.2) FU ((0 : Int32), (0 : Int32), σ3)) = some σ4 from l1, bnd_eq, bnH_l, l4, chk_pos in01, lt_eq, hσ5]
    have md : ∀ (X : Option (Sg ⊕ Sg)), lp (fun q => b_Md_run_103 (nI T) q.1 q.2.1 q.2.2) FU (nI 0, 1, τ3) = X → f_Md_run (nI T) σ5 = Option.bind X (sE (fun σ54 => lt_ (si σ54 9 0 17 1) (fun σ58 => some (gi σ58 9 0 17, σ58))) (fun σ55 => some (gi σ55 9 0 17, σ55))) := fun X hX => by
      rw [← hX]
      unfold f_Md_run l_Md_run_103
      rw [if_neg n1, if_neg n2, sm1, bn2_eq, i10, bn2_eq, lt_eq, gi_eq, if_pos le00, m1, bnd_eq, m2, bnd_eq, lt_eq, lt_eq, lt_eq, hτ3]
      rfl
    rcases t3 with ⟨t3, t4⟩ | ⟨t3, rfl⟩
    · refine ⟨τ4, ?_, fin τ4 (fun _ _ _ _ => rfl) (fun _ _ _ => rfl) (fun _ _ _ => rfl) rfl⟩
      have e0 : gi τ4 9 0 0 = 0 := (t2.1 _ _ _ (by omega)).trans z0
      rw [tm, bn2_eq, md _ t3, bnd_eq]
      show bn2 (some (gi τ4 9 0 17, τ4)) _ = _
      rw [bn2_eq, thr_eq, bn2_eq, e0, if_pos rfl, if_pos rfl, chk_pos in01, t4, if_pos ?_]
      rw [t2.2.1 _ _ _ (by omega), m4.2.1 _ _ _ (by omega), gj_si, ← hσ5, gj_eq]
    · refine ⟨si τ4 9 0 17 1, ?_, fin _ (fun a b c h => gi_ne (by omega)) (fun _ _ _ => rfl) (fun _ _ _ => rfl) rfl⟩
      have e0 : gi (si τ4 9 0 17 1) 9 0 0 = 0 := by
        rw [gi_ne (by omega)]
        exact (t2.1 _ _ _ (by omega)).trans z0
      rw [tm, bn2_eq, md _ t3, bnd_eq]
      show bn2 (some (gi (si τ4 9 0 17 1) 9 0 17, si τ4 9 0 17 1)) _ = _
      rw [bn2_eq, thr_eq, bn2_eq, e0, if_pos rfl, if_pos rfl, chk_pos in01, gi_eq, if_pos ?_]
      rw [gj_si, t2.2.1 _ _ _ (by omega), m4.2.1 _ _ _ (by omega), gj_si, ← hσ5, gj_eq]
  · obtain ⟨xm, sm1, sm2⟩ := sound_M f2 f4 p2 p3
    have hxm : xm = 0 := by
      rcases sm2 with ⟨-, z⟩ | ⟨z, -⟩
      · exact absurd z hun
      · exact z
    subst hxm
    exact bad (by rw [if_neg n1, if_neg n2, sc1, bn2_eq, i00, bn2_eq, check_0, bnX_r]) (fun K => by rw [if_neg n1, if_neg n2, sm1, bn2_eq, i00, bn2_eq])
