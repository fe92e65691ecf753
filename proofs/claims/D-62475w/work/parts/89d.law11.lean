/-! the plain law: run -/
theorem isT_1 {N t : Nat} (hN : N ≤ 3) (ht : t < N) : (∀ σ, gi σ 0 0 2 = nI N → f_TM_isTable (nI t) σ = some (1, σ)) ∧ (∀ σ, gi σ 9 0 1 = nI N → f_Md_isTable (nI t) σ = some (1, σ)) := by
  refine ⟨fun σ hσ => ?_, fun σ hσ => ?_⟩
  · unfold f_TM_isTable
    rw [lt_eq, if_neg (nI_pos (by omega)), hσ, if_neg (nI_ge ht (by omega)), chk_pos zb1]
  · unfold f_Md_isTable
    rw [lt_eq, if_neg (nI_pos (by omega)), hσ, if_neg (nI_ge ht (by omega)), chk_pos zb1]
theorem isT_d (N : Nat) (a : Int32) (hN : N ≤ 3) : ((¬ ∃ t, t < N ∧ a = nI t) ∧ (∀ σ, gi σ 0 0 2 = nI N → f_TM_isTable a σ = some (0, σ)) ∧ (∀ σ, gi σ 9 0 1 = nI N → f_Md_isTable a σ = some (0, σ))) ∨ ((∃ t, t < N ∧ a = nI t) ∧ (∀ σ, gi σ 0 0 2 = nI N → f_TM_isTable a σ = some (1, σ)) ∧ (∀ σ, gi σ 9 0 1 = nI N → f_Md_isTable a σ = some (1, σ))) := by
  by_cases h : ∃ t, t < N ∧ a = nI t
  · obtain ⟨t, ht, rfl⟩ := h
    exact Or.inr ⟨⟨t, ht, rfl⟩, isT_1 hN ht⟩
  · rcases isT_cs N a hN with z | ⟨t, ht, e, -⟩
    · exact Or.inl ⟨h, z⟩
    · exact absurd ⟨t, ht, e⟩ h
/-- a sound program so far, as a flag -/
def sdS (N L : Nat) (A : List Ins) (x : Int32) : Prop := (x = 1 ∧ ∀ y ∈ A, snd1 N L y) ∨ (x = 0 ∧ ¬ ∀ y ∈ A, snd1 N L y)
theorem sdS_snoc {N L : Nat} {A : List Ins} {y : Ins} {x z : Int32} (h : sdS N L A x) (h0 : x = 0 → z = 0) (h1 : x = 1 → (z = 1 ∧ snd1 N L y) ∨ (z = 0 ∧ ¬ snd1 N L y)) : sdS N L (A ++ [y]) z := by
  rcases h with ⟨h2, h3⟩ | ⟨h2, h3⟩
  · rcases h1 h2 with ⟨a, b⟩ | ⟨a, b⟩
    · refine Or.inl ⟨a, fun w hw => ?_⟩
      rcases List.mem_append.mp hw with hw | hw
      · exact h3 w hw
      · rcases List.mem_singleton.mp hw with rfl
        exact b
    · exact Or.inr ⟨a, fun w => b (w y (List.mem_append_right _ List.mem_cons_self))⟩
  · exact Or.inr ⟨h0 h2, fun w => h3 (fun u hu => w u (List.mem_append_left _ hu))⟩
theorem sound_C {σ : Sg} {N : Nat} {Q : List Ins} (hN : N ≤ 3) (h2 : gi σ 0 0 2 = nI N) (hP : Prc σ Q) (hw : wQ Q) : ∃ x, f_TM_isSound σ = some (x, σ) ∧ sdS N Q.length Q x := by
  have hl := hw.1
  unfold f_TM_isSound l_TM_isSound_4
  obtain ⟨e, h1, h3⟩ := lp_for (body := fun q : Int32 × Int32 × Sg => b_TM_isSound_4 q.1 q.2.1 q.2.2) (s := (1, 0, σ)) (fun i s => s.2.1 = nI i ∧ s.2.2 = σ ∧ sdS N Q.length (Q.take i) s.1) (fun e => e.2 = σ ∧ sdS N Q.length Q e.1) Q.length (by omega) ⟨rfl, rfl, Or.inl ⟨rfl, fun y hy => by rw [List.take_zero] at hy; cases hy⟩⟩
    (fun i s hi hs => by
      obtain ⟨x, w, τ⟩ := s
      obtain ⟨rfl, rfl, hs⟩ := hs
      obtain ⟨y, hy, htk⟩ := take_gg hi
      have hI : insC τ i y := hP.2 i y hy
      have hok := hw.2 y (List.mem_of_getElem? hy)
      have hin : vp_in (nI i) 60 := vp_in_nI (by omega) (by decide)
      have hcl : (nI i).toNatClampNeg = i := nI_clamp (by omega)
      have P8 : gi τ 0 0 8 = nI Q.length := hP.1
      have N2 : gi τ 0 0 2 = nI N := h2
      have val : ∃ z, (if x = 0 then (some ((0 : Int32), τ)) else (chk (vp_in (nI i) 60) (bn2 (f_In_goal (nI i).toNatClampNeg τ) (fun r14 σ12 => (if (gi σ12 0 0 8) < r14 then (some (0, σ12)) else (chk (vp_in (nI i) 60) ((gr σ12 6 (nI i).toNatClampNeg 0).bind (fun o16 => chk (o16 < 22) ((if o16 = 1 then (chk (vp_in (nI i) 60) (chk (vp_in 1 3) (bn2 (f_TM_isTable (gi σ12 16 (nI i).toNatClampNeg ((1 : Int32).toNatClampNeg)) σ12) (fun r22 σ20 => (if r22 = 0 then (some (0, σ20)) else (some (1, σ20))))))) else (some (1, σ12)))))))))))) = some (z, τ) ∧ sdS N Q.length (Q.take i ++ [y]) z := by
        rcases hs with ⟨hx, hs2⟩ | ⟨hx, hs2⟩
        · have hx' : x = 1 := hx
          subst hx'
          rw [i10, chk_pos hin, hcl, goal_S hI hok.1, bn2_eq, P8]
          by_cases hg : gl y ≤ nI Q.length
          · rw [if_neg (Int32.not_lt.mpr hg), chk_pos hin, hI.1, bnd_eq, chk_pos hok.1]
            by_cases ho1 : y.1 = 1
            · rw [if_pos ho1, chk_pos hin, chk_pos v13, c1, hI.2.2.1]
              rcases isT_d N y.2.2.1 hN with ⟨t1, t2, -⟩ | ⟨t1, t2, -⟩
              · rw [t2 τ N2, bn2_eq, i00]
                exact ⟨0, rfl, sdS_snoc (Or.inl ⟨rfl, hs2⟩) (fun z => absurd z (by decide)) (fun _ => Or.inr ⟨rfl, fun z => t1 (z.1 ho1)⟩)⟩
              · rw [t2 τ N2, bn2_eq, i10]
                exact ⟨1, rfl, sdS_snoc (Or.inl ⟨rfl, hs2⟩) (fun z => absurd z (by decide)) (fun _ => Or.inl ⟨rfl, fun _ => t1, hg⟩)⟩
            · rw [if_neg ho1]
              exact ⟨1, rfl, sdS_snoc (Or.inl ⟨rfl, hs2⟩) (fun z => absurd z (by decide)) (fun _ => Or.inl ⟨rfl, fun z => absurd z ho1, hg⟩)⟩
          · rw [if_pos (Int32.not_le.mp hg)]
            exact ⟨0, rfl, sdS_snoc (Or.inl ⟨rfl, hs2⟩) (fun z => absurd z (by decide)) (fun _ => Or.inr ⟨rfl, fun z => hg z.2⟩)⟩
        · have hx' : x = 0 := hx
          subst hx'
          rw [i00]
          exact ⟨0, rfl, sdS_snoc (Or.inr ⟨rfl, hs2⟩) (fun _ => rfl) (fun z => absurd z (by decide))⟩
      obtain ⟨z, z1, z2⟩ := val
      show ∃ s', b_TM_isSound_4 x (nI i) τ = _ ∧ _
      unfold b_TM_isSound_4
      rw [P8, if_neg (nI_ge hi (by omega)), z1, bn2_eq, lt_eq, nI_1]
      exact ⟨_, rfl, rfl, rfl, by rw [htk]; exact z2⟩)
    (fun s hs => by
      obtain ⟨x, w, τ⟩ := s
      obtain ⟨rfl, rfl, hs⟩ := hs
      refine ⟨(x, τ), ?_, rfl, by rw [List.take_length] at hs; exact hs⟩
      show b_TM_isSound_4 x (nI Q.length) τ = _
      unfold b_TM_isSound_4
      rw [show gi τ 0 0 8 = nI Q.length from hP.1, if_pos (Int32.le_refl _)])
  obtain ⟨x, τ⟩ := e
  obtain ⟨rfl, h3⟩ := h3
  refine ⟨x, ?_, h3⟩
  have hz : zb x := by
    rcases h3 with ⟨a, -⟩ | ⟨a, -⟩
    · exact Or.inr a
    · exact Or.inl a
  rw [h1, bn2_eq, chk_pos hz]
theorem sound_M {σ : Sg} {N : Nat} {Q : List Ins} (hN : N ≤ 3) (h2 : gi σ 9 0 1 = nI N) (hP : Prm σ Q) (hw : wQ Q) : ∃ x, f_Md_sound σ = some (x, σ) ∧ sdS N Q.length Q x := by
  have hl := hw.1
  unfold f_Md_sound l_Md_sound_4
  obtain ⟨e, h1, h3⟩ := lp_for (body := fun q : Int32 × Int32 × Sg => b_Md_sound_4 q.1 q.2.1 q.2.2) (s := (1, 0, σ)) (fun i s => s.2.1 = nI i ∧ s.2.2 = σ ∧ sdS N Q.length (Q.take i) s.1) (fun e => e.2 = σ ∧ sdS N Q.length Q e.1) Q.length (by omega) ⟨rfl, rfl, Or.inl ⟨rfl, fun y hy => by rw [List.take_zero] at hy; cases hy⟩⟩
    (fun i s hi hs => by
      obtain ⟨x, w, τ⟩ := s
      obtain ⟨rfl, rfl, hs⟩ := hs
      obtain ⟨y, hy, htk⟩ := take_gg hi
      obtain ⟨q1, q2, q3, q4⟩ : insM τ i y := hP.2 i y hy
      have hok := hw.2 y (List.mem_of_getElem? hy)
      have P10 : gi τ 9 0 10 = nI Q.length := hP.1
      have N1 : gi τ 9 0 1 = nI N := h2
      have p1 : nI (4 * i) + 1 = nI (4 * i + 1) := nI_plus (4 * i) 1
      have p2 : nI (4 * i) + 2 = nI (4 * i + 2) := nI_plus (4 * i) 2
      have v1 : vp_in (nI (4 * i + 1)) 240 := vp_in_nI (by omega) (by decide)
      have v2 : vp_in (nI (4 * i + 2)) 240 := vp_in_nI (by omega) (by decide)
      have t1 : (nI (4 * i + 1)).toNatClampNeg = 4 * i + 1 := nI_clamp (by omega)
      have t2 : (nI (4 * i + 2)).toNatClampNeg = 4 * i + 2 := nI_clamp (by omega)
      show ∃ s', b_Md_sound_4 x (nI i) τ = _ ∧ _
      unfold b_Md_sound_4
      rw [P10, if_neg (nI_ge hi (by omega)), nI_4, chk_pos (vp_in_nI (by omega) (by decide)), lt_eq, show (nI (4 * i)).toNatClampNeg = 4 * i from nI_clamp (by omega), q1, p2, t2, q3]
      rcases hs with ⟨hx, hs2⟩ | ⟨hx, hs2⟩
      · have hx' : x = 1 := hx
        subst hx'
        have tb : ∃ g, (if nI y.1 = 1 then (chk (vp_in (nI (4 * i + 2)) 240) (bn2 (f_Md_isTable y.2.2.1 τ) (fun r16 σ14 => (if r16 = 0 then (some ((0 : Int32), σ14)) else (some (1, σ14)))))) else (some (1, τ))) = some (g, τ) ∧ ((g = 1 ∧ (y.1 = 1 → ∃ t, t < N ∧ y.2.2.1 = nI t)) ∨ (g = 0 ∧ ¬ (y.1 = 1 → ∃ t, t < N ∧ y.2.2.1 = nI t))) := by
          by_cases ho1 : y.1 = 1
          · rw [if_pos (by rw [ho1]; decide), chk_pos v2]
            rcases isT_d N y.2.2.1 hN with ⟨u1, -, u2⟩ | ⟨u1, -, u2⟩
            · rw [u2 τ N1, bn2_eq, i00]
              exact ⟨0, rfl, Or.inr ⟨rfl, fun z => u1 (z ho1)⟩⟩
            · rw [u2 τ N1, bn2_eq, i10]
              exact ⟨1, rfl, Or.inl ⟨rfl, fun _ => u1⟩⟩
          · have hoo := hok.1
            rw [if_neg (fun z => ho1 (nI_inj (by omega) (by decide) (z.trans (show (1 : Int32) = nI 1 from rfl))))]
            exact ⟨1, rfl, Or.inl ⟨rfl, fun z => absurd z ho1⟩⟩
        obtain ⟨g, g1, g2⟩ := tb
        rw [i10, g1, bn2_eq]
        rcases g2 with ⟨rfl, g2⟩ | ⟨rfl, g2⟩
        · rw [i10, goal_M, bn2_eq]
          rcases gl_cs hok with ⟨m, gg⟩ | ⟨m, gg, p, hp, gp⟩ | ⟨m, gg, p, hp, gp⟩
          · rw [m, i00, bn2_eq, lt_eq, nI_1]
            refine ⟨_, rfl, rfl, rfl, ?_⟩
            rw [htk]
            refine sdS_snoc (Or.inl ⟨rfl, hs2⟩) (fun z => absurd z (by decide)) (fun _ => Or.inl ⟨rfl, g2, ?_⟩)
            rw [gg, le_toInt, nI_toInt (by omega), show (-1 : Int32).toInt = -1 by decide]
            omega
          · rw [m, i10, goal_M, bn2_eq, m, p1, chk_pos v1, t1, q2, P10, ← gg]
            by_cases hg : gl y ≤ nI Q.length
            · rw [if_neg (Int32.not_lt.mpr hg), bn2_eq, lt_eq, nI_1]
              exact ⟨_, rfl, rfl, rfl, by rw [htk]; exact sdS_snoc (Or.inl ⟨rfl, hs2⟩) (fun z => absurd z (by decide)) (fun _ => Or.inl ⟨rfl, g2, hg⟩)⟩
            · rw [if_pos (Int32.not_le.mp hg), bn2_eq, lt_eq, nI_1]
              exact ⟨_, rfl, rfl, rfl, by rw [htk]; exact sdS_snoc (Or.inl ⟨rfl, hs2⟩) (fun z => absurd z (by decide)) (fun _ => Or.inr ⟨rfl, fun z => hg z.2⟩)⟩
          · rw [m, if_neg (show ¬ (2 : Int32) = 0 by decide), goal_M, bn2_eq, m, p2, chk_pos v2, t2, q3, P10, ← gg]
            by_cases hg : gl y ≤ nI Q.length
            · rw [if_neg (Int32.not_lt.mpr hg), bn2_eq, lt_eq, nI_1]
              exact ⟨_, rfl, rfl, rfl, by rw [htk]; exact sdS_snoc (Or.inl ⟨rfl, hs2⟩) (fun z => absurd z (by decide)) (fun _ => Or.inl ⟨rfl, g2, hg⟩)⟩
            · rw [if_pos (Int32.not_le.mp hg), bn2_eq, lt_eq, nI_1]
              exact ⟨_, rfl, rfl, rfl, by rw [htk]; exact sdS_snoc (Or.inl ⟨rfl, hs2⟩) (fun z => absurd z (by decide)) (fun _ => Or.inr ⟨rfl, fun z => hg z.2⟩)⟩
        · rw [i00, bn2_eq, lt_eq, nI_1]
          exact ⟨_, rfl, rfl, rfl, by rw [htk]; exact sdS_snoc (Or.inl ⟨rfl, hs2⟩) (fun z => absurd z (by decide)) (fun _ => Or.inr ⟨rfl, fun z => g2 z.1⟩)⟩
      · have hx' : x = 0 := hx
        subst hx'
        rw [i00, bn2_eq, i00, bn2_eq, lt_eq, nI_1]
        exact ⟨_, rfl, rfl, rfl, by rw [htk]; exact sdS_snoc (Or.inr ⟨rfl, hs2⟩) (fun _ => rfl) (fun z => absurd z (by decide))⟩)
    (fun s hs => by
      obtain ⟨x, w, τ⟩ := s
      obtain ⟨rfl, rfl, hs⟩ := hs
      refine ⟨(x, τ), ?_, rfl, by rw [List.take_length] at hs; exact hs⟩
      show b_Md_sound_4 x (nI Q.length) τ = _
      unfold b_Md_sound_4
      rw [show gi τ 9 0 10 = nI Q.length from hP.1, if_pos (Int32.le_refl _)])
  obtain ⟨x, τ⟩ := e
  obtain ⟨rfl, h3⟩ := h3
  refine ⟨x, ?_, h3⟩
  have hz : zb x := by
    rcases h3 with ⟨a, -⟩ | ⟨a, -⟩
    · exact Or.inr a
    · exact Or.inl a
  rw [h1, bn2_eq, chk_pos hz]
-- ===== how a run begins =====
theorem beg_C {σ : Sg} {N : Nat} {col : Nat → Nat} {R : List Row} (hc : Ct σ N col R) (h3 : gi σ 0 0 3 = nI R.length) (hw : wR N col R) : ∃ σ1 σ2, l_TM_run_28 0 σ = some σ1 ∧ l_TM_run_51 0 σ1 = some σ2 ∧ KC (si (si σ2 0 0 13 0) 0 0 14 (-1)) N col R (fun _ => none) (fun _ => none) [] ∧ fKc σ (si (si σ2 0 0 13 0) 0 0 14 (-1)) := by
  have L1 : ∃ e, l_TM_run_28 0 σ = some e ∧ ((∀ x y z, ¬ (x = 5 ∧ 8 ≤ y ∧ y < 24) → gi e x y z = gi σ x y z) ∧ (∀ x y z, ¬ (x = 5 ∧ 8 ≤ y ∧ y < 24) → gj e x y z = gj σ x y z) ∧ (∀ x y z, gr e x y z = gr σ x y z) ∧ nt e = nt σ ∧ ∀ j, j < 16 → V5 e (8 + j) none) := by
    unfold l_TM_run_28
    refine lp_for (body := fun q : Int32 × Sg => b_TM_run_28 q.1 q.2) (s := (0, σ)) (fun k s => s.1 = nI k ∧ ((∀ x y z, ¬ (x = 5 ∧ 8 ≤ y ∧ y < 24) → gi s.2 x y z = gi σ x y z) ∧ (∀ x y z, ¬ (x = 5 ∧ 8 ≤ y ∧ y < 24) → gj s.2 x y z = gj σ x y z) ∧ (∀ x y z, gr s.2 x y z = gr σ x y z) ∧ nt s.2 = nt σ ∧ ∀ j, j < k → V5 s.2 (8 + j) none)) _ 16 (by omega) ⟨rfl, fun _ _ _ _ => rfl, fun _ _ _ _ => rfl, fun _ _ _ => rfl, rfl, fun j hj => absurd hj (by omega)⟩ (fun k s hk hs => ?_) (fun s hs => ?_)
    · obtain ⟨x, τ⟩ := s
      obtain ⟨rfl, s1, s2, s3, s4, s5⟩ := hs
      show ∃ s', b_TM_run_28 (nI k) τ = _ ∧ _
      unfold b_TM_run_28
      rw [if_neg (show ¬ (16 : Int32) ≤ nI k from nI_ge (b := 16) hk (by decide)), chk_pos (vr16 hk), nI_clamp (by omega), none_eq, bnd_eq, lt_eq, nI_1]
      refine ⟨_, rfl, rfl, fun x y z hn => ?_, fun x y z hn => ?_, s3, s4, fun j hj => ?_⟩
      · show gi (sV τ _ _) x y z = _
        rw [gi_sV, if_neg (by omega)]
        exact s1 x y z hn
      · show gj (sV τ _ _) x y z = _
        rw [gj_sV, if_neg (by omega)]
        exact s2 x y z hn
      · show V5 (sV τ _ _) _ _
        by_cases hjk : j = k
        · subst hjk
          exact ⟨by rw [gi_sV, if_pos ⟨rfl, rfl, rfl⟩], by rw [gj_sV, if_pos ⟨rfl, rfl, rfl⟩]⟩
        · exact ⟨by rw [gi_sV, if_neg (by omega)]; exact (s5 j (by omega)).1, by rw [gj_sV, if_neg (by omega)]; exact (s5 j (by omega)).2⟩
    · obtain ⟨x, τ⟩ := s
      obtain ⟨rfl, hs⟩ := hs
      refine ⟨τ, ?_, hs⟩
      show b_TM_run_28 (nI 16) τ = _
      unfold b_TM_run_28
      rw [if_pos (show (16 : Int32) ≤ nI 16 from Int32.le_refl _)]
  obtain ⟨σ1, a1, a2, a3, a4, a5, a6⟩ := L1
  have L2 : ∃ e, l_TM_run_51 0 σ1 = some e ∧ ((∀ x y z, ¬ x = 7 → gi e x y z = gi σ1 x y z) ∧ (∀ x y z, ¬ x = 7 → gj e x y z = gj σ1 x y z) ∧ (∀ x y z, ¬ x = 7 → gr e x y z = gr σ1 x y z) ∧ nt e = nt σ1 ∧ ∀ j, j < 3 → gr e 7 j 0 = none) := by
    unfold l_TM_run_51
    refine lp_for (body := fun q : Int32 × Sg => b_TM_run_51 q.1 q.2) (s := (0, σ1)) (fun k s => s.1 = nI k ∧ ((∀ x y z, ¬ x = 7 → gi s.2 x y z = gi σ1 x y z) ∧ (∀ x y z, ¬ x = 7 → gj s.2 x y z = gj σ1 x y z) ∧ (∀ x y z, ¬ x = 7 → gr s.2 x y z = gr σ1 x y z) ∧ nt s.2 = nt σ1 ∧ ∀ j, j < k → gr s.2 7 j 0 = none)) _ 3 (by omega) ⟨rfl, fun _ _ _ _ => rfl, fun _ _ _ _ => rfl, fun _ _ _ _ => rfl, rfl, fun j hj => absurd hj (by omega)⟩ (fun k s hk hs => ?_) (fun s hs => ?_)
    · obtain ⟨x, τ⟩ := s
      obtain ⟨rfl, s1, s2, s3, s4, s5⟩ := hs
      show ∃ s', b_TM_run_51 (nI k) τ = _ ∧ _
      unfold b_TM_run_51 f_Cu_clear
      rw [if_neg (show ¬ (3 : Int32) ≤ nI k from nI_ge (b := 3) hk (by decide)), chk_pos (vc3 hk), lt_eq, chk_pos (vc3 hk), lt_eq, lt_eq, bnd_eq, lt_eq, nI_1, nI_clamp (by omega)]
      refine ⟨_, rfl, rfl, fun x y z hn => ?_, fun x y z hn => ?_, fun x y z hn => ?_, s4, fun j hj => ?_⟩
      · show gi (sj (si (sr τ 7 k 0 none) 7 k 1 0) 7 k 2 0) x y z = _
        rw [gi_sj, gi_ne (by omega), gi_sr]
        exact s1 x y z hn
      · show gj (sj (si (sr τ 7 k 0 none) 7 k 1 0) 7 k 2 0) x y z = _
        rw [gj_ne (by omega), gj_si, gj_sr]
        exact s2 x y z hn
      · show gr (sj (si (sr τ 7 k 0 none) 7 k 1 0) 7 k 2 0) x y z = _
        rw [gr_sj, gr_si, gr_sr, if_neg (by omega)]
        exact s3 x y z hn
      · show gr (sj (si (sr τ 7 k 0 none) 7 k 1 0) 7 k 2 0) 7 j 0 = none
        rw [gr_sj, gr_si, gr_sr]
        by_cases hjk : j = k
        · rw [if_pos ⟨rfl, hjk, rfl⟩]
        · rw [if_neg (by omega)]
          exact s5 j (by omega)
    · obtain ⟨x, τ⟩ := s
      obtain ⟨rfl, hs⟩ := hs
      refine ⟨τ, ?_, hs⟩
      show b_TM_run_51 (nI 3) τ = _
      unfold b_TM_run_51
      rw [if_pos (show (3 : Int32) ≤ nI 3 from Int32.le_refl _)]
  obtain ⟨σ2, b1, b2, b3, b4, b5, b6⟩ := L2
  have g1 : ∀ x y z, ¬ (x = 5 ∧ 8 ≤ y ∧ y < 24) → ¬ x = 7 → ¬ (x = 0 ∧ (z = 13 ∨ z = 14)) → gi (si (si σ2 0 0 13 0) 0 0 14 (-1)) x y z = gi σ x y z := fun x y z h1 h2 h3 => by
    rw [gi_ne (by omega), gi_ne (by omega), b2 x y z h2, a2 x y z h1]
  have g2 : ∀ x y z, ¬ (x = 5 ∧ 8 ≤ y ∧ y < 24) → ¬ x = 7 → gj (si (si σ2 0 0 13 0) 0 0 14 (-1)) x y z = gj σ x y z := fun x y z h1 h2 => by
    rw [gj_si, gj_si, b3 x y z h2, a3 x y z h1]
  refine ⟨σ1, σ2, a1, b1, ⟨Ct_fC ⟨fun x y z hh => g1 x y z (by omega) (by omega) (by omega), by rw [nt_si, nt_si, b5, a5]⟩ hc, (g1 _ _ _ (by omega) (by omega) (by omega)).trans h3, hw, fun j hj => ⟨?_, ?_⟩, fun j hj => ?_, ⟨?_, fun j w hw => by cases hw⟩, Nat.zero_le _, fun w hw => by cases hw⟩, fun x y z hn => g1 x y z (by omega) (by omega) (by omega), fun x y z hn => g2 x y z (by omega) (by omega), fun x y z hn => ?_, by rw [nt_si, nt_si, b5, a5]⟩
  · rw [gi_ne (by omega), gi_ne (by omega), b2 _ _ _ (by omega)]
    exact (a6 j hj).1
  · rw [gj_si, gj_si, b3 _ _ _ (by omega)]
    exact (a6 j hj).2
  · show gr (si (si σ2 0 0 13 0) 0 0 14 (-1)) 7 j 0 = none
    exact b6 j hj
  · rw [gi_ne (by omega), gi_eq]; rfl
  · rw [gr_si, gr_si, b4 x y z (by omega), a4]
theorem beg_M {τ : Sg} {N : Nat} {col : Nat → Nat} {R : List Row} (hm : Mo τ N col R) : ∃ τ1 τ2, l_Md_run_38 0 τ = some τ1 ∧ l_Md_run_59 0 τ1 = some τ2 ∧ KM (si (si (si τ2 9 0 19 0) 9 0 17 0) 9 0 18 0) N col R (fun _ => none) (fun _ => none) [] ∧ fKm τ (si (si (si τ2 9 0 19 0) 9 0 17 0) 9 0 18 0) ∧ gi τ2 9 0 0 = gi τ 9 0 0 := by
  have L1 : ∃ e, l_Md_run_38 0 τ = some e ∧ ((∀ x y z, ¬ x = 35 → gi e x y z = gi τ x y z) ∧ (∀ x y z, ¬ x = 34 → gj e x y z = gj τ x y z) ∧ (∀ x y z, gr e x y z = gr τ x y z) ∧ nt e = nt τ ∧ ∀ j, j < 16 → Vm e 35 34 j none) := by
    unfold l_Md_run_38
    refine lp_for (body := fun q : Int32 × Sg => b_Md_run_38 q.1 q.2) (s := (0, τ)) (fun k s => s.1 = nI k ∧ ((∀ x y z, ¬ x = 35 → gi s.2 x y z = gi τ x y z) ∧ (∀ x y z, ¬ x = 34 → gj s.2 x y z = gj τ x y z) ∧ (∀ x y z, gr s.2 x y z = gr τ x y z) ∧ nt s.2 = nt τ ∧ ∀ j, j < k → Vm s.2 35 34 j none)) _ 16 (by omega) ⟨rfl, fun _ _ _ _ => rfl, fun _ _ _ _ => rfl, fun _ _ _ => rfl, rfl, fun j hj => absurd hj (by omega)⟩ (fun k s hk hs => ?_) (fun s hs => ?_)
    · obtain ⟨x, υ⟩ := s
      obtain ⟨rfl, s1, s2, s3, s4, s5⟩ := hs
      show ∃ s', b_Md_run_38 (nI k) υ = _ ∧ _
      unfold b_Md_run_38
      have := keep_S (τ := υ) hk none 0 (by rw [ob_n, if_pos rfl]; rfl)
      rw [ob_n] at this
      rw [if_neg (show ¬ (16 : Int32) ≤ nI k from nI_ge (b := 16) hk (by decide)), this, bnd_eq, lt_eq, nI_1]
      refine ⟨_, rfl, rfl, fun x y z hn => ?_, fun x y z hn => ?_, s3, s4, fun j hj => ?_⟩
      · show gi (sj (si υ 35 0 k 0) 34 0 k _) x y z = _
        rw [gi_sj, gi_ne (by omega)]
        exact s1 x y z hn
      · show gj (sj (si υ 35 0 k 0) 34 0 k _) x y z = _
        rw [gj_ne (by omega), gj_si]
        exact s2 x y z hn
      · show Vm (sj (si υ 35 0 k 0) 34 0 k _) 35 34 j none
        by_cases hjk : j = k
        · subst hjk
          exact ⟨by rw [gi_sj, gi_eq]; rfl, by rw [gj_eq]⟩
        · exact ⟨by rw [gi_sj, gi_ne (by omega)]; exact (s5 j (by omega)).1, by rw [gj_ne (by omega), gj_si]; exact (s5 j (by omega)).2⟩
    · obtain ⟨x, υ⟩ := s
      obtain ⟨rfl, hs⟩ := hs
      refine ⟨υ, ?_, hs⟩
      show b_Md_run_38 (nI 16) υ = _
      unfold b_Md_run_38
      rw [if_pos (show (16 : Int32) ≤ nI 16 from Int32.le_refl _)]
  obtain ⟨τ1, a1, a2, a3, a4, a5, a6⟩ := L1
  have L2 : ∃ e, l_Md_run_59 0 τ1 = some e ∧ ((∀ x y z, ¬ (x = 36 ∨ x = 37) → gi e x y z = gi τ1 x y z) ∧ (∀ x y z, gj e x y z = gj τ1 x y z) ∧ (∀ x y z, gr e x y z = gr τ1 x y z) ∧ nt e = nt τ1 ∧ ∀ j, j < 3 → gi e 36 0 j = -1) := by
    unfold l_Md_run_59
    refine lp_for (body := fun q : Int32 × Sg => b_Md_run_59 q.1 q.2) (s := (0, τ1)) (fun k s => s.1 = nI k ∧ ((∀ x y z, ¬ (x = 36 ∨ x = 37) → gi s.2 x y z = gi τ1 x y z) ∧ (∀ x y z, gj s.2 x y z = gj τ1 x y z) ∧ (∀ x y z, gr s.2 x y z = gr τ1 x y z) ∧ nt s.2 = nt τ1 ∧ ∀ j, j < k → gi s.2 36 0 j = -1)) _ 3 (by omega) ⟨rfl, fun _ _ _ _ => rfl, fun _ _ _ => rfl, fun _ _ _ => rfl, rfl, fun j hj => absurd hj (by omega)⟩ (fun k s hk hs => ?_) (fun s hs => ?_)
    · obtain ⟨x, υ⟩ := s
      obtain ⟨rfl, s1, s2, s3, s4, s5⟩ := hs
      show ∃ s', b_Md_run_59 (nI k) υ = _ ∧ _
      unfold b_Md_run_59
      rw [if_neg (show ¬ (3 : Int32) ≤ nI k from nI_ge (b := 3) hk (by decide)), chk_pos (vc3 hk), lt_eq, chk_pos (vc3 hk), lt_eq, lt_eq, nI_1, nI_clamp (by omega)]
      refine ⟨_, rfl, rfl, fun x y z hn => ?_, s2, s3, s4, fun j hj => ?_⟩
      · show gi (si (si υ 36 0 k (-1)) 37 0 k _) x y z = _
        rw [gi_ne (by omega), gi_ne (by omega)]
        exact s1 x y z hn
      · show gi (si (si υ 36 0 k (-1)) 37 0 k _) 36 0 j = -1
        rw [gi_ne (by omega)]
        by_cases hjk : j = k
        · subst hjk
          rw [gi_eq]
        · rw [gi_ne (by omega)]
          exact s5 j (by omega)
    · obtain ⟨x, υ⟩ := s
      obtain ⟨rfl, hs⟩ := hs
      refine ⟨υ, ?_, hs⟩
      show b_Md_run_59 (nI 3) υ = _
      unfold b_Md_run_59
      rw [if_pos (show (3 : Int32) ≤ nI 3 from Int32.le_refl _)]
  obtain ⟨τ2, b1, b2, b3, b4, b5, b6⟩ := L2
  have g1 : ∀ x y z, ¬ x = 35 → ¬ (x = 36 ∨ x = 37) → ¬ (x = 9 ∧ (z = 17 ∨ z = 18 ∨ z = 19)) → gi (si (si (si τ2 9 0 19 0) 9 0 17 0) 9 0 18 0) x y z = gi τ x y z := fun x y z h1 h2 h3 => by
    rw [gi_ne (by omega), gi_ne (by omega), gi_ne (by omega), b2 x y z h2, a2 x y z h1]
  have g2 : ∀ x y z, ¬ x = 34 → gj (si (si (si τ2 9 0 19 0) 9 0 17 0) 9 0 18 0) x y z = gj τ x y z := fun x y z h1 => by
    rw [gj_si, gj_si, gj_si, b3, a3 x y z h1]
  refine ⟨τ1, τ2, a1, b1, ⟨Mo_fr (fun x y z hh => g1 x y z (by omega) (by omega) (by omega)) (fun x y z hh => g2 x y z (by omega)) hm, fun j hj => ⟨?_, ?_⟩, fun j hj => ?_, ?_, fun j w hw => by cases hw⟩, ⟨fun x y z hn => g1 x y z (by omega) (by omega) (by omega), fun x y z hn => g2 x y z (by omega), fun x y z => by rw [gr_si, gr_si, gr_si, b4, a4], by rw [nt_si, nt_si, nt_si, b5, a5]⟩, by rw [b2 _ _ _ (by omega), a2 _ _ _ (by omega)]⟩
  · rw [gi_ne (by omega), gi_ne (by omega), gi_ne (by omega), b2 _ _ _ (by omega)]
    exact (a6 j hj).1
  · rw [gj_si, gj_si, gj_si, b3]
    exact (a6 j hj).2
  · show gi (si (si (si τ2 9 0 19 0) 9 0 17 0) 9 0 18 0) 36 0 j = -1
    rw [gi_ne (by omega), gi_ne (by omega), gi_ne (by omega)]
    exact b6 j hj
  · rw [gi_ne (by omega), gi_ne (by omega), gi_eq]; rfl
