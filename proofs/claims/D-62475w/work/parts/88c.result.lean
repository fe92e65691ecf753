/-! the plain law: the instruction that tells a result -/
section
variable {N : Nat} {col : Nat → Nat} {σ : Sg} {R : List Row} {rg : Nat → Option Int64} {cu : Nat → Cur} {Rs : List Vals} {i : Nat}
theorem like_S {τ : Sg} {p q : Nat} {o : Option Int64} (h : V5 τ q o) : f_Vl_like p q τ = some (sV τ p o) := by
  unfold f_Vl_like
  rw [h.1, chk_pos (ob_zb o), lt_eq, lt_eq, gj_si, h.2]
  rfl
theorem wk_18 (hK : KC σ N col R rg cu Rs) {a b : Nat} {c : Int32} (ha : a < 16) (hb1 : 1 ≤ b) (hb4 : b ≤ 4) (hab : a + b ≤ 16) (hC : Rs.length < 64) (hI : insC σ i (18, nI a, nI b, c)) : Sim False N col σ R rg cu Rs (f_TM_works i σ) (fun τ => f_Md_without (nI 18) (nI a) (nI b) c τ) := by
  obtain ⟨k1, k2, k3, k4, k5, k6, k7⟩ := hK
  generalize hC' : Rs.length = C at hC
  have r13 : gi σ 0 0 13 = nI C := by rw [← hC']; exact k6.1
  have loop : ∃ e, l_TM_tell_17 (nI a) (nI b) 0 σ = some e ∧ ((∀ x y z, ¬ (x = 5 ∧ 24 + 4 * C ≤ y ∧ y < 24 + 4 * C + 4) → gi e x y z = gi σ x y z) ∧ (∀ x y z, ¬ (x = 5 ∧ 24 + 4 * C ≤ y ∧ y < 24 + 4 * C + 4) → gj e x y z = gj σ x y z) ∧ (∀ x y z, gr e x y z = gr σ x y z) ∧ nt e = nt σ ∧ ∀ j, j < b → V5 e (24 + (4 * C + j)) (rg (a + j))) := by
    unfold l_TM_tell_17
    refine lp_for (body := fun q : Int32 × Sg => b_TM_tell_17 (nI a) (nI b) q.1 q.2) (s := (0, σ)) (fun k s => s.1 = nI k ∧ ((∀ x y z, ¬ (x = 5 ∧ 24 + 4 * C ≤ y ∧ y < 24 + 4 * C + 4) → gi s.2 x y z = gi σ x y z) ∧ (∀ x y z, ¬ (x = 5 ∧ 24 + 4 * C ≤ y ∧ y < 24 + 4 * C + 4) → gj s.2 x y z = gj σ x y z) ∧ (∀ x y z, gr s.2 x y z = gr σ x y z) ∧ nt s.2 = nt σ ∧ ∀ j, j < k → V5 s.2 (24 + (4 * C + j)) (rg (a + j)))) _ b (by omega) ⟨rfl, fun _ _ _ _ => rfl, fun _ _ _ _ => rfl, fun _ _ _ => rfl, rfl, fun j hj => absurd hj (by omega)⟩ (fun k s hk hs => ?_) (fun s hs => ?_)
    · obtain ⟨x, τ⟩ := s
      obtain ⟨rfl, s1, s2, s3, s4, s5⟩ := hs
      show ∃ s', b_TM_tell_17 (nI a) (nI b) (nI k) τ = _ ∧ _
      unfold b_TM_tell_17
      have t13 : gi τ 0 0 13 = nI C := (s1 _ _ _ (by omega)).trans r13
      have hv : V5 τ (8 + (a + k)) (rg (a + k)) := ⟨(s1 _ _ _ (by omega)).trans (k4 (a + k) (by omega)).1, (s2 _ _ _ (by omega)).trans (k4 (a + k) (by omega)).2⟩
      rw [if_neg (nI_ge hk (by omega)), t13, nI_4k, nI_plus, chk_pos (vp_in_nI (by omega) (by decide)), chk_pos (vr16 (by omega)), nI_clamp (by omega), nI_clamp (by omega), like_S hv, bnd_eq, lt_eq, nI_1]
      refine ⟨_, rfl, rfl, fun x y z hn => ?_, fun x y z hn => ?_, s3, s4, fun j hj => ?_⟩
      · show gi (sV τ _ _) x y z = _
        rw [gi_sV, if_neg (by omega)]
        exact s1 x y z hn
      · show gj (sV τ _ _) x y z = _
        rw [gj_sV, if_neg (by omega)]
        exact s2 x y z hn
      · show V5 (sV τ _ _) _ _
        by_cases hjk : j = k
        · subst hjk
          exact ⟨by rw [gi_sV, if_pos ⟨rfl, rfl, rfl⟩], by rw [gj_sV, if_pos ⟨rfl, rfl, rfl⟩]⟩
        · exact ⟨by rw [gi_sV, if_neg (by omega)]; exact (s5 j (by omega)).1, by rw [gj_sV, if_neg (by omega)]; exact (s5 j (by omega)).2⟩
    · obtain ⟨x, τ⟩ := s
      obtain ⟨rfl, hs⟩ := hs
      refine ⟨τ, ?_, hs⟩
      show b_TM_tell_17 (nI a) (nI b) (nI b) τ = _
      unfold b_TM_tell_17
      rw [if_pos (Int32.le_refl _)]
  obtain ⟨e, l1, e1, e2, e3, e4, e5⟩ := loop
  have e13 : gi e 0 0 13 = nI C := (e1 _ _ _ (by omega)).trans r13
  have e13' : ∀ x, gi (si e 23 0 C x) 0 0 13 = nI C := fun x => by rw [gi_ne (by omega)]; exact e13
  generalize hw : vsOf (fun j => rg (a + j)) b = w
  have hwl : w.length = b := by rw [← hw]; exact vsOf_len _ _
  have hwg : ∀ j, j < b → w.getD j none = rg (a + j) := fun j hj => by rw [← hw]; exact vsOf_get hj
  have n64 : ¬ nI C = (64 : Int32) := fun z => by
    have := nI_inj (by omega) (by decide) (z.trans (show (64 : Int32) = nI 64 by decide))
    omega
  generalize hσ' : si (si e 23 0 C (nI b)) 0 0 13 (nI (C + 1)) = σ'
  have g1 : ∀ x y z, ¬ (x = 5 ∧ 24 + 4 * C ≤ y ∧ y < 24 + 4 * C + 4) → ¬ (x = 23 ∧ z = C) → ¬ (x = 0 ∧ z = 13) → gi σ' x y z = gi σ x y z := fun x y z h1 h2 h3 => by
    rw [← hσ', gi_ne (by omega), gi_ne (by omega)]
    exact e1 x y z h1
  have g2 : ∀ x y z, ¬ (x = 5 ∧ 24 + 4 * C ≤ y ∧ y < 24 + 4 * C + 4) → gj σ' x y z = gj σ x y z := fun x y z h1 => by
    rw [← hσ']
    exact e2 x y z h1
  have g3 : ∀ x y z, gr σ' x y z = gr σ x y z := fun x y z => by rw [← hσ']; exact e3 x y z
  have g4 : nt σ' = nt σ := by rw [← hσ']; exact e4
  have hRs : wRs (Rs ++ [w]) := ⟨by rw [List.length_append, List.length_singleton]; omega, fun y hy => by
    rcases List.mem_append.mp hy with hy | hy
    · exact k7.2 y hy
    · rcases List.mem_singleton.mp hy with rfl
      omega⟩
  refine ⟨0, σ', R, rg, cu, Rs ++ [w], Or.inl rfl, works_head hI (by decide) _ ?_, ⟨Ct_fC ⟨fun x y z hh => g1 x y z (by omega) (by omega) (by omega), g4⟩ k1, (g1 _ _ _ (by omega) (by omega) (by omega)).trans k2, k3, fun j hj => ⟨(g1 _ _ _ (by omega) (by omega) (by omega)).trans (k4 j hj).1, (g2 _ _ _ (by omega)).trans (k4 j hj).2⟩, fun j hj => cuC_fr (fun _ => g1 _ _ _ (by omega) (by omega) (by omega)) (fun _ => g2 _ _ _ (by omega)) (fun _ => g3 _ _ _) (k5 j hj), ⟨?_, fun j y hy => ?_⟩, hRs⟩, ⟨fun x y z hn => g1 x y z (by omega) (by omega) (by omega), fun x y z hn => g2 x y z (by omega), fun x y z _ => g3 x y z, g4⟩, g1 _ _ _ (by omega) (by omega) (by omega), fun τ hτ => ?_⟩
  · rw [if_neg (by decide), if_neg (by decide), if_neg (by decide), if_neg (by decide), if_neg (by decide), if_neg (by decide), if_neg (by decide), if_pos (by decide)]
    unfold f_TM_tell
    rw [r13, if_neg n64, l1, bnd_eq, e13, chk_pos (vp_in_nI hC (by decide)), nI_clamp (by omega), lt_eq, e13', nI_1, lt_eq, hσ', bnd_eq]
  · rw [← hσ', gi_eq, List.length_append, List.length_singleton, hC']
  · rcases snoc_cs hy with ⟨z, z1⟩ | ⟨rfl, rfl⟩
    · obtain ⟨u1, u2⟩ := k6.2 j y z1
      have hy4 := k7.2 y (List.mem_of_getElem? z1)
      rw [hC'] at z
      exact ⟨(g1 _ _ _ (by omega) (by omega) (by omega)).trans u1, fun k hk => ⟨(g1 _ _ _ (by omega) (by omega) (by omega)).trans (u2 k hk).1, (g2 _ _ _ (by omega)).trans (u2 k hk).2⟩⟩
    · rw [hC']
      refine ⟨?_, fun k hk => ?_⟩
      · rw [← hσ', gi_ne (by omega), gi_eq, hwl]
      · rw [hwl] at hk
        rw [hwg k hk]
        refine ⟨?_, ?_⟩
        · rw [← hσ', gi_ne (by omega), gi_ne (by omega)]
          exact (e5 k hk).1
        · rw [← hσ']
          exact (e5 k hk).2
  · obtain ⟨m1, m2, m3, m4⟩ := hτ
    have r19 : gi τ 9 0 19 = nI C := by rw [← hC']; exact m4.1
    generalize hτ1 : si τ 39 0 C (nI b) = τ1
    have q1 : ∀ x y z, ¬ (x = 39 ∧ z = C) → gi τ1 x y z = gi τ x y z := fun x y z h => by rw [← hτ1, gi_ne (by omega)]
    have loopm : ∃ e, l_Md_without_125 (nI a) (nI b) 0 τ1 = some e ∧ ((∀ x y z, ¬ (x = 41 ∧ 4 * C ≤ z ∧ z < 4 * C + 4) → gi e x y z = gi τ1 x y z) ∧ (∀ x y z, ¬ (x = 40 ∧ 4 * C ≤ z ∧ z < 4 * C + 4) → gj e x y z = gj τ x y z) ∧ (∀ x y z, gr e x y z = gr τ x y z) ∧ nt e = nt τ ∧ ∀ j, j < b → Vm e 41 40 (4 * C + j) (rg (a + j))) := by
      unfold l_Md_without_125
      refine lp_for (body := fun q : Int32 × Sg => b_Md_without_125 (nI a) (nI b) q.1 q.2) (s := (0, τ1)) (fun k s => s.1 = nI k ∧ ((∀ x y z, ¬ (x = 41 ∧ 4 * C ≤ z ∧ z < 4 * C + 4) → gi s.2 x y z = gi τ1 x y z) ∧ (∀ x y z, ¬ (x = 40 ∧ 4 * C ≤ z ∧ z < 4 * C + 4) → gj s.2 x y z = gj τ x y z) ∧ (∀ x y z, gr s.2 x y z = gr τ x y z) ∧ nt s.2 = nt τ ∧ ∀ j, j < k → Vm s.2 41 40 (4 * C + j) (rg (a + j)))) _ b (by omega) ⟨rfl, fun _ _ _ _ => rfl, fun _ _ _ _ => by rw [← hτ1]; rfl, fun _ _ _ => by rw [← hτ1]; rfl, by rw [← hτ1]; rfl, fun j hj => absurd hj (by omega)⟩ (fun k s hk hs => ?_) (fun s hs => ?_)
      · obtain ⟨x, υ⟩ := s
        obtain ⟨rfl, s1, s2, s3, s4, s5⟩ := hs
        show ∃ s', b_Md_without_125 (nI a) (nI b) (nI k) υ = _ ∧ _
        unfold b_Md_without_125
        have t19 : gi υ 9 0 19 = nI C := (s1 _ _ _ (by omega)).trans ((q1 _ _ _ (by omega)).trans r19)
        have hv1 : gi υ 35 0 (a + k) = ob (rg (a + k)) := (s1 _ _ _ (by omega)).trans ((q1 _ _ _ (by omega)).trans (m2 (a + k) (by omega)).1)
        have hv2 : gj υ 34 0 (a + k) = (rg (a + k)).getD 0 := (s2 _ _ _ (by omega)).trans (m2 (a + k) (by omega)).2
        have w1 : ∀ z, gi (sj υ 40 0 (4 * C + k) z) 9 0 19 = nI C := fun z => t19
        have w2 : ∀ z, gi (sj υ 40 0 (4 * C + k) z) 35 0 (a + k) = ob (rg (a + k)) := fun z => hv1
        have i1 : vp_in (nI (4 * C + k)) 256 := vp_in_nI (by omega) (by decide)
        rw [if_neg (nI_ge hk (by omega)), nI_plus, chk_pos (vr16 (by omega)), t19, nI_4k, chk_pos i1, lt_eq, nI_clamp (by omega), nI_clamp (by omega), hv2, chk_pos (vr16 (by omega)), w1, nI_4k, chk_pos i1, lt_eq, lt_eq, w2, nar_ob, nI_1]
        rw [nI_clamp (by omega)]
        refine ⟨_, rfl, rfl, fun x y z hn => ?_, fun x y z hn => ?_, s3, s4, fun j hj => ?_⟩
        · show gi (si (sj υ _ _ _ _) 41 0 (4 * C + k) _) x y z = _
          rw [gi_ne (by omega), gi_sj]
          exact s1 x y z hn
        · show gj (si (sj υ 40 0 (4 * C + k) _) _ _ _ _) x y z = _
          rw [gj_si, gj_ne (by omega)]
          exact s2 x y z hn
        · show Vm (si (sj υ 40 0 (4 * C + k) _) 41 0 (4 * C + k) _) 41 40 _ _
          by_cases hjk : j = k
          · subst hjk
            exact ⟨by rw [gi_eq], by rw [gj_si, gj_eq]⟩
          · exact ⟨by rw [gi_ne (by omega), gi_sj]; exact (s5 j (by omega)).1, by rw [gj_si, gj_ne (by omega)]; exact (s5 j (by omega)).2⟩
      · obtain ⟨x, υ⟩ := s
        obtain ⟨rfl, hs⟩ := hs
        refine ⟨υ, ?_, hs⟩
        show b_Md_without_125 (nI a) (nI b) (nI b) υ = _
        unfold b_Md_without_125
        rw [if_pos (Int32.le_refl _)]
    obtain ⟨f, l2, f1, f2, f3, f4, f5⟩ := loopm
    have f19 : gi f 9 0 19 = nI C := (f1 _ _ _ (by omega)).trans ((q1 _ _ _ (by omega)).trans r19)
    generalize hτ' : si f 9 0 19 (nI (C + 1)) = τ'
    have p1 : ∀ x y z, ¬ (x = 41 ∧ 4 * C ≤ z ∧ z < 4 * C + 4) → ¬ (x = 39 ∧ z = C) → ¬ (x = 9 ∧ z = 19) → gi τ' x y z = gi τ x y z := fun x y z h1 h2 h3 => by
      rw [← hτ', gi_ne (by omega), f1 x y z h1, q1 x y z h2]
    have p2 : ∀ x y z, ¬ (x = 40 ∧ 4 * C ≤ z ∧ z < 4 * C + 4) → gj τ' x y z = gj τ x y z := fun x y z h1 => by rw [← hτ']; exact f2 x y z h1
    refine ⟨τ', ?_, ⟨Mo_fr (fun x y z hh => p1 x y z (by omega) (by omega) (by omega)) (fun x y z hh => p2 x y z (by omega)) m1, fun j hj => ⟨(p1 _ _ _ (by omega) (by omega) (by omega)).trans (m2 j hj).1, (p2 _ _ _ (by omega)).trans (m2 j hj).2⟩, fun j hj => cuM_fr (p1 _ _ _ (by omega) (by omega) (by omega)) (p1 _ _ _ (by omega) (by omega) (by omega)) (p2 _ _ _ (by omega)) (m3 j hj), ?_, fun j y hy => ?_⟩, ⟨fun x y z hn => p1 x y z (by omega) (by omega) (by omega), fun x y z hn => p2 x y z (by omega), fun x y z => by rw [← hτ']; exact f3 x y z, by rw [← hτ']; exact f4⟩, p1 _ _ _ (by omega) (by omega) (by omega), p1 _ _ _ (by omega) (by omega) (by omega)⟩
    · show f_Md_without (nI 18) (nI a) (nI b) c τ = _
      unfold f_Md_without
      rw [if_neg (by decide), if_neg (by decide), if_neg (by decide), if_neg (by decide), if_pos (by decide), r19, chk_pos (vp_in_nI hC (by decide)), nI_clamp (by omega), lt_eq, hτ1, l2, bnd_eq, f19, nI_1, lt_eq, hτ', lt_eq, if_neg (by decide), chk_pos zb0]
    · rw [← hτ', gi_eq, List.length_append, List.length_singleton, hC']
    · rcases snoc_cs hy with ⟨z, z1⟩ | ⟨rfl, rfl⟩
      · obtain ⟨u1, u2⟩ := m4.2 j y z1
        have hy4 := k7.2 y (List.mem_of_getElem? z1)
        rw [hC'] at z
        exact ⟨(p1 _ _ _ (by omega) (by omega) (by omega)).trans u1, fun k hk => ⟨(p1 _ _ _ (by omega) (by omega) (by omega)).trans (u2 k hk).1, (p2 _ _ _ (by omega)).trans (u2 k hk).2⟩⟩
      · rw [hC']
        refine ⟨?_, fun k hk => ?_⟩
        · rw [← hτ', gi_ne (by omega), f1 _ _ _ (by omega), ← hτ1, gi_eq, hwl]
        · rw [hwl] at hk
          rw [hwg k hk]
          refine ⟨?_, ?_⟩
          · rw [← hτ', gi_ne (by omega)]
            exact (f5 k hk).1
          · rw [← hτ']
            exact (f5 k hk).2
end
