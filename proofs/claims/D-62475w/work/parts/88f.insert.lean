/-! the plain law: the instruction that inserts -/
section
variable {N : Nat} {col : Nat → Nat} {σ : Sg} {R : List Row} {rg : Nat → Option Int64} {cu : Nat → Cur} {Rs : List Vals} {i : Nat}
theorem comes_loop (hK : KC σ N col R rg cu Rs) {t s : Nat} (ht : t < N) (hs : s < 12) : ∃ e, l_TM_comes_41 t (nI s) 0 σ = some e ∧ ((∀ x y z, ¬ (x = 5 ∧ 4 ≤ y ∧ y < 8) → gi e x y z = gi σ x y z) ∧ (∀ x y z, ¬ (x = 5 ∧ 4 ≤ y ∧ y < 8) → gj e x y z = gj σ x y z) ∧ (∀ x y z, gr e x y z = gr σ x y z) ∧ nt e = nt σ ∧ ∀ j, j < col t → V5 e (4 * 1 + j) (rg (s + 1 + j))) := by
  obtain ⟨k1, k2, k3, k4⟩ := Ct_col hK.1 ht
  have kr := hK.2.2.2.1
  unfold l_TM_comes_41
  refine lp_for (body := fun q : Int32 × Sg => b_TM_comes_41 t (nI s) q.1 q.2) (s := (0, σ)) (fun k s' => s'.1 = nI k ∧ ((∀ x y z, ¬ (x = 5 ∧ 4 ≤ y ∧ y < 8) → gi s'.2 x y z = gi σ x y z) ∧ (∀ x y z, ¬ (x = 5 ∧ 4 ≤ y ∧ y < 8) → gj s'.2 x y z = gj σ x y z) ∧ (∀ x y z, gr s'.2 x y z = gr σ x y z) ∧ nt s'.2 = nt σ ∧ ∀ j, j < k → V5 s'.2 (4 * 1 + j) (rg (s + 1 + j)))) _ (col t) (by omega) ⟨rfl, fun _ _ _ _ => rfl, fun _ _ _ _ => rfl, fun _ _ _ => rfl, rfl, fun j hj => absurd hj (by omega)⟩ (fun k s' hk hs' => ?_) (fun s' hs' => ?_)
  · obtain ⟨x, τ⟩ := s'
    obtain ⟨rfl, s1, s2, s3, s4, s5⟩ := hs'
    show ∃ s', b_TM_comes_41 t (nI s) (nI k) τ = _ ∧ _
    unfold b_TM_comes_41
    have t2 : gi τ 3 t 2 = nI (col t) := (s1 _ _ _ (by omega)).trans k1
    have hv : V5 τ (8 + (s + 1 + k)) (rg (s + 1 + k)) := ⟨(s1 _ _ _ (by omega)).trans (kr (s + 1 + k) (by omega)).1, (s2 _ _ _ (by omega)).trans (kr (s + 1 + k) (by omega)).2⟩
    rw [t2, if_neg (nI_ge hk (by omega)), chk_pos (vp_in_nI (by omega) (by decide)), nI_1, nI_plus, chk_pos (vr16 (by omega)), nI_clamp (by omega), nI_clamp (by omega), like_S hv, bnd_eq, lt_eq]
    rw [nI_1]
    refine ⟨_, rfl, rfl, fun x y z hn => ?_, fun x y z hn => ?_, s3, s4, fun j hj => ?_⟩
    · show gi (sV τ _ _) x y z = _
      rw [gi_sV, if_neg (by omega)]
      exact s1 x y z hn
    · show gj (sV τ _ _) x y z = _
      rw [gj_sV, if_neg (by omega)]
      exact s2 x y z hn
    · show V5 (sV τ _ _) _ _
      by_cases hjk : j = k
      · subst hjk
        exact ⟨by rw [gi_sV, if_pos ⟨rfl, rfl, rfl⟩], by rw [gj_sV, if_pos ⟨rfl, rfl, rfl⟩]⟩
      · exact ⟨by rw [gi_sV, if_neg (by omega)]; exact (s5 j (by omega)).1, by rw [gj_sV, if_neg (by omega)]; exact (s5 j (by omega)).2⟩
  · obtain ⟨x, τ⟩ := s'
    obtain ⟨rfl, hs'⟩ := hs'
    refine ⟨τ, ?_, hs'⟩
    show b_TM_comes_41 t (nI s) (nI (col t)) τ = _
    unfold b_TM_comes_41
    have t2 : gi τ 3 t 2 = nI (col t) := (hs'.1 _ _ _ (by omega)).trans k1
    rw [t2, if_pos (Int32.le_refl _)]
theorem mv_20 (hK : KC σ N col R rg cu Rs) {k t s : Nat} {q : Option Int64} {b : Int32} (hk : k < 3) (hs : s < 12) (hc : cu k = some (t, q)) (hI : insC σ i (20, nI k, b, nI s)) : Sim True N col σ R rg cu Rs (f_TM_moves i k σ) (fun τ => f_Md_withCursor (nI 20) (nI k) b (nI s) τ) := by
  obtain ⟨c1', c2', c3', c4'⟩ := cu_open hK hk hc
  obtain ⟨n1, n2⟩ := KC_N hK
  obtain ⟨r1, r2, r3⟩ := KC_R hK
  obtain ⟨k1, k2, k3, k4⟩ := Ct_col hK.1 c1'
  have hcl : (nI k).toNatClampNeg = k := nI_clamp (by omega)
  have hcs : (nI s).toNatClampNeg = s := nI_clamp (by omega)
  have h16 : gi σ 16 i 2 = nI s := hI.2.2.2
  have hv16 : vp_in (nI s) 16 := vr16 (by omega)
  obtain ⟨v1, v2⟩ := hK.2.2.2.1 s (by omega)
  generalize hO : rg s = O at v1 v2
  have mr : ∀ τ, KM τ N col R rg cu Rs → gi τ 35 0 s = ob O ∧ gj τ 34 0 s = O.getD 0 := fun τ hτ => by rw [← hO]; exact hτ.2.1 s (by omega)
  have clh : ∀ (r : Int32) (σ2 : Sg) (j : Int32), f_TM_comes t (nI s) σ = some (r, σ2) → ((if r = 0 then 1 else 0) : Int32) = j → zb j → f_TM_moves i k σ = some (j, σ2) := fun r σ2 j h1 h2 h3 => by
    unfold f_TM_moves
    rw [show gr σ 6 i 0 = some 20 from hI.1, bnd_eq, chk_pos (by decide), if_neg (by decide), if_neg (by decide), if_neg (by decide), if_neg (by decide), if_neg (by decide), if_pos (by decide), c2', bnd_eq, chk_pos (by rw [n1]; exact c1'), chk_pos v23, t2c, h16, h1, bn2_eq, lt_eq, h2, chk_pos h3]
  have mdh : ∀ τ, KM τ N col R rg cu Rs → f_Md_withCursor (nI 20) (nI k) b (nI s) τ = (if ob O = 0 then (some (1, τ)) else (if nI R.length = 90 then (some (1, τ)) else (bn2 (f_Md_rowOf (nI t) (O.getD 0) τ) (fun r48 σ46 => (if r48 < 0 then ((l_Md_withCursor_195 (nI s) (nI t) 0 σ46).bind (fun σ62 => lt_ (si σ62 9 0 3 ((gi σ62 9 0 3) + 1)) (fun σ65 => some (0, σ65)))) else (some (1, σ46))))))) := fun τ hτ => by
    obtain ⟨y1, y2⟩ := mr τ hτ
    unfold f_Md_withCursor
    rw [chk_pos (vc3 hk), lt_eq, hcl, mo_t hτ hk hc, if_neg (by decide), if_neg (by decide), if_neg (by decide), if_pos (by decide), chk_pos hv16, hcs, y1, y2, hτ.1.2.2.1, chk_pos hv16]
  cases O with
  | none =>
    refine sim_jmp hK (j := 1) (Or.inr rfl) (clh 0 σ 1 ?_ (i00 _ _) zb1) (fun τ hτ => ?_)
    · unfold f_TM_comes
      rw [chk_pos hv16, hcs, v1, ob_n, i00]
    · show f_Md_withCursor (nI 20) (nI k) b (nI s) τ = _
      rw [mdh τ hτ, ob_n, i00]
  | some key =>
    by_cases h90 : R.length = 90
    · refine sim_jmp hK (j := 1) (Or.inr rfl) (clh 0 σ 1 ?_ (i00 _ _) zb1) (fun τ hτ => ?_)
      · unfold f_TM_comes
        rw [chk_pos hv16, hcs, v1, ob_s, i10, hK.2.1, h90, if_pos (show nI 90 = (90 : Int32) by decide)]
      · show f_Md_withCursor (nI 20) (nI k) b (nI s) τ = _
        rw [mdh τ hτ, ob_s, i10, h90, if_pos (show nI 90 = (90 : Int32) by decide)]
    · have hlt : R.length < 90 := by omega
      have e91 : ¬ nI R.length = (90 : Int32) := fun z => h90 (nI_inj (by omega) (by decide) (z.trans (show (90 : Int32) = nI 90 by decide)))
      obtain ⟨r, σ1, s1, s2, s3, s4⟩ := has_Ct hK.1 c1' key
      have hK1 := KC_eqS hK s2
      have hh : gi σ1 0 0 14 = gi σ 0 0 14 := s2.1 _ _ _ (by unfold scr; omega)
      have mo2 : ∀ τ, KM τ N col R rg cu Rs → ∃ x, f_Md_rowOf (nI t) key τ = some (x, τ) ∧ rowOfS R t key x := fun τ hτ => rowOf_eq key hτ.1.2.2.1 hτ.1.2.2.2 r1 r2 (by omega)
      by_cases hkk : hasK key (own R t)
      · have := s3 hkk
        subst this
        refine ⟨1, σ1, R, rg, cu, Rs, Or.inr ⟨rfl, trivial⟩, clh 0 σ1 1 ?_ (i00 _ _) zb1, hK1, fKc_eqS s2, hh, fun τ hτ => ⟨τ, ?_, hτ, fKm_rf τ, rfl, rfl⟩⟩
        · unfold f_TM_comes
          rw [chk_pos hv16, hcs, v1, ob_s, i10, hK.2.1, if_neg e91, chk_pos hv16, v2, show f_Tr_has t ((some key).getD 0) σ = some (1, σ1) from s1, bn2_eq, i10]
        · obtain ⟨x, x1, x2⟩ := mo2 τ hτ
          rcases x2 with ⟨-, y⟩ | ⟨j, c, y1, rfl⟩
          · exact absurd hkk y
          have hj := (List.getElem?_eq_some_iff.mp y1.1).1
          show f_Md_withCursor (nI 20) (nI k) b (nI s) τ = _
          rw [mdh τ hτ, ob_s, i10, if_neg e91, show f_Md_rowOf (nI t) ((some key).getD 0) τ = some (nI j, τ) from x1, bn2_eq, if_neg (nI_pos (by omega))]
      · have := s4 hkk
        subst this
        obtain ⟨e, l1, e1, e2, e3, e4, e5⟩ := comes_loop hK1 c1' hs
        have hKe : KC e N col R rg cu Rs := KC_fr hK1 (fun x y z h => e1 x y z (by omega)) (fun x y z h => e2 x y z (by omega)) (fun x y z _ => e3 x y z) e4
        generalize hvs : vsOf (fun j => rg (s + 1 + j)) (col t) = vs
        have hvl : vs.length = col t := by rw [← hvs]; exact vsOf_len _ _
        have hvg : ∀ j, j < col t → vs.getD j none = rg (s + 1 + j) := fun j hj => by rw [← hvs]; exact vsOf_get hj
        obtain ⟨σ2, p1, p2, p3⟩ := place_Ct hKe.1 hlt (fun r hr => (hK.2.2.1.2 r hr).1) c1' key hkk (r := 1) (vs := vs) hvl (by decide) (fun j hj => by
          rw [hvl] at hj
          rw [hvg j hj]
          exact e5 j hj)
        have g03 : gi σ2 0 0 3 = nI R.length := (p3.1 _ _ _ (by omega)).trans hKe.2.1
        have hky : gj e 5 (8 + s) 1 = key := by
          have := (hKe.2.2.2.1 s (by omega)).2
          rw [hO] at this
          exact this
        generalize hσ3 : si σ2 0 0 3 (nI (R.length + 1)) = σ3
        have gg : ∀ a b c, ¬ (a = 1 ∨ a = 2 ∨ a = 3 ∨ a = 10 ∨ a = 12 ∨ a = 13 ∨ a = 14) → ¬ (a = 0 ∧ c = 3) → gi σ3 a b c = gi e a b c := fun a b c h1 h2 => by rw [← hσ3, gi_ne (by omega)]; exact p3.1 a b c h1
        have gj3 : ∀ a b c, a ≠ 3 → gj σ3 a b c = gj e a b c := fun a b c h => by rw [← hσ3]; exact p3.2.1 a b c h
        have gr3 : ∀ a b c, gr σ3 a b c = gr e a b c := fun a b c => by rw [← hσ3]; exact p3.2.2.1 a b c
        have nt3 : nt σ3 = nt e := by rw [← hσ3]; exact p3.2.2.2
        have hfe : fKc σ1 e := ⟨fun a b c h => e1 a b c (by omega), fun a b c h => e2 a b c (by omega), fun a b c _ => e3 a b c, e4⟩
        obtain ⟨m1, m2, m3, m4, m5, m6, m7⟩ := hKe
        refine ⟨0, σ3, R ++ [(t, (key, vs))], rg, cu, Rs, Or.inl rfl, clh 1 σ3 0 ?_ (i10 _ _) zb0, ⟨Ct_fC ⟨fun a b c hh => by rw [← hσ3]; exact gi_ne (by omega), by rw [← hσ3]; rfl⟩ p2, by rw [← hσ3, gi_eq, List.length_append, List.length_singleton], wR_app m3 hlt c1' hvl, fun j hj => ⟨(gg _ _ _ (by omega) (by omega)).trans (m4 j hj).1, (gj3 _ _ _ (by omega)).trans (m4 j hj).2⟩, fun j hj => cuC_fr (fun _ => gg _ _ _ (by omega) (by omega)) (fun _ => gj3 _ _ _ (by omega)) (fun _ => gr3 _ _ _) (m5 j hj), Rsc_fr (fun a b c hh => gg _ _ _ (by omega) (by omega)) (fun a b c hh => gj3 _ _ _ (by omega)) m6, m7⟩, ((fKc_eqS s2).tr hfe).tr ⟨fun a b c h => gg a b c (by omega) (by omega), fun a b c h => gj3 a b c (by omega), fun a b c _ => gr3 a b c, nt3⟩, ?_, fun τ hτ => ?_⟩
        · unfold f_TM_comes
          rw [chk_pos hv16, hcs, v1, ob_s, i10, hK.2.1, if_neg e91, chk_pos hv16, v2, show f_Tr_has t ((some key).getD 0) σ = some (0, σ1) from s1, bn2_eq, i00, l1, bnd_eq, chk_pos hv16, hky, p1, bnd_eq, lt_eq, g03, nI_1, hσ3]
        · rw [gg _ _ _ (by omega) (by omega), e1 _ _ _ (by omega)]; exact hh
        · obtain ⟨x, x1, x2⟩ := mo2 τ hτ
          have hx : x = -1 := by
            rcases x2 with ⟨y, -⟩ | ⟨j, d, y1, y2⟩
            · exact y
            · exact absurd ⟨d, mem_own.mpr (List.mem_of_getElem? y1.1), y1.2.1⟩ hkk
          subst hx
          obtain ⟨y1, y2⟩ := mr τ hτ
          obtain ⟨u1, u2, u3, u4⟩ := hτ
          obtain ⟨f, l2, f1⟩ := ins_loop2 (key := key) (vs := vs) u1 hlt c1' n2 (by rw [hvl]; exact k3) hs hvl y2 (fun j hj => by
            rw [hvl] at hj
            rw [hvg j hj]
            exact u2 (s + 1 + j) (by omega))
          have mE := LI_end u1 r3 hlt (by rw [hvl]; exact k2) (by rw [hvl]; exact k3) f1
          have q1 : ∀ a b c, ¬ (a = 27 ∨ a = 30 ∨ (a = 9 ∧ c = 3)) → gi (si f 9 0 3 (gi f 9 0 3 + 1)) a b c = gi τ a b c := fun a b c h => by rw [gi_ne (by omega)]; exact f1.1 a b c (by omega)
          have q2 : ∀ a b c, ¬ (a = 28 ∨ a = 29) → gj (si f 9 0 3 (gi f 9 0 3 + 1)) a b c = gj τ a b c := fun a b c h => by rw [gj_si]; exact f1.2.1 a b c (by omega)
          refine ⟨si f 9 0 3 (gi f 9 0 3 + 1), ?_, ⟨mE, fun j hj => ⟨(q1 _ _ _ (by omega)).trans (u2 j hj).1, (q2 _ _ _ (by omega)).trans (u2 j hj).2⟩, fun j hj => cuM_fr (q1 _ _ _ (by omega)) (q1 _ _ _ (by omega)) (q2 _ _ _ (by omega)) (u3 j hj), Rsm_fr (fun a b c hh => q1 _ _ _ (by omega)) (fun a b c hh => q2 _ _ _ (by omega)) u4⟩, (fKm_LI f1).tr (fKm_si (by omega)), q1 _ _ _ (by omega), q1 _ _ _ (by omega)⟩
          show f_Md_withCursor (nI 20) (nI k) b (nI s) τ = _
          rw [mdh τ ⟨u1, u2, u3, u4⟩, ob_s, i10, if_neg e91, show f_Md_rowOf (nI t) ((some key).getD 0) τ = some (-1, τ) from x1, bn2_eq, if_pos neg1_lt, l2, bnd_eq, lt_eq]
end
