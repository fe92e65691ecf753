/-! the plain law: the way up -/
theorem Ks_P {σ : Sg} {n : Nat} : ∀ (l : List Ent) (hi : Option Int64), Ks (TA σ n) l hi → ∀ q ∈ fP l, q < 240 := by
  intro l
  induction l with
  | nil => intro _ _ q hq; cases hq
  | cons e l ih2 =>
    intro hi hk q hq
    rw [fP] at hq
    rcases List.mem_append.mp hq with hq | hq
    · obtain ⟨d, hd⟩ := hk.1
      exact TA_P _ _ _ _ _ _ hd q hq
    · exact ih2 hi hk.2.2 q hq
theorem Cx_P {σ : Sg} {n t root : Nat} : ∀ (Z : List Lv) (p : Nat) (lo hi : Option Int64), Cx σ n t root Z p lo hi → ∀ q ∈ gP Z [], q < 240 := by
  intro Z
  induction Z with
  | nil => intro p lo hi _ q hq; cases hq
  | cons L Z ih =>
    obtain ⟨q0, A, B⟩ := L
    intro p lo hi hc q hq
    obtain ⟨loq, hiq, e0, es, c1, c2, c3, c4, c5, c6, c7, c8, c9, c10, c11, c12⟩ := hc
    rw [gP] at hq
    rcases List.mem_append.mp ((gP_perm Z _).mem_iff.mp hq) with hq | hq
    · exact ih _ _ _ c1 q hq
    · rcases List.mem_cons.mp hq with rfl | hq
      · exact c4
      · rcases List.mem_append.mp hq with hq | hq
        · rw [List.append_nil] at hq
          exact Ks_P _ _ c11 q hq
        · exact Ks_P _ _ c12 q hq
theorem perm_mid {W a b F : List Nat} {q y : Nat} : (W ++ ((q :: a) ++ (y :: b)) ++ F).Perm (W ++ (q :: (a ++ b)) ++ (F ++ [y])) := by
  rw [List.append_assoc W, List.append_assoc W]
  refine List.Perm.append_left _ ?_
  have e1 : (q :: a) ++ (y :: b) ++ F = q :: (a ++ y :: (b ++ F)) := by simp
  have e2 : q :: (a ++ b) ++ (F ++ [y]) = q :: ((a ++ (b ++ F)) ++ [y]) := by simp
  rw [e1, e2]
  exact List.Perm.cons q (List.perm_middle.trans (List.perm_append_singleton y _).symm)
theorem above_loop {t n root : Nat} (h4 : n ≤ 4) : ∀ (Z : List Lv) (p x : Nat) (f : Int64) (lo hi : Option Int64) (Ma Mb : List Cel) (Pa Pb F : List Nat) (σ : Sg) (m : Nat), Cx σ n t root Z p lo hi → TA σ n p lo (some f) Ma Pa → TA σ n x (some f) hi Mb Pb → Ma ≠ [] → Mb ≠ [] → gi σ 3 t 1 = nI root → gi σ 3 t 2 = nI n → Z.length ≤ 100 → FL σ F → 2 * (gM Z (Ma ++ Mb)).length ≤ (gP Z (Pa ++ Pb) ++ F).length → (gP Z (Pa ++ Pb) ++ F).Nodup → Z.length + 2 ≤ m →
    ∃ σ' P' F', lp (fun q => b_Tr_above_15 t q.1 q.2.1 q.2.2.1 q.2.2.2.1 q.2.2.2.2) m (nI Z.length, f, nI x, 1, σ) = some σ' ∧ TA σ' n root none none (gM Z (Ma ++ Mb)) P' ∧ FL σ' F' ∧ (P' ++ F').Perm (gP Z (Pa ++ Pb) ++ F) ∧ cg (fun q => q ∈ gP Z (Pa ++ Pb) ++ F) σ σ' := by
  have fin : ∀ (k : Int32) (f : Int64) (x : Int32) (σ : Sg) (m : Nat), lp (fun q => b_Tr_above_15 t q.1 q.2.1 q.2.2.1 q.2.2.2.1 q.2.2.2.2) (m + 1) (k, f, x, 0, σ) = some σ := fun k f x σ m => by
    rw [lp_r (e := σ)]
    show b_Tr_above_15 t k f x 0 σ = _
    unfold b_Tr_above_15
    rw [if_pos rfl]
  intro Z
  induction Z with
  | nil =>
    intro p x f lo hi Ma Mb Pa Pb F σ m hC ha hb hMa hMb hroot hn hZ hF hlen hnd hm
    have hpa := TA_pgs ha hMa
    have hpb := TA_pgs hb hMb
    have hbd := Cx_pgs [] p lo hi (Ma ++ Mb) (Pa ++ Pb) hC (by rw [List.length_append, List.length_append]; omega)
    obtain ⟨rfl, rfl, rfl⟩ := hC
    rw [List.length_append] at hlen
    rw [List.length_nil] at hm
    obtain ⟨m, rfl⟩ : ∃ m', m = m' + 2 := ⟨m - 2, by omega⟩
    have hFne : F ≠ [] := by rintro rfl; simp only [List.length_append, List.length_nil] at hlen hbd; omega
    obtain ⟨F1, y, rfl⟩ : ∃ F1 y, F = F1 ++ [y] := ⟨F.dropLast, F.getLast hFne, (List.dropLast_concat_getLast hFne).symm⟩
    obtain ⟨σ', P', r1, r2, r3, r4, r5⟩ := top_eq hroot hn h4 ha hb hMa hMb hF hnd
    refine ⟨σ', P', F1, ?_, r2, r3, r4, r5.mono (fun q hq => ?_)⟩
    · have step : b_Tr_above_15 t (nI 0) f (nI x) 1 σ = some (.inl (nI 0, f, nI x, 0, σ')) := by
        unfold b_Tr_above_15
        rw [if_neg (by decide), if_pos (by rfl), r1, bnd_eq]
      rw [List.length_nil, lp_l step, fin]
    · rcases hq with rfl | rfl
      · obtain ⟨-, P1, hP⟩ := TA_head ha
        exact List.mem_append_left _ (List.mem_append_left _ (by rw [hP]; exact List.mem_cons_self))
      · exact List.mem_append_right _ (List.mem_append_right _ List.mem_cons_self)
  | cons L Z ih =>
    obtain ⟨q, A, B⟩ := L
    intro p x f lo hi Ma Mb Pa Pb F σ m hC ha hb hMa hMb hroot hn hZ hF hlen hnd hm
    have hpa := TA_pgs ha hMa
    have hpb := TA_pgs hb hMb
    have hbd := Cx_pgs _ p lo hi (Ma ++ Mb) (Pa ++ Pb) hC (by rw [List.length_append, List.length_append]; omega)
    obtain ⟨loq, hiq, e0, es, c1, c2, c3, c4, c5, c6, c7, c8, c9, c10, c11, c12⟩ := hC
    rw [List.length_cons] at hm hZ
    obtain ⟨m, rfl⟩ : ∃ m', m = m' + 2 := ⟨m - 2, by omega⟩
    have hFne : F ≠ [] := by rintro rfl; simp only [List.length_append, List.length_nil] at hlen hbd; omega
    obtain ⟨F1, y, rfl⟩ : ∃ F1 y, F = F1 ++ [y] := ⟨F.dropLast, F.getLast hFne, (List.dropLast_concat_getLast hFne).symm⟩
    have hfM : fM (A ++ (lo, p, Ma, Pa) :: (some f, x, Mb, Pb) :: B) = fM A ++ (Ma ++ Mb) ++ fM B := by rw [fM_app, fM, fM]; simp
    have hfP : fP (A ++ (lo, p, Ma, Pa) :: (some f, x, Mb, Pb) :: B) = fP A ++ (Pa ++ Pb) ++ fP B := by rw [fP_app, fP, fP]; simp
    rw [gP, ← hfP] at hnd hlen ⊢
    rw [gM, ← hfM] at hlen ⊢
    have hp1 := List.Perm.append_right (F1 ++ [y]) (gP_perm Z (q :: fP (A ++ (lo, p, Ma, Pa) :: (some f, x, Mb, Pb) :: B)))
    have hnd2 := hp1.nodup_iff.mp hnd
    rw [List.append_assoc] at hnd2
    have hdis := (List.nodup_append.mp hnd2).2.2
    have hW : ∀ z ∈ gP Z [], ¬ (z = q ∨ z = y) := fun z hz h => by
      rcases h with h | h
      · exact hdis z hz q (List.mem_append_left _ List.mem_cons_self) h
      · exact hdis z hz y (List.mem_append_right _ (List.mem_append_right _ List.mem_cons_self)) h
    have hqin : q ∈ gP Z (q :: fP (A ++ (lo, p, Ma, Pa) :: (some f, x, Mb, Pb) :: B)) ++ (F1 ++ [y]) := hp1.mem_iff.mpr (List.mem_append_left _ (List.mem_append_right _ List.mem_cons_self))
    have hyin : y ∈ gP Z (q :: fP (A ++ (lo, p, Ma, Pa) :: (some f, x, Mb, Pb) :: B)) ++ (F1 ++ [y]) := List.mem_append_right _ (List.mem_append_right _ List.mem_cons_self)
    have hnz : nI (Z.length + 1) ≠ 0 := fun z => by
      have := congrArg Int32.toNatClampNeg z
      rw [nI_clamp (by omega), Jvm.Pilot.CTableMachineLaw_law_r1783_d1b97b.c0] at this
      omega
    have hCx : ∀ σ', cg (fun p => p = q ∨ p = y) σ σ' → Cx σ' n t root Z q loq hiq := fun σ' hc => Cx_cong2 Z q loq hiq (fun z hz j => cg_pg hc (hW z hz) (Cx_P _ _ _ _ c1 z hz) j) (fun j _ => ⟨hc.1 _ _ _ (by decide) (by decide) (by decide) (by omega) (by omega), hc.1 _ _ _ (by decide) (by decide) (by decide) (by omega) (by omega)⟩) c1
    rcases level_eq (t := t) c4 c5 c6 c8 c9 c10 c11 c12 ha hb hMa hMb hF (List.nodup_append.mp hnd2).2.1 with ⟨σ', r1, r2, r3, r4⟩ | ⟨σ', f', La, Lb, r1, r2, r3, r4, r5, r6, r7, r8, r9, r10, r11⟩
    · have r4' : cg (fun p => p = q ∨ p = y) σ σ' := r4.mono (fun _ => Or.inl)
      refine ⟨σ', _, F1 ++ [y], ?_, Cx_fill Z q loq hiq _ _ (hCx σ' r4') r2 (Or.inl ?_), r3, List.Perm.refl _, r4.mono (fun z hz => by rw [hz]; exact hqin)⟩
      · have step : b_Tr_above_15 t (nI (Z.length + 1)) f (nI x) 1 σ = some (.inl (nI Z.length, f, nI x, 0, σ')) := by
          unfold b_Tr_above_15
          rw [if_neg (by decide), if_neg hnz, lt_eq, ← Int32.sub_eq_add_neg, nI_pred, chk_pos (vp_in_nI (by omega) (by decide)), chk_pos (vp_in_nI (by omega) (by decide)), nI_clamp (by omega), c2, c3, r1, bn2_eq, if_pos rfl]
        rw [List.length_cons, lp_l step, fin]
      · rw [hfM]
        intro z
        exact hMa (List.append_eq_nil_iff.mp (List.append_eq_nil_iff.mp (List.append_eq_nil_iff.mp z).1).2).1
    · have hp2 : (gP Z ((q :: fP La) ++ (y :: fP Lb)) ++ F1).Perm (gP Z (q :: fP (A ++ (lo, p, Ma, Pa) :: (some f, x, Mb, Pb) :: B)) ++ (F1 ++ [y])) := by
        refine (List.Perm.append_right F1 (gP_perm Z _)).trans (List.Perm.trans ?_ hp1.symm)
        rw [← r2]
        exact perm_mid
      have h31 : gi σ' 3 t 1 = nI root := (r11.1 _ _ _ (by decide) (by decide) (by decide) (by omega) (by omega)).trans hroot
      have h32 : gi σ' 3 t 2 = nI n := (r11.1 _ _ _ (by decide) (by decide) (by decide) (by omega) (by omega)).trans hn
      obtain ⟨σ2, P', F', i1, i2, i3, i4, i5⟩ := ih q y f' loq hiq (fM La) (fM Lb) (q :: fP La) (y :: fP Lb) F1 σ' (m + 1) (hCx σ' r11) r6 r7 r8 r9 h31 h32 (by omega) r10 (by rw [r1, hp2.length_eq]; exact hlen) (hp2.nodup_iff.mpr hnd) (by omega)
      refine ⟨σ2, P', F', ?_, by rw [← r1]; exact i2, i3, i4.trans hp2, (r11.mono (fun z hz => ?_)).tr (i5.mono (fun z hz => hp2.mem_iff.mp hz))⟩
      · have step : b_Tr_above_15 t (nI (Z.length + 1)) f (nI x) 1 σ = some (.inl (nI Z.length, f', nI y, 1, σ')) := by
          unfold b_Tr_above_15
          rw [if_neg (by decide), if_neg hnz, lt_eq, ← Int32.sub_eq_add_neg, nI_pred, chk_pos (vp_in_nI (by omega) (by decide)), chk_pos (vp_in_nI (by omega) (by decide)), nI_clamp (by omega), c2, c3, r3, bn2_eq, if_neg (by decide), lt_eq, lt_eq, r4, r5]
        rw [List.length_cons, lp_l step, i1]
      · rcases hz with rfl | rfl
        · exact hqin
        · exact hyin
