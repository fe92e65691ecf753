/-! the plain law: remove -/
set_option maxHeartbeats 2000000 in
theorem remove_eq {t n root : Nat} {M : List Cel} {P F : List Nat} {σ : Sg} {key : Int64} (h : TO σ n t root M P) (hF : FL σ F) (hnd : (P ++ F).Nodup) (hlen : (P ++ F).length ≤ 240) (hk : hasK key M) :
    ∃ σ' c M' P' F', f_Tr_remove t key σ = some σ' ∧ c.1 = key ∧ M.Perm (c :: M') ∧ TO σ' n t root M' P' ∧ FL σ' F' ∧ (P' ++ F').Perm (P ++ F) ∧ gi σ' 3 t 3 = gi σ 3 t 3 - 1 ∧ tg (fun q => q ∈ P ++ F) t σ σ' := by
  obtain ⟨Z, p, lo, hi, pre, post, σ1, f1, f2, f3, f4, f5⟩ := find_eq h key
  obtain ⟨t1, t2, t3, t4, t5, t6⟩ := h
  obtain ⟨c, r, hpost, hcr⟩ := (fnd_has f3).mpr (by rw [f4]; exact hk)
  obtain ⟨g1, g2, g3, g4, g5, g6, g7, g8, g9, g10, g11, g12, g13, g14⟩ := f3
  subst hpost
  obtain ⟨hp, l1, l2, l3⟩ := g2
  have hgi : ∀ a b c, ¬ scr a b c → gi σ1 a b c = gi σ a b c := f2.1
  have hn1 : gi σ1 3 t 2 = nI n := (hgi _ _ _ (by unfold scr; omega)).trans t2
  have hroot1 : gi σ1 3 t 1 = nI root := (hgi _ _ _ (by unfold scr; omega)).trans t1
  have hF1 : FL σ1 F := FL_congr (hgi _ _ _ (by unfold scr; omega)) (fun k => hgi _ _ _ (by unfold scr; omega)) hF
  obtain ⟨σ2, b1, b2, b3, b4⟩ := rem_buf (t := t) t4 hn1 hp l1 (fun c hc => (l2 c hc).1) g5 (by omega) g6 g12 (g13 c r rfl).1
  have hperm : M.Perm (c :: gM Z (pre ++ r)) := by
    rw [← f4, gM_eq, gM_eq]
    have e1 : gA Z ++ (pre ++ c :: r) ++ gB Z = (gA Z ++ pre) ++ c :: (r ++ gB Z) := by simp
    have e2 : gA Z ++ (pre ++ r) ++ gB Z = (gA Z ++ pre) ++ (r ++ gB Z) := by simp
    rw [e1, e2]
    exact List.perm_middle
  have hMlen : (gM Z (pre ++ r)).length + 1 = M.length := by rw [hperm.length_eq, List.length_cons]
  generalize hσ3 : si σ2 3 t 3 (gi σ2 3 t 3 - 1) = σ3
  have k3 : ∀ a, a ≠ 2 → ∀ b c, ¬ (a = 10 ∧ (b = p ∨ 240 ≤ b)) → ¬ (a = 3 ∧ b = t ∧ c = 3) → gi σ3 a b c = gi σ1 a b c := fun a ha b c x1 x2 => by
    rw [← hσ3, gi_ne x2]
    exact b2 a ha b c x1
  have hF3 : FL σ3 F := FL_congr (k3 _ (by decide) _ _ (by omega) (by omega)) (fun k => k3 _ (by decide) _ _ (by omega) (by omega)) hF1
  have hrow : gi σ3 3 t 3 = gi σ 3 t 3 - 1 := by
    rw [← hσ3, gi_eq, b2 3 (by decide) t 3 (by omega), hgi 3 t 3 (by unfold scr; omega)]
  have hpP : p ∈ P := by rw [← f5]; exact (gP_perm Z [p]).mem_iff.mpr (List.mem_append_right _ List.mem_cons_self)
  have htg3 : tg (fun q => q ∈ P ++ F) t σ σ3 := by
    rw [← hσ3]
    exact ((tg_eqS f2).tr (tg_cg (b1.mono (fun z hz => by rw [hz]; exact List.mem_append_left _ hpP)))).tr tg_row
  have hPL3 : PL σ3 p (pre ++ r) := by rw [← hσ3]; exact PL_congr (fun j => by rw [gi_ne (by omega)]) b3
  have hPn := (List.nodup_append.mp hnd).1
  have hWp : ∀ z ∈ gP Z [], z ≠ p := fun z hz => by
    rw [← f5] at hPn
    exact (List.nodup_append.mp ((gP_perm Z [p]).nodup_iff.mp hPn)).2.2 z hz p List.mem_cons_self
  have hCx3 : Cx σ3 n t root Z p lo hi := Cx_cong2 Z p lo hi (fun z hz j => k3 10 (by decide) z j (fun y => y.2.elim (hWp z hz) (fun y => by have := Cx_P _ _ _ _ g1 z hz; omega)) (by omega)) (fun j _ => ⟨k3 13 (by decide) _ _ (by omega) (by omega), k3 14 (by decide) _ _ (by omega) (by omega)⟩) g1
  have hTO : ∀ σ' P', tg (fun q => q ∈ P ++ F) t σ σ' → TA σ' n root none none (gM Z (pre ++ r)) P' → TO σ' n t root (gM Z (pre ++ r)) P' := fun σ' P' hg ht => ⟨(hg.1 _ _ _ (by unfold scr; omega) (by decide) (by decide) (by omega) (by omega)).trans t1, (hg.1 _ _ _ (by unfold scr; omega) (by decide) (by decide) (by omega) (by omega)).trans t2, t3, t4, ht, by omega⟩
  have hLf : Lf σ3 n p lo hi (pre ++ r) := ⟨hp, hPL3, fun x hx => l2 x (by
    rcases List.mem_append.mp hx with hx | hx
    · exact List.mem_append_left _ hx
    · exact List.mem_append_right _ (List.mem_cons_of_mem _ hx)), by
    obtain ⟨s1, s2, s3⟩ := List.pairwise_append.mp l3
    exact List.pairwise_append.mpr ⟨s1, (List.pairwise_cons.mp s2).2, fun a ha b hb => s3 a ha b (List.mem_cons_of_mem _ hb)⟩⟩
  have start : f_Tr_remove t key σ = Option.bind (if nI (pre ++ r).length = 0 then ((f_Tr_prune t σ3).bind (fun σ30 => some (σ30))) else (some (σ3))) (fun (σ27 : Sg) => some σ27) := by
    unfold f_Tr_remove
    rw [f1, bnd_eq]
    refine (b4 (fun r5 σ21 => lt_ (si σ21 3 t 3 ((gi σ21 3 t 3) - 1)) (fun σ23 => bn2 (f_Pg_cells r5 σ23) (fun r26 σ24 => Option.bind (if r26 = 0 then ((f_Tr_prune t σ24).bind (fun σ30 => some (σ30))) else (some (σ24))) (fun (σ27 : Sg) => some σ27))))).trans ?_
    show lt_ (si σ2 3 t 3 ((gi σ2 3 t 3) - 1)) _ = _
    rw [lt_eq, hσ3, cells_eq hp, bn2_eq, hPL3.2.1]
  have hdep3 : gi σ3 3 t 6 = nI Z.length := (k3 3 (by decide) _ _ (by omega) (by omega)).trans g5
  have easy : (pre ++ r ≠ [] ∨ Z = []) → TO σ3 n t root (gM Z (pre ++ r)) P := fun hz => by
    have := Cx_fill Z p lo hi (pre ++ r) [p] hCx3 (TA_iff.mpr (Or.inl ⟨hLf, rfl⟩)) hz
    rw [f5] at this
    exact hTO σ3 P htg3 this
  by_cases hemp : pre ++ r = []
  · cases Z with
    | nil =>
      refine ⟨σ3, c, _, P, F, ?_, hcr, hperm, easy (Or.inr rfl), hF3, List.Perm.refl _, hrow, htg3⟩
      have hpr : f_Tr_prune t σ3 = some σ3 := by
        unfold f_Tr_prune
        rw [hdep3, if_pos (show nI (List.length ([] : List Lv)) = 0 from rfl)]
      rw [start, hemp, if_pos (show nI (List.length ([] : List Cel)) = 0 from rfl), hpr, bnd_eq, bnd_eq]
    | cons L Z =>
      obtain ⟨q, A, B⟩ := L
      have hg7 : Z.length + 1 < 100 := by rw [List.length_cons] at g7; omega
      obtain ⟨σ4, P', F', p1, p2, p3, p4, p5⟩ := prune_eq (key := key) t4 ((k3 3 (by decide) _ _ (by omega) (by omega)).trans hn1) ((k3 3 (by decide) _ _ (by omega) (by omega)).trans hroot1) hCx3 hdep3 ((k3 13 (by decide) _ _ (by omega) (by omega)).trans g6) hg7 hp g3 g4 hF3 (by rw [f5]; exact hnd) (by rw [f5]; exact hlen)
      rw [f5] at p4
      have htg : tg (fun q => q ∈ P ++ F) t σ σ4 := htg3.tr (tg_cg (p5.mono (fun z hz => by rw [f5] at hz; exact List.mem_append_left _ hz)))
      refine ⟨σ4, c, _, P', F', ?_, hcr, hperm, hTO σ4 P' htg (by rw [hemp]; exact p2), p3, p4, ?_, htg⟩
      · rw [start, hemp, if_pos (show nI (List.length ([] : List Cel)) = 0 from rfl), p1, bnd_eq, bnd_eq]
      · exact (p5.1 3 t 3 (by decide) (by decide) (by decide) (by omega) (by omega)).trans hrow
  · refine ⟨σ3, c, _, P, F, ?_, hcr, hperm, easy (Or.inl hemp), hF3, List.Perm.refl _, hrow, htg3⟩
    have hnz : nI (pre ++ r).length ≠ 0 := fun z => by
      have h1 := congrArg Int32.toNatClampNeg z
      have h2 := List.length_pos_iff.mpr hemp
      rw [List.length_append] at g7 h1 h2
      rw [List.length_cons] at g7
      rw [nI_clamp (by omega), c0] at h1
      omega
    rw [start, if_neg hnz, bnd_eq]
