/-! the plain law: place -/
theorem place_eq {t n root r : Nat} {M : List Cel} {P F : List Nat} {vs : List (Option Int64)} {σ : Sg} (h : TO σ n t root M P) (hM : M.length ≤ 90) (hF : FL σ F) (hnd : (P ++ F).Nodup) (hroom : 2 * (M.length + 1) ≤ (P ++ F).length) (hvn : vs.length = n) (hr : r < 2) (hv : hV σ r vs) (key : Int64) (hk : ¬ hasK key M) :
    ∃ σ' M' P' F', f_Tr_place t key r σ = some σ' ∧ M'.Perm ((key, vs) :: M) ∧ TO σ' n t root M' P' ∧ FL σ' F' ∧ (P' ++ F').Perm (P ++ F) ∧ gi σ' 3 t 3 = gi σ 3 t 3 + 1 ∧ tg (fun q => q ∈ P ++ F) t σ σ' := by
  obtain ⟨Z, p, lo, hi, pre, post, σ1, f1, f2, f3, f4, f5⟩ := find_eq h key
  obtain ⟨t1, t2, t3, t4, t5, t6⟩ := h
  obtain ⟨g1, g2, g3, g4, g5, g6, g7, g8, g9, g10, g11, g12, g13, g14⟩ := f3
  obtain ⟨hp, l1, l2, l3⟩ := g2
  have hpost : ∀ c ∈ post, key < c.1 := fun c hc => by
    have hne : c.1 ≠ key := fun z => hk ⟨c, by rw [← f4, gM_eq]; exact List.mem_append_left _ (List.mem_append_right _ (List.mem_append_right _ hc)), z⟩
    have := g10 c hc
    rcases Int64.lt_or_eq_of_le (Int64.not_lt.mp this) with z | z
    · exact z
    · exact absurd z.symm hne
  have hgi : ∀ a b c, ¬ scr a b c → gi σ1 a b c = gi σ a b c := f2.1
  have hn1 : gi σ1 3 t 2 = nI n := (hgi _ _ _ (by unfold scr; omega)).trans t2
  have hroot1 : gi σ1 3 t 1 = nI root := (hgi _ _ _ (by unfold scr; omega)).trans t1
  have hF1 : FL σ1 F := FL_congr (hgi _ _ _ (by unfold scr; omega)) (fun k => hgi _ _ _ (by unfold scr; omega)) hF
  obtain ⟨σ2, b1, b2, b3, b4, b5⟩ := place_buf (key := key) (vs := vs) (r := r) t4 hvn (fun k hk' => ⟨(hgi _ _ _ (by unfold scr; omega)).trans (hv k hk').1, (f2.2.1 _ _ _ (by omega)).trans (hv k hk').2⟩) hn1 hp l1 (fun c hc => (l2 c hc).1) g5 (by omega) g6 g12
  generalize hN : pre ++ (key, vs) :: post = N at b3 b4
  have hNn : ∀ c ∈ N, c.2.length = n ∧ oLo lo c.1 ∧ oHi hi c.1 := fun c hc => by
    rw [← hN] at hc
    rcases List.mem_append.mp hc with hc | hc
    · exact l2 c (List.mem_append_left _ hc)
    · rcases List.mem_cons.mp hc with rfl | hc
      · exact ⟨hvn, g3, g4⟩
      · exact l2 c (List.mem_append_right _ hc)
  have hNs : N.Pairwise (fun a b => a.1 < b.1) := by
    rw [← hN]
    obtain ⟨s1, s2, s3⟩ := List.pairwise_append.mp l3
    refine List.pairwise_append.mpr ⟨s1, List.pairwise_cons.mpr ⟨hpost, s2⟩, fun a ha b hb => ?_⟩
    rcases List.mem_cons.mp hb with rfl | hb
    · exact g9 a ha
    · exact s3 a ha b hb
  have hNl : N.length = (pre ++ post).length + 1 := by rw [← hN, List.length_append, List.length_append, List.length_cons]; omega
  have hperm : (gM Z N).Perm ((key, vs) :: M) := by
    rw [← f4, gM_eq, gM_eq, ← hN]
    have e1 : gA Z ++ (pre ++ (key, vs) :: post) ++ gB Z = (gA Z ++ pre) ++ (key, vs) :: (post ++ gB Z) := by simp
    have e2 : gA Z ++ (pre ++ post) ++ gB Z = (gA Z ++ pre) ++ (post ++ gB Z) := by simp
    rw [e1, e2]
    exact List.perm_middle
  have h4N : ∀ c ∈ N, c.2.length ≤ 4 := fun c hc => by rw [(hNn c hc).1]; exact t4
  have hU : (lB N).length ≤ 177 := by
    have e1 : (lB N).length = (lB (pre ++ post)).length + (encC (key, vs)).length := by
      rw [← hN, lB_app, lB_app, lB]
      simp only [List.length_append]
      omega
    have e2 := encC_len (c := (key, vs)) (by show vs.length ≤ 4; omega)
    have e3 := l1.2.2.2
    omega
  generalize hσ3 : si σ2 3 t 3 (gi σ2 3 t 3 + 1) = σ3
  have k3 : ∀ a, a ≠ 2 → ∀ b c, ¬ (a = 10 ∧ 240 ≤ b) → ¬ (a = 3 ∧ b = t ∧ c = 3) → gi σ3 a b c = gi σ1 a b c := fun a ha b c x1 x2 => by
    rw [← hσ3, gi_ne x2]
    exact b2 a ha b c x1
  have hF3 : FL σ3 F := FL_congr (k3 _ (by decide) _ _ (by omega) (by omega)) (fun k => k3 _ (by decide) _ _ (by omega) (by omega)) hF1
  have hs3 : sp σ3 (240 + t) 0 (lB N) := by rw [← hσ3]; exact sp_congr (fun j => by rw [gi_ne (by omega)]) b3
  have ha3 : gi σ3 2 (240 + t) 1 = nI (lB N).length := by rw [← hσ3, gi_ne (by omega)]; exact b4
  have hrow : gi σ3 3 t 3 = gi σ 3 t 3 + 1 := by
    rw [← hσ3, gi_eq, b2 3 (by decide) t 3 (by omega), hgi 3 t 3 (by unfold scr; omega)]
  have htg3 : tg (fun q => q ∈ P ++ F) t σ σ3 := by
    rw [← hσ3]
    exact ((tg_eqS f2).tr (tg_cg (b1.mono (fun _ z => z.elim)))).tr tg_row
  have hcells : gi σ3 10 p 1 = nI (pre ++ post).length := (k3 10 (by decide) p 1 (by omega) (by omega)).trans l1.2.1
  have hpP : p ∈ P := by rw [← f5]; exact (gP_perm Z [p]).mem_iff.mpr (List.mem_append_right _ List.mem_cons_self)
  have hWP : ∀ z ∈ gP Z [], z ∈ P := fun z hz => by rw [← f5]; exact (gP_perm Z [p]).mem_iff.mpr (List.mem_append_left _ hz)
  have hPn := (List.nodup_append.mp hnd).1
  have hWp : ∀ z ∈ gP Z [], z ≠ p := fun z hz => by
    rw [← f5] at hPn
    exact (List.nodup_append.mp ((gP_perm Z [p]).nodup_iff.mp hPn)).2.2 z hz p List.mem_cons_self
  have hMlen : (gM Z N).length = M.length + 1 := by rw [hperm.length_eq, List.length_cons]
  have hTO : ∀ σ' P', tg (fun q => q ∈ P ++ F) t σ σ' → TA σ' n root none none (gM Z N) P' → TO σ' n t root (gM Z N) P' := fun σ' P' hg ht => ⟨(hg.1 _ _ _ (by unfold scr; omega) (by decide) (by decide) (by omega) (by omega)).trans t1, (hg.1 _ _ _ (by unfold scr; omega) (by decide) (by decide) (by omega) (by omega)).trans t2, t3, t4, ht, by omega⟩
  have start : f_Tr_place t key r σ = Option.bind (if 126 < nI (lB N).length then ((f_Tr_splitLeaf t (nI p) (nI N.length) σ3).bind (fun σ29 => some σ29)) else ((f_Tr_fill t (nI p) 1 (nI N.length) 0 (nI (lB N).length) σ3).bind (fun σ34 => some σ34))) (fun (σ23 : Sg) => some σ23) := by
    unfold f_Tr_place
    rw [f1, bnd_eq]
    refine (b5 (fun r5 σ20 => lt_ (si σ20 3 t 3 ((gi σ20 3 t 3) + 1)) (fun σ22 => Option.bind (if 126 < (gi σ22 2 (240 + t) 1) then (bn2 (f_Pg_cells r5 σ22) (fun r28 σ26 => (f_Tr_splitLeaf t r5 (r28 + 1) σ26).bind (fun σ29 => some (σ29)))) else (bn2 (f_Pg_cells r5 σ22) (fun r33 σ31 => (f_Tr_fill t r5 1 (r33 + 1) 0 (gi σ31 2 (240 + t) 1) σ31).bind (fun σ34 => some (σ34))))) (fun (σ23 : Sg) => some σ23)))).trans ?_
    show lt_ (si σ2 3 t 3 ((gi σ2 3 t 3) + 1)) _ = _
    rw [lt_eq, hσ3, cells_eq hp, bn2_eq, bn2_eq, ha3, hcells, nI_1, hNl]
  by_cases h126 : (lB N).length ≤ 126
  · obtain ⟨σ4, q1, q2, q3⟩ := fill_L (t := t) (p := p) (a := 0) (e := (lB N).length) hp h4N hs3 h126 (by omega) (by omega)
    have htg : tg (fun q => q ∈ P ++ F) t σ σ4 := htg3.tr (tg_cg (cg_onP q2 (List.mem_append_left _ hpP)))
    have hCx : Cx σ4 n t root Z p lo hi := Cx_cong2 Z p lo hi (fun z hz j => (q2.1 _ _ _ (fun y => hWp z hz y.2)).trans (k3 10 (by decide) z j (by have := Cx_P _ _ _ _ g1 z hz; omega) (by omega))) (fun j _ => ⟨(q2.1 _ _ _ (by omega)).trans (k3 13 (by decide) _ _ (by omega) (by omega)), (q2.1 _ _ _ (by omega)).trans (k3 14 (by decide) _ _ (by omega) (by omega))⟩) g1
    refine ⟨σ4, gM Z N, P, F, ?_, hperm, hTO σ4 P htg ?_, FL_onP q2 hF3, List.Perm.refl _, (q2.1 _ _ _ (by omega)).trans hrow, htg⟩
    · rw [show nI 0 = (0 : Int32) from rfl] at q1
      rw [start, if_neg (fun z => absurd ((le126 (by omega)).mpr h126) (Int32.not_le.mpr z)), q1, bnd_eq, bnd_eq]
    · rw [← f5]
      exact Cx_fill Z p lo hi N [p] hCx (TA_iff.mpr (Or.inl ⟨⟨hp, q3, hNn, hNs⟩, rfl⟩)) (Or.inl (fun z => by rw [z] at hNl; exact absurd hNl (by simp)))
  · have hN2 : 2 ≤ N.length := by
      have e3 : (pre ++ post) ≠ [] := fun z => by
        obtain ⟨rfl, rfl⟩ := List.append_eq_nil_iff.mp z
        have e2 := encC_len (c := (key, vs)) (by show vs.length ≤ 4; omega)
        rw [← hN, List.nil_append, lB, lB, List.append_nil] at h126
        omega
      have := List.length_pos_iff.mpr e3
      omega
    have hbd := Cx_pgs Z p lo hi N [p] g1 (by rw [List.length_singleton]; omega)
    rw [f5, hMlen] at hbd
    rw [List.length_append] at hroom
    have hFne : F ≠ [] := by rintro rfl; rw [List.length_nil] at hroom; omega
    obtain ⟨F1, x, rfl⟩ : ∃ F1 x, F = F1 ++ [x] := ⟨F.dropLast, F.getLast hFne, (List.dropLast_concat_getLast hFne).symm⟩
    have hdis := (List.nodup_append.mp hnd).2.2
    have hxF : x ∈ F1 ++ [x] := List.mem_append_right _ List.mem_cons_self
    have hx : x < 240 := hF.2.2.2 x hxF
    obtain ⟨A, c, B, σ4, s1, s2, s3, s4, s5, s6, s7⟩ := splitLeaf_eq t4 (fun c hc => (hNn c hc).1) ((k3 3 (by decide) _ _ (by omega) (by omega)).trans hn1) (by omega) hU ha3 hs3 hp hF3 (hdis p hpP x hxF)
    have hk4 : ∀ a b c, a ≠ 2 → a ≠ 1 → a ≠ 12 → a ≠ 10 → ¬ (a = 3 ∧ (c = 13 ∨ c = 3)) → gi σ4 a b c = gi σ1 a b c := fun a b c x1 x2 x3 x4 x5 => (s7.1 a b c x1 x2 x3 (by omega) (by omega)).trans (k3 a x1 b c (by omega) (by omega))
    have hCx : Cx σ4 n t root Z p lo hi := Cx_cong2 Z p lo hi (fun z hz j => (cg_pg s7 (fun y => y.elim (hWp z hz) (hdis z (hWP z hz) x hxF)) (Cx_P _ _ _ _ g1 z hz) j).trans (k3 10 (by decide) z j (by have := Cx_P _ _ _ _ g1 z hz; omega) (by omega))) (fun j _ => ⟨hk4 _ _ _ (by decide) (by decide) (by decide) (by decide) (by omega), hk4 _ _ _ (by decide) (by decide) (by decide) (by decide) (by omega)⟩) g1
    have hNs' := hNs
    rw [s1] at hNs'
    obtain ⟨u1, u2, u3⟩ := List.pairwise_append.mp hNs'
    have hTa : TA σ4 n p lo (some c.1) A [p] := TA_iff.mpr (Or.inl ⟨⟨hp, s5, fun z hz => ⟨(hNn z (by rw [s1]; exact List.mem_append_left _ hz)).1, (hNn z (by rw [s1]; exact List.mem_append_left _ hz)).2.1, fun b hb => by cases hb; exact u3 z hz c List.mem_cons_self⟩, u1⟩, rfl⟩)
    have hTb : TA σ4 n x (some c.1) hi (c :: B) [x] := TA_iff.mpr (Or.inl ⟨⟨hx, s6, fun z hz => ⟨(hNn z (by rw [s1]; exact List.mem_append_right _ hz)).1, fun b hb => by
      cases hb
      rcases List.mem_cons.mp hz with rfl | hz
      · exact Int64.le_refl _
      · exact Int64.le_of_lt ((List.pairwise_cons.mp u2).1 z hz), (hNn z (by rw [s1]; exact List.mem_append_right _ hz)).2.2⟩, u2⟩, rfl⟩)
    have hp2 : (gP Z ([p] ++ [x]) ++ F1).Perm (P ++ (F1 ++ [x])) := by
      rw [← f5]
      refine (List.Perm.append_right F1 (gP_perm Z _)).trans (List.Perm.trans ?_ (List.Perm.append_right (F1 ++ [x]) (gP_perm Z _)).symm)
      exact perm_mid (a := []) (b := [])
    obtain ⟨σ5, P', F', i1, i2, i3, i4, i5⟩ := above_loop t4 Z p x c.1 lo hi A (c :: B) [p] [x] F1 σ4 FU hCx hTa hTb s2 (by simp) ((hk4 _ _ _ (by decide) (by decide) (by decide) (by decide) (by omega)).trans hroot1) ((hk4 _ _ _ (by decide) (by decide) (by decide) (by decide) (by omega)).trans hn1) (by omega) s4 (by rw [← s1, hMlen, hp2.length_eq, List.length_append]; exact hroom) (hp2.nodup_iff.mpr hnd) (by unfold FU; omega)
    rw [← s1] at i2
    have htg : tg (fun q => q ∈ P ++ (F1 ++ [x])) t σ σ5 := (htg3.tr (tg_cg (s7.mono (fun z hz => by
      rcases hz with rfl | rfl
      · exact List.mem_append_left _ hpP
      · exact List.mem_append_right _ hxF)))).tr (tg_cg (i5.mono (fun z hz => hp2.mem_iff.mp hz)))
    refine ⟨σ5, gM Z N, P', F', ?_, hperm, hTO σ5 P' htg i2, i3, i4.trans hp2, ?_, htg⟩
    · rw [start, if_pos (Int32.not_le.mp (fun z => h126 ((le126 (by omega)).mp z))), s3]
      unfold f_Tr_above l_Tr_above_15
      rw [lt_eq, hk4 3 t 6 (by decide) (by decide) (by decide) (by decide) (by omega), g5, i1, bnd_eq, bnd_eq, bnd_eq]
    · exact (i5.1 3 t 3 (by decide) (by decide) (by decide) (by omega) (by omega)).trans ((s7.1 3 t 3 (by decide) (by decide) (by decide) (by omega) (by omega)).trans hrow)
