/-! the plain law: an empty leaf is taken off the way -/
theorem drop_kid {t n q p : Nat} {key : Int64} {lo hi loq hiq : Option Int64} {A B es : List Ent} {e0 : Ent} {σ : Sg} (hq : q < 240) (hE : A ++ hole lo p :: B = e0 :: es) (hPI : PI σ q e0.2.1 (es.map ic)) (hne : es ≠ []) (hes : ∀ e ∈ es, e.1.isSome = true ∧ (∀ b, e.1 = some b → oLo loq b ∧ oHi hiq b)) (h0 : e0.1 = loq) (hhi : hi = nL B hiq) (hA : Ks (TA σ n) A lo) (hB : Ks (TA σ n) B hiq) (hk1 : oLo lo key) (hk2 : oHi hi key) :
    ∃ r0 rs σ', f_Tr_without t (nI q) (nI A.length) σ = some σ' ∧ PI σ' q r0.2.1 (rs.map ic) ∧ cg (fun z => z = q) σ σ' ∧ (∀ a, a ≠ 2 → ∀ b c, ¬ (a = 10 ∧ (b = q ∨ 240 ≤ b)) → gi σ' a b c = gi σ a b c) ∧ Ks (TA σ n) (r0 :: rs) hiq ∧ r0.1 = loq ∧ fM (r0 :: rs) = fM A ++ fM B ∧ fP (r0 :: rs) = fP A ++ fP B ∧ (∀ e ∈ rs, e.1.isSome = true ∧ (∀ b, e.1 = some b → oLo loq b ∧ oHi hiq b)) := by
  cases A with
  | nil =>
    rw [List.nil_append] at hE
    obtain ⟨rfl, rfl⟩ := List.cons.inj hE
    cases B with
    | nil => exact absurd rfl hne
    | cons b B =>
      obtain ⟨σ', w1, w2, w3, w4⟩ := without_0 (t := t) (c := ic b) (cs := B.map ic) hq hPI
      have hb := hes b List.mem_cons_self
      obtain ⟨x, hx⟩ := Option.isSome_iff_exists.mp hb.1
      refine ⟨(loq, b.2), B, σ', w1, w2, w3, w4, ⟨TA_wide (fun k hk c hc => ?_) (fun _ z => z) hB.1, hB.2.1, hB.2.2⟩, rfl, ?_, ?_, fun e he => hes e (List.mem_cons_of_mem _ he)⟩
      · exact Int64.le_trans ((hb.2 x hx).1 c hc) (hk x hx)
      · simp only [fM, List.nil_append]
      · simp only [fP, List.nil_append]
  | cons a A =>
    rw [List.cons_append] at hE
    obtain ⟨rfl, rfl⟩ := List.cons.inj hE
    rw [List.map_append, List.map_cons] at hPI
    obtain ⟨σ', w1, w2, w3, w4⟩ := without_s (t := t) hq hPI
    rw [List.length_map] at w1
    have hl := hes (hole lo p) (List.mem_append_right _ List.mem_cons_self)
    obtain ⟨x, hx⟩ := Option.isSome_iff_exists.mp hl.1
    have hx' : lo = some x := hx
    have hw : wHi lo (nL B hiq) := fun k hk c hc => Int64.lt_trans (Int64.lt_of_lt_of_le (hk x hx') (hk1 x hx')) (hk2 c (hhi.trans hc))
    refine ⟨a, A ++ B, σ', w1, by rw [List.map_append]; exact w2, w3, w4, ?_, h0, ?_, ?_, fun e he => ?_⟩
    · rw [← List.cons_append]
      exact Ks_app.mpr ⟨Ks_wide (fun _ _ _ _ hr => TA_wide (fun _ z => z) hw hr) _ hA, hB⟩
    · rw [← List.cons_append, fM_app]
    · rw [← List.cons_append, fP_app]
    · rcases List.mem_append.mp he with he | he
      · exact hes e (List.mem_append_left _ he)
      · exact hes e (List.mem_append_right _ (List.mem_cons_of_mem _ he))
theorem lead_Cx {t n root q q2 r : Nat} {loq hiq : Option Int64} {A2 B2 : List Ent} {Z2 : List Lv} {σ : Sg} (hr : r < 240) (hC : Cx σ n t root ((q2, A2, B2) :: Z2) q loq hiq) (hnd : (gP ((q2, A2, B2) :: Z2) []).Nodup) :
    ∃ σ', f_Tr_lead t (nI q2) (nI A2.length) (nI r) σ = some σ' ∧ Cx σ' n t root ((q2, A2, B2) :: Z2) r loq hiq ∧ cg (fun z => z = q2) σ σ' ∧ (∀ a, a ≠ 2 → ∀ b c, ¬ (a = 10 ∧ (b = q2 ∨ 240 ≤ b)) → gi σ' a b c = gi σ a b c) := by
  obtain ⟨loz, hiz, e0, es, c1, c2, c3, c4, c5, c6, c7, c8, c9, c10, c11, c12⟩ := hC
  have hP := (gP_perm Z2 (q2 :: (fP A2 ++ [] ++ fP B2))).nodup_iff.mp hnd
  have hd1 := (List.nodup_append.mp hP).2.2
  have hd2 := (List.nodup_cons.mp (List.nodup_append.mp hP).2.1).1
  have hA : ∀ z ∈ fP A2, ¬ z = q2 := fun z hz h => hd2 (by rw [← h]; exact List.mem_append_left _ (List.mem_append_left _ hz))
  have hB : ∀ z ∈ fP B2, ¬ z = q2 := fun z hz h => hd2 (by rw [← h]; exact List.mem_append_right _ hz)
  have hW : ∀ z ∈ gP Z2 [], ¬ z = q2 := fun z hz => hd1 z hz q2 List.mem_cons_self
  have rest : ∀ σ', cg (fun z => z = q2) σ σ' → Cx σ' n t root Z2 q2 loz hiz ∧ gi σ' 13 t Z2.length = nI q2 ∧ gi σ' 14 t Z2.length = nI A2.length ∧ Ks (TA σ' n) A2 loq ∧ Ks (TA σ' n) B2 hiz := fun σ' h => ⟨Cx_cong2 Z2 q2 loz hiz (fun z hz j => cg_pg h (hW z hz) (Cx_P _ _ _ _ c1 z hz) j) (fun j _ => ⟨h.1 _ _ _ (by decide) (by decide) (by decide) (by omega) (by omega), h.1 _ _ _ (by decide) (by decide) (by decide) (by omega) (by omega)⟩) c1, (h.1 _ _ _ (by decide) (by decide) (by decide) (by omega) (by omega)).trans c2, (h.1 _ _ _ (by decide) (by decide) (by decide) (by omega) (by omega)).trans c3, Ks_congr _ _ (fun _ _ _ _ _ hPP hr => TA_cg h (fun z hz => hA z (hPP z hz)) hr) c11, Ks_congr _ _ (fun _ _ _ _ _ hPP hr => TA_cg h (fun z hz => hB z (hPP z hz)) hr) c12⟩
  cases A2 with
  | nil =>
    rw [List.nil_append] at c5
    obtain ⟨rfl, rfl⟩ := List.cons.inj c5
    obtain ⟨σ', l1, l2, -, l4, l5⟩ := lead_eq (t := t) (x := r) (ca := []) (cb := B2.map ic) c4 hr c6
    obtain ⟨r1, r2, r3, r4, r5⟩ := rest σ' l4
    exact ⟨σ', l1, ⟨loz, hiz, hole loq r, B2, r1, r2, r3, c4, rfl, l2 rfl, c7, c8, c9, c10, r4, r5⟩, l4, l5⟩
  | cons a A2 =>
    rw [List.cons_append] at c5
    obtain ⟨rfl, rfl⟩ := List.cons.inj c5
    rw [List.map_append, List.map_cons, List.append_cons] at c6
    obtain ⟨σ', l1, -, l3, l4, l5⟩ := lead_eq (t := t) (x := r) c4 hr c6
    obtain ⟨r1, r2, r3, r4, r5⟩ := rest σ' l4
    rw [List.length_append, List.length_map, List.length_singleton] at l1
    refine ⟨σ', l1, ⟨loz, hiz, a, A2 ++ hole loq r :: B2, r1, r2, r3, c4, rfl, ?_, by simp, fun e he => ?_, c9, c10, r4, r5⟩, l4, l5⟩
    · rw [List.map_append, List.map_cons]
      exact l3 _ _ rfl
    · rcases List.mem_append.mp he with he | he
      · exact c8 e (List.mem_append_left _ he)
      · rcases List.mem_cons.mp he with rfl | he
        · exact c8 (hole loq q) (List.mem_append_right _ List.mem_cons_self)
        · exact c8 e (List.mem_append_right _ (List.mem_cons_of_mem _ he))
theorem cg_back {S : Nat → Prop} {σ : Sg} {x y : Int32} {k : Nat} : cg S σ (si (si σ 12 0 k x) 1 0 2 y) := ⟨fun a b c _ h2 h3 _ _ => by rw [gi_ne (by omega), gi_ne (by omega)], fun _ _ _ _ => rfl, fun _ _ _ => rfl, rfl⟩
theorem become_TA {t n r y : Nat} {lo hi : Option Int64} {M : List Cel} {P1 F : List Nat} {σ : Sg} (h4 : n ≤ 4) (hn : gi σ 3 t 2 = nI n) (hy : y < 240) (h : TA σ n r lo hi M (r :: P1)) (hyP : ∀ z ∈ P1, z ≠ y) (hF : FL σ F) :
    ∃ σ', f_Tr_become t (nI y) (nI r) σ = some σ' ∧ TA σ' n y lo hi M (y :: P1) ∧ FL σ' F ∧ cg (fun p => p = y) σ σ' := by
  have hr := (TA_head h).1
  rcases TA_iff.mp h with ⟨hl, hP⟩ | ⟨e0, es, hnd1, hM, hP⟩
  · obtain ⟨σ', s1, s2, s3, s4⟩ := become_L (t := t) hr hy hl.2.1 (fun c hc => ⟨by rw [(hl.2.2.1 c hc).1]; exact h4, by rw [(hl.2.2.1 c hc).1]; exact hn⟩) hF
    refine ⟨σ', s1, TA_iff.mpr (Or.inl ⟨⟨hy, s2, hl.2.2⟩, ?_⟩), s3, s4⟩
    rw [(List.cons.inj hP).2]
  · obtain ⟨-, n2, n3, n4, n5, n6⟩ := hnd1
    obtain ⟨σ', s1, s2, s3, s4⟩ := become_I (t := t) hr hy n2 hF
    have hP1 : P1 = fP (e0 :: es) := (List.cons.inj hP).2
    refine ⟨σ', s1, TA_iff.mpr (Or.inr ⟨e0, es, ⟨hy, s2, n3, n4, n5, Ks_congr _ _ (fun _ _ _ _ _ hPP hr => TA_cg s4 (fun q hq => hyP q (by rw [hP1]; exact hPP q hq)) hr) n6⟩, hM, by rw [hP1]⟩), s3, s4⟩
set_option maxHeartbeats 2000000 in
theorem prune_eq {t n root p q : Nat} {key : Int64} {lo hi : Option Int64} {A B : List Ent} {Z : List Lv} {F : List Nat} {σ : Sg} (h4 : n ≤ 4) (hn : gi σ 3 t 2 = nI n) (hroot : gi σ 3 t 1 = nI root) (hC : Cx σ n t root ((q, A, B) :: Z) p lo hi) (hd : gi σ 3 t 6 = nI (Z.length + 1)) (hw : gi σ 13 t (Z.length + 1) = nI p) (hZ : Z.length + 1 < 100) (hp : p < 240) (hk1 : oLo lo key) (hk2 : oHi hi key) (hF : FL σ F) (hnd : (gP ((q, A, B) :: Z) [p] ++ F).Nodup) (hlen : (gP ((q, A, B) :: Z) [p] ++ F).length ≤ 240) :
    ∃ σ' P' F', f_Tr_prune t σ = some σ' ∧ TA σ' n root none none (gM ((q, A, B) :: Z) []) P' ∧ FL σ' F' ∧ (P' ++ F').Perm (gP ((q, A, B) :: Z) [p] ++ F) ∧ cg (fun z => z ∈ gP ((q, A, B) :: Z) [p]) σ σ' := by
  obtain ⟨loq, hiq, e0, es, c1, c2, c3, c4, c5, c6, c7, c8, c9, c10, c11, c12⟩ := hC
  have hpm : (gP ((q, A, B) :: Z) [p]).Perm (gP Z [] ++ (q :: (fP A ++ [p] ++ fP B))) := gP_perm Z _
  generalize hW0 : gP Z [] = W at hpm
  have hnd2 : (W ++ (q :: (fP A ++ [p] ++ fP B)) ++ F).Nodup := (List.Perm.append_right F hpm).nodup_iff.mp hnd
  have hlen2 : (W ++ (q :: (fP A ++ [p] ++ fP B)) ++ F).length ≤ 240 := by rw [← (List.Perm.append_right F hpm).length_eq]; exact hlen
  obtain ⟨hndA, -, -⟩ := List.nodup_append.mp hnd2
  obtain ⟨hndW, hndB, hWd⟩ := List.nodup_append.mp hndA
  obtain ⟨hqn, hndC⟩ := List.nodup_cons.mp hndB
  have hWq : ∀ z ∈ W, z ≠ q := fun z hz => hWd z hz q List.mem_cons_self
  have hWAB : ∀ z ∈ W, ∀ y ∈ fP A ++ fP B, z ≠ y := fun z hz y hy => hWd z hz y (List.mem_cons_of_mem _ (by
    rcases List.mem_append.mp hy with hy | hy
    · exact List.mem_append_left _ (List.mem_append_left _ hy)
    · exact List.mem_append_right _ hy))
  have hABq : ∀ z ∈ fP A ++ fP B, z ≠ q := fun z hz h => hqn (by
    rw [← h]
    rcases List.mem_append.mp hz with hz | hz
    · exact List.mem_append_left _ (List.mem_append_left _ hz)
    · exact List.mem_append_right _ hz)
  have hABn : (fP A ++ fP B).Nodup := by
    have : (fP A ++ ([p] ++ fP B)).Nodup := by rw [← List.append_assoc]; exact hndC
    refine List.nodup_append.mpr ⟨(List.nodup_append.mp this).1, (List.nodup_append.mp (List.nodup_append.mp this).2.1).2.1, fun a ha b hb => (List.nodup_append.mp this).2.2 a ha b (List.mem_append_right _ hb)⟩
  have hfl : F.length + 2 ≤ 240 := by
    rw [List.length_append, List.length_append, List.length_cons, List.length_append, List.length_append, List.length_singleton] at hlen2
    omega
  obtain ⟨b1, b2⟩ := back_FL (x := p) hF hp (by omega)
  generalize hσ4 : si (si σ 12 0 F.length (nI p)) 1 0 2 (nI (F.length + 1)) = σ4 at b1 b2
  have k4 : ∀ a, a ≠ 1 → a ≠ 12 → ∀ b c, gi σ4 a b c = gi σ a b c := fun a h1 h2 b c => by rw [← hσ4, gi_ne (by omega), gi_ne (by omega)]
  have cg4 : ∀ S, cg S σ σ4 := fun S => by rw [← hσ4]; exact cg_back
  have pg4 : ∀ q, q < 240 → ∀ j, gi σ4 10 q j = gi σ 10 q j := fun q _ j => k4 10 (by decide) (by decide) q j
  obtain ⟨r0, rs, σ7, w1, w2, w3, w4, w5, w6, w7, w8, w9⟩ := drop_kid (t := t) (n := n) (key := key) (σ := σ4) c4 c5 (PI_congr (pg4 q c4) c6) c7 c8 c9 c10 (Ks_mono (fun _ _ _ _ _ hr => TA_pg pg4 hr) _ _ c11) (Ks_mono (fun _ _ _ _ _ hr => TA_pg pg4 hr) _ _ c12) hk1 hk2
  have k7 : ∀ a, a ≠ 1 → a ≠ 12 → a ≠ 2 → ∀ b c, ¬ (a = 10 ∧ (b = q ∨ 240 ≤ b)) → gi σ7 a b c = gi σ a b c := fun a h1 h2 h3 b c h5 => (w4 a h3 b c h5).trans (k4 a h1 h2 b c)
  have hF7 : FL σ7 (F ++ [p]) := FL_congr (w4 1 (by decide) _ _ (by omega)) (fun k => w4 12 (by decide) _ _ (by omega)) b2
  have hKs7 : Ks (TA σ7 n) (r0 :: rs) hiq := Ks_congr _ _ (fun _ _ _ _ _ hPP hr => TA_cg w3 (fun z hz => hABq z (by rw [← w8]; exact hPP z hz)) hr) w5
  have hCx7 : Cx σ7 n t root Z q loq hiq := Cx_cong2 Z q loq hiq (fun z hz j => by
    have hz2 := Cx_P _ _ _ _ c1 z hz
    rw [hW0] at hz
    exact k7 10 (by decide) (by decide) (by decide) z j (fun y => y.2.elim (hWq z hz) (fun y => by omega))) (fun j _ => ⟨k7 13 (by decide) (by decide) (by decide) _ _ (by omega), k7 14 (by decide) (by decide) (by decide) _ _ (by omega)⟩) c1
  have cg7 : ∀ S : Nat → Prop, S q → cg S σ σ7 := fun S hS => (cg4 S).tr (w3.mono (fun z hz => hz ▸ hS))
  have hqin : q ∈ gP ((q, A, B) :: Z) [p] := hpm.mem_iff.mpr (List.mem_append_right _ List.mem_cons_self)
  have hMq : gM ((q, A, B) :: Z) [] = gM Z (fM A ++ fM B) := by rw [gM, List.append_nil]
  -- the walk up to the page's count of cells
  have walk : f_Tr_prune t σ = (if nI rs.length ≤ 0 then (bn2 (f_Tr_childAt t (nI q) 0 σ7) (fun r14 σ12 => Option.bind (if (gi σ12 3 t 6) = 1 then ((f_Tr_become t (gi σ12 3 t 1) r14 σ12).bind (fun σ24 => (f_Pg_giveBack r14 σ24).bind (fun σ26 => some (σ26)))) else (chk (vp_in ((gi σ12 3 t 6) - 2) 100) (chk (vp_in ((gi σ12 3 t 6) - 2) 100) ((f_Tr_lead t (gi σ12 13 t (((gi σ12 3 t 6) - 2).toNatClampNeg)) (gi σ12 14 t (((gi σ12 3 t 6) - 2).toNatClampNeg)) r14 σ12).bind (fun σ20 => (f_Pg_giveBack (nI q) σ20).bind (fun σ22 => some (σ22))))))) (fun (σ15 : Sg) => some σ15))) else (some σ7)) := by
    unfold f_Tr_prune
    have hnz : nI (Z.length + 1) ≠ 0 := fun z => by
      have := congrArg Int32.toNatClampNeg z
      rw [nI_clamp (by omega), c0] at this
      omega
    rw [hd, if_neg hnz, nI_pred, chk_pos (vp_in_nI (by omega) (by decide)), nI_clamp (by omega), c2, lt_eq, chk_pos (vp_in_nI (by omega) (by decide)), nI_clamp (by omega), hw, b1, bnd_eq, k4 3 (by decide) (by decide) t 6, hd, nI_pred, chk_pos (vp_in_nI (by omega) (by decide)), nI_clamp (by omega), k4 14 (by decide) (by decide) t Z.length, c3, w1, bnd_eq, cells_eq c4, bn2_eq, w2.2.1, List.length_map]
  cases rs with
  | cons r1 rs =>
    have hTq : TA σ7 n q loq hiq (fM (r0 :: r1 :: rs)) (q :: fP (r0 :: r1 :: rs)) := TA_iff.mpr (Or.inr ⟨r0, r1 :: rs, ⟨c4, w2, by simp, w9, w6, hKs7⟩, rfl, rfl⟩)
    have hcnt := iB_cnt ((r1 :: rs).map ic)
    have hlb := w2.2.2.2.1
    rw [List.length_map] at hcnt
    refine ⟨σ7, gP Z (q :: fP (r0 :: r1 :: rs)), F ++ [p], ?_, ?_, hF7, ?_, cg7 _ hqin⟩
    · rw [walk, if_neg (show ¬ nI (r1 :: rs).length ≤ 0 from nI_nle (by rw [List.length_cons]; omega) (by omega))]
    · rw [hMq, ← w7]
      exact Cx_fill Z q loq hiq _ _ hCx7 hTq (Or.inl (fM_ne hKs7))
    · refine (List.Perm.append_right _ (gP_perm Z _)).trans (List.Perm.trans ?_ (List.Perm.append_right F hpm).symm)
      rw [hW0, w8]
      have e1 : W ++ q :: (fP A ++ fP B) ++ (F ++ [p]) = (W ++ q :: fP A) ++ ((fP B ++ F) ++ [p]) := by simp
      have e2 : W ++ q :: (fP A ++ [p] ++ fP B) ++ F = (W ++ q :: fP A) ++ (p :: (fP B ++ F)) := by simp
      rw [e1, e2]
      exact List.Perm.append_left _ (List.perm_append_singleton p _)
  | nil =>
    have hM0 : fM [r0] = r0.2.2.1 := by rw [fM, fM, List.append_nil]
    have hP0 : fP [r0] = r0.2.2.2 := by rw [fP, fP, List.append_nil]
    have hT0 : TA σ7 n r0.2.1 loq hiq r0.2.2.1 r0.2.2.2 := by rw [← w6]; exact hKs7.1
    obtain ⟨hr240, P1, hP1⟩ := TA_head hT0
    have hAB : fP A ++ fP B = r0.2.1 :: P1 := by rw [← w8, hP0, hP1]
    obtain ⟨q', ca⟩ := childAt_eq (t := t) (J := 0) c4 w2 (Nat.zero_le _)
    have hkid : kid r0.2.1 (List.map ic []) 0 = r0.2.1 := rfl
    rw [hkid] at ca
    have kA : ∀ a, a ≠ 2 → ∀ b c, gi (sA σ7 q q') a b c = gi σ7 a b c := fun a ha b c => gi_sA10 _ _ _ _ _ _ ha
    generalize hσ12 : sA σ7 q q' = σ12 at ca kA
    have cg12 : ∀ S, cg S σ7 σ12 := fun S => by rw [← hσ12]; exact cg_sA
    have hF12 : FL σ12 (F ++ [p]) := by rw [← hσ12]; exact FL_sA hF7
    have walk2 : f_Tr_prune t σ = Option.bind (if (gi σ12 3 t 6) = 1 then ((f_Tr_become t (gi σ12 3 t 1) (nI r0.2.1) σ12).bind (fun σ24 => (f_Pg_giveBack (nI r0.2.1) σ24).bind (fun σ26 => some (σ26)))) else (chk (vp_in ((gi σ12 3 t 6) - 2) 100) (chk (vp_in ((gi σ12 3 t 6) - 2) 100) ((f_Tr_lead t (gi σ12 13 t (((gi σ12 3 t 6) - 2).toNatClampNeg)) (gi σ12 14 t (((gi σ12 3 t 6) - 2).toNatClampNeg)) (nI r0.2.1) σ12).bind (fun σ20 => (f_Pg_giveBack (nI q) σ20).bind (fun σ22 => some (σ22))))))) (fun (σ15 : Sg) => some σ15) := by
      rw [show nI 0 = (0 : Int32) from rfl] at ca
      rw [walk, if_pos (show nI (List.length ([] : List Ent)) ≤ 0 from Int32.le_refl 0), ca, bn2_eq]
    have d12 : gi σ12 3 t 6 = nI (Z.length + 1) := (kA 3 (by decide) t 6).trans ((k7 3 (by decide) (by decide) (by decide) t 6 (by omega)).trans hd)
    have hT12 : TA σ12 n r0.2.1 loq hiq r0.2.2.1 r0.2.2.2 := TA_pg (fun z _ j => kA 10 (by decide) z j) hT0
    cases Z with
    | nil =>
      obtain ⟨rfl, rfl, rfl⟩ := c1
      have hn12 : gi σ12 3 t 2 = nI n := (kA 3 (by decide) t 2).trans ((k7 3 (by decide) (by decide) (by decide) t 2 (by omega)).trans hn)
      have ho12 : gi σ12 3 t 1 = nI q := (kA 3 (by decide) t 1).trans ((k7 3 (by decide) (by decide) (by decide) t 1 (by omega)).trans hroot)
      obtain ⟨σ13, s1, s2, s3, s4⟩ := become_TA (t := t) (y := q) h4 hn12 c4 (by rw [← hP1]; exact hT12) (fun z hz => hABq z (by rw [hAB]; exact List.mem_cons_of_mem _ hz)) hF12
      obtain ⟨g1, g2⟩ := back_FL (x := r0.2.1) s3 hr240 (by rw [List.length_append, List.length_singleton]; omega)
      have kb := @cg_back (fun _ => False) σ13 (nI r0.2.1) (nI ((F ++ [p]).length + 1)) (F ++ [p]).length
      generalize hσ15 : si (si σ13 12 0 (F ++ [p]).length (nI r0.2.1)) 1 0 2 (nI ((F ++ [p]).length + 1)) = σ15 at g1 g2 kb
      refine ⟨σ15, q :: P1, F ++ [p] ++ [r0.2.1], ?_, ?_, g2, ?_, ((cg7 _ hqin).tr (cg12 _)).tr ((s4.mono (fun z hz => by rw [hz]; exact hqin)).tr (kb.mono (fun _ z => z.elim)))⟩
      · rw [walk2, d12, if_pos (show nI (List.length ([] : List Lv) + 1) = 1 from rfl), ho12, s1, bnd_eq, g1, bnd_eq, bnd_eq]
      · rw [hMq, gM, ← w7, hM0]
        exact TA_cg kb (fun _ _ z => z) s2
      · refine List.Perm.trans ?_ (List.Perm.append_right F hpm).symm
        rw [← hW0]
        show (q :: P1 ++ (F ++ [p] ++ [r0.2.1])).Perm ([] ++ q :: (fP A ++ [p] ++ fP B) ++ F)
        have e1 : q :: P1 ++ (F ++ [p] ++ [r0.2.1]) = q :: ((P1 ++ F ++ [p]) ++ [r0.2.1]) := by simp
        rw [e1, List.nil_append, List.cons_append]
        refine List.Perm.cons q ((List.perm_append_singleton r0.2.1 _).trans ?_)
        have e2 : r0.2.1 :: (P1 ++ F ++ [p]) = ((fP A ++ fP B) ++ F) ++ [p] := by rw [hAB]; simp
        have e3 : fP A ++ [p] ++ fP B ++ F = fP A ++ (p :: (fP B ++ F)) := by simp
        rw [e2, e3, List.append_assoc (fP A), List.append_assoc (fP A)]
        exact List.Perm.append_left _ (List.perm_append_singleton p _)
    | cons L Z =>
      obtain ⟨q2, A2, B2⟩ := L
      have hC12 : Cx σ12 n t root ((q2, A2, B2) :: Z) q loq hiq := Cx_congr (fun z _ j => kA 10 (by decide) z j) _ _ _ _ (fun j _ => ⟨kA 13 (by decide) t j, kA 14 (by decide) t j⟩) hCx7
      obtain ⟨σ13, s1, s2, s3, s4⟩ := lead_Cx (r := r0.2.1) hr240 hC12 (by rw [hW0]; exact hndW)
      obtain ⟨loz, hiz, f0, fs, z1, z2, z3, z4, -⟩ := hC12
      have hq2W : q2 ∈ W := by rw [← hW0]; exact (gP_perm Z _).mem_iff.mpr (List.mem_append_right _ List.mem_cons_self)
      have hF13 : FL σ13 (F ++ [p]) := FL_congr (s4 1 (by decide) _ _ (by omega)) (fun k => s4 12 (by decide) _ _ (by omega)) hF12
      obtain ⟨g1, g2⟩ := back_FL (x := q) hF13 c4 (by rw [List.length_append, List.length_singleton]; omega)
      have kb := @cg_back (fun _ => False) σ13 (nI q) (nI ((F ++ [p]).length + 1)) (F ++ [p]).length
      have kb2 : ∀ a, a ≠ 1 → a ≠ 12 → ∀ b c, gi (si (si σ13 12 0 (F ++ [p]).length (nI q)) 1 0 2 (nI ((F ++ [p]).length + 1))) a b c = gi σ13 a b c := fun a h1 h2 b c => by rw [gi_ne (by omega), gi_ne (by omega)]
      generalize hσ15 : si (si σ13 12 0 (F ++ [p]).length (nI q)) 1 0 2 (nI ((F ++ [p]).length + 1)) = σ15 at g1 g2 kb kb2
      have hC15 : Cx σ15 n t root ((q2, A2, B2) :: Z) r0.2.1 loq hiq := Cx_congr (fun z _ j => kb2 10 (by decide) (by decide) z j) _ _ _ _ (fun j _ => ⟨kb2 13 (by decide) (by decide) t j, kb2 14 (by decide) (by decide) t j⟩) s2
      have hT15 : TA σ15 n r0.2.1 loq hiq r0.2.2.1 r0.2.2.2 := TA_cg kb (fun _ _ z => z) (TA_cg s3 (fun z hz => fun y => hWAB q2 hq2W z (by rw [hAB, ← hP1]; exact hz) y.symm) hT12)
      have hq2in : q2 ∈ gP ((q, A, B) :: (q2, A2, B2) :: Z) [p] := hpm.mem_iff.mpr (List.mem_append_left _ hq2W)
      refine ⟨σ15, gP ((q2, A2, B2) :: Z) r0.2.2.2, F ++ [p] ++ [q], ?_, ?_, g2, ?_, ((cg7 _ hqin).tr (cg12 _)).tr ((s3.mono (fun z hz => by rw [hz]; exact hq2in)).tr (kb.mono (fun _ z => z.elim)))⟩
      · have hl1 : (((q2, A2, B2) :: Z).length + 1) = Z.length + 2 := rfl
        have hn1 : nI (Z.length + 2) ≠ 1 := fun z => by
          have := congrArg Int32.toNatClampNeg z
          rw [List.length_cons] at hZ
          rw [nI_clamp (by omega), show (1 : Int32).toNatClampNeg = 1 by decide] at this
          omega
        have hs2 : nI (Z.length + 2) - 2 = nI Z.length := by
          rw [show (2 : Int32) = nI 2 from rfl, nI_sub (by omega), Nat.add_sub_cancel]
        rw [List.length_cons] at hZ
        rw [walk2, d12, hl1, if_neg hn1, hs2, chk_pos (vp_in_nI (by omega) (by decide)), chk_pos (vp_in_nI (by omega) (by decide)), nI_clamp (by omega), z2, z3, s1, bnd_eq, g1, bnd_eq, bnd_eq]
      · rw [hMq, ← w7, hM0]
        exact Cx_fill _ _ loq hiq _ _ hC15 hT15 (Or.inl (by have := hKs7.2.1; exact this))
      · refine (List.Perm.append_right _ (gP_perm _ _)).trans (List.Perm.trans ?_ (List.Perm.append_right F hpm).symm)
        rw [hW0, hP1, ← hAB]
        have e1 : W ++ (fP A ++ fP B) ++ (F ++ [p] ++ [q]) = W ++ ((fP A ++ ((fP B ++ F) ++ [p])) ++ [q]) := by simp
        have e2 : W ++ q :: (fP A ++ [p] ++ fP B) ++ F = W ++ (q :: (fP A ++ (p :: (fP B ++ F)))) := by simp
        rw [e1, e2]
        refine List.Perm.append_left _ ((List.perm_append_singleton q _).trans (List.Perm.cons q ?_))
        exact List.Perm.append_left _ (List.perm_append_singleton p _)
