/-! the plain law: an inner page loses a child -/
theorem without_end {t q k0 : Nat} {cs : List ICel} {σ τ1 : Sg} (hq : q < 240) (hk : k0 < 240) (hc : ∀ c ∈ cs, c.2 < 240) (hl : (iB cs).length ≤ 125) (hN : gi σ 10 q 1 = nI (cs.length + 1)) (k1 : ∀ a, a ≠ 2 → ∀ b c, ¬ (a = 10 ∧ 240 ≤ b) → gi τ1 a b c = gi σ a b c) (hcg : cg (fun z => z = q) σ τ1) (hsp : sp τ1 (240 + t) 0 (k0 :: iB cs)) (hat : gi τ1 2 (240 + t) 1 = nI ((iB cs).length + 1)) :
    ∃ σ', bn2 (f_Pg_cells (nI q) τ1) (fun r41 σ39 => (f_Tr_fill t (nI q) 0 (r41 - 1) 0 (gi σ39 2 (240 + t) 1) σ39).bind (fun σ42 => some σ42)) = some σ' ∧ PI σ' q k0 cs ∧ cg (fun z => z = q) σ σ' ∧ (∀ a, a ≠ 2 → ∀ b c, ¬ (a = 10 ∧ (b = q ∨ 240 ≤ b)) → gi σ' a b c = gi σ a b c) := by
  obtain ⟨σ', q1, q2, q3⟩ := fill_I (t := t) (p := q) (a := 0) (e := (iB cs).length + 1) hq hk hc hsp hl (by omega) (by omega)
  rw [show nI 0 = (0 : Int32) from rfl] at q1
  refine ⟨σ', ?_, q3, hcg.tr (cg_onP q2 rfl), fun a ha b c hn => (q2.1 a b c (fun z => by omega)).trans (k1 a ha b c (fun z => hn ⟨z.1, Or.inr z.2⟩))⟩
  rw [cells_eq hq, bn2_eq, k1 10 (by decide) q 1 (by omega), hN, nI_pred, hat, q1, bnd_eq]
theorem without_0 {t q k0 : Nat} {c : ICel} {cs : List ICel} {σ : Sg} (hq : q < 240) (h : PI σ q k0 (c :: cs)) :
    ∃ σ', f_Tr_without t (nI q) 0 σ = some σ' ∧ PI σ' q c.2 cs ∧ cg (fun z => z = q) σ σ' ∧ (∀ a, a ≠ 2 → ∀ b c, ¬ (a = 10 ∧ (b = q ∨ 240 ≤ b)) → gi σ' a b c = gi σ a b c) := by
  have hI := h
  obtain ⟨h0, h1, hs, hl, hk0, hc⟩ := h
  have hne : 240 + t ≠ q := by omega
  have hel : (encI c).length = (enc c.1).length + 1 := by unfold encI; rw [List.length_append, List.length_singleton]
  have hlab : (iB (c :: cs)).length = (encI c).length + (iB cs).length := by rw [iB, List.length_append]
  obtain ⟨-, hs⟩ := sp_cons.mp hs
  rw [iB, show encI c = enc c.1 ++ [c.2] from rfl, List.append_assoc] at hs
  obtain ⟨hsa, hsb⟩ := sp_app.mp hs
  rw [List.singleton_append] at hsb
  have hb256 : ∀ b ∈ c.2 :: iB cs, b < 256 := fun b hb => by
    rcases List.mem_cons.mp hb with rfl | hb
    · have := hc c List.mem_cons_self; omega
    · exact iB_lt (fun c hcc => by have := hc c (List.mem_cons_of_mem _ hcc); omega) hb
  generalize hτ0 : sA (sA σ q 3) (240 + t) 0 = τ0
  have k0τ : ∀ a, a ≠ 2 → ∀ b c, gi τ0 a b c = gi σ a b c := fun a ha b c => by rw [← hτ0, gi_sA10 _ _ _ _ _ _ ha, gi_sA10 _ _ _ _ _ _ ha]
  have aq : gi τ0 2 q 1 = nI 3 := by rw [← hτ0, gi_sA, if_neg (by omega), at_sA]
  have t1 : f_Tp_takeNumber q τ0 = some (c.1, sA τ0 q (3 + (enc c.1).length)) := takeNumber_eq aq (by rw [pg_len hq]; omega) (sp_congr (fun j => k0τ 10 (by decide) q j) hsa)
  have aw : gi (sA τ0 q (3 + (enc c.1).length)) 2 (240 + t) 1 = nI 0 := by rw [gi_sA, if_neg (by omega), ← hτ0, at_sA]
  have c1 : f_Tp_copy (240 + t) q (nI (3 + (enc c.1).length)) (nI (3 + (iB (c :: cs)).length)) (sA τ0 q (3 + (enc c.1).length)) = some (wt (sA τ0 q (3 + (enc c.1).length)) (240 + t) 0 (c.2 :: iB cs)) := copy_eq hne aw (by rw [wk_len, List.length_cons]; omega) (by rw [pg_len hq, List.length_cons]; omega) (sp_sA.mpr (sp_congr (fun j => k0τ 10 (by decide) q j) hsb)) hb256 (by rw [List.length_cons]; omega)
  generalize hτ1 : wt (sA τ0 q (3 + (enc c.1).length)) (240 + t) 0 (c.2 :: iB cs) = τ1 at c1
  have k1 : ∀ a, a ≠ 2 → ∀ b c, ¬ (a = 10 ∧ 240 ≤ b) → gi τ1 a b c = gi σ a b c := fun a ha b c hn => by
    rw [← hτ1]
    unfold wt
    rw [gi_sA10 _ _ _ _ _ _ ha, gi_bw, if_neg (fun z => hn ⟨z.1, by omega⟩), gi_sA10 _ _ _ _ _ _ ha]
    exact k0τ a ha b c
  obtain ⟨σ', e1, e2, e3, e4⟩ := without_end (t := t) (k0 := c.2) (cs := cs) (σ := σ) (τ1 := τ1) hq (hc c List.mem_cons_self) (fun d hd => hc d (List.mem_cons_of_mem _ hd)) (by omega) (by rw [h1, List.length_cons]) k1 (by rw [← hτ1, ← hτ0]; exact ((cg_sA.tr cg_sA).tr cg_sA).tr cg_wk) (by rw [← hτ1]; exact sp_wt _ _ _ _) (by rw [← hτ1, wt_at, List.length_cons, Nat.zero_add])
  refine ⟨σ', ?_, e2, e3, e4⟩
  unfold f_Tr_without
  have e9 : si (si (sA (sA σ q (3 + (iB (c :: cs)).length)) q 2) 2 q 1 (gi (sA (sA σ q (3 + (iB (c :: cs)).length)) q 2) 2 q 1 + 1)) 2 (240 + t) 1 0 = τ0 := by
    rw [at_sA, nI_1, ← hτ0]
    show sA (sA (sA (sA σ q _) q 2) q 3) (240 + t) 0 = _
    rw [sA_sA, sA_sA]
  rw [size_I hq hI, bn2_eq, open_eq hq, bn2_eq, lt_eq, lt_eq, e9, if_pos rfl, t1, bn2_eq, at_sA, c1, bnd_eq, bnd_eq]
  exact e1
theorem without_loop (t : Nat) (J : Int32) (q : Nat) : (fun y : Int32 × Sg => b_Tr_without_67 t J q y.1 y.2) = (fun y => b_Tr_widen_31 t J q y.1 y.2) := rfl
theorem lead_loop (t : Nat) (J : Int32) (q : Nat) : (fun y : Int32 × Sg => b_Tr_lead_24 t J q y.1 y.2) = (fun y => b_Tr_widen_31 t J q y.1 y.2) := rfl
theorem without_s {t q k0 : Nat} {c : ICel} {ca cb : List ICel} {σ : Sg} (hq : q < 240) (h : PI σ q k0 (ca ++ c :: cb)) :
    ∃ σ', f_Tr_without t (nI q) (nI (ca.length + 1)) σ = some σ' ∧ PI σ' q k0 (ca ++ cb) ∧ cg (fun z => z = q) σ σ' ∧ (∀ a, a ≠ 2 → ∀ b c, ¬ (a = 10 ∧ (b = q ∨ 240 ≤ b)) → gi σ' a b c = gi σ a b c) := by
  have hI := h
  obtain ⟨h0, h1, hs, hl, hk0, hc⟩ := h
  have hne : 240 + t ≠ q := by omega
  have hcnt := iB_cnt (ca ++ c :: cb)
  rw [List.length_append, List.length_cons] at hcnt
  have hlab : (iB (ca ++ c :: cb)).length = (iB ca).length + ((encI c).length + (iB cb).length) := by rw [iB_app, iB, List.length_append, List.length_append]
  have hlab2 : (iB (ca ++ cb)).length = (iB ca).length + (iB cb).length := by rw [iB_app, List.length_append]
  rw [iB_app, iB, ← List.cons_append] at hs
  obtain ⟨hsa, hsb⟩ := sp_app.mp hs
  rw [List.length_cons] at hsb
  obtain ⟨hsc, hsb⟩ := sp_app.mp hsb
  obtain ⟨-, hsa1⟩ := sp_cons.mp hsa
  have hca : ∀ d ∈ ca ++ cb, d.2 < 240 := fun d hd => by
    rcases List.mem_append.mp hd with hd | hd
    · exact hc d (List.mem_append_left _ hd)
    · exact hc d (List.mem_append_right _ (List.mem_cons_of_mem _ hd))
  have hb256a : ∀ b ∈ k0 :: iB ca, b < 256 := fun b hb => by
    rcases List.mem_cons.mp hb with rfl | hb
    · omega
    · exact iB_lt (fun d hd => by have := hca d (List.mem_append_left _ hd); omega) hb
  have hb256b : ∀ b ∈ iB cb, b < 256 := fun b hb => iB_lt (fun d hd => by have := hca d (List.mem_append_right _ hd); omega) hb
  generalize hτ0 : sA (sA σ q 3) (240 + t) 0 = τ0
  have k0τ : ∀ a, a ≠ 2 → ∀ b c, gi τ0 a b c = gi σ a b c := fun a ha b c => by rw [← hτ0, gi_sA10 _ _ _ _ _ _ ha, gi_sA10 _ _ _ _ _ _ ha]
  have aq : gi τ0 2 q 1 = nI 3 := by rw [← hτ0, gi_sA, if_neg (by omega), at_sA]
  have hpass := passes (t := t) (J := ca.length + 1) hq (by omega) ca 1 3 τ0 FU (by omega) aq (by omega) (sp_congr (fun j => k0τ 10 (by decide) q j) hsa1) (by unfold FU; omega)
  have aw : gi (sA τ0 q (3 + (iB ca).length)) 2 (240 + t) 1 = nI 0 := by rw [gi_sA, if_neg (by omega), ← hτ0, at_sA]
  have c1 : f_Tp_copy (240 + t) q 2 (nI (3 + (iB ca).length)) (sA τ0 q (3 + (iB ca).length)) = some (wt (sA τ0 q (3 + (iB ca).length)) (240 + t) 0 (k0 :: iB ca)) := copy_eq (a := 2) hne aw (by rw [wk_len, List.length_cons]; omega) (by rw [pg_len hq, List.length_cons]; omega) (sp_sA.mpr (sp_congr (fun j => k0τ 10 (by decide) q j) hsa)) hb256a (by rw [List.length_cons]; omega)
  generalize hτ1 : wt (sA τ0 q (3 + (iB ca).length)) (240 + t) 0 (k0 :: iB ca) = τ1 at c1
  have k1 : ∀ a, a ≠ 2 → ∀ b c, ¬ (a = 10 ∧ 240 ≤ b) → gi τ1 a b c = gi σ a b c := fun a ha b c hn => by
    rw [← hτ1]
    unfold wt
    rw [gi_sA10 _ _ _ _ _ _ ha, gi_bw, if_neg (fun z => hn ⟨z.1, by omega⟩), gi_sA10 _ _ _ _ _ _ ha]
    exact k0τ a ha b c
  have aq1 : gi τ1 2 q 1 = nI (3 + (iB ca).length) := by
    rw [← hτ1]
    unfold wt
    rw [gi_sA, if_neg (by omega), gi_bw, if_neg (by omega), at_sA]
  have p1 : f_Tr_pass t q 0 τ1 = some (c.1, sA τ1 q (3 + (iB ca).length + (encI c).length)) := pass_I aq1 (by rw [pg_len hq]; omega) (sp_congr (fun j => k1 10 (by decide) q j (by omega)) (by rw [show 3 + (iB ca).length = 2 + ((iB ca).length + 1) by omega]; exact hsc))
  have aw1 : gi (sA τ1 q (3 + (iB ca).length + (encI c).length)) 2 (240 + t) 1 = nI ((iB ca).length + 1) := by
    rw [gi_sA, if_neg (by omega), ← hτ1, wt_at, List.length_cons, Nat.zero_add]
  have c2 : f_Tp_copy (240 + t) q (nI (3 + (iB ca).length + (encI c).length)) (nI (3 + (iB (ca ++ c :: cb)).length)) (sA τ1 q (3 + (iB ca).length + (encI c).length)) = some (wt (sA τ1 q (3 + (iB ca).length + (encI c).length)) (240 + t) ((iB ca).length + 1) (iB cb)) := copy_eq hne aw1 (by rw [wk_len]; omega) (by rw [pg_len hq]; omega) (sp_sA.mpr (sp_congr (fun j => k1 10 (by decide) q j (by omega)) (by rw [show 3 + (iB ca).length + (encI c).length = 2 + ((iB ca).length + 1) + (encI c).length by omega]; exact hsb))) hb256b (by omega)
  generalize hτ2 : wt (sA τ1 q (3 + (iB ca).length + (encI c).length)) (240 + t) ((iB ca).length + 1) (iB cb) = τ2 at c2
  have k2 : ∀ a, a ≠ 2 → ∀ b c, ¬ (a = 10 ∧ 240 ≤ b) → gi τ2 a b c = gi σ a b c := fun a ha b c hn => by
    rw [← hτ2]
    unfold wt
    rw [gi_sA10 _ _ _ _ _ _ ha, gi_bw, if_neg (fun z => hn ⟨z.1, by omega⟩), gi_sA10 _ _ _ _ _ _ ha]
    exact k1 a ha b c hn
  have hsp2 : sp τ2 (240 + t) 0 (k0 :: iB (ca ++ cb)) := by
    rw [iB_app, ← List.cons_append]
    refine sp_app.mpr ⟨?_, ?_⟩
    · rw [← hτ2]
      refine sp_wt_ne (Or.inr (Or.inl (by rw [List.length_cons]; omega))) (sp_sA.mpr ?_)
      rw [← hτ1]
      exact sp_wt _ _ _ _
    · rw [List.length_cons, Nat.zero_add, ← hτ2]
      exact sp_wt _ _ _ _
  obtain ⟨σ', e1, e2, e3, e4⟩ := without_end (t := t) (k0 := k0) (cs := ca ++ cb) (σ := σ) (τ1 := τ2) hq hk0 hca (by omega) (by rw [h1, List.length_append, List.length_append, List.length_cons]; rfl) k2 (by rw [← hτ2, ← hτ1, ← hτ0]; exact ((((cg_sA.tr cg_sA).tr cg_sA).tr cg_wk).tr cg_sA).tr cg_wk) hsp2 (by rw [← hτ2, wt_at]; congr 1; omega)
  refine ⟨σ', ?_, e2, e3, e4⟩
  unfold f_Tr_without l_Tr_without_67
  have e9 : si (si (sA (sA σ q (3 + (iB (ca ++ c :: cb)).length)) q 2) 2 q 1 (gi (sA (sA σ q (3 + (iB (ca ++ c :: cb)).length)) q 2) 2 q 1 + 1)) 2 (240 + t) 1 0 = τ0 := by
    rw [at_sA, nI_1, ← hτ0]
    show sA (sA (sA (sA σ q _) q 2) q 3) (240 + t) 0 = _
    rw [sA_sA, sA_sA]
  have hnz : nI (ca.length + 1) ≠ 0 := fun z => by
    have := congrArg Int32.toNatClampNeg z
    rw [nI_clamp (by omega), c0] at this
    omega
  rw [size_I hq hI, bn2_eq, open_eq hq, bn2_eq, lt_eq, lt_eq, e9, if_neg hnz, without_loop]
  rw [show nI 1 = (1 : Int32) from rfl] at hpass
  rw [hpass, bnd_eq, at_sA, c1, bnd_eq, p1, bn2_eq, at_sA, c2, bnd_eq, bnd_eq]
  exact e1
-- ===== the child's place in the page above =====
theorem lead_eq {t q k0 x : Nat} {ca cb : List ICel} {σ : Sg} (hq : q < 240) (hx : x < 240) (h : PI σ q k0 (ca ++ cb)) :
    ∃ σ', f_Tr_lead t (nI q) (nI ca.length) (nI x) σ = some σ' ∧ (ca = [] → PI σ' q x cb) ∧ (∀ c0 c, ca = c0 ++ [c] → PI σ' q k0 (c0 ++ (c.1, x) :: cb)) ∧ cg (fun z => z = q) σ σ' ∧ (∀ a, a ≠ 2 → ∀ b c, ¬ (a = 10 ∧ (b = q ∨ 240 ≤ b)) → gi σ' a b c = gi σ a b c) := by
  have hI := h
  obtain ⟨h0, h1, hs, hl, hk0, hc⟩ := h
  have hcnt := iB_cnt (ca ++ cb)
  rw [List.length_append] at hcnt
  have hlab : (iB (ca ++ cb)).length = (iB ca).length + (iB cb).length := by rw [iB_app, List.length_append]
  have hs0 := hs
  rw [iB_app] at hs
  obtain ⟨-, hs⟩ := sp_cons.mp hs
  obtain ⟨hsa, hsb⟩ := sp_app.mp hs
  have hpass := passes (t := t) (J := ca.length) hq (by omega) ca 0 3 (sA σ q 3) FU (by omega) (at_sA _ _ _) (by omega) (sp_sA.mpr hsa) (by unfold FU; omega)
  rw [sA_sA, show nI 0 = (0 : Int32) from rfl] at hpass
  generalize hτ0 : sA σ q (3 + (iB ca).length) = τ0 at hpass
  have k0τ : ∀ a, a ≠ 2 → ∀ b c, gi τ0 a b c = gi σ a b c := fun a ha b c => by rw [← hτ0, gi_sA10 _ _ _ _ _ _ ha]
  have hk1 : ∀ j, j ≠ 2 + (iB ca).length → gi (si τ0 10 q (2 + (iB ca).length) (sb x)) 10 q j = gi σ 10 q j := fun j hj => by
    rw [gi_ne (by omega)]
    exact k0τ 10 (by decide) q j
  refine ⟨si τ0 10 q (2 + (iB ca).length) (sb x), ?_, ?_, ?_, ?_, ?_⟩
  · unfold f_Tr_lead l_Tr_lead_24
    have e9 : si (sA σ q 2) 2 q 1 (gi (sA σ q 2) 2 q 1 + 1) = sA σ q 3 := by
      rw [at_sA, nI_1]
      show sA (sA σ q 2) q 3 = _
      rw [sA_sA]
    rw [open_eq hq, bn2_eq, lt_eq, e9, lead_loop, hpass, bnd_eq, ← hτ0, at_sA, show 3 + (iB ca).length = 2 + (iB ca).length + 1 by omega, nI_pred, chk_pos (vp_in_nI (by rw [pg_len hq]; omega) (by rw [pg_len hq]; decide)), nI_clamp (by omega), lt_eq]
    rfl
  · rintro rfl
    rw [List.nil_append] at *
    refine ⟨(hk1 0 (by omega)).trans h0, (hk1 1 (by omega)).trans h1, sp_cons.mpr ⟨?_, ?_⟩, hl, hx, hc⟩
    · show gi (si τ0 10 q 2 (sb x)) 10 q 2 = _
      rw [gi_eq]
    · intro k hk
      rw [hk1 _ (by rw [iB, List.length_nil]; omega)]
      exact hsb k hk
  · rintro d c rfl
    have hel : (encI c).length = (enc c.1).length + 1 := by unfold encI; rw [List.length_append, List.length_singleton]
    have hlen : (iB (d ++ [c])).length = (iB d).length + ((enc c.1).length + 1) := by rw [iB_app, iB, iB, List.append_nil, List.length_append, hel]
    have hlen2 : (iB (d ++ (c.1, x) :: cb)).length = (iB (d ++ [c] ++ cb)).length := by
      rw [hlab, hlen, iB_app, iB, List.length_append, List.length_append]
      unfold encI
      rw [List.length_append, List.length_singleton]
      have e9 : (enc ((c.1, x) : ICel).1).length = (enc c.1).length := rfl
      omega
    refine ⟨(hk1 0 (by omega)).trans h0, (hk1 1 (by omega)).trans (h1.trans (by congr 1; simp)), ?_, by omega, hk0, ?_⟩
    · have e1 : k0 :: iB (d ++ (c.1, x) :: cb) = (k0 :: (iB d ++ enc c.1)) ++ (x :: iB cb) := by
        rw [iB_app, iB]
        unfold encI
        simp
      have e2 : k0 :: iB (d ++ [c] ++ cb) = (k0 :: (iB d ++ enc c.1)) ++ (c.2 :: iB cb) := by
        rw [iB_app, iB_app, iB, iB]
        unfold encI
        simp
      rw [e2] at hs0
      obtain ⟨x1, x2⟩ := sp_app.mp hs0
      obtain ⟨-, x3⟩ := sp_cons.mp x2
      have e3 : (k0 :: (iB d ++ enc c.1)).length = (iB (d ++ [c])).length := by rw [List.length_cons, List.length_append, hlen]; omega
      rw [e3] at x3
      rw [e1]
      refine sp_app.mpr ⟨fun k hk => ?_, sp_cons.mpr ⟨?_, fun k hk => ?_⟩⟩
      · rw [hk1 _ (by rw [e3] at hk; omega)]
        exact x1 k hk
      · rw [e3, gi_eq]
      · rw [e3, hk1 _ (by omega)]
        exact x3 k hk
    · intro e he
      rcases List.mem_append.mp he with he | he
      · exact hc e (List.mem_append_left _ (List.mem_append_left _ he))
      · rcases List.mem_cons.mp he with rfl | he
        · exact hx
        · exact hc e (List.mem_append_right _ he)
  · rw [← hτ0]
    refine cg_sA.tr (cg_onP (onP_si (Or.inl rfl)) rfl)
  · intro a ha b c hn
    rw [gi_ne (fun z => hn ⟨z.1, Or.inl z.2.1⟩)]
    exact k0τ a ha b c
