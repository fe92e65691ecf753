/-! the plain law: what the class compiles -/
theorem Prc_0 (σ : Sg) : Prc (si σ 0 0 8 0) [] := ⟨by rw [gi_eq]; rfl, fun i x hx => by cases hx⟩
theorem fEm_0 (σ : Sg) (x : Int32) : fEm σ (si σ 0 0 8 x) := ⟨fun a b c h => gi_ne (by omega), fun _ _ _ => rfl, fun _ _ _ _ => rfl, rfl⟩
theorem compU_c {σ : Sg} {q1 : Int32} {cs : List Cnd} {os : List (Int32 × Int32)} (h15 : gi σ 0 0 15 = q1) (h16 : gi σ 0 0 16 = -1) (hq1 : q1 ≠ -1) (hc : Cdc σ cs) (ho : Otc σ os) (hcs : cs.length ≤ 4) (h1 : 1 ≤ os.length) (h4 : os.length ≤ 4) (hk : ∀ c ∈ cs, okC2 c) :
    ∃ σ', f_TM_compile σ = some (.inl (nI (uN cs os + 2)), σ') ∧ Prc σ' (finU q1 cs os) ∧ fEm σ σ' := by
  have b1 := hdN_2 0 cs
  have b2 := cls_4 0 cs
  obtain ⟨σ1, e1, e2, e3⟩ := emit_A 1 0 q1 0 (Prc_0 σ) (by decide)
  rw [List.nil_append] at e2
  have f1 : fEm σ σ1 := (fEm_0 σ 0).tr e3
  obtain ⟨σ2, g1, g2, g3⟩ := opens_A 0 (Cdc_fr f1 hc) hcs e2 (by rw [List.length_singleton]; omega)
  have f2 := f1.tr g3
  have l2 : ([insOf 1 0 q1 0] ++ hdL 0 (-1) cs).length = uP cs := by rw [List.length_append, hdN_eq]; rfl
  have hup : uP cs ≤ 3 := by unfold uP; omega
  obtain ⟨σ3, a1, a2, a3⟩ := asksAll_A 0 (Cdc_fr f2 hc) hcs hk g2 (by rw [l2]; omega)
  have f3 := f2.tr a3
  rw [l2] at a2
  have l3 : ([insOf 1 0 q1 0] ++ hdL 0 (-1) cs ++ cndsL 0 (-1) (uP cs) cs).length = uP cs + cls 0 cs := by rw [List.length_append, l2, cndsL_l]
  obtain ⟨σ4, t1, t2, t3⟩ := tells_A (Otc_fr f3 ho) h4 a2 (by rw [l3]; omega)
  have f4 := f3.tr t3
  rw [List.append_assoc ([insOf 1 0 q1 0] ++ hdL 0 (-1) cs)] at t2
  have l4 : ([insOf 1 0 q1 0] ++ hdL 0 (-1) cs ++ (cndsL 0 (-1) (uP cs) cs ++ resL os)).length = uN cs os := by
    rw [List.length_append, l2, List.length_append, cndsL_l, resL_len]
    unfold uN
    omega
  have hun : uN cs os ≤ 25 := by unfold uN; omega
  obtain ⟨σ5, s1, s2, s3⟩ := settle_A t2 (by rw [l4]; omega) (op_app (op_cnds _ _ _ _ hk) (op_res os))
  rw [l4, List.map_append, fix_cnds _ _ _ _ _ (by omega) hk, fix_res, fx_m] at s2
  rw [l2] at s1
  have f5 := f4.tr s3
  have l5 : ([insOf 1 0 q1 0] ++ hdL 0 (-1) cs ++ (cndsL 0 (nI (uN cs os)) (uP cs) cs ++ resL os)).length = uN cs os := by
    rw [List.length_append, l2, List.length_append, cndsL_l, resL_len]
    unfold uN
    omega
  obtain ⟨σ6, n1, n2, n3⟩ := emit_A 3 0 (nI (uP cs)) 0 s2 (by rw [l5]; omega)
  have f6 := f5.tr n3
  have hre : [insOf 1 0 q1 0] ++ hdL 0 (-1) cs ++ (cndsL 0 (nI (uN cs os)) (uP cs) cs ++ resL os) ++ [insOf 3 0 (nI (uP cs)) 0] = [insOf 1 0 q1 0] ++ (hdL 0 (-1) cs ++ (cndsL 0 (nI (uN cs os)) (uP cs) cs ++ resL os) ++ [insOf 3 0 (nI (uP cs)) 0]) := by simp only [List.append_assoc]
  have l6 : ([insOf 1 0 q1 0] ++ (hdL 0 (-1) cs ++ (cndsL 0 (nI (uN cs os)) (uP cs) cs ++ resL os) ++ [insOf 3 0 (nI (uP cs)) 0])).length = uN cs os + 1 := by rw [← hre, List.length_append, l5, List.length_singleton]
  rw [hre] at n2
  obtain ⟨σ7, u1, u2, u3⟩ := settle_A n2 (by rw [l6]; omega) (op_app (op_app (op_hd _ _ _) (op_app (op_cnds _ _ _ _ hk) (op_res os))) (op_one (by decide)))
  rw [l6, List.map_append, List.map_append, List.map_append, fix_hd, fix_cnds _ _ _ _ _ (by omega) hk, fix_res, fx_m, fx_j (neg1_nI (by omega)), List.map_cons, List.map_nil, fix_nxt _ _ _ (by omega)] at u2
  have f7 := f6.tr u3
  have l7 : ([insOf 1 0 q1 0] ++ (hdL 0 (nI (uN cs os + 1)) cs ++ (cndsL 0 (nI (uN cs os)) (uP cs) cs ++ resL os) ++ [insOf 3 0 (nI (uP cs)) 0])).length = uN cs os + 1 := by
    rw [List.length_append, List.length_append, List.length_append, List.length_append, hdN_eq, cndsL_l, resL_len]
    simp only [List.length_cons, List.length_nil]
    unfold uN uP
    omega
  obtain ⟨σ8, w1, w2, w3⟩ := emit_A 0 0 0 0 u2 (by rw [l7]; omega)
  refine ⟨σ8, ?_, w2, f7.tr w3⟩
  have x15 : gi (si σ 0 0 8 0) 0 0 15 = q1 := by rw [gi_ne (by omega)]; exact h15
  have x16 : gi σ1 0 0 16 = -1 := (f1.1 _ _ _ (by omega)).trans h16
  have y16 : gi σ3 0 0 16 = -1 := (f3.1 _ _ _ (by omega)).trans h16
  have g81 : gi σ1 0 0 8 = nI 1 := e2.1
  have g82 : gi σ2 0 0 8 = nI (uP cs) := by rw [g2.1, l2]
  have g88 : gi σ8 0 0 8 = nI (uN cs os + 2) := by rw [w2.1, List.length_append, l7, List.length_singleton]
  rw [show [insOf 1 0 q1 0].length = 1 from rfl] at u1
  unfold f_TM_compile
  rw [lt_eq, h15, if_neg hq1, ho.1, if_neg (nI_nle (by omega) (by omega)), demand_1, bnX_l, lt_eq, x15, e1, bnd_eq, x16, if_pos rfl, bnd_eq, lt_eq, g81, g1, bnd_eq, lt_eq, g82, a1, bnd_eq, y16, if_pos rfl, t1, bnd_eq, bnd_eq, s1, bnd_eq, n1, bnd_eq, u1, bnd_eq, w1, bnd_eq, g88]
theorem compJ_c {σ : Sg} {q1 q2 j0 j1 j2 : Int32} {cs : List Cnd} {os : List (Int32 × Int32)} (h15 : gi σ 0 0 15 = q1) (h16 : gi σ 0 0 16 = q2) (h21 : gi σ 0 0 21 = j0) (h22 : gi σ 0 0 22 = j1) (h23 : gi σ 0 0 23 = j2) (hq1 : q1 ≠ -1) (hq2 : q2 ≠ -1) (hc : Cdc σ cs) (ho : Otc σ os) (hcs : cs.length ≤ 4) (h1 : 1 ≤ os.length) (h4 : os.length ≤ 4) (hk : ∀ c ∈ cs, okC2 c) :
    ∃ σ', f_TM_compile σ = some (.inl (nI (vN cs os j0 + 3)), σ') ∧ Prc σ' (finJ q1 q2 cs os j0 j1 j2) ∧ fEm σ σ' := by
  have b1 := hdN_2 0 cs
  have b2 := cls_4 0 cs
  have b3 := hdN_2 1 cs
  have b4 := cls_4 1 cs
  have b5 := jpN_4 j0
  obtain ⟨σ0, d1, d2, d3⟩ := emit_A 1 0 q1 0 (Prc_0 σ) (by decide)
  rw [List.nil_append] at d2
  have f0 : fEm σ σ0 := (fEm_0 σ 0).tr d3
  obtain ⟨σ1, e1, e2, e3⟩ := emit_A 1 1 q2 0 d2 (by rw [List.length_singleton]; omega)
  have f1 := f0.tr e3
  rw [show [insOf 1 0 q1 0] ++ [insOf 1 1 q2 0] = [insOf 1 0 q1 0, insOf 1 1 q2 0] from rfl] at e2
  generalize hO : [insOf 1 0 q1 0, insOf 1 1 q2 0] = O at e2
  have lO : O.length = 2 := by rw [← hO]; rfl
  obtain ⟨σ2, g1, g2, g3⟩ := opens_A 0 (Cdc_fr f1 hc) hcs e2 (by omega)
  have f2 := f1.tr g3
  have l2 : (O ++ hdL 0 (-1) cs).length = vP cs := by rw [List.length_append, hdN_eq, lO]; rfl
  have hup : vP cs ≤ 4 := by unfold vP; omega
  obtain ⟨σ3, a1, a2, a3⟩ := asksAll_A 0 (Cdc_fr f2 hc) hcs hk g2 (by rw [l2]; omega)
  have f3 := f2.tr a3
  rw [l2] at a2
  have l3 : (O ++ hdL 0 (-1) cs ++ cndsL 0 (-1) (vP cs) cs).length = vP cs + cls 0 cs := by rw [List.length_append, l2, cndsL_l]
  obtain ⟨σ4, i1, i2, i3⟩ := opens_A 1 (Cdc_fr f3 hc) hcs a2 (by rw [l3]; omega)
  have f4 := f3.tr i3
  have l4 : (O ++ hdL 0 (-1) cs ++ cndsL 0 (-1) (vP cs) cs ++ hdL 1 (-1) cs).length = vR cs := by rw [List.length_append, l3, hdN_eq]; rfl
  have hur : vR cs ≤ 22 := by unfold vR; omega
  obtain ⟨σ5, k1, k2, k3⟩ := asksAll_A 1 (Cdc_fr f4 hc) hcs hk i2 (by rw [l4]; omega)
  have f5 := f4.tr k3
  rw [l4] at k2
  generalize hA3 : O ++ hdL 0 (-1) cs ++ cndsL 0 (-1) (vP cs) cs ++ hdL 1 (-1) cs = A3 at *
  have l5 : (A3 ++ cndsL 1 (-1) (vR cs) cs).length = vR cs + cls 1 cs := by rw [List.length_append, l4, cndsL_l]
  have z21 : gi σ5 0 0 21 = j0 := (f5.1 _ _ _ (by omega)).trans h21
  have z22 : gi σ5 0 0 22 = j1 := (f5.1 _ _ _ (by omega)).trans h22
  have jn : ∃ σ6, (if gi σ5 0 0 21 = 0 then (some σ5) else ((f_TM_fetch 0 (gi σ5 0 0 22) 0 σ5).bind (fun σ38 => (f_TM_fetch 1 (gi σ38 0 0 23) 1 σ38).bind (fun σ40 => (f_TM_orElse 9 σ40).bind (fun σ42 => some (σ42)))))) = some σ6 ∧ Prc σ6 (A3 ++ cndsL 1 (-1) (vR cs) cs ++ jpL j0 j1 j2 (vR cs + cls 1 cs) (-1)) ∧ fEm σ5 σ6 := by
    rw [z21, z22]
    unfold jpL
    by_cases h0 : j0 = 0
    · rw [if_pos h0, if_pos h0, List.append_nil]
      exact ⟨σ5, rfl, k2, fEm_rf σ5⟩
    · rw [if_neg h0, if_neg h0]
      obtain ⟨τ1, m1, m2, m3⟩ := fetch_A 0 j1 0 k2 (by rw [l5]; omega)
      obtain ⟨τ2, n1, n2, n3⟩ := fetch_A 1 j2 1 m2 (by rw [List.length_append, l5, List.length_singleton]; omega)
      rw [app2] at n2
      have l6 : (A3 ++ cndsL 1 (-1) (vR cs) cs ++ [ftc 0 j1 0, ftc 1 j2 1]).length = vR cs + cls 1 cs + 2 := by rw [List.length_append, l5]; rfl
      obtain ⟨τ3, o1, o2, o3⟩ := orElse_A 9 n2 (by rw [l6]; omega)
      rw [l6] at o2
      have z23 : gi τ1 0 0 23 = j2 := (m3.1 _ _ _ (by omega)).trans ((f5.1 _ _ _ (by omega)).trans h23)
      rw [m1, bnd_eq, z23, n1, bnd_eq, o1, bnd_eq]
      refine ⟨τ3, rfl, ?_, m3.tr (n3.tr o3)⟩
      rw [List.append_assoc] at o2
      exact o2
  obtain ⟨σ6, jn1, jn2, jn3⟩ := jn
  have f6 := f5.tr jn3
  have l6 : (A3 ++ cndsL 1 (-1) (vR cs) cs ++ jpL j0 j1 j2 (vR cs + cls 1 cs) (-1)).length = vR cs + cls 1 cs + jpN j0 := by rw [List.length_append, l5, jpL_len]
  obtain ⟨σ7, t1, t2, t3⟩ := tells_A (Otc_fr f6 ho) h4 jn2 (by rw [l6]; omega)
  have f7 := f6.tr t3
  have hr1 : A3 ++ cndsL 1 (-1) (vR cs) cs ++ jpL j0 j1 j2 (vR cs + cls 1 cs) (-1) ++ resL os = A3 ++ (cndsL 1 (-1) (vR cs) cs ++ jpL j0 j1 j2 (vR cs + cls 1 cs) (-1) ++ resL os) := by simp only [List.append_assoc]
  have l7 : (A3 ++ (cndsL 1 (-1) (vR cs) cs ++ jpL j0 j1 j2 (vR cs + cls 1 cs) (-1) ++ resL os)).length = vN cs os j0 := by
    rw [← hr1, List.length_append, l6, resL_len]
    unfold vN
    omega
  rw [hr1] at t2
  have hvn : vN cs os j0 ≤ 50 := by unfold vN; omega
  obtain ⟨σ8, s1, s2, s3⟩ := settle_A t2 (by rw [l7]; omega) (op_app (op_app (op_cnds _ _ _ _ hk) (op_jp _ _ _ _ _)) (op_res os))
  rw [l7, List.map_append, List.map_append, fix_cnds _ _ _ _ _ (by omega) hk, fix_jp _ _ _ _ _ (by omega), fix_res, fx_m] at s2
  rw [l4] at s1
  have f8 := f7.tr s3
  generalize hI : cndsL 1 (nI (vN cs os j0)) (vR cs) cs ++ jpL j0 j1 j2 (vR cs + cls 1 cs) (nI (vN cs os j0)) ++ resL os = I at s2
  have lI : I.length = cls 1 cs + jpN j0 + os.length + 1 := by rw [← hI, List.length_append, List.length_append, cndsL_l, jpL_len, resL_len]; omega
  have oI : op22 I := by rw [← hI]; exact op_app (op_app (op_cnds _ _ _ _ hk) (op_jp _ _ _ _ _)) (op_res os)
  have mI : ∀ n, I.map (fixI n) = I := fun n => by rw [← hI, List.map_append, List.map_append, fix_cnds _ _ _ _ _ (by omega) hk, fix_jp _ _ _ _ _ (by omega), fix_res, fx_j (neg1_nI (by omega))]
  have l8 : (A3 ++ I).length = vN cs os j0 := by rw [List.length_append, l4, lI]; unfold vN; omega
  obtain ⟨σ9, n1, n2, n3⟩ := emit_A 3 1 (nI (vR cs)) 0 s2 (by rw [l8]; omega)
  have f9 := f8.tr n3
  have hr2 : A3 ++ I ++ [insOf 3 1 (nI (vR cs)) 0] = (O ++ hdL 0 (-1) cs) ++ (cndsL 0 (-1) (vP cs) cs ++ hdL 1 (-1) cs ++ I ++ [insOf 3 1 (nI (vR cs)) 0]) := by rw [← hA3]; simp only [List.append_assoc]
  have l9 : ((O ++ hdL 0 (-1) cs) ++ (cndsL 0 (-1) (vP cs) cs ++ hdL 1 (-1) cs ++ I ++ [insOf 3 1 (nI (vR cs)) 0])).length = vN cs os j0 + 1 := by rw [← hr2, List.length_append, l8, List.length_singleton]
  rw [hr2] at n2
  obtain ⟨σ10, u1, u2, u3⟩ := settle_A n2 (by rw [l9]; omega) (op_app (op_app (op_app (op_cnds _ _ _ _ hk) (op_hd _ _ _)) oI) (op_one (by decide)))
  rw [l9, List.map_append, List.map_append, List.map_append, fix_cnds _ _ _ _ _ (by omega) hk, fix_hd, mI, fx_m, List.map_cons, List.map_nil, fix_nxt _ _ _ (by omega)] at u2
  rw [l2] at u1
  have f10 := f9.tr u3
  generalize hJ : cndsL 0 (nI (vN cs os j0 + 1)) (vP cs) cs ++ hdL 1 (nI (vN cs os j0 + 1)) cs ++ I ++ [insOf 3 1 (nI (vR cs)) 0] = J at u2
  have lJ : J.length = cls 0 cs + hdN 1 cs + (cls 1 cs + jpN j0 + os.length + 1) + 1 := by rw [← hJ, List.length_append, List.length_append, List.length_append, cndsL_l, hdN_eq, lI, List.length_singleton]
  have oJ : op22 J := by rw [← hJ]; exact op_app (op_app (op_app (op_cnds _ _ _ _ hk) (op_hd _ _ _)) oI) (op_one (by decide))
  have mJ : ∀ n, J.map (fixI n) = J := fun n => by rw [← hJ, List.map_append, List.map_append, List.map_append, fix_cnds _ _ _ _ _ (by omega) hk, fix_hd, mI, fx_j (neg1_nI (by omega)), List.map_cons, List.map_nil, fix_nxt _ _ _ (by omega)]
  have l10 : (O ++ hdL 0 (-1) cs ++ J).length = vN cs os j0 + 1 := by rw [List.length_append, l2, lJ]; unfold vN vR; omega
  obtain ⟨σ11, v1, v2, v3⟩ := emit_A 3 0 (nI (vP cs)) 0 u2 (by rw [l10]; omega)
  have f11 := f10.tr v3
  have hr3 : O ++ hdL 0 (-1) cs ++ J ++ [insOf 3 0 (nI (vP cs)) 0] = O ++ (hdL 0 (-1) cs ++ J ++ [insOf 3 0 (nI (vP cs)) 0]) := by simp only [List.append_assoc]
  have l11 : (O ++ (hdL 0 (-1) cs ++ J ++ [insOf 3 0 (nI (vP cs)) 0])).length = vN cs os j0 + 2 := by rw [← hr3, List.length_append, l10, List.length_singleton]
  rw [hr3] at v2
  obtain ⟨σ12, p1, p2, p3⟩ := settle_A v2 (by rw [l11]; omega) (op_app (op_app (op_hd _ _ _) oJ) (op_one (by decide)))
  rw [l11, List.map_append, List.map_append, fix_hd, mJ, fx_m, List.map_cons, List.map_nil, fix_nxt _ _ _ (by omega)] at p2
  rw [lO] at p1
  have f12 := f11.tr p3
  have l12 : (O ++ (hdL 0 (nI (vN cs os j0 + 2)) cs ++ J ++ [insOf 3 0 (nI (vP cs)) 0])).length = vN cs os j0 + 2 := by rw [List.length_append, List.length_append, List.length_append, hdN_eq, lJ, lO, List.length_singleton]; unfold vN vR vP; omega
  obtain ⟨σ13, w1, w2, w3⟩ := emit_A 0 0 0 0 p2 (by rw [l12]; omega)
  refine ⟨σ13, ?_, ?_, f12.tr w3⟩
  · have x15 : gi (si σ 0 0 8 0) 0 0 15 = q1 := by rw [gi_ne (by omega)]; exact h15
    have x16 : gi σ0 0 0 16 = q2 := (f0.1 _ _ _ (by omega)).trans h16
    have y16 : gi σ3 0 0 16 = q2 := (f3.1 _ _ _ (by omega)).trans h16
    have g81 : gi σ1 0 0 8 = nI 2 := by rw [e2.1, lO]
    have g82 : gi σ2 0 0 8 = nI (vP cs) := by rw [g2.1, l2]
    have g84 : gi σ4 0 0 8 = nI (vR cs) := by rw [i2.1, l4]
    have g88 : gi σ13 0 0 8 = nI (vN cs os j0 + 3) := by rw [w2.1, List.length_append, l12, List.length_singleton]
    unfold f_TM_compile
    rw [lt_eq, h15, if_neg hq1, ho.1, if_neg (nI_nle (by omega) (by omega)), demand_1, bnX_l, lt_eq, x15, d1, bnd_eq, x16, if_neg hq2, e1, bnd_eq, bnd_eq, lt_eq, g81, g1, bnd_eq, lt_eq, g82, a1, bnd_eq, y16, if_neg hq2, i1, bnd_eq, lt_eq, g84, k1, bnd_eq, jn1, bnd_eq, t1, bnd_eq, s1, bnd_eq, n1, bnd_eq, bnd_eq, u1, bnd_eq, v1, bnd_eq, p1, bnd_eq, w1, bnd_eq, g88]
  · unfold finJ
    rw [hI, hJ, hO]
    exact w2
