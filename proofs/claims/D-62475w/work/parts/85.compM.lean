/-! the plain law: what the model compiles -/
def fPm (σ σ' : Sg) : Prop := (∀ a b c, ¬ (a = 33 ∨ (a = 9 ∧ (c = 10 ∨ c = 0))) → gi σ' a b c = gi σ a b c) ∧ (∀ a b c, gj σ' a b c = gj σ a b c) ∧ (∀ a b c, gr σ' a b c = gr σ a b c) ∧ nt σ' = nt σ
theorem fPm_Pt {σ σ' : Sg} (h : fPt σ σ') : fPm σ σ' := ⟨fun a b c z => h.1 a b c (by omega), h.2⟩
theorem fPm.tr {σ τ υ : Sg} (h1 : fPm σ τ) (h2 : fPm τ υ) : fPm σ υ := ⟨fun a b c x => (h2.1 a b c x).trans (h1.1 a b c x), fun a b c => (h2.2.1 a b c).trans (h1.2.1 a b c), fun a b c => (h2.2.2.1 a b c).trans (h1.2.2.1 a b c), h2.2.2.2.trans h1.2.2.2⟩
theorem Cdm_fr2 {σ σ' : Sg} {cs : List Cnd} (h : fPm σ σ') (hc : Cdm σ cs) : Cdm σ' cs := ⟨(h.1 _ _ _ (by omega)).trans hc.1, fun i x hx => ⟨(h.1 _ _ _ (by omega)).trans (hc.2 i x hx).1, (h.1 _ _ _ (by omega)).trans (hc.2 i x hx).2.1, (h.1 _ _ _ (by omega)).trans (hc.2 i x hx).2.2.1, (h.1 _ _ _ (by omega)).trans (hc.2 i x hx).2.2.2⟩⟩
theorem Otm_fr2 {σ σ' : Sg} {os : List (Int32 × Int32)} (h : fPm σ σ') (hc : Otm σ os) : Otm σ' os := ⟨(h.1 _ _ _ (by omega)).trans hc.1, fun i x hx => ⟨(h.1 _ _ _ (by omega)).trans (hc.2 i x hx).1, (h.1 _ _ _ (by omega)).trans (hc.2 i x hx).2⟩⟩
theorem Prm_0 (σ : Sg) : Prm (si (si σ 9 0 0 0) 9 0 10 0) [] := ⟨by rw [gi_eq]; rfl, fun i x hx => by cases hx⟩
theorem fPm_0 (σ : Sg) : fPm σ (si (si σ 9 0 0 0) 9 0 10 0) := ⟨fun a b c h => by rw [gi_ne (by omega), gi_ne (by omega)], fun _ _ _ => rfl, fun _ _ _ => rfl, rfl⟩
theorem nz1 : ¬ (1 : Int32) = 0 := by decide
theorem compU_m {σ : Sg} {q1 : Int32} {cs : List Cnd} {os : List (Int32 × Int32)} (h15 : gi σ 9 0 23 = q1) (h16 : gi σ 9 0 24 = -1) (hq1 : ¬ q1 < 0) (hc : Cdm σ cs) (ho : Otm σ os) (hcs : cs.length ≤ 4) (h1 : 1 ≤ os.length) (h4 : os.length ≤ 4) (hk : ∀ c ∈ cs, okC2 c) :
    ∃ σ', f_Md_compile σ = some (nI (uN cs os + 2), σ') ∧ Prm σ' (finU q1 cs os) ∧ fPm σ σ' ∧ gi σ' 9 0 0 = 0 := by
  have b1 := hdN_2 0 cs
  have b2 := cls_4 0 cs
  have f0 := fPm_0 σ
  generalize hσ0 : si (si σ 9 0 0 0) 9 0 10 0 = σ0 at f0
  have P0 : Prm σ0 [] := by rw [← hσ0]; exact Prm_0 σ
  obtain ⟨σ1, e1, e2, e3⟩ := put_A (o := 1) (by decide) 0 q1 0 P0 (by decide)
  rw [List.nil_append] at e2
  have f1 := f0.tr (fPm_Pt e3)
  have len := length_eq (σ := σ1) 0 (Cdm_fr2 f1 hc) hcs hk
  have hup : uP cs ≤ 3 := by unfold uP; omega
  have hun : uN cs os ≤ 25 := by unfold uN; omega
  obtain ⟨σ2, g1, g2, g3⟩ := loop_A (σ := σ1) 0 (nI (uN cs os + 1)) (nI (uN cs os)) (Cdm_fr2 f1 hc) hcs hk e2 (by rw [List.length_singleton]; omega)
  have f2 := f1.tr (fPm_Pt g3)
  have l2 : ([insOf 1 0 q1 0] ++ hdL 0 (nI (uN cs os + 1)) cs).length = uP cs := by rw [List.length_append, hdN_eq]; rfl
  rw [l2] at g1 g2
  have l3 : ([insOf 1 0 q1 0] ++ hdL 0 (nI (uN cs os + 1)) cs ++ cndsL 0 (nI (uN cs os)) (uP cs) cs).length = uP cs + cls 0 cs := by rw [List.length_append, l2, cndsL_l]
  obtain ⟨σ3, t1, t2, t3⟩ := results_A (Otm_fr2 f2 ho) h4 g2 (by rw [l3]; omega)
  have f3 := f2.tr (fPm_Pt t3)
  have l4 : ([insOf 1 0 q1 0] ++ hdL 0 (nI (uN cs os + 1)) cs ++ cndsL 0 (nI (uN cs os)) (uP cs) cs ++ resL os).length = uN cs os := by rw [List.length_append, l3, resL_len]; unfold uN; omega
  obtain ⟨σ4, n1, n2, n3⟩ := put_A (o := 3) (by decide) 0 (nI (uP cs)) 0 t2 (by rw [l4]; omega)
  have f4 := f3.tr (fPm_Pt n3)
  obtain ⟨σ5, w1, w2, w3⟩ := put_A (o := 0) (by decide) 0 0 0 n2 (by rw [List.length_append, l4, List.length_singleton]; omega)
  have f5 := f4.tr (fPm_Pt w3)
  have hfin : [insOf 1 0 q1 0] ++ hdL 0 (nI (uN cs os + 1)) cs ++ cndsL 0 (nI (uN cs os)) (uP cs) cs ++ resL os ++ [insOf 3 0 (nI (uP cs)) 0] ++ [insOf 0 0 0 0] = finU q1 cs os := by
    unfold finU
    simp only [List.append_assoc]
  have g10 : gi σ5 9 0 10 = nI (uN cs os + 2) := by rw [w2.1, List.length_append, List.length_append, l4, List.length_singleton, List.length_singleton]
  rw [hfin] at w2
  have z0 : gi σ0 9 0 0 = 0 := by rw [← hσ0, gi_ne (by omega), gi_eq]
  refine ⟨σ5, ?_, w2, f5, ?_⟩
  · have c25 : ¬ gi σ 9 0 25 = 0 := by rw [ho.1]; exact nI_ne0 (by omega) (by omega)
    have x24 : gi (si σ 9 0 0 0) 9 0 24 = -1 := by rw [gi_ne (by omega)]; exact h16
    have x23 : gi σ0 9 0 23 = q1 := (f0.1 _ _ _ (by omega)).trans h15
    have x10 : gi σ1 9 0 10 = nI 1 := e2.1
    have x25 : gi σ1 9 0 25 = nI os.length := (Otm_fr2 f1 ho).1
    have hx36 : nI 1 + nI ((hdL 0 0 cs).length + cls 0 cs) + 0 + nI os.length + 1 = nI (uN cs os) := by
      rw [nI_plus, Int32.add_zero, nI_plus, nI_1]
      congr 1
      show 1 + (hdN 0 cs + cls 0 cs) + os.length + 1 = _
      unfold uN uP
      omega
    unfold f_Md_compile
    rw [lt_eq, h15, if_neg hq1, if_neg c25, lt_eq, gi_eq, if_pos le00, lt_eq, x24, if_pos neg1_lt, lt_eq, hσ0, x23, show (1 : Int32) = nI 1 from rfl, e1, bnd_eq, i00, bnd_eq, len, bn2_eq, lt_eq, x10, i00, bn2_eq, lt_eq, lt_eq, i00, x25]
    rw [show nI 1 + nI ((hdL 0 0 cs).length + cls 0 cs) + 0 + nI os.length + nI 1 = nI (uN cs os) from hx36, show nI (uN cs os) + nI 1 = nI (uN cs os + 1) from nI_plus _ 1, g1, bn2_eq, i00, t1, bnd_eq, bnd_eq, show (3 : Int32) = nI 3 from rfl, n1, bnd_eq, show f_Md_put 0 0 0 0 σ4 = some σ5 from w1, bnd_eq, g10]
  · have e0 : ∀ {a b : Sg}, fPt a b → gi b 9 0 0 = gi a 9 0 0 := fun h => h.1 _ _ _ (by omega)
    rw [e0 w3, e0 n3, e0 t3, e0 g3, e0 e3, z0]
theorem compJ_m {σ : Sg} {q1 q2 j0 j1 j2 : Int32} {cs : List Cnd} {os : List (Int32 × Int32)} (h15 : gi σ 9 0 23 = q1) (h16 : gi σ 9 0 24 = q2) (h29 : gi σ 9 0 29 = j0) (h30 : gi σ 9 0 30 = j1) (h31 : gi σ 9 0 31 = j2) (hq1 : ¬ q1 < 0) (hq2 : ¬ q2 < 0) (hc : Cdm σ cs) (ho : Otm σ os) (hcs : cs.length ≤ 4) (h1 : 1 ≤ os.length) (h4 : os.length ≤ 4) (hk : ∀ c ∈ cs, okC2 c) :
    ∃ σ', f_Md_compile σ = some (nI (vN cs os j0 + 3), σ') ∧ Prm σ' (finJ q1 q2 cs os j0 j1 j2) ∧ fPm σ σ' ∧ gi σ' 9 0 0 = 0 := by
  have b1 := hdN_2 0 cs
  have b2 := cls_4 0 cs
  have b3 := hdN_2 1 cs
  have b4 := cls_4 1 cs
  have b5 := jpN_4 j0
  have f0 := fPm_0 σ
  generalize hσ0 : si (si σ 9 0 0 0) 9 0 10 0 = σ0 at f0
  have P0 : Prm σ0 [] := by rw [← hσ0]; exact Prm_0 σ
  have z0 : gi σ0 9 0 0 = 0 := by rw [← hσ0, gi_ne (by omega), gi_eq]
  obtain ⟨τ0, d1, d2, d3⟩ := put_A (o := 1) (by decide) 0 q1 0 P0 (by decide)
  rw [List.nil_append] at d2
  have f0' := f0.tr (fPm_Pt d3)
  obtain ⟨σ1, e1, e2, e3⟩ := put_A (o := 1) (by decide) 1 q2 0 d2 (by rw [List.length_singleton]; omega)
  rw [show [insOf 1 0 q1 0] ++ [insOf 1 1 q2 0] = [insOf 1 0 q1 0, insOf 1 1 q2 0] from rfl] at e2
  have f1 := f0'.tr (fPm_Pt e3)
  generalize hO : [insOf 1 0 q1 0, insOf 1 1 q2 0] = O at e2
  have lO : O.length = 2 := by rw [← hO]; rfl
  have len0 := length_eq (σ := σ1) 0 (Cdm_fr2 f1 hc) hcs hk
  have len1 := length_eq (σ := σ1) 1 (Cdm_fr2 f1 hc) hcs hk
  have hup : vP cs ≤ 4 := by unfold vP; omega
  have hur : vR cs ≤ 22 := by unfold vR; omega
  have hvn : vN cs os j0 ≤ 50 := by unfold vN; omega
  generalize hn : vN cs os j0 = n at *
  obtain ⟨σ2, g1, g2, g3⟩ := loop_A (σ := σ1) 0 (nI (n + 2)) (nI (n + 1)) (Cdm_fr2 f1 hc) hcs hk e2 (by omega)
  have f2 := f1.tr (fPm_Pt g3)
  have l2 : (O ++ hdL 0 (nI (n + 2)) cs).length = vP cs := by rw [List.length_append, hdN_eq, lO]; rfl
  rw [l2] at g1 g2
  have l3 : (O ++ hdL 0 (nI (n + 2)) cs ++ cndsL 0 (nI (n + 1)) (vP cs) cs).length = vP cs + cls 0 cs := by rw [List.length_append, l2, cndsL_l]
  obtain ⟨σ3, i1, i2, i3⟩ := loop_A (σ := σ2) 1 (nI (n + 1)) (nI n) (Cdm_fr2 f2 hc) hcs hk g2 (by rw [l3]; omega)
  have f3 := f2.tr (fPm_Pt i3)
  have l4 : (O ++ hdL 0 (nI (n + 2)) cs ++ cndsL 0 (nI (n + 1)) (vP cs) cs ++ hdL 1 (nI (n + 1)) cs).length = vR cs := by rw [List.length_append, l3, hdN_eq]; rfl
  rw [l4] at i1 i2
  generalize hA3 : O ++ hdL 0 (nI (n + 2)) cs ++ cndsL 0 (nI (n + 1)) (vP cs) cs ++ hdL 1 (nI (n + 1)) cs = A3 at *
  have l5 : (A3 ++ cndsL 1 (nI n) (vR cs) cs).length = vR cs + cls 1 cs := by rw [List.length_append, l4, cndsL_l]
  have z29 : gi σ3 9 0 29 = j0 := (f3.1 _ _ _ (by omega)).trans h29
  have z30 : gi σ3 9 0 30 = j1 := (f3.1 _ _ _ (by omega)).trans h30
  have jn : ∃ σ4, (if gi σ3 9 0 29 = 0 then (some σ3) else ((f_Md_read 0 (gi σ3 9 0 30) 0 σ3).bind (fun σ55 => (f_Md_read 1 (gi σ55 9 0 31) 1 σ55).bind (fun σ57 => (f_Md_put 9 0 ((gi σ57 9 0 10) + 2) 1 σ57).bind (fun σ59 => (f_Md_put 19 (nI n) 0 0 σ59).bind (fun σ61 => some (σ61))))))) = some σ4 ∧ Prm σ4 (A3 ++ cndsL 1 (nI n) (vR cs) cs ++ jpL j0 j1 j2 (vR cs + cls 1 cs) (nI n)) ∧ fPt σ3 σ4 := by
    rw [z29, z30]
    unfold jpL
    by_cases h0 : j0 = 0
    · rw [if_pos h0, if_pos h0, List.append_nil]
      exact ⟨σ3, rfl, i2, fPt_rf σ3⟩
    · rw [if_neg h0, if_neg h0]
      obtain ⟨τ1, m1, m2, m3⟩ := read_A 0 j1 0 i2 (by rw [l5]; omega)
      obtain ⟨τ2, n1, n2, n3⟩ := read_A 1 j2 1 m2 (by rw [List.length_append, l5, List.length_singleton]; omega)
      rw [app2] at n2
      have l6 : (A3 ++ cndsL 1 (nI n) (vR cs) cs ++ [ftc 0 j1 0, ftc 1 j2 1]).length = vR cs + cls 1 cs + 2 := by rw [List.length_append, l5]; rfl
      obtain ⟨τ3, o1, o2, o3⟩ := put_A (o := 9) (by decide) 0 (nI (vR cs + cls 1 cs + 4)) 1 n2 (by rw [l6]; omega)
      obtain ⟨τ4, r1, r2, r3⟩ := put_A (o := 19) (by decide) (nI n) 0 0 o2 (by rw [List.length_append, l6, List.length_singleton]; omega)
      have z31 : gi τ1 9 0 31 = j2 := (m3.1 _ _ _ (by omega)).trans ((f3.1 _ _ _ (by omega)).trans h31)
      have z10 : gi τ2 9 0 10 + 2 = nI (vR cs + cls 1 cs + 4) := by rw [n2.1, l6]; exact nI_plus _ 2
      rw [m1, bnd_eq, z31, n1, bnd_eq, z10, show (9 : Int32) = nI 9 from rfl, o1, bnd_eq, show (19 : Int32) = nI 19 from rfl, r1, bnd_eq]
      refine ⟨τ4, rfl, ?_, m3.tr (n3.tr (o3.tr r3))⟩
      rw [List.append_assoc, List.append_assoc] at r2
      exact r2
  obtain ⟨σ4, jn1, jn2, jn3⟩ := jn
  have f4 := f3.tr (fPm_Pt jn3)
  have l6 : (A3 ++ cndsL 1 (nI n) (vR cs) cs ++ jpL j0 j1 j2 (vR cs + cls 1 cs) (nI n)).length = vR cs + cls 1 cs + jpN j0 := by rw [List.length_append, l5, jpL_len]
  obtain ⟨σ5, t1, t2, t3⟩ := results_A (Otm_fr2 f4 ho) h4 jn2 (by rw [l6]; omega)
  have f5 := f4.tr (fPm_Pt t3)
  have l7 : (A3 ++ cndsL 1 (nI n) (vR cs) cs ++ jpL j0 j1 j2 (vR cs + cls 1 cs) (nI n) ++ resL os).length = n := by rw [List.length_append, l6, resL_len, ← hn]; unfold vN; omega
  obtain ⟨σ6, n1, n2, n3⟩ := put_A (o := 3) (by decide) 1 (nI (vR cs)) 0 t2 (by rw [l7]; omega)
  have f6 := f5.tr (fPm_Pt n3)
  obtain ⟨σ7, v1, v2, v3⟩ := put_A (o := 3) (by decide) 0 (nI (vP cs)) 0 n2 (by rw [List.length_append, l7, List.length_singleton]; omega)
  have f7 := f6.tr (fPm_Pt v3)
  obtain ⟨σ8, w1, w2, w3⟩ := put_A (o := 0) (by decide) 0 0 0 v2 (by rw [List.length_append, List.length_append, l7, List.length_singleton, List.length_singleton]; omega)
  have f8 := f7.tr (fPm_Pt w3)
  have g10 : gi σ8 9 0 10 = nI (n + 3) := by rw [w2.1, List.length_append, List.length_append, List.length_append, l7, List.length_singleton, List.length_singleton, List.length_singleton]
  refine ⟨σ8, ?_, ?_, f8, ?_⟩
  · have c25 : ¬ gi σ 9 0 25 = 0 := by rw [ho.1]; exact nI_ne0 (by omega) (by omega)
    have x24 : gi (si σ 9 0 0 0) 9 0 24 = q2 := by rw [gi_ne (by omega)]; exact h16
    have x23 : gi σ0 9 0 23 = q1 := (f0.1 _ _ _ (by omega)).trans h15
    have y24 : gi τ0 9 0 24 = q2 := (f0'.1 _ _ _ (by omega)).trans h16
    have x10 : gi σ1 9 0 10 = nI 2 := by rw [e2.1, lO]
    have x29 : gi σ1 9 0 29 = j0 := (f1.1 _ _ _ (by omega)).trans h29
    have x25 : gi σ1 9 0 25 = nI os.length := (Otm_fr2 f1 ho).1
    have hj : ((if j0 = 0 then 0 else 4) : Int32) = nI (jpN j0) := by unfold jpN; split <;> rfl
    have hx36 : nI 2 + nI ((hdL 0 0 cs).length + cls 0 cs) + (nI ((hdL 1 0 cs).length + cls 1 cs) + nI (jpN j0)) + nI os.length + 1 = nI n := by
      rw [nI_plus, nI_plus, nI_plus, nI_plus, nI_1, ← hn]
      congr 1
      show 2 + (hdN 0 cs + cls 0 cs) + (hdN 1 cs + cls 1 cs + jpN j0) + os.length + 1 = _
      unfold vN vR vP
      omega
    unfold f_Md_compile
    rw [lt_eq, h15, if_neg hq1, if_neg c25, lt_eq, gi_eq, if_pos le00, lt_eq, x24, if_neg hq2, lt_eq, hσ0, x23]
    rw [show f_Md_put 1 0 q1 0 σ0 = some τ0 from d1, bnd_eq, i10, y24, show f_Md_put 1 1 q2 0 τ0 = some σ1 from e1, bnd_eq, bnd_eq, len0, bn2_eq, lt_eq, x10, i10, len1, bn2_eq, lt_eq, x29, hj, bn2_eq, lt_eq, x25, hx36, lt_eq, i10, nI_1, show nI (n + 1) + 1 = nI (n + 2) from nI_1 (n + 1), g1, bn2_eq, i10, i1, bn2_eq, jn1, bnd_eq, t1, bnd_eq, show f_Md_put 3 1 (nI (vR cs)) 0 σ5 = some σ6 from n1, bnd_eq, bnd_eq, show f_Md_put 3 0 (nI (vP cs)) 0 σ6 = some σ7 from v1, bnd_eq, show f_Md_put 0 0 0 0 σ7 = some σ8 from w1, bnd_eq, g10]
  · have hfin : A3 ++ cndsL 1 (nI n) (vR cs) cs ++ jpL j0 j1 j2 (vR cs + cls 1 cs) (nI n) ++ resL os ++ [insOf 3 1 (nI (vR cs)) 0] ++ [insOf 3 0 (nI (vP cs)) 0] ++ [insOf 0 0 0 0] = finJ q1 q2 cs os j0 j1 j2 := by
      rw [← hA3]
      unfold finJ
      rw [hn, hO]
      simp only [List.append_assoc]
    rw [hfin] at w2
    exact w2
  · have e0 : ∀ {a b : Sg}, fPt a b → gi b 9 0 0 = gi a 9 0 0 := fun h => h.1 _ _ _ (by omega)
    rw [e0 w3, e0 v3, e0 n3, e0 t3, e0 jn3, e0 i3, e0 g3, e0 e3, e0 d3, z0]
