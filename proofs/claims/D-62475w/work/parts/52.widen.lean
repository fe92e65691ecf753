/-! the plain law: an inner page gets a child more -/
theorem passes {t q J : Nat} (hq : q < 240) (hJ : J < 1000) : ∀ (pre : List ICel) (k pos : Nat) (σ : Sg) (m : Nat), k + pre.length = J → gi σ 2 q 1 = nI pos → pos + (iB pre).length ≤ 128 → sp σ q pos (iB pre) → pre.length + 1 ≤ m →
    lp (fun y => b_Tr_widen_31 t (nI J) q y.1 y.2) m (nI k, σ) = some (sA σ q (pos + (iB pre).length)) := by
  intro pre
  induction pre with
  | nil =>
    intro k pos σ m hk ha hp hs hm
    obtain ⟨m, rfl⟩ : ∃ m', m = m' + 1 := ⟨m - 1, by omega⟩
    rw [List.length_nil] at hk
    rw [lp_r (e := σ)]
    · rw [iB, List.length_nil, Nat.add_zero, sA_id ha]
    · show b_Tr_widen_31 t (nI J) q (nI k) σ = _
      unfold b_Tr_widen_31
      rw [if_pos (nI_le (by omega) (by omega))]
  | cons c pre ih =>
    intro k pos σ m hk ha hp hs hm
    rw [List.length_cons] at hk hm
    rw [iB, List.length_append] at hp ⊢
    rw [iB] at hs
    obtain ⟨m, rfl⟩ : ∃ m', m = m' + 1 := ⟨m - 1, by omega⟩
    obtain ⟨hs0, hs1⟩ := sp_app.mp hs
    have step : b_Tr_widen_31 t (nI J) q (nI k) σ = some (.inl (nI (k + 1), sA σ q (pos + (encI c).length))) := by
      unfold b_Tr_widen_31
      rw [if_neg (nI_ge (by omega) (by omega)), pass_I ha (by rw [pg_len hq]; omega) hs0, bn2_eq, lt_eq, nI_1]
    rw [lp_l step, ih (k + 1) (pos + (encI c).length) (sA σ q (pos + (encI c).length)) m (by omega) (at_sA _ _ _) (by omega) (sp_sA.mpr hs1) (by omega), sA_sA, Nat.add_assoc]
/-- the state in which the work holds the page with its new child -/
def wdS (σ : Sg) (t q e9 e8 : Nat) (bs : List Nat) : Sg := wt (sA (sA σ q e8) (240 + t) 0) (240 + t) 0 bs
theorem wt_q {σ : Sg} {w q e p : Nat} {bs : List Nat} : wt (sA σ q e) w p bs = sA (wt σ w p bs) w (p + bs.length) ∨ True := Or.inr trivial
theorem widen_buf {t q k0 x : Nat} {f : Int64} {ca cb : List ICel} {σ : Sg} (hq : q < 240) (hx : x < 240) (h : PI σ q k0 (ca ++ cb)) :
    ∃ σ1, cg (fun _ => False) σ σ1 ∧ (∀ a, a ≠ 2 → ∀ b c, ¬ (a = 10 ∧ 240 ≤ b) → gi σ1 a b c = gi σ a b c) ∧ (∀ a b c, gj σ1 a b c = gj σ a b c) ∧ sp σ1 (240 + t) 0 (k0 :: iB (ca ++ (f, x) :: cb)) ∧ gi σ1 2 (240 + t) 1 = nI (1 + (iB (ca ++ (f, x) :: cb)).length) ∧
      f_Tr_widen t (nI q) (nI ca.length) f (nI x) σ = (if 126 < nI (1 + (iB (ca ++ (f, x) :: cb)).length) then ((f_Tr_part t (nI q) (nI (ca ++ (f, x) :: cb).length) σ1).bind (fun σ36 => some (1, σ36))) else ((f_Tr_fill t (nI q) 0 (nI (ca ++ (f, x) :: cb).length) 0 (nI (1 + (iB (ca ++ (f, x) :: cb)).length)) σ1).bind (fun σ38 => some (0, σ38)))) := by
  have hI := h
  obtain ⟨h0, h1, hs, hl, hk0, hc⟩ := h
  have hcnt := iB_cnt (ca ++ cb)
  rw [List.length_append] at hcnt
  have hlab : (iB (ca ++ cb)).length = (iB ca).length + (iB cb).length := by rw [iB_app, List.length_append]
  rw [iB_app, ← List.cons_append] at hs
  obtain ⟨hsa, hsb⟩ := sp_app.mp hs
  rw [List.length_cons] at hsb
  obtain ⟨-, hsa1⟩ := sp_cons.mp hsa
  have hne : 240 + t ≠ q := by omega
  have hef := enc_len f
  have hb256a : ∀ b ∈ k0 :: iB ca, b < 256 := fun b hb => by
    rcases List.mem_cons.mp hb with rfl | hb
    · omega
    · exact iB_lt (fun c hcc => by have := hc c (List.mem_append_left _ hcc); omega) hb
  have hb256b : ∀ b ∈ iB cb, b < 256 := fun b hb => iB_lt (fun c hcc => by have := hc c (List.mem_append_right _ hcc); omega) hb
  have hpass := passes (t := t) (J := ca.length) hq (by omega) ca 0 3 (sA σ q 3) FU (by omega) (at_sA _ _ _) (by omega) (sp_sA.mpr hsa1) (by unfold FU; omega)
  rw [sA_sA, show nI 0 = (0 : Int32) from rfl] at hpass
  -- the writes
  generalize hτ0 : sA (sA σ q (3 + (iB ca).length)) (240 + t) 0 = τ0
  have k0τ : ∀ a, a ≠ 2 → ∀ b c, gi τ0 a b c = gi σ a b c := fun a ha b c => by rw [← hτ0, gi_sA10 _ _ _ _ _ _ ha, gi_sA10 _ _ _ _ _ _ ha]
  have a0 : gi τ0 2 (240 + t) 1 = nI 0 := by rw [← hτ0, at_sA]
  have c1 : f_Tp_copy (240 + t) q 2 (nI (3 + (iB ca).length)) τ0 = some (wt τ0 (240 + t) 0 (k0 :: iB ca)) := copy_eq (a := 2) hne a0 (by rw [wk_len, List.length_cons]; omega) (by rw [pg_len hq, List.length_cons]; omega) (sp_congr (fun j => k0τ 10 (by decide) q j) hsa) hb256a (by rw [List.length_cons]; omega)
  have c2 : f_Tp_number (240 + t) f (wt τ0 (240 + t) 0 (k0 :: iB ca)) = some (wt τ0 (240 + t) 0 ((k0 :: iB ca) ++ enc f)) := by
    rw [number_eq (p := 0 + (k0 :: iB ca).length) (wt_at _ _ _ _) (by rw [wk_len, List.length_cons]; omega), wt_wt]
  have c3 : f_Tp_one (240 + t) (nI x) (wt τ0 (240 + t) 0 ((k0 :: iB ca) ++ enc f)) = some (wt τ0 (240 + t) 0 (((k0 :: iB ca) ++ enc f) ++ [x])) := by
    rw [one_n (p := 0 + ((k0 :: iB ca) ++ enc f).length) (wt_at _ _ _ _) (by rw [wk_len, List.length_append, List.length_cons]; omega), wt_wt]
  have hlast : ((((k0 :: iB ca) ++ enc f) ++ [x]) ++ iB cb) = k0 :: iB (ca ++ (f, x) :: cb) := by
    rw [iB_app, iB]
    unfold encI
    simp
  have hU : (iB (ca ++ (f, x) :: cb)).length = (iB ca).length + (((enc f).length + 1) + (iB cb).length) := by
    rw [iB_app, List.length_append, iB, List.length_append]
    unfold encI
    rw [List.length_append, List.length_singleton]
  have c4 : f_Tp_copy (240 + t) q (nI (3 + (iB ca).length)) (nI (3 + (iB (ca ++ cb)).length)) (wt τ0 (240 + t) 0 (((k0 :: iB ca) ++ enc f) ++ [x])) = some (wt τ0 (240 + t) 0 (k0 :: iB (ca ++ (f, x) :: cb))) := by
    rw [copy_eq (a := 3 + (iB ca).length) (bs := iB cb) (p := 0 + (((k0 :: iB ca) ++ enc f) ++ [x]).length) hne (wt_at _ _ _ _) (by rw [wk_len]; simp only [List.length_append, List.length_cons, List.length_nil]; omega) (by rw [pg_len hq]; omega) (sp_wt_ne (Or.inl (fun z => hne z.symm)) (sp_congr (fun j => k0τ 10 (by decide) q j) (by rw [show 2 + ((iB ca).length + 1) = 3 + (iB ca).length by omega] at hsb; exact hsb))) hb256b (by omega), wt_wt, hlast]
  generalize hτ1 : wt τ0 (240 + t) 0 (k0 :: iB (ca ++ (f, x) :: cb)) = τ1 at c4
  have k1 : ∀ a, a ≠ 2 → ∀ b c, ¬ (a = 10 ∧ 240 ≤ b) → gi τ1 a b c = gi σ a b c := fun a ha b c hn => by
    rw [← hτ1]
    unfold wt
    rw [gi_sA10 _ _ _ _ _ _ ha, gi_bw, if_neg (fun z => hn ⟨z.1, by omega⟩)]
    exact k0τ a ha b c
  have at1 : gi τ1 2 (240 + t) 1 = nI (1 + (iB (ca ++ (f, x) :: cb)).length) := by
    rw [← hτ1, wt_at, List.length_cons]
    congr 1
    omega
  refine ⟨τ1, ⟨fun a b c x1 _ _ x4 _ => k1 a x1 b c (fun z => x4 ⟨z.1, Or.inr z.2⟩), fun a b c _ => ?_, fun a b c => ?_, ?_⟩, k1, fun a b c => ?_, by rw [← hτ1]; exact sp_wt _ _ _ _, at1, ?_⟩
  · rw [← hτ1, ← hτ0]; rfl
  · rw [← hτ1, ← hτ0]; rfl
  · rw [← hτ1, ← hτ0]; rfl
  · rw [← hτ1, ← hτ0]; rfl
  · unfold f_Tr_widen l_Tr_widen_31
    have e1 : si (sA σ q 2) 2 q 1 (nI 2 + 1) = sA σ q 3 := by rw [nI_1]; exact sA_sA _ _ _ _
    have e2 : si (sA σ q (3 + (iB ca).length)) 2 (240 + t) 1 0 = τ0 := hτ0
    rw [size_I hq hI, bn2_eq, open_eq hq, bn2_eq, lt_eq, sA_sA, at_sA, e1, hpass, bnd_eq, lt_eq, at_sA, lt_eq, e2, c1, bnd_eq, c2, bnd_eq, c3, bnd_eq, c4, bnd_eq, cells_eq hq, bn2_eq, lt_eq, at1, k1 10 (by decide) q 1 (by omega), h1, nI_1]
    have e3 : (ca ++ cb).length + 1 = (ca ++ (f, x) :: cb).length := by
      rw [List.length_append, List.length_append, List.length_cons]; omega
    rw [e3]
