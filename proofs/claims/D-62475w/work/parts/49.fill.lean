/-! the plain law: reading a row, filling a page, the free pages -/
theorem eqS_sVs {σ σ' : Sg} {i : Nat} {l : List (Option Int64)} (h : eqS σ σ') : eqS (sVs σ i l) (sVs σ' i l) := by
  refine ⟨fun a b c hn => ?_, fun a b c hn => ?_, fun a b c => ?_, ?_⟩
  · rw [gi_sVs, gi_sVs, h.1 a b c hn]
  · rw [gj_sVs, gj_sVs, h.2.1 a b c hn]
  · rw [gr_sVs, gr_sVs, h.2.2.1]
  · rw [nt_sVs, nt_sVs, h.2.2.2]
theorem PL_cut {σ : Sg} {p : Nat} {pre r : List Cel} {c : Cel} (h : PL σ p (pre ++ c :: r)) : sp σ p (2 + (lB pre).length) (encC c) ∧ 2 + (lB pre).length + (encC c).length ≤ 128 := by
  obtain ⟨h0, h1, hs, hl⟩ := h
  rw [lB_app, lB] at hs hl
  obtain ⟨-, hs1⟩ := sp_app.mp hs
  obtain ⟨hs2, -⟩ := sp_app.mp hs1
  rw [List.length_append, List.length_append] at hl
  exact ⟨hs2, by omega⟩
theorem read_eq {σ : Sg} {n t root : Nat} {M : List Cel} {P : List Nat} (h : TO σ n t root M P) {c : Cel} (hc : c ∈ M) (r : Nat) : ∃ σ', f_Tr_read t c.1 r σ = some σ' ∧ eqS (sVs σ (4 * r) (pad c.2)) σ' := by
  obtain ⟨Z, p, lo, hi, pre, post, σ1, h1, h2, h3, h4, h5⟩ := find_eq h c.1
  have hb := TA_bnd h.2.2.2.2.1
  have hh := (fnd_has h3).mpr (by rw [h4]; exact ⟨c, hc, rfl⟩)
  obtain ⟨c', r', hpost, hk⟩ := hh
  have hmem : c' ∈ M := by
    rw [← h4, gM_eq, hpost]
    exact List.mem_append_left _ (List.mem_append_right _ (List.mem_append_right _ List.mem_cons_self))
  have hcc : c' = c := by
    have hp := hb.2
    by_cases e : c' = c
    · exact e
    · exfalso
      rcases List.mem_iff_getElem.mp hc with ⟨i, hi1, hi2⟩
      rcases List.mem_iff_getElem.mp hmem with ⟨j, hj1, hj2⟩
      rw [List.pairwise_iff_getElem] at hp
      rcases Nat.lt_trichotomy i j with hij | hij | hij
      · have := hp i j hi1 hj1 hij
        rw [hi2, hj2, hk] at this
        exact Int64.lt_irrefl this
      · subst hij
        exact e (hj2.symm.trans hi2)
      · have := hp j i hj1 hi1 hij
        rw [hi2, hj2, hk] at this
        exact Int64.lt_irrefl this
  subst hcc
  obtain ⟨f1, f2, f3, f4, f5, f6, f7, f8, f9, f10, f11, f12, f13, f14⟩ := h3
  rw [hpost] at f2
  obtain ⟨hs, hl⟩ := PL_cut f2.2.1
  have hn : c'.2.length = n := (hb.1 c' hc).1
  have h4c : c'.2.length ≤ 4 := by rw [hn]; exact h.2.2.2.1
  unfold encC at hs hl
  rw [List.length_append, List.length_cons] at hl
  obtain ⟨hs1, hs2⟩ := sp_app.mp hs
  have hp := f2.1
  have hdep : Z.length < 100 := by omega
  obtain ⟨q, hr⟩ := read_rec (σ := sA σ1 p (2 + (lB pre).length + (enc c'.1).length)) (r := r) (i := p) (p := 2 + (lB pre).length + (enc c'.1).length) h4c (at_sA _ _ _) (by rw [pg_len hp, List.length_cons]; omega) (sp_sA.mpr hs2)
  refine ⟨sA (sVs σ1 (4 * r) (pad c'.2)) p q, ?_, (eqS_sVs h2).tr eqS_sA⟩
  unfold f_Tr_read f_Tr_leaf
  have e1 : si (sA σ1 p 2) 2 p 1 (nI (2 + (lB pre).length)) = sA σ1 p (2 + (lB pre).length) := sA_sA _ _ _ _
  rw [h1, bnd_eq, f5, chk_pos (vp_in_nI hdep (by decide)), nI_clamp (by omega), f6, bn2_eq, open_eq hp, bn2_eq, lt_eq, gi_sA10 _ _ _ _ _ _ (by decide), f12, e1, takeNumber_eq (at_sA _ _ _) (by rw [pg_len hp]; omega) (sp_sA.mpr hs1), bn2_eq, sA_sA, gi_sA10 _ _ _ _ _ _ (by decide), h2.co, h.2.1, ← hn, hr, bnd_eq, sVs_sA, sA_sA]
/-- only a page has changed, and its place -/
def onP (p : Nat) (σ σ' : Sg) : Prop := (∀ a b c, ¬ ((a = 10 ∨ a = 2) ∧ b = p) → gi σ' a b c = gi σ a b c) ∧ (∀ a b c, gj σ' a b c = gj σ a b c) ∧ (∀ a b c, gr σ' a b c = gr σ a b c) ∧ nt σ' = nt σ
theorem onP.tr {p : Nat} {σ τ υ : Sg} (h1 : onP p σ τ) (h2 : onP p τ υ) : onP p σ υ := ⟨fun a b c h => (h2.1 a b c h).trans (h1.1 a b c h), fun a b c => (h2.2.1 a b c).trans (h1.2.1 a b c), fun a b c => (h2.2.2.1 a b c).trans (h1.2.2.1 a b c), h2.2.2.2.trans h1.2.2.2⟩
theorem onP_si {p : Nat} {σ : Sg} {k j : Nat} {x : Int32} (h : k = 10 ∨ k = 2) : onP p σ (si σ k p j x) := ⟨fun a b c hn => by rw [gi_si, if_neg (fun z => hn ⟨by rw [z.1]; exact h, z.2.1⟩)], fun _ _ _ => rfl, fun _ _ _ => rfl, rfl⟩
theorem onP_wt {p q : Nat} {σ : Sg} {bs : List Nat} : onP p σ (wt σ p q bs) := by
  unfold wt sA
  exact onP.tr (τ := bw σ p q bs) ⟨fun a b c hn => by rw [gi_bw, if_neg (fun z => hn ⟨Or.inl z.1, z.2.1⟩)], fun _ _ _ => rfl, fun _ _ _ => rfl, rfl⟩ (onP_si (Or.inr rfl))
theorem nar_b : ∀ n, n < 128 → vp_nar .byte (nI n).toInt8.toInt32 = nI n := by decide +kernel
theorem head_fill {σ : Sg} {p n lf : Nat} (hp : p < 240) (hn : n < 128) (hlf : lf < 2) : f_Pg_head (nI p) (nI lf) (nI n) σ = some (sA (si (si σ 10 p 0 (nI lf)) 10 p 1 (nI n)) p 2) := by
  unfold f_Pg_head
  rw [chk_pos (pg_in hp), lt_eq, pg_c hp, pg_len hp, chk_pos (in0 (by decide) (by decide)), lt_eq, chk_pos (pg_in hp), chk_pos (in1 (by decide) (by decide)), lt_eq, chk_pos (pg_in hp), lt_eq, c0, c1, nar_b n hn]
  have e : vp_nar .byte (if nI lf = 0 then (0 : Int32) else 1).toInt8.toInt32 = nI lf := by
    have : lf = 0 ∨ lf = 1 := by omega
    rcases this with rfl | rfl <;> decide
  rw [e]
  rfl
/-- a page becomes what lies in the work -/
theorem fill_eq {σ : Sg} {t p n lf a e : Nat} {bs : List Nat} (hp : p < 240) (hn : n < 128) (hlf : lf < 2) (hs : sp σ (240 + t) a bs) (hb : ∀ b ∈ bs, b < 256) (hl : bs.length ≤ 126) (ha : a + bs.length ≤ 512) (he : e = a + bs.length) : ∃ σ', f_Tr_fill t (nI p) (nI lf) (nI n) (nI a) (nI e) σ = some σ' ∧ onP p σ σ' ∧ gi σ' 10 p 0 = nI lf ∧ gi σ' 10 p 1 = nI n ∧ sp σ' p 2 bs := by
  have hne : p ≠ 240 + t := by omega
  refine ⟨wt (sA (si (si σ 10 p 0 (nI lf)) 10 p 1 (nI n)) p 2) p 2 bs, ?_, ?_, ?_, ?_, sp_wt _ _ _ _⟩
  · unfold f_Tr_fill
    rw [head_fill hp hn hlf, bnd_eq, open_eq hp, bn2_eq, sA_sA, copy_eq hne (at_sA _ _ _) (by rw [pg_len hp]; omega) (by rw [wk_len]; exact ha) (fun k hk => by rw [gi_sA10 _ _ _ _ _ _ (by decide), gi_ne (by omega), gi_ne (by omega)]; exact hs k hk) hb he, bnd_eq]
  · exact onP.tr (onP.tr (onP.tr (onP_si (Or.inl rfl)) (onP_si (Or.inl rfl))) (onP_si (Or.inr rfl))) onP_wt
  · unfold wt
    rw [gi_sA10 _ _ _ _ _ _ (by decide), gi_bw, if_neg (by omega), gi_sA10 _ _ _ _ _ _ (by decide), gi_ne (by omega), gi_eq]
  · unfold wt
    rw [gi_sA10 _ _ _ _ _ _ (by decide), gi_bw, if_neg (by omega), gi_sA10 _ _ _ _ _ _ (by decide), gi_eq]
theorem fill_L {σ : Sg} {t p a e : Nat} {cs : List Cel} (hp : p < 240) (h4 : ∀ c ∈ cs, c.2.length ≤ 4) (hs : sp σ (240 + t) a (lB cs)) (hl : (lB cs).length ≤ 126) (ha : a + (lB cs).length ≤ 512) (he : e = a + (lB cs).length) : ∃ σ', f_Tr_fill t (nI p) 1 (nI cs.length) (nI a) (nI e) σ = some σ' ∧ onP p σ σ' ∧ PL σ' p cs := by
  have hc := lB_cnt h4
  obtain ⟨σ', h1, h2, h3, h4, h5⟩ := fill_eq (lf := 1) (n := cs.length) hp (by omega) (by decide) hs (fun b hb => lB_lt h4 hb) hl ha he
  exact ⟨σ', h1, h2, h3, h4, h5, hl⟩
theorem fill_I {σ : Sg} {t p k0 a e : Nat} {cs : List ICel} (hp : p < 240) (hk : k0 < 240) (hc : ∀ c ∈ cs, c.2 < 240) (hs : sp σ (240 + t) a (k0 :: iB cs)) (hl : (iB cs).length ≤ 125) (ha : a + (iB cs).length + 1 ≤ 512) (he : e = a + ((iB cs).length + 1)) : ∃ σ', f_Tr_fill t (nI p) 0 (nI cs.length) (nI a) (nI e) σ = some σ' ∧ onP p σ σ' ∧ PI σ' p k0 cs := by
  have hcn := iB_cnt cs
  obtain ⟨σ', h1, h2, h3, h4, h5⟩ := fill_eq (e := e) (lf := 0) (n := cs.length) hp (by omega) (by decide) hs (fun b hb => by
    rcases List.mem_cons.mp hb with rfl | hb
    · omega
    · exact iB_lt (fun c hcc => by have := hc c hcc; omega) hb) (by rw [List.length_cons]; omega) (by rw [List.length_cons]; omega) (by rw [List.length_cons]; exact he)
  exact ⟨σ', h1, h2, h3, h4, h5, hl, hk, hc⟩
/-- the free pages -/
def FL (σ : Sg) (F : List Nat) : Prop := gi σ 1 0 2 = nI F.length ∧ F.length ≤ 240 ∧ (∀ k, k < F.length → gi σ 12 0 k = nI (F.getD k 0)) ∧ ∀ x ∈ F, x < 240
theorem fresh_FL {σ : Sg} {F : List Nat} {x : Nat} (h : FL σ (F ++ [x])) : f_Pg_fresh σ = some (nI x, si σ 1 0 2 (nI F.length)) ∧ FL (si σ 1 0 2 (nI F.length)) F ∧ x < 240 := by
  obtain ⟨h1, h2, h3, h4⟩ := h
  rw [List.length_append, List.length_singleton] at h1 h2 h3
  refine ⟨?_, ⟨gi_eq, by omega, fun k hk => ?_, fun y hy => h4 y (List.mem_append_left _ hy)⟩, h4 x (List.mem_append_right _ List.mem_cons_self)⟩
  · unfold f_Pg_fresh
    rw [lt_eq, h1, nI_pred, gi_eq, chk_pos (vp_in_nI (by omega) (by decide)), nI_clamp (by omega), gi_ne (by omega), h3 F.length (by omega), List.getD_eq_getElem?_getD, List.getElem?_append_right (Nat.le_refl _), Nat.sub_self]
    rfl
  · rw [gi_ne (by omega), h3 k (by omega), List.getD_eq_getElem?_getD, List.getD_eq_getElem?_getD, List.getElem?_append_left hk]
theorem back_FL {σ : Sg} {F : List Nat} {x : Nat} (h : FL σ F) (hx : x < 240) (hl : F.length < 240) : f_Pg_giveBack (nI x) σ = some (si (si σ 12 0 F.length (nI x)) 1 0 2 (nI (F.length + 1))) ∧ FL (si (si σ 12 0 F.length (nI x)) 1 0 2 (nI (F.length + 1))) (F ++ [x]) := by
  obtain ⟨h1, h2, h3, h4⟩ := h
  refine ⟨?_, ⟨by rw [gi_eq, List.length_append, List.length_singleton], by rw [List.length_append, List.length_singleton]; omega, fun k hk => ?_, fun y hy => ?_⟩⟩
  · unfold f_Pg_giveBack
    rw [h1, chk_pos (vp_in_nI hl (by decide)), nI_clamp (by omega), lt_eq, lt_eq, gi_ne (by omega), h1, nI_1]
  · rw [List.length_append, List.length_singleton] at hk
    rw [gi_ne (by omega)]
    by_cases hk2 : k = F.length
    · subst hk2
      rw [gi_eq, List.getD_eq_getElem?_getD, List.getElem?_append_right (Nat.le_refl _), Nat.sub_self]
      rfl
    · rw [gi_ne (by omega), h3 k (by omega), List.getD_eq_getElem?_getD, List.getD_eq_getElem?_getD, List.getElem?_append_left (by omega)]
  · rcases List.mem_append.mp hy with hy | hy
    · exact h4 y hy
    · rw [List.mem_singleton.mp hy]; exact hx
