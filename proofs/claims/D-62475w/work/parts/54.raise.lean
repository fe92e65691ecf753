/-! the plain law: an inner page gets a child more; the root goes one level down -/
theorem widen_eq {t q k0 x y : Nat} {f : Int64} {ca cb : List ICel} {F : List Nat} {σ : Sg} (hq : q < 240) (hx : x < 240) (h : PI σ q k0 (ca ++ cb)) (hF : FL σ (F ++ [y])) (hqy : q ≠ y) :
    (∃ σ', f_Tr_widen t (nI q) (nI ca.length) f (nI x) σ = some (0, σ') ∧ PI σ' q k0 (ca ++ (f, x) :: cb) ∧ FL σ' (F ++ [y]) ∧ cg (fun p => p = q) σ σ') ∨
    (∃ A c B σ', ca ++ (f, x) :: cb = A ++ c :: B ∧ A ≠ [] ∧ B ≠ [] ∧ f_Tr_widen t (nI q) (nI ca.length) f (nI x) σ = some (1, σ') ∧ PI σ' q k0 A ∧ PI σ' y c.2 B ∧ gj σ' 3 t 12 = c.1 ∧ gi σ' 3 t 13 = nI y ∧ FL σ' F ∧ cg (fun p => p = q ∨ p = y) σ σ') := by
  obtain ⟨σ1, h1, h2, h3, h4, h5, h6⟩ := widen_buf (t := t) (f := f) hq hx h
  have hk0 := h.2.2.2.2.1
  have hc : ∀ c ∈ ca ++ (f, x) :: cb, c.2 < 240 := fun c hcc => by
    rcases List.mem_append.mp hcc with hcc | hcc
    · exact h.2.2.2.2.2 c (List.mem_append_left _ hcc)
    · rcases List.mem_cons.mp hcc with rfl | hcc
      · exact hx
      · exact h.2.2.2.2.2 c (List.mem_append_right _ hcc)
  have hF1 : FL σ1 (F ++ [y]) := FL_congr (h2 1 (by decide) _ _ (by omega)) (fun k => h2 12 (by decide) _ _ (by omega)) hF
  have hlen : (iB (ca ++ (f, x) :: cb)).length = (iB (ca ++ cb)).length + (encI (f, x)).length := by
    rw [iB_app, iB_app, iB]
    simp only [List.length_append]
    omega
  have he := encI_len (f, x)
  have hl := h.2.2.2.1
  by_cases hU : 126 < 1 + (iB (ca ++ (f, x) :: cb)).length
  · right
    obtain ⟨A, c, B, σ4, r1, r2, r3, r4, r5, r6, r7, r8, r9, r10⟩ := part_eq hq hk0 hc hU (by omega) h5 h4 hF1 hqy
    refine ⟨A, c, B, σ4, r1, r2, r3, ?_, r6, r7, r8, r9, r5, (h1.mono (fun _ z => z.elim)).tr r10⟩
    rw [h6, if_pos (Int32.not_le.mp (fun z => absurd ((le126 (by omega)).mp z) (by omega))), r4, bnd_eq]
  · left
    obtain ⟨σ', f1, f2, f3⟩ := fill_I (t := t) (p := q) (a := 0) (e := 1 + (iB (ca ++ (f, x) :: cb)).length) hq hk0 hc h4 (by omega) (by omega) (by omega)
    refine ⟨σ', ?_, f3, FL_onP f2 hF1, (h1.mono (fun _ z => z.elim)).tr (cg_onP f2 rfl)⟩
    rw [show nI 0 = (0 : Int32) from rfl] at f1
    rw [h6, if_neg (fun z => absurd ((le126 (by omega)).mpr (by omega)) (Int32.not_le.mpr z)), f1, bnd_eq]
theorem become_buf {t r y : Nat} {bs : List Nat} {σ : Sg} (hr : r < 240) (hsz : f_Tr_size t (nI r) σ = some (nI (2 + bs.length), sA σ r (2 + bs.length))) (hs : sp σ r 2 bs) (hb : ∀ b ∈ bs, b < 256) (hl : bs.length ≤ 126) :
    ∃ τ, f_Tr_become t (nI y) (nI r) σ = (f_Tr_fill t (nI y) (if gi σ 10 r 0 = 1 then 1 else 0) (gi σ 10 r 1) (nI 0) (nI bs.length) τ).bind (fun σ17 => some σ17) ∧ sp τ (240 + t) 0 bs ∧ (∀ a, a ≠ 2 → ∀ b c, ¬ (a = 10 ∧ 240 ≤ b) → gi τ a b c = gi σ a b c) ∧ cg (fun _ => False) σ τ := by
  have hne : 240 + t ≠ r := by omega
  generalize hτ0 : sA (sA (sA σ r (2 + bs.length)) (240 + t) 0) r 2 = τ0
  have k0 : ∀ a, a ≠ 2 → ∀ b c, gi τ0 a b c = gi σ a b c := fun a ha b c => by rw [← hτ0, gi_sA10 _ _ _ _ _ _ ha, gi_sA10 _ _ _ _ _ _ ha, gi_sA10 _ _ _ _ _ _ ha]
  have a0 : gi τ0 2 (240 + t) 1 = nI 0 := by
    rw [← hτ0]
    show gi (si _ 2 r 1 (nI 2)) 2 (240 + t) 1 = nI 0
    rw [gi_ne (by omega), at_sA]
  have c1 : f_Tp_copy (240 + t) r 2 (nI (2 + bs.length)) τ0 = some (wt τ0 (240 + t) 0 bs) := copy_eq (a := 2) hne a0 (by rw [wk_len]; omega) (by rw [pg_len hr]; omega) (sp_congr (fun j => k0 10 (by decide) r j) hs) hb rfl
  generalize hτ1 : wt τ0 (240 + t) 0 bs = τ1 at c1
  have k1 : ∀ a, a ≠ 2 → ∀ b c, ¬ (a = 10 ∧ 240 ≤ b) → gi τ1 a b c = gi σ a b c := fun a ha b c hn => by
    rw [← hτ1]
    unfold wt
    rw [gi_sA10 _ _ _ _ _ _ ha, gi_bw, if_neg (fun z => hn ⟨z.1, by omega⟩)]
    exact k0 a ha b c
  have at1 : gi τ1 2 (240 + t) 1 = nI bs.length := by rw [← hτ1, wt_at, Nat.zero_add]
  refine ⟨τ1, ?_, by rw [← hτ1]; exact sp_wt _ _ _ _, k1, ⟨fun a b c x1 _ _ x4 _ => k1 a x1 b c (fun z => x4 ⟨z.1, Or.inr z.2⟩), fun a b c _ => ?_, fun a b c => ?_, ?_⟩⟩
  · unfold f_Tr_become
    have e0 : si (sA σ r (2 + bs.length)) 2 (240 + t) 1 0 = sA (sA σ r (2 + bs.length)) (240 + t) 0 := rfl
    rw [hsz, bn2_eq, lt_eq, e0, open_eq hr, bn2_eq, hτ0, c1, bnd_eq, isLeaf_eq hr, bn2_eq, cells_eq hr, bn2_eq, at1, k1 10 (by decide) r 0 (by omega), k1 10 (by decide) r 1 (by omega)]
    rfl
  · rw [← hτ1, ← hτ0]; rfl
  · rw [← hτ1, ← hτ0]; rfl
  · rw [← hτ1, ← hτ0]; rfl
theorem become_L {t r y : Nat} {cs : List Cel} {σ : Sg} {F : List Nat} (hr : r < 240) (hy : y < 240) (h : PL σ r cs) (hc : ∀ c ∈ cs, c.2.length ≤ 4 ∧ gi σ 3 t 2 = nI c.2.length) (hF : FL σ F) :
    ∃ σ', f_Tr_become t (nI y) (nI r) σ = some σ' ∧ PL σ' y cs ∧ FL σ' F ∧ cg (fun p => p = y) σ σ' := by
  obtain ⟨τ, h1, h2, h3, h4⟩ := become_buf (t := t) (y := y) hr (size_L hr h hc) h.2.2.1 (fun b hb => lB_lt (fun c hcc => (hc c hcc).1) hb) h.2.2.2
  obtain ⟨σ', f1, f2, f3⟩ := fill_L (t := t) (p := y) (a := 0) (e := (lB cs).length) hy (fun c hcc => (hc c hcc).1) h2 h.2.2.2 (by have := h.2.2.2; omega) (by omega)
  refine ⟨σ', ?_, f3, FL_onP f2 (FL_congr (h3 1 (by decide) _ _ (by omega)) (fun k => h3 12 (by decide) _ _ (by omega)) hF), (h4.mono (fun _ z => z.elim)).tr (cg_onP f2 rfl)⟩
  rw [h1, if_pos h.1, h.2.1, f1, bnd_eq]
theorem become_I {t r y k0 : Nat} {cs : List ICel} {σ : Sg} {F : List Nat} (hr : r < 240) (hy : y < 240) (h : PI σ r k0 cs) (hF : FL σ F) :
    ∃ σ', f_Tr_become t (nI y) (nI r) σ = some σ' ∧ PI σ' y k0 cs ∧ FL σ' F ∧ cg (fun p => p = y) σ σ' := by
  have hk := h.2.2.2.2.1
  have hl := h.2.2.2.1
  obtain ⟨τ, h1, h2, h3, h4⟩ := become_buf (t := t) (y := y) (bs := k0 :: iB cs) hr (by rw [List.length_cons, show 2 + ((iB cs).length + 1) = 3 + (iB cs).length by omega]; exact size_I hr h) h.2.2.1 (fun b hb => by
    rcases List.mem_cons.mp hb with rfl | hb
    · omega
    · exact iB_lt (fun c hcc => by have := h.2.2.2.2.2 c hcc; omega) hb) (by rw [List.length_cons]; omega)
  obtain ⟨σ', f1, f2, f3⟩ := fill_I (t := t) (p := y) (a := 0) (e := (k0 :: iB cs).length) hy hk h.2.2.2.2.2 h2 hl (by omega) (by rw [List.length_cons]; omega)
  refine ⟨σ', ?_, f3, FL_onP f2 (FL_congr (h3 1 (by decide) _ _ (by omega)) (fun k => h3 12 (by decide) _ _ (by omega)) hF), (h4.mono (fun _ z => z.elim)).tr (cg_onP f2 rfl)⟩
  rw [h1, if_neg (by rw [h.1]; decide), h.2.1, f1, bnd_eq]
theorem raise_eq {t r x y : Nat} {f : Int64} {F : List Nat} {σ : Sg} {Q : Sg → Prop} (hr : r < 240) (hx : x < 240) (hry : r ≠ y) (hroot : gi σ 3 t 1 = nI r) (hF : FL σ (F ++ [y])) (hb : ∀ τ, FL τ F → (∀ j, gi τ 10 r j = gi σ 10 r j) → gi τ 3 t 2 = gi σ 3 t 2 → ∃ σ2, f_Tr_become t (nI y) (nI r) τ = some σ2 ∧ Q σ2 ∧ FL σ2 F ∧ cg (fun p => p = y) τ σ2) (hQ : ∀ τ τ' : Sg, (∀ j, gi τ' 10 y j = gi τ 10 y j) → Q τ → Q τ') :
    ∃ σ', f_Tr_raise t f (nI x) σ = some σ' ∧ PI σ' r y [(f, x)] ∧ Q σ' ∧ FL σ' F ∧ cg (fun p => p = r ∨ p = y) σ σ' := by
  obtain ⟨hfr, hFL, hy⟩ := fresh_FL hF
  obtain ⟨σ2, b1, b2, b3, b4⟩ := hb (si σ 1 0 2 (nI F.length)) hFL (fun j => by rw [gi_ne (by omega)]) (by rw [gi_ne (by omega)])
  have hroot2 : gi σ2 3 t 1 = nI r := by rw [b4.1 3 t 1 (by decide) (by decide) (by decide) (by omega) (by omega), gi_ne (by omega)]; exact hroot
  have hef := enc_len f
  have c1 : f_Tp_one (240 + t) (nI y) (sA σ2 (240 + t) 0) = some (wt (sA σ2 (240 + t) 0) (240 + t) 0 [y]) := one_n (at_sA _ _ _) (by rw [wk_len]; omega)
  have c2 : f_Tp_number (240 + t) f (wt (sA σ2 (240 + t) 0) (240 + t) 0 [y]) = some (wt (sA σ2 (240 + t) 0) (240 + t) 0 ([y] ++ enc f)) := by
    rw [number_eq (p := 0 + [y].length) (wt_at _ _ _ _) (by rw [wk_len, List.length_singleton]; omega), wt_wt]
  have c3 : f_Tp_one (240 + t) (nI x) (wt (sA σ2 (240 + t) 0) (240 + t) 0 ([y] ++ enc f)) = some (wt (sA σ2 (240 + t) 0) (240 + t) 0 (([y] ++ enc f) ++ [x])) := by
    rw [one_n (p := 0 + ([y] ++ enc f).length) (wt_at _ _ _ _) (by rw [wk_len, List.length_append, List.length_singleton]; omega), wt_wt]
  have hbs : ([y] ++ enc f) ++ [x] = y :: iB [(f, x)] := by
    rw [iB, iB]
    unfold encI
    simp
  rw [hbs] at c3
  generalize hτ : wt (sA σ2 (240 + t) 0) (240 + t) 0 (y :: iB [(f, x)]) = τ at c3
  have kτ : ∀ a, a ≠ 2 → ∀ b c, ¬ (a = 10 ∧ 240 ≤ b) → gi τ a b c = gi σ2 a b c := fun a ha b c hn => by
    rw [← hτ]
    unfold wt
    rw [gi_sA10 _ _ _ _ _ _ ha, gi_bw, if_neg (fun z => hn ⟨z.1, by omega⟩), gi_sA10 _ _ _ _ _ _ ha]
  have hcgτ : cg (fun p => p = r ∨ p = y) σ2 τ := by rw [← hτ]; exact cg_sA.tr cg_wk
  have hlen : (iB [(f, x)]).length = (enc f).length + 1 := by
    rw [iB, iB, List.append_nil]
    unfold encI
    rw [List.length_append, List.length_singleton]
  have hspτ : sp τ (240 + t) 0 (y :: iB [(f, x)]) := by rw [← hτ]; exact sp_wt _ _ _ _
  have atτ : gi τ 2 (240 + t) 1 = nI (0 + (y :: iB [(f, x)]).length) := by rw [← hτ, wt_at]
  obtain ⟨σ', f1, f2, f3⟩ := fill_I (t := t) (p := r) (a := 0) (e := 0 + (y :: iB [(f, x)]).length) (cs := [(f, x)]) hr hy (fun c hc => by rcases List.mem_singleton.mp hc with rfl; exact hx) hspτ (by omega) (by omega) (by rw [List.length_cons])
  refine ⟨σ', ?_, f3, hQ σ2 σ' (fun j => (f2.1 _ _ _ (by omega)).trans (kτ 10 (by decide) y j (by omega))) b2, FL_onP f2 (FL_congr (kτ 1 (by decide) _ _ (by omega)) (fun k => kτ 12 (by decide) _ _ (by omega)) b3), ((cg_left.tr (b4.mono (fun p hp => Or.inr hp))).tr hcgτ).tr (cg_onP f2 (Or.inl rfl))⟩
  unfold f_Tr_raise
  have e0 : si σ2 2 (240 + t) 1 0 = sA σ2 (240 + t) 0 := rfl
  have e1 : gi (si σ 1 0 2 (nI F.length)) 3 t 1 = nI r := by rw [gi_ne (by omega)]; exact hroot
  rw [show nI 0 = (0 : Int32) from rfl, show nI [(f, x)].length = (1 : Int32) from rfl] at f1
  rw [hfr, bn2_eq, e1, b1, bnd_eq, lt_eq, e0, c1, bnd_eq, c2, bnd_eq, c3, bnd_eq, kτ 3 (by decide) t 1 (by omega), hroot2, atτ, f1, bnd_eq]
