/-! the plain law: a row is placed -/
theorem place_buf {t n p r d : Nat} {key : Int64} {pre post : List Cel} {vs : List (Option Int64)} {σ : Sg} (h4 : n ≤ 4) (hvn : vs.length = n) (hv : hV σ r vs) (hn : gi σ 3 t 2 = nI n) (hp : p < 240) (hPL : PL σ p (pre ++ post)) (hc : ∀ c ∈ pre ++ post, c.2.length = n) (hd : gi σ 3 t 6 = nI d) (hd2 : d < 100) (hw : gi σ 13 t d = nI p) (h7 : gi σ 3 t 7 = nI (2 + (lB pre).length)) :
    ∃ σ1, cg (fun _ => False) σ σ1 ∧ (∀ a, a ≠ 2 → ∀ b c, ¬ (a = 10 ∧ 240 ≤ b) → gi σ1 a b c = gi σ a b c) ∧ sp σ1 (240 + t) 0 (lB (pre ++ (key, vs) :: post)) ∧ gi σ1 2 (240 + t) 1 = nI (lB (pre ++ (key, vs) :: post)).length ∧
      ∀ k : Int32 → Sg → Option Sg, bn2 (f_Tr_leaf t σ) (fun r5 σ3 => bn2 (f_Tr_size t r5 σ3) (fun r8 σ6 => bn2 (f_Pg_open r5 σ6) (fun r11 σ9 => lt_ (si σ9 2 (240 + t) 1 0) (fun σ13 => (f_Tp_copy (240 + t) r11 2 (gi σ13 3 t 7) σ13).bind (fun σ14 => (f_Tp_number (240 + t) key σ14).bind (fun σ16 => (f_Rc_write r (240 + t) (gi σ16 3 t 2) σ16).bind (fun σ18 => (f_Tp_copy (240 + t) r11 (gi σ18 3 t 7) r8 σ18).bind (fun σ20 => k r5 σ20)))))))) = k (nI p) σ1 := by
  have h4c : ∀ c ∈ pre ++ post, c.2.length ≤ 4 := fun c hcc => by rw [hc c hcc]; exact h4
  have hl := hPL.2.2.2
  have hs := hPL.2.2.1
  have hlab : (lB (pre ++ post)).length = (lB pre).length + (lB post).length := by rw [lB_app, List.length_append]
  rw [lB_app] at hs
  obtain ⟨hsa, hsb⟩ := sp_app.mp hs
  have hne : 240 + t ≠ p := by omega
  have hef := enc_len key
  have heC := encC_len (c := (key, vs)) (by show vs.length ≤ 4; omega)
  have heC2 : (encC (key, vs)).length = (enc key).length + (mk vs :: encO vs).length := by unfold encC; rw [List.length_append]
  generalize hτ0 : sA (sA (sA σ p (2 + (lB (pre ++ post)).length)) p 2) (240 + t) 0 = τ0
  have k0 : ∀ a, a ≠ 2 → ∀ b c, gi τ0 a b c = gi σ a b c := fun a ha b c => by rw [← hτ0, gi_sA10 _ _ _ _ _ _ ha, gi_sA10 _ _ _ _ _ _ ha, gi_sA10 _ _ _ _ _ _ ha]
  have a0 : gi τ0 2 (240 + t) 1 = nI 0 := by rw [← hτ0, at_sA]
  have kw : ∀ bs, ∀ a, a ≠ 2 → ∀ b c, ¬ (a = 10 ∧ 240 ≤ b) → gi (wt τ0 (240 + t) 0 bs) a b c = gi σ a b c := fun bs a ha b c hn => by
    unfold wt
    rw [gi_sA10 _ _ _ _ _ _ ha, gi_bw, if_neg (fun z => hn ⟨z.1, by omega⟩)]
    exact k0 a ha b c
  have c1 : f_Tp_copy (240 + t) p 2 (nI (2 + (lB pre).length)) τ0 = some (wt τ0 (240 + t) 0 (lB pre)) := copy_eq (a := 2) hne a0 (by rw [wk_len]; omega) (by rw [pg_len hp]; omega) (sp_congr (fun j => k0 10 (by decide) p j) hsa) (fun b hb => lB_lt (fun c hcc => h4c c (List.mem_append_left _ hcc)) hb) rfl
  have c2 : f_Tp_number (240 + t) key (wt τ0 (240 + t) 0 (lB pre)) = some (wt τ0 (240 + t) 0 (lB pre ++ enc key)) := by
    rw [number_eq (p := 0 + (lB pre).length) (wt_at _ _ _ _) (by rw [wk_len]; omega), wt_wt]
  have c3 : f_Rc_write r (240 + t) (nI n) (wt τ0 (240 + t) 0 (lB pre ++ enc key)) = some (wt τ0 (240 + t) 0 ((lB pre ++ enc key) ++ (mk vs :: encO vs))) := by
    rw [← hvn, write_eq (p := 0 + (lB pre ++ enc key).length) (by omega) (fun k hk => ⟨(kw _ 5 (by decide) _ _ (by omega)).trans (hv k hk).1, by rw [← (hv k hk).2, ← hτ0]; rfl⟩) (wt_at _ _ _ _) (by rw [wk_len, List.length_append]; omega), wt_wt]
  have hlast : ((lB pre ++ enc key) ++ (mk vs :: encO vs)) ++ lB post = lB (pre ++ (key, vs) :: post) := by
    rw [lB_app, lB]
    unfold encC
    simp
  have c4 : f_Tp_copy (240 + t) p (nI (2 + (lB pre).length)) (nI (2 + (lB (pre ++ post)).length)) (wt τ0 (240 + t) 0 ((lB pre ++ enc key) ++ (mk vs :: encO vs))) = some (wt τ0 (240 + t) 0 (lB (pre ++ (key, vs) :: post))) := by
    rw [copy_eq (a := 2 + (lB pre).length) (bs := lB post) (p := 0 + ((lB pre ++ enc key) ++ (mk vs :: encO vs)).length) hne (wt_at _ _ _ _) (by rw [wk_len, List.length_append, List.length_append]; omega) (by rw [pg_len hp]; omega) (sp_congr (fun j => kw _ 10 (by decide) p j (by omega)) hsb) (fun b hb => lB_lt (fun c hcc => h4c c (List.mem_append_right _ hcc)) hb) (by omega), wt_wt, hlast]
  refine ⟨wt τ0 (240 + t) 0 (lB (pre ++ (key, vs) :: post)), ⟨fun a b c x1 _ _ x4 _ => kw _ a x1 b c (fun z => x4 ⟨z.1, Or.inr z.2⟩), fun a b c _ => by rw [← hτ0]; rfl, fun a b c => by rw [← hτ0]; rfl, by rw [← hτ0]; rfl⟩, kw _, sp_wt _ _ _ _, by rw [wt_at, Nat.zero_add], ?_⟩
  intro k
  unfold f_Tr_leaf
  have e0 : si (sA (sA σ p (2 + (lB (pre ++ post)).length)) p 2) 2 (240 + t) 1 0 = τ0 := hτ0
  rw [hd, chk_pos (vp_in_nI hd2 (by decide)), nI_clamp (by omega), hw, bn2_eq, size_L hp hPL (fun c hcc => ⟨h4c c hcc, by rw [hc c hcc]; exact hn⟩), bn2_eq, open_eq hp, bn2_eq, lt_eq, e0, k0 3 (by decide) t 7, h7, c1, bnd_eq, c2, bnd_eq, kw _ 3 (by decide) t 2 (by omega), hn, c3, bnd_eq, kw _ 3 (by decide) t 7 (by omega), h7, c4, bnd_eq]
/-- what a change of tree t may touch -/
def tg (S : Nat → Prop) (t : Nat) (σ σ' : Sg) : Prop := (∀ a b c, ¬ scr a b c → a ≠ 1 → a ≠ 12 → ¬ (a = 10 ∧ S b) → ¬ (a = 3 ∧ b = t ∧ c = 3) → gi σ' a b c = gi σ a b c) ∧ (∀ a b c, ¬ (a = 3 ∧ c = 12) → gj σ' a b c = gj σ a b c) ∧ (∀ a b c, gr σ' a b c = gr σ a b c) ∧ nt σ' = nt σ
theorem tg.tr {S : Nat → Prop} {t : Nat} {σ τ υ : Sg} (h1 : tg S t σ τ) (h2 : tg S t τ υ) : tg S t σ υ := ⟨fun a b c x1 x2 x3 x4 x5 => (h2.1 a b c x1 x2 x3 x4 x5).trans (h1.1 a b c x1 x2 x3 x4 x5), fun a b c h => (h2.2.1 a b c h).trans (h1.2.1 a b c h), fun a b c => (h2.2.2.1 a b c).trans (h1.2.2.1 a b c), h2.2.2.2.trans h1.2.2.2⟩
theorem tg_eqS {S : Nat → Prop} {t : Nat} {σ τ : Sg} (h : eqS σ τ) : tg S t σ τ := ⟨fun a b c x1 _ _ _ _ => h.1 a b c x1, h.2⟩
theorem tg_cg {S : Nat → Prop} {t : Nat} {σ τ : Sg} (h : cg S σ τ) : tg S t σ τ := ⟨fun a b c x1 x2 x3 x4 _ => h.1 a b c (fun z => x1 (Or.inl z)) x2 x3 (fun z => z.2.elim (fun y => x4 ⟨z.1, y⟩) (fun y => x1 (by unfold scr; omega))) (fun z => x1 (by unfold scr; omega)), h.2⟩
theorem tg_row {S : Nat → Prop} {t : Nat} {σ : Sg} {x : Int32} : tg S t σ (si σ 3 t 3 x) := ⟨fun a b c _ _ _ _ h => by rw [gi_ne h], fun _ _ _ _ => rfl, fun _ _ _ => rfl, rfl⟩
