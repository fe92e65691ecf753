/-! the plain law: a row is taken out of its leaf -/
theorem rem_buf {t n p d : Nat} {c0 : Cel} {pre post : List Cel} {σ : Sg} (h4 : n ≤ 4) (hn : gi σ 3 t 2 = nI n) (hp : p < 240) (hPL : PL σ p (pre ++ c0 :: post)) (hc : ∀ c ∈ pre ++ c0 :: post, c.2.length = n) (hd : gi σ 3 t 6 = nI d) (hd2 : d < 100) (hw : gi σ 13 t d = nI p) (h7 : gi σ 3 t 7 = nI (2 + (lB pre).length)) (h8 : gi σ 3 t 8 = nI (2 + (lB pre).length + (encC c0).length)) :
    ∃ σ1, cg (fun z => z = p) σ σ1 ∧ (∀ a, a ≠ 2 → ∀ b c, ¬ (a = 10 ∧ (b = p ∨ 240 ≤ b)) → gi σ1 a b c = gi σ a b c) ∧ PL σ1 p (pre ++ post) ∧
      ∀ k : Int32 → Sg → Option Sg, bn2 (f_Tr_leaf t σ) (fun r5 σ3 => bn2 (f_Tr_size t r5 σ3) (fun r8 σ6 => bn2 (f_Pg_open r5 σ6) (fun r11 σ9 => lt_ (si σ9 2 (240 + t) 1 0) (fun σ13 => (f_Tp_copy (240 + t) r11 2 (gi σ13 3 t 7) σ13).bind (fun σ14 => (f_Tp_copy (240 + t) r11 (gi σ14 3 t 8) r8 σ14).bind (fun σ16 => bn2 (f_Pg_cells r5 σ16) (fun r20 σ18 => (f_Tr_fill t r5 1 (r20 - 1) 0 (gi σ18 2 (240 + t) 1) σ18).bind (fun σ21 => k r5 σ21)))))))) = k (nI p) σ1 := by
  have h4c : ∀ c ∈ pre ++ c0 :: post, c.2.length ≤ 4 := fun c hcc => by rw [hc c hcc]; exact h4
  have h4d : ∀ c ∈ pre ++ post, c.2.length ≤ 4 := fun c hcc => h4c c (by
    rcases List.mem_append.mp hcc with hcc | hcc
    · exact List.mem_append_left _ hcc
    · exact List.mem_append_right _ (List.mem_cons_of_mem _ hcc))
  have hl := hPL.2.2.2
  have hs := hPL.2.2.1
  have hlab : (lB (pre ++ c0 :: post)).length = (lB pre).length + ((encC c0).length + (lB post).length) := by rw [lB_app, List.length_append, lB, List.length_append]
  have hlab2 : (lB (pre ++ post)).length = (lB pre).length + (lB post).length := by rw [lB_app, List.length_append]
  rw [lB_app, lB] at hs
  obtain ⟨hsa, hsb⟩ := sp_app.mp hs
  obtain ⟨-, hsb⟩ := sp_app.mp hsb
  have hne : 240 + t ≠ p := by omega
  generalize hτ0 : sA (sA (sA σ p (2 + (lB (pre ++ c0 :: post)).length)) p 2) (240 + t) 0 = τ0
  have k0 : ∀ a, a ≠ 2 → ∀ b c, gi τ0 a b c = gi σ a b c := fun a ha b c => by rw [← hτ0, gi_sA10 _ _ _ _ _ _ ha, gi_sA10 _ _ _ _ _ _ ha, gi_sA10 _ _ _ _ _ _ ha]
  have a0 : gi τ0 2 (240 + t) 1 = nI 0 := by rw [← hτ0, at_sA]
  have kw : ∀ bs, ∀ a, a ≠ 2 → ∀ b c, ¬ (a = 10 ∧ 240 ≤ b) → gi (wt τ0 (240 + t) 0 bs) a b c = gi σ a b c := fun bs a ha b c hn => by
    unfold wt
    rw [gi_sA10 _ _ _ _ _ _ ha, gi_bw, if_neg (fun z => hn ⟨z.1, by omega⟩)]
    exact k0 a ha b c
  have c1 : f_Tp_copy (240 + t) p 2 (nI (2 + (lB pre).length)) τ0 = some (wt τ0 (240 + t) 0 (lB pre)) := copy_eq (a := 2) hne a0 (by rw [wk_len]; omega) (by rw [pg_len hp]; omega) (sp_congr (fun j => k0 10 (by decide) p j) hsa) (fun b hb => lB_lt (fun c hcc => h4c c (List.mem_append_left _ hcc)) hb) rfl
  have c4 : f_Tp_copy (240 + t) p (nI (2 + (lB pre).length + (encC c0).length)) (nI (2 + (lB (pre ++ c0 :: post)).length)) (wt τ0 (240 + t) 0 (lB pre)) = some (wt τ0 (240 + t) 0 (lB (pre ++ post))) := by
    rw [copy_eq (a := 2 + (lB pre).length + (encC c0).length) (bs := lB post) (p := 0 + (lB pre).length) hne (wt_at _ _ _ _) (by rw [wk_len]; omega) (by rw [pg_len hp]; omega) (sp_congr (fun j => kw _ 10 (by decide) p j (by omega)) hsb) (fun b hb => lB_lt (fun c hcc => h4c c (List.mem_append_right _ (List.mem_cons_of_mem _ hcc))) hb) (by omega), wt_wt, lB_app]
  generalize hτ1 : wt τ0 (240 + t) 0 (lB (pre ++ post)) = τ1 at c4
  have k1 : ∀ a, a ≠ 2 → ∀ b c, ¬ (a = 10 ∧ 240 ≤ b) → gi τ1 a b c = gi σ a b c := by rw [← hτ1]; exact kw _
  have hsp1 : sp τ1 (240 + t) 0 (lB (pre ++ post)) := by rw [← hτ1]; exact sp_wt _ _ _ _
  have at1 : gi τ1 2 (240 + t) 1 = nI (lB (pre ++ post)).length := by rw [← hτ1, wt_at, Nat.zero_add]
  have hcgτ : cg (fun z => z = p) σ τ1 := by rw [← hτ1, ← hτ0]; exact ((cg_sA.tr cg_sA).tr cg_sA).tr cg_wk
  obtain ⟨σ1, q1, q2, q3⟩ := fill_L (t := t) (p := p) (a := 0) (e := (lB (pre ++ post)).length) hp h4d hsp1 (by omega) (by omega) (by omega)
  refine ⟨σ1, hcgτ.tr (cg_onP q2 rfl), fun a ha b c hn => (q2.1 a b c (fun z => by omega)).trans (k1 a ha b c (fun z => hn ⟨z.1, Or.inr z.2⟩)), q3, ?_⟩
  intro k
  unfold f_Tr_leaf
  have e0 : si (sA (sA σ p (2 + (lB (pre ++ c0 :: post)).length)) p 2) 2 (240 + t) 1 0 = τ0 := hτ0
  have e5 : nI (pre ++ c0 :: post).length - 1 = nI (pre ++ post).length := by
    rw [List.length_append, List.length_cons, ← Nat.add_assoc, nI_pred, List.length_append]
  rw [show nI 0 = (0 : Int32) from rfl] at q1
  rw [hd, chk_pos (vp_in_nI hd2 (by decide)), nI_clamp (by omega), hw, bn2_eq, size_L hp hPL (fun c hcc => ⟨h4c c hcc, by rw [hc c hcc]; exact hn⟩), bn2_eq, open_eq hp, bn2_eq, lt_eq, e0, k0 3 (by decide) t 7, h7, c1, bnd_eq, kw _ 3 (by decide) t 8 (by omega), h8, c4, bnd_eq, cells_eq hp, bn2_eq, k1 10 (by decide) p 1 (by omega), hPL.2.1, e5, at1, q1, bnd_eq]
