/-! the plain law: an inner page is parted -/
theorem cg_mid {S : Nat → Prop} {σ : Sg} {t : Nat} {x : Int32} : cg S σ (si σ 3 t 13 x) := ⟨fun a b c _ _ _ _ h5 => by rw [gi_ne (fun z => h5 ⟨z.1, z.2.2⟩)], fun _ _ _ _ => rfl, fun _ _ _ => rfl, rfl⟩
theorem cg_mk {S : Nat → Prop} {σ : Sg} {t : Nat} {x : Int64} : cg S σ (sj σ 3 t 12 x) := ⟨fun _ _ _ _ _ _ _ _ => rfl, fun a b c h => by rw [gj_sj, if_neg (fun z => h ⟨z.1, z.2.2⟩)], fun _ _ _ => rfl, rfl⟩
theorem part_eq {t q k0 y : Nat} {cs : List ICel} {F : List Nat} {σ : Sg} (hq : q < 240) (hk : k0 < 240) (hc : ∀ c ∈ cs, c.2 < 240) (h1 : 126 < 1 + (iB cs).length) (h2 : 1 + (iB cs).length ≤ 137) (ha : gi σ 2 (240 + t) 1 = nI (1 + (iB cs).length)) (hs : sp σ (240 + t) 0 (k0 :: iB cs)) (hF : FL σ (F ++ [y])) (hqy : q ≠ y) :
    ∃ A c B σ4, cs = A ++ c :: B ∧ A ≠ [] ∧ B ≠ [] ∧ f_Tr_part t (nI q) (nI cs.length) σ = some σ4 ∧ FL σ4 F ∧ PI σ4 q k0 A ∧ PI σ4 y c.2 B ∧ gj σ4 3 t 12 = c.1 ∧ gi σ4 3 t 13 = nI y ∧ cg (fun p => p = q ∨ p = y) σ σ4 := by
  obtain ⟨-, hs1⟩ := sp_cons.mp hs
  obtain ⟨Lb, Lc, r1, r2, r3, r4⟩ := splitI_loop (t := t) (U := 1 + (iB cs).length) (by omega) cs [] (sA σ (240 + t) 1) FU (by simp) (by rw [at_sA]; rfl) (sp_sA.mpr hs1) (by have := iB_cnt cs; unfold FU; omega)
  rw [List.nil_append] at r2 r3
  have hU : (iB cs).length = (iB Lb).length + (iB Lc).length := by rw [r1, iB_app, List.length_append]
  obtain ⟨Ld, c0, rfl, hlt⟩ : ∃ Ld c, Lb = Ld ++ [c] ∧ 1 + (iB Ld).length < (1 + (iB cs).length) / 2 := by
    rcases r4 with rfl | ⟨Ld, c, h, h'⟩
    · exfalso
      have : (iB ([] : List ICel)).length = 0 := rfl
      omega
    · exact ⟨Ld, c, h, h'⟩
  have hlc : (iB (Ld ++ [c0])).length = (iB Ld).length + (encI c0).length := by rw [iB_app, List.length_append, iB, iB, List.append_nil]
  have he := encI_len c0
  obtain ⟨c, B, rfl⟩ : ∃ c B, Lc = c :: B := by
    cases Lc with
    | nil =>
      exfalso
      have : (iB ([] : List ICel)).length = 0 := rfl
      omega
    | cons c B => exact ⟨c, B, rfl⟩
  have hAne : Ld ++ [c0] ≠ [] := by simp
  generalize Ld ++ [c0] = A at *
  have hec := encI_len c
  have hlB : (iB (c :: B)).length = (encI c).length + (iB B).length := by rw [iB, List.length_append]
  have heI : (encI c).length = (enc c.1).length + 1 := by unfold encI; rw [List.length_append, List.length_singleton]
  have hBne : B ≠ [] := by
    rintro rfl
    have : (iB ([] : List ICel)).length = 0 := rfl
    omega
  have hLn : cs.length = A.length + (B.length + 1) := by rw [r1, List.length_append, List.length_cons]
  rw [r1, iB_app, ← List.cons_append] at hs
  obtain ⟨hsA, hsB⟩ := sp_app.mp hs
  rw [Nat.zero_add, List.length_cons, Nat.add_comm (iB A).length 1] at hsB
  rw [iB] at hsB
  obtain ⟨hsc, hsB⟩ := sp_app.mp hsB
  have hsc1 := hsc
  unfold encI at hsc
  obtain ⟨hsc, hsd⟩ := sp_app.mp hsc
  have hsd0 := (sp_cons.mp hsd).1
  have hsk : sp σ (240 + t) (1 + (iB A).length + (enc c.1).length) (c.2 :: iB B) := sp_cons.mpr ⟨hsd0, by rw [heI, ← Nat.add_assoc] at hsB; exact hsB⟩
  have htk : f_Tp_takeNumber (240 + t) (sA σ (240 + t) (1 + (iB A).length)) = some (c.1, sA σ (240 + t) (1 + (iB A).length + (enc c.1).length)) := by
    rw [takeNumber_eq (at_sA _ _ _) (by rw [wk_len]; omega) (sp_sA.mpr hsc), sA_sA]
  generalize hσ1 : sj (sA σ (240 + t) (1 + (iB A).length + (enc c.1).length)) 3 t 12 c.1 = σ1
  have hF1 : FL σ1 (F ++ [y]) := by rw [← hσ1]; exact FL_congr (by rw [gi_sj, gi_sA10 _ _ _ _ _ _ (by decide)]) (fun k => by rw [gi_sj, gi_sA10 _ _ _ _ _ _ (by decide)]) hF
  obtain ⟨hfr, hFL, hy⟩ := fresh_FL hF1
  generalize hσ2 : si (si σ1 1 0 2 (nI F.length)) 3 t 13 (nI y) = σ2
  have hFL2 : FL σ2 F := by rw [← hσ2]; exact FL_congr (by rw [gi_ne (by omega)]) (fun k => by rw [gi_ne (by omega)]) hFL
  have hsp2 : ∀ p bs, sp σ (240 + t) p bs → sp σ2 (240 + t) p bs := fun p bs h => by
    rw [← hσ2, ← hσ1]
    exact sp_congr (fun j => by rw [gi_ne (by omega), gi_ne (by omega), gi_sj, gi_sA10 _ _ _ _ _ _ (by decide)]) h
  have hcg2 : cg (fun p => p = q ∨ p = y) σ σ2 := by rw [← hσ2, ← hσ1]; exact ((cg_sA.tr cg_mk).tr cg_left).tr cg_mid
  have hmid : gi σ2 3 t 13 = nI y := by rw [← hσ2, gi_eq]
  have hmk : gj σ2 3 t 12 = c.1 := by rw [← hσ2, gj_si, gj_si, ← hσ1, gj_sj, if_pos ⟨rfl, rfl, rfl⟩]
  have hcc : c.2 < 240 := hc c (by rw [r1]; exact List.mem_append_right _ List.mem_cons_self)
  obtain ⟨σ3, f1, f2, f3⟩ := fill_I (t := t) (e := 1 + (iB cs).length) (cs := B) hy hcc (fun z hz => hc z (by rw [r1]; exact List.mem_append_right _ (List.mem_cons_of_mem _ hz))) (hsp2 _ _ hsk) (by omega) (by omega) (by omega)
  obtain ⟨σ4, g1, g2, g3⟩ := fill_I (t := t) (p := q) (a := 0) (e := 1 + (iB A).length) (cs := A) hq hk (fun z hz => hc z (by rw [r1]; exact List.mem_append_left _ hz)) (sp_onP f2 (by omega) (hsp2 _ _ hsA)) (by omega) (by omega) (by omega)
  refine ⟨A, c, B, σ4, r1, hAne, hBne, ?_, FL_onP g2 (FL_onP f2 hFL2), g3, PI_congr (fun j => g2.1 _ _ _ (by omega)) f3, (g2.2.1 _ _ _).trans ((f2.2.1 _ _ _).trans hmk), (g2.1 _ _ _ (by omega)).trans ((f2.1 _ _ _ (by omega)).trans hmid), (hcg2.tr (cg_onP f2 (Or.inr rfl))).tr (cg_onP g2 (Or.inl rfl))⟩
  unfold f_Tr_part l_Tr_part_19
  have e0 : si σ 2 (240 + t) 1 1 = sA σ (240 + t) 1 := rfl
  rw [show nI ([] : List ICel).length = (0 : Int32) from rfl, sA_sA] at r2
  have e5 : nI cs.length - nI A.length - 1 = nI B.length := by
    rw [nI_sub (by omega), show cs.length - A.length = B.length + 1 by omega, ← nI_1, Int32.add_sub_cancel]
  have at1 : gi σ1 2 (240 + t) 1 = nI (1 + (iB A).length + (enc c.1).length) := by rw [← hσ1, gi_sj, at_sA]
  rw [lt_eq, lt_eq, ha, e0, r2, bn2_eq, lt_eq, at_sA, htk, bn2_eq, lt_eq, hσ1, lt_eq, hfr, bn2_eq, lt_eq, hσ2, hmid, e5, at1, f1, bnd_eq]
  rw [show nI 0 = (0 : Int32) from rfl] at g1
  rw [g1, bnd_eq]
