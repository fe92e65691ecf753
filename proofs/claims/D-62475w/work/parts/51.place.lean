/-! the plain law: a leaf is parted -/
/-- what a change of the tree's pages leaves alone -/
def cg (S : Nat → Prop) (σ σ' : Sg) : Prop := (∀ a b c, a ≠ 2 → a ≠ 1 → a ≠ 12 → ¬ (a = 10 ∧ (S b ∨ 240 ≤ b)) → ¬ (a = 3 ∧ c = 13) → gi σ' a b c = gi σ a b c) ∧ (∀ a b c, ¬ (a = 3 ∧ c = 12) → gj σ' a b c = gj σ a b c) ∧ (∀ a b c, gr σ' a b c = gr σ a b c) ∧ nt σ' = nt σ
theorem cg.tr {S : Nat → Prop} {σ τ υ : Sg} (h1 : cg S σ τ) (h2 : cg S τ υ) : cg S σ υ := ⟨fun a b c x1 x2 x3 x4 x5 => (h2.1 a b c x1 x2 x3 x4 x5).trans (h1.1 a b c x1 x2 x3 x4 x5), fun a b c h => (h2.2.1 a b c h).trans (h1.2.1 a b c h), fun a b c => (h2.2.2.1 a b c).trans (h1.2.2.1 a b c), h2.2.2.2.trans h1.2.2.2⟩
theorem cg.mono {S S' : Nat → Prop} {σ τ : Sg} (h : cg S σ τ) (hs : ∀ b, S b → S' b) : cg S' σ τ := ⟨fun a b c x1 x2 x3 x4 x5 => h.1 a b c x1 x2 x3 (fun z => x4 ⟨z.1, z.2.imp (hs b) id⟩) x5, h.2⟩
theorem cg_rf (S : Nat → Prop) (σ : Sg) : cg S σ σ := ⟨fun _ _ _ _ _ _ _ _ => rfl, fun _ _ _ _ => rfl, fun _ _ _ => rfl, rfl⟩
theorem cg_sA {S : Nat → Prop} {σ : Sg} {i p : Nat} : cg S σ (sA σ i p) := ⟨fun a b c h _ _ _ _ => gi_sA10 _ _ _ _ _ _ h, fun _ _ _ _ => rfl, fun _ _ _ => rfl, rfl⟩
theorem cg_wk {S : Nat → Prop} {σ : Sg} {t p : Nat} {bs : List Nat} : cg S σ (wt σ (240 + t) p bs) := ⟨fun a b c h _ _ h4 _ => by
  unfold wt
  rw [gi_sA10 _ _ _ _ _ _ h, gi_bw, if_neg (fun z => h4 ⟨z.1, Or.inr (by omega)⟩)], fun _ _ _ _ => rfl, fun _ _ _ => rfl, rfl⟩
theorem cg_onP {S : Nat → Prop} {σ σ' : Sg} {p : Nat} (h : onP p σ σ') (hp : S p) : cg S σ σ' := ⟨fun a b c x1 _ _ x4 _ => h.1 a b c (fun z => by
  rcases z.1 with z1 | z1
  · exact x4 ⟨z1, Or.inl (by rw [z.2]; exact hp)⟩
  · exact x1 z1), fun a b c _ => h.2.1 a b c, h.2.2.1, h.2.2.2⟩
theorem cg_left {S : Nat → Prop} {σ : Sg} {x : Int32} : cg S σ (si σ 1 0 2 x) := ⟨fun a b c _ h2 _ _ _ => by rw [gi_ne (by omega)], fun _ _ _ _ => rfl, fun _ _ _ => rfl, rfl⟩
theorem FL_congr {σ σ' : Sg} {F : List Nat} (h1 : gi σ' 1 0 2 = gi σ 1 0 2) (h2 : ∀ k, gi σ' 12 0 k = gi σ 12 0 k) (h : FL σ F) : FL σ' F := ⟨h1.trans h.1, h.2.1, fun k hk => (h2 k).trans (h.2.2.1 k hk), h.2.2.2⟩
theorem FL_onP {σ σ' : Sg} {p : Nat} {F : List Nat} (ho : onP p σ σ') (h : FL σ F) : FL σ' F := FL_congr (ho.1 _ _ _ (by omega)) (fun k => ho.1 _ _ _ (by omega)) h
theorem FL_sA {σ : Sg} {i p : Nat} {F : List Nat} (h : FL σ F) : FL (sA σ i p) F := FL_congr (gi_sA10 _ _ _ _ _ _ (by decide)) (fun k => gi_sA10 _ _ _ _ _ _ (by decide)) h
theorem sp_onP {σ σ' : Sg} {p i q : Nat} {bs : List Nat} (ho : onP p σ σ') (hne : i ≠ p) (h : sp σ i q bs) : sp σ' i q bs := sp_congr (fun j => ho.1 _ _ _ (by omega)) h
theorem nI_sub {a b : Nat} (h : b ≤ a) : nI a - nI b = nI (a - b) := by
  obtain ⟨c, rfl⟩ : ∃ c, a = b + c := ⟨a - b, by omega⟩
  rw [show b + c - b = c by omega, ← nI_add, Int32.add_comm, Int32.add_sub_cancel]
theorem le126 {r : Nat} (h : r < 2 ^ 31) : nI r ≤ (126 : Int32) ↔ r ≤ 126 := nI_leI (b := 126) h (by decide)
theorem splitLeaf_eq {t n p x : Nat} {L : List Cel} {F : List Nat} {σ : Sg} (h4 : n ≤ 4) (hc : ∀ c ∈ L, c.2.length = n) (hn : gi σ 3 t 2 = nI n) (h1 : 126 < (lB L).length) (h2 : (lB L).length ≤ 177) (ha : gi σ 2 (240 + t) 1 = nI (lB L).length) (hs : sp σ (240 + t) 0 (lB L)) (hp : p < 240) (hF : FL σ (F ++ [x])) (hpx : p ≠ x) :
    ∃ A c B σ4, L = A ++ c :: B ∧ A ≠ [] ∧ f_Tr_splitLeaf t (nI p) (nI L.length) σ = f_Tr_above t c.1 (nI x) σ4 ∧ FL σ4 F ∧ PL σ4 p A ∧ PL σ4 x (c :: B) ∧ cg (fun q => q = p ∨ q = x) σ σ4 := by
  have h4c : ∀ c ∈ L, c.2.length ≤ 4 := fun c hcc => by rw [hc c hcc]; exact h4
  obtain ⟨Lb, Lc, b, r1, r2, r3, r4⟩ := splitL_loop (t := t) (U := (lB L).length) h4 (by omega) L [] 0 (sA σ (240 + t) 0) FU (by simpa using hc) (by rw [gi_sA10 _ _ _ _ _ _ (by decide)]; exact hn) (by simp) (by rw [at_sA]; rfl) (sp_sA.mpr hs) (by have := lB_cnt h4c; unfold FU; omega)
  rw [List.nil_append] at r2 r3
  have hU : (lB L).length = (lB Lb).length + (lB Lc).length := by rw [r1, lB_app, List.length_append]
  -- the two halves
  obtain ⟨A, B0, hL, hAne, hA, hB, hB0, hsel⟩ : ∃ A B0, L = A ++ B0 ∧ A ≠ [] ∧ (lB A).length ≤ 126 ∧ (lB B0).length ≤ 126 ∧ B0 ≠ [] ∧ (if nI (lB Lb).length ≤ (126 : Int32) then some (nI Lb.length, sA σ (240 + t) (lB Lb).length) else lt_ (si (sA σ (240 + t) (lB Lb).length) 2 (240 + t) 1 (nI b)) (fun σ24 => lt_ (nI Lb.length + (-1) : Int32) (fun (x25 : Int32) => some (x25, σ24)))) = some (nI A.length, sA σ (240 + t) (lB A).length) := by
    rcases r4 with ⟨rfl, -⟩ | ⟨Ld, c, rfl, hb, hlt⟩
    · exfalso
      have : (lB ([] : List Cel)).length = 0 := rfl
      omega
    · rw [List.nil_append] at hb hlt
      have hlc : (lB (Ld ++ [c])).length = (lB Ld).length + (encC c).length := by rw [lB_app, List.length_append, lB, lB, List.append_nil]
      have hcm : c ∈ L := by rw [r1]; exact List.mem_append_left _ (List.mem_append_right _ List.mem_cons_self)
      have he := encC_len (h4c c hcm)
      by_cases h126 : (lB (Ld ++ [c])).length ≤ 126
      · refine ⟨Ld ++ [c], Lc, r1, by simp, h126, by omega, ?_, ?_⟩
        · rintro rfl
          have : (lB ([] : List Cel)).length = 0 := rfl
          omega
        · rw [if_pos ((le126 (by omega)).mpr h126)]
      · refine ⟨Ld, c :: Lc, by rw [r1]; simp, ?_, by omega, ?_, by simp, ?_⟩
        · rintro rfl
          have : (lB ([] : List Cel)).length = 0 := rfl
          omega
        · rw [lB, List.length_append]; omega
        · rw [if_neg (fun z => h126 ((le126 (by omega)).mp z)), lt_eq, lt_eq, hb, List.length_append, List.length_singleton, ← Int32.sub_eq_add_neg, nI_pred]
          have e1 : si (sA σ (240 + t) (lB (Ld ++ [c])).length) 2 (240 + t) 1 (nI (lB Ld).length) = sA σ (240 + t) (lB Ld).length := sA_sA _ _ _ _
          rw [e1]
  obtain ⟨c, B, rfl⟩ : ∃ c B, B0 = c :: B := by
    cases B0 with
    | nil => exact absurd rfl hB0
    | cons c B => exact ⟨c, B, rfl⟩
  have hL2 : (lB L).length = (lB A).length + (lB (c :: B)).length := by rw [hL, lB_app, List.length_append]
  have hLn : L.length = A.length + (c :: B).length := by rw [hL, List.length_append]
  rw [hL, lB_app] at hs
  obtain ⟨hsA, hsB⟩ := sp_app.mp hs
  rw [Nat.zero_add] at hsB
  have hsc : sp σ (240 + t) (lB A).length (enc c.1) := by
    rw [lB] at hsB
    have h9 := (sp_app.mp hsB).1
    unfold encC at h9
    exact (sp_app.mp h9).1
  have hlc : (enc c.1).length ≤ (lB (c :: B)).length := by rw [lB, List.length_append]; unfold encC; rw [List.length_append]; omega
  have htk : f_Tp_takeNumber (240 + t) (sA σ (240 + t) (lB A).length) = some (c.1, sA σ (240 + t) ((lB A).length + (enc c.1).length)) := by
    rw [takeNumber_eq (at_sA _ _ _) (by rw [wk_len]; omega) (sp_sA.mpr hsc), sA_sA]
  obtain ⟨hfr, hFL, hx⟩ := fresh_FL (FL_sA (i := 240 + t) (p := (lB A).length + (enc c.1).length) hF)
  generalize hσ2 : si (sA σ (240 + t) ((lB A).length + (enc c.1).length)) 1 0 2 (nI F.length) = σ2 at hfr hFL
  have hsp2 : ∀ q bs, sp σ (240 + t) q bs → sp σ2 (240 + t) q bs := fun q bs h => by
    rw [← hσ2]
    exact sp_congr (fun j => by rw [gi_ne (by omega), gi_sA10 _ _ _ _ _ _ (by decide)]) h
  have hcg2 : cg (fun q => q = p ∨ q = x) σ σ2 := by rw [← hσ2]; exact cg_sA.tr cg_left
  obtain ⟨σ3, f1, f2, f3⟩ := fill_L (t := t) (e := (lB L).length) hx (fun z hz => h4c z (by rw [hL]; exact List.mem_append_right _ hz)) (hsp2 _ _ hsB) hB (by omega) hL2
  obtain ⟨σ4, g1, g2, g3⟩ := fill_L (t := t) (p := p) (a := 0) (e := (lB A).length) hp (fun z hz => h4c z (by rw [hL]; exact List.mem_append_left _ hz)) (sp_onP f2 (by omega) (hsp2 _ _ hsA)) hA (by omega) (by omega)
  refine ⟨A, c, B, σ4, hL, hAne, ?_, FL_onP g2 (FL_onP f2 hFL), g3, PL_congr (fun j => g2.1 _ _ _ (by omega)) f3, (hcg2.tr (cg_onP f2 (Or.inr rfl))).tr (cg_onP g2 (Or.inl rfl))⟩
  unfold f_Tr_splitLeaf l_Tr_splitLeaf_22
  have e0 : si σ 2 (240 + t) 1 0 = sA σ (240 + t) 0 := rfl
  rw [show nI ([] : List Cel).length = (0 : Int32) from rfl, show nI 0 = (0 : Int32) from rfl, sA_sA] at r2
  rw [lt_eq, lt_eq, ha, e0, r2, bn3_eq, at_sA, hsel, bn2_eq, lt_eq, at_sA, htk, bn2_eq, hfr, bn2_eq, nI_sub (by omega), show L.length - A.length = (c :: B).length by omega, f1, bnd_eq]
  rw [show nI 0 = (0 : Int32) from rfl] at g1
  rw [g1, bnd_eq]
  cases f_Tr_above t c.1 (nI x) σ4 <;> rfl
