/-! the plain law: the start, and the law on every script -/
theorem MD_gi {a b c : Nat} (h1 : ¬ (a = 12 ∧ b = 0)) (h2 : ¬ (a = 1 ∧ b = 0 ∧ c = 2)) (h3 : ¬ (a = 0 ∧ b = 0 ∧ (c = 15 ∨ c = 16))) (h4 : ¬ (a = 9 ∧ b = 0 ∧ (c = 23 ∨ c = 24))) : gi MDs a b c = 0 := by
  show gi (si (si (si (si (si (sgF sg0 240) 1 0 2 240) 0 0 15 (-1)) 0 0 16 (-1)) 9 0 23 (-1)) 9 0 24 (-1)) a b c = 0
  rw [gi_ne (by omega), gi_ne (by omega), gi_ne (by omega), gi_ne (by omega), gi_ne (by omega), sgF_gi _ _ _ _ _ h1]
  rfl
theorem MD_gj (a b c : Nat) : gj MDs a b c = 0 := by
  show gj (si (si (si (si (si (sgF sg0 240) 1 0 2 240) 0 0 15 (-1)) 0 0 16 (-1)) 9 0 23 (-1)) 9 0 24 (-1)) a b c = 0
  rw [gj_si, gj_si, gj_si, gj_si, gj_si, sgF_gj]
  rfl
theorem MD_gr (a b c : Nat) : gr MDs a b c = none := by
  show gr (si (si (si (si (si (sgF sg0 240) 1 0 2 240) 0 0 15 (-1)) 0 0 16 (-1)) 9 0 23 (-1)) 9 0 24 (-1)) a b c = none
  rw [gr_si, gr_si, gr_si, gr_si, gr_si, sgF_gr]
  rfl
theorem MD_free {k : Nat} (h : k < 240) : gi MDs 12 0 k = nI (239 - k) := by
  show gi (si (si (si (si (si (sgF sg0 240) 1 0 2 240) 0 0 15 (-1)) 0 0 16 (-1)) 9 0 23 (-1)) 9 0 24 (-1)) 12 0 k = _
  rw [gi_ne (by omega), gi_ne (by omega), gi_ne (by omega), gi_ne (by omega), gi_ne (by omega), sgF_free _ _ _ h, show (239 : Int32) = nI 239 from rfl, nI_sub (by omega)]
theorem MD_left : gi MDs 1 0 2 = 240 := by
  show gi (si (si (si (si (si (sgF sg0 240) 1 0 2 240) 0 0 15 (-1)) 0 0 16 (-1)) 9 0 23 (-1)) 9 0 24 (-1)) 1 0 2 = _
  rw [gi_ne (by omega), gi_ne (by omega), gi_ne (by omega), gi_ne (by omega), gi_eq]
theorem MD_15 : gi MDs 0 0 15 = -1 := by
  show gi (si (si (si (si (si (sgF sg0 240) 1 0 2 240) 0 0 15 (-1)) 0 0 16 (-1)) 9 0 23 (-1)) 9 0 24 (-1)) 0 0 15 = _
  rw [gi_ne (by omega), gi_ne (by omega), gi_ne (by omega), gi_eq]
theorem MD_16 : gi MDs 0 0 16 = -1 := by
  show gi (si (si (si (si (si (sgF sg0 240) 1 0 2 240) 0 0 15 (-1)) 0 0 16 (-1)) 9 0 23 (-1)) 9 0 24 (-1)) 0 0 16 = _
  rw [gi_ne (by omega), gi_ne (by omega), gi_eq]
theorem MD_23 : gi MDs 9 0 23 = -1 := by
  show gi (si (si (si (si (si (sgF sg0 240) 1 0 2 240) 0 0 15 (-1)) 0 0 16 (-1)) 9 0 23 (-1)) 9 0 24 (-1)) 9 0 23 = _
  rw [gi_ne (by omega), gi_eq]
theorem MD_24 : gi MDs 9 0 24 = -1 := by
  show gi (si (si (si (si (si (sgF sg0 240) 1 0 2 240) 0 0 15 (-1)) 0 0 16 (-1)) 9 0 23 (-1)) 9 0 24 (-1)) 9 0 24 = _
  rw [gi_eq]
theorem Iv_start : Iv MDs := by
  have n0 : nI 0 = (0 : Int32) := rfl
  refine ⟨0, fun _ => 1, [], fun _ => none, [], [], (-1, -1, [], [], 0, 0, 0), ⟨?_, ?_, ⟨?_, fun t ht => absurd ht (by omega), ?_, (fun i r hr => by cases hr)⟩, Nat.zero_le _, (fun r hr => by cases hr)⟩, ?_, ⟨⟨?_, (fun i x hx => by cases hx)⟩, ⟨?_, (fun i x hx => by cases hx)⟩, Nat.zero_le _, (fun x hx => by cases hx)⟩, ⟨⟨?_, (fun i x hx => by cases hx)⟩, ⟨?_, (fun i x hx => by cases hx)⟩, Nat.zero_le _, (fun x hx => by cases hx)⟩, ⟨⟨MD_15, MD_16, ?_, ?_, ?_, ?_, ?_, (fun i x hx => by cases hx), (fun i x hx => by cases hx)⟩, ⟨MD_23, MD_24, ?_, ?_, ?_, ?_, ?_, (fun i x hx => by cases hx), (fun i x hx => by cases hx)⟩, Or.inl rfl, Or.inl rfl, fun _ => rfl, Nat.zero_le _, Nat.zero_le _, (fun x hx => by cases hx), (fun x hx => by cases hx), zb0, fun z => absurd z (show ¬ (0 : Int32) = 1 by decide)⟩, ?_⟩
  · refine ⟨fun _ => 0, fun _ => [], fun _ => [], (List.range 240).reverse, ⟨MDs_nt, by decide, MD_gi (by omega) (by omega) (by omega) (by omega)⟩, fun t ht => absurd ht (by omega), fun t _ => rfl, ⟨?_, ?_, fun k hk => ?_, fun x hx => ?_⟩, ?_⟩
    · rw [MD_left, List.length_reverse, List.length_range]
      exact (show (240 : Int32) = nI 240 by decide)
    · rw [List.length_reverse, List.length_range]
      exact Nat.le_refl _
    · rw [List.length_reverse, List.length_range] at hk
      rw [MD_free hk, List.getD_eq_getElem?_getD, List.getElem?_reverse (by rw [List.length_range]; exact hk), List.length_range, List.getElem?_range (by omega), Option.getD_some, show 240 - 1 - k = 239 - k by omega]
    · rw [List.mem_reverse, List.mem_range] at hx
      exact hx
    · show ([] ++ ([] ++ ([] ++ (List.range 240).reverse))).Perm (List.range 240)
      rw [List.nil_append, List.nil_append, List.nil_append]
      exact List.reverse_perm (List.range 240)
  · exact MD_gi (by omega) (by omega) (by omega) (by omega)
  · exact MD_gi (by omega) (by omega) (by omega) (by omega)
  · exact MD_gi (by omega) (by omega) (by omega) (by omega)
  · exact fun k hk => ⟨⟨MD_gi (by omega) (by omega) (by omega) (by omega), MD_gj _ _ _⟩, MD_gi (by omega) (by omega) (by omega) (by omega), MD_gj _ _ _⟩
  · exact MD_gi (by omega) (by omega) (by omega) (by omega)
  · exact MD_gi (by omega) (by omega) (by omega) (by omega)
  · exact MD_gi (by omega) (by omega) (by omega) (by omega)
  · exact MD_gi (by omega) (by omega) (by omega) (by omega)
  · exact MD_gi (by omega) (by omega) (by omega) (by omega)
  · exact MD_gi (by omega) (by omega) (by omega) (by omega)
  · exact MD_gi (by omega) (by omega) (by omega) (by omega)
  · exact MD_gi (by omega) (by omega) (by omega) (by omega)
  · exact MD_gi (by omega) (by omega) (by omega) (by omega)
  · exact MD_gi (by omega) (by omega) (by omega) (by omega)
  · exact MD_gi (by omega) (by omega) (by omega) (by omega)
  · exact MD_gi (by omega) (by omega) (by omega) (by omega)
  · exact MD_gi (by omega) (by omega) (by omega) (by omega)
  · exact MD_gi (by omega) (by omega) (by omega) (by omega)
  · intro i t hi ht
    rw [MD_gr] at ht
    cases ht
theorem g_step_ok (op a1 a2 a3 a4 : Int32) {σ : Sg} (h : Iv σ) : ∃ σ', g_step op a1 a2 a3 a4 σ = some σ' ∧ Iv σ' := by
  unfold g_step
  by_cases h0 : op &&& 31 = 0
  · rw [if_pos h0]; exact law_0 a1 a2 a3 a4 h
  rw [if_neg h0]
  by_cases h1 : op &&& 31 = 1
  · rw [if_pos h1]; exact law_1 a1 a2 a3 a4 h
  rw [if_neg h1]
  by_cases h2 : op &&& 31 = 2
  · rw [if_pos h2]; exact law_2 a1 a2 a3 a4 h
  rw [if_neg h2]
  by_cases h3 : op &&& 31 = 3
  · rw [if_pos h3]; exact law_3 a1 a2 a3 a4 h
  rw [if_neg h3]
  by_cases h4 : op &&& 31 = 4
  · rw [if_pos h4]; exact law_4 a1 a2 a3 a4 h
  rw [if_neg h4]
  by_cases h5 : op &&& 31 = 5
  · rw [if_pos h5]; exact law_5 a1 a2 a3 a4 h
  rw [if_neg h5]
  by_cases h6 : op &&& 31 = 6
  · rw [if_pos h6]; exact law_6 a1 a2 a3 a4 h
  rw [if_neg h6]
  by_cases h7 : op &&& 31 = 7
  · rw [if_pos h7]; exact law_7 a1 a2 a3 a4 h
  rw [if_neg h7]
  by_cases h8 : op &&& 31 = 8
  · rw [if_pos h8]; exact law_8 a1 a2 a3 a4 h
  rw [if_neg h8]
  by_cases h9 : op &&& 31 = 9
  · rw [if_pos h9]; exact law_9 a1 a2 a3 a4 h
  rw [if_neg h9]
  by_cases h10 : op &&& 31 = 10
  · rw [if_pos h10]; exact law_10 a1 a2 a3 a4 h
  rw [if_neg h10]
  by_cases h11 : op &&& 31 = 11
  · rw [if_pos h11]; exact law_11 a1 a2 a3 a4 h
  rw [if_neg h11]
  by_cases h12 : op &&& 31 = 12
  · rw [if_pos h12]; exact law_12 a1 a2 a3 a4 h
  rw [if_neg h12]
  by_cases h13 : op &&& 31 = 13
  · rw [if_pos h13]; exact law_13 a1 a2 a3 a4 h
  rw [if_neg h13]
  by_cases h14 : op &&& 31 = 14
  · rw [if_pos h14]; exact law_14 a1 a2 a3 a4 h
  rw [if_neg h14]
  by_cases h15 : op &&& 31 = 15
  · rw [if_pos h15]; exact law_15 a1 a2 a3 a4 h
  rw [if_neg h15]
  by_cases h16 : op &&& 31 = 16
  · rw [if_pos h16]; exact law_16 a1 a2 a3 a4 h
  rw [if_neg h16]
  by_cases h17 : op &&& 31 = 17
  · rw [if_pos h17]; exact law_17 a1 a2 a3 a4 h
  rw [if_neg h17]
  by_cases h18 : op &&& 31 = 18
  · rw [if_pos h18]; exact law_18 a1 a2 a3 a4 h
  rw [if_neg h18]
  exact ⟨σ, rfl, h⟩
theorem loop_ok (xs : Nat → Int32) : ∀ (d j : Nat) (σ : Sg), Iv σ → ∃ σ', f_loop xs d j σ = some σ' := by
  intro d
  induction d with
  | zero => intro j σ _; exact ⟨σ, rfl⟩
  | succ d ih =>
    intro j σ h
    obtain ⟨σ1, h1, h2⟩ := g_step_ok (xs (5 * j)) (xs (5 * j + 1)) (xs (5 * j + 2)) (xs (5 * j + 3)) (xs (5 * j + 4)) h
    obtain ⟨σ2, h3⟩ := ih (j + 1) σ1 h2
    refine ⟨σ2, ?_⟩
    rw [f_loop, h1, bnd_eq, h3]
theorem pure_law (xs : Nat → Int32) (L : Nat) (hL : L ≤ 2560) : ∃ σ', f_loop xs (L / 5) 0 MDs = some σ' := loop_ok xs (L / 5) 0 MDs Iv_start
