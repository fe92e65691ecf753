/-! the plain law: where a page is parted -/
theorem half : ∀ u, u < 600 → nI u / 2 = nI (u / 2) := by decide +kernel
theorem lB_pos {cs : List Cel} (h4 : ∀ c ∈ cs, c.2.length ≤ 4) (h : 0 < (lB cs).length) : cs ≠ [] := by
  rintro rfl
  exact absurd h (by decide)
theorem splitL_loop {t n U : Nat} (h4 : n ≤ 4) (hU : U < 512) : ∀ (rest La : List Cel) (bf : Nat) (σ : Sg) (m : Nat), (∀ c ∈ La ++ rest, c.2.length = n) → gi σ 3 t 2 = nI n → (lB (La ++ rest)).length = U → gi σ 2 (240 + t) 1 = nI (lB La).length → sp σ (240 + t) (lB La).length (lB rest) → rest.length + 1 ≤ m →
    ∃ Lb Lc b, rest = Lb ++ Lc ∧ lp (fun q => b_Tr_splitLeaf_22 t (nI U) q.1 q.2.1 q.2.2) m (nI La.length, nI bf, σ) = some (nI (La ++ Lb).length, nI b, sA σ (240 + t) (lB (La ++ Lb)).length) ∧ U / 2 ≤ (lB (La ++ Lb)).length ∧ ((Lb = [] ∧ b = bf) ∨ ∃ Ld c, Lb = Ld ++ [c] ∧ b = (lB (La ++ Ld)).length ∧ (lB (La ++ Ld)).length < U / 2) := by
  intro rest
  induction rest with
  | nil =>
    intro La bf σ m hc hn hlen ha hs hm
    obtain ⟨m, rfl⟩ : ∃ m', m = m' + 1 := ⟨m - 1, by omega⟩
    rw [List.append_nil] at hlen
    refine ⟨[], [], bf, rfl, ?_, by rw [List.append_nil]; omega, Or.inl ⟨rfl, rfl⟩⟩
    rw [lp_r (e := (nI La.length, nI bf, σ)), List.append_nil, sA_id ha]
    show b_Tr_splitLeaf_22 t (nI U) _ _ σ = _
    unfold b_Tr_splitLeaf_22
    rw [half U (by omega), ha, if_pos (nI_le (by omega) (by omega))]
  | cons c rest ih =>
    intro La bf σ m hc hn hlen ha hs hm
    rw [List.length_cons] at hm
    obtain ⟨m, rfl⟩ : ∃ m', m = m' + 1 := ⟨m - 1, by omega⟩
    have hlen2 : (lB La).length + ((encC c).length + (lB rest).length) = U := by
      rw [← hlen, lB_app, List.length_append, lB, List.length_append]
    by_cases hge : U / 2 ≤ (lB La).length
    · refine ⟨[], c :: rest, bf, rfl, ?_, by rw [List.append_nil]; exact hge, Or.inl ⟨rfl, rfl⟩⟩
      rw [lp_r (e := (nI La.length, nI bf, σ)), List.append_nil, sA_id ha]
      show b_Tr_splitLeaf_22 t (nI U) _ _ σ = _
      unfold b_Tr_splitLeaf_22
      rw [half U (by omega), ha, if_pos (nI_le hge (by omega))]
    · rw [lB] at hs
      obtain ⟨hs0, hs1⟩ := sp_app.mp hs
      have hcl := hc c (List.mem_append_right _ List.mem_cons_self)
      have hpass : f_Tr_pass t (240 + t) 1 σ = some (c.1, sA σ (240 + t) ((lB La).length + (encC c).length)) := pass_L (by omega) (by rw [hcl]; exact hn) ha (by rw [wk_len]; omega) hs0
      have e1 : La ++ c :: rest = (La ++ [c]) ++ rest := by simp
      have e2 : (lB (La ++ [c])).length = (lB La).length + (encC c).length := by rw [lB_app, List.length_append, lB, lB, List.append_nil]
      have step : b_Tr_splitLeaf_22 t (nI U) (nI La.length) (nI bf) σ = some (.inl (nI (La ++ [c]).length, nI (lB La).length, sA σ (240 + t) (lB (La ++ [c])).length)) := by
        unfold b_Tr_splitLeaf_22
        rw [half U (by omega), ha, if_neg (nI_ge (by omega) (by omega)), lt_eq, hpass, bn2_eq, lt_eq, nI_1, e2, List.length_append, List.length_singleton]
      obtain ⟨Lb, Lc, b, r1, r2, r3, r4⟩ := ih (La ++ [c]) (lB La).length (sA σ (240 + t) (lB (La ++ [c])).length) m (by rw [← e1]; exact hc) (by rw [gi_sA10 _ _ _ _ _ _ (by decide)]; exact hn) (by rw [← e1]; exact hlen) (at_sA _ _ _) (sp_sA.mpr (by rw [e2]; exact hs1)) (by omega)
      have e3 : La ++ [c] ++ Lb = La ++ (c :: Lb) := by simp
      rw [e3] at r2 r3
      refine ⟨c :: Lb, Lc, b, by rw [r1]; rfl, ?_, r3, Or.inr ?_⟩
      · rw [lp_l step, r2, sA_sA]
      · rcases r4 with ⟨rfl, rfl⟩ | ⟨Ld, c', rfl, h1, h2⟩
        · exact ⟨[], c, rfl, by rw [List.append_nil], by rw [List.append_nil]; omega⟩
        · exact ⟨c :: Ld, c', rfl, by rw [h1]; simp, by rw [show La ++ c :: Ld = La ++ [c] ++ Ld by simp]; exact h2⟩
theorem splitI_loop {t U : Nat} (hU : U < 512) : ∀ (rest La : List ICel) (σ : Sg) (m : Nat), 1 + (iB (La ++ rest)).length = U → gi σ 2 (240 + t) 1 = nI (1 + (iB La).length) → sp σ (240 + t) (1 + (iB La).length) (iB rest) → rest.length + 1 ≤ m →
    ∃ Lb Lc, rest = Lb ++ Lc ∧ lp (fun q => b_Tr_part_19 t (nI U) q.1 q.2) m (nI La.length, σ) = some (nI (La ++ Lb).length, sA σ (240 + t) (1 + (iB (La ++ Lb)).length)) ∧ U / 2 ≤ 1 + (iB (La ++ Lb)).length ∧ (Lb = [] ∨ ∃ Ld c, Lb = Ld ++ [c] ∧ 1 + (iB (La ++ Ld)).length < U / 2) := by
  intro rest
  induction rest with
  | nil =>
    intro La σ m hlen ha hs hm
    obtain ⟨m, rfl⟩ : ∃ m', m = m' + 1 := ⟨m - 1, by omega⟩
    rw [List.append_nil] at hlen
    refine ⟨[], [], rfl, ?_, by rw [List.append_nil]; omega, Or.inl rfl⟩
    rw [lp_r (e := (nI La.length, σ)), List.append_nil, sA_id ha]
    show b_Tr_part_19 t (nI U) _ σ = _
    unfold b_Tr_part_19
    rw [half U (by omega), ha, if_pos (nI_le (by omega) (by omega))]
  | cons c rest ih =>
    intro La σ m hlen ha hs hm
    rw [List.length_cons] at hm
    obtain ⟨m, rfl⟩ : ∃ m', m = m' + 1 := ⟨m - 1, by omega⟩
    have hlen2 : 1 + ((iB La).length + ((encI c).length + (iB rest).length)) = U := by
      rw [← hlen, iB_app, List.length_append, iB, List.length_append]
    by_cases hge : U / 2 ≤ 1 + (iB La).length
    · refine ⟨[], c :: rest, rfl, ?_, by rw [List.append_nil]; exact hge, Or.inl rfl⟩
      rw [lp_r (e := (nI La.length, σ)), List.append_nil, sA_id ha]
      show b_Tr_part_19 t (nI U) _ σ = _
      unfold b_Tr_part_19
      rw [half U (by omega), ha, if_pos (nI_le hge (by omega))]
    · rw [iB] at hs
      obtain ⟨hs0, hs1⟩ := sp_app.mp hs
      have hpass : f_Tr_pass t (240 + t) 0 σ = some (c.1, sA σ (240 + t) (1 + (iB La).length + (encI c).length)) := pass_I ha (by rw [wk_len]; omega) hs0
      have e1 : La ++ c :: rest = (La ++ [c]) ++ rest := by simp
      have e2 : 1 + (iB (La ++ [c])).length = 1 + (iB La).length + (encI c).length := by rw [iB_app, List.length_append, iB, iB, List.append_nil, Nat.add_assoc]
      have step : b_Tr_part_19 t (nI U) (nI La.length) σ = some (.inl (nI (La ++ [c]).length, sA σ (240 + t) (1 + (iB (La ++ [c])).length))) := by
        unfold b_Tr_part_19
        rw [half U (by omega), ha, if_neg (nI_ge (by omega) (by omega)), hpass, bn2_eq, lt_eq, nI_1, e2, List.length_append, List.length_singleton]
      obtain ⟨Lb, Lc, r1, r2, r3, r4⟩ := ih (La ++ [c]) (sA σ (240 + t) (1 + (iB (La ++ [c])).length)) m (by rw [← e1]; exact hlen) (at_sA _ _ _) (sp_sA.mpr (by rw [e2]; exact hs1)) (by omega)
      have e3 : La ++ [c] ++ Lb = La ++ (c :: Lb) := by simp
      rw [e3] at r2 r3
      refine ⟨c :: Lb, Lc, by rw [r1]; rfl, ?_, r3, Or.inr ?_⟩
      · rw [lp_l step, r2, sA_sA]
      · rcases r4 with rfl | ⟨Ld, c', rfl, h2⟩
        · exact ⟨[], c, rfl, by rw [List.append_nil]; omega⟩
        · exact ⟨c :: Ld, c', rfl, by rw [show La ++ c :: Ld = La ++ [c] ++ Ld by simp]; exact h2⟩
