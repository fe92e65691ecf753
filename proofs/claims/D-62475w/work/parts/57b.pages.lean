/-! the plain law: how many pages a tree takes -/
theorem Ks_pg {R : Rl} (hR : ∀ p lo hi M P, R p lo hi M P → M ≠ [] → P.length + 1 ≤ 2 * M.length) : ∀ (es : List Ent) (hi : Option Int64), Ks R es hi → (fP es).length + es.length ≤ 2 * (fM es).length := by
  intro es
  induction es with
  | nil => intro _ _; exact Nat.le_refl _
  | cons e es ih =>
    intro hi h
    have h1 := hR _ _ _ _ _ h.1 h.2.1
    have h2 := ih hi h.2.2
    rw [fP, fM, List.length_append, List.length_append, List.length_cons]
    omega
theorem Tr_pgs {σ : Sg} {n : Nat} : ∀ (d p : Nat) (lo hi : Option Int64) (M : List Cel) (P : List Nat), Tr σ n d p lo hi M P → M ≠ [] → P.length + 1 ≤ 2 * M.length := by
  have leaf : ∀ (p : Nat) (M : List Cel), M ≠ [] → [p].length + 1 ≤ 2 * M.length := fun p M h => by
    have := List.length_pos_iff.mpr h
    rw [List.length_singleton]
    omega
  intro d
  induction d with
  | zero =>
    rintro p lo hi M P ⟨-, rfl⟩ hM
    exact leaf p M hM
  | succ d ih =>
    intro p lo hi M P h hM
    rcases h with ⟨-, rfl⟩ | ⟨e0, es, h1, rfl, rfl⟩
    · exact leaf p M hM
    · have h2 := Ks_pg ih _ _ h1.2.2.2.2.2
      have h3 := List.length_pos_iff.mpr h1.2.2.1
      rw [List.length_cons] at h2 ⊢
      omega
theorem TA_pgs {σ : Sg} {n p : Nat} {lo hi : Option Int64} {M : List Cel} {P : List Nat} (h : TA σ n p lo hi M P) (hM : M ≠ []) : P.length + 1 ≤ 2 * M.length := by
  obtain ⟨d, hd⟩ := h
  exact Tr_pgs _ _ _ _ _ _ hd hM
theorem Cx_pgs {σ : Sg} {n t root : Nat} : ∀ (Z : List Lv) (p : Nat) (lo hi : Option Int64) (M : List Cel) (P : List Nat), Cx σ n t root Z p lo hi → P.length + 2 ≤ 2 * M.length → (gP Z P).length + 2 ≤ 2 * (gM Z M).length := by
  intro Z
  induction Z with
  | nil => intro p lo hi M P _ h; exact h
  | cons L Z ih =>
    obtain ⟨q, A, B⟩ := L
    intro p lo hi M P hc h
    obtain ⟨loq, hiq, e0, es, c1, c2, c3, c4, c5, c6, c7, c8, c9, c10, c11, c12⟩ := hc
    rw [gP, gM]
    refine ih q loq hiq _ _ c1 ?_
    have h1 := Ks_pg (fun _ _ _ _ _ h => TA_pgs h) _ _ c11
    have h2 := Ks_pg (fun _ _ _ _ _ h => TA_pgs h) _ _ c12
    have h3 := congrArg List.length c5
    have h4 := List.length_pos_iff.mpr c7
    simp only [List.length_append, List.length_cons] at h3 ⊢
    omega
