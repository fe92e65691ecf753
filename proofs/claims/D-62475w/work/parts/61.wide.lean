/-! the plain law: a tree within wider bounds -/
def wLo (lo lo' : Option Int64) : Prop := ∀ k, oLo lo k → oLo lo' k
def wHi (hi hi' : Option Int64) : Prop := ∀ k, oHi hi k → oHi hi' k
theorem Ks_wide {R : Rl} {hi hi' : Option Int64} (hR : ∀ p lo M P, R p lo hi M P → R p lo hi' M P) : ∀ (es : List Ent), Ks R es hi → Ks R es hi' := by
  intro es
  induction es with
  | nil => intro _; trivial
  | cons e es ih =>
    intro h
    refine ⟨?_, h.2.1, ih h.2.2⟩
    cases es with
    | nil => exact hR _ _ _ _ h.1
    | cons e1 es => exact h.1
theorem Tr_wide {σ : Sg} {n : Nat} : ∀ (d p : Nat) (lo hi lo' hi' : Option Int64) (M : List Cel) (P : List Nat), wLo lo lo' → wHi hi hi' → Tr σ n d p lo hi M P → Tr σ n d p lo' hi' M P := by
  have leaf : ∀ (p : Nat) (lo hi lo' hi' : Option Int64) (M : List Cel), wLo lo lo' → wHi hi hi' → Lf σ n p lo hi M → Lf σ n p lo' hi' M := fun p lo hi lo' hi' M h1 h2 h => ⟨h.1, h.2.1, fun x hx => ⟨(h.2.2.1 x hx).1, h1 _ (h.2.2.1 x hx).2.1, h2 _ (h.2.2.1 x hx).2.2⟩, h.2.2.2⟩
  intro d
  induction d with
  | zero => rintro p lo hi lo' hi' M P h1 h2 ⟨h, rfl⟩; exact ⟨leaf _ _ _ _ _ _ h1 h2 h, rfl⟩
  | succ d ih =>
    intro p lo hi lo' hi' M P h1 h2 h
    rcases h with ⟨h, rfl⟩ | ⟨e0, es, ⟨n1, n2, n3, n4, n5, n6⟩, rfl, rfl⟩
    · exact Or.inl ⟨leaf _ _ _ _ _ _ h1 h2 h, rfl⟩
    · refine Or.inr ⟨(lo', e0.2), es, ⟨n1, n2, n3, fun e he => ⟨(n4 e he).1, fun b hb => ⟨h1 _ ((n4 e he).2 b hb).1, h2 _ ((n4 e he).2 b hb).2⟩⟩, rfl, ?_⟩, rfl, rfl⟩
      have k1 : Ks (Tr σ n d) (e0 :: es) hi' := Ks_wide (fun p lo M P hr => ih p lo hi lo hi' M P (fun _ z => z) h2 hr) _ n6
      exact ⟨ih _ _ _ _ _ _ _ (by rw [n5]; exact h1) (fun _ z => z) k1.1, k1.2.1, k1.2.2⟩
theorem TA_wide {σ : Sg} {n p : Nat} {lo hi lo' hi' : Option Int64} {M : List Cel} {P : List Nat} (h1 : wLo lo lo') (h2 : wHi hi hi') (h : TA σ n p lo hi M P) : TA σ n p lo' hi' M P := by
  obtain ⟨d, hd⟩ := h
  exact ⟨d, Tr_wide _ _ _ _ _ _ _ _ h1 h2 hd⟩
