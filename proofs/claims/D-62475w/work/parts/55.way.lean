/-! the plain law: what the way up needs -/
theorem gP_perm : ∀ (Z : List Lv) (P : List Nat), (gP Z P).Perm (gP Z [] ++ P) := by
  intro Z
  induction Z with
  | nil => intro P; exact List.Perm.refl _
  | cons L Z ih =>
    obtain ⟨q, A, B⟩ := L
    intro P
    rw [gP, gP]
    refine (ih _).trans (List.Perm.trans ?_ (List.Perm.append_right P (ih _).symm))
    rw [List.append_nil, List.append_assoc (gP Z [])]
    refine List.Perm.append_left _ ?_
    rw [List.cons_append]
    refine List.Perm.cons q ?_
    rw [List.append_assoc, List.append_assoc]
    exact List.Perm.append_left _ List.perm_append_comm
theorem Cx_cong2 {σ σ' : Sg} {n t root : Nat} : ∀ (Z : List Lv) (p : Nat) (lo hi : Option Int64), (∀ q ∈ gP Z [], ∀ j, gi σ' 10 q j = gi σ 10 q j) → (∀ j, j < Z.length → gi σ' 13 t j = gi σ 13 t j ∧ gi σ' 14 t j = gi σ 14 t j) → Cx σ n t root Z p lo hi → Cx σ' n t root Z p lo hi := by
  intro Z
  induction Z with
  | nil => intro p lo hi _ _ hc; exact hc
  | cons L Z ih =>
    obtain ⟨q, A, B⟩ := L
    intro p lo hi h hw hc
    obtain ⟨loq, hiq, e0, es, c1, c2, c3, c4, c5, c6, c7, c8, c9, c10, c11, c12⟩ := hc
    have hl := hw Z.length (by rw [List.length_cons]; omega)
    have hin : ∀ x, x ∈ gP Z [] ++ (q :: (fP A ++ [] ++ fP B)) → ∀ j, gi σ' 10 x j = gi σ 10 x j := fun x hx => h x ((gP_perm Z _).mem_iff.mpr hx)
    have hA : ∀ x ∈ fP A, ∀ j, gi σ' 10 x j = gi σ 10 x j := fun x hx => hin x (List.mem_append_right _ (List.mem_cons_of_mem _ (List.mem_append_left _ (List.mem_append_left _ hx))))
    have hB : ∀ x ∈ fP B, ∀ j, gi σ' 10 x j = gi σ 10 x j := fun x hx => hin x (List.mem_append_right _ (List.mem_cons_of_mem _ (List.mem_append_right _ hx)))
    exact ⟨loq, hiq, e0, es, ih q loq hiq (fun x hx => hin x (List.mem_append_left _ hx)) (fun j hj => hw j (by rw [List.length_cons]; omega)) c1, hl.1.trans c2, hl.2.trans c3, c4, c5, PI_congr (hin q (List.mem_append_right _ List.mem_cons_self)) c6, c7, c8, c9, c10, Ks_congr _ _ (fun _ _ _ _ _ hP hr => TA_congr (fun x hx => hA x (hP x hx)) hr) c11, Ks_congr _ _ (fun _ _ _ _ _ hP hr => TA_congr (fun x hx => hB x (hP x hx)) hr) c12⟩
theorem Ks_key {R : Rl} {n : Nat} (hR : ∀ p lo hi M P, R p lo hi M P → bnd n lo hi M) : ∀ (l : List Ent) (e : Ent) (hi : Option Int64) (x : Int64), Ks R (e :: l) hi → e.1 = some x → (∀ e' ∈ l, e'.1.isSome = true) → ∀ e' ∈ l, ∀ y, e'.1 = some y → x < y := by
  intro l
  induction l with
  | nil => intro e hi x _ _ _ e' h; cases h
  | cons e1 l ih =>
    intro e hi x hk hx hs e' he' y hy
    obtain ⟨h1, h2, h3⟩ := hk
    obtain ⟨y1, hy1⟩ := Option.isSome_iff_exists.mp (hs e1 List.mem_cons_self)
    obtain ⟨c, hc⟩ := List.exists_mem_of_ne_nil _ h2
    have hb := (hR _ _ _ _ _ h1).1 c hc
    have hlt : x < y1 := Int64.lt_of_le_of_lt (hb.2.1 x hx) (hb.2.2 y1 hy1)
    rcases List.mem_cons.mp he' with rfl | he'
    · rw [hy1] at hy
      cases hy
      exact hlt
    · exact Int64.lt_trans hlt (ih e1 hi y1 h3 hy1 (fun z hz => hs z (List.mem_cons_of_mem _ hz)) e' he' y hy)
theorem fM_ne {R : Rl} {e : Ent} {l : List Ent} {hi : Option Int64} (h : Ks R (e :: l) hi) : fM (e :: l) ≠ [] := fun z => h.2.1 (List.append_eq_nil_iff.mp z).1
