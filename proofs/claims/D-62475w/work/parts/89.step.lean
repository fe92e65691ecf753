/-! the plain law: one step of both machines -/
def gl (x : Ins) : Int32 := if chr x.1 2 = 106 then x.2.2.2 else (if chr x.1 1 = 106 then x.2.2.1 else (if chr x.1 0 = 106 then x.2.1 else -1))
theorem goal_S {σ : Sg} {i : Nat} {x : Ins} (hI : insC σ i x) (ho : x.1 < 22) : f_In_goal i σ = some (gl x, σ) := by
  obtain ⟨h1, h2, h3, h4⟩ := hI
  have st : ∀ (k : Nat) (y w : Int32), k < 3 → gi σ 16 i k = w → b_In_goal_4 i y (nI k) σ = some (.inl ((if chr x.1 k = 106 then w else y), nI (k + 1), σ)) := fun k y w hk hw => by
    unfold b_In_goal_4
    rw [if_neg (show ¬ (3 : Int32) ≤ nI k from nI_ge (b := 3) hk (by decide)), h1, bnd_eq, chk_pos ho, chk_pos (vc3 hk), chk_pos (vc3 hk), nI_clamp (by omega), hw]
    by_cases h : chr x.1 k = 106
    · rw [if_pos h, if_pos h, bnd_eq, lt_eq, nI_1]
    · rw [if_neg h, if_neg h, bnd_eq, lt_eq, nI_1]
  unfold f_In_goal l_In_goal_4
  rw [lt_eq, show FU = 4996 + 1 + 1 + 1 + 1 from rfl]
  rw [lp_l (s' := ((if chr x.1 0 = 106 then x.2.1 else -1), nI 1, σ)) (st 0 _ _ (by decide) h2)]
  rw [lp_l (s' := ((if chr x.1 1 = 106 then x.2.2.1 else (if chr x.1 0 = 106 then x.2.1 else -1)), nI 2, σ)) (st 1 _ _ (by decide) h3)]
  rw [lp_l (s' := (gl x, nI 3, σ)) (st 2 _ _ (by decide) h4)]
  rw [lp_r (e := (gl x, σ))]
  · rw [bn2_eq]
  · show b_In_goal_4 i (gl x) (nI 3) σ = _
    unfold b_In_goal_4
    rw [if_pos (show (3 : Int32) ≤ nI 3 from Int32.le_refl _)]
def mgF (a0 : Int32) : Int32 := if a0 = 19 then 1 else (if ((if a0 = 2 then 1 else (if a0 = 3 then 1 else (if a0 = 8 then 1 else (if a0 < 9 then (if a0 = 20 then 1 else 0) else (if a0 ≤ 16 then 1 else (if a0 = 20 then 1 else 0)))))) : Int32) = 0 then 0 else 2)
theorem goal_M (a0 : Int32) (τ : Sg) : f_Md_goal a0 τ = some (mgF a0, τ) := by
  unfold f_Md_goal mgF
  by_cases h : a0 = 19
  · rw [if_pos h, if_pos h]
  · rw [if_neg h, if_neg h, lt_eq, lt_eq]
theorem mg_chr : ∀ o, o < 22 → (mgF (nI o) = 0 ∧ chr o 0 ≠ 106 ∧ chr o 1 ≠ 106 ∧ chr o 2 ≠ 106) ∨ (mgF (nI o) = 1 ∧ chr o 0 = 106 ∧ chr o 1 ≠ 106 ∧ chr o 2 ≠ 106) ∨ (mgF (nI o) = 2 ∧ chr o 1 = 106 ∧ chr o 2 ≠ 106) := by decide +kernel
theorem gl_cs {x : Ins} (h : okI x) : (mgF (nI x.1) = 0 ∧ gl x = -1) ∨ (mgF (nI x.1) = 1 ∧ gl x = x.2.1 ∧ ∃ p, p ≤ 60 ∧ gl x = nI p) ∨ (mgF (nI x.1) = 2 ∧ gl x = x.2.2.1 ∧ ∃ p, p ≤ 60 ∧ gl x = nI p) := by
  obtain ⟨h1, h2, h3, h4, h5⟩ := h
  unfold gl
  rcases mg_chr x.1 h1 with ⟨m, a, b, c⟩ | ⟨m, a, b, c⟩ | ⟨m, b, c⟩
  · exact Or.inl ⟨m, by rw [if_neg c, if_neg b, if_neg a]⟩
  · rw [a] at h2
    refine Or.inr (Or.inl ⟨m, by rw [if_neg c, if_neg b, if_pos a], ?_⟩)
    rw [if_neg c, if_neg b, if_pos a]
    exact ex_j h2
  · rw [b] at h3
    refine Or.inr (Or.inr ⟨m, by rw [if_neg c, if_pos b], ?_⟩)
    rw [if_neg c, if_pos b]
    exact ex_j h3
def nd (o : Nat) : Int32 := if o = 1 then 0 else (if chr o 0 = 99 then 1 else 0)
theorem nd01 (o : Nat) : nd o = 0 ∨ nd o = 1 := by
  unfold nd
  split
  · exact Or.inl rfl
  · split
    · exact Or.inr rfl
    · exact Or.inl rfl
theorem needs_S (o : Nat) (σ : Sg) : f_TM_needsCursor o σ = some (nd o, σ) := by
  unfold f_TM_needsCursor nd
  by_cases h : o = 1
  · rw [if_pos h, if_pos h, bnd_eq, chk_pos zb0]
  · rw [if_neg h, if_neg h, chk_pos v03, c0]
    by_cases h2 : chr o 0 = 99
    · rw [if_pos h2, if_pos h2, bnd_eq, chk_pos zb1]
    · rw [if_neg h2, if_neg h2, bnd_eq, chk_pos zb0]
def ndM (a0 : Int32) : Int32 := if a0 = 2 then 1 else (if a0 = 3 then 1 else (if a0 = 4 then 1 else (if a0 = 5 then 1 else (if a0 = 8 then 1 else (if a0 = 20 then 1 else (if a0 = 21 then 1 else 0))))))
theorem nd_eq : ∀ o, o < 22 → ndM (nI o) = nd o := by decide +kernel
theorem needs_M {o : Nat} (ho : o < 22) (τ : Sg) : f_Md_needsOpen (nI o) τ = some (nd o, τ) := by
  unfold f_Md_needsOpen
  have : ((if nI o = 2 then 1 else (if nI o = 3 then 1 else (if nI o = 4 then 1 else (if nI o = 5 then 1 else (if nI o = 8 then 1 else (if nI o = 20 then 1 else (if nI o = 21 then 1 else 0))))))) : Int32) = nd o := nd_eq o ho
  rw [lt_eq, this, chk_pos (show zb (nd o) from nd01 o)]
/-- what a sound program's instruction satisfies -/
def snd1 (N L : Nat) (x : Ins) : Prop := (x.1 = 1 → ∃ t, t < N ∧ x.2.2.1 = nI t) ∧ gl x ≤ nI L
section
variable {N : Nat} {col : Nat → Nat} {σ : Sg} {R : List Row} {rg : Nat → Option Int64} {cu : Nat → Cur} {Rs : List Vals} {i : Nat}
theorem disp_w (hK : KC σ N col R rg cu Rs) {x : Ins} {L : Nat} (hI : insC σ i x) (ho : okI x) (hs : snd1 N L x) (h0 : x.1 ≠ 0) (hn : nd x.1 = 0) (h18 : x.1 = 18 → Rs.length < 64) : Sim (mgF (nI x.1) ≠ 0) N col σ R rg cu Rs (f_TM_works i σ) (fun τ => f_Md_without (nI x.1) x.2.1 x.2.2.1 x.2.2.2 τ) := by
  obtain ⟨o, a, b, c⟩ := x
  obtain ⟨h1, h2, h3, h4, h5⟩ := ho
  have h1' : o < 22 := h1
  have hn' : nd o = 0 := hn
  have h0' : o ≠ 0 := h0
  have hall : ∀ o, o < 22 → nd o = 0 → o = 0 ∨ o = 1 ∨ o = 6 ∨ o = 7 ∨ o = 15 ∨ o = 16 ∨ o = 17 ∨ o = 18 ∨ o = 19 ∨ (9 ≤ o ∧ o ≤ 14) := by decide +kernel
  rcases hall o h1' hn' with rfl | rfl | rfl | rfl | rfl | rfl | rfl | rfl | rfl | ⟨g1, g2⟩
  · exact absurd rfl h0'
  · obtain ⟨k, hk, rfl⟩ := ex_c h2
    obtain ⟨t, ht, e⟩ := hs.1 rfl
    have e' : b = nI t := e
    subst e'
    exact Sim.mono (fun z => z.elim) (wk_1 hK hk ht hI)
  · obtain ⟨r, hr, rfl⟩ := ex_r h3
    exact Sim.mono (fun z => z.elim) (wk_6 hK hr hI)
  · obtain ⟨r, hr, rfl⟩ := ex_r h2
    exact Sim.mono (fun z => z.elim) (wk_7 hK hr hI)
  · obtain ⟨r, hr, rfl⟩ := ex_r h2
    exact Sim.mono (fun _ => (show mgF (nI 15) ≠ 0 by decide)) (wk_15 hK hr hI)
  · obtain ⟨r, hr, rfl⟩ := ex_r h2
    exact Sim.mono (fun _ => (show mgF (nI 16) ≠ 0 by decide)) (wk_16 hK hr hI)
  · obtain ⟨r, hr, rfl⟩ := ex_r h2
    obtain ⟨s, hs', rfl⟩ := ex_r h3
    obtain ⟨u, hu, rfl⟩ := ex_r h4
    exact Sim.mono (fun z => z.elim) (wk_17 hK hr hs' hu hI)
  · obtain ⟨r, hr, rfl⟩ := ex_r h2
    obtain ⟨s, hs1, hs4, rfl⟩ := ex_n h3
    exact Sim.mono (fun z => z.elim) (wk_18 hK hr hs1 hs4 (h5 rfl r s hr hs4 rfl rfl) (h18 rfl) hI)
  · exact Sim.mono (fun _ => (show mgF (nI 19) ≠ 0 by decide)) (wk_19 hK hI)
  · have hch : ∀ o, 9 ≤ o → o ≤ 14 → chr o 0 = 114 ∧ chr o 2 = 114 := fun o p1 p2 => by
      have : o = 9 ∨ o = 10 ∨ o = 11 ∨ o = 12 ∨ o = 13 ∨ o = 14 := by omega
      rcases this with rfl | rfl | rfl | rfl | rfl | rfl <;> exact ⟨rfl, rfl⟩
    have hmg : ∀ o, 9 ≤ o → o ≤ 14 → mgF (nI o) ≠ 0 := fun o p1 p2 => by
      have : o = 9 ∨ o = 10 ∨ o = 11 ∨ o = 12 ∨ o = 13 ∨ o = 14 := by omega
      rcases this with rfl | rfl | rfl | rfl | rfl | rfl <;> decide
    obtain ⟨q1, q2⟩ := hch o g1 g2
    have h2' : okA (chr o 0) a := h2
    have h4' : okA (chr o 2) c := h4
    rw [q1] at h2'
    rw [q2] at h4'
    obtain ⟨r, hr, rfl⟩ := ex_r h2'
    obtain ⟨s, hs', rfl⟩ := ex_r h4'
    exact Sim.mono (fun _ => hmg o g1 g2) (wk_cmp hK g1 g2 hr hs' hI)
theorem disp_m (hK : KC σ N col R rg cu Rs) {x : Ins} {k t : Nat} {q : Option Int64} (hI : insC σ i x) (ho : okI x) (hn : nd x.1 = 1) (hk : k < 3) (hx : x.2.1 = nI k) (hc : cu k = some (t, q)) : Sim (mgF (nI x.1) ≠ 0) N col σ R rg cu Rs (f_TM_moves i k σ) (fun τ => f_Md_withCursor (nI x.1) (nI k) x.2.2.1 x.2.2.2 τ) := by
  obtain ⟨o, a, b, c⟩ := x
  obtain ⟨h1, h2, h3, h4, h5⟩ := ho
  have h1' : o < 22 := h1
  have hn' : nd o = 1 := hn
  have hx' : a = nI k := hx
  subst hx'
  have hall : ∀ o, o < 22 → nd o = 1 → o = 2 ∨ o = 3 ∨ o = 4 ∨ o = 5 ∨ o = 8 ∨ o = 20 ∨ o = 21 := by decide +kernel
  rcases hall o h1' hn' with rfl | rfl | rfl | rfl | rfl | rfl | rfl
  · exact Sim.mono (fun _ => (show mgF (nI 2) ≠ 0 by decide)) (mv_2 hK hk hc hI)
  · exact Sim.mono (fun _ => (show mgF (nI 3) ≠ 0 by decide)) (mv_3 hK hk hc hI)
  · obtain ⟨r, hr, rfl⟩ := ex_k h3
    obtain ⟨s, hs, rfl⟩ := ex_r h4
    exact Sim.mono (fun z => z.elim) (mv_4 hK hk hr hs hc hI)
  · obtain ⟨s, hs, rfl⟩ := ex_r h3
    exact Sim.mono (fun z => z.elim) (mv_5 hK hk hs hc hI)
  · obtain ⟨s, hs, rfl⟩ := ex_r h4
    exact Sim.mono (fun _ => (show mgF (nI 8) ≠ 0 by decide)) (mv_8 hK hk hs hc hI)
  · obtain ⟨s, hs, rfl⟩ := ex_i h4
    exact Sim.mono (fun _ => (show mgF (nI 20) ≠ 0 by decide)) (mv_20 hK hk hs hc hI)
  · exact Sim.mono (fun z => z.elim) (mv_21 hK hk hc hI)
end
