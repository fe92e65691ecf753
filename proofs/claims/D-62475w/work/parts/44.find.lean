/-! the plain law: the way down -/
def scr (a b c : Nat) : Prop := a = 2 ∨ a = 13 ∨ a = 14 ∨ (a = 3 ∧ 6 ≤ c) ∨ (a = 10 ∧ 240 ≤ b)
/-- the same but for what is scratch -/
def eqS (σ σ' : Sg) : Prop := (∀ a b c, ¬ scr a b c → gi σ' a b c = gi σ a b c) ∧ (∀ a b c, ¬ (a = 3 ∧ c = 12) → gj σ' a b c = gj σ a b c) ∧ (∀ a b c, gr σ' a b c = gr σ a b c) ∧ nt σ' = nt σ
theorem eqS.rf (σ : Sg) : eqS σ σ := ⟨fun _ _ _ _ => rfl, fun _ _ _ _ => rfl, fun _ _ _ => rfl, rfl⟩
theorem eqS.tr {σ τ υ : Sg} (h1 : eqS σ τ) (h2 : eqS τ υ) : eqS σ υ := ⟨fun a b c h => (h2.1 a b c h).trans (h1.1 a b c h), fun a b c h => (h2.2.1 a b c h).trans (h1.2.1 a b c h), fun a b c => (h2.2.2.1 a b c).trans (h1.2.2.1 a b c), h2.2.2.2.trans h1.2.2.2⟩
theorem eqS_si {σ : Sg} {k i j : Nat} {x : Int32} (h : scr k i j) : eqS σ (si σ k i j x) := ⟨fun a b c hn => by rw [gi_si, if_neg (fun z => hn (by rw [z.1, z.2.1, z.2.2]; exact h))], fun _ _ _ _ => rfl, fun _ _ _ => rfl, rfl⟩
theorem eqS_sA {σ : Sg} {i p : Nat} : eqS σ (sA σ i p) := eqS_si (Or.inl rfl)
theorem eqS.pg {σ σ' : Sg} (h : eqS σ σ') {q : Nat} (hq : q < 240) (j : Nat) : gi σ' 10 q j = gi σ 10 q j := h.1 _ _ _ (by unfold scr; omega)
theorem eqS.co {σ σ' : Sg} (h : eqS σ σ') (t : Nat) : gi σ' 3 t 2 = gi σ 3 t 2 := h.1 _ _ _ (by unfold scr; omega)
theorem Tr_pg {σ σ' : Sg} {n : Nat} (h : ∀ q, q < 240 → ∀ j, gi σ' 10 q j = gi σ 10 q j) : ∀ (d p : Nat) (lo hi : Option Int64) (M : List Cel) (P : List Nat), Tr σ n d p lo hi M P → Tr σ' n d p lo hi M P := by
  intro d
  induction d with
  | zero =>
    intro p lo hi M P ht
    obtain ⟨⟨h1, h2, h3, h4⟩, rfl⟩ := ht
    exact ⟨⟨h1, PL_congr (h p h1) h2, h3, h4⟩, rfl⟩
  | succ d ih =>
    intro p lo hi M P ht
    rcases ht with ⟨⟨h1, h2, h3, h4⟩, rfl⟩ | ⟨e0, es, ⟨h1, h2, h3, h4, h5, h6⟩, rfl, rfl⟩
    · exact Or.inl ⟨⟨h1, PL_congr (h p h1) h2, h3, h4⟩, rfl⟩
    · exact Or.inr ⟨e0, es, ⟨h1, PI_congr (h p h1) h2, h3, h4, h5, Ks_mono (fun p lo hi M P => ih p lo hi M P) _ _ h6⟩, rfl, rfl⟩
theorem TA_pg {σ σ' : Sg} {n p : Nat} {lo hi : Option Int64} {M : List Cel} {P : List Nat} (h : ∀ q, q < 240 → ∀ j, gi σ' 10 q j = gi σ 10 q j) (ht : TA σ n p lo hi M P) : TA σ' n p lo hi M P := by
  obtain ⟨d, hd⟩ := ht
  exact ⟨d, Tr_pg h d p lo hi M P hd⟩
/-- a level of the way: the page, the children ahead of the one that is taken, those behind it -/
abbrev Lv : Type := Nat × List Ent × List Ent
def hole (lo : Option Int64) (p : Nat) : Ent := (lo, p, [], [])
def Cx (σ : Sg) (n t root : Nat) : List Lv → Nat → Option Int64 → Option Int64 → Prop
  | [], p, lo, hi => p = root ∧ lo = none ∧ hi = none
  | (q, A, B) :: Z, p, lo, hi => ∃ loq hiq e0 es, Cx σ n t root Z q loq hiq ∧ gi σ 13 t Z.length = nI q ∧ gi σ 14 t Z.length = nI A.length ∧ q < 240 ∧ A ++ hole lo p :: B = e0 :: es ∧ PI σ q e0.2.1 (es.map ic) ∧ es ≠ [] ∧ (∀ e ∈ es, e.1.isSome = true ∧ (∀ b, e.1 = some b → oLo loq b ∧ oHi hiq b)) ∧ e0.1 = loq ∧ hi = nL B hiq ∧ Ks (TA σ n) A lo ∧ Ks (TA σ n) B hiq
def gM : List Lv → List Cel → List Cel
  | [], M => M
  | (_, A, B) :: Z, M => gM Z (fM A ++ M ++ fM B)
def gP : List Lv → List Nat → List Nat
  | [], P => P
  | (q, A, B) :: Z, P => gP Z (q :: (fP A ++ P ++ fP B))
theorem Cx_congr {σ σ' : Sg} {n t root : Nat} (h : ∀ q, q < 240 → ∀ j, gi σ' 10 q j = gi σ 10 q j) : ∀ (Z : List Lv) (p : Nat) (lo hi : Option Int64), (∀ j, j < Z.length → gi σ' 13 t j = gi σ 13 t j ∧ gi σ' 14 t j = gi σ 14 t j) → Cx σ n t root Z p lo hi → Cx σ' n t root Z p lo hi := by
  intro Z
  induction Z with
  | nil => intro p lo hi _ hc; exact hc
  | cons L Z ih =>
    obtain ⟨q, A, B⟩ := L
    intro p lo hi hw hc
    obtain ⟨loq, hiq, e0, es, c1, c2, c3, c4, c5, c6, c7, c8, c9, c10, c11, c12⟩ := hc
    have hl := hw Z.length (by rw [List.length_cons]; omega)
    exact ⟨loq, hiq, e0, es, ih q loq hiq (fun j hj => hw j (by rw [List.length_cons]; omega)) c1, hl.1.trans c2, hl.2.trans c3, c4, c5, PI_congr (h q c4) c6, c7, c8, c9, c10, Ks_mono (fun _ _ _ _ _ hr => TA_pg h hr) _ _ c11, Ks_mono (fun _ _ _ _ _ hr => TA_pg h hr) _ _ c12⟩
/-- the way and what hangs at its end make a tree -/
theorem Cx_fill {σ : Sg} {n t root : Nat} : ∀ (Z : List Lv) (p : Nat) (lo hi : Option Int64) (M : List Cel) (P : List Nat), Cx σ n t root Z p lo hi → TA σ n p lo hi M P → (M ≠ [] ∨ Z = []) → TA σ n root none none (gM Z M) (gP Z P) := by
  intro Z
  induction Z with
  | nil =>
    intro p lo hi M P hc ht _
    obtain ⟨rfl, rfl, rfl⟩ := hc
    exact ht
  | cons L Z ih =>
    obtain ⟨q, A, B⟩ := L
    intro p lo hi M P hc ht hM
    obtain ⟨loq, hiq, e0, es, c1, c2, c3, c4, c5, c6, c7, c8, c9, c10, c11, c12⟩ := hc
    have hM' : M ≠ [] := hM.resolve_right (fun z => by cases z)
    have hks : Ks (TA σ n) (A ++ (lo, p, M, P) :: B) hiq := Ks_app.mpr ⟨c11, by rw [← c10]; exact ht, hM', c12⟩
    have hne : fM A ++ M ++ fM B ≠ [] := by
      intro z
      have := (List.append_eq_nil_iff.mp (List.append_eq_nil_iff.mp z).1).2
      exact hM' this
    refine ih q loq hiq (fM A ++ M ++ fM B) (q :: (fP A ++ P ++ fP B)) c1 ?_ (Or.inl hne)
    rw [TA_iff]
    right
    cases A with
    | nil =>
      have e1 : e0 = hole lo p ∧ es = B := by
        rw [List.nil_append] at c5
        exact ⟨(List.cons.inj c5).1.symm, (List.cons.inj c5).2.symm⟩
      obtain ⟨rfl, rfl⟩ := e1
      refine ⟨(lo, p, M, P), es, ⟨c4, c6, c7, c8, c9, hks⟩, ?_, ?_⟩
      · simp only [fM, List.nil_append]
      · simp only [fP, List.nil_append]
    | cons a A =>
      have e1 : e0 = a ∧ es = A ++ hole lo p :: B := by
        rw [List.cons_append] at c5
        exact ⟨(List.cons.inj c5).1.symm, (List.cons.inj c5).2.symm⟩
      obtain ⟨rfl, rfl⟩ := e1
      refine ⟨e0, A ++ (lo, p, M, P) :: B, ⟨c4, ?_, by simp, ?_, c9, hks⟩, ?_, ?_⟩
      · have e2 : (A ++ (lo, p, M, P) :: B).map ic = (A ++ hole lo p :: B).map ic := by
          rw [List.map_append, List.map_append, List.map_cons, List.map_cons]
          rfl
        rw [e2]
        exact c6
      · intro e he
        rcases List.mem_append.mp he with he | he
        · exact c8 e (List.mem_append_left _ he)
        · rcases List.mem_cons.mp he with rfl | he
          · exact c8 (hole lo p) (List.mem_append_right _ List.mem_cons_self)
          · exact c8 e (List.mem_append_right _ (List.mem_cons_of_mem _ he))
      · simp only [fM, fM_app, List.append_assoc, List.cons_append]
      · simp only [fP, fP_app, List.append_assoc, List.cons_append]
theorem pick_spec (key : Int64) : ∀ (rest : List ICel) (k n x : Nat), ((pick key k n x rest) = (n, x) ∧ ∀ c ∈ rest, key < c.1) ∨ ∃ ra c rb, rest = ra ++ c :: rb ∧ pick key k n x rest = (k + ra.length + 1, c.2) ∧ ¬ key < c.1 ∧ ∀ c' ∈ rb, key < c'.1 := by
  intro rest
  induction rest with
  | nil => intro k n x; exact Or.inl ⟨rfl, fun _ h => by cases h⟩
  | cons c rest ih =>
    intro k n x
    have hpk : pick key k n x (c :: rest) = if key < c.1 then pick key (k + 1) n x rest else pick key (k + 1) (k + 1) c.2 rest := rfl
    by_cases hlt : key < c.1
    · rw [hpk, if_pos hlt]
      rcases ih (k + 1) n x with ⟨h1, h2⟩ | ⟨ra, c', rb, h1, h2, h3, h4⟩
      · exact Or.inl ⟨h1, fun z hz => by
          rcases List.mem_cons.mp hz with rfl | hz
          · exact hlt
          · exact h2 z hz⟩
      · refine Or.inr ⟨c :: ra, c', rb, by rw [h1]; rfl, ?_, h3, h4⟩
        rw [h2, List.length_cons]
        congr 1
        omega
    · rw [hpk, if_neg hlt]
      rcases ih (k + 1) (k + 1) c.2 with ⟨h1, h2⟩ | ⟨ra, c', rb, h1, h2, h3, h4⟩
      · exact Or.inr ⟨[], c, rest, rfl, h1, hlt, h2⟩
      · refine Or.inr ⟨c :: ra, c', rb, by rw [h1]; rfl, ?_, h3, h4⟩
        rw [h2, List.length_cons]
        congr 1
        omega
theorem split_map {es : List Ent} {ra rb : List ICel} {c : ICel} (h : es.map ic = ra ++ c :: rb) : ∃ ea e eb, es = ea ++ e :: eb ∧ ea.map ic = ra ∧ ic e = c ∧ eb.map ic = rb := by
  obtain ⟨ea, r, h1, h2, h3⟩ := List.map_eq_append_iff.mp h
  obtain ⟨e, eb, h4, h5, h6⟩ := List.map_eq_cons_iff.mp h3
  exact ⟨ea, e, eb, by rw [h1, h4], h2, h5, h6⟩
/-- the child for a key among the children -/
theorem pick_ent {key : Int64} {e0 : Ent} {es : List Ent} {lo hi : Option Int64} (hs : ∀ e ∈ es, e.1.isSome = true) (hlo : oLo lo key) (he0 : e0.1 = lo) (hhi : oHi hi key) :
    ∃ A e B, e0 :: es = A ++ e :: B ∧ (pick key 0 0 e0.2.1 (es.map ic)) = (A.length, e.2.1) ∧ oLo e.1 key ∧ oHi (nL B hi) key := by
  have nx : ∀ B : List Ent, (∀ e ∈ B, e.1.isSome = true) → (∀ c ∈ B.map ic, key < c.1) → oHi (nL B hi) key := by
    intro B hB hlt
    cases B with
    | nil => exact hhi
    | cons b B =>
      intro x hx
      have h1 : b.1 = some x := hx
      have h2 := hlt (ic b) (by simp)
      unfold ic at h2
      rw [h1] at h2
      exact h2
  rcases pick_spec key (es.map ic) 0 0 e0.2.1 with ⟨h1, h2⟩ | ⟨ra, c, rb, h1, h2, h3, h4⟩
  · exact ⟨[], e0, es, rfl, h1, by rw [he0]; exact hlo, nx es hs h2⟩
  · obtain ⟨ea, e, eb, rfl, rfl, rfl, rfl⟩ := split_map h1
    refine ⟨e0 :: ea, e, eb, rfl, ?_, ?_, nx eb (fun z hz => hs z (List.mem_append_right _ (List.mem_cons_of_mem _ hz))) h4⟩
    · rw [h2, List.length_map, List.length_cons, Nat.zero_add]
      rfl
    · intro x hx
      have : ¬ key < x := by
        have h5 := h3
        unfold ic at h5
        rw [hx] at h5
        exact h5
      exact Int64.not_lt.mp this
theorem fM_len {R : Rl} : ∀ (es : List Ent) (hi : Option Int64), Ks R es hi → es.length ≤ (fM es).length := by
  intro es
  induction es with
  | nil => intro hi _; exact Nat.le_refl _
  | cons e t ih =>
    intro hi h
    have h1 := ih hi h.2.2
    have h2 : 1 ≤ e.2.2.1.length := by
      rcases hne : e.2.2.1 with _ | ⟨a, b⟩
      · exact absurd hne h.2.1
      · simp
    rw [fM, List.length_append, List.length_cons]
    omega
theorem gi_d1 (d : Nat) : nI d + 1 = nI (d + 1) := nI_1 d
theorem find_loop {t root n : Nat} (key : Int64) : ∀ (d p : Nat) (lo hi : Option Int64) (M : List Cel) (P : List Nat) (Z : List Lv) (σ : Sg) (m : Nat), Tr σ n d p lo hi M P → Cx σ n t root Z p lo hi → oLo lo key → oHi hi key → gi σ 3 t 6 = nI Z.length → Z.length + M.length ≤ 91 → (M ≠ [] ∨ Z = []) → d + 1 ≤ m →
    ∃ Z' p' lo' hi' M' σ', lp (fun q => b_Tr_find_10 t key q.1 q.2) m (nI p, σ) = some (nI p', σ') ∧ eqS σ σ' ∧ Cx σ' n t root Z' p' lo' hi' ∧ Lf σ' n p' lo' hi' M' ∧ oLo lo' key ∧ oHi hi' key ∧ gi σ' 3 t 6 = nI Z'.length ∧ Z'.length + M'.length ≤ 91 ∧ (M' ≠ [] ∨ Z' = []) ∧ gM Z' M' = gM Z M ∧ gP Z' [p'] = gP Z P := by
  have leafcase : ∀ (p : Nat) (lo hi : Option Int64) (M : List Cel) (P : List Nat) (Z : List Lv) (σ : Sg) (m : Nat), Lf σ n p lo hi M ∧ P = [p] → Cx σ n t root Z p lo hi → oLo lo key → oHi hi key → gi σ 3 t 6 = nI Z.length → Z.length + M.length ≤ 91 → (M ≠ [] ∨ Z = []) → 1 ≤ m →
      ∃ Z' p' lo' hi' M' σ', lp (fun q => b_Tr_find_10 t key q.1 q.2) m (nI p, σ) = some (nI p', σ') ∧ eqS σ σ' ∧ Cx σ' n t root Z' p' lo' hi' ∧ Lf σ' n p' lo' hi' M' ∧ oLo lo' key ∧ oHi hi' key ∧ gi σ' 3 t 6 = nI Z'.length ∧ Z'.length + M'.length ≤ 91 ∧ (M' ≠ [] ∨ Z' = []) ∧ gM Z' M' = gM Z M ∧ gP Z' [p'] = gP Z P := by
    intro p lo hi M P Z σ m ht hc h1 h2 h3 h4 h5 hm
    obtain ⟨m, rfl⟩ : ∃ m', m = m' + 1 := ⟨m - 1, by omega⟩
    obtain ⟨hL, rfl⟩ := ht
    refine ⟨Z, p, lo, hi, M, σ, lp_r ?_, eqS.rf σ, hc, hL, h1, h2, h3, h4, h5, rfl, rfl⟩
    show b_Tr_find_10 t key (nI p) σ = _
    unfold b_Tr_find_10
    rw [leaf_L hL.1 hL.2.1, bn2_eq, if_neg (by decide)]
  intro d
  induction d with
  | zero =>
    intro p lo hi M P Z σ m ht hc h1 h2 h3 h4 h5 hm
    exact leafcase p lo hi M P Z σ m ht hc h1 h2 h3 h4 h5 (by omega)
  | succ d ih =>
    intro p lo hi M P Z σ m ht hc h1 h2 h3 h4 h5 hm
    rcases ht with ht | ⟨e0, es, ⟨k1, k2, k3, k4, k5, k6⟩, rfl, rfl⟩
    · exact leafcase p lo hi M P Z σ m ht hc h1 h2 h3 h4 h5 (by omega)
    obtain ⟨m, rfl⟩ : ∃ m', m = m' + 1 := ⟨m - 1, by omega⟩
    have hlen2 := fM_len (e0 :: es) hi k6
    have hes1 : 1 ≤ es.length := by
      cases es with
      | nil => exact absurd rfl k3
      | cons a b => simp
    rw [List.length_cons] at hlen2
    have hdep : Z.length < 100 := by omega
    obtain ⟨A, e, B, hE, hpk, hlo, hhi⟩ := pick_ent (fun z hz => (k4 z hz).1) h1 k5 h2
    have hpi12 : PI (si σ 13 t Z.length (nI p)) p e0.2.1 (es.map ic) := PI_congr (fun j => by rw [gi_si, if_neg (by omega)]) k2
    have hcf := childFor_eq (t := t) (key := key) k1 hdep (σ := si σ 13 t Z.length (nI p)) (by rw [gi_si, if_neg (by omega)]; exact h3) hpi12
    rw [hpk] at hcf
    generalize hq9 : 3 + (iB (es.map ic)).length = q9 at hcf
    have step : b_Tr_find_10 t key (nI p) σ = some (.inl (nI e.2.1, si (sA (si (si σ 13 t Z.length (nI p)) 14 t Z.length (nI A.length)) p q9) 3 t 6 (nI (Z.length + 1)))) := by
      unfold b_Tr_find_10
      rw [leaf_I k1 k2, bn2_eq, if_pos rfl, h3, chk_pos (vp_in_nI hdep (by decide)), lt_eq, nI_clamp (by omega), hcf, bn2_eq, lt_eq, gi_sA10 _ _ _ _ _ _ (by decide), gi_si, if_neg (by omega), gi_si, if_neg (by omega), h3, nI_1]
    generalize hσ' : si (sA (si (si σ 13 t Z.length (nI p)) 14 t Z.length (nI A.length)) p q9) 3 t 6 (nI (Z.length + 1)) = σ1 at step
    have hS : eqS σ σ1 := by
      rw [← hσ']
      refine eqS.tr (eqS.tr (eqS.tr (eqS_si (k := 13) (i := t) (j := Z.length) (x := nI p) ?_) (eqS_si (k := 14) (i := t) (j := Z.length) (x := nI A.length) ?_)) eqS_sA) (eqS_si ?_)
      · unfold scr; omega
      · unfold scr; omega
      · unfold scr; omega
    have hpg : ∀ q, q < 240 → ∀ j, gi σ1 10 q j = gi σ 10 q j := fun q hq j => hS.pg hq j
    have hw : ∀ j, j < Z.length → gi σ1 13 t j = gi σ 13 t j ∧ gi σ1 14 t j = gi σ 14 t j := by
      intro j hj
      rw [← hσ']
      constructor
      · rw [gi_si, if_neg (by omega), gi_sA10 _ _ _ _ _ _ (by decide), gi_si, if_neg (by omega), gi_si, if_neg (by omega)]
      · rw [gi_si, if_neg (by omega), gi_sA10 _ _ _ _ _ _ (by decide), gi_si, if_neg (by omega), gi_si, if_neg (by omega)]
    rw [hE] at k6
    obtain ⟨ka, ke, kem, kb⟩ := Ks_app.mp k6
    have hTA : ∀ (L : List Ent) (h : Option Int64), Ks (Tr σ n d) L h → Ks (TA σ1 n) L h := fun L h hk => Ks_mono (fun _ _ _ _ _ hr => ⟨d, Tr_pg hpg _ _ _ _ _ _ hr⟩) _ _ hk
    have hCx : Cx σ1 n t root ((p, A, B) :: Z) e.2.1 e.1 (nL B hi) := by
      have hmem : ∀ z : Ent, z ∈ es → z.1.isSome = true ∧ (∀ b, z.1 = some b → oLo lo b ∧ oHi hi b) := k4
      have hcz := Cx_congr hpg Z p lo hi hw hc
      have hw1 : gi σ1 13 t Z.length = nI p := by
        rw [← hσ', gi_si, if_neg (by omega), gi_sA10 _ _ _ _ _ _ (by decide), gi_si, if_neg (by omega), gi_si, if_pos ⟨rfl, rfl, rfl⟩]
      have hw2 : gi σ1 14 t Z.length = nI A.length := by
        rw [← hσ', gi_si, if_neg (by omega), gi_sA10 _ _ _ _ _ _ (by decide), gi_si, if_pos ⟨rfl, rfl, rfl⟩]
      have hpi1 := PI_congr (hpg p k1) k2
      cases A with
      | nil =>
        rw [List.nil_append] at hE
        obtain ⟨rfl, rfl⟩ := List.cons.inj hE
        exact ⟨lo, hi, hole e0.1 e0.2.1, es, hcz, hw1, hw2, k1, rfl, hpi1, k3, hmem, k5, rfl, hTA _ _ ka, hTA _ _ kb⟩
      | cons a A =>
        rw [List.cons_append] at hE
        obtain ⟨rfl, rfl⟩ := List.cons.inj hE
        refine ⟨lo, hi, e0, A ++ hole e.1 e.2.1 :: B, hcz, hw1, hw2, k1, rfl, ?_, by simp, ?_, k5, rfl, hTA _ _ ka, hTA _ _ kb⟩
        · have e2 : (A ++ hole e.1 e.2.1 :: B).map ic = (A ++ e :: B).map ic := by
            rw [List.map_append, List.map_append, List.map_cons, List.map_cons]
            rfl
          rw [e2]
          exact hpi1
        · intro z hz
          rcases List.mem_append.mp hz with hz | hz
          · exact hmem z (List.mem_append_left _ hz)
          · rcases List.mem_cons.mp hz with rfl | hz
            · exact hmem e (List.mem_append_right _ List.mem_cons_self)
            · exact hmem z (List.mem_append_right _ (List.mem_cons_of_mem _ hz))
    have hfM : fM (e0 :: es) = fM A ++ e.2.2.1 ++ fM B := by rw [hE, fM_app, fM, List.append_assoc]
    have hfP : fP (e0 :: es) = fP A ++ e.2.2.2 ++ fP B := by rw [hE, fP_app, fP, List.append_assoc]
    have hsz : Z.length + 1 + e.2.2.1.length ≤ 91 := by
      have e3 := fM_len A _ ka
      have e4 := fM_len B _ kb
      have e5 : (e0 :: es).length = A.length + (B.length + 1) := by rw [hE, List.length_append, List.length_cons]
      rw [List.length_cons] at e5
      rw [hfM, List.length_append, List.length_append] at h4
      omega
    obtain ⟨Z', p', lo', hi', M', σ', r1, r2, r3, r4, r5, r6, r7, r8, r9, r10, r11⟩ := ih e.2.1 e.1 (nL B hi) e.2.2.1 e.2.2.2 ((p, A, B) :: Z) σ1 m (Tr_pg hpg _ _ _ _ _ _ ke) hCx hlo hhi (by rw [← hσ', gi_si, if_pos ⟨rfl, rfl, rfl⟩, List.length_cons]) (by rw [List.length_cons]; exact hsz) (Or.inl kem) (by omega)
    refine ⟨Z', p', lo', hi', M', σ', ?_, hS.tr r2, r3, r4, r5, r6, r7, r8, r9, ?_, ?_⟩
    · rw [lp_l (s' := (nI e.2.1, σ1)) step]
      exact r1
    · rw [r10, hfM]; rfl
    · rw [r11, hfP]; rfl
