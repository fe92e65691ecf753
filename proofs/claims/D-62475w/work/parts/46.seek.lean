/-! the plain law: what lies where; has -/
def bnd (n : Nat) (lo hi : Option Int64) (M : List Cel) : Prop := (∀ c ∈ M, c.2.length = n ∧ oLo lo c.1 ∧ oHi hi c.1) ∧ M.Pairwise (fun a b => a.1 < b.1)
theorem Ks_bnd {R : Rl} {n : Nat} (hR : ∀ p lo hi M P, R p lo hi M P → bnd n lo hi M) : ∀ (es : List Ent) (hi : Option Int64), Ks R es hi → (∀ e ∈ es.tail, e.1.isSome = true) → bnd n (nL es hi) hi (fM es) := by
  intro es
  induction es with
  | nil => intro hi _ _; exact ⟨fun c hc => (by cases hc), List.Pairwise.nil⟩
  | cons e t ih =>
    intro hi hk hs
    obtain ⟨h1, h2, h3⟩ := hk
    obtain ⟨b1, b2⟩ := hR _ _ _ _ _ h1
    have hs' : ∀ x ∈ t, x.1.isSome = true := hs
    obtain ⟨i1, i2⟩ := ih hi h3 (fun x hx => hs' x (List.mem_of_mem_tail hx))
    -- the cells of e lie below those of t
    have low : ∀ c ∈ e.2.2.1, ∀ c' ∈ fM t, c.1 < c'.1 := by
      intro c hc c' hc'
      cases t with
      | nil => cases hc'
      | cons e' t' =>
        have hsome := hs' e' List.mem_cons_self
        obtain ⟨f, hf⟩ := Option.isSome_iff_exists.mp hsome
        have l1 := (b1 c hc).2.2 f (by show nL (e' :: t') hi = _; exact hf)
        have l2 := (i1 c' hc').2.1 f (by show nL (e' :: t') hi = _; exact hf)
        exact Int64.lt_of_lt_of_le l1 l2
    refine ⟨fun c hc => ?_, ?_⟩
    · show _ ∧ oLo e.1 c.1 ∧ _
      rcases List.mem_append.mp hc with hc9 | hc
      · refine ⟨(b1 c hc9).1, (b1 c hc9).2.1, ?_⟩
        clear hc
        cases t with
        | nil => exact (b1 c hc9).2.2
        | cons e' t' =>
          intro x hx
          obtain ⟨c', hc'⟩ := List.exists_mem_of_ne_nil _ h3.2.1
          have hm : c' ∈ fM (e' :: t') := List.mem_append_left _ hc'
          exact Int64.lt_trans (low c hc9 c' hm) ((i1 c' hm).2.2 x hx)
      · refine ⟨(i1 c hc).1, fun x hx => ?_, (i1 c hc).2.2⟩
        obtain ⟨c', hc'⟩ := List.exists_mem_of_ne_nil _ h2
        exact Int64.le_of_lt (Int64.lt_of_le_of_lt ((b1 c' hc').2.1 x hx) (low c' hc' c hc))
    · show (e.2.2.1 ++ fM t).Pairwise _
      exact List.pairwise_append.mpr ⟨b2, i2, low⟩
theorem Tr_bnd {σ : Sg} {n : Nat} : ∀ (d p : Nat) (lo hi : Option Int64) (M : List Cel) (P : List Nat), Tr σ n d p lo hi M P → bnd n lo hi M := by
  intro d
  induction d with
  | zero => intro p lo hi M P h; exact h.1.2.2
  | succ d ih =>
    intro p lo hi M P h
    rcases h with h | ⟨e0, es, ⟨h1, h2, h3, h4, h5, h6⟩, rfl, rfl⟩
    · exact h.1.2.2
    · have := Ks_bnd ih (e0 :: es) hi h6 (fun e he => (h4 e he).1)
      have e1 : nL (e0 :: es) hi = lo := h5
      rw [e1] at this
      exact this
theorem TA_bnd {σ : Sg} {n p : Nat} {lo hi : Option Int64} {M : List Cel} {P : List Nat} (h : TA σ n p lo hi M P) : bnd n lo hi M := by
  obtain ⟨d, hd⟩ := h
  exact Tr_bnd d p lo hi M P hd
/-- what is left and right of the way -/
def gA : List Lv → List Cel
  | [] => []
  | (_, A, _) :: Z => gA Z ++ fM A
def gB : List Lv → List Cel
  | [] => []
  | (_, _, B) :: Z => fM B ++ gB Z
theorem gM_eq : ∀ (Z : List Lv) (M : List Cel), gM Z M = gA Z ++ M ++ gB Z := by
  intro Z
  induction Z with
  | nil => intro M; simp [gM, gA, gB]
  | cons L Z ih =>
    obtain ⟨q, A, B⟩ := L
    intro M
    rw [gM, ih, gA, gB]
    simp only [List.append_assoc]
theorem Cx_bnd {σ : Sg} {n t root : Nat} : ∀ (Z : List Lv) (p : Nat) (lo hi : Option Int64), Cx σ n t root Z p lo hi → (∀ c ∈ gA Z, ∃ b, lo = some b ∧ c.1 < b) ∧ (∀ c ∈ gB Z, ∃ b, hi = some b ∧ b ≤ c.1) := by
  intro Z
  induction Z with
  | nil => intro p lo hi _; exact ⟨fun c hc => (by cases hc), fun c hc => (by cases hc)⟩
  | cons L Z ih =>
    obtain ⟨q, A, B⟩ := L
    intro p lo hi hc
    obtain ⟨loq, hiq, e0, es, c1, c2, c3, c4, c5, c6, c7, c8, c9, c10, c11, c12⟩ := hc
    obtain ⟨i1, i2⟩ := ih q loq hiq c1
    have hA : ∀ e ∈ A.tail, e.1.isSome = true := by
      cases A with
      | nil => intro e he; cases he
      | cons a A =>
        rw [List.cons_append] at c5
        intro e he
        exact (c8 e (by rw [← (List.cons.inj c5).2]; exact List.mem_append_left _ he)).1
    have hB : ∀ e ∈ B, e.1.isSome = true ∧ (∀ b, e.1 = some b → oLo loq b ∧ oHi hiq b) := by
      intro e he
      cases A with
      | nil =>
        rw [List.nil_append] at c5
        exact c8 e (by rw [← (List.cons.inj c5).2]; exact he)
      | cons a A =>
        rw [List.cons_append] at c5
        exact c8 e (by rw [← (List.cons.inj c5).2]; exact List.mem_append_right _ (List.mem_cons_of_mem _ he))
    have bA := Ks_bnd (fun _ _ _ _ _ h => TA_bnd h) A lo c11 hA
    have bB := Ks_bnd (fun _ _ _ _ _ h => TA_bnd h) B hiq c12 (fun e he => (hB e (List.mem_of_mem_tail he)).1)
    refine ⟨fun c hc => ?_, fun c hc => ?_⟩
    · -- left
      cases A with
      | nil =>
        rw [List.nil_append] at c5
        have e1 : lo = loq := by
          have := (List.cons.inj c5).1
          rw [← this] at c9
          exact c9
        rw [e1]
        rcases List.mem_append.mp hc with hc | hc
        · exact i1 c hc
        · cases hc
      | cons a A =>
        rw [List.cons_append] at c5
        have hh := c8 (hole lo p) (by rw [← (List.cons.inj c5).2]; exact List.mem_append_right _ List.mem_cons_self)
        obtain ⟨f, hf⟩ := Option.isSome_iff_exists.mp hh.1
        have hf' : lo = some f := hf
        refine ⟨f, hf', ?_⟩
        rcases List.mem_append.mp hc with hc | hc
        · obtain ⟨b, hb1, hb2⟩ := i1 c hc
          exact Int64.lt_of_lt_of_le hb2 ((hh.2 f hf).1 b hb1)
        · exact (bA.1 c hc).2.2 f hf'
    · rw [c10]
      cases B with
      | nil =>
        rcases List.mem_append.mp hc with hc | hc
        · cases hc
        · exact i2 c hc
      | cons b B =>
        obtain ⟨f, hf⟩ := Option.isSome_iff_exists.mp (hB b List.mem_cons_self).1
        refine ⟨f, hf, ?_⟩
        rcases List.mem_append.mp hc with hc | hc
        · exact (bB.1 c hc).2.1 f hf
        · obtain ⟨x, hx1, hx2⟩ := i2 c hc
          exact Int64.le_of_lt (Int64.lt_of_lt_of_le (((hB b List.mem_cons_self).2 f hf).2 x hx1) hx2)
/-- the cells not below a key, the first one first -/
def frm (key : Int64) (M : List Cel) : List Cel := M.filter (fun c => !decide (c.1 < key))
theorem frm_eq {σ : Sg} {n t root : Nat} {key : Int64} {Z : List Lv} {p : Nat} {lo hi : Option Int64} {pre post : List Cel} (h : Fnd σ n t root key Z p lo hi pre post) : frm key (gM Z (pre ++ post)) = post ++ gB Z := by
  obtain ⟨f1, f2, f3, f4, f5, f6, f7, f8, f9, f10, -⟩ := h
  obtain ⟨b1, b2⟩ := Cx_bnd Z p lo hi f1
  unfold frm
  rw [gM_eq, List.filter_append, List.filter_append, List.filter_append]
  have e1 : (gA Z).filter (fun c => !decide (c.1 < key)) = [] := by
    rw [List.filter_eq_nil_iff]
    intro c hc
    obtain ⟨b, hb1, hb2⟩ := b1 c hc
    simp [Int64.lt_of_lt_of_le hb2 (f3 b hb1)]
  have e2 : pre.filter (fun c => !decide (c.1 < key)) = [] := by
    rw [List.filter_eq_nil_iff]
    intro c hc
    simp [f9 c hc]
  have e3 : post.filter (fun c => !decide (c.1 < key)) = post := by
    rw [List.filter_eq_self]
    intro c hc
    simp [f10 c hc]
  have e4 : (gB Z).filter (fun c => !decide (c.1 < key)) = gB Z := by
    rw [List.filter_eq_self]
    intro c hc
    obtain ⟨b, hb1, hb2⟩ := b2 c hc
    have : ¬ c.1 < key := fun z => Int64.lt_irrefl (Int64.lt_trans (Int64.lt_of_lt_of_le (f4 b hb1) hb2) z)
    simp [this]
  rw [e1, e2, e3, e4]
  simp
theorem fnd_found {σ : Sg} {n t root : Nat} {key : Int64} {Z : List Lv} {p : Nat} {lo hi : Option Int64} {pre post : List Cel} (h : Fnd σ n t root key Z p lo hi pre post) : ((∃ c r, post = c :: r ∧ c.1 = key) → gi σ 3 t 10 = 1) ∧ (¬ (∃ c r, post = c :: r ∧ c.1 = key) → gi σ 3 t 10 = 0) := by
  obtain ⟨-, -, -, -, -, -, -, -, -, -, -, -, f13, f14⟩ := h
  refine ⟨?_, fun hn => ?_⟩
  · rintro ⟨c, r, hp, hk⟩
    rw [(f13 c r hp).2, if_pos hk]
  · cases hp : post with
    | nil => exact f14 hp
    | cons c r => rw [(f13 c r hp).2, if_neg (fun hk => hn ⟨c, r, hp, hk⟩)]
/-- whether a key is there -/
def hasK (key : Int64) (M : List Cel) : Prop := ∃ c ∈ M, c.1 = key
theorem fnd_has {σ : Sg} {n t root : Nat} {key : Int64} {Z : List Lv} {p : Nat} {lo hi : Option Int64} {pre post : List Cel} (h : Fnd σ n t root key Z p lo hi pre post) : (∃ c r, post = c :: r ∧ c.1 = key) ↔ hasK key (gM Z (pre ++ post)) := by
  have hf := frm_eq h
  obtain ⟨f1, f2, f3, f4, f5, f6, f7, f8, f9, f10, -⟩ := h
  constructor
  · rintro ⟨c, r, rfl, hk⟩
    refine ⟨c, ?_, hk⟩
    rw [gM_eq]
    exact List.mem_append_left _ (List.mem_append_right _ (List.mem_append_right _ List.mem_cons_self))
  · rintro ⟨c, hc, hk⟩
    have hm : c ∈ frm key (gM Z (pre ++ post)) := List.mem_filter.mpr ⟨hc, by simp [hk, Int64.lt_irrefl]⟩
    rw [hf] at hm
    obtain ⟨b1, b2⟩ := Cx_bnd Z p lo hi f1
    rcases List.mem_append.mp hm with hm | hm
    · cases post with
      | nil => cases hm
      | cons c0 r =>
        refine ⟨c0, r, rfl, ?_⟩
        rcases List.mem_cons.mp hm with rfl | hm
        · exact hk
        · have hs := (List.pairwise_append.mp f2.2.2.2).2.1
          have h1 := (List.pairwise_cons.mp hs).1 c hm
          rw [hk] at h1
          exact absurd h1 (f10 c0 List.mem_cons_self)
    · obtain ⟨b, hb1, hb2⟩ := b2 c hm
      rw [hk] at hb2
      exact absurd (f4 b hb1) (Int64.not_lt.mpr hb2)
theorem has_eq {σ : Sg} {n t root : Nat} {M : List Cel} {P : List Nat} (h : TO σ n t root M P) (key : Int64) : ∃ r σ', f_Tr_has t key σ = some (r, σ') ∧ eqS σ σ' ∧ (hasK key M → r = 1) ∧ (¬ hasK key M → r = 0) := by
  obtain ⟨Z, p, lo, hi, pre, post, σ', h1, h2, h3, h4, h5⟩ := find_eq h key
  have hf := fnd_found h3
  have hh := fnd_has h3
  rw [h4] at hh
  refine ⟨gi σ' 3 t 10, σ', ?_, h2, fun hk => hf.1 (hh.mpr hk), fun hk => hf.2 (fun z => hk (hh.mp z))⟩
  unfold f_Tr_has
  rw [h1, bnd_eq, chk_pos]
  by_cases hk : ∃ c r, post = c :: r ∧ c.1 = key
  · rw [hf.1 hk]; exact zb1
  · rw [hf.2 hk]; exact zb0
