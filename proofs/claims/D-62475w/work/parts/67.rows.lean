/-! the plain law: the model's rows -/
theorem lp_inv {S E : Type} {body : S → Option (S ⊕ E)} {I : Nat → S → Prop} {Q : E → Prop} {n : Nat} (hstep : ∀ i s, i < n → I i s → ∃ s', body s = some (.inl s') ∧ I (i + 1) s') (hend : ∀ s, I n s → ∃ e, body s = some (.inr e) ∧ Q e) : ∀ (d i : Nat) (s : S) (m : Nat), i + d = n → I i s → d + 1 ≤ m → ∃ e, lp body m s = some e ∧ Q e := by
  intro d
  induction d with
  | zero =>
    intro i s m h1 h2 h3
    obtain ⟨m, rfl⟩ : ∃ m', m = m' + 1 := ⟨m - 1, by omega⟩
    have : i = n := by omega
    subst this
    obtain ⟨e, h4, h5⟩ := hend s h2
    exact ⟨e, lp_r h4, h5⟩
  | succ d ih =>
    intro i s m h1 h2 h3
    obtain ⟨m, rfl⟩ : ∃ m', m = m' + 1 := ⟨m - 1, by omega⟩
    obtain ⟨s', h4, h5⟩ := hstep i s (by omega) h2
    rw [lp_l h4]
    exact ih (i + 1) s' m (by omega) h5 (by omega)
theorem lp_for {S E : Type} {body : S → Option (S ⊕ E)} (I : Nat → S → Prop) (Q : E → Prop) (n : Nat) {s : S} (hn : n < 4999) (h0 : I 0 s) (hstep : ∀ i s, i < n → I i s → ∃ s', body s = some (.inl s') ∧ I (i + 1) s') (hend : ∀ s, I n s → ∃ e, body s = some (.inr e) ∧ Q e) : ∃ e, lp body FU s = some e ∧ Q e :=
  lp_inv hstep hend n 0 s FU (by omega) h0 (by unfold FU; omega)
def mR (σ : Sg) (R : List Row) : Prop := ∀ i r, R[i]? = some r → gi σ 27 0 i = nI r.1 ∧ gj σ 28 0 i = r.2.1 ∧ ∀ k, k < r.2.2.length → gi σ 30 0 (4 * i + k) = ob (r.2.2.getD k none) ∧ gj σ 29 0 (4 * i + k) = (r.2.2.getD k none).getD 0
/-- the model's side: its arrays hold the rows R -/
def Mo (σ : Sg) (N : Nat) (col : Nat → Nat) (R : List Row) : Prop := gi σ 9 0 1 = nI N ∧ (∀ t, t < N → gi σ 26 0 t = nI (col t)) ∧ gi σ 9 0 3 = nI R.length ∧ mR σ R
def wR (N : Nat) (col : Nat → Nat) (R : List Row) : Prop := R.length ≤ 90 ∧ ∀ r ∈ R, r.1 < N ∧ r.2.2.length = col r.1
theorem Mo_fr {σ σ' : Sg} {N : Nat} {col : Nat → Nat} {R : List Row} (h1 : ∀ a b c, (a = 26 ∨ a = 27 ∨ a = 30 ∨ (a = 9 ∧ (c = 1 ∨ c = 3))) → gi σ' a b c = gi σ a b c) (h2 : ∀ a b c, (a = 28 ∨ a = 29) → gj σ' a b c = gj σ a b c) (h : Mo σ N col R) : Mo σ' N col R :=
  ⟨(h1 _ _ _ (by omega)).trans h.1, fun t ht => (h1 _ _ _ (by omega)).trans (h.2.1 t ht), (h1 _ _ _ (by omega)).trans h.2.2.1, fun i r hr => ⟨(h1 _ _ _ (by omega)).trans (h.2.2.2 i r hr).1, (h2 _ _ _ (by omega)).trans (h.2.2.2 i r hr).2.1, fun k hk => ⟨(h1 _ _ _ (by omega)).trans ((h.2.2.2 i r hr).2.2 k hk).1, (h2 _ _ _ (by omega)).trans ((h.2.2.2 i r hr).2.2 k hk).2⟩⟩⟩
theorem take_get {R : List Row} {i : Nat} (hi : i < R.length) : ∃ r, R[i]? = some r ∧ R.take (i + 1) = R.take i ++ [r] := by
  refine ⟨R[i], List.getElem?_eq_getElem hi, ?_⟩
  rw [List.take_add_one, List.getElem?_eq_getElem hi]
  rfl
theorem vp_in_90 {i : Nat} (h : i < 90) : vp_in (nI i) 90 := vp_in_nI h (by decide)
theorem own_snoc {A : List Row} {r : Row} {t : Nat} : own (A ++ [r]) t = own A t ++ (if r.1 = t then [r.2] else []) := by
  rw [own_app]
  congr 1
  by_cases h : r.1 = t
  · rw [if_pos h, ← h]
    exact own_one r.1 r.2
  · rw [if_neg h]
    exact own_other (fun z => h z.symm) r.2
theorem get_snoc {A : List Row} {r x : Row} {j : Nat} (h : A[j]? = some x) : (A ++ [r])[j]? = some x := by
  have hj := (List.getElem?_eq_some_iff.mp h).1
  rw [List.getElem?_append_left hj]
  exact h
/-- the last row of table t with that key -/
def hit (R : List Row) (t : Nat) (key : Int64) (j : Nat) (c : Cel) : Prop := R[j]? = some (t, c) ∧ c.1 = key ∧ ∀ i d, R[i]? = some (t, d) → d.1 = key → i ≤ j
def rowOfS (R : List Row) (t : Nat) (key : Int64) (x : Int32) : Prop := (x = -1 ∧ ¬ hasK key (own R t)) ∨ ∃ j c, hit R t key j c ∧ x = nI j
theorem rowOf_eq {σ : Sg} {R : List Row} {t : Nat} (key : Int64) (hm : gi σ 9 0 3 = nI R.length) (hR : mR σ R) (hl : R.length ≤ 90) (hN : ∀ r ∈ R, r.1 < 3) (ht : t < 3) : ∃ x, f_Md_rowOf (nI t) key σ = some (x, σ) ∧ rowOfS R t key x := by
  unfold f_Md_rowOf l_Md_rowOf_6
  rw [lt_eq]
  obtain ⟨e, h1, h2⟩ := lp_for (body := fun q : Int32 × Int32 × Sg => b_Md_rowOf_6 (nI t) key q.1 q.2.1 q.2.2) (s := (-1, 0, σ)) (fun i s => s.2.1 = nI i ∧ s.2.2 = σ ∧ rowOfS (R.take i) t key s.1) (fun e => e.2 = σ ∧ rowOfS R t key e.1) R.length (by omega) ⟨rfl, rfl, Or.inl ⟨rfl, fun z => by obtain ⟨c, h, -⟩ := z; rw [List.take_zero] at h; cases h⟩⟩
    (fun i s hi hs => by
      obtain ⟨x, y, τ⟩ := s
      obtain ⟨rfl, rfl, hs⟩ := hs
      obtain ⟨r, hr, htk⟩ := take_get hi
      have hrow := hR i r hr
      have hr3 : r.1 < 3 := hN r (List.mem_of_getElem? hr)
      have hin : vp_in (nI i) 90 := vp_in_90 (by omega)
      have hA : (R.take i).length = i := by rw [List.length_take]; omega
      show ∃ s', b_Md_rowOf_6 (nI t) key x (nI i) τ = _ ∧ _
      unfold b_Md_rowOf_6
      rw [hm, if_neg (nI_ge hi (by omega)), chk_pos hin, chk_pos hin, nI_clamp (by omega), hrow.1, hrow.2.1]
      have old : ∀ (j : Nat) (c : Cel), (R.take (i + 1))[j]? = some (t, c) → c.1 = key → ¬ (r.1 = t ∧ r.2.1 = key) → (R.take i)[j]? = some (t, c) := fun j c hj hk hn => by
        rw [htk] at hj
        by_cases hji : j < i
        · rw [List.getElem?_append_left (by omega)] at hj
          exact hj
        · rw [List.getElem?_append_right (by omega)] at hj
          have hj0 : j - (R.take i).length = 0 := by
            have := (List.getElem?_eq_some_iff.mp hj).1
            rw [List.length_singleton] at this
            omega
          rw [hj0] at hj
          have hrr : r = (t, c) := by simpa using hj
          exact absurd ⟨by rw [hrr], by rw [hrr]; exact hk⟩ hn
      by_cases hm1 : r.1 = t ∧ r.2.1 = key
      · have e1 : nI r.1 = nI t := by rw [hm1.1]
        rw [if_pos e1, if_pos hm1.2, bnd_eq, lt_eq, nI_1]
        refine ⟨_, rfl, rfl, rfl, Or.inr ⟨i, r.2, ⟨?_, hm1.2, fun j d hj _ => ?_⟩, rfl⟩⟩
        · rw [htk, List.getElem?_append_right (by omega), hA, Nat.sub_self, ← hm1.1]
          rfl
        · have := (List.getElem?_eq_some_iff.mp hj).1
          rw [List.length_take] at this
          omega
      · have hres : (Option.bind (if nI r.1 = nI t then (if r.2.1 = key then (some (nI i)) else (some x)) else some x) (fun (x9 : Int32) => lt_ (nI i + 1 : Int32) (fun (x15 : Int32) => (some (.inl (x9, x15, τ)) : Option ((Int32 × Int32 × Sg) ⊕ (Int32 × Sg)))))) = some (.inl (x, nI (i + 1), τ)) := by
          by_cases h1 : nI r.1 = nI t
          · have h2 : ¬ r.2.1 = key := fun z => hm1 ⟨nI_inj (by omega) (by omega) h1, z⟩
            rw [if_pos h1, if_neg h2, bnd_eq, lt_eq, nI_1]
          · rw [if_neg h1, bnd_eq, lt_eq, nI_1]
        refine ⟨_, hres, rfl, rfl, ?_⟩
        show rowOfS (R.take (i + 1)) t key x
        rcases hs with ⟨h1, h2⟩ | ⟨j, c, ⟨h1, h2, h3⟩, h4⟩
        · refine Or.inl ⟨h1, fun z => ?_⟩
          obtain ⟨c, hc, hk⟩ := z
          obtain ⟨j, hj⟩ := List.getElem?_of_mem (mem_own.mp hc)
          exact h2 ⟨c, mem_own.mpr (List.mem_of_getElem? (old j c hj hk hm1)), hk⟩
        · refine Or.inr ⟨j, c, ⟨by rw [htk]; exact get_snoc h1, h2, fun i' d hd hk => h3 i' d (old i' d hd hk hm1) hk⟩, h4⟩)
    (fun s hs => by
      obtain ⟨x, y, τ⟩ := s
      obtain ⟨rfl, rfl, hs⟩ := hs
      refine ⟨(x, τ), ?_, rfl, by rw [List.take_length] at hs; exact hs⟩
      show b_Md_rowOf_6 (nI t) key x (nI R.length) τ = _
      unfold b_Md_rowOf_6
      rw [hm, if_pos (Int32.le_refl _)])
  obtain ⟨x, τ⟩ := e
  obtain ⟨rfl, h2⟩ := h2
  refine ⟨x, ?_, h2⟩
  rw [h1, bn2_eq]
/-- the lowest row of table t among those that p admits -/
def low (R : List Row) (t : Nat) (p : Int64 → Prop) (x : Int32) : Prop := (x = -1 ∧ ∀ c ∈ own R t, ¬ p c.1) ∨ ∃ j c, R[j]? = some (t, c) ∧ x = nI j ∧ p c.1 ∧ ∀ d ∈ own R t, p d.1 → ¬ d.1 < c.1
theorem low_skip {A : List Row} {r : Row} {t : Nat} {p : Int64 → Prop} {x : Int32} (h : low A t p x) (hn : ¬ (r.1 = t ∧ p r.2.1)) : low (A ++ [r]) t p x := by
  have hmem : ∀ c ∈ own (A ++ [r]) t, p c.1 → c ∈ own A t := fun c hc hp => by
    rw [own_snoc] at hc
    rcases List.mem_append.mp hc with hc | hc
    · exact hc
    · by_cases hr : r.1 = t
      · rw [if_pos hr] at hc
        rcases List.mem_singleton.mp hc with rfl
        exact absurd ⟨hr, hp⟩ hn
      · rw [if_neg hr] at hc; cases hc
  rcases h with ⟨h1, h2⟩ | ⟨j, c, h1, h2, h3, h4⟩
  · exact Or.inl ⟨h1, fun c hc hp => h2 c (hmem c hc hp) hp⟩
  · exact Or.inr ⟨j, c, get_snoc h1, h2, h3, fun d hd hp => h4 d (hmem d hd hp) hp⟩
theorem low_first {A : List Row} {r : Row} {t : Nat} {p : Int64 → Prop} {x : Int32} (h : low A t p (-1)) (hA : A.length < 90) (hr : r.1 = t) (hp : p r.2.1) (hx : x = nI A.length) : low (A ++ [r]) t p x := by
  rcases h with ⟨-, h2⟩ | ⟨j, c, h1, h2, h3, h4⟩
  · refine Or.inr ⟨A.length, r.2, ?_, hx, hp, fun d hd hpd hlt => ?_⟩
    · rw [List.getElem?_append_right (Nat.le_refl _), Nat.sub_self, ← hr]
      rfl
    · rw [own_snoc] at hd
      rcases List.mem_append.mp hd with hd | hd
      · exact h2 d hd hpd
      · rw [if_pos hr] at hd
        rcases List.mem_singleton.mp hd with rfl
        exact absurd hlt Int64.lt_irrefl
  · have hj := (List.getElem?_eq_some_iff.mp h1).1
    have := congrArg Int32.toInt h2
    rw [nI_toInt (by omega)] at this
    have e1 : (-1 : Int32).toInt = -1 := by decide
    rw [e1] at this
    omega
theorem low_both {A : List Row} {r : Row} {t j : Nat} {c : Cel} {p : Int64 → Prop} {x : Int32} (h1 : A[j]? = some (t, c)) (h3 : p c.1) (h4 : ∀ d ∈ own A t, p d.1 → ¬ d.1 < c.1) (hr : r.1 = t) (hp : p r.2.1) (hx : x = if c.1 ≤ r.2.1 then nI j else nI A.length) : low (A ++ [r]) t p x := by
  by_cases hle : c.1 ≤ r.2.1
  · rw [if_pos hle] at hx
    refine Or.inr ⟨j, c, get_snoc h1, hx, h3, fun d hd hpd hlt => ?_⟩
    rw [own_snoc] at hd
    rcases List.mem_append.mp hd with hd | hd
    · exact h4 d hd hpd hlt
    · rw [if_pos hr] at hd
      rcases List.mem_singleton.mp hd with rfl
      exact absurd hlt (Int64.not_lt.mpr hle)
  · rw [if_neg hle] at hx
    refine Or.inr ⟨A.length, r.2, ?_, hx, hp, fun d hd hpd hlt => ?_⟩
    · rw [List.getElem?_append_right (Nat.le_refl _), Nat.sub_self, ← hr]
      rfl
    · rw [own_snoc] at hd
      rcases List.mem_append.mp hd with hd | hd
      · exact h4 d hd hpd (Int64.lt_trans hlt (Int64.not_le.mp hle))
      · rw [if_pos hr] at hd
        rcases List.mem_singleton.mp hd with rfl
        exact absurd hlt Int64.lt_irrefl
theorem neg1_lt : (-1 : Int32) < 0 := by decide
/-- the step that rowFrom and firstRow share -/
theorem low_step {σ : Sg} {R : List Row} {t i : Nat} {p : Int64 → Prop} {x : Int32} {r : Row} (hR : mR σ R) (hl : R.length ≤ 90) (hi : i < R.length) (hr : R[i]? = some r) (htk : R.take (i + 1) = R.take i ++ [r]) (hrt : r.1 = t) (hp : p r.2.1) (hs : low (R.take i) t p x) :
    ∃ y, (if x < 0 then (some (nI i)) else (chk (vp_in (nI i) 90) (lt_ ((if 0 ≤ x then x else 0) : Int32) (fun (x22 : Int32) => chk (vp_in x22 90) ((if (gj σ 28 0 x22.toNatClampNeg) ≤ (gj σ 28 0 (nI i).toNatClampNeg) then (some x) else (some (nI i)))))))) = some y ∧ low (R.take (i + 1)) t p y := by
  have hA : (R.take i).length = i := by rw [List.length_take]; omega
  have hin : vp_in (nI i) 90 := vp_in_90 (by omega)
  rw [htk]
  rcases hs with ⟨h1, h2⟩ | ⟨j, c, h1, h2, h3, h4⟩
  · subst h1
    rw [if_pos neg1_lt]
    exact ⟨_, rfl, low_first (Or.inl ⟨rfl, h2⟩) (by omega) hrt hp (by rw [hA])⟩
  · have hj := (List.getElem?_eq_some_iff.mp h1).1
    subst h2
    have hjR : R[j]? = some (t, c) := by
      rw [List.getElem?_take_of_lt (by omega)] at h1
      exact h1
    rw [if_neg (nI_pos (by omega)), chk_pos hin, lt_eq, if_pos (nI_pos' (by omega)), chk_pos (vp_in_90 (by omega)), nI_clamp (by omega), nI_clamp (by omega), (hR j _ hjR).2.1, (hR i _ hr).2.1]
    by_cases hle : c.1 ≤ r.2.1
    · rw [if_pos hle]
      exact ⟨_, rfl, low_both h1 h3 h4 hrt hp (by rw [if_pos hle])⟩
    · rw [if_neg hle]
      exact ⟨_, rfl, low_both h1 h3 h4 hrt hp (by rw [if_neg hle, hA])⟩
theorem firstRow_eq {σ : Sg} {R : List Row} {t : Nat} (hm : gi σ 9 0 3 = nI R.length) (hR : mR σ R) (hl : R.length ≤ 90) (hN : ∀ r ∈ R, r.1 < 3) (ht : t < 3) : ∃ x, f_Md_firstRow (nI t) σ = some (x, σ) ∧ low R t (fun _ => True) x := by
  unfold f_Md_firstRow l_Md_firstRow_4
  rw [lt_eq]
  obtain ⟨e, h1, h2⟩ := lp_for (body := fun q : Int32 × Int32 × Sg => b_Md_firstRow_4 (nI t) q.1 q.2.1 q.2.2) (s := (-1, 0, σ)) (fun i s => s.2.1 = nI i ∧ s.2.2 = σ ∧ low (R.take i) t (fun _ => True) s.1) (fun e => e.2 = σ ∧ low R t (fun _ => True) e.1) R.length (by omega) ⟨rfl, rfl, Or.inl ⟨rfl, fun c hc => by rw [List.take_zero] at hc; cases hc⟩⟩
    (fun i s hi hs => by
      obtain ⟨x, y, τ⟩ := s
      obtain ⟨rfl, rfl, hs⟩ := hs
      obtain ⟨r, hr, htk⟩ := take_get hi
      have hrow := hR i r hr
      have hr3 : r.1 < 3 := hN r (List.mem_of_getElem? hr)
      have hin : vp_in (nI i) 90 := vp_in_90 (by omega)
      show ∃ s', b_Md_firstRow_4 (nI t) x (nI i) τ = _ ∧ _
      unfold b_Md_firstRow_4
      rw [hm, if_neg (nI_ge hi (by omega)), chk_pos hin, show (nI i).toNatClampNeg = i from nI_clamp (by omega), hrow.1]
      by_cases hm1 : r.1 = t
      · obtain ⟨y, hy, hy2⟩ := low_step (p := fun _ => True) hR hl hi hr htk hm1 trivial hs
        rw [show (nI i).toNatClampNeg = i from nI_clamp (by omega)] at hy
        rw [if_pos (by rw [hm1]), hy, bnd_eq, lt_eq, nI_1]
        exact ⟨_, rfl, rfl, rfl, hy2⟩
      · rw [if_neg (fun z => hm1 (nI_inj (by omega) (by omega) z)), bnd_eq, lt_eq, nI_1]
        refine ⟨_, rfl, rfl, rfl, ?_⟩
        show low (R.take (i + 1)) t _ x
        rw [htk]
        exact low_skip hs (fun z => hm1 z.1))
    (fun s hs => by
      obtain ⟨x, y, τ⟩ := s
      obtain ⟨rfl, rfl, hs⟩ := hs
      refine ⟨(x, τ), ?_, rfl, by rw [List.take_length] at hs; exact hs⟩
      show b_Md_firstRow_4 (nI t) x (nI R.length) τ = _
      unfold b_Md_firstRow_4
      rw [hm, if_pos (Int32.le_refl _)])
  obtain ⟨x, τ⟩ := e
  obtain ⟨rfl, h2⟩ := h2
  refine ⟨x, ?_, h2⟩
  rw [h1, bn2_eq]
theorem rowFrom_eq {σ : Sg} {R : List Row} {t : Nat} (key : Int64) (ab : Int32) (hm : gi σ 9 0 3 = nI R.length) (hR : mR σ R) (hl : R.length ≤ 90) (hN : ∀ r ∈ R, r.1 < 3) (ht : t < 3) : ∃ x, f_Md_rowFrom (nI t) key ab σ = some (x, σ) ∧ low R t (qk key ab) x := by
  unfold f_Md_rowFrom l_Md_rowFrom_6
  rw [lt_eq]
  obtain ⟨e, h1, h2⟩ := lp_for (body := fun q : Int32 × Int32 × Sg => b_Md_rowFrom_6 (nI t) key ab q.1 q.2.1 q.2.2) (s := (-1, 0, σ)) (fun i s => s.2.1 = nI i ∧ s.2.2 = σ ∧ low (R.take i) t (qk key ab) s.1) (fun e => e.2 = σ ∧ low R t (qk key ab) e.1) R.length (by omega) ⟨rfl, rfl, Or.inl ⟨rfl, fun c hc => by rw [List.take_zero] at hc; cases hc⟩⟩
    (fun i s hi hs => by
      obtain ⟨x, y, τ⟩ := s
      obtain ⟨rfl, rfl, hs⟩ := hs
      obtain ⟨r, hr, htk⟩ := take_get hi
      have hrow := hR i r hr
      have hr3 : r.1 < 3 := hN r (List.mem_of_getElem? hr)
      have hin : vp_in (nI i) 90 := vp_in_90 (by omega)
      have hcl : (nI i).toNatClampNeg = i := nI_clamp (by omega)
      show ∃ s', b_Md_rowFrom_6 (nI t) key ab x (nI i) τ = _ ∧ _
      unfold b_Md_rowFrom_6
      have hx9 : (if nI r.1 = nI t then (chk (vp_in (nI i) 90) ((if key < r.2.1 then (some (1 : Int32)) else (chk (vp_in (nI i) 90) ((if r.2.1 = key then (if ab = 0 then (some 1) else (some 0)) else (some 0))))))) else (some 0)) = some (@ite _ (r.1 = t ∧ qk key ab r.2.1) (Classical.propDecidable _) 1 0) := by
        by_cases hm1 : r.1 = t
        · rw [if_pos (by rw [hm1]), chk_pos hin, chk_pos hin]
          by_cases hlt : key < r.2.1
          · have hq : qk key ab r.2.1 := by
              unfold qk
              split
              · exact fun z => Int64.lt_irrefl (Int64.lt_trans hlt z)
              · exact hlt
            rw [if_pos hlt, if_pos ⟨hm1, hq⟩]
          · rw [if_neg hlt]
            by_cases he : r.2.1 = key
            · rw [if_pos he]
              by_cases hab : ab = 0
              · have hq : qk key ab r.2.1 := by
                  unfold qk
                  rw [if_pos hab, he]
                  exact Int64.lt_irrefl
                rw [if_pos hab, if_pos ⟨hm1, hq⟩]
              · rw [if_neg hab, if_neg ?_]
                rintro ⟨-, z⟩
                unfold qk at z
                rw [if_neg hab] at z
                exact hlt z
            · rw [if_neg he, if_neg ?_]
              rintro ⟨-, z⟩
              unfold qk at z
              split at z
              · rcases Int64.lt_or_eq_of_le (Int64.not_lt.mp hlt) with y | y
                · exact z y
                · exact he y
              · exact hlt z
        · rw [if_neg (fun z => hm1 (nI_inj (by omega) (by omega) z)), if_neg (fun z => hm1 z.1)]
      rw [hm, if_neg (nI_ge hi (by omega)), chk_pos hin]
      rw [hcl, hrow.1, hrow.2.1, hx9, bnd_eq]
      by_cases hc : r.1 = t ∧ qk key ab r.2.1
      · obtain ⟨y, hy, hy2⟩ := low_step hR hl hi hr htk hc.1 hc.2 hs
        rw [hcl, hrow.2.1] at hy
        rw [if_pos hc, if_neg (by decide), hy, bnd_eq, lt_eq, nI_1]
        exact ⟨_, rfl, rfl, rfl, hy2⟩
      · rw [if_neg hc, if_pos rfl, bnd_eq, lt_eq, nI_1]
        refine ⟨_, rfl, rfl, rfl, ?_⟩
        show low (R.take (i + 1)) t _ x
        rw [htk]
        exact low_skip hs hc)
    (fun s hs => by
      obtain ⟨x, y, τ⟩ := s
      obtain ⟨rfl, rfl, hs⟩ := hs
      refine ⟨(x, τ), ?_, rfl, by rw [List.take_length] at hs; exact hs⟩
      show b_Md_rowFrom_6 (nI t) key ab x (nI R.length) τ = _
      unfold b_Md_rowFrom_6
      rw [hm, if_pos (Int32.le_refl _)])
  obtain ⟨x, τ⟩ := e
  obtain ⟨rfl, h2⟩ := h2
  refine ⟨x, ?_, h2⟩
  rw [h1, bn2_eq]
