/-! the plain law: the model lays a row, takes a row, counts -/
theorem nar_ob (v : Option Int64) : vp_nar .boolean (ob v) = ob v := by
  cases v
  · rw [ob_n]; rfl
  · rw [ob_s]; rfl
theorem ob_zb (v : Option Int64) : zb (ob v) := by
  cases v
  · exact Or.inl rfl
  · exact Or.inr rfl
theorem ob_val (v : Option Int64) : (if ob v = 0 then 0 else v.getD 0) = v.getD 0 := by
  cases v
  · rw [ob_n, if_pos rfl]; rfl
  · rw [ob_s, if_neg (by decide)]
theorem gj_ne {σ : Sg} {k i j a b c : Nat} {x : Int64} (h : ¬ (a = k ∧ b = i ∧ c = j)) : gj (sj σ k i j x) a b c = gj σ a b c := by rw [gj_sj, if_neg h]
theorem gj_eq {σ : Sg} {k i j : Nat} {x : Int64} : gj (sj σ k i j x) k i j = x := by rw [gj_sj, if_pos ⟨rfl, rfl, rfl⟩]
def layS (σ : Sg) (t : Nat) (key : Int64) (L k : Nat) (v : Option Int64) : Sg := sj (si (sj (si σ 27 0 L (nI t)) 28 0 L key) 30 0 (4 * L + k) (ob v)) 29 0 (4 * L + k) (v.getD 0)
theorem lay_eq {σ : Sg} {t L k : Nat} {key : Int64} {v : Option Int64} (hL : L < 90) (hk : k < 4) (hm : gi σ 9 0 3 = nI L) : f_Md_lay (nI t) key (nI k) (ob v) (v.getD 0) σ = some (layS σ t key L k v) := by
  have h360 : vp_in (nI (4 * L + k)) 360 := vp_in_nI (by omega) (by decide)
  have m1 : gi (si σ 27 0 L (nI t)) 9 0 3 = nI L := by rw [gi_ne (by omega), hm]
  have m2 : gi (sj (si σ 27 0 L (nI t)) 28 0 L key) 9 0 3 = nI L := m1
  have m3 : gi (si (sj (si σ 27 0 L (nI t)) 28 0 L key) 30 0 (4 * L + k) (ob v)) 9 0 3 = nI L := by rw [gi_ne (by omega), m2]
  unfold f_Md_lay
  rw [hm, chk_pos (vp_in_90 hL), lt_eq, nI_clamp (by omega), m1, chk_pos (vp_in_90 hL), lt_eq, nI_clamp (by omega), m2, nI_4k, chk_pos h360, lt_eq, nI_clamp (by omega), nar_ob, lt_eq, ob_val, m3, nI_4k, chk_pos h360, lt_eq, nI_clamp (by omega)]
  rfl
def LI (σ : Sg) (t : Nat) (key : Int64) (vs : List (Option Int64)) (L k : Nat) (τ : Sg) : Prop :=
  (∀ a b c, ¬ ((a = 27 ∧ c = L) ∨ (a = 30 ∧ 4 * L ≤ c ∧ c < 4 * L + 4)) → gi τ a b c = gi σ a b c) ∧ (∀ a b c, ¬ ((a = 28 ∧ c = L) ∨ (a = 29 ∧ 4 * L ≤ c ∧ c < 4 * L + 4)) → gj τ a b c = gj σ a b c) ∧ (∀ a b c, gr τ a b c = gr σ a b c) ∧ nt τ = nt σ ∧ (0 < k → gi τ 27 0 L = nI t ∧ gj τ 28 0 L = key) ∧ ∀ j, j < k → gi τ 30 0 (4 * L + j) = ob (vs.getD j none) ∧ gj τ 29 0 (4 * L + j) = (vs.getD j none).getD 0
theorem LI_0 (σ : Sg) (t : Nat) (key : Int64) (vs : List (Option Int64)) (L : Nat) : LI σ t key vs L 0 σ := ⟨fun _ _ _ _ => rfl, fun _ _ _ _ => rfl, fun _ _ _ => rfl, rfl, fun h => absurd h (by decide), fun j hj => absurd hj (by omega)⟩
theorem LI_s {σ : Sg} {t : Nat} {key : Int64} {vs : List (Option Int64)} {L k : Nat} {τ : Sg} (hk : k < 4) (h : LI σ t key vs L k τ) : LI σ t key vs L (k + 1) (layS τ t key L k (vs.getD k none)) := by
  obtain ⟨h1, h2, h3, h4, h5, h6⟩ := h
  unfold layS
  refine ⟨fun a b c hn => ?_, fun a b c hn => ?_, fun a b c => h3 a b c, h4, fun _ => ⟨?_, ?_⟩, fun j hj => ⟨?_, ?_⟩⟩
  · rw [gi_sj, gi_ne (by omega), gi_sj, gi_ne (by omega)]
    exact h1 a b c hn
  · rw [gj_ne (by omega), gj_si, gj_ne (by omega), gj_si]
    exact h2 a b c hn
  · rw [gi_sj, gi_ne (by omega), gi_sj, gi_eq]
  · rw [gj_ne (by omega), gj_si, gj_eq]
  · rw [gi_sj]
    by_cases hjk : j = k
    · subst hjk; rw [gi_eq]
    · rw [gi_ne (by omega), gi_sj, gi_ne (by omega)]
      exact (h6 j (by omega)).1
  · by_cases hjk : j = k
    · subst hjk; rw [gj_eq]
    · rw [gj_ne (by omega), gj_si, gj_ne (by omega), gj_si]
      exact (h6 j (by omega)).2
theorem LI_end {σ : Sg} {N : Nat} {col : Nat → Nat} {R : List Row} {t : Nat} {key : Int64} {vs : List (Option Int64)} {τ : Sg} (h : Mo σ N col R) (hw : ∀ r ∈ R, r.2.2.length ≤ 4) (hR : R.length < 90) (h1 : 1 ≤ vs.length) (h4 : vs.length ≤ 4) (hl : LI σ t key vs R.length vs.length τ) : Mo (si τ 9 0 3 (gi τ 9 0 3 + 1)) N col (R ++ [(t, (key, vs))]) := by
  obtain ⟨k1, k2, k3, k4, k5, k6⟩ := hl
  obtain ⟨m1, m2, m3, m4⟩ := h
  refine ⟨?_, fun s hs => ?_, ?_, fun i r hr => ?_⟩
  · rw [gi_ne (by omega)]
    exact (k1 _ _ _ (by omega)).trans m1
  · rw [gi_ne (by omega)]
    exact (k1 _ _ _ (by omega)).trans (m2 s hs)
  · rw [gi_eq, k1 _ _ _ (by omega), m3, nI_1, List.length_append, List.length_singleton]
  · by_cases hi : i < R.length
    · rw [List.getElem?_append_left hi] at hr
      obtain ⟨x1, x2, x3⟩ := m4 i r hr
      refine ⟨?_, ?_, fun k hk => ?_⟩
      · rw [gi_ne (by omega)]
        exact (k1 _ _ _ (by omega)).trans x1
      · rw [gj_si]
        exact (k2 _ _ _ (by omega)).trans x2
      · obtain ⟨y1, y2⟩ := x3 k hk
        have hk4 := hw r (List.mem_of_getElem? hr)
        exact ⟨by rw [gi_ne (by omega)]; exact (k1 _ _ _ (by omega)).trans y1, by rw [gj_si]; exact (k2 _ _ _ (by omega)).trans y2⟩
    · rw [List.getElem?_append_right (by omega)] at hr
      have hi0 : i - R.length = 0 := by
        have := (List.getElem?_eq_some_iff.mp hr).1
        rw [List.length_singleton] at this
        omega
      rw [hi0] at hr
      have hrr : (t, (key, vs)) = r := by simpa using hr
      have hiR : i = R.length := by omega
      subst hrr
      subst hiR
      refine ⟨?_, ?_, fun k hk => ?_⟩
      · rw [gi_ne (by omega)]
        exact (k5 (by omega)).1
      · rw [gj_si]
        exact (k5 (by omega)).2
      · have hk : k < vs.length := hk
        exact ⟨by rw [gi_ne (by omega)]; exact (k6 k hk).1, by rw [gj_si]; exact (k6 k hk).2⟩

/-- the model's loop of insert: a row out of the coming values -/
theorem ins_loop {σ : Sg} {N : Nat} {col : Nat → Nat} {R : List Row} {t : Nat} {key : Int64} {vs : List (Option Int64)} (h : Mo σ N col R) (hR : R.length < 90) (ht : t < N) (hN : N ≤ 3) (h4 : vs.length ≤ 4) (hvs : vs.length = col t) (hc : ∀ k, k < vs.length → gi σ 32 0 k = ob (vs.getD k none) ∧ gj σ 31 0 k = (vs.getD k none).getD 0) : ∃ τ, l_Md_insert_51 (nI t) key 0 σ = some τ ∧ LI σ t key vs R.length vs.length τ := by
  obtain ⟨m1, m2, m3, m4⟩ := h
  unfold l_Md_insert_51
  refine lp_for (body := fun q : Int32 × Sg => b_Md_insert_51 (nI t) key q.1 q.2) (s := (0, σ)) (fun i s => s.1 = nI i ∧ LI σ t key vs R.length i s.2) (fun e => LI σ t key vs R.length vs.length e) vs.length (by omega) ⟨rfl, LI_0 _ _ _ _ _⟩ (fun i s hi hs => ?_) (fun s hs => ?_)
  · obtain ⟨x, τ⟩ := s
    obtain ⟨rfl, hs⟩ := hs
    show ∃ s', b_Md_insert_51 (nI t) key (nI i) τ = _ ∧ _
    unfold b_Md_insert_51
    have g26 : gi τ 26 0 t = nI (col t) := (hs.1 _ _ _ (by omega)).trans (m2 t ht)
    have g32 : gi τ 32 0 i = ob (vs.getD i none) := (hs.1 _ _ _ (by omega)).trans (hc i hi).1
    have g31 : gj τ 31 0 i = (vs.getD i none).getD 0 := (hs.2.1 _ _ _ (by omega)).trans (hc i hi).2
    have gm : gi τ 9 0 3 = nI R.length := (hs.1 _ _ _ (by omega)).trans m3
    rw [chk_pos (vp_in_nI (by omega) (by decide)), nI_clamp (by omega), g26, if_neg (nI_ge (by omega) (by omega)), chk_pos (vp_in_nI (by omega) (by decide)), chk_pos (vp_in_nI (by omega) (by decide)), nI_clamp (by omega), g32, g31, lay_eq hR (by omega) gm, bnd_eq, lt_eq, nI_1]
    exact ⟨_, rfl, rfl, LI_s (by omega) hs⟩
  · obtain ⟨x, τ⟩ := s
    obtain ⟨rfl, hs⟩ := hs
    refine ⟨τ, ?_, hs⟩
    show b_Md_insert_51 (nI t) key (nI vs.length) τ = _
    unfold b_Md_insert_51
    have g26 : gi τ 26 0 t = nI (col t) := (hs.1 _ _ _ (by omega)).trans (m2 t ht)
    rw [chk_pos (vp_in_nI (by omega) (by decide)), nI_clamp (by omega), g26, hvs, if_pos (Int32.le_refl _)]
/-- the model's loop of the instruction: a row out of the registers -/
theorem ins_loop2 {σ : Sg} {N : Nat} {col : Nat → Nat} {R : List Row} {t a4 : Nat} {key : Int64} {vs : List (Option Int64)} (h : Mo σ N col R) (hR : R.length < 90) (ht : t < N) (hN : N ≤ 3) (h4 : vs.length ≤ 4) (ha4 : a4 < 12) (hvs : vs.length = col t) (hk : gj σ 34 0 a4 = key) (hc : ∀ k, k < vs.length → gi σ 35 0 (a4 + 1 + k) = ob (vs.getD k none) ∧ gj σ 34 0 (a4 + 1 + k) = (vs.getD k none).getD 0) : ∃ τ, l_Md_withCursor_195 (nI a4) (nI t) 0 σ = some τ ∧ LI σ t key vs R.length vs.length τ := by
  obtain ⟨m1, m2, m3, m4⟩ := h
  unfold l_Md_withCursor_195
  refine lp_for (body := fun q : Int32 × Sg => b_Md_withCursor_195 (nI a4) (nI t) q.1 q.2) (s := (0, σ)) (fun i s => s.1 = nI i ∧ LI σ t key vs R.length i s.2) (fun e => LI σ t key vs R.length vs.length e) vs.length (by omega) ⟨rfl, LI_0 _ _ _ _ _⟩ (fun i s hi hs => ?_) (fun s hs => ?_)
  · obtain ⟨x, τ⟩ := s
    obtain ⟨rfl, hs⟩ := hs
    show ∃ s', b_Md_withCursor_195 (nI a4) (nI t) (nI i) τ = _ ∧ _
    unfold b_Md_withCursor_195
    have g26 : gi τ 26 0 t = nI (col t) := (hs.1 _ _ _ (by omega)).trans (m2 t ht)
    have g32 : gi τ 35 0 (a4 + 1 + i) = ob (vs.getD i none) := (hs.1 _ _ _ (by omega)).trans (hc i hi).1
    have g31 : gj τ 34 0 (a4 + 1 + i) = (vs.getD i none).getD 0 := (hs.2.1 _ _ _ (by omega)).trans (hc i hi).2
    have gk : gj τ 34 0 a4 = key := (hs.2.1 _ _ _ (by omega)).trans hk
    have gm : gi τ 9 0 3 = nI R.length := (hs.1 _ _ _ (by omega)).trans m3
    have hin : vp_in (nI (a4 + 1 + i)) 16 := vp_in_nI (by omega) (by decide)
    rw [chk_pos (vp_in_nI (by omega) (by decide)), nI_clamp (by omega), g26, if_neg (nI_ge (by omega) (by omega)), chk_pos (vp_in_nI (by omega) (by decide)), nI_1, nI_plus, chk_pos hin, chk_pos hin, nI_clamp (by omega), nI_clamp (by omega), gk, g32, g31, lay_eq hR (by omega) gm, bnd_eq, lt_eq, nI_1]
    exact ⟨_, rfl, rfl, LI_s (by omega) hs⟩
  · obtain ⟨x, τ⟩ := s
    obtain ⟨rfl, hs⟩ := hs
    refine ⟨τ, ?_, hs⟩
    show b_Md_withCursor_195 (nI a4) (nI t) (nI vs.length) τ = _
    unfold b_Md_withCursor_195
    have g26 : gi τ 26 0 t = nI (col t) := (hs.1 _ _ _ (by omega)).trans (m2 t ht)
    rw [chk_pos (vp_in_nI (by omega) (by decide)), nI_clamp (by omega), g26, hvs, if_pos (Int32.le_refl _)]
-- ===== a row is taken =====
def delR (R : List Row) (j : Nat) : List Row := (R.set j ((R.getLast?).getD (0, (0, [])))).dropLast
theorem delR_len (R : List Row) (j : Nat) : (delR R j).length = R.length - 1 := by
  unfold delR
  rw [List.length_dropLast, List.length_set]
theorem delR_get {R : List Row} {j i : Nat} (hj : j < R.length) (hi : i < R.length - 1) : (delR R j)[i]? = if i = j then R[R.length - 1]? else R[i]? := by
  unfold delR
  rw [List.getElem?_dropLast, List.length_set, if_pos hi, List.getElem?_set]
  by_cases h : j = i
  · subst h
    rw [if_pos rfl, if_pos hj, if_pos rfl, List.getLast?_eq_getElem?]
    rw [List.getElem?_eq_getElem (by omega)]
    rfl
  · rw [if_neg h, if_neg (fun z => h z.symm)]
theorem delR_perm {R : List Row} {j : Nat} {x : Row} (h : R[j]? = some x) : R.Perm (x :: delR R j) := by
  have hj := (List.getElem?_eq_some_iff.mp h).1
  have hne : R ≠ [] := fun z => by rw [z] at hj; exact absurd hj (by simp)
  obtain ⟨I, y, rfl⟩ : ∃ I y, R = I ++ [y] := ⟨R.dropLast, R.getLast hne, (List.dropLast_concat_getLast hne).symm⟩
  have hl : ((I ++ [y]).getLast?).getD (0, (0, [])) = y := by rw [List.getLast?_concat]; rfl
  unfold delR
  rw [hl]
  rw [List.length_append, List.length_singleton] at hj
  by_cases hjl : j < I.length
  · rw [List.getElem?_append_left hjl] at h
    rw [List.set_append_left _ _ hjl, List.dropLast_concat]
    have hIj := (List.getElem?_eq_some_iff.mp h).2
    have e1 : I = I.take j ++ x :: I.drop (j + 1) := by
      rw [← hIj, ← List.drop_eq_getElem_cons hjl, List.take_append_drop]
    have e2 : I.set j y = I.take j ++ y :: I.drop (j + 1) := List.set_eq_take_append_cons_drop ▸ (by rw [if_pos hjl])
    rw [e2]
    conv => lhs; rw [e1]
    have e3 : I.take j ++ x :: I.drop (j + 1) ++ [y] = I.take j ++ x :: (I.drop (j + 1) ++ [y]) := by simp
    rw [e3]
    refine List.perm_middle.trans (List.Perm.cons x (List.Perm.append_left _ ?_))
    exact List.perm_append_singleton y _
  · have hjI : j = I.length := by omega
    subst hjI
    rw [List.getElem?_append_right (Nat.le_refl _), Nat.sub_self] at h
    have : y = x := by simpa using h
    subst this
    rw [List.set_append_right _ _ (Nat.le_refl _), Nat.sub_self]
    show (I ++ [y]).Perm (y :: (I ++ [y]).dropLast)
    rw [List.dropLast_concat]
    exact List.perm_append_singleton y I
/-- what taking a row may change -/
def fTk (σ σ' : Sg) : Prop := (∀ a b c, ¬ (a = 27 ∨ a = 30 ∨ (a = 9 ∧ b = 0 ∧ c = 3)) → gi σ' a b c = gi σ a b c) ∧ (∀ a b c, ¬ (a = 28 ∨ a = 29) → gj σ' a b c = gj σ a b c) ∧ (∀ a b c, gr σ' a b c = gr σ a b c) ∧ nt σ' = nt σ
theorem take_row {σ : Sg} {N : Nat} {col : Nat → Nat} {R : List Row} {j : Nat} (h : Mo σ N col R) (hw : ∀ r ∈ R, r.2.2.length ≤ 4) (hR : R.length ≤ 90) (hj : j < R.length) : ∃ σ', f_Md_take (nI j) σ = some σ' ∧ Mo σ' N col (delR R j) ∧ fTk σ σ' := by
  obtain ⟨m1, m2, m3, m4⟩ := h
  obtain ⟨L, hL⟩ : ∃ L, R.length = L + 1 := ⟨R.length - 1, by omega⟩
  rw [hL] at m3
  generalize hσ7 : sj (si (si σ 9 0 3 (nI L)) 27 0 j (gi σ 27 0 L)) 28 0 j (gj σ 28 0 L) = σ7
  have q3 : gi σ7 9 0 3 = nI L := by rw [← hσ7, gi_sj, gi_ne (by omega), gi_eq]
  have loop : ∃ τ, l_Md_take_42 (nI j) 0 σ7 = some τ ∧ ((∀ a b c, gi τ a b c = if (a = 30 ∧ b = 0 ∧ 4 * j ≤ c ∧ c < 4 * j + 4) then vp_nar .boolean (gi σ7 30 0 (4 * L + (c - 4 * j))) else gi σ7 a b c) ∧ (∀ a b c, gj τ a b c = if (a = 29 ∧ b = 0 ∧ 4 * j ≤ c ∧ c < 4 * j + 4) then gj σ7 29 0 (4 * L + (c - 4 * j)) else gj σ7 a b c) ∧ (∀ a b c, gr τ a b c = gr σ7 a b c) ∧ nt τ = nt σ7) := by
    unfold l_Md_take_42
    refine lp_for (body := fun q : Int32 × Sg => b_Md_take_42 (nI j) q.1 q.2) (s := (0, σ7)) (fun i s => s.1 = nI i ∧ ((∀ a b c, gi s.2 a b c = if (a = 30 ∧ b = 0 ∧ 4 * j ≤ c ∧ c < 4 * j + i) then vp_nar .boolean (gi σ7 30 0 (4 * L + (c - 4 * j))) else gi σ7 a b c) ∧ (∀ a b c, gj s.2 a b c = if (a = 29 ∧ b = 0 ∧ 4 * j ≤ c ∧ c < 4 * j + i) then gj σ7 29 0 (4 * L + (c - 4 * j)) else gj σ7 a b c) ∧ (∀ a b c, gr s.2 a b c = gr σ7 a b c) ∧ nt s.2 = nt σ7)) _ 4 (by omega) ⟨rfl, fun a b c => by rw [if_neg (by omega)], fun a b c => by rw [if_neg (by omega)], fun _ _ _ => rfl, rfl⟩ (fun i s hi hs => ?_) (fun s hs => ?_)
    · obtain ⟨x, τ⟩ := s
      obtain ⟨rfl, s1, s2, s3, s4⟩ := hs
      show ∃ s', b_Md_take_42 (nI j) (nI i) τ = _ ∧ _
      unfold b_Md_take_42
      have g3 : gi τ 9 0 3 = nI L := by rw [s1, if_neg (by omega)]; exact q3
      have hi1 : vp_in (nI (4 * L + i)) 360 := vp_in_nI (by omega) (by decide)
      have hi2 : vp_in (nI (4 * j + i)) 360 := vp_in_nI (by omega) (by decide)
      have r1 : gi τ 30 0 (4 * L + i) = gi σ7 30 0 (4 * L + i) := by rw [s1, if_neg (by omega)]
      have r2 : gj τ 29 0 (4 * L + i) = gj σ7 29 0 (4 * L + i) := by rw [s2, if_neg (by omega)]
      have g4 : ∀ x, gi (si τ 30 0 (4 * j + i) x) 9 0 3 = nI L := fun x => by rw [gi_ne (by omega)]; exact g3
      rw [if_neg (le_4 i hi), g3, nI_4k, chk_pos hi1, nI_4k, chk_pos hi2, lt_eq, nI_clamp (by omega), nI_clamp (by omega), g4, nI_4k, chk_pos hi1, chk_pos hi2, lt_eq, lt_eq, nI_1, gj_si, r1, nI_clamp (by omega), r2]
      refine ⟨_, rfl, rfl, fun a b c => ?_, fun a b c => ?_, s3, s4⟩
      · show gi (sj (si τ 30 0 (4 * j + i) _) 29 0 (4 * j + i) _) a b c = _
        rw [gi_sj, gi_si]
        by_cases hc : a = 30 ∧ b = 0 ∧ c = 4 * j + i
        · rw [if_pos hc, if_pos ⟨hc.1, hc.2.1, by omega, by omega⟩, hc.2.2, show 4 * j + i - 4 * j = i by omega]
        · rw [if_neg hc, s1]
          by_cases hd : a = 30 ∧ b = 0 ∧ 4 * j ≤ c ∧ c < 4 * j + i
          · rw [if_pos hd, if_pos (by omega)]
          · rw [if_neg hd, if_neg (by omega)]
      · show gj (sj (si τ 30 0 (4 * j + i) _) 29 0 (4 * j + i) _) a b c = _
        rw [gj_sj, gj_si]
        by_cases hc : a = 29 ∧ b = 0 ∧ c = 4 * j + i
        · rw [if_pos hc, if_pos ⟨hc.1, hc.2.1, by omega, by omega⟩, hc.2.2, show 4 * j + i - 4 * j = i by omega]
        · rw [if_neg hc, s2]
          by_cases hd : a = 29 ∧ b = 0 ∧ 4 * j ≤ c ∧ c < 4 * j + i
          · rw [if_pos hd, if_pos (by omega)]
          · rw [if_neg hd, if_neg (by omega)]
    · obtain ⟨x, τ⟩ := s
      obtain ⟨rfl, hs⟩ := hs
      refine ⟨τ, ?_, hs⟩
      show b_Md_take_42 (nI j) (nI 4) τ = _
      unfold b_Md_take_42
      rw [if_pos (show (4 : Int32) ≤ nI 4 from Int32.le_refl _)]
  obtain ⟨τ, l1, l2, l3, l4, l5⟩ := loop
  have i7 : ∀ a b c, ¬ (a = 27 ∧ b = 0 ∧ c = j) → ¬ (a = 9 ∧ b = 0 ∧ c = 3) → gi σ7 a b c = gi σ a b c := fun a b c x1 x2 => by rw [← hσ7, gi_sj, gi_ne x1, gi_ne x2]
  have j7 : ∀ a b c, ¬ (a = 28 ∧ b = 0 ∧ c = j) → gj σ7 a b c = gj σ a b c := fun a b c x1 => by rw [← hσ7, gj_ne x1]; rfl
  refine ⟨τ, ?_, ⟨?_, fun t ht => ?_, ?_, fun i r hr => ?_⟩, fun a b c hn => ?_, fun a b c hn => ?_, fun a b c => ?_, ?_⟩
  · unfold f_Md_take
    have n1 : gi (si σ 9 0 3 (nI L)) 9 0 3 = nI L := gi_eq
    have n2 : gi (si σ 9 0 3 (nI L)) 27 0 L = gi σ 27 0 L := gi_ne (by omega)
    have n3 : ∀ x, gi (si (si σ 9 0 3 (nI L)) 27 0 j x) 9 0 3 = nI L := fun x => by rw [gi_ne (by omega), n1]
    have n4 : ∀ x, gj (si (si σ 9 0 3 (nI L)) 27 0 j x) 28 0 L = gj σ 28 0 L := fun x => rfl
    rw [m3, nI_pred, lt_eq, n1, chk_pos (vp_in_90 (by omega)), chk_pos (vp_in_90 (by omega)), lt_eq, nI_clamp (by omega), nI_clamp (by omega), n2, n3, chk_pos (vp_in_90 (by omega)), chk_pos (vp_in_90 (by omega)), lt_eq, nI_clamp (by omega), n4, hσ7, l1, bnd_eq]
  · rw [l2, if_neg (by omega), i7 _ _ _ (by omega) (by omega)]; exact m1
  · rw [l2, if_neg (by omega), i7 _ _ _ (by omega) (by omega)]; exact m2 t ht
  · rw [l2, if_neg (by omega), q3, delR_len, hL, Nat.add_sub_cancel]
  · have hi : i < R.length - 1 := by
      have := (List.getElem?_eq_some_iff.mp hr).1
      rw [delR_len] at this
      exact this
    rw [delR_get hj hi, hL, Nat.add_sub_cancel] at hr
    by_cases hij : i = j
    · rw [if_pos hij] at hr
      subst hij
      obtain ⟨x1, x2, x3⟩ := m4 L r hr
      have hr4 := hw r (List.mem_of_getElem? hr)
      refine ⟨?_, ?_, fun k hk => ⟨?_, ?_⟩⟩
      · rw [l2, if_neg (by omega), ← hσ7, gi_sj, gi_eq]; exact x1
      · rw [l3, if_neg (by omega), ← hσ7, gj_eq]; exact x2
      · rw [l2, if_pos (by omega), show 4 * i + k - 4 * i = k by omega, i7 _ _ _ (by omega) (by omega), (x3 k hk).1, nar_ob]
      · rw [l3, if_pos (by omega), show 4 * i + k - 4 * i = k by omega, j7 _ _ _ (by omega), (x3 k hk).2]
    · rw [if_neg hij] at hr
      obtain ⟨x1, x2, x3⟩ := m4 i r hr
      have hr4 := hw r (List.mem_of_getElem? hr)
      refine ⟨?_, ?_, fun k hk => ⟨?_, ?_⟩⟩
      · rw [l2, if_neg (by omega), i7 _ _ _ (by omega) (by omega)]; exact x1
      · rw [l3, if_neg (by omega), j7 _ _ _ (by omega)]; exact x2
      · rw [l2, if_neg (by omega), i7 _ _ _ (by omega) (by omega)]; exact (x3 k hk).1
      · rw [l3, if_neg (by omega), j7 _ _ _ (by omega)]; exact (x3 k hk).2
  · rw [l2, if_neg (by omega), i7 _ _ _ (by omega) (by omega)]
  · rw [l3, if_neg (by omega), j7 _ _ _ (by omega)]
  · rw [l4, ← hσ7]; rfl
  · rw [l5, ← hσ7]; rfl
theorem count_eq {σ : Sg} {R : List Row} (a1 : Int32) (hm : gi σ 9 0 3 = nI R.length) (hR : mR σ R) (hl : R.length ≤ 90) (hN : ∀ r ∈ R, r.1 < 3) : ∃ x, l_Md_count_9 a1 0 0 σ = some (x, σ) ∧ ∀ t, t < 3 → a1 = nI t → x = nI (own R t).length := by
  unfold l_Md_count_9
  obtain ⟨e, h1, h2⟩ := lp_for (body := fun q : Int32 × Int32 × Sg => b_Md_count_9 a1 q.1 q.2.1 q.2.2) (s := (0, 0, σ)) (fun i s => s.2.1 = nI i ∧ s.2.2 = σ ∧ ∀ t, t < 3 → a1 = nI t → s.1 = nI (own (R.take i) t).length) (fun e => e.2 = σ ∧ ∀ t, t < 3 → a1 = nI t → e.1 = nI (own R t).length) R.length (by omega) ⟨rfl, rfl, fun t _ _ => rfl⟩
    (fun i s hi hs => by
      obtain ⟨x, y, τ⟩ := s
      obtain ⟨rfl, rfl, hs⟩ := hs
      obtain ⟨r, hr, htk⟩ := take_get hi
      have hrow := hR i r hr
      have hr3 : r.1 < 3 := hN r (List.mem_of_getElem? hr)
      show ∃ s', b_Md_count_9 a1 x (nI i) τ = _ ∧ _
      unfold b_Md_count_9
      rw [hm, if_neg (nI_ge hi (by omega)), chk_pos (vp_in_90 (by omega)), lt_eq, lt_eq, lt_eq, nI_clamp (by omega), hrow.1, nI_1]
      refine ⟨_, rfl, rfl, rfl, fun t ht ha => ?_⟩
      show x + _ = _
      rw [show x = nI (own (R.take i) t).length from hs t ht ha, htk, own_snoc, List.length_append, ha]
      by_cases hrt : r.1 = t
      · rw [if_pos (by rw [hrt]), if_pos hrt]
        exact nI_1 _
      · rw [if_neg (fun z => hrt (nI_inj (by omega) (by omega) z)), if_neg hrt, List.length_nil, Nat.add_zero, Int32.add_zero])
    (fun s hs => by
      obtain ⟨x, y, τ⟩ := s
      obtain ⟨rfl, rfl, hs⟩ := hs
      refine ⟨(x, τ), ?_, rfl, by rw [List.take_length] at hs; exact hs⟩
      show b_Md_count_9 a1 x (nI R.length) τ = _
      unfold b_Md_count_9
      rw [hm, if_pos (Int32.le_refl _)])
  obtain ⟨x, τ⟩ := e
  obtain ⟨rfl, h2⟩ := h2
  exact ⟨x, h1, h2⟩
