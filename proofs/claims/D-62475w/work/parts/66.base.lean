/-! the plain law: both sides' view of the rows -/
-- ===== words =====
theorem lt_toInt {a b : Int32} : a < b ↔ a.toInt < b.toInt := Int32.lt_iff_toInt_lt
theorem le_toInt {a b : Int32} : a ≤ b ↔ a.toInt ≤ b.toInt := Int32.le_iff_toInt_le
theorem nI_ofn {a : Int32} (h : ¬ a < 0) : ∃ k, k < 2 ^ 31 ∧ a = nI k := by
  have h1 : ¬ a.toInt < 0 := fun z => h (lt_toInt.mpr z)
  have h2 : a.toInt < 2 ^ 31 := Int32.toInt_lt a
  refine ⟨a.toInt.toNat, by omega, Int32.toInt_inj.mp ?_⟩
  rw [nI_toInt (by omega)]
  omega
theorem i_cs (a : Int32) {N : Nat} (hN : N < 2 ^ 31) : a < 0 ∨ (¬ a < 0 ∧ nI N ≤ a) ∨ ∃ t, t < N ∧ a = nI t := by
  by_cases h : a < 0
  · exact Or.inl h
  · obtain ⟨k, h1, rfl⟩ := nI_ofn h
    by_cases hk : N ≤ k
    · exact Or.inr (Or.inl ⟨h, nI_le hk h1⟩)
    · exact Or.inr (Or.inr ⟨k, by omega, rfl⟩)
theorem nI_inj {a b : Nat} (ha : a < 2 ^ 31) (hb : b < 2 ^ 31) (h : nI a = nI b) : a = b := by
  have := congrArg Int32.toNatClampNeg h
  rw [nI_clamp ha, nI_clamp hb] at this
  exact this
theorem nI_lt_iff {a b : Nat} (ha : a < 2 ^ 31) (hb : b < 2 ^ 31) : nI a < nI b ↔ a < b := by
  rw [lt_toInt, nI_toInt ha, nI_toInt hb]
  omega
theorem nI_le_iff {a b : Nat} (ha : a < 2 ^ 31) (hb : b < 2 ^ 31) : nI a ≤ nI b ↔ a ≤ b := by
  rw [le_toInt, nI_toInt ha, nI_toInt hb]
  omega
theorem nI_plus (a b : Nat) : nI a + nI b = nI (a + b) := (Int32.ofNat_add a b).symm
theorem nI_mul (a b : Nat) : nI a * nI b = nI (a * b) := (Int32.ofNat_mul a b).symm
theorem nI_4 (a : Nat) : 4 * nI a = nI (4 * a) := by rw [show (4 : Int32) = nI 4 from rfl, nI_mul]
theorem nI_4k (a b : Nat) : 4 * nI a + nI b = nI (4 * a + b) := by rw [nI_4, nI_plus]
theorem isT_cs (N : Nat) (a1 : Int32) (hN : N ≤ 3) :
    ((∀ σ, gi σ 0 0 2 = nI N → f_TM_isTable a1 σ = some (0, σ)) ∧ (∀ σ, gi σ 9 0 1 = nI N → f_Md_isTable a1 σ = some (0, σ))) ∨
    ∃ t, t < N ∧ a1 = nI t ∧ (∀ σ, gi σ 0 0 2 = nI N → f_TM_isTable a1 σ = some (1, σ)) ∧ (∀ σ, gi σ 9 0 1 = nI N → f_Md_isTable a1 σ = some (1, σ)) := by
  rcases i_cs a1 (N := N) (by omega) with h | ⟨h, h2⟩ | ⟨t, ht, rfl⟩
  · left
    refine ⟨fun σ hσ => ?_, fun σ hσ => ?_⟩
    · unfold f_TM_isTable
      rw [lt_eq, if_pos h, chk_pos zb0]
    · unfold f_Md_isTable
      rw [lt_eq, if_pos h, chk_pos zb0]
  · left
    refine ⟨fun σ hσ => ?_, fun σ hσ => ?_⟩
    · unfold f_TM_isTable
      rw [lt_eq, if_neg h, hσ, if_pos h2, chk_pos zb0]
    · unfold f_Md_isTable
      rw [lt_eq, if_neg h, hσ, if_pos h2, chk_pos zb0]
  · right
    refine ⟨t, ht, rfl, fun σ hσ => ?_, fun σ hσ => ?_⟩
    · unfold f_TM_isTable
      rw [lt_eq, if_neg (nI_pos (by omega)), hσ, if_neg (nI_ge ht (by omega)), chk_pos zb1]
    · unfold f_Md_isTable
      rw [lt_eq, if_neg (nI_pos (by omega)), hσ, if_neg (nI_ge ht (by omega)), chk_pos zb1]
-- ===== the rows =====
abbrev Row : Type := Nat × Cel
def own (R : List Row) (t : Nat) : List Cel := (R.filter (fun r => r.1 == t)).map (fun r => r.2)
theorem own_app (A B : List Row) (t : Nat) : own (A ++ B) t = own A t ++ own B t := by
  unfold own
  rw [List.filter_append, List.map_append]
theorem own_perm {A B : List Row} (h : A.Perm B) (t : Nat) : (own A t).Perm (own B t) := (h.filter _).map _
theorem own_one (t : Nat) (c : Cel) : own [(t, c)] t = [c] := by
  unfold own
  simp
theorem own_other {t s : Nat} (h : s ≠ t) (c : Cel) : own [(t, c)] s = [] := by
  unfold own
  rw [List.filter_cons_of_neg (by simpa using fun z => h z.symm), List.filter_nil, List.map_nil]
theorem mem_own {R : List Row} {t : Nat} {c : Cel} : c ∈ own R t ↔ (t, c) ∈ R := by
  unfold own
  constructor
  · intro h
    obtain ⟨r, h1, h2⟩ := List.mem_map.mp h
    obtain ⟨h3, h4⟩ := List.mem_filter.mp h1
    have h5 : r.1 = t := by simpa using h4
    rw [← h5, ← h2]
    exact h3
  · intro h
    exact List.mem_map.mpr ⟨(t, c), List.mem_filter.mpr ⟨h, by simp⟩, rfl⟩
theorem own_len {R : List Row} (t : Nat) : (own R t).length ≤ R.length := by
  unfold own
  rw [List.length_map]
  exact List.length_filter_le _ _
/-- the class's side: its trees hold the rows R -/
def Ct (σ : Sg) (N : Nat) (col : Nat → Nat) (R : List Row) : Prop := ∃ (root : Nat → Nat) (M : Nat → List Cel) (P : Nat → List Nat) (F : List Nat),
  (nt σ = N ∧ N ≤ 3 ∧ gi σ 0 0 2 = nI N) ∧ (∀ t, t < N → TO σ (col t) t (root t) (M t) (P t) ∧ gi σ 3 t 3 = nI (M t).length ∧ (M t).Perm (own R t)) ∧ (∀ t, N ≤ t → P t = []) ∧ FL σ F ∧ (P 0 ++ (P 1 ++ (P 2 ++ F))).Perm (List.range 240)
/-- what the class's side of the rows rests on -/
def fC (σ σ' : Sg) : Prop := (∀ a b c, (a = 1 ∨ a = 12 ∨ (a = 10 ∧ b < 240) ∨ (a = 3 ∧ c < 6) ∨ (a = 0 ∧ c = 2)) → gi σ' a b c = gi σ a b c) ∧ nt σ' = nt σ
theorem TO_fC {σ σ' : Sg} {n t root : Nat} {M : List Cel} {P : List Nat} (h : ∀ a b c, ((a = 10 ∧ b < 240) ∨ (a = 3 ∧ c < 6)) → gi σ' a b c = gi σ a b c) (ht : TO σ n t root M P) : TO σ' n t root M P := ⟨(h _ _ _ (by omega)).trans ht.1, (h _ _ _ (by omega)).trans ht.2.1, ht.2.2.1, ht.2.2.2.1, TA_pg (fun q hq j => h _ _ _ (by omega)) ht.2.2.2.2.1, ht.2.2.2.2.2⟩
theorem Ct_fC {σ σ' : Sg} {N : Nat} {col : Nat → Nat} {R : List Row} (h : fC σ σ') (hc : Ct σ N col R) : Ct σ' N col R := by
  obtain ⟨root, M, P, F, ⟨h1, h2, h3⟩, h4, h5, h6, h7⟩ := hc
  exact ⟨root, M, P, F, ⟨h.2.trans h1, h2, (h.1 _ _ _ (by omega)).trans h3⟩, fun t ht => ⟨TO_fC (fun a b c hh => h.1 a b c (by omega)) (h4 t ht).1, (h.1 _ _ _ (by omega)).trans (h4 t ht).2.1, (h4 t ht).2.2⟩, h5, FL_congr (h.1 _ _ _ (by omega)) (fun k => h.1 _ _ _ (by omega)) h6, h7⟩
theorem fC_eqS {σ σ' : Sg} (h : eqS σ σ') : fC σ σ' := ⟨fun a b c hh => h.1 a b c (by unfold scr; omega), h.2.2.2⟩
theorem Ct_perm {σ : Sg} {N : Nat} {col : Nat → Nat} {R R' : List Row} (h : R.Perm R') (hc : Ct σ N col R) : Ct σ N col R' := by
  obtain ⟨root, M, P, F, h1, h4, h5⟩ := hc
  exact ⟨root, M, P, F, h1, fun t ht => ⟨(h4 t ht).1, (h4 t ht).2.1, (h4 t ht).2.2.trans (own_perm h t)⟩, h5⟩
/-- all but the trees' kinds stay -/
def fTr (σ σ' : Sg) : Prop := (∀ a b c, ¬ (a = 1 ∨ a = 2 ∨ a = 3 ∨ a = 10 ∨ a = 12 ∨ a = 13 ∨ a = 14) → gi σ' a b c = gi σ a b c) ∧ (∀ a b c, a ≠ 3 → gj σ' a b c = gj σ a b c) ∧ (∀ a b c, gr σ' a b c = gr σ a b c) ∧ nt σ' = nt σ
theorem fTr.tr {σ τ υ : Sg} (h1 : fTr σ τ) (h2 : fTr τ υ) : fTr σ υ := ⟨fun a b c x1 => (h2.1 a b c x1).trans (h1.1 a b c x1), fun a b c h => (h2.2.1 a b c h).trans (h1.2.1 a b c h), fun a b c => (h2.2.2.1 a b c).trans (h1.2.2.1 a b c), h2.2.2.2.trans h1.2.2.2⟩
theorem fT_rf (σ : Sg) : fTr σ σ := ⟨fun _ _ _ _ => rfl, fun _ _ _ _ => rfl, fun _ _ _ => rfl, rfl⟩
theorem fT_eqS {σ σ' : Sg} (h : eqS σ σ') : fTr σ σ' := ⟨fun a b c hh => h.1 a b c (by unfold scr; omega), fun a b c hh => h.2.1 a b c (by omega), h.2.2.1, h.2.2.2⟩
theorem fT_tg {S : Nat → Prop} {t : Nat} {σ σ' : Sg} (h : tg S t σ σ') : fTr σ σ' := ⟨fun a b c hh => h.1 a b c (by unfold scr; omega) (by omega) (by omega) (by omega) (by omega), fun a b c hh => h.2.1 a b c (by omega), h.2.2.1, h.2.2.2⟩
-- ===== keys =====
theorem uq {n : Nat} {lo hi : Option Int64} {M L : List Cel} (hb : bnd n lo hi M) (hp : M.Perm L) {c d : Cel} (hc : c ∈ L) (hd : d ∈ L) (h : c.1 = d.1) : c = d := by
  have hc := hp.mem_iff.mpr hc
  have hd := hp.mem_iff.mpr hd
  have hs := hb.2
  clear hb hp
  induction M with
  | nil => cases hc
  | cons e M ih =>
    obtain ⟨h1, h2⟩ := List.pairwise_cons.mp hs
    rcases List.mem_cons.mp hc with hc1 | hc1
    · rcases List.mem_cons.mp hd with hd1 | hd1
      · rw [hc1, hd1]
      · have := h1 d hd1
        rw [← hc1, h] at this
        exact absurd this Int64.lt_irrefl
    · rcases List.mem_cons.mp hd with hd1 | hd1
      · have := h1 c hc1
        rw [← hd1, h] at this
        exact absurd this Int64.lt_irrefl
      · exact ih hc1 hd1 h2
theorem hasK_perm {A B : List Cel} (h : A.Perm B) {key : Int64} : hasK key A ↔ hasK key B := ⟨fun ⟨c, h1, h2⟩ => ⟨c, h.mem_iff.mp h1, h2⟩, fun ⟨c, h1, h2⟩ => ⟨c, h.mem_iff.mpr h1, h2⟩⟩
theorem Ct_uq {σ : Sg} {N : Nat} {col : Nat → Nat} {R : List Row} (h : Ct σ N col R) {t : Nat} (ht : t < N) {c d : Cel} (hc : c ∈ own R t) (hd : d ∈ own R t) (he : c.1 = d.1) : c = d := by
  obtain ⟨root, M, P, F, h1, h4, h5⟩ := h
  obtain ⟨g1, g2, g3⟩ := h4 t ht
  exact uq (TA_bnd g1.2.2.2.2.1) g3 hc hd he
theorem Ct_len {σ : Sg} {N : Nat} {col : Nat → Nat} {R : List Row} (h : Ct σ N col R) {t : Nat} (ht : t < N) {c : Cel} (hc : c ∈ own R t) : c.2.length = col t := by
  obtain ⟨root, M, P, F, h1, h4, h5⟩ := h
  obtain ⟨g1, g2, g3⟩ := h4 t ht
  exact ((TA_bnd g1.2.2.2.2.1).1 c (g3.mem_iff.mpr hc)).1
theorem Ct_col {σ : Sg} {N : Nat} {col : Nat → Nat} {R : List Row} (h : Ct σ N col R) {t : Nat} (ht : t < N) : gi σ 3 t 2 = nI (col t) ∧ 1 ≤ col t ∧ col t ≤ 4 ∧ gi σ 3 t 3 = nI (own R t).length := by
  obtain ⟨root, M, P, F, h1, h4, h5⟩ := h
  obtain ⟨g1, g2, g3⟩ := h4 t ht
  exact ⟨g1.2.1, g1.2.2.1, g1.2.2.2.1, by rw [g2, g3.length_eq]⟩
theorem Ct_N {σ : Sg} {N : Nat} {col : Nat → Nat} {R : List Row} (h : Ct σ N col R) : nt σ = N ∧ N ≤ 3 ∧ gi σ 0 0 2 = nI N := by
  obtain ⟨root, M, P, F, h1, h4, h5⟩ := h
  exact h1
-- ===== the trees' methods, seen from the rows =====
theorem has_Ct {σ : Sg} {N : Nat} {col : Nat → Nat} {R : List Row} (h : Ct σ N col R) {t : Nat} (ht : t < N) (key : Int64) : ∃ r σ', f_Tr_has t key σ = some (r, σ') ∧ eqS σ σ' ∧ (hasK key (own R t) → r = 1) ∧ (¬ hasK key (own R t) → r = 0) := by
  obtain ⟨root, M, P, F, h1, h4, h5⟩ := h
  obtain ⟨g1, g2, g3⟩ := h4 t ht
  obtain ⟨r, σ', e1, e2, e3, e4⟩ := has_eq g1 key
  exact ⟨r, σ', e1, e2, fun z => e3 ((hasK_perm g3).mpr z), fun z => e4 (fun y => z ((hasK_perm g3).mp y))⟩
def qk (key : Int64) (ab : Int32) (k : Int64) : Prop := if ab = 0 then ¬ k < key else key < k
theorem seek_Ct {σ : Sg} {N : Nat} {col : Nat → Nat} {R : List Row} (h : Ct σ N col R) {t : Nat} (ht : t < N) (key : Int64) (ab : Int32) : ∃ r σ', f_Tr_seek t key ab σ = some (r, σ') ∧ eqS σ σ' ∧ ((∀ c ∈ own R t, ¬ qk key ab c.1) → r = 0) ∧ (∀ c ∈ own R t, qk key ab c.1 → (∀ d ∈ own R t, qk key ab d.1 → ¬ d.1 < c.1) → r = 1 ∧ ∃ σ'', f_Tr_key t σ' = some (c.1, σ'') ∧ eqS σ' σ'') := by
  obtain ⟨root, M, P, F, h1, h4, h5⟩ := h
  obtain ⟨g1, g2, g3⟩ := h4 t ht
  obtain ⟨r, σ', e1, e2, e3, e4⟩ := seek_eq g1 key ab
  have hq : ∀ c : Cel, ((if ab = 0 then !decide (c.1 < key) else decide (key < c.1)) = true) ↔ qk key ab c.1 := fun c => by
    unfold qk
    split <;> simp
  refine ⟨r, σ', e1, e2, fun z => e3 ?_, fun c hc hcq hmin => ?_⟩
  · unfold nxt
    rw [List.filter_eq_nil_iff]
    intro c hc hcq
    exact z c (g3.mem_iff.mp hc) ((hq c).mp hcq)
  · have hin : c ∈ nxt key ab (M t) := List.mem_filter.mpr ⟨g3.mem_iff.mpr hc, (hq c).mpr hcq⟩
    have hsrt : (nxt key ab (M t)).Pairwise (fun a b => a.1 < b.1) := (TA_bnd g1.2.2.2.2.1).2.filter _
    cases hnx : nxt key ab (M t) with
    | nil => rw [hnx] at hin; cases hin
    | cons d l =>
      rw [hnx] at hin hsrt
      have hd : d ∈ nxt key ab (M t) := by rw [hnx]; exact List.mem_cons_self
      obtain ⟨hd1, hd2⟩ := List.mem_filter.mp hd
      have hdc : d = c := by
        rcases List.mem_cons.mp hin with rfl | hin
        · rfl
        · exact absurd ((List.pairwise_cons.mp hsrt).1 c hin) (hmin d (g3.mem_iff.mp hd1) ((hq d).mp hd2))
      obtain ⟨x1, σ'', x2, x3⟩ := e4 d l hnx
      exact ⟨x1, σ'', by rw [← hdc]; exact x2, x3⟩
theorem read_Ct {σ : Sg} {N : Nat} {col : Nat → Nat} {R : List Row} (h : Ct σ N col R) {t : Nat} (ht : t < N) {c : Cel} (hc : c ∈ own R t) (r : Nat) : ∃ σ', f_Tr_read t c.1 r σ = some σ' ∧ eqS (sVs σ (4 * r) (pad c.2)) σ' := by
  obtain ⟨root, M, P, F, h1, h4, h5⟩ := h
  obtain ⟨g1, g2, g3⟩ := h4 t ht
  exact read_eq g1 (g3.mem_iff.mpr hc) r
theorem pg3 {P : Nat → List Nat} {F : List Nat} {t : Nat} (ht : t < 3) (P' F' : List Nat) (hp : (P' ++ F').Perm (P t ++ F)) : ((fun s => if s = t then P' else P s) 0 ++ ((fun s => if s = t then P' else P s) 1 ++ ((fun s => if s = t then P' else P s) 2 ++ F'))).Perm (P 0 ++ (P 1 ++ (P 2 ++ F))) := by
  have h3 : t = 0 ∨ t = 1 ∨ t = 2 := by omega
  have sw : ∀ A B C : List Nat, (A ++ (B ++ C)).Perm (B ++ (A ++ C)) := fun A B C => by
    rw [← List.append_assoc, ← List.append_assoc]
    exact List.Perm.append_right C List.perm_append_comm
  rcases h3 with rfl | rfl | rfl
  · show (P' ++ (P 1 ++ (P 2 ++ F'))).Perm (P 0 ++ (P 1 ++ (P 2 ++ F)))
    refine (sw _ _ _).trans (List.Perm.trans (List.Perm.append_left _ ((sw _ _ _).trans (List.Perm.trans (List.Perm.append_left _ hp) (sw _ _ _)))) (sw _ _ _))
  · show (P 0 ++ (P' ++ (P 2 ++ F'))).Perm (P 0 ++ (P 1 ++ (P 2 ++ F)))
    exact List.Perm.append_left _ ((sw _ _ _).trans (List.Perm.trans (List.Perm.append_left _ hp) (sw _ _ _)))
  · show (P 0 ++ (P 1 ++ (P' ++ F'))).Perm (P 0 ++ (P 1 ++ (P 2 ++ F)))
    exact List.Perm.append_left _ (List.Perm.append_left _ hp)
/-- tree t changes, the other trees stay -/
theorem Ct_upd {σ σ' : Sg} {N : Nat} {col : Nat → Nat} {R R' : List Row} {t : Nat} (ht : t < N) {root : Nat → Nat} {M : Nat → List Cel} {P : Nat → List Nat} {F F' P' : List Nat} {M' : List Cel}
    (h1 : nt σ = N ∧ N ≤ 3 ∧ gi σ 0 0 2 = nI N) (h4 : ∀ t, t < N → TO σ (col t) t (root t) (M t) (P t) ∧ gi σ 3 t 3 = nI (M t).length ∧ (M t).Perm (own R t)) (h5 : ∀ t, N ≤ t → P t = []) (h7 : (P 0 ++ (P 1 ++ (P 2 ++ F))).Perm (List.range 240))
    (k1 : TO σ' (col t) t (root t) M' P') (k2 : FL σ' F') (k3 : (P' ++ F').Perm (P t ++ F)) (k4 : gi σ' 3 t 3 = nI M'.length) (k5 : M'.Perm (own R' t)) (k6 : ∀ s, s ≠ t → own R' s = own R s ∨ (own R s).Perm (own R' s)) (k7 : tg (fun q => q ∈ P t ++ F) t σ σ') : Ct σ' N col R' := by
  have hnd : (P 0 ++ (P 1 ++ (P 2 ++ F))).Nodup := h7.nodup_iff.mpr List.nodup_range
  refine ⟨root, fun s => if s = t then M' else M s, fun s => if s = t then P' else P s, F', ⟨k7.2.2.2.trans h1.1, h1.2.1, (k7.1 _ _ _ (by unfold scr; omega) (by decide) (by decide) (by omega) (by omega)).trans h1.2.2⟩, fun s hs => ?_, fun s hs => ?_, k2, (pg3 (by omega) P' F' k3).trans h7⟩
  · by_cases hst : s = t
    · subst hst
      simp only [if_true]
      exact ⟨k1, k4, k5⟩
    · simp only [hst, if_false]
      obtain ⟨g1, g2, g3⟩ := h4 s hs
      have hdis : ∀ q ∈ P s, q ∉ P t ++ F := by
        intro q hq hq2
        have h3 : (s = 0 ∨ s = 1 ∨ s = 2) ∧ (t = 0 ∨ t = 1 ∨ t = 2) := by omega
        obtain ⟨a1, a2, a3⟩ := List.nodup_append.mp hnd
        obtain ⟨b1, b2, b3⟩ := List.nodup_append.mp a2
        obtain ⟨c1, c2, c3⟩ := List.nodup_append.mp b2
        have m0 : ∀ x, x ∈ P 0 → x ∉ P 1 ∧ x ∉ P 2 ∧ x ∉ F := fun x hx => ⟨fun z => a3 x hx x (List.mem_append_left _ z) rfl, fun z => a3 x hx x (List.mem_append_right _ (List.mem_append_left _ z)) rfl, fun z => a3 x hx x (List.mem_append_right _ (List.mem_append_right _ z)) rfl⟩
        have m1 : ∀ x, x ∈ P 1 → x ∉ P 2 ∧ x ∉ F := fun x hx => ⟨fun z => b3 x hx x (List.mem_append_left _ z) rfl, fun z => b3 x hx x (List.mem_append_right _ z) rfl⟩
        have m2 : ∀ x, x ∈ P 2 → x ∉ F := fun x hx z => c3 x hx x z rfl
        rcases h3 with ⟨rfl | rfl | rfl, rfl | rfl | rfl⟩
        · exact hst rfl
        · exact (List.mem_append.mp hq2).elim (m0 q hq).1 (m0 q hq).2.2
        · exact (List.mem_append.mp hq2).elim (m0 q hq).2.1 (m0 q hq).2.2
        · exact (List.mem_append.mp hq2).elim (fun z => (m0 q z).1 hq) (m1 q hq).2
        · exact hst rfl
        · exact (List.mem_append.mp hq2).elim (m1 q hq).1 (m1 q hq).2
        · exact (List.mem_append.mp hq2).elim (fun z => (m0 q z).2.1 hq) (m2 q hq)
        · exact (List.mem_append.mp hq2).elim (fun z => (m1 q z).1 hq) (m2 q hq)
        · exact hst rfl
      refine ⟨⟨(k7.1 _ _ _ (by unfold scr; omega) (by decide) (by decide) (by omega) (by omega)).trans g1.1, (k7.1 _ _ _ (by unfold scr; omega) (by decide) (by decide) (by omega) (by omega)).trans g1.2.1, g1.2.2.1, g1.2.2.2.1, ?_, g1.2.2.2.2.2⟩, (k7.1 _ _ _ (by unfold scr; omega) (by decide) (by decide) (by omega) (by omega)).trans g2, ?_⟩
      · obtain ⟨d, hd⟩ := g1.2.2.2.2.1
        refine TA_congr (fun q hq j => k7.1 _ _ _ ?_ (by decide) (by decide) (fun z => hdis q hq z.2) (by omega)) ⟨d, hd⟩
        have := TA_P _ _ _ _ _ _ hd q hq
        unfold scr
        omega
      · rcases k6 s hst with z | z
        · rw [z]; exact g3
        · exact g3.trans z
  · have hst : s ≠ t := by omega
    simp only [hst, if_false]
    exact h5 s hs
theorem pgs_len {P : Nat → List Nat} {F : List Nat} (h7 : (P 0 ++ (P 1 ++ (P 2 ++ F))).Perm (List.range 240)) {t : Nat} (ht : t < 3) : (P t ++ F).Nodup ∧ (P t ++ F).length ≤ 240 ∧ (P 0).length + (P 1).length + (P 2).length + F.length = 240 := by
  have hnd : (P 0 ++ (P 1 ++ (P 2 ++ F))).Nodup := h7.nodup_iff.mpr List.nodup_range
  have hl := h7.length_eq
  rw [List.length_range, List.length_append, List.length_append, List.length_append] at hl
  have h3 : t = 0 ∨ t = 1 ∨ t = 2 := by omega
  refine ⟨?_, ?_, by omega⟩
  · obtain ⟨a1, a2, a3⟩ := List.nodup_append.mp hnd
    obtain ⟨b1, b2, b3⟩ := List.nodup_append.mp a2
    obtain ⟨c1, c2, c3⟩ := List.nodup_append.mp b2
    rcases h3 with rfl | rfl | rfl
    · exact List.nodup_append.mpr ⟨a1, c2, fun a ha b hb => a3 a ha b (List.mem_append_right _ (List.mem_append_right _ hb))⟩
    · exact List.nodup_append.mpr ⟨b1, c2, fun a ha b hb => b3 a ha b (List.mem_append_right _ hb)⟩
    · exact b2
  · rw [List.length_append]
    rcases h3 with rfl | rfl | rfl <;> omega
theorem own_sum (R : List Row) (h : ∀ r ∈ R, r.1 < 3) : (own R 0).length + (own R 1).length + (own R 2).length = R.length := by
  induction R with
  | nil => rfl
  | cons r R ih =>
    obtain ⟨s, c⟩ := r
    have hr := h (s, c) List.mem_cons_self
    have ih := ih (fun r hr => h r (List.mem_cons_of_mem _ hr))
    have e : ∀ t, own ((s, c) :: R) t = own [(s, c)] t ++ own R t := fun t => by rw [← own_app, List.singleton_append]
    rw [e, e, e, List.length_append, List.length_append, List.length_append, List.length_cons]
    have h3 : s = 0 ∨ s = 1 ∨ s = 2 := by have : s < 3 := hr; omega
    rcases h3 with rfl | rfl | rfl
    · rw [own_one, own_other (by decide), own_other (by decide)]
      simp only [List.length_cons, List.length_nil]
      omega
    · rw [own_one, own_other (by decide), own_other (by decide)]
      simp only [List.length_cons, List.length_nil]
      omega
    · rw [own_one, own_other (by decide), own_other (by decide)]
      simp only [List.length_cons, List.length_nil]
      omega
theorem TO_pgs {σ : Sg} {n t root : Nat} {M : List Cel} {P : List Nat} (h : TO σ n t root M P) : P.length ≤ 2 * M.length + 1 := by
  by_cases hM : M = []
  · subst hM
    rcases TA_iff.mp h.2.2.2.2.1 with ⟨_, rfl⟩ | ⟨e0, es, h1, h2, h3⟩
    · simp
    · have := fM_ne h1.2.2.2.2.2
      exact absurd h2.symm this
  · have := TA_pgs h.2.2.2.2.1 hM
    omega
theorem place_Ct {σ : Sg} {N : Nat} {col : Nat → Nat} {R : List Row} (h : Ct σ N col R) (hR : R.length < 90) (hw : ∀ r ∈ R, r.1 < N) {t : Nat} (ht : t < N) (key : Int64) (hk : ¬ hasK key (own R t)) {r : Nat} {vs : List (Option Int64)} (hvn : vs.length = col t) (hr : r < 2) (hv : hV σ r vs) :
    ∃ σ', f_Tr_place t key r σ = some σ' ∧ Ct σ' N col (R ++ [(t, (key, vs))]) ∧ fTr σ σ' := by
  obtain ⟨root, M, P, F, h1, h4, h5, h6, h7⟩ := h
  obtain ⟨g1, g2, g3⟩ := h4 t ht
  have hsum := own_sum R (fun r hr => by have := hw r hr; omega)
  have hM90 : (M t).length ≤ 90 := by rw [g3.length_eq]; have := own_len (R := R) t; omega
  have hroom : 2 * ((M t).length + 1) ≤ (P t ++ F).length := by
    obtain ⟨-, -, hl⟩ := pgs_len h7 (t := t) (by omega)
    have hb : ∀ s, s < 3 → (P s).length ≤ 2 * (own R s).length + 1 := fun s hs => by
      by_cases hsN : s < N
      · have := TO_pgs (h4 s hsN).1
        rw [(h4 s hsN).2.2.length_eq] at this
        exact this
      · rw [h5 s (by omega)]
        simp
    have b0 := hb 0 (by decide)
    have b1 := hb 1 (by decide)
    have b2 := hb 2 (by decide)
    rw [g3.length_eq, List.length_append]
    have h3 : t = 0 ∨ t = 1 ∨ t = 2 := by omega
    rcases h3 with rfl | rfl | rfl <;> omega
  obtain ⟨σ', M', P', F', e1, e2, e3, e4, e5, e6, e7⟩ := place_eq g1 hM90 h6 (pgs_len h7 (t := t) (by omega)).1 hroom hvn hr hv key (fun z => hk ((hasK_perm g3).mp z))
  refine ⟨σ', e1, Ct_upd ht h1 h4 h5 h7 e3 e4 e5 ?_ ?_ ?_ e7, fT_tg e7⟩
  · rw [e6, g2, e2.length_eq, List.length_cons, nI_1]
  · rw [own_app, own_one]
    exact e2.trans ((List.Perm.cons _ g3).trans (List.perm_append_singleton _ _).symm)
  · intro s hs
    left
    rw [own_app, own_other hs, List.append_nil]
theorem remove_Ct {σ : Sg} {N : Nat} {col : Nat → Nat} {R R' : List Row} (h : Ct σ N col R) {t : Nat} (ht : t < N) {c : Cel} (hR : R.Perm ((t, c) :: R')) :
    ∃ σ', f_Tr_remove t c.1 σ = some σ' ∧ Ct σ' N col R' ∧ fTr σ σ' := by
  have hcin : c ∈ own R t := mem_own.mpr (hR.mem_iff.mpr List.mem_cons_self)
  obtain ⟨root, M, P, F, h1, h4, h5, h6, h7⟩ := h
  obtain ⟨g1, g2, g3⟩ := h4 t ht
  obtain ⟨p1, p2, -⟩ := pgs_len h7 (t := t) (by omega)
  obtain ⟨σ', d, M', P', F', e1, e2, e3, e4, e5, e6, e7, e8⟩ := remove_eq g1 h6 p1 p2 (key := c.1) ⟨c, g3.mem_iff.mpr hcin, rfl⟩
  have hdc : d = c := uq (TA_bnd g1.2.2.2.2.1) (List.Perm.refl _) (e3.mem_iff.mpr List.mem_cons_self) (g3.mem_iff.mpr hcin) e2
  subst hdc
  have hown : ∀ s, (own R s).Perm (own [(t, d)] s ++ own R' s) := fun s => by
    rw [← own_app, List.singleton_append]
    exact own_perm hR s
  refine ⟨σ', e1, Ct_upd ht h1 h4 h5 h7 e4 e5 e6 ?_ ?_ ?_ e8, fT_tg e8⟩
  · rw [e7, g2, e3.length_eq, List.length_cons, nI_pred]
  · have := hown t
    rw [own_one, List.singleton_append] at this
    exact List.Perm.cons_inv (e3.symm.trans (g3.trans this))
  · intro s hs
    right
    have := hown s
    rw [own_other hs, List.nil_append] at this
    exact this
