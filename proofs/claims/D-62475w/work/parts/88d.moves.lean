/-! the plain law: the instructions with a cursor: first, next, seek -/
theorem seek_CtT {σ : Sg} {N : Nat} {col : Nat → Nat} {R : List Row} (h : Ct σ N col R) {t : Nat} (ht : t < N) (key : Int64) (ab : Int32) : ∃ r σ', f_Tr_seek t key ab σ = some (r, σ') ∧ eqS σ σ' ∧ ((∀ c ∈ own R t, ¬ qk key ab c.1) → r = 0) ∧ (∀ c ∈ own R t, qk key ab c.1 → (∀ d ∈ own R t, qk key ab d.1 → ¬ d.1 < c.1) → r = 1 ∧ ∀ τ, kS σ' τ → ∃ σ'', f_Tr_key t τ = some (c.1, σ'') ∧ eqS τ σ'') := by
  obtain ⟨root, M, P, F, h1, h4, h5⟩ := h
  obtain ⟨g1, g2, g3⟩ := h4 t ht
  obtain ⟨r, σ', e1, e2, e3, e4⟩ := seek_eqT g1 key ab
  have hq : ∀ c : Cel, ((if ab = 0 then !decide (c.1 < key) else decide (key < c.1)) = true) ↔ qk key ab c.1 := fun c => by
    unfold qk
    split <;> simp
  refine ⟨r, σ', e1, e2, fun z => e3 ?_, fun c hc hcq hmin => ?_⟩
  · unfold nxt
    rw [List.filter_eq_nil_iff]
    intro c hc hcq
    exact z c (g3.mem_iff.mp hc) ((hq c).mp hcq)
  · have hin : c ∈ nxt key ab (M t) := List.mem_filter.mpr ⟨g3.mem_iff.mpr hc, (hq c).mpr hcq⟩
    have hsrt : (nxt key ab (M t)).Pairwise (fun a b => a.1 < b.1) := (TA_bnd g1.2.2.2.2.1).2.filter _
    cases hnx : nxt key ab (M t) with
    | nil => rw [hnx] at hin; cases hin
    | cons d l =>
      rw [hnx] at hin hsrt
      have hd : d ∈ nxt key ab (M t) := by rw [hnx]; exact List.mem_cons_self
      obtain ⟨hd1, hd2⟩ := List.mem_filter.mp hd
      have hdc : d = c := by
        rcases List.mem_cons.mp hin with rfl | hin
        · rfl
        · exact absurd ((List.pairwise_cons.mp hsrt).1 c hin) (hmin d (g3.mem_iff.mp hd1) ((hq d).mp hd2))
      obtain ⟨x1, x2⟩ := e4 d l hnx
      rw [hdc] at x2
      exact ⟨x1, x2⟩
theorem ex_min {p : Int64 → Prop} : ∀ (L : List Cel), (∃ c ∈ L, p c.1) → ∃ c ∈ L, p c.1 ∧ ∀ d ∈ L, p d.1 → ¬ d.1 < c.1 := by
  intro L
  induction L with
  | nil => rintro ⟨c, h, -⟩; cases h
  | cons e L ih =>
    intro h
    by_cases hL : ∃ c ∈ L, p c.1
    · obtain ⟨c, h1, h2, h3⟩ := ih hL
      by_cases he : p e.1 ∧ e.1 < c.1
      · refine ⟨e, List.mem_cons_self, he.1, fun d hd hp hlt => ?_⟩
        rcases List.mem_cons.mp hd with rfl | hd
        · exact Int64.lt_irrefl hlt
        · exact h3 d hd hp (Int64.lt_trans hlt he.2)
      · refine ⟨c, List.mem_cons_of_mem _ h1, h2, fun d hd hp hlt => ?_⟩
        rcases List.mem_cons.mp hd with rfl | hd
        · exact he ⟨hp, hlt⟩
        · exact h3 d hd hp hlt
    · obtain ⟨c, h1, h2⟩ := h
      rcases List.mem_cons.mp h1 with rfl | h1
      · refine ⟨c, List.mem_cons_self, h2, fun d hd hp hlt => ?_⟩
        rcases List.mem_cons.mp hd with rfl | hd
        · exact Int64.lt_irrefl hlt
        · exact hL ⟨d, hd, hp⟩
      · exact absurd ⟨c, h1, h2⟩ hL
/-- the lowest key: both sides find the same -/
theorem low_key {R : List Row} {t : Nat} {p : Int64 → Prop} {x : Int32} {c : Cel} (h : low R t p x) (hc : c ∈ own R t) (hp : p c.1) (hm : ∀ d ∈ own R t, p d.1 → ¬ d.1 < c.1) : ∃ j d, R[j]? = some (t, d) ∧ x = nI j ∧ d.1 = c.1 := by
  rcases h with ⟨-, h2⟩ | ⟨j, d, h1, h2, h3, h4⟩
  · exact absurd hp (h2 c hc)
  · refine ⟨j, d, h1, h2, ?_⟩
    exact Int64.le_antisymm (Int64.not_lt.mp (h4 c hc hp)) (Int64.not_lt.mp (hm d (mem_own.mpr (List.mem_of_getElem? h1)) h3))
theorem low_none {R : List Row} {t : Nat} {p : Int64 → Prop} {x : Int32} (h : low R t p x) (hn : ∀ c ∈ own R t, ¬ p c.1) : x = -1 := by
  rcases h with ⟨h1, -⟩ | ⟨j, d, h1, h2, h3, h4⟩
  · exact h1
  · exact absurd h3 (hn d (mem_own.mpr (List.mem_of_getElem? h1)))
section
variable {N : Nat} {col : Nat → Nat} {σ : Sg} {R : List Row} {rg : Nat → Option Int64} {cu : Nat → Cur} {Rs : List Vals} {i : Nat}
theorem KC_N (hK : KC σ N col R rg cu Rs) : nt σ = N ∧ N ≤ 3 := ⟨(Ct_N hK.1).1, (Ct_N hK.1).2.1⟩
theorem KC_R (hK : KC σ N col R rg cu Rs) : R.length ≤ 90 ∧ (∀ r ∈ R, r.1 < 3) ∧ (∀ r ∈ R, r.2.2.length ≤ 4) := ⟨hK.2.2.1.1, fun r hr => Nat.lt_of_lt_of_le (hK.2.2.1.2 r hr).1 (KC_N hK).2, fun r hr => by rw [(hK.2.2.1.2 r hr).2]; exact (Ct_col hK.1 (hK.2.2.1.2 r hr).1).2.2.1⟩
theorem cu_open (hK : KC σ N col R rg cu Rs) {k t : Nat} {q : Option Int64} (hk : k < 3) (hc : cu k = some (t, q)) : t < N ∧ gr σ 7 k 0 = some t ∧ gi σ 7 k 1 = ob q ∧ (∀ key, q = some key → gj σ 7 k 2 = key) := by
  have := hK.2.2.2.2.1 k hk
  rw [hc] at this
  exact this
theorem take_0 (hK : KC σ N col R rg cu Rs) {k t : Nat} {q : Option Int64} (hk : k < 3) (hc : cu k = some (t, q)) : ∃ σ', f_Cu_take k 0 σ = some (0, σ') ∧ KC σ' N col R rg (up cu k (some (t, none))) Rs ∧ fKc σ σ' ∧ gi σ' 0 0 14 = gi σ 0 0 14 := by
  obtain ⟨c1', c2', c3', c4'⟩ := cu_open hK hk hc
  refine ⟨sj (si σ 7 k 1 0) 7 k 2 0, ?_, KC_cur hK _ ?_ ?_ (fun _ _ _ _ => rfl) rfl ⟨c1', c2', ?_, fun key z => by cases z⟩, (fKc_si (by omega)).tr (fKc_sj (by omega)), ?_⟩
  · unfold f_Cu_take
    rw [chk_pos zb0, lt_eq, if_pos rfl, bn2_eq, lt_eq, chk_pos zb0]
  · intro a b c z; rw [gi_sj, gi_ne (by omega)]
  · intro a b c z; rw [gj_ne (by omega), gj_si]
  · rw [gi_sj, gi_eq]; rfl
  · rw [gi_sj, gi_ne (by omega)]
theorem take_1 (hK : KC σ N col R rg cu Rs) {k t : Nat} {q : Option Int64} (hk : k < 3) (hc : cu k = some (t, q)) {key : Int64} (hkey : ∀ τ, kS σ τ → ∃ σ'', f_Tr_key t τ = some (key, σ'') ∧ eqS τ σ'') : ∃ σ', f_Cu_take k 1 σ = some (1, σ') ∧ KC σ' N col R rg (up cu k (some (t, some key))) Rs ∧ fKc σ σ' ∧ gi σ' 0 0 14 = gi σ 0 0 14 := by
  obtain ⟨c1', c2', c3', c4'⟩ := cu_open hK hk hc
  obtain ⟨σ3, e1, e2⟩ := hkey (si σ 7 k 1 1) (fun a b c h => gi_ne (by omega))
  have g1 : ∀ a b c, ¬ scr a b c → ¬ (a = 7 ∧ b = k ∧ c = 1) → gi σ3 a b c = gi σ a b c := fun a b c h1 h2 => by rw [e2.1 a b c h1, gi_ne h2]
  have hK3 : KC (si σ 7 k 1 1) N col R rg (up cu k (some (t, none))) Rs → True := fun _ => trivial
  refine ⟨sj σ3 7 k 2 key, ?_, ?_, ((fKc_si (x := 1) (i := k) (j := 1) (Or.inl rfl)).tr (fKc_eqS e2)).tr (fKc_sj (by omega)), ?_⟩
  · unfold f_Cu_take
    rw [chk_pos zb1, lt_eq, if_neg (by decide), gr_si, c2', bnd_eq, chk_pos (by rw [nt_si, (KC_N hK).1]; exact c1'), e1, bn2_eq, bn2_eq, lt_eq, chk_pos zb1]
  · obtain ⟨k1, k2, k3, k4, k5, k6, k7⟩ := hK
    have j1 : ∀ a b c, ¬ (a = 7 ∧ b = k) → ¬ (a = 3 ∧ c = 12) → gj (sj σ3 7 k 2 key) a b c = gj σ a b c := fun a b c h1 h2 => by rw [gj_ne (by omega), e2.2.1 a b c h2, gj_si]
    refine ⟨Ct_fC ⟨fun a b c hh => g1 a b c (by unfold scr; omega) (by omega), e2.2.2.2⟩ k1, (g1 _ _ _ (by unfold scr; omega) (by omega)).trans k2, k3, fun i hi => ⟨(g1 _ _ _ (by unfold scr; omega) (by omega)).trans (k4 i hi).1, (j1 _ _ _ (by omega) (by omega)).trans (k4 i hi).2⟩, fun j hj => ?_, Rsc_fr (fun a b c hh => g1 a b c (by unfold scr; omega) (by omega)) (fun a b c hh => j1 a b c (by omega) (by omega)) k6, k7⟩
    by_cases hji : j = k
    · subst hji
      rw [up_eq]
      refine ⟨c1', ?_, ?_, fun key' z => ?_⟩
      · rw [gr_sj, e2.2.2.1]; exact c2'
      · rw [gi_sj, e2.1 _ _ _ (by unfold scr; omega), gi_eq]; rfl
      · cases z; rw [gj_eq]
    · rw [up_ne hji]
      refine cuC_fr (fun c => ?_) (fun c => ?_) (fun c => ?_) (k5 j hj)
      · exact g1 _ _ _ (by unfold scr; omega) (by omega)
      · exact j1 _ _ _ (by omega) (by omega)
      · rw [gr_sj, e2.2.2.1]; rfl
  · rw [gi_sj]
    exact g1 _ _ _ (by unfold scr; omega) (by omega)
theorem point_0 {τ : Sg} (hτ : KM τ N col R rg cu Rs) {k t : Nat} {q : Option Int64} (hk : k < 3) (hc : cu k = some (t, q)) : ∃ τ', f_Md_point (nI k) (-1) τ = some τ' ∧ gi τ' 37 0 k = 0 ∧ KM τ' N col R rg (up cu k (some (t, none))) Rs ∧ fKm τ τ' ∧ gi τ' 9 0 18 = gi τ 9 0 18 ∧ gi τ' 9 0 17 = gi τ 9 0 17 := by
  have h36 : gi τ 36 0 k = nI t := by
    have := hτ.2.2.1 k hk
    rw [hc] at this
    exact this.1
  refine ⟨sj (si τ 37 0 k 0) 38 0 k 0, ?_, ?_, KM_cur hτ _ ?_ ?_ ⟨?_, ?_, fun key z => by cases z⟩, (fKm_si (by omega)).tr (fKm_sj (by omega)), ?_, ?_⟩
  · unfold f_Md_point
    rw [if_pos neg1_lt, lt_eq, chk_pos (vc3 hk), lt_eq, if_neg n0p, bnd_eq, chk_pos (vc3 hk), lt_eq, nI_clamp (by omega), nar0]
  · rw [gi_sj, gi_eq]
  · intro a b c z; rw [gi_sj, gi_ne (by omega)]
  · intro a b c z; rw [gj_ne (by omega), gj_si]
  · rw [gi_sj, gi_ne (by omega)]; exact h36
  · rw [gi_sj, gi_eq]; rfl
  · rw [gi_sj, gi_ne (by omega)]
  · rw [gi_sj, gi_ne (by omega)]
theorem point_1 {τ : Sg} (hτ : KM τ N col R rg cu Rs) {k t : Nat} {q : Option Int64} (hk : k < 3) (hc : cu k = some (t, q)) {j : Nat} {d : Cel} (hj : j < 90) (hd : R[j]? = some (t, d)) : ∃ τ', f_Md_point (nI k) (nI j) τ = some τ' ∧ gi τ' 37 0 k = 1 ∧ KM τ' N col R rg (up cu k (some (t, some d.1))) Rs ∧ fKm τ τ' ∧ gi τ' 9 0 18 = gi τ 9 0 18 ∧ gi τ' 9 0 17 = gi τ 9 0 17 := by
  have h36 : gi τ 36 0 k = nI t := by
    have := hτ.2.2.1 k hk
    rw [hc] at this
    exact this.1
  have h28 : gj τ 28 0 j = d.1 := (hτ.1.2.2.2 j _ hd).2.1
  refine ⟨sj (si τ 37 0 k 1) 38 0 k d.1, ?_, ?_, KM_cur hτ _ ?_ ?_ ⟨?_, ?_, fun key z => ?_⟩, (fKm_si (by omega)).tr (fKm_sj (by omega)), ?_, ?_⟩
  · unfold f_Md_point
    rw [if_neg (nI_pos (by omega)), lt_eq, chk_pos (vc3 hk), lt_eq, if_pos (nI_pos' (by omega)), chk_pos (vp_in_90 hj), bnd_eq, chk_pos (vc3 hk), lt_eq, nI_clamp (by omega), nI_clamp (by omega), gj_si, h28]
    rfl
  · rw [gi_sj, gi_eq]
  · intro a b c z; rw [gi_sj, gi_ne (by omega)]
  · intro a b c z; rw [gj_ne (by omega), gj_si]
  · rw [gi_sj, gi_ne (by omega)]; exact h36
  · rw [gi_sj, gi_eq]; rfl
  · cases z; rw [gj_eq]
  · rw [gi_sj, gi_ne (by omega)]
  · rw [gi_sj, gi_ne (by omega)]
theorem min64 (k : Int64) : ¬ k < (-9223372036854775808 : Int64) := by
  rw [Int64.lt_iff_toInt_lt, show (-9223372036854775808 : Int64).toInt = -2 ^ 63 by decide]
  have := Int64.le_toInt k
  omega
theorem mv_2 (hK : KC σ N col R rg cu Rs) {k t : Nat} {q : Option Int64} {b c : Int32} (hk : k < 3) (hc : cu k = some (t, q)) (hI : insC σ i (2, nI k, b, c)) : Sim True N col σ R rg cu Rs (f_TM_moves i k σ) (fun τ => f_Md_withCursor (nI 2) (nI k) b c τ) := by
  obtain ⟨c1', c2', c3', c4'⟩ := cu_open hK hk hc
  obtain ⟨n1, n2⟩ := KC_N hK
  obtain ⟨r1, r2, r3⟩ := KC_R hK
  obtain ⟨r, σ1, s1, s2, s3, s4⟩ := seek_CtT hK.1 c1' (-9223372036854775808) 0
  have hK1 := KC_eqS hK s2
  have hh : gi σ1 0 0 14 = gi σ 0 0 14 := s2.1 _ _ _ (by unfold scr; omega)
  have hcl : (nI k).toNatClampNeg = k := nI_clamp (by omega)
  have mo : ∀ τ, KM τ N col R rg cu Rs → gi τ 36 0 k = nI t ∧ ∃ x, f_Md_firstRow (nI t) τ = some (x, τ) ∧ low R t (fun _ => True) x := fun τ hτ => ⟨by
    have := hτ.2.2.1 k hk
    rw [hc] at this
    exact this.1, firstRow_eq hτ.1.2.2.1 hτ.1.2.2.2 r1 r2 (by omega)⟩
  have hq : ∀ z, qk (-9223372036854775808) 0 z := fun z => by unfold qk; rw [if_pos rfl]; exact min64 z
  by_cases hn : own R t = []
  · have hr := s3 (fun d hd => by rw [hn] at hd; cases hd)
    subst hr
    obtain ⟨σ2, t1, t2, t3, t4⟩ := take_0 hK1 hk hc
    refine ⟨1, σ2, R, rg, up cu k (some (t, none)), Rs, Or.inr ⟨rfl, trivial⟩, ?_, t2, (fKc_eqS s2).tr t3, t4.trans hh, fun τ hτ => ?_⟩
    · unfold f_TM_moves f_Tr_first
      rw [show gr σ 6 i 0 = some 2 from hI.1, bnd_eq, chk_pos (by decide), if_pos (by decide), c2', bnd_eq, chk_pos (by rw [n1]; exact c1'), s1, bn2_eq, chk_pos zb0, bn2_eq, t1, bn2_eq, lt_eq, i00, chk_pos zb1]
    · obtain ⟨h36, x, x1, x2⟩ := mo τ hτ
      have hx := low_none x2 (fun d hd => by rw [hn] at hd; cases hd)
      subst hx
      obtain ⟨τ', p1, p2, p3, p4, p5, p6⟩ := point_0 hτ hk hc
      refine ⟨τ', ?_, p3, p4, p5, p6⟩
      show f_Md_withCursor (nI 2) (nI k) b c τ = _
      unfold f_Md_withCursor
      rw [chk_pos (vc3 hk), lt_eq, hcl, h36, if_pos (by decide), x1, bn2_eq, p1, bnd_eq, chk_pos (vc3 hk), lt_eq, p2, i00, chk_pos zb1]
  · obtain ⟨d0, hd0⟩ := List.exists_mem_of_ne_nil _ hn
    obtain ⟨d, m1, m2, m3⟩ := ex_min (p := fun _ => True) (own R t) ⟨d0, hd0, trivial⟩
    obtain ⟨hr, hkey⟩ := s4 d m1 (hq _) (fun e he _ => m3 e he trivial)
    subst hr
    obtain ⟨σ2, t1, t2, t3, t4⟩ := take_1 hK1 hk hc hkey
    refine ⟨0, σ2, R, rg, up cu k (some (t, some d.1)), Rs, Or.inl rfl, ?_, t2, (fKc_eqS s2).tr t3, t4.trans hh, fun τ hτ => ?_⟩
    · unfold f_TM_moves f_Tr_first
      rw [show gr σ 6 i 0 = some 2 from hI.1, bnd_eq, chk_pos (by decide), if_pos (by decide), c2', bnd_eq, chk_pos (by rw [n1]; exact c1'), s1, bn2_eq, chk_pos zb1, bn2_eq, t1, bn2_eq, lt_eq, i10, chk_pos zb0]
    · obtain ⟨h36, x, x1, x2⟩ := mo τ hτ
      obtain ⟨j, e, y1, y2, y3⟩ := low_key x2 m1 trivial m3
      subst y2
      have hj := (List.getElem?_eq_some_iff.mp y1).1
      obtain ⟨τ', p1, p2, p3, p4, p5, p6⟩ := point_1 hτ hk hc (by omega) y1
      rw [y3] at p3
      refine ⟨τ', ?_, p3, p4, p5, p6⟩
      show f_Md_withCursor (nI 2) (nI k) b c τ = _
      unfold f_Md_withCursor
      rw [chk_pos (vc3 hk), lt_eq, hcl, h36, if_pos (by decide), x1, bn2_eq, p1, bnd_eq, chk_pos (vc3 hk), lt_eq, p2, i10, chk_pos zb0]
theorem mv_3 (hK : KC σ N col R rg cu Rs) {k t : Nat} {q : Option Int64} {b c : Int32} (hk : k < 3) (hc : cu k = some (t, q)) (hI : insC σ i (3, nI k, b, c)) : Sim True N col σ R rg cu Rs (f_TM_moves i k σ) (fun τ => f_Md_withCursor (nI 3) (nI k) b c τ) := by
  obtain ⟨c1', c2', c3', c4'⟩ := cu_open hK hk hc
  obtain ⟨n1, n2⟩ := KC_N hK
  obtain ⟨r1, r2, r3⟩ := KC_R hK
  have hcl : (nI k).toNatClampNeg = k := nI_clamp (by omega)
  have mo : ∀ τ, KM τ N col R rg cu Rs → gi τ 36 0 k = nI t ∧ gi τ 37 0 k = ob q ∧ (∀ key, q = some key → gj τ 38 0 k = key) := fun τ hτ => by
    have := hτ.2.2.1 k hk
    rw [hc] at this
    exact this
  cases q with
  | none =>
    refine sim_jmp hK (j := 0) (Or.inl rfl) ?_ (fun τ hτ => ?_)
    · unfold f_TM_moves
      rw [show gr σ 6 i 0 = some 3 from hI.1, bnd_eq, chk_pos (by decide), if_neg (by decide), if_pos (by decide), c3', ob_n, i00, bn2_eq, chk_pos zb0]
    · obtain ⟨h36, h37, -⟩ := mo τ hτ
      show f_Md_withCursor (nI 3) (nI k) b c τ = _
      unfold f_Md_withCursor
      rw [chk_pos (vc3 hk), lt_eq, hcl, h36, if_neg (by decide), if_pos (by decide), chk_pos (vc3 hk), h37, ob_n, i00, bn2_eq, if_pos neg1_lt, bnd_eq, lt_eq, if_pos neg1_lt, chk_pos zb0]
  | some key =>
    have ck := c4' key rfl
    obtain ⟨r, σ1, s1, s2, s3, s4⟩ := seek_CtT hK.1 c1' key 1
    have hK1 := KC_eqS hK s2
    have hh : gi σ1 0 0 14 = gi σ 0 0 14 := s2.1 _ _ _ (by unfold scr; omega)
    have mo2 : ∀ τ, KM τ N col R rg cu Rs → ∃ x, f_Md_rowFrom (nI t) key 1 τ = some (x, τ) ∧ low R t (qk key 1) x := fun τ hτ => rowFrom_eq key 1 hτ.1.2.2.1 hτ.1.2.2.2 r1 r2 (by omega)
    by_cases hn : ∃ d ∈ own R t, qk key 1 d.1
    · obtain ⟨d, m1, m2, m3⟩ := ex_min (p := qk key 1) (own R t) hn
      obtain ⟨hr, hkey⟩ := s4 d m1 m2 m3
      subst hr
      obtain ⟨σ2, t1, t2, t3, t4⟩ := take_1 hK1 hk hc hkey
      refine ⟨1, σ2, R, rg, up cu k (some (t, some d.1)), Rs, Or.inr ⟨rfl, trivial⟩, ?_, t2, (fKc_eqS s2).tr t3, t4.trans hh, fun τ hτ => ?_⟩
      · unfold f_TM_moves
        rw [show gr σ 6 i 0 = some 3 from hI.1, bnd_eq, chk_pos (by decide), if_neg (by decide), if_pos (by decide), c3', ob_s, i10, c2', bnd_eq, chk_pos (by rw [n1]; exact c1'), ck, s1, bn2_eq, i10, t1, bn2_eq, i10, bn2_eq, chk_pos zb1]
      · obtain ⟨h36, h37, h38⟩ := mo τ hτ
        obtain ⟨x, x1, x2⟩ := mo2 τ hτ
        obtain ⟨j, e, y1, y2, y3⟩ := low_key x2 m1 m2 m3
        subst y2
        have hj := (List.getElem?_eq_some_iff.mp y1).1
        obtain ⟨τ', p1, p2, p3, p4, p5, p6⟩ := point_1 hτ hk hc (by omega) y1
        rw [y3] at p3
        refine ⟨τ', ?_, p3, p4, p5, p6⟩
        show f_Md_withCursor (nI 3) (nI k) b c τ = _
        unfold f_Md_withCursor
        rw [chk_pos (vc3 hk), lt_eq, hcl, h36, if_neg (by decide), if_pos (by decide), chk_pos (vc3 hk), h37, ob_s, i10, chk_pos (vc3 hk), h38 key rfl, x1, bn2_eq, bn2_eq, if_neg (nI_pos (by omega)), p1, bnd_eq, bnd_eq, lt_eq, if_neg (nI_pos (by omega)), chk_pos zb1]
    · have hn' : ∀ d ∈ own R t, ¬ qk key 1 d.1 := fun d hd hz => hn ⟨d, hd, hz⟩
      have hr := s3 hn'
      subst hr
      refine ⟨0, σ1, R, rg, cu, Rs, Or.inl rfl, ?_, hK1, fKc_eqS s2, hh, fun τ hτ => ⟨τ, ?_, hτ, fKm_rf τ, rfl, rfl⟩⟩
      · unfold f_TM_moves
        rw [show gr σ 6 i 0 = some 3 from hI.1, bnd_eq, chk_pos (by decide), if_neg (by decide), if_pos (by decide), c3', ob_s, i10, c2', bnd_eq, chk_pos (by rw [n1]; exact c1'), ck, s1, bn2_eq, i00, bn2_eq, chk_pos zb0]
      · obtain ⟨h36, h37, h38⟩ := mo τ hτ
        obtain ⟨x, x1, x2⟩ := mo2 τ hτ
        have hx := low_none x2 hn'
        subst hx
        show f_Md_withCursor (nI 3) (nI k) b c τ = _
        unfold f_Md_withCursor
        rw [chk_pos (vc3 hk), lt_eq, hcl, h36, if_neg (by decide), if_pos (by decide), chk_pos (vc3 hk), h37, ob_s, i10, chk_pos (vc3 hk), h38 key rfl, x1, bn2_eq, bn2_eq, if_pos neg1_lt, bnd_eq, lt_eq, if_pos neg1_lt, chk_pos zb0]
theorem mv_8 (hK : KC σ N col R rg cu Rs) {k t s : Nat} {q : Option Int64} {b : Int32} (hk : k < 3) (hs : s < 16) (hc : cu k = some (t, q)) (hI : insC σ i (8, nI k, b, nI s)) : Sim True N col σ R rg cu Rs (f_TM_moves i k σ) (fun τ => f_Md_withCursor (nI 8) (nI k) b (nI s) τ) := by
  obtain ⟨c1', c2', c3', c4'⟩ := cu_open hK hk hc
  obtain ⟨n1, n2⟩ := KC_N hK
  obtain ⟨r1, r2, r3⟩ := KC_R hK
  have hcl : (nI k).toNatClampNeg = k := nI_clamp (by omega)
  have hcs : (nI s).toNatClampNeg = s := nI_clamp (by omega)
  have h16 : gi σ 16 i 2 = nI s := hI.2.2.2
  obtain ⟨v1, v2⟩ := hK.2.2.2.1 s hs
  have mo : ∀ τ, KM τ N col R rg cu Rs → gi τ 36 0 k = nI t := fun τ hτ => by
    have := hτ.2.2.1 k hk
    rw [hc] at this
    exact this.1
  generalize hO : rg s = O at v1 v2
  have mr : ∀ τ, KM τ N col R rg cu Rs → gi τ 35 0 s = ob O ∧ gj τ 34 0 s = O.getD 0 := fun τ hτ => by rw [← hO]; exact hτ.2.1 s hs
  -- the cursor finds nothing
  have nothing : ∀ σ1, eqS σ σ1 → (∀ K : Int32 → Sg → Option (Int32 × Sg), bn2 (if ob O = 0 then (some (0, σ)) else ((gr σ 7 k 0).bind (fun t61 => chk (t61 < nt σ) (bn2 (f_Tr_seek t61 (O.getD 0) 0 σ) (fun r68 σ66 => (if r68 = 0 then (some (0, σ66)) else (some (1, σ66)))))))) K = K 0 σ1) → (∀ τ, KM τ N col R rg cu Rs → (if ob O = 0 then (some ((-1 : Int32), τ)) else (bn2 (f_Md_rowFrom (nI t) (O.getD 0) 0 τ) (fun r78 σ76 => some (r78, σ76)))) = some (-1, τ)) → Sim True N col σ R rg cu Rs (f_TM_moves i k σ) (fun τ => f_Md_withCursor (nI 8) (nI k) b (nI s) τ) := fun σ1 s2 hcl1 hml => by
    obtain ⟨σ2, t1, t2, t3, t4⟩ := take_0 (KC_eqS hK s2) hk hc
    refine ⟨1, σ2, R, rg, up cu k (some (t, none)), Rs, Or.inr ⟨rfl, trivial⟩, ?_, t2, (fKc_eqS s2).tr t3, t4.trans (s2.1 _ _ _ (by unfold scr; omega)), fun τ hτ => ?_⟩
    · unfold f_TM_moves
      rw [show gr σ 6 i 0 = some 8 from hI.1, bnd_eq, chk_pos (by decide), if_neg (by decide), if_neg (by decide), if_neg (by decide), if_neg (by decide), if_pos (by decide)]
      simp only [chk_pos v23, t2c, h16, chk_pos (vr16 hs), hcs, v1, v2]
      rw [hcl1, t1, bn2_eq, lt_eq, i00, chk_pos zb1]
    · obtain ⟨y1, y2⟩ := mr τ hτ
      obtain ⟨τ', p1, p2, p3, p4, p5, p6⟩ := point_0 hτ hk hc
      refine ⟨τ', ?_, p3, p4, p5, p6⟩
      show f_Md_withCursor (nI 8) (nI k) b (nI s) τ = _
      unfold f_Md_withCursor
      rw [chk_pos (vc3 hk), lt_eq, hcl, mo τ hτ, if_neg (by decide), if_neg (by decide), if_pos (by decide), chk_pos (vr16 hs), hcs, y1, y2, chk_pos (vr16 hs), hml τ hτ, bn2_eq, p1, bnd_eq, chk_pos (vc3 hk), lt_eq, p2, i00, chk_pos zb1]
  cases O with
  | none => exact nothing σ (eqS.rf σ) (fun K => by rw [ob_n, i00, bn2_eq]) (fun τ _ => by rw [ob_n, i00])
  | some key =>
    obtain ⟨r, σ1, s1, s2, s3, s4⟩ := seek_CtT hK.1 c1' key 0
    have mo2 : ∀ τ, KM τ N col R rg cu Rs → ∃ x, f_Md_rowFrom (nI t) key 0 τ = some (x, τ) ∧ low R t (qk key 0) x := fun τ hτ => rowFrom_eq key 0 hτ.1.2.2.1 hτ.1.2.2.2 r1 r2 (by omega)
    by_cases hn : ∃ d ∈ own R t, qk key 0 d.1
    · obtain ⟨d, m1, m2, m3⟩ := ex_min (p := qk key 0) (own R t) hn
      obtain ⟨hr, hkey⟩ := s4 d m1 m2 m3
      subst hr
      obtain ⟨σ2, t1, t2, t3, t4⟩ := take_1 (KC_eqS hK s2) hk hc hkey
      refine ⟨0, σ2, R, rg, up cu k (some (t, some d.1)), Rs, Or.inl rfl, ?_, t2, (fKc_eqS s2).tr t3, t4.trans (s2.1 _ _ _ (by unfold scr; omega)), fun τ hτ => ?_⟩
      · unfold f_TM_moves
        rw [show gr σ 6 i 0 = some 8 from hI.1, bnd_eq, chk_pos (by decide), if_neg (by decide), if_neg (by decide), if_neg (by decide), if_neg (by decide), if_pos (by decide)]
        simp only [chk_pos v23, t2c, h16, chk_pos (vr16 hs), hcs, v1, v2]
        rw [ob_s, i10, c2', bnd_eq, chk_pos (by rw [n1]; exact c1'), show f_Tr_seek t ((some key).getD 0) 0 σ = some (1, σ1) from s1, bn2_eq, i10, bn2_eq, t1, bn2_eq, lt_eq, i10, chk_pos zb0]
      · obtain ⟨y1, y2⟩ := mr τ hτ
        obtain ⟨x, x1, x2⟩ := mo2 τ hτ
        obtain ⟨j, e, z1, z2, z3⟩ := low_key x2 m1 m2 m3
        subst z2
        have hj := (List.getElem?_eq_some_iff.mp z1).1
        obtain ⟨τ', p1, p2, p3, p4, p5, p6⟩ := point_1 hτ hk hc (by omega) z1
        rw [z3] at p3
        refine ⟨τ', ?_, p3, p4, p5, p6⟩
        show f_Md_withCursor (nI 8) (nI k) b (nI s) τ = _
        unfold f_Md_withCursor
        rw [chk_pos (vc3 hk), lt_eq, hcl, mo τ hτ, if_neg (by decide), if_neg (by decide), if_pos (by decide), chk_pos (vr16 hs), hcs, y1, y2, chk_pos (vr16 hs), ob_s, i10, show f_Md_rowFrom (nI t) ((some key).getD 0) 0 τ = some (nI j, τ) from x1, bn2_eq, bn2_eq, p1, bnd_eq, chk_pos (vc3 hk), lt_eq, p2, i10, chk_pos zb0]
    · have hn' : ∀ d ∈ own R t, ¬ qk key 0 d.1 := fun d hd hz => hn ⟨d, hd, hz⟩
      have hr := s3 hn'
      subst hr
      refine nothing σ1 s2 (fun K => by rw [ob_s, i10, c2', bnd_eq, chk_pos (by rw [n1]; exact c1'), show f_Tr_seek t ((some key).getD 0) 0 σ = some (0, σ1) from s1, bn2_eq, i00, bn2_eq]) (fun τ hτ => ?_)
      obtain ⟨x, x1, x2⟩ := mo2 τ hτ
      have hx := low_none x2 hn'
      subst hx
      rw [ob_s, i10, show f_Md_rowFrom (nI t) ((some key).getD 0) 0 τ = some (-1, τ) from x1, bn2_eq]
end
