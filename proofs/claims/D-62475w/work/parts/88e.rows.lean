/-! the plain law: the instructions with a cursor: column, key, insert, delete -/
section
variable {N : Nat} {col : Nat → Nat} {σ : Sg} {R : List Row} {rg : Nat → Option Int64} {cu : Nat → Cur} {Rs : List Vals} {i : Nat}
/-- the row the cursor stands at -/
def atC (R : List Row) (t : Nat) (q : Option Int64) : Prop := ∃ key, q = some key ∧ hasK key (own R t)
theorem at_C (hK : KC σ N col R rg cu Rs) {k t : Nat} {q : Option Int64} (hk : k < 3) (hc : cu k = some (t, q)) : ∃ r σ', f_Cu_at k σ = some (r, σ') ∧ eqS σ σ' ∧ (atC R t q → r = 1) ∧ (¬ atC R t q → r = 0) := by
  obtain ⟨c1', c2', c3', c4'⟩ := cu_open hK hk hc
  obtain ⟨n1, n2⟩ := KC_N hK
  unfold f_Cu_at
  cases q with
  | none =>
    refine ⟨0, σ, ?_, eqS.rf σ, (fun z => by obtain ⟨key, z, -⟩ := z; cases z), fun _ => rfl⟩
    rw [c3', ob_n, i00, bn2_eq, chk_pos zb0]
  | some key =>
    obtain ⟨r, σ1, s1, s2, s3, s4⟩ := has_Ct hK.1 c1' key
    by_cases hh : hasK key (own R t)
    · have := s3 hh
      subst this
      refine ⟨1, σ1, ?_, s2, fun _ => rfl, fun z => absurd ⟨key, rfl, hh⟩ z⟩
      rw [c3', ob_s, i10, c2', bnd_eq, chk_pos (by rw [n1]; exact c1'), c4' key rfl, s1, bn2_eq, i10, bn2_eq, chk_pos zb1]
    · have := s4 hh
      subst this
      refine ⟨0, σ1, ?_, s2, (fun z => by obtain ⟨key', z1, z2⟩ := z; cases z1; exact absurd z2 hh), fun _ => rfl⟩
      rw [c3', ob_s, i10, c2', bnd_eq, chk_pos (by rw [n1]; exact c1'), c4' key rfl, s1, bn2_eq, i00, bn2_eq, chk_pos zb0]
theorem at_M {τ : Sg} (hl : R.length ≤ 90) (h3 : ∀ r ∈ R, r.1 < 3) (hτ : KM τ N col R rg cu Rs) {k t : Nat} {q : Option Int64} (hk : k < 3) (ht : t < 3) (hc : cu k = some (t, q)) : ∃ x, f_Md_rowAt (nI k) τ = some (x, τ) ∧ ((x = -1 ∧ ¬ atC R t q) ∨ ∃ key j c, q = some key ∧ hit R t key j c ∧ x = nI j ∧ gj τ 38 0 k = key) := by
  have h := hτ.2.2.1 k hk
  rw [hc] at h
  obtain ⟨h36, h37, h38⟩ := h
  have hcl : (nI k).toNatClampNeg = k := nI_clamp (by omega)
  unfold f_Md_rowAt
  cases q with
  | none =>
    refine ⟨-1, ?_, Or.inl ⟨rfl, fun z => by obtain ⟨key, z, -⟩ := z; cases z⟩⟩
    rw [chk_pos (vc3 hk), hcl, h37, ob_n, i00, bn2_eq]
  | some key =>
    obtain ⟨x, x1, x2⟩ := rowOf_eq key hτ.1.2.2.1 hτ.1.2.2.2 hl h3 ht
    refine ⟨x, ?_, ?_⟩
    · rw [chk_pos (vc3 hk), hcl, h37, ob_s, i10, chk_pos (vc3 hk), chk_pos (vc3 hk), h36, h38 key rfl, x1, bn2_eq, bn2_eq]
    · rcases x2 with ⟨y1, y2⟩ | ⟨j, c, y1, y2⟩
      · exact Or.inl ⟨y1, fun z => by obtain ⟨key', z1, z2⟩ := z; cases z1; exact y2 z2⟩
      · exact Or.inr ⟨key, j, c, rfl, y1, y2, h38 key rfl⟩
theorem mo_t {τ : Sg} (hτ : KM τ N col R rg cu Rs) {k t : Nat} {q : Option Int64} (hk : k < 3) (hc : cu k = some (t, q)) : gi τ 36 0 k = nI t := by
  have := hτ.2.2.1 k hk
  rw [hc] at this
  exact this.1
/-- a register is set after a look into the trees -/
theorem sim_reg2 {jp : Prop} (hK : KC σ N col R rg cu Rs) {σ1 : Sg} (hK1 : KC σ1 N col R rg cu Rs) (hf : fKc σ σ1) (hh : gi σ1 0 0 14 = gi σ 0 0 14) {r : Nat} (hr : r < 16) (o : Option Int64) {CL : Option (Int32 × Sg)} {ML : Sg → Option (Int32 × Sg)} (h1 : CL = some (0, sV σ1 (8 + r) o)) (h2 : ∀ τ, KM τ N col R rg cu Rs → ML τ = some (0, sj (si τ 35 0 r (ob o)) 34 0 r (o.getD 0))) : Sim jp N col σ R rg cu Rs CL ML :=
  ⟨0, sV σ1 (8 + r) o, R, up rg r o, cu, Rs, Or.inl rfl, h1, KC_reg hK1 hr o, hf.tr (fKc_sV (by omega)), by rw [gi_sV, if_neg (by omega)]; exact hh, fun τ hτ => ⟨_, h2 τ hτ, KM_reg hτ hr o, fKm_reg, by rw [gi_sj, gi_ne (by omega)], by rw [gi_sj, gi_ne (by omega)]⟩⟩
theorem mv_5 (hK : KC σ N col R rg cu Rs) {k t s : Nat} {q : Option Int64} {c : Int32} (hk : k < 3) (hs : s < 16) (hc : cu k = some (t, q)) (hI : insC σ i (5, nI k, nI s, c)) : Sim False N col σ R rg cu Rs (f_TM_moves i k σ) (fun τ => f_Md_withCursor (nI 5) (nI k) (nI s) c τ) := by
  obtain ⟨c1', c2', c3', c4'⟩ := cu_open hK hk hc
  obtain ⟨n1, n2⟩ := KC_N hK
  obtain ⟨r1, r2, r3⟩ := KC_R hK
  have hcl : (nI k).toNatClampNeg = k := nI_clamp (by omega)
  have hcs : (nI s).toNatClampNeg = s := nI_clamp (by omega)
  obtain ⟨r, σ1, s1, s2, s3, s4⟩ := at_C hK hk hc
  have hK1 := KC_eqS hK s2
  have hh : gi σ1 0 0 14 = gi σ 0 0 14 := s2.1 _ _ _ (by unfold scr; omega)
  have h16 : gi σ1 16 i 1 = nI s := (s2.1 _ _ _ (by unfold scr; omega)).trans hI.2.2.1
  by_cases ha : atC R t q
  · have := s3 ha
    subst this
    obtain ⟨key, hq, hkk⟩ := ha
    subst hq
    have h72 : gj σ1 7 k 2 = key := (s2.2.1 _ _ _ (by omega)).trans (c4' key rfl)
    refine sim_reg2 hK hK1 (fKc_eqS s2) hh hs (some key) ?_ (fun τ hτ => ?_)
    · unfold f_TM_moves
      rw [show gr σ 6 i 0 = some 5 from hI.1, bnd_eq, chk_pos (by decide), if_neg (by decide), if_neg (by decide), if_neg (by decide), if_pos (by decide), s1, bn2_eq, i10]
      rw [chk_pos v13, c1, h16, chk_pos (vr16 hs), hcs, h72, to_eq, bnd_eq, bnd_eq]
    · obtain ⟨x, x1, x2⟩ := at_M r1 r2 hτ hk (by omega) hc
      rcases x2 with ⟨-, y⟩ | ⟨key', j, d, y1, y2, rfl, y4⟩
      · exact absurd ⟨key, rfl, hkk⟩ y
      cases y1
      have hj := (List.getElem?_eq_some_iff.mp y2.1).1
      have := keep_S (τ := τ) hs (some key) key (by rw [ob_s, if_neg (by decide)]; rfl)
      rw [ob_s] at this
      show f_Md_withCursor (nI 5) (nI k) (nI s) c τ = _
      unfold f_Md_withCursor
      rw [chk_pos (vc3 hk), lt_eq, hcl, mo_t hτ hk hc, if_neg (by decide), if_neg (by decide), if_neg (by decide), if_neg (by decide), x1, bn2_eq, if_neg (by decide), if_pos (by decide), if_neg (nI_pos (by omega)), lt_eq, chk_pos (vc3 hk), y4, this, bnd_eq, bnd_eq, ob_s]
  · have := s4 ha
    subst this
    refine sim_reg2 hK hK1 (fKc_eqS s2) hh hs none ?_ (fun τ hτ => ?_)
    · unfold f_TM_moves
      rw [show gr σ 6 i 0 = some 5 from hI.1, bnd_eq, chk_pos (by decide), if_neg (by decide), if_neg (by decide), if_neg (by decide), if_pos (by decide), s1, bn2_eq, i00]
      rw [chk_pos v13, c1, h16, chk_pos (vr16 hs), hcs, none_eq, bnd_eq, bnd_eq]
    · obtain ⟨x, x1, x2⟩ := at_M r1 r2 hτ hk (by omega) hc
      have hx : x = -1 := by
        rcases x2 with ⟨y, -⟩ | ⟨key', j, d, y1, y2, y3, y4⟩
        · exact y
        · exact absurd ⟨key', y1, d, mem_own.mpr (List.mem_of_getElem? y2.1), y2.2.1⟩ ha
      subst hx
      have := keep_S (τ := τ) hs none (gj τ 38 0 k) (by rw [ob_n, if_pos rfl]; rfl)
      rw [ob_n] at this
      show f_Md_withCursor (nI 5) (nI k) (nI s) c τ = _
      unfold f_Md_withCursor
      rw [chk_pos (vc3 hk), lt_eq, hcl, mo_t hτ hk hc, if_neg (by decide), if_neg (by decide), if_neg (by decide), if_neg (by decide), x1, bn2_eq, if_neg (by decide), if_pos (by decide), if_pos neg1_lt, lt_eq, chk_pos (vc3 hk), this, bnd_eq, bnd_eq, ob_n]
theorem mv_4 (hK : KC σ N col R rg cu Rs) {k t a s : Nat} {q : Option Int64} (hk : k < 3) (ha : a < 4) (hs : s < 16) (hc : cu k = some (t, q)) (hI : insC σ i (4, nI k, nI a, nI s)) : Sim False N col σ R rg cu Rs (f_TM_moves i k σ) (fun τ => f_Md_withCursor (nI 4) (nI k) (nI a) (nI s) τ) := by
  obtain ⟨c1', c2', c3', c4'⟩ := cu_open hK hk hc
  obtain ⟨n1, n2⟩ := KC_N hK
  obtain ⟨r1, r2, r3⟩ := KC_R hK
  obtain ⟨k1, k2, k3, k4⟩ := Ct_col hK.1 c1'
  have hcl : (nI k).toNatClampNeg = k := nI_clamp (by omega)
  have hca : (nI a).toNatClampNeg = a := nI_clamp (by omega)
  have hcs : (nI s).toNatClampNeg = s := nI_clamp (by omega)
  have hct : (nI t).toNatClampNeg = t := nI_clamp (by omega)
  have h161 : gi σ 16 i 1 = nI a := hI.2.2.1
  have h162 : gi σ 16 i 2 = nI s := hI.2.2.2
  have clh : ∀ σ2, f_TM_column k (nI a) (8 + s) σ = some σ2 → f_TM_moves i k σ = some (0, σ2) := fun σ2 h => by
    unfold f_TM_moves
    rw [show gr σ 6 i 0 = some 4 from hI.1, bnd_eq, chk_pos (by decide), if_neg (by decide), if_neg (by decide), if_pos (by decide), chk_pos v13, chk_pos v23, c1, t2c, h161, h162, chk_pos (vr16 hs), hcs, h, bnd_eq]
  -- the model, when there is no value
  have mdn : ∀ τ x, KM τ N col R rg cu Rs → f_Md_rowAt (nI k) τ = some (x, τ) → (x < 0 ∨ (¬ x < 0 ∧ nI (col t) ≤ nI a)) → f_Md_withCursor (nI 4) (nI k) (nI a) (nI s) τ = some (0, sj (si τ 35 0 s (ob none)) 34 0 s ((none : Option Int64).getD 0)) := fun τ x hτ x1 hx => by
    have := keep_S (τ := τ) hs none 0 (by rw [ob_n, if_pos rfl]; rfl)
    rw [ob_n] at this
    have e20 : (if x < 0 then (some (0 : Int32)) else (chk (vp_in (nI t) 3) ((if (gi τ 26 0 (nI t).toNatClampNeg) ≤ nI a then (some (0)) else (some (1)))))) = some 0 := by
      rcases hx with hx | ⟨hx, hx2⟩
      · rw [if_pos hx]
      · rw [if_neg hx, chk_pos (vc3 (by omega)), hct, hτ.1.2.1 t c1', if_pos hx2]
    unfold f_Md_withCursor
    rw [chk_pos (vc3 hk), lt_eq, hcl, mo_t hτ hk hc, if_neg (by decide), if_neg (by decide), if_neg (by decide), if_neg (by decide), x1, bn2_eq, if_pos (by decide), e20, bnd_eq, i00, bnd_eq, i00, bnd_eq, this, bnd_eq, bnd_eq, ob_n]
  by_cases hca2 : col t ≤ a
  · have hle : nI (col t) ≤ nI a := nI_le hca2 (by omega)
    refine sim_reg2 hK hK (fKc_rf σ) rfl hs none (clh _ ?_) (fun τ hτ => ?_)
    · unfold f_TM_column
      rw [c2', bnd_eq, chk_pos (by rw [n1]; exact c1'), k1, if_pos hle, none_eq, bnd_eq, bnd_eq]
    · obtain ⟨x, x1, x2⟩ := at_M r1 r2 hτ hk (by omega) hc
      refine mdn τ x hτ x1 ?_
      by_cases hx : x < 0
      · exact Or.inl hx
      · exact Or.inr ⟨hx, hle⟩
  · have hlt : ¬ nI (col t) ≤ nI a := nI_ge (by omega) (by omega)
    obtain ⟨r, σ1, s1, s2, s3, s4⟩ := at_C hK hk hc
    have hK1 := KC_eqS hK s2
    have hh : gi σ1 0 0 14 = gi σ 0 0 14 := s2.1 _ _ _ (by unfold scr; omega)
    by_cases hat : atC R t q
    · have := s3 hat
      subst this
      obtain ⟨key, hq, d, hd, hdk⟩ := hat
      subst hq
      obtain ⟨e1', e2', e3', e4'⟩ := cu_open hK1 hk hc
      obtain ⟨σ2, w1, w2⟩ := read_Ct hK1.1 c1' hd 1
      rw [hdk] at w1
      have hdl : d.2.length = col t := Ct_len hK.1 c1' hd
      have hpl : (pad d.2).length = 4 := pad_len (by omega)
      have hK2 : KC σ2 N col R rg cu Rs := KC_eqS (KC_fr hK1 (fun x y z h => by rw [gi_sVs, if_neg (by omega)]) (fun x y z h => by rw [gj_sVs, if_neg (by omega)]) (fun x y z h => gr_sVs _ _ _ _ _ _) (nt_sVs _ _ _)) w2
      have hf2 : fKc σ σ2 := (fKc_eqS s2).tr ((fKc_sVs (by omega)).tr (fKc_eqS w2))
      have hv : V5 σ2 (4 * 1 + a) (d.2.getD a none) := by
        refine ⟨?_, ?_⟩
        · rw [w2.1 _ _ _ (by unfold scr; omega), gi_sVs, if_pos (by omega), show 4 * 1 + a - 4 * 1 = a by omega]
          unfold pad
          rw [List.getD_eq_getElem?_getD, List.getElem?_append_left (by omega), ← List.getD_eq_getElem?_getD]
        · rw [w2.2.1 _ _ _ (by omega), gj_sVs, if_pos (by omega), show 4 * 1 + a - 4 * 1 = a by omega]
          unfold pad
          rw [List.getD_eq_getElem?_getD, List.getElem?_append_left (by omega), ← List.getD_eq_getElem?_getD]
      have hh2 : gi σ2 0 0 14 = gi σ 0 0 14 := by rw [w2.1 _ _ _ (by unfold scr; omega), gi_sVs, if_neg (by omega)]; exact hh
      refine sim_reg2 hK hK2 hf2 hh2 hs (d.2.getD a none) (clh _ ?_) (fun τ hτ => ?_)
      · unfold f_TM_column
        rw [c2', bnd_eq, chk_pos (by rw [n1]; exact c1'), k1, if_neg hlt, s1, bn2_eq, i10, e2', bnd_eq, chk_pos (by rw [(KC_N hK1).1]; exact c1'), e4' key rfl, w1, bnd_eq, chk_pos (vp_in_nI ha (by decide)), hca, like_S hv, bnd_eq, bnd_eq]
      · obtain ⟨x, x1, x2⟩ := at_M r1 r2 hτ hk (by omega) hc
        rcases x2 with ⟨-, y⟩ | ⟨key', j, e, y1, y2, rfl, y4⟩
        · exact absurd ⟨key, rfl, d, hd, hdk⟩ y
        cases y1
        have hj := (List.getElem?_eq_some_iff.mp y2.1).1
        have hed : e = d := Ct_uq hK.1 c1' (mem_own.mpr (List.mem_of_getElem? y2.1)) hd (y2.2.1.trans hdk.symm)
        subst hed
        have hrow := (hτ.1.2.2.2 j _ y2.1).2.2 a (by show a < e.2.length; omega)
        have hrow1 : gi τ 30 0 (4 * j + a) = ob (e.2.getD a none) := hrow.1
        have hrow2 : gj τ 29 0 (4 * j + a) = (e.2.getD a none).getD 0 := hrow.2
        generalize hO : e.2.getD a none = O at *
        have hx26 : (if ob O = 0 then (some (0 : Int32)) else (some 1)) = some (ob O) := by
          cases O
          · rfl
          · rfl
        have i360 : vp_in (nI (4 * j + a)) 360 := vp_in_nI (by omega) (by decide)
        show f_Md_withCursor (nI 4) (nI k) (nI a) (nI s) τ = _
        unfold f_Md_withCursor
        rw [chk_pos (vc3 hk), lt_eq, hcl, mo_t hτ hk hc, if_neg (by decide), if_neg (by decide), if_neg (by decide), if_neg (by decide), x1, bn2_eq, if_pos (by decide), if_neg (nI_pos (by omega)), chk_pos (vc3 (by omega)), hct, hτ.1.2.1 t c1', if_neg hlt, bnd_eq, i10, lt_eq, i10, i10, nI_4k, chk_pos i360, chk_pos i360, nI_clamp (by omega), hrow1, hrow2, hx26, bnd_eq, bnd_eq, keep_S hs O _ (ob_val O), bnd_eq, bnd_eq]
    · have := s4 hat
      subst this
      refine sim_reg2 hK hK1 (fKc_eqS s2) hh hs none (clh _ ?_) (fun τ hτ => ?_)
      · unfold f_TM_column
        rw [c2', bnd_eq, chk_pos (by rw [n1]; exact c1'), k1, if_neg hlt, s1, bn2_eq, i00, none_eq, bnd_eq, bnd_eq]
      · obtain ⟨x, x1, x2⟩ := at_M r1 r2 hτ hk (by omega) hc
        have hx : x = -1 := by
          rcases x2 with ⟨y, -⟩ | ⟨key', j, d, y1, y2, y3, y4⟩
          · exact y
          · exact absurd ⟨key', y1, d, mem_own.mpr (List.mem_of_getElem? y2.1), y2.2.1⟩ hat
        subst hx
        exact mdn τ _ hτ x1 (Or.inl neg1_lt)
theorem KC_del (hK : KC σ N col R rg cu Rs) {t j : Nat} {c : Cel} (ht : t < N) (hj : R[j]? = some (t, c)) : ∃ σ', f_Tr_remove t c.1 σ = some σ' ∧ gi σ' 0 0 3 = nI R.length ∧ KC (si σ' 0 0 3 (nI (R.length - 1))) N col (delR R j) rg cu Rs ∧ fKc σ (si σ' 0 0 3 (nI (R.length - 1))) ∧ gi (si σ' 0 0 3 (nI (R.length - 1))) 0 0 14 = gi σ 0 0 14 := by
  obtain ⟨σ', p1, p2, p3⟩ := remove_Ct hK.1 ht (delR_perm hj)
  have hf : fTr σ σ' := p3
  refine ⟨σ', p1, (hf.1 _ _ _ (by omega)).trans hK.2.1, ?_, (fKc_fTr hf).tr (fKc_si (by omega)), ?_⟩
  · have k0 : KC σ' N col R rg cu Rs → True := fun _ => trivial
    obtain ⟨k1, k2, k3, k4, k5, k6, k7⟩ := hK
    have g1 : ∀ a b c, ¬ (a = 1 ∨ a = 2 ∨ a = 3 ∨ a = 10 ∨ a = 12 ∨ a = 13 ∨ a = 14) → ¬ (a = 0 ∧ c = 3) → gi (si σ' 0 0 3 (nI (R.length - 1))) a b c = gi σ a b c := fun a b c h1 h2 => by rw [gi_ne (by omega)]; exact hf.1 a b c h1
    refine ⟨Ct_fC ⟨fun a b c hh => gi_ne (by omega), rfl⟩ p2, by rw [gi_eq, delR_len], wR_del k3 hj, fun i hi => ⟨(g1 _ _ _ (by omega) (by omega)).trans (k4 i hi).1, (hf.2.1 _ _ _ (by omega)).trans (k4 i hi).2⟩, fun i hi => cuC_fr (fun _ => g1 _ _ _ (by omega) (by omega)) (fun _ => hf.2.1 _ _ _ (by omega)) (fun _ => hf.2.2.1 _ _ _) (k5 i hi), Rsc_fr (fun a b c hh => g1 _ _ _ (by omega) (by omega)) (fun a b c hh => hf.2.1 _ _ _ (by omega)) k6, k7⟩
  · rw [gi_ne (by omega)]; exact hf.1 _ _ _ (by omega)
theorem mv_21 (hK : KC σ N col R rg cu Rs) {k t : Nat} {q : Option Int64} {b c : Int32} (hk : k < 3) (hc : cu k = some (t, q)) (hI : insC σ i (21, nI k, b, c)) : Sim False N col σ R rg cu Rs (f_TM_moves i k σ) (fun τ => f_Md_withCursor (nI 21) (nI k) b c τ) := by
  obtain ⟨c1', c2', c3', c4'⟩ := cu_open hK hk hc
  obtain ⟨n1, n2⟩ := KC_N hK
  obtain ⟨r1, r2, r3⟩ := KC_R hK
  have hcl : (nI k).toNatClampNeg = k := nI_clamp (by omega)
  obtain ⟨r, σ1, s1, s2, s3, s4⟩ := at_C hK hk hc
  have hK1 := KC_eqS hK s2
  have hh : gi σ1 0 0 14 = gi σ 0 0 14 := s2.1 _ _ _ (by unfold scr; omega)
  have hmd : ∀ τ x, KM τ N col R rg cu Rs → f_Md_rowAt (nI k) τ = some (x, τ) → f_Md_withCursor (nI 21) (nI k) b c τ = Option.bind (if x < 0 then (some τ) else ((f_Md_take x τ).bind (fun σ9 => some (σ9)))) (fun (σ6 : Sg) => some (0, σ6)) := fun τ x hτ x1 => by
    unfold f_Md_withCursor
    rw [chk_pos (vc3 hk), lt_eq, hcl, mo_t hτ hk hc, if_neg (by decide), if_neg (by decide), if_neg (by decide), if_neg (by decide), x1, bn2_eq, if_neg (by decide), if_neg (by decide)]
  have hclh : f_TM_moves i k σ = Option.bind (if r = 0 then (some (σ1)) else ((gr σ1 7 k 0).bind (fun t97 => chk (t97 < nt σ1) ((f_Tr_remove t97 (gj σ1 7 k 2) σ1).bind (fun σ100 => lt_ (si σ100 0 0 3 ((gi σ100 0 0 3) - 1)) (fun σ102 => some (σ102))))))) (fun (σ94 : Sg) => some (0, σ94)) := by
    unfold f_TM_moves
    rw [show gr σ 6 i 0 = some 21 from hI.1, bnd_eq, chk_pos (by decide), if_neg (by decide), if_neg (by decide), if_neg (by decide), if_neg (by decide), if_neg (by decide), if_neg (by decide), s1, bn2_eq]
  by_cases hat : atC R t q
  · have := s3 hat
    subst this
    obtain ⟨key, hq, hkk⟩ := hat
    subst hq
    obtain ⟨e1', e2', e3', e4'⟩ := cu_open hK1 hk hc
    -- which row
    obtain ⟨j, d, hj⟩ : ∃ j d, hit R t key j d := by
      obtain ⟨e, he, hek⟩ := hkk
      obtain ⟨j0, hj0⟩ := List.getElem?_of_mem (mem_own.mp he)
      -- the last one
      have hex : ∀ (n : Nat), (∃ j c, R[j]? = some (t, c) ∧ c.1 = key ∧ R.length ≤ j + n) → ∃ j d, hit R t key j d := by
        intro n
        induction n with
        | zero =>
          rintro ⟨j, c, h1, h2, h3⟩
          have := (List.getElem?_eq_some_iff.mp h1).1
          omega
        | succ n ih =>
          rintro ⟨j, c, h1, h2, h3⟩
          by_cases hm : ∃ j' c', R[j']? = some (t, c') ∧ c'.1 = key ∧ j < j'
          · obtain ⟨j', c', g1, g2, g3⟩ := hm
            exact ih ⟨j', c', g1, g2, by omega⟩
          · exact ⟨j, c, h1, h2, fun i d hi hd => Nat.le_of_not_lt (fun z => hm ⟨i, d, hi, hd, z⟩)⟩
      exact hex R.length ⟨j0, e, hj0, hek, by omega⟩
    have hjl := (List.getElem?_eq_some_iff.mp hj.1).1
    obtain ⟨σ2, w1, w2, w3, w4, w5⟩ := KC_del hK1 c1' hj.1
    rw [hj.2.1] at w1
    obtain ⟨L, hL⟩ : ∃ L, R.length = L + 1 := ⟨R.length - 1, by omega⟩
    have hpr : gi σ2 0 0 3 - 1 = nI (R.length - 1) := by rw [w2, hL, nI_pred, Nat.add_sub_cancel]
    refine ⟨0, si σ2 0 0 3 (nI (R.length - 1)), delR R j, rg, cu, Rs, Or.inl rfl, ?_, w3, (fKc_eqS s2).tr w4, w5.trans hh, fun τ hτ => ?_⟩
    · rw [hclh, i10, e2', bnd_eq, chk_pos (by rw [(KC_N hK1).1]; exact c1'), e4' key rfl, w1, bnd_eq, lt_eq, hpr, bnd_eq]
    · obtain ⟨x, x1, x2⟩ := at_M r1 r2 hτ hk (by omega) hc
      rcases x2 with ⟨-, y⟩ | ⟨key', j', e, y1, y2, rfl, y4⟩
      · exact absurd ⟨key, rfl, hkk⟩ y
      cases y1
      obtain ⟨hjj, -⟩ := hit_uq y2 hj
      subst hjj
      obtain ⟨τ', u1, u2, u3⟩ := take_row hτ.1 r3 r1 hjl
      obtain ⟨m1, m2, m3, m4⟩ := hτ
      refine ⟨τ', ?_, ⟨u2, fun i hi => ⟨(u3.1 _ _ _ (by omega)).trans (m2 i hi).1, (u3.2.1 _ _ _ (by omega)).trans (m2 i hi).2⟩, fun i hi => cuM_fr (u3.1 _ _ _ (by omega)) (u3.1 _ _ _ (by omega)) (u3.2.1 _ _ _ (by omega)) (m3 i hi), Rsm_fr (fun a b c hh => u3.1 _ _ _ (by omega)) (fun a b c hh => u3.2.1 _ _ _ (by omega)) m4⟩, fKm_fTk u3, u3.1 _ _ _ (by omega), u3.1 _ _ _ (by omega)⟩
      show f_Md_withCursor (nI 21) (nI k) b c τ = _
      rw [hmd τ _ ⟨m1, m2, m3, m4⟩ x1, if_neg (nI_pos (by omega)), u1, bnd_eq, bnd_eq]
  · have := s4 hat
    subst this
    refine ⟨0, σ1, R, rg, cu, Rs, Or.inl rfl, ?_, hK1, fKc_eqS s2, hh, fun τ hτ => ⟨τ, ?_, hτ, fKm_rf τ, rfl, rfl⟩⟩
    · rw [hclh, i00, bnd_eq]
    · obtain ⟨x, x1, x2⟩ := at_M r1 r2 hτ hk (by omega) hc
      have hx : x = -1 := by
        rcases x2 with ⟨y, -⟩ | ⟨key', j, d, y1, y2, y3, y4⟩
        · exact y
        · exact absurd ⟨key', y1, d, mem_own.mpr (List.mem_of_getElem? y2.1), y2.2.1⟩ hat
      subst hx
      show f_Md_withCursor (nI 21) (nI k) b c τ = _
      rw [hmd τ _ hτ x1, if_pos neg1_lt, bnd_eq]
end
