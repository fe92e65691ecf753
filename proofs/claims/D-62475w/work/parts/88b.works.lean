/-! the plain law: the instructions without a cursor, one by one -/
section
variable {N : Nat} {col : Nat → Nat} {σ : Sg} {R : List Row} {rg : Nat → Option Int64} {cu : Nat → Cur} {Rs : List Vals} {i : Nat}
theorem wk_1 (hK : KC σ N col R rg cu Rs) {k t : Nat} {c : Int32} (hk : k < 3) (ht : t < N) (hI : insC σ i (1, nI k, nI t, c)) : Sim False N col σ R rg cu Rs (f_TM_works i σ) (fun τ => f_Md_without (nI 1) (nI k) (nI t) c τ) := by
  obtain ⟨n1, n2, n3⟩ := Ct_N hK.1
  have e1 : (nI k).toNatClampNeg = k := nI_clamp (by omega)
  have e2 : (nI t).toNatClampNeg = t := nI_clamp (by omega)
  refine ⟨0, sj (si (sr σ 7 k 0 (some t)) 7 k 1 0) 7 k 2 0, R, rg, up cu k (some (t, none)), Rs, Or.inl rfl, works_head hI (by decide) _ ?_, KC_cur hK _ ?_ ?_ ?_ rfl ⟨ht, ?_, ?_, fun key z => by cases z⟩, (fKc_sr.tr (fKc_si (by omega))).tr (fKc_sj (by omega)), ?_, fun τ hτ => ⟨si (si τ 36 0 k (nI t)) 37 0 k 0, ?_, KM_cur hτ _ ?_ (fun _ _ _ _ => rfl) ⟨?_, ?_, fun key z => by cases z⟩, (fKm_si (by omega)).tr (fKm_si (by omega)), ?_, ?_⟩⟩
  · rw [if_neg (by decide), if_pos (by decide), chk_pos (vc3 hk), chk_pos (vc3 (by omega)), e1, e2, chk_pos (by rw [n1]; exact ht), lt_eq, chk_pos (vc3 hk)]
    rfl
  · intro a b c z; rw [gi_sj, gi_ne (by omega), gi_sr]
  · intro a b c z; rw [gj_ne (by omega), gj_si, gj_sr]
  · intro a b c z; rw [gr_sj, gr_si, gr_sr, if_neg (by omega)]
  · rw [gr_sj, gr_si, gr_sr, if_pos ⟨rfl, rfl, rfl⟩]
  · rw [gi_sj, gi_eq]; rfl
  · rw [gi_sj, gi_ne (by omega), gi_sr]
  · show f_Md_without (nI 1) (nI k) (nI t) c τ = _
    unfold f_Md_without
    rw [if_pos (by decide), chk_pos (vc3 hk), lt_eq, chk_pos (vc3 hk), lt_eq, lt_eq, if_neg (by decide), chk_pos zb0, e1, nar0]
  · intro a b c z; rw [gi_ne (by omega), gi_ne (by omega)]
  · rw [gi_ne (by omega), gi_eq]
  · rw [gi_eq]; rfl
  · rw [gi_ne (by omega), gi_ne (by omega)]
  · rw [gi_ne (by omega), gi_ne (by omega)]
/-- a register is set, on both sides -/
theorem sim_reg {jp : Prop} (hK : KC σ N col R rg cu Rs) {r : Nat} (hr : r < 16) (o : Option Int64) {CL : Option (Int32 × Sg)} {ML : Sg → Option (Int32 × Sg)} (h1 : CL = some (0, sV σ (8 + r) o)) (h2 : ∀ τ, KM τ N col R rg cu Rs → ML τ = some (0, sj (si τ 35 0 r (ob o)) 34 0 r (o.getD 0))) : Sim jp N col σ R rg cu Rs CL ML :=
  ⟨0, sV σ (8 + r) o, R, up rg r o, cu, Rs, Or.inl rfl, h1, KC_reg hK hr o, fKc_sV (by omega), by rw [gi_sV, if_neg (by omega)], fun τ hτ => ⟨_, h2 τ hτ, KM_reg hτ hr o, fKm_reg, by rw [gi_sj, gi_ne (by omega)], by rw [gi_sj, gi_ne (by omega)]⟩⟩
/-- nothing but a jump -/
theorem sim_jmp (hK : KC σ N col R rg cu Rs) {j : Int32} (hj : j = 0 ∨ j = 1) {CL : Option (Int32 × Sg)} {ML : Sg → Option (Int32 × Sg)} (h1 : CL = some (j, σ)) (h2 : ∀ τ, KM τ N col R rg cu Rs → ML τ = some (j, τ)) : Sim True N col σ R rg cu Rs CL ML :=
  ⟨j, σ, R, rg, cu, Rs, hj.imp id (fun z => ⟨z, trivial⟩), h1, hK, fKc_rf σ, rfl, fun τ hτ => ⟨τ, h2 τ hτ, hτ, fKm_rf τ, rfl, rfl⟩⟩
theorem wk_6 (hK : KC σ N col R rg cu Rs) {r : Nat} {a c : Int32} (hr : r < 16) (hI : insC σ i (6, a, nI r, c)) : Sim False N col σ R rg cu Rs (f_TM_works i σ) (fun τ => f_Md_without (nI 6) a (nI r) c τ) := by
  have e1 : (nI r).toNatClampNeg = r := nI_clamp (by omega)
  refine sim_reg hK hr (some a.toInt64) (works_head hI (by decide) _ ?_) (fun τ hτ => ?_)
  · rw [if_neg (by decide), if_neg (by decide), if_pos (by decide), chk_pos (vr16 hr), e1, to_eq, bnd_eq]
  · show f_Md_without (nI 6) a (nI r) c τ = _
    unfold f_Md_without
    have := keep_S (τ := τ) hr (some a.toInt64) a.toInt64 (by rw [ob_s, if_neg (by decide)]; rfl)
    rw [ob_s] at this
    rw [if_neg (by decide), if_pos (by decide), this, bnd_eq, lt_eq, if_neg (by decide), chk_pos zb0, ob_s]
theorem wk_7 (hK : KC σ N col R rg cu Rs) {r : Nat} {b c : Int32} (hr : r < 16) (hI : insC σ i (7, nI r, b, c)) : Sim False N col σ R rg cu Rs (f_TM_works i σ) (fun τ => f_Md_without (nI 7) (nI r) b c τ) := by
  have e1 : (nI r).toNatClampNeg = r := nI_clamp (by omega)
  refine sim_reg hK hr none (works_head hI (by decide) _ ?_) (fun τ hτ => ?_)
  · rw [if_neg (by decide), if_neg (by decide), if_neg (by decide), if_pos (by decide), chk_pos (vr16 hr), e1, none_eq, bnd_eq]
  · show f_Md_without (nI 7) (nI r) b c τ = _
    unfold f_Md_without
    have := keep_S (τ := τ) hr none 0 (by rw [ob_n, if_pos rfl]; rfl)
    rw [ob_n] at this
    rw [if_neg (by decide), if_neg (by decide), if_pos (by decide), this, bnd_eq, lt_eq, if_neg (by decide), chk_pos zb0, ob_n]
theorem ob_1 (o : Option Int64) : ((if ob o = 1 then 1 else 0) : Int32) = ob o := by
  cases o
  · rw [ob_n, if_neg (by decide)]
  · rw [ob_s, if_pos rfl]
theorem ob_0 (o : Option Int64) : zb ((if ob o = 0 then 1 else 0) : Int32) := by
  cases o
  · exact Or.inr rfl
  · exact Or.inl rfl
theorem wk_15 (hK : KC σ N col R rg cu Rs) {r : Nat} {b c : Int32} (hr : r < 16) (hI : insC σ i (15, nI r, b, c)) : Sim True N col σ R rg cu Rs (f_TM_works i σ) (fun τ => f_Md_without (nI 15) (nI r) b c τ) := by
  have e1 : (nI r).toNatClampNeg = r := nI_clamp (by omega)
  refine sim_jmp hK (j := if ob (rg r) = 0 then 1 else 0) (ob_0 _) (works_head hI (by decide) _ ?_) (fun τ hτ => ?_)
  · rw [if_neg (by decide), if_neg (by decide), if_neg (by decide), if_neg (by decide), if_pos (by decide), chk_pos (vr16 hr), e1, lt_eq, (hK.2.2.2.1 r hr).1, chk_pos (ob_0 _)]
  · show f_Md_without (nI 15) (nI r) b c τ = _
    unfold f_Md_without
    rw [if_neg (by decide), if_neg (by decide), if_neg (by decide), if_neg (by decide), if_neg (by decide), if_pos (by decide), chk_pos (vr16 hr), lt_eq, if_neg (show ¬ nI 15 = (16 : Int32) by decide), lt_eq, e1, (hτ.2.1 r hr).1, chk_pos (ob_0 _)]
theorem wk_16 (hK : KC σ N col R rg cu Rs) {r : Nat} {b c : Int32} (hr : r < 16) (hI : insC σ i (16, nI r, b, c)) : Sim True N col σ R rg cu Rs (f_TM_works i σ) (fun τ => f_Md_without (nI 16) (nI r) b c τ) := by
  have e1 : (nI r).toNatClampNeg = r := nI_clamp (by omega)
  refine sim_jmp hK (j := ob (rg r)) (ob_zb _) (works_head hI (by decide) _ ?_) (fun τ hτ => ?_)
  · rw [if_neg (by decide), if_neg (by decide), if_neg (by decide), if_neg (by decide), if_neg (by decide), if_pos (by decide), chk_pos (vr16 hr), e1, (hK.2.2.2.1 r hr).1, chk_pos (ob_zb _)]
  · show f_Md_without (nI 16) (nI r) b c τ = _
    unfold f_Md_without
    rw [if_neg (by decide), if_neg (by decide), if_neg (by decide), if_neg (by decide), if_neg (by decide), if_neg (by decide), if_pos (by decide), chk_pos (vr16 hr), lt_eq, if_pos (show nI 16 = (16 : Int32) by decide), lt_eq, e1, (hτ.2.1 r hr).1, ob_1, chk_pos (ob_zb _)]
theorem wk_19 (hK : KC σ N col R rg cu Rs) {a b c : Int32} (hI : insC σ i (19, a, b, c)) : Sim True N col σ R rg cu Rs (f_TM_works i σ) (fun τ => f_Md_without (nI 19) a b c τ) := by
  refine sim_jmp hK (j := 1) (Or.inr rfl) (works_head hI (by decide) _ ?_) (fun τ hτ => ?_)
  · rw [if_neg (by decide), if_neg (by decide), if_neg (by decide), if_neg (by decide), if_neg (by decide), if_neg (by decide), if_neg (by decide), if_neg (by decide), if_pos (by decide)]
  · show f_Md_without (nI 19) a b c τ = _
    unfold f_Md_without
    rw [if_neg (by decide), if_neg (by decide), if_neg (by decide), if_neg (by decide), if_neg (by decide), if_neg (by decide), if_neg (by decide), if_neg (by decide), if_pos (by decide), lt_eq, if_pos (by decide), chk_pos zb1]
theorem wk_17 (hK : KC σ N col R rg cu Rs) {r s u : Nat} (hr : r < 16) (hs : s < 16) (hu : u < 16) (hI : insC σ i (17, nI r, nI s, nI u)) : Sim False N col σ R rg cu Rs (f_TM_works i σ) (fun τ => f_Md_without (nI 17) (nI r) (nI s) (nI u) τ) := by
  have e1 : (nI r).toNatClampNeg = r := nI_clamp (by omega)
  have e2 : (nI s).toNatClampNeg = s := nI_clamp (by omega)
  have e3 : (nI u).toNatClampNeg = u := nI_clamp (by omega)
  generalize hA : rg r = A
  generalize hB : rg s = B
  have a1 : gi σ 5 (8 + r) 0 = ob A := by rw [← hA]; exact (hK.2.2.2.1 r hr).1
  have a2 : gj σ 5 (8 + r) 1 = A.getD 0 := by rw [← hA]; exact (hK.2.2.2.1 r hr).2
  have b1 : gi σ 5 (8 + s) 0 = ob B := by rw [← hB]; exact (hK.2.2.2.1 s hs).1
  have b2 : gj σ 5 (8 + s) 1 = B.getD 0 := by rw [← hB]; exact (hK.2.2.2.1 s hs).2
  refine sim_reg hK hu (if ob A = 0 then none else if ob B = 0 then none else some (A.getD 0 + B.getD 0)) (works_head hI (by decide) _ ?_) (fun τ hτ => ?_)
  · rw [if_neg (by decide), if_neg (by decide), if_neg (by decide), if_neg (by decide), if_neg (by decide), if_neg (by decide), if_pos (by decide), chk_pos (vr16 hr), chk_pos (vr16 hs), chk_pos (vr16 hu), e1, e2, e3]
    unfold f_TM_sum
    rw [a1, a2, b1, b2, none_eq, to_eq]
    by_cases hA0 : ob A = 0
    · rw [if_pos hA0, if_pos hA0]; rfl
    · rw [if_neg hA0, if_neg hA0]
      by_cases hB0 : ob B = 0
      · rw [if_pos hB0, if_pos hB0]; rfl
      · rw [if_neg hB0, if_neg hB0]; rfl
  · have c1' : gi τ 35 0 r = ob A := by rw [← hA]; exact (hτ.2.1 r hr).1
    have c2' : gj τ 34 0 r = A.getD 0 := by rw [← hA]; exact (hτ.2.1 r hr).2
    have d1' : gi τ 35 0 s = ob B := by rw [← hB]; exact (hτ.2.1 s hs).1
    have d2' : gj τ 34 0 s = B.getD 0 := by rw [← hB]; exact (hτ.2.1 s hs).2
    show f_Md_without (nI 17) (nI r) (nI s) (nI u) τ = _
    unfold f_Md_without
    rw [if_neg (by decide), if_neg (by decide), if_neg (by decide), if_pos (by decide), chk_pos (vr16 hr), chk_pos (vr16 hs), e1, e2, c1', c2', d1', d2']
    generalize hO : (if ob A = 0 then none else if ob B = 0 then none else some (A.getD 0 + B.getD 0)) = O
    have hx : (if ob A = 0 then (some (0 : Int32)) else (if ob B = 0 then (some 0) else (some 1))) = some (ob O) := by
      rw [← hO]
      by_cases hA0 : ob A = 0
      · rw [if_pos hA0, if_pos hA0]; rfl
      · rw [if_neg hA0, if_neg hA0]
        by_cases hB0 : ob B = 0
        · rw [if_pos hB0, if_pos hB0]; rfl
        · rw [if_neg hB0, if_neg hB0]; rfl
    have hw : (if ob O = 0 then 0 else A.getD 0 + B.getD 0) = O.getD 0 := by
      rw [← hO]
      by_cases hA0 : ob A = 0
      · rw [if_pos hA0]; rfl
      · rw [if_neg hA0]
        by_cases hB0 : ob B = 0
        · rw [if_pos hB0]; rfl
        · rw [if_neg hB0]; rfl
    rw [hx, bnd_eq, chk_pos (vr16 hr), chk_pos (vr16 hs), keep_S hu O _ hw, bnd_eq, lt_eq, if_neg (by decide), chk_pos zb0]
-- ===== comparisons =====
def cp (o : Nat) (p q : Int64) : Int32 := if o = 9 then (if p = q then 1 else 0) else (if o = 10 then (if p = q then 0 else 1) else (if o = 11 then (if q ≤ p then 0 else 1) else (if o = 12 then (if q < p then 0 else 1) else (if o = 13 then (if p ≤ q then 0 else 1) else (if p < q then 0 else 1)))))
theorem zb_i {p : Prop} [Decidable p] : zb ((if p then 0 else 1) : Int32) := by
  split
  · exact zb0
  · exact zb1
theorem zb_i' {p : Prop} [Decidable p] : zb ((if p then 1 else 0) : Int32) := by
  split
  · exact zb1
  · exact zb0
theorem cp_zb (o : Nat) (p q : Int64) : zb (cp o p q) := by
  unfold cp
  split
  · exact zb_i'
  split
  · exact zb_i
  split
  · exact zb_i
  split
  · exact zb_i
  split
  · exact zb_i
  · exact zb_i
theorem cmp_c {o : Nat} (h1 : 9 ≤ o) (h2 : o ≤ 14) (p q : Int64) (σ : Sg) : f_TM_compares o p q σ = some (cp o p q, σ) := by
  have h : o = 9 ∨ o = 10 ∨ o = 11 ∨ o = 12 ∨ o = 13 ∨ o = 14 := by omega
  unfold f_TM_compares
  rcases h with rfl | rfl | rfl | rfl | rfl | rfl
  · rw [if_pos (by decide), lt_eq, chk_pos zb_i']
    rfl
  · rw [if_neg (by decide), if_pos (by decide), lt_eq, chk_pos zb_i]
    rfl
  · rw [if_neg (by decide), if_neg (by decide), if_pos (by decide), lt_eq, chk_pos zb_i]
    rfl
  · rw [if_neg (by decide), if_neg (by decide), if_neg (by decide), if_pos (by decide), lt_eq, chk_pos zb_i]
    rfl
  · rw [if_neg (by decide), if_neg (by decide), if_neg (by decide), if_neg (by decide), if_pos (by decide), lt_eq, chk_pos zb_i]
    rfl
  · rw [if_neg (by decide), if_neg (by decide), if_neg (by decide), if_neg (by decide), if_neg (by decide), lt_eq, chk_pos zb_i]
    rfl
theorem cmp_m {o : Nat} (h1 : 9 ≤ o) (h2 : o ≤ 14) (p q : Int64) (σ : Sg) : f_Md_compares (nI o) p q σ = some (cp o p q, σ) := by
  have e : nI o - 9 = nI (o - 9) := nI_sub (b := 9) h1
  have h : o = 9 ∨ o = 10 ∨ o = 11 ∨ o = 12 ∨ o = 13 ∨ o = 14 := by omega
  unfold f_Md_compares
  rw [e, lt_eq]
  have main : ((if nI (o - 9) = 0 then (if p = q then 1 else 0) else (if nI (o - 9) = 1 then (if p = q then 0 else 1) else (if nI (o - 9) = 2 then (if q ≤ p then 0 else 1) else (if nI (o - 9) = 3 then (if q < p then 0 else 1) else (if nI (o - 9) = 4 then (if p ≤ q then 0 else 1) else (if p < q then 0 else 1)))))) : Int32) = cp o p q := by
    rcases h with rfl | rfl | rfl | rfl | rfl | rfl
    · rw [if_pos (by decide)]
      rfl
    · rw [if_neg (by decide), if_pos (by decide)]
      rfl
    · rw [if_neg (by decide), if_neg (by decide), if_pos (by decide)]
      rfl
    · rw [if_neg (by decide), if_neg (by decide), if_neg (by decide), if_pos (by decide)]
      rfl
    · rw [if_neg (by decide), if_neg (by decide), if_neg (by decide), if_neg (by decide), if_pos (by decide)]
      rfl
    · rw [if_neg (by decide), if_neg (by decide), if_neg (by decide), if_neg (by decide), if_neg (by decide)]
      rfl
  rw [lt_eq, main, chk_pos (cp_zb _ _ _)]
theorem wk_cmp (hK : KC σ N col R rg cu Rs) {o r s : Nat} {b : Int32} (h1 : 9 ≤ o) (h2 : o ≤ 14) (hr : r < 16) (hs : s < 16) (hI : insC σ i (o, nI r, b, nI s)) : Sim True N col σ R rg cu Rs (f_TM_works i σ) (fun τ => f_Md_without (nI o) (nI r) b (nI s) τ) := by
  have e1 : (nI r).toNatClampNeg = r := nI_clamp (by omega)
  have e2 : (nI s).toNatClampNeg = s := nI_clamp (by omega)
  generalize hA : rg r = A
  generalize hB : rg s = B
  have a1 : gi σ 5 (8 + r) 0 = ob A := by rw [← hA]; exact (hK.2.2.2.1 r hr).1
  have a2 : gj σ 5 (8 + r) 1 = A.getD 0 := by rw [← hA]; exact (hK.2.2.2.1 r hr).2
  have b1 : gi σ 5 (8 + s) 0 = ob B := by rw [← hB]; exact (hK.2.2.2.1 s hs).1
  have b2 : gj σ 5 (8 + s) 1 = B.getD 0 := by rw [← hB]; exact (hK.2.2.2.1 s hs).2
  have ne : ∀ k : Nat, k < 100 → k ≠ o → ¬ nI o = nI k := fun k h3 h4 z => h4 (nI_inj (by omega) (by omega) z).symm
  generalize hJ : ((if ob A = 0 then 0 else if ob B = 0 then 0 else cp o (A.getD 0) (B.getD 0)) : Int32) = J
  have hJz : zb J := by
    rw [← hJ]
    split
    · exact zb0
    split
    · exact zb0
    · exact cp_zb _ _ _
  have val : ∀ σ : Sg, (if ob A = 0 then (some (0, σ)) else (if ob B = 0 then (some (0, σ)) else (if cp o (A.getD 0) (B.getD 0) = 0 then (some (0, σ)) else (some (1, σ))))) = some (J, σ) := fun σ => by
    rw [← hJ]
    by_cases hA0 : ob A = 0
    · rw [if_pos hA0, if_pos hA0]
    · rw [if_neg hA0, if_neg hA0]
      by_cases hB0 : ob B = 0
      · rw [if_pos hB0, if_pos hB0]
      · rw [if_neg hB0, if_neg hB0]
        rcases cp_zb o (A.getD 0) (B.getD 0) with z | z
        · rw [z, i00]
        · rw [z, i10]
  refine sim_jmp hK hJz (works_head hI (by omega) _ ?_) (fun τ hτ => ?_)
  · rw [if_neg (show ¬ nI o = 0 from ne 0 (by decide) (by omega)), if_neg (show ¬ nI o = 1 from ne 1 (by decide) (by omega)), if_neg (show ¬ nI o = 6 from ne 6 (by decide) (by omega)), if_neg (show ¬ nI o = 7 from ne 7 (by decide) (by omega)), if_neg (show ¬ nI o = 15 from ne 15 (by decide) (by omega)), if_neg (show ¬ nI o = 16 from ne 16 (by decide) (by omega)), if_neg (show ¬ nI o = 17 from ne 17 (by decide) (by omega)), if_neg (show ¬ nI o = 18 from ne 18 (by decide) (by omega)), if_neg (show ¬ nI o = 19 from ne 19 (by decide) (by omega)), chk_pos (vr16 hr), chk_pos (vr16 hs), e1, e2, a1, a2, b1, b2, cmp_c h1 h2, bn2_eq, val, bn2_eq, chk_pos hJz]
  · have c1' : gi τ 35 0 r = ob A := by rw [← hA]; exact (hτ.2.1 r hr).1
    have c2' : gj τ 34 0 r = A.getD 0 := by rw [← hA]; exact (hτ.2.1 r hr).2
    have d1' : gi τ 35 0 s = ob B := by rw [← hB]; exact (hτ.2.1 s hs).1
    have d2' : gj τ 34 0 s = B.getD 0 := by rw [← hB]; exact (hτ.2.1 s hs).2
    show f_Md_without (nI o) (nI r) b (nI s) τ = _
    unfold f_Md_without
    rw [if_neg (show ¬ nI o = 1 from ne 1 (by decide) (by omega)), if_neg (show ¬ nI o = 6 from ne 6 (by decide) (by omega)), if_neg (show ¬ nI o = 7 from ne 7 (by decide) (by omega)), if_neg (show ¬ nI o = 17 from ne 17 (by decide) (by omega)), if_neg (show ¬ nI o = 18 from ne 18 (by decide) (by omega)), if_neg (show ¬ nI o = 15 from ne 15 (by decide) (by omega)), if_neg (show ¬ nI o = 16 from ne 16 (by decide) (by omega)), if_neg (show ¬ nI o < 9 from nI_nlt (b := 9) h1 (by omega)), if_neg (show ¬ (15 : Int32) ≤ nI o from nI_ge (b := 15) (by omega) (by decide)), chk_pos (vr16 hr), chk_pos (vr16 hs), chk_pos (vr16 hr), chk_pos (vr16 hs), e1, e2, c1', c2', d1', d2', cmp_m h1 h2, bn2_eq, val, bn2_eq, chk_pos hJz]
end
