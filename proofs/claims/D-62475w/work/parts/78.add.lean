/-! the plain law: an instruction more, both sides -/
def insOf (o : Nat) (a b c : Int32) : Ins := (o, if chr o 0 = 46 then 0 else a, if chr o 1 = 46 then 0 else b, if chr o 2 = 46 then 0 else c)
def emS (σ : Sg) (L : Nat) (x : Ins) : Sg := si (si (si (si (sr σ 6 L 0 (some x.1)) 16 L 0 x.2.1) 16 L 1 x.2.2.1) 16 L 2 x.2.2.2) 0 0 8 (nI (L + 1))
theorem emit_S {σ : Sg} {L o : Nat} {a b c : Int32} (hL : L < 60) (h : gi σ 0 0 8 = nI L) : f_TM_emit o a b c σ = some (emS σ L (insOf o a b c)) := by
  have l1 : (nI L).toNatClampNeg = L := nI_clamp (by omega)
  have v0 : vp_in 0 3 := in0 (by decide) (by decide)
  have v1 : vp_in 1 3 := in1 (by decide) (by decide)
  have v2 : vp_in 2 3 := vp_in_nI (n := 2) (by decide) (by decide)
  have t2 : (2 : Int32).toNatClampNeg = 2 := by decide
  unfold f_TM_emit
  rw [h, chk_pos (vp_in_nI hL (by decide)), lt_eq, l1, chk_pos v0, lt_eq, chk_pos v0, lt_eq, chk_pos v1, lt_eq, chk_pos v1, lt_eq, chk_pos v2, lt_eq, chk_pos v2, lt_eq, lt_eq, c0, c1, t2]
  rw [gi_ne (by omega), gi_ne (by omega), gi_ne (by omega), gi_sr, h, nI_1]
  rfl
theorem emS_gi {σ : Sg} {L : Nat} {x : Ins} {a b c : Nat} (h1 : ¬ (a = 16 ∧ b = L)) (h2 : ¬ (a = 0 ∧ c = 8)) : gi (emS σ L x) a b c = gi σ a b c := by
  unfold emS
  rw [gi_ne (by omega), gi_ne (by omega), gi_ne (by omega), gi_ne (by omega), gi_sr]
theorem emS_gj {σ : Sg} {L : Nat} {x : Ins} {a b c : Nat} : gj (emS σ L x) a b c = gj σ a b c := rfl
theorem emS_gr {σ : Sg} {L : Nat} {x : Ins} {a b c : Nat} (h : ¬ (a = 6 ∧ b = L)) : gr (emS σ L x) a b c = gr σ a b c := by
  unfold emS
  rw [gr_si, gr_si, gr_si, gr_si, gr_sr, if_neg (by omega)]
theorem emS_nt {σ : Sg} {L : Nat} {x : Ins} : nt (emS σ L x) = nt σ := rfl
theorem emS_Prc {σ : Sg} {Q : List Ins} {x : Ins} (h : Prc σ Q) : Prc (emS σ Q.length x) (Q ++ [x]) := by
  refine ⟨?_, fun i y hy => ?_⟩
  · unfold emS
    rw [gi_eq, List.length_append, List.length_singleton]
  · rcases snoc_cs hy with ⟨z, z1⟩ | ⟨rfl, rfl⟩
    · obtain ⟨w1, w2, w3, w4⟩ := h.2 i y z1
      exact ⟨(emS_gr (by omega)).trans w1, (emS_gi (by omega) (by omega)).trans w2, (emS_gi (by omega) (by omega)).trans w3, (emS_gi (by omega) (by omega)).trans w4⟩
    · unfold emS
      refine ⟨?_, ?_, ?_, ?_⟩
      · rw [gr_si, gr_si, gr_si, gr_si, gr_sr, if_pos ⟨rfl, rfl, rfl⟩]
      · rw [gi_ne (by omega), gi_ne (by omega), gi_ne (by omega), gi_eq]
      · rw [gi_ne (by omega), gi_ne (by omega), gi_eq]
      · rw [gi_ne (by omega), gi_eq]
def mB (a0 : Int32) : Int32 := if a0 = 0 then 0 else (if a0 = 7 then 1 else (if a0 = 19 then 1 else (if a0 = 21 then 1 else (if a0 = 1 then 2 else (if a0 = 2 then 2 else (if a0 = 3 then 2 else (if a0 = 5 then 2 else (if a0 = 6 then 2 else (if a0 = 15 then 2 else (if a0 = 16 then 2 else (if a0 = 18 then 2 else 3)))))))))))
theorem many_eq (a0 : Int32) (σ : Sg) : f_Md_many a0 σ = some (mB a0, σ) := by
  unfold f_Md_many mB
  by_cases h1 : a0 = 0
  · rw [if_pos h1, if_pos h1]
  rw [if_neg h1, if_neg h1]
  by_cases h2 : a0 = 7
  · rw [if_pos h2, if_pos h2]
  rw [if_neg h2, if_neg h2]
  by_cases h3 : a0 = 19
  · rw [if_pos h3, if_pos h3]
  rw [if_neg h3, if_neg h3]
  by_cases h4 : a0 = 21
  · rw [if_pos h4, if_pos h4]
  rw [if_neg h4, if_neg h4, lt_eq]
theorem mB_chr : ∀ o, o < 22 → (mB (nI o) ≤ 0 ↔ chr o 0 = 46) ∧ (mB (nI o) ≤ 1 ↔ chr o 1 = 46) ∧ (mB (nI o) ≤ 2 ↔ chr o 2 = 46) := by decide +kernel
theorem if_cong {α : Type} {p q : Prop} [Decidable p] [Decidable q] (h : p ↔ q) (a b : α) : (if p then a else b) = (if q then a else b) := by
  by_cases hp : p
  · rw [if_pos hp, if_pos (h.mp hp)]
  · rw [if_neg hp, if_neg (fun z => hp (h.mpr z))]
def ptS (σ : Sg) (L : Nat) (x : Ins) : Sg := si (si (si (si (si σ 33 0 (4 * L) (nI x.1)) 33 0 (4 * L + 1) x.2.1) 33 0 (4 * L + 2) x.2.2.1) 33 0 (4 * L + 3) x.2.2.2) 9 0 10 (nI (L + 1))
theorem put_S {σ : Sg} {L o : Nat} {a b c : Int32} (hL : L < 60) (ho : o < 22) (h : gi σ 9 0 10 = nI L) : f_Md_put (nI o) a b c σ = some (ptS σ L (insOf o a b c)) := by
  obtain ⟨m1, m2, m3⟩ := mB_chr o ho
  have j1' : vp_in (nI (4 * L)) 240 := vp_in_nI (by omega) (by decide)
  have j2' : vp_in (nI (4 * L + 1)) 240 := vp_in_nI (by omega) (by decide)
  have j3' : vp_in (nI (4 * L + 2)) 240 := vp_in_nI (by omega) (by decide)
  have j4' : vp_in (nI (4 * L + 3)) 240 := vp_in_nI (by omega) (by decide)
  have t1 : (nI (4 * L)).toNatClampNeg = 4 * L := nI_clamp (by omega)
  have t2 : (nI (4 * L + 1)).toNatClampNeg = 4 * L + 1 := nI_clamp (by omega)
  have t3 : (nI (4 * L + 2)).toNatClampNeg = 4 * L + 2 := nI_clamp (by omega)
  have t4 : (nI (4 * L + 3)).toNatClampNeg = 4 * L + 3 := nI_clamp (by omega)
  have p2 : nI (4 * L) + 2 = nI (4 * L + 2) := nI_plus (4 * L) 2
  have p3 : nI (4 * L) + 3 = nI (4 * L + 3) := nI_plus (4 * L) 3
  unfold f_Md_put
  rw [h, nI_4, lt_eq, chk_pos j1', t1, lt_eq, many_eq, bn2_eq, lt_eq, nI_1, chk_pos j2', t2, lt_eq, many_eq, bn2_eq, lt_eq, p2, chk_pos j3', t3, lt_eq, many_eq, bn2_eq, lt_eq, p3, chk_pos j4', t4, lt_eq, lt_eq]
  rw [gi_ne (by omega), gi_ne (by omega), gi_ne (by omega), gi_ne (by omega), h, nI_1, if_cong m1, if_cong m2, if_cong m3]
  rfl
theorem ptS_gi {σ : Sg} {L : Nat} {x : Ins} {a b c : Nat} (h1 : ¬ (a = 33 ∧ 4 * L ≤ c ∧ c < 4 * L + 4)) (h2 : ¬ (a = 9 ∧ c = 10)) : gi (ptS σ L x) a b c = gi σ a b c := by
  unfold ptS
  rw [gi_ne (by omega), gi_ne (by omega), gi_ne (by omega), gi_ne (by omega), gi_ne (by omega)]
theorem ptS_Prm {σ : Sg} {Q : List Ins} {x : Ins} (h : Prm σ Q) : Prm (ptS σ Q.length x) (Q ++ [x]) := by
  refine ⟨?_, fun i y hy => ?_⟩
  · unfold ptS
    rw [gi_eq, List.length_append, List.length_singleton]
  · rcases snoc_cs hy with ⟨z, z1⟩ | ⟨rfl, rfl⟩
    · obtain ⟨w1, w2, w3, w4⟩ := h.2 i y z1
      exact ⟨(ptS_gi (by omega) (by omega)).trans w1, (ptS_gi (by omega) (by omega)).trans w2, (ptS_gi (by omega) (by omega)).trans w3, (ptS_gi (by omega) (by omega)).trans w4⟩
    · unfold ptS
      refine ⟨?_, ?_, ?_, ?_⟩
      · rw [gi_ne (by omega), gi_ne (by omega), gi_ne (by omega), gi_ne (by omega), gi_eq]
      · rw [gi_ne (by omega), gi_ne (by omega), gi_ne (by omega), gi_eq]
      · rw [gi_ne (by omega), gi_ne (by omega), gi_eq]
      · rw [gi_ne (by omega), gi_eq]
-- ===== operands that fit are well =====
theorem fB_ok {l a : Int32} (h : ¬ fB l a = 0) : okA l (if l = 46 then 0 else a) := by
  have up : ∀ {a m : Int32} {M : Nat}, ¬ a < 0 → ¬ m ≤ a → m = nI M → M < 2 ^ 31 → ∃ k, k < M ∧ a = nI k := fun {a m M} h1 h2 h3 h4 => by
    obtain ⟨k, hk, rfl⟩ := nI_ofn h1
    refine ⟨k, ?_, rfl⟩
    rcases Nat.lt_or_ge k M with z | z
    · exact z
    · exact absurd (by rw [h3]; exact nI_le z hk) h2
  unfold fB at h
  unfold okA
  by_cases h1 : l = 99
  · rw [if_pos h1] at h ⊢
    rw [if_neg (by rw [h1]; decide)]
    by_cases y : a < 0
    · rw [if_pos y] at h; exact absurd rfl h
    · rw [if_neg y] at h
      by_cases w : 3 ≤ a
      · rw [if_pos w] at h; exact absurd rfl h
      · exact up y w (M := 3) rfl (by decide)
  rw [if_neg h1] at h ⊢
  by_cases h2 : l = 105
  · rw [if_pos h2] at h ⊢
    rw [if_neg (by rw [h2]; decide)]
    by_cases y : a < 0
    · rw [if_pos y] at h; exact absurd rfl h
    · rw [if_neg y] at h
      by_cases w : 12 ≤ a
      · rw [if_pos w] at h; exact absurd rfl h
      · exact up y w (M := 12) rfl (by decide)
  rw [if_neg h2] at h ⊢
  by_cases h3 : l = 106
  · rw [if_pos h3] at h ⊢
    rw [if_neg (by rw [h3]; decide)]
    by_cases y : a < 0
    · rw [if_pos y] at h; exact absurd rfl h
    · rw [if_neg y] at h
      by_cases w : 60 < a
      · rw [if_pos w] at h; exact absurd rfl h
      · obtain ⟨k, hk, rfl⟩ := nI_ofn y
        refine ⟨k, ?_, rfl⟩
        rcases Nat.lt_or_ge 60 k with z | z
        · exact absurd (nI_lt (a := 60) z hk) w
        · exact z
  rw [if_neg h3] at h ⊢
  by_cases h4 : l = 107
  · rw [if_pos h4] at h ⊢
    rw [if_neg (by rw [h4]; decide)]
    by_cases y : a < 0
    · rw [if_pos y] at h; exact absurd rfl h
    · rw [if_neg y] at h
      by_cases w : 4 ≤ a
      · rw [if_pos w] at h; exact absurd rfl h
      · exact up y w (M := 4) rfl (by decide)
  rw [if_neg h4] at h ⊢
  by_cases h5 : l = 110
  · rw [if_pos h5] at h ⊢
    rw [if_neg (by rw [h5]; decide)]
    by_cases y : a < 1
    · rw [if_pos y] at h; exact absurd rfl h
    · rw [if_neg y] at h
      by_cases w : 4 < a
      · rw [if_pos w] at h; exact absurd rfl h
      · have y0 : ¬ a < 0 := fun z => y (Int32.lt_trans z (by decide))
        obtain ⟨k, hk, rfl⟩ := nI_ofn y0
        refine ⟨k, ?_, ?_, rfl⟩
        · rcases Nat.lt_or_ge k 1 with z | z
          · exact absurd (nI_lt (b := 1) z (by decide)) y
          · exact z
        · rcases Nat.lt_or_ge 4 k with z | z
          · exact absurd (nI_lt (a := 4) z hk) w
          · exact z
  rw [if_neg h5] at h ⊢
  by_cases h6 : l = 114
  · rw [if_pos h6] at h ⊢
    rw [if_neg (by rw [h6]; decide)]
    by_cases y : a < 0
    · rw [if_pos y] at h; exact absurd rfl h
    · rw [if_neg y] at h
      by_cases w : 16 ≤ a
      · rw [if_pos w] at h; exact absurd rfl h
      · exact up y w (M := 16) rfl (by decide)
  rw [if_neg h6] at h ⊢
  by_cases h7 : l = 116
  · rw [if_pos h7] at h ⊢
    rw [if_neg (by rw [h7]; decide)]
    by_cases y : a < 0
    · rw [if_pos y] at h; exact absurd rfl h
    · rw [if_neg y] at h
      by_cases w : 3 ≤ a
      · rw [if_pos w] at h; exact absurd rfl h
      · exact up y w (M := 3) rfl (by decide)
  rw [if_neg h7]
  by_cases h8 : l = 46
  · rw [if_pos h8, if_pos h8]
  · rw [if_neg h8]
    trivial
theorem fit3_ok {o : Nat} {a b c : Int32} (ho : o < 22) (h : fit3 o a b c ≠ 0) : okI (insOf o a b c) := by
  unfold fit3 at h
  by_cases h1 : fB (chr o 0) a = 0
  · rw [if_pos h1] at h; exact absurd rfl h
  rw [if_neg h1] at h
  by_cases h2 : fB (chr o 1) b = 0
  · rw [if_pos h2] at h; exact absurd rfl h
  rw [if_neg h2] at h
  by_cases h3 : fB (chr o 2) c = 0
  · rw [if_pos h3] at h; exact absurd rfl h
  rw [if_neg h3] at h
  refine ⟨ho, fB_ok h1, fB_ok h2, fB_ok h3, fun h18 x y hx hy e1 e2 => ?_⟩
  have h18' : o = 18 := h18
  subst h18'
  rw [if_pos rfl] at h
  have e1' : a = nI x := e1
  have e2' : b = nI y := e2
  by_cases hs : 16 < a + b
  · rw [if_pos hs] at h; exact absurd rfl h
  · rw [e1', e2', nI_plus] at hs
    rcases Nat.lt_or_ge 16 (x + y) with z | z
    · exact absurd (nI_lt (a := 16) z (by omega)) hs
    · exact z
theorem fit3_01 (o : Nat) (a b c : Int32) : fit3 o a b c = 0 ∨ fit3 o a b c = 1 := by
  unfold fit3
  split
  · exact Or.inl rfl
  split
  · exact Or.inl rfl
  split
  · exact Or.inl rfl
  split
  · split
    · exact Or.inl rfl
    · exact Or.inr rfl
  · exact Or.inr rfl
theorem mf (o : Nat) (ho : o < 22) (a b c : Int32) (σ : Sg) : f_Md_fits (nI o) a b c σ = some (fit3 o a b c, σ) := by
  have h : o = 0 ∨ o = 1 ∨ o = 2 ∨ o = 3 ∨ o = 4 ∨ o = 5 ∨ o = 6 ∨ o = 7 ∨ o = 8 ∨ o = 9 ∨ o = 10 ∨ o = 11 ∨ o = 12 ∨ o = 13 ∨ o = 14 ∨ o = 15 ∨ o = 16 ∨ o = 17 ∨ o = 18 ∨ o = 19 ∨ o = 20 ∨ o = 21 := by omega
  rcases h with rfl | rfl | rfl | rfl | rfl | rfl | rfl | rfl | rfl | rfl | rfl | rfl | rfl | rfl | rfl | rfl | rfl | rfl | rfl | rfl | rfl | rfl
  · exact mf_0 a b c σ
  · exact mf_1 a b c σ
  · exact mf_2 a b c σ
  · exact mf_3 a b c σ
  · exact mf_4 a b c σ
  · exact mf_5 a b c σ
  · exact mf_6 a b c σ
  · exact mf_7 a b c σ
  · exact mf_8 a b c σ
  · exact mf_9 a b c σ
  · exact mf_10 a b c σ
  · exact mf_11 a b c σ
  · exact mf_12 a b c σ
  · exact mf_13 a b c σ
  · exact mf_14 a b c σ
  · exact mf_15 a b c σ
  · exact mf_16 a b c σ
  · exact mf_17 a b c σ
  · exact mf_18 a b c σ
  · exact mf_19 a b c σ
  · exact mf_20 a b c σ
  · exact mf_21 a b c σ
theorem mf_bad (a0 : Int32) (h : a0 < 0 ∨ 22 ≤ a0) (a b c : Int32) (σ : Sg) : f_Md_fits a0 a b c σ = some (0, σ) := by
  have ne : ∀ k : Int32, 0 ≤ k → k < 22 → ¬ a0 = k := fun k h1 h2 z => by
    rcases h with h | h
    · rw [z] at h; exact absurd h1 (Int32.not_le.mpr h)
    · rw [z] at h; exact absurd h2 (Int32.not_lt.mpr h)
  unfold f_Md_fits
  rw [if_neg (ne 0 (by decide) (by decide)), if_neg (ne 1 (by decide) (by decide)), if_neg (ne 2 (by decide) (by decide)), if_neg (ne 3 (by decide) (by decide)), if_neg (ne 4 (by decide) (by decide)), if_neg (ne 5 (by decide) (by decide)), if_neg (ne 6 (by decide) (by decide)), if_neg (ne 7 (by decide) (by decide)), if_neg (ne 8 (by decide) (by decide)), if_neg (ne 15 (by decide) (by decide)), if_neg (ne 16 (by decide) (by decide)), if_neg (ne 17 (by decide) (by decide)), if_neg (ne 18 (by decide) (by decide)), if_neg (ne 19 (by decide) (by decide)), if_neg (ne 20 (by decide) (by decide)), if_neg (ne 21 (by decide) (by decide))]
  have e : ∀ X : Option (Int32 × Sg), (if a0 ≤ 8 then (some (0, σ)) else (if 15 ≤ a0 then (some (0, σ)) else X)) = some (0, σ) := fun X => by
    rcases h with h | h
    · rw [if_pos (Int32.le_trans (Int32.le_of_lt h) (by decide))]
    · by_cases h8 : a0 ≤ 8
      · rw [if_pos h8]
      · rw [if_neg h8, if_pos (Int32.le_trans (by decide) h)]
  rw [e, bn2_eq, chk_pos zb0]
