/-! the plain law: which operands fit, both sides -/
def fB (l a : Int32) : Int32 := if l = 99 then (if a < 0 then 0 else (if 3 ≤ a then 0 else 1)) else (if l = 105 then (if a < 0 then 0 else (if 12 ≤ a then 0 else 1)) else (if l = 106 then (if a < 0 then 0 else (if 60 < a then 0 else 1)) else (if l = 107 then (if a < 0 then 0 else (if 4 ≤ a then 0 else 1)) else (if l = 110 then (if a < 1 then 0 else (if 4 < a then 0 else 1)) else (if l = 114 then (if a < 0 then 0 else (if 16 ≤ a then 0 else 1)) else (if l = 116 then (if a < 0 then 0 else (if 3 ≤ a then 0 else 1)) else 1))))))
theorem zb_ii {p q : Prop} [Decidable p] [Decidable q] : zb ((if p then 0 else (if q then 0 else 1)) : Int32) := by
  split
  · exact zb0
  · split
    · exact zb0
    · exact zb1
theorem fits_c (l a : Int32) (σ : Sg) : f_TM_fits l a σ = some (fB l a, σ) := by
  unfold f_TM_fits fB
  by_cases h1 : l = 99
  · rw [if_pos h1, if_pos h1, lt_eq, chk_pos zb_ii]
  rw [if_neg h1, if_neg h1]
  by_cases h2 : l = 105
  · rw [if_pos h2, if_pos h2, lt_eq, chk_pos zb_ii]
  rw [if_neg h2, if_neg h2]
  by_cases h3 : l = 106
  · rw [if_pos h3, if_pos h3, lt_eq, chk_pos zb_ii]
  rw [if_neg h3, if_neg h3]
  by_cases h4 : l = 107
  · rw [if_pos h4, if_pos h4, lt_eq, chk_pos zb_ii]
  rw [if_neg h4, if_neg h4]
  by_cases h5 : l = 110
  · rw [if_pos h5, if_pos h5, lt_eq, chk_pos zb_ii]
  rw [if_neg h5, if_neg h5]
  by_cases h6 : l = 114
  · rw [if_pos h6, if_pos h6, lt_eq, chk_pos zb_ii]
  rw [if_neg h6, if_neg h6]
  by_cases h7 : l = 116
  · rw [if_pos h7, if_pos h7, lt_eq, chk_pos zb_ii]
  rw [if_neg h7, if_neg h7]
def inB (a b : Int32) : Int32 := if a < 0 then 0 else (if b < a then 0 else 1)
theorem in_eq (a b : Int32) (σ : Sg) : f_Md_in a b σ = some (inB a b, σ) := by
  unfold f_Md_in inB
  rw [lt_eq, chk_pos zb_ii]
theorem inB_zb (a b : Int32) : zb (inB a b) := zb_ii
theorem inB01 (a b : Int32) : inB a b = 0 ∨ inB a b = 1 := inB_zb a b
theorem le_lt1 {a b c : Int32} (h : c.toInt = b.toInt + 1) : c ≤ a ↔ b < a := by
  rw [le_toInt, lt_toInt, h]
  omega
theorem ii_congr {p q r : Prop} [Decidable p] [Decidable q] [Decidable r] (h : q ↔ r) : ((if p then 0 else (if q then 0 else 1)) : Int32) = (if p then 0 else (if r then 0 else 1)) := by
  by_cases hp : p
  · rw [if_pos hp, if_pos hp]
  · rw [if_neg hp, if_neg hp]
    by_cases hq : q
    · rw [if_pos hq, if_pos (h.mp hq)]
    · rw [if_neg hq, if_neg (fun z => hq (h.mpr z))]
theorem fB_99 (a : Int32) : fB 99 a = inB a 2 := ii_congr (le_lt1 (by decide))
theorem fB_105 (a : Int32) : fB 105 a = inB a 11 := ii_congr (le_lt1 (by decide))
theorem fB_106 (a : Int32) : fB 106 a = inB a 60 := ii_congr Iff.rfl
theorem fB_107 (a : Int32) : fB 107 a = inB a 3 := ii_congr (le_lt1 (by decide))
theorem fB_114 (a : Int32) : fB 114 a = inB a 15 := ii_congr (le_lt1 (by decide))
theorem fB_116 (a : Int32) : fB 116 a = inB a 2 := ii_congr (le_lt1 (by decide))
theorem fB_110 (a : Int32) : fB 110 a = if a < 1 then 0 else (if 4 < a then 0 else 1) := rfl
theorem fB_46 (a : Int32) : fB 46 a = 1 := rfl
theorem fB_118 (a : Int32) : fB 118 a = 1 := rfl
def fit3 (o : Nat) (a b c : Int32) : Int32 := if fB (chr o 0) a = 0 then 0 else (if fB (chr o 1) b = 0 then 0 else (if fB (chr o 2) c = 0 then 0 else (if o = 18 then (if 16 < a + b then 0 else 1) else 1)))
theorem n10 : ((1 : Int32) = 0) = False := by decide
theorem e18 : (18 = 18) = True := by decide
theorem mf_0 (a b c : Int32) (σ : Sg) : f_Md_fits (nI 0) a b c σ = some (fit3 0 a b c, σ) := by
  unfold f_Md_fits
  rw [if_pos (by decide)]
  unfold fit3
  rw [show chr 0 0 = 46 from rfl, show chr 0 1 = 46 from rfl, show chr 0 2 = 46 from rfl]
  simp only [in_eq, bn2_eq, lt_eq, fB_46]
  rfl
theorem mf_1 (a b c : Int32) (σ : Sg) : f_Md_fits (nI 1) a b c σ = some (fit3 1 a b c, σ) := by
  unfold f_Md_fits
  rw [if_neg (by decide), if_pos (by decide)]
  unfold fit3
  rw [show chr 1 0 = 99 from rfl, show chr 1 1 = 116 from rfl, show chr 1 2 = 46 from rfl]
  simp only [in_eq, bn2_eq, lt_eq, fB_99, fB_116, fB_46]
  by_cases h0 : inB a 2 = 0 <;> by_cases h1 : inB b 2 = 0 <;> simp only [h0, h1, if_true, if_false, i10, i00, n10, bn2_eq, chk_pos zb0, chk_pos zb1, show ((1 : Nat) = 18) = False by decide]
theorem mf_2 (a b c : Int32) (σ : Sg) : f_Md_fits (nI 2) a b c σ = some (fit3 2 a b c, σ) := by
  unfold f_Md_fits
  rw [if_neg (by decide), if_neg (by decide), if_pos (by decide)]
  unfold fit3
  rw [show chr 2 0 = 99 from rfl, show chr 2 1 = 106 from rfl, show chr 2 2 = 46 from rfl]
  simp only [in_eq, bn2_eq, lt_eq, fB_99, fB_106, fB_46]
  by_cases h0 : inB a 2 = 0 <;> by_cases h1 : inB b 60 = 0 <;> simp only [h0, h1, if_true, if_false, i10, i00, n10, bn2_eq, chk_pos zb0, chk_pos zb1, show ((2 : Nat) = 18) = False by decide]
theorem mf_3 (a b c : Int32) (σ : Sg) : f_Md_fits (nI 3) a b c σ = some (fit3 3 a b c, σ) := by
  unfold f_Md_fits
  rw [if_neg (by decide), if_neg (by decide), if_neg (by decide), if_pos (by decide)]
  unfold fit3
  rw [show chr 3 0 = 99 from rfl, show chr 3 1 = 106 from rfl, show chr 3 2 = 46 from rfl]
  simp only [in_eq, bn2_eq, lt_eq, fB_99, fB_106, fB_46]
  by_cases h0 : inB a 2 = 0 <;> by_cases h1 : inB b 60 = 0 <;> simp only [h0, h1, if_true, if_false, i10, i00, n10, bn2_eq, chk_pos zb0, chk_pos zb1, show ((3 : Nat) = 18) = False by decide]
theorem mf_4 (a b c : Int32) (σ : Sg) : f_Md_fits (nI 4) a b c σ = some (fit3 4 a b c, σ) := by
  unfold f_Md_fits
  rw [if_neg (by decide), if_neg (by decide), if_neg (by decide), if_neg (by decide), if_pos (by decide)]
  unfold fit3
  rw [show chr 4 0 = 99 from rfl, show chr 4 1 = 107 from rfl, show chr 4 2 = 114 from rfl]
  simp only [in_eq, bn2_eq, lt_eq, fB_99, fB_107, fB_114]
  by_cases h0 : inB a 2 = 0 <;> by_cases h1 : inB b 3 = 0 <;> by_cases h2 : inB c 15 = 0 <;> simp only [h0, h1, h2, if_true, if_false, i10, i00, n10, bn2_eq, chk_pos zb0, chk_pos zb1, show ((4 : Nat) = 18) = False by decide]
theorem mf_5 (a b c : Int32) (σ : Sg) : f_Md_fits (nI 5) a b c σ = some (fit3 5 a b c, σ) := by
  unfold f_Md_fits
  rw [if_neg (by decide), if_neg (by decide), if_neg (by decide), if_neg (by decide), if_neg (by decide), if_pos (by decide)]
  unfold fit3
  rw [show chr 5 0 = 99 from rfl, show chr 5 1 = 114 from rfl, show chr 5 2 = 46 from rfl]
  simp only [in_eq, bn2_eq, lt_eq, fB_99, fB_114, fB_46]
  by_cases h0 : inB a 2 = 0 <;> by_cases h1 : inB b 15 = 0 <;> simp only [h0, h1, if_true, if_false, i10, i00, n10, bn2_eq, chk_pos zb0, chk_pos zb1, show ((5 : Nat) = 18) = False by decide]
theorem mf_6 (a b c : Int32) (σ : Sg) : f_Md_fits (nI 6) a b c σ = some (fit3 6 a b c, σ) := by
  unfold f_Md_fits
  rw [if_neg (by decide), if_neg (by decide), if_neg (by decide), if_neg (by decide), if_neg (by decide), if_neg (by decide), if_pos (by decide)]
  unfold fit3
  rw [show chr 6 0 = 118 from rfl, show chr 6 1 = 114 from rfl, show chr 6 2 = 46 from rfl]
  simp only [in_eq, bn2_eq, lt_eq, fB_118, fB_114, fB_46]
  rw [chk_pos (inB_zb _ _)]
  rcases inB01 b 15 with h | h <;> rw [h] <;> rfl
theorem mf_7 (a b c : Int32) (σ : Sg) : f_Md_fits (nI 7) a b c σ = some (fit3 7 a b c, σ) := by
  unfold f_Md_fits
  rw [if_neg (by decide), if_neg (by decide), if_neg (by decide), if_neg (by decide), if_neg (by decide), if_neg (by decide), if_neg (by decide), if_pos (by decide)]
  unfold fit3
  rw [show chr 7 0 = 114 from rfl, show chr 7 1 = 46 from rfl, show chr 7 2 = 46 from rfl]
  simp only [in_eq, bn2_eq, lt_eq, fB_114, fB_46]
  rw [chk_pos (inB_zb _ _)]
  rcases inB01 a 15 with h | h <;> rw [h] <;> rfl
theorem mf_8 (a b c : Int32) (σ : Sg) : f_Md_fits (nI 8) a b c σ = some (fit3 8 a b c, σ) := by
  unfold f_Md_fits
  rw [if_neg (by decide), if_neg (by decide), if_neg (by decide), if_neg (by decide), if_neg (by decide), if_neg (by decide), if_neg (by decide), if_neg (by decide), if_pos (by decide)]
  unfold fit3
  rw [show chr 8 0 = 99 from rfl, show chr 8 1 = 106 from rfl, show chr 8 2 = 114 from rfl]
  simp only [in_eq, bn2_eq, lt_eq, fB_99, fB_106, fB_114]
  by_cases h0 : inB a 2 = 0 <;> by_cases h1 : inB b 60 = 0 <;> by_cases h2 : inB c 15 = 0 <;> simp only [h0, h1, h2, if_true, if_false, i10, i00, n10, bn2_eq, chk_pos zb0, chk_pos zb1, show ((8 : Nat) = 18) = False by decide]
theorem mf_9 (a b c : Int32) (σ : Sg) : f_Md_fits (nI 9) a b c σ = some (fit3 9 a b c, σ) := by
  unfold f_Md_fits
  rw [if_neg (by decide), if_neg (by decide), if_neg (by decide), if_neg (by decide), if_neg (by decide), if_neg (by decide), if_neg (by decide), if_neg (by decide), if_neg (by decide), if_neg (by decide), if_neg (by decide), if_neg (by decide), if_neg (by decide), if_neg (by decide), if_neg (by decide), if_neg (by decide), if_neg (show ¬ nI 9 ≤ 8 by decide), if_neg (show ¬ (15 : Int32) ≤ nI 9 by decide)]
  unfold fit3
  rw [show chr 9 0 = 114 from rfl, show chr 9 1 = 106 from rfl, show chr 9 2 = 114 from rfl]
  simp only [in_eq, bn2_eq, lt_eq, fB_114, fB_106]
  by_cases h0 : inB a 15 = 0 <;> by_cases h1 : inB b 60 = 0 <;> by_cases h2 : inB c 15 = 0 <;> simp only [h0, h1, h2, if_true, if_false, i10, i00, n10, bn2_eq, chk_pos zb0, chk_pos zb1, show ((9 : Nat) = 18) = False by decide]
theorem mf_10 (a b c : Int32) (σ : Sg) : f_Md_fits (nI 10) a b c σ = some (fit3 10 a b c, σ) := by
  unfold f_Md_fits
  rw [if_neg (by decide), if_neg (by decide), if_neg (by decide), if_neg (by decide), if_neg (by decide), if_neg (by decide), if_neg (by decide), if_neg (by decide), if_neg (by decide), if_neg (by decide), if_neg (by decide), if_neg (by decide), if_neg (by decide), if_neg (by decide), if_neg (by decide), if_neg (by decide), if_neg (show ¬ nI 10 ≤ 8 by decide), if_neg (show ¬ (15 : Int32) ≤ nI 10 by decide)]
  unfold fit3
  rw [show chr 10 0 = 114 from rfl, show chr 10 1 = 106 from rfl, show chr 10 2 = 114 from rfl]
  simp only [in_eq, bn2_eq, lt_eq, fB_114, fB_106]
  by_cases h0 : inB a 15 = 0 <;> by_cases h1 : inB b 60 = 0 <;> by_cases h2 : inB c 15 = 0 <;> simp only [h0, h1, h2, if_true, if_false, i10, i00, n10, bn2_eq, chk_pos zb0, chk_pos zb1, show ((10 : Nat) = 18) = False by decide]
theorem mf_11 (a b c : Int32) (σ : Sg) : f_Md_fits (nI 11) a b c σ = some (fit3 11 a b c, σ) := by
  unfold f_Md_fits
  rw [if_neg (by decide), if_neg (by decide), if_neg (by decide), if_neg (by decide), if_neg (by decide), if_neg (by decide), if_neg (by decide), if_neg (by decide), if_neg (by decide), if_neg (by decide), if_neg (by decide), if_neg (by decide), if_neg (by decide), if_neg (by decide), if_neg (by decide), if_neg (by decide), if_neg (show ¬ nI 11 ≤ 8 by decide), if_neg (show ¬ (15 : Int32) ≤ nI 11 by decide)]
  unfold fit3
  rw [show chr 11 0 = 114 from rfl, show chr 11 1 = 106 from rfl, show chr 11 2 = 114 from rfl]
  simp only [in_eq, bn2_eq, lt_eq, fB_114, fB_106]
  by_cases h0 : inB a 15 = 0 <;> by_cases h1 : inB b 60 = 0 <;> by_cases h2 : inB c 15 = 0 <;> simp only [h0, h1, h2, if_true, if_false, i10, i00, n10, bn2_eq, chk_pos zb0, chk_pos zb1, show ((11 : Nat) = 18) = False by decide]
theorem mf_12 (a b c : Int32) (σ : Sg) : f_Md_fits (nI 12) a b c σ = some (fit3 12 a b c, σ) := by
  unfold f_Md_fits
  rw [if_neg (by decide), if_neg (by decide), if_neg (by decide), if_neg (by decide), if_neg (by decide), if_neg (by decide), if_neg (by decide), if_neg (by decide), if_neg (by decide), if_neg (by decide), if_neg (by decide), if_neg (by decide), if_neg (by decide), if_neg (by decide), if_neg (by decide), if_neg (by decide), if_neg (show ¬ nI 12 ≤ 8 by decide), if_neg (show ¬ (15 : Int32) ≤ nI 12 by decide)]
  unfold fit3
  rw [show chr 12 0 = 114 from rfl, show chr 12 1 = 106 from rfl, show chr 12 2 = 114 from rfl]
  simp only [in_eq, bn2_eq, lt_eq, fB_114, fB_106]
  by_cases h0 : inB a 15 = 0 <;> by_cases h1 : inB b 60 = 0 <;> by_cases h2 : inB c 15 = 0 <;> simp only [h0, h1, h2, if_true, if_false, i10, i00, n10, bn2_eq, chk_pos zb0, chk_pos zb1, show ((12 : Nat) = 18) = False by decide]
theorem mf_13 (a b c : Int32) (σ : Sg) : f_Md_fits (nI 13) a b c σ = some (fit3 13 a b c, σ) := by
  unfold f_Md_fits
  rw [if_neg (by decide), if_neg (by decide), if_neg (by decide), if_neg (by decide), if_neg (by decide), if_neg (by decide), if_neg (by decide), if_neg (by decide), if_neg (by decide), if_neg (by decide), if_neg (by decide), if_neg (by decide), if_neg (by decide), if_neg (by decide), if_neg (by decide), if_neg (by decide), if_neg (show ¬ nI 13 ≤ 8 by decide), if_neg (show ¬ (15 : Int32) ≤ nI 13 by decide)]
  unfold fit3
  rw [show chr 13 0 = 114 from rfl, show chr 13 1 = 106 from rfl, show chr 13 2 = 114 from rfl]
  simp only [in_eq, bn2_eq, lt_eq, fB_114, fB_106]
  by_cases h0 : inB a 15 = 0 <;> by_cases h1 : inB b 60 = 0 <;> by_cases h2 : inB c 15 = 0 <;> simp only [h0, h1, h2, if_true, if_false, i10, i00, n10, bn2_eq, chk_pos zb0, chk_pos zb1, show ((13 : Nat) = 18) = False by decide]
theorem mf_14 (a b c : Int32) (σ : Sg) : f_Md_fits (nI 14) a b c σ = some (fit3 14 a b c, σ) := by
  unfold f_Md_fits
  rw [if_neg (by decide), if_neg (by decide), if_neg (by decide), if_neg (by decide), if_neg (by decide), if_neg (by decide), if_neg (by decide), if_neg (by decide), if_neg (by decide), if_neg (by decide), if_neg (by decide), if_neg (by decide), if_neg (by decide), if_neg (by decide), if_neg (by decide), if_neg (by decide), if_neg (show ¬ nI 14 ≤ 8 by decide), if_neg (show ¬ (15 : Int32) ≤ nI 14 by decide)]
  unfold fit3
  rw [show chr 14 0 = 114 from rfl, show chr 14 1 = 106 from rfl, show chr 14 2 = 114 from rfl]
  simp only [in_eq, bn2_eq, lt_eq, fB_114, fB_106]
  by_cases h0 : inB a 15 = 0 <;> by_cases h1 : inB b 60 = 0 <;> by_cases h2 : inB c 15 = 0 <;> simp only [h0, h1, h2, if_true, if_false, i10, i00, n10, bn2_eq, chk_pos zb0, chk_pos zb1, show ((14 : Nat) = 18) = False by decide]
theorem mf_15 (a b c : Int32) (σ : Sg) : f_Md_fits (nI 15) a b c σ = some (fit3 15 a b c, σ) := by
  unfold f_Md_fits
  rw [if_neg (by decide), if_neg (by decide), if_neg (by decide), if_neg (by decide), if_neg (by decide), if_neg (by decide), if_neg (by decide), if_neg (by decide), if_neg (by decide), if_pos (by decide)]
  unfold fit3
  rw [show chr 15 0 = 114 from rfl, show chr 15 1 = 106 from rfl, show chr 15 2 = 46 from rfl]
  simp only [in_eq, bn2_eq, lt_eq, fB_114, fB_106, fB_46]
  by_cases h0 : inB a 15 = 0 <;> by_cases h1 : inB b 60 = 0 <;> simp only [h0, h1, if_true, if_false, i10, i00, n10, bn2_eq, chk_pos zb0, chk_pos zb1, show ((15 : Nat) = 18) = False by decide]
theorem mf_16 (a b c : Int32) (σ : Sg) : f_Md_fits (nI 16) a b c σ = some (fit3 16 a b c, σ) := by
  unfold f_Md_fits
  rw [if_neg (by decide), if_neg (by decide), if_neg (by decide), if_neg (by decide), if_neg (by decide), if_neg (by decide), if_neg (by decide), if_neg (by decide), if_neg (by decide), if_neg (by decide), if_pos (by decide)]
  unfold fit3
  rw [show chr 16 0 = 114 from rfl, show chr 16 1 = 106 from rfl, show chr 16 2 = 46 from rfl]
  simp only [in_eq, bn2_eq, lt_eq, fB_114, fB_106, fB_46]
  by_cases h0 : inB a 15 = 0 <;> by_cases h1 : inB b 60 = 0 <;> simp only [h0, h1, if_true, if_false, i10, i00, n10, bn2_eq, chk_pos zb0, chk_pos zb1, show ((16 : Nat) = 18) = False by decide]
theorem mf_17 (a b c : Int32) (σ : Sg) : f_Md_fits (nI 17) a b c σ = some (fit3 17 a b c, σ) := by
  unfold f_Md_fits
  rw [if_neg (by decide), if_neg (by decide), if_neg (by decide), if_neg (by decide), if_neg (by decide), if_neg (by decide), if_neg (by decide), if_neg (by decide), if_neg (by decide), if_neg (by decide), if_neg (by decide), if_pos (by decide)]
  unfold fit3
  rw [show chr 17 0 = 114 from rfl, show chr 17 1 = 114 from rfl, show chr 17 2 = 114 from rfl]
  simp only [in_eq, bn2_eq, lt_eq, fB_114]
  by_cases h0 : inB a 15 = 0 <;> by_cases h1 : inB b 15 = 0 <;> by_cases h2 : inB c 15 = 0 <;> simp only [h0, h1, h2, if_true, if_false, i10, i00, n10, bn2_eq, chk_pos zb0, chk_pos zb1, show ((17 : Nat) = 18) = False by decide]
theorem mf_18 (a b c : Int32) (σ : Sg) : f_Md_fits (nI 18) a b c σ = some (fit3 18 a b c, σ) := by
  unfold f_Md_fits
  rw [if_neg (by decide), if_neg (by decide), if_neg (by decide), if_neg (by decide), if_neg (by decide), if_neg (by decide), if_neg (by decide), if_neg (by decide), if_neg (by decide), if_neg (by decide), if_neg (by decide), if_neg (by decide), if_pos (by decide)]
  unfold fit3
  rw [show chr 18 0 = 114 from rfl, show chr 18 1 = 110 from rfl, show chr 18 2 = 46 from rfl]
  simp only [in_eq, bn2_eq, lt_eq, fB_114, fB_110, fB_46]
  by_cases h0 : inB a 15 = 0 <;> by_cases h4 : b < 1 <;> by_cases h5 : 4 < b <;> by_cases h6 : 16 < a + b <;> simp only [h0, h4, h5, h6, if_true, if_false, i10, i00, n10, bn2_eq, chk_pos zb0, chk_pos zb1, e18]
theorem mf_19 (a b c : Int32) (σ : Sg) : f_Md_fits (nI 19) a b c σ = some (fit3 19 a b c, σ) := by
  unfold f_Md_fits
  rw [if_neg (by decide), if_neg (by decide), if_neg (by decide), if_neg (by decide), if_neg (by decide), if_neg (by decide), if_neg (by decide), if_neg (by decide), if_neg (by decide), if_neg (by decide), if_neg (by decide), if_neg (by decide), if_neg (by decide), if_pos (by decide)]
  unfold fit3
  rw [show chr 19 0 = 106 from rfl, show chr 19 1 = 46 from rfl, show chr 19 2 = 46 from rfl]
  simp only [in_eq, bn2_eq, lt_eq, fB_106, fB_46]
  rw [chk_pos (inB_zb _ _)]
  rcases inB01 a 60 with h | h <;> rw [h] <;> rfl
theorem mf_20 (a b c : Int32) (σ : Sg) : f_Md_fits (nI 20) a b c σ = some (fit3 20 a b c, σ) := by
  unfold f_Md_fits
  rw [if_neg (by decide), if_neg (by decide), if_neg (by decide), if_neg (by decide), if_neg (by decide), if_neg (by decide), if_neg (by decide), if_neg (by decide), if_neg (by decide), if_neg (by decide), if_neg (by decide), if_neg (by decide), if_neg (by decide), if_neg (by decide), if_pos (by decide)]
  unfold fit3
  rw [show chr 20 0 = 99 from rfl, show chr 20 1 = 106 from rfl, show chr 20 2 = 105 from rfl]
  simp only [in_eq, bn2_eq, lt_eq, fB_99, fB_106, fB_105]
  by_cases h0 : inB a 2 = 0 <;> by_cases h1 : inB b 60 = 0 <;> by_cases h2 : inB c 11 = 0 <;> simp only [h0, h1, h2, if_true, if_false, i10, i00, n10, bn2_eq, chk_pos zb0, chk_pos zb1, show ((20 : Nat) = 18) = False by decide]
theorem mf_21 (a b c : Int32) (σ : Sg) : f_Md_fits (nI 21) a b c σ = some (fit3 21 a b c, σ) := by
  unfold f_Md_fits
  rw [if_neg (by decide), if_neg (by decide), if_neg (by decide), if_neg (by decide), if_neg (by decide), if_neg (by decide), if_neg (by decide), if_neg (by decide), if_neg (by decide), if_neg (by decide), if_neg (by decide), if_neg (by decide), if_neg (by decide), if_neg (by decide), if_neg (by decide), if_pos (by decide)]
  unfold fit3
  rw [show chr 21 0 = 99 from rfl, show chr 21 1 = 46 from rfl, show chr 21 2 = 46 from rfl]
  simp only [in_eq, bn2_eq, lt_eq, fB_99, fB_46]
  rw [chk_pos (inB_zb _ _)]
  rcases inB01 a 2 with h | h <;> rw [h] <;> rfl
