/-! printed by wip/gen/cgen2.py: the constructors of the class and of the model -/
def off (k i : Nat) : Nat := match k with
  | 0 => 0
  | 1 => 1
  | 11 => 2
  | 12 => 3
  | 2 => 4 + 2 * i
  | 10 => 5 + 2 * i
  | 17 => 484
  | 4 => 485 + 6 * i
  | 15 => 486 + 6 * i
  | 5 => if i < 4 then 487 + i else if i < 8 then 489 + i else if i < 24 then 617 + i else 620 + i
  | 18 => 497
  | 19 => 498
  | 20 => 499
  | 21 => 500
  | 22 => 501
  | 23 => 502
  | 24 => 503
  | 25 => 504
  | 6 => 505 + 2 * i
  | 16 => 506 + 2 * i
  | 7 => 641 + i
  | 8 => 900 + i
  | 9 => 904
  | 44 => 923
  | k => 905 + (k - 26)
theorem off_0 (i : Nat) : off 0 i = 0 := rfl
theorem off_1 (i : Nat) : off 1 i = 1 := rfl
theorem off_11 (i : Nat) : off 11 i = 2 := rfl
theorem off_12 (i : Nat) : off 12 i = 3 := rfl
theorem off_2 (i : Nat) : off 2 i = 4 + 2 * i := rfl
theorem off_10 (i : Nat) : off 10 i = 5 + 2 * i := rfl
theorem off_17 (i : Nat) : off 17 i = 484 := rfl
theorem off_4 (i : Nat) : off 4 i = 485 + 6 * i := rfl
theorem off_15 (i : Nat) : off 15 i = 486 + 6 * i := rfl
theorem off_5 (i : Nat) : off 5 i = if i < 4 then 487 + i else if i < 8 then 489 + i else if i < 24 then 617 + i else 620 + i := rfl
theorem off_18 (i : Nat) : off 18 i = 497 := rfl
theorem off_19 (i : Nat) : off 19 i = 498 := rfl
theorem off_20 (i : Nat) : off 20 i = 499 := rfl
theorem off_21 (i : Nat) : off 21 i = 500 := rfl
theorem off_22 (i : Nat) : off 22 i = 501 := rfl
theorem off_23 (i : Nat) : off 23 i = 502 := rfl
theorem off_24 (i : Nat) : off 24 i = 503 := rfl
theorem off_25 (i : Nat) : off 25 i = 504 := rfl
theorem off_6 (i : Nat) : off 6 i = 505 + 2 * i := rfl
theorem off_16 (i : Nat) : off 16 i = 506 + 2 * i := rfl
theorem off_7 (i : Nat) : off 7 i = 641 + i := rfl
theorem off_8 (i : Nat) : off 8 i = 900 + i := rfl
theorem off_9 (i : Nat) : off 9 i = 904 := rfl
theorem off_44 (i : Nat) : off 44 i = 923 := rfl
theorem off_26 (i : Nat) : off 26 i = 905 := rfl
theorem off_27 (i : Nat) : off 27 i = 906 := rfl
theorem off_28 (i : Nat) : off 28 i = 907 := rfl
theorem off_29 (i : Nat) : off 29 i = 908 := rfl
theorem off_30 (i : Nat) : off 30 i = 909 := rfl
theorem off_31 (i : Nat) : off 31 i = 910 := rfl
theorem off_32 (i : Nat) : off 32 i = 911 := rfl
theorem off_33 (i : Nat) : off 33 i = 912 := rfl
theorem off_34 (i : Nat) : off 34 i = 913 := rfl
theorem off_35 (i : Nat) : off 35 i = 914 := rfl
theorem off_36 (i : Nat) : off 36 i = 915 := rfl
theorem off_37 (i : Nat) : off 37 i = 916 := rfl
theorem off_38 (i : Nat) : off 38 i = 917 := rfl
theorem off_39 (i : Nat) : off 39 i = 918 := rfl
theorem off_40 (i : Nat) : off 40 i = 919 := rfl
theorem off_41 (i : Nat) : off 41 i = 920 := rfl
theorem off_42 (i : Nat) : off 42 i = 921 := rfl
theorem off_43 (i : Nat) : off 43 i = 922 := rfl
def sg0 : Sg := (fun _ _ _ => 0, fun _ _ _ => 0, fun _ _ _ => none, 0)
def zS (σ : Sg) : Prop := ∀ a b c, a ≠ 0 → a ≠ 1 → a ≠ 9 → a ≠ 12 → gi σ a b c = 0 ∧ gj σ a b c = 0 ∧ gr σ a b c = none
theorem zS_0 : zS sg0 := fun _ _ _ _ _ _ _ => ⟨rfl, rfl, rfl⟩
theorem zS_si {σ : Sg} (h : zS σ) {k i j : Nat} {x : Int32} (hk : k = 0 ∨ k = 1 ∨ k = 9 ∨ k = 12) : zS (si σ k i j x) := fun a b c h0 h1 h2 h3 => by
  obtain ⟨q1, q2, q3⟩ := h a b c h0 h1 h2 h3
  exact ⟨by rw [gi_si, if_neg (by omega), q1], by rw [gj_si, q2], by rw [gr_si, q3]⟩
theorem zS_F {σ : Sg} (h : zS σ) (n : Nat) : zS (sgF σ n) := fun a b c h0 h1 h2 h3 => by
  obtain ⟨q1, q2, q3⟩ := h a b c h0 h1 h2 h3
  exact ⟨by rw [sgF_gi _ _ _ _ _ (by omega), q1], by rw [sgF_gj, q2], by rw [sgF_gr, q3]⟩
theorem zS_zz {σ : Sg} {A : Nat → Nat → Nat → Bool} {k i : Nat} (h : zS σ) (hk : k ≠ 0 ∧ k ≠ 1 ∧ k ≠ 9 ∧ k ≠ 12) (hA : ∀ j, A k i j = false) : zz σ A k i := fun j => ⟨(h k i j hk.1 hk.2.1 hk.2.2.1 hk.2.2.2).1, (h k i j hk.1 hk.2.1 hk.2.2.1 hk.2.2.2).2.1, (h k i j hk.1 hk.2.1 hk.2.2.1 hk.2.2.2).2.2, hA j⟩
abbrev xO (X : GX) : Prop := ∀ k i, k < 45 → i < cnt 0 k → xL X k i = xb X + off k i
def N0 : Nat → Nat → Bool := fun _ _ => false
def M0 : Nat → Nat → Nat → Bool := fun _ _ _ => false
theorem d_TM_init_0 : decode b_TM_init 0 = .ok (.aload_n 0, 1) := by decide +kernel
theorem d_TM_init_1 : decode b_TM_init 1 = .ok (.invokespecial 1, 3) := by decide +kernel
theorem d_TM_init_4 : decode b_TM_init 4 = .ok (.aload_n 0, 1) := by decide +kernel
theorem d_TM_init_5 : decode b_TM_init 5 = .ok (.new 7, 3) := by decide +kernel
theorem d_TM_init_8 : decode b_TM_init 8 = .ok (.dup, 1) := by decide +kernel
theorem d_TM_init_9 : decode b_TM_init 9 = .ok (.invokespecial 9, 3) := by decide +kernel
theorem d_TM_init_12 : decode b_TM_init 12 = .ok (.putfield 10, 3) := by decide +kernel
theorem d_TM_init_15 : decode b_TM_init 15 = .ok (.aload_n 0, 1) := by decide +kernel
theorem d_TM_init_16 : decode b_TM_init 16 = .ok (.iconst 3, 1) := by decide +kernel
theorem d_TM_init_17 : decode b_TM_init 17 = .ok (.anewarray 16, 3) := by decide +kernel
theorem d_TM_init_20 : decode b_TM_init 20 = .ok (.putfield 18, 3) := by decide +kernel
theorem d_TM_init_23 : decode b_TM_init 23 = .ok (.aload_n 0, 1) := by decide +kernel
theorem d_TM_init_24 : decode b_TM_init 24 = .ok (.new 22, 3) := by decide +kernel
theorem d_TM_init_27 : decode b_TM_init 27 = .ok (.dup, 1) := by decide +kernel
theorem d_TM_init_28 : decode b_TM_init 28 = .ok (.invokespecial 24, 3) := by decide +kernel
theorem d_TM_init_31 : decode b_TM_init 31 = .ok (.putfield 25, 3) := by decide +kernel
theorem d_TM_init_34 : decode b_TM_init 34 = .ok (.aload_n 0, 1) := by decide +kernel
theorem d_TM_init_35 : decode b_TM_init 35 = .ok (.new 22, 3) := by decide +kernel
theorem d_TM_init_38 : decode b_TM_init 38 = .ok (.dup, 1) := by decide +kernel
theorem d_TM_init_39 : decode b_TM_init 39 = .ok (.invokespecial 24, 3) := by decide +kernel
theorem d_TM_init_42 : decode b_TM_init 42 = .ok (.putfield 29, 3) := by decide +kernel
theorem d_TM_init_45 : decode b_TM_init 45 = .ok (.aload_n 0, 1) := by decide +kernel
theorem d_TM_init_46 : decode b_TM_init 46 = .ok (.invokestatic 32, 3) := by decide +kernel
theorem d_TM_init_49 : decode b_TM_init 49 = .ok (.putfield 38, 3) := by decide +kernel
theorem d_TM_init_52 : decode b_TM_init 52 = .ok (.aload_n 0, 1) := by decide +kernel
theorem d_TM_init_53 : decode b_TM_init 53 = .ok (.bipush 60, 2) := by decide +kernel
theorem d_TM_init_55 : decode b_TM_init 55 = .ok (.anewarray 42, 3) := by decide +kernel
theorem d_TM_init_58 : decode b_TM_init 58 = .ok (.putfield 44, 3) := by decide +kernel
theorem d_TM_init_61 : decode b_TM_init 61 = .ok (.aload_n 0, 1) := by decide +kernel
theorem d_TM_init_62 : decode b_TM_init 62 = .ok (.bipush 16, 2) := by decide +kernel
theorem d_TM_init_64 : decode b_TM_init 64 = .ok (.anewarray 48, 3) := by decide +kernel
theorem d_TM_init_67 : decode b_TM_init 67 = .ok (.putfield 50, 3) := by decide +kernel
theorem d_TM_init_70 : decode b_TM_init 70 = .ok (.aload_n 0, 1) := by decide +kernel
theorem d_TM_init_71 : decode b_TM_init 71 = .ok (.iconst 3, 1) := by decide +kernel
theorem d_TM_init_72 : decode b_TM_init 72 = .ok (.anewarray 54, 3) := by decide +kernel
theorem d_TM_init_75 : decode b_TM_init 75 = .ok (.putfield 56, 3) := by decide +kernel
theorem d_TM_init_78 : decode b_TM_init 78 = .ok (.aload_n 0, 1) := by decide +kernel
theorem d_TM_init_79 : decode b_TM_init 79 = .ok (.sipush 256, 3) := by decide +kernel
theorem d_TM_init_82 : decode b_TM_init 82 = .ok (.anewarray 48, 3) := by decide +kernel
theorem d_TM_init_85 : decode b_TM_init 85 = .ok (.putfield 60, 3) := by decide +kernel
theorem d_TM_init_88 : decode b_TM_init 88 = .ok (.aload_n 0, 1) := by decide +kernel
theorem d_TM_init_89 : decode b_TM_init 89 = .ok (.bipush 64, 2) := by decide +kernel
theorem d_TM_init_91 : decode b_TM_init 91 = .ok (.newarray .int, 2) := by decide +kernel
theorem d_TM_init_93 : decode b_TM_init 93 = .ok (.putfield 63, 3) := by decide +kernel
theorem d_TM_init_96 : decode b_TM_init 96 = .ok (.aload_n 0, 1) := by decide +kernel
theorem d_TM_init_97 : decode b_TM_init 97 = .ok (.iconst (-1), 1) := by decide +kernel
theorem d_TM_init_98 : decode b_TM_init 98 = .ok (.putfield 67, 3) := by decide +kernel
theorem d_TM_init_101 : decode b_TM_init 101 = .ok (.aload_n 0, 1) := by decide +kernel
theorem d_TM_init_102 : decode b_TM_init 102 = .ok (.iconst (-1), 1) := by decide +kernel
theorem d_TM_init_103 : decode b_TM_init 103 = .ok (.putfield 71, 3) := by decide +kernel
theorem d_TM_init_106 : decode b_TM_init 106 = .ok (.aload_n 0, 1) := by decide +kernel
theorem d_TM_init_107 : decode b_TM_init 107 = .ok (.iconst 4, 1) := by decide +kernel
theorem d_TM_init_108 : decode b_TM_init 108 = .ok (.anewarray 74, 3) := by decide +kernel
theorem d_TM_init_111 : decode b_TM_init 111 = .ok (.putfield 76, 3) := by decide +kernel
theorem d_TM_init_114 : decode b_TM_init 114 = .ok (.aload_n 0, 1) := by decide +kernel
theorem d_TM_init_115 : decode b_TM_init 115 = .ok (.bipush 8, 2) := by decide +kernel
theorem d_TM_init_117 : decode b_TM_init 117 = .ok (.newarray .int, 2) := by decide +kernel
theorem d_TM_init_119 : decode b_TM_init 119 = .ok (.putfield 80, 3) := by decide +kernel
theorem d_TM_init_122 : decode b_TM_init 122 = .ok (.iconst 0, 1) := by decide +kernel
theorem d_TM_init_123 : decode b_TM_init 123 = .ok (.istore_n 1, 1) := by decide +kernel
theorem d_TM_init_124 : decode b_TM_init 124 = .ok (.iload_n 1, 1) := by decide +kernel
theorem d_TM_init_125 : decode b_TM_init 125 = .ok (.bipush 60, 2) := by decide +kernel
theorem d_TM_init_127 : decode b_TM_init 127 = .ok (.if_icmp .ge 22, 3) := by decide +kernel
theorem d_TM_init_130 : decode b_TM_init 130 = .ok (.aload_n 0, 1) := by decide +kernel
theorem d_TM_init_131 : decode b_TM_init 131 = .ok (.getfield 44, 3) := by decide +kernel
theorem d_TM_init_134 : decode b_TM_init 134 = .ok (.iload_n 1, 1) := by decide +kernel
theorem d_TM_init_135 : decode b_TM_init 135 = .ok (.new 42, 3) := by decide +kernel
theorem d_TM_init_138 : decode b_TM_init 138 = .ok (.dup, 1) := by decide +kernel
theorem d_TM_init_139 : decode b_TM_init 139 = .ok (.invokespecial 83, 3) := by decide +kernel
theorem d_TM_init_142 : decode b_TM_init 142 = .ok (.aastore, 1) := by decide +kernel
theorem d_TM_init_143 : decode b_TM_init 143 = .ok (.iinc 1 1, 3) := by decide +kernel
theorem d_TM_init_146 : decode b_TM_init 146 = .ok (.goto (-22), 3) := by decide +kernel
theorem d_TM_init_149 : decode b_TM_init 149 = .ok (.iconst 0, 1) := by decide +kernel
theorem d_TM_init_150 : decode b_TM_init 150 = .ok (.istore_n 1, 1) := by decide +kernel
theorem d_TM_init_151 : decode b_TM_init 151 = .ok (.iload_n 1, 1) := by decide +kernel
theorem d_TM_init_152 : decode b_TM_init 152 = .ok (.bipush 16, 2) := by decide +kernel
theorem d_TM_init_154 : decode b_TM_init 154 = .ok (.if_icmp .ge 22, 3) := by decide +kernel
theorem d_TM_init_157 : decode b_TM_init 157 = .ok (.aload_n 0, 1) := by decide +kernel
theorem d_TM_init_158 : decode b_TM_init 158 = .ok (.getfield 50, 3) := by decide +kernel
theorem d_TM_init_161 : decode b_TM_init 161 = .ok (.iload_n 1, 1) := by decide +kernel
theorem d_TM_init_162 : decode b_TM_init 162 = .ok (.new 48, 3) := by decide +kernel
theorem d_TM_init_165 : decode b_TM_init 165 = .ok (.dup, 1) := by decide +kernel
theorem d_TM_init_166 : decode b_TM_init 166 = .ok (.invokespecial 84, 3) := by decide +kernel
theorem d_TM_init_169 : decode b_TM_init 169 = .ok (.aastore, 1) := by decide +kernel
theorem d_TM_init_170 : decode b_TM_init 170 = .ok (.iinc 1 1, 3) := by decide +kernel
theorem d_TM_init_173 : decode b_TM_init 173 = .ok (.goto (-22), 3) := by decide +kernel
theorem d_TM_init_176 : decode b_TM_init 176 = .ok (.iconst 0, 1) := by decide +kernel
theorem d_TM_init_177 : decode b_TM_init 177 = .ok (.istore_n 1, 1) := by decide +kernel
theorem d_TM_init_178 : decode b_TM_init 178 = .ok (.iload_n 1, 1) := by decide +kernel
theorem d_TM_init_179 : decode b_TM_init 179 = .ok (.iconst 3, 1) := by decide +kernel
theorem d_TM_init_180 : decode b_TM_init 180 = .ok (.if_icmp .ge 22, 3) := by decide +kernel
theorem d_TM_init_183 : decode b_TM_init 183 = .ok (.aload_n 0, 1) := by decide +kernel
theorem d_TM_init_184 : decode b_TM_init 184 = .ok (.getfield 56, 3) := by decide +kernel
theorem d_TM_init_187 : decode b_TM_init 187 = .ok (.iload_n 1, 1) := by decide +kernel
theorem d_TM_init_188 : decode b_TM_init 188 = .ok (.new 54, 3) := by decide +kernel
theorem d_TM_init_191 : decode b_TM_init 191 = .ok (.dup, 1) := by decide +kernel
theorem d_TM_init_192 : decode b_TM_init 192 = .ok (.invokespecial 85, 3) := by decide +kernel
theorem d_TM_init_195 : decode b_TM_init 195 = .ok (.aastore, 1) := by decide +kernel
theorem d_TM_init_196 : decode b_TM_init 196 = .ok (.iinc 1 1, 3) := by decide +kernel
theorem d_TM_init_199 : decode b_TM_init 199 = .ok (.goto (-21), 3) := by decide +kernel
theorem d_TM_init_202 : decode b_TM_init 202 = .ok (.iconst 0, 1) := by decide +kernel
theorem d_TM_init_203 : decode b_TM_init 203 = .ok (.istore_n 1, 1) := by decide +kernel
theorem d_TM_init_204 : decode b_TM_init 204 = .ok (.iload_n 1, 1) := by decide +kernel
theorem d_TM_init_205 : decode b_TM_init 205 = .ok (.sipush 256, 3) := by decide +kernel
theorem d_TM_init_208 : decode b_TM_init 208 = .ok (.if_icmp .ge 22, 3) := by decide +kernel
theorem d_TM_init_211 : decode b_TM_init 211 = .ok (.aload_n 0, 1) := by decide +kernel
theorem d_TM_init_212 : decode b_TM_init 212 = .ok (.getfield 60, 3) := by decide +kernel
theorem d_TM_init_215 : decode b_TM_init 215 = .ok (.iload_n 1, 1) := by decide +kernel
theorem d_TM_init_216 : decode b_TM_init 216 = .ok (.new 48, 3) := by decide +kernel
theorem d_TM_init_219 : decode b_TM_init 219 = .ok (.dup, 1) := by decide +kernel
theorem d_TM_init_220 : decode b_TM_init 220 = .ok (.invokespecial 84, 3) := by decide +kernel
theorem d_TM_init_223 : decode b_TM_init 223 = .ok (.aastore, 1) := by decide +kernel
theorem d_TM_init_224 : decode b_TM_init 224 = .ok (.iinc 1 1, 3) := by decide +kernel
theorem d_TM_init_227 : decode b_TM_init 227 = .ok (.goto (-23), 3) := by decide +kernel
theorem d_TM_init_230 : decode b_TM_init 230 = .ok (.iconst 0, 1) := by decide +kernel
theorem d_TM_init_231 : decode b_TM_init 231 = .ok (.istore_n 1, 1) := by decide +kernel
theorem d_TM_init_232 : decode b_TM_init 232 = .ok (.iload_n 1, 1) := by decide +kernel
theorem d_TM_init_233 : decode b_TM_init 233 = .ok (.iconst 4, 1) := by decide +kernel
theorem d_TM_init_234 : decode b_TM_init 234 = .ok (.if_icmp .ge 22, 3) := by decide +kernel
theorem d_TM_init_237 : decode b_TM_init 237 = .ok (.aload_n 0, 1) := by decide +kernel
theorem d_TM_init_238 : decode b_TM_init 238 = .ok (.getfield 76, 3) := by decide +kernel
theorem d_TM_init_241 : decode b_TM_init 241 = .ok (.iload_n 1, 1) := by decide +kernel
theorem d_TM_init_242 : decode b_TM_init 242 = .ok (.new 74, 3) := by decide +kernel
theorem d_TM_init_245 : decode b_TM_init 245 = .ok (.dup, 1) := by decide +kernel
theorem d_TM_init_246 : decode b_TM_init 246 = .ok (.invokespecial 86, 3) := by decide +kernel
theorem d_TM_init_249 : decode b_TM_init 249 = .ok (.aastore, 1) := by decide +kernel
theorem d_TM_init_250 : decode b_TM_init 250 = .ok (.iinc 1 1, 3) := by decide +kernel
theorem d_TM_init_253 : decode b_TM_init 253 = .ok (.goto (-21), 3) := by decide +kernel
theorem d_TM_init_256 : decode b_TM_init 256 = .ok (.return_, 1) := by decide +kernel
def TMl1 : Nat → Nat → Bool := uL (uL (uL (uL (uL (uL (uL (uL (rL (uL (uL (rL (uL (uL (uL (rL (rL (uL (uL (uL (uL N0 0 0) 1 0) 11 0) 12 0) 2 0 240) 10 0 240) 17 0) 4 0) 15 0) 5 (4 * 0) 4) 4 1) 15 1) 5 (4 * 1) 4) 18 0) 19 0) 20 0) 21 0) 22 0) 23 0) 24 0) 25 0
def TMa1 : Nat → Nat → Nat → Bool := uA (uA (uA (uA (uA (uA (uA (uA (uA (rA (uA (uA (rA (uA (uA (uA (rA (rB (uA (uA (M0) 1 0 0) 1 0 1) 2 0 240) 11 0 240) 0 0 0) 0 0 1) 4 0 0) 15 0 4) 0 0 4) 4 1 0) 15 1 4) 0 0 5) 0 0 6) 0 0 7) 0 0 9) 0 0 10) 0 0 11) 0 0 12) 0 0 17) 0 0 19
def TMs : Sg := si (si (si (sgF (sg0) 240) 1 0 2 240) 0 0 15 (-1)) 0 0 16 (-1)
def TMl2 : Nat → Nat → Bool := rL (rL TMl1 6 0 60) 16 0 60
def TMa2 : Nat → Nat → Nat → Bool := rA (rB TMa1 6 1 60) 19 0 60
def TMl3 : Nat → Nat → Bool := rL TMl2 5 8 16
def TMa3 : Nat → Nat → Nat → Bool := rA TMa2 20 0 16
def TMl4 : Nat → Nat → Bool := rL TMl3 7 0 3
def TMa4 : Nat → Nat → Nat → Bool := rA TMa3 21 0 3
def TMl5 : Nat → Nat → Bool := rL TMl4 5 24 256
def TMa5 : Nat → Nat → Nat → Bool := rA TMa4 22 0 256
def TMl6 : Nat → Nat → Bool := rL TMl5 8 0 4
def TMa6 : Nat → Nat → Nat → Bool := rA TMa5 24 0 4
theorem TMs_S : zS TMs := zS_si (zS_si (zS_si (zS_F zS_0 240) (by decide)) (by decide)) (by decide)
set_option maxHeartbeats 4000000 in
set_option maxRecDepth 100000 in
theorem c_TM_init (l : Launch) (X : GX) (hX : xO X) : Met l y_TM_init (cw y_TM_init b_TM_init 2 none) { frames := 3, cells := 903, slots := 33014, locals := 400 } (PcV X sg0 (uL N0 0 0) M0 (xb X + 1) [.ref (xL X 0 0)]) (QcP X TMs TMl6 TMa6 (xb X + 904) none) 903 33014 (eA X) := by
  refine Met.ofW (cc := b_TM_init) (maxL := 2) (ret := none) (by decide) rfl ?_
  intro p e s m args below meth c s₁ B hml hv
  obtain ⟨⟨ha, hC, hPP, hn, hxb⟩, hV⟩ := hv
  obtain ⟨ls, hl, he⟩ := g_entry (m := m) (N := 2) ha (Nat.le_of_ble_eq_true rfl)
  have hts := tb_of (atoms_spec (ws := cw y_TM_init b_TM_init 2 none) B.pre)
  have F : Fx X p s m c b_TM_init 2 args "TableMachine" := ⟨B.exec, B.bytes, hml, findClass_of_methodNamed B.named, hts, hC⟩
  have hP : SP X sg0 (uL N0 0 0) M0 (xb X + 1) s.heap s.heap [] := ⟨hPP, hn, hxb, fun _ _ => rfl, fun _ h => by cases h⟩
  have hnm := (name_of_methodNamed B.named B.method).1
  have hr := B.returns
  have hlk := B.notSynchronized
  refine W.eq he ?_
  show WP l X { frames := 3, cells := 903, slots := 33014, locals := 400 } TMs TMl6 TMa6 (xb X + 904) none 903 33014 p e s m args below meth c s.heap [] 0 0 (F0 m 0 ls [])
  have hl : lv_has ls 2 [(0, .ref (xL X 0 0))] := hl
  have hS := zS_0
  refine lv_aload_n F.1 F.2.1 d_TM_init_0 rfl (lv_at hl 0 rfl) ?_
  refine p_obj F w_29 hl.1 d_TM_init_1 ⟨Nat.le_of_ble_eq_true rfl, Nat.le_of_ble_eq_true rfl⟩ (Nat.le_of_ble_eq_true rfl) ?_
  refine lv_aload_n F.1 F.2.1 d_TM_init_4 rfl (lv_at hl 0 rfl) ?_
  refine p_new F hP 1 0 (by decide) (hX 1 0 (by decide) (by decide)) (fun j hj => zz_fv (fun j => ⟨rfl, rfl, rfl, rfl⟩) (by decide) j hj) w_32 w_33 w_2 ⟨Nat.le_of_ble_eq_true rfl, Nat.le_of_ble_eq_true rfl⟩ d_TM_init_5 (fun H hP => ?_)
  refine lv_dup F.1 F.2.1 d_TM_init_8 rfl ?_
  refine p_callI (As := []) (rest := [.ref (xL X 1 0), .ref (xL X 0 0)]) F hP (c_Pg_init l X _ _ _ _ rfl (by have h := hX 11 0 (by decide) (by decide); rw [off_11] at h; omega) (by have h := hX 12 0 (by decide) (by decide); rw [off_12] at h; omega) (fun q hq => by have h := hX 2 q (by decide) (by show q < 240 + 0; omega); rw [off_2] at h; omega) (fun q hq => by have h := hX 10 q (by decide) (by show q < 240 + 0; omega); rw [off_10] at h; omega) (fun j => ⟨rfl, rfl, rfl, rfl⟩) (fun j => ⟨rfl, rfl, rfl, rfl⟩) (fun q hq => fun j => ⟨rfl, rfl, rfl, rfl⟩) (fun q hq => fun j => ⟨rfl, rfl, rfl, rfl⟩)) (by omega) rfl ⟨by decide, by decide, q_Pg_init⟩ w_36 w_2 (Or.inl w_34) w_35 ⟨rfl, rfl⟩ ⟨Nat.le_of_ble_eq_true rfl, Nat.le_of_ble_eq_true rfl⟩ hl.1 (Nat.le_of_ble_eq_true rfl) ⟨Nat.le_of_ble_eq_true rfl, Nat.le_of_ble_eq_true rfl⟩ d_TM_init_9 rfl (fun H locs hP => ?_)
  have hS := zS_si (i := 0) (j := 2) (x := 240) (zS_F hS 240) (k := 1) (by decide)
  refine p_putr 0 F hP 0 0 (by decide) (rfl) (by decide) hnm rfl rfl w_170 d_TM_init_12 (by first | rfl | simp [ftk, fti]) (fun H locs hP => ?_)
  refine lv_aload_n F.1 F.2.1 d_TM_init_15 rfl (lv_at hl 0 rfl) ?_
  refine lv_iconst (v := 3) F.1 F.2.1 d_TM_init_16 (by decide) ?_
  refine p_anew F hP 17 0 (by decide) (by decide) (by have h := hX 17 0 (by decide) (by decide); rw [off_17] at h; omega) rfl (fun j _ => zz_ar (zS_zz hS (by decide) (fun j => rfl)) (by decide) j) w_68 wao_69 ⟨by decide, by decide⟩ (by decide) ⟨Nat.le_of_ble_eq_true rfl, Nat.le_of_ble_eq_true rfl⟩ d_TM_init_17 (fun H hP => ?_)
  refine p_putr 0 F hP 1 0 (by decide) (rfl) (by decide) hnm rfl rfl w_171 d_TM_init_20 (by first | rfl | simp [ftk, fti]) (fun H locs hP => ?_)
  refine lv_aload_n F.1 F.2.1 d_TM_init_23 rfl (lv_at hl 0 rfl) ?_
  refine p_new F hP 4 0 (by decide) (by have h := hX 4 0 (by decide) (by decide); rw [off_4] at h; omega) (fun j hj => zz_fv (zS_zz hS (by decide) (fun j => rfl)) (by decide) j hj) w_70 w_71 w_4 ⟨Nat.le_of_ble_eq_true rfl, Nat.le_of_ble_eq_true rfl⟩ d_TM_init_24 (fun H hP => ?_)
  refine lv_dup F.1 F.2.1 d_TM_init_27 rfl ?_
  refine p_callI (As := []) (rest := [.ref (xL X 4 0), .ref (xL X 0 0)]) F hP (c_Rc_init l X _ _ _ _ 0 rfl (by have h := hX 15 0 (by decide) (by decide); rw [off_15] at h; omega) (fun q hq => by have h := hX 5 (4 * 0 + q) (by decide) (by show 4 * 0 + q < 280; omega); rw [off_5] at h; split at h <;> (try split at h) <;> omega) (zS_zz hS (by decide) (fun j => rfl)) (fun q hq => zS_zz hS (by decide) (fun j => rfl))) (by omega) rfl ⟨by decide, by decide, q_Rc_init⟩ w_74 w_4 (Or.inl w_72) w_73 ⟨rfl, rfl⟩ ⟨Nat.le_of_ble_eq_true rfl, Nat.le_of_ble_eq_true rfl⟩ hl.1 (Nat.le_of_ble_eq_true rfl) ⟨Nat.le_of_ble_eq_true rfl, Nat.le_of_ble_eq_true rfl⟩ d_TM_init_28 rfl (fun H locs hP => ?_)
  refine p_putr 0 F hP 4 0 (by decide) (rfl) (by decide) hnm rfl rfl w_174 d_TM_init_31 (by first | rfl | simp [ftk, fti]) (fun H locs hP => ?_)
  refine lv_aload_n F.1 F.2.1 d_TM_init_34 rfl (lv_at hl 0 rfl) ?_
  refine p_new F hP 4 1 (by decide) (by have h := hX 4 1 (by decide) (by decide); rw [off_4] at h; omega) (fun j hj => zz_fv (zS_zz hS (by decide) (fun j => rfl)) (by decide) j hj) w_70 w_71 w_4 ⟨Nat.le_of_ble_eq_true rfl, Nat.le_of_ble_eq_true rfl⟩ d_TM_init_35 (fun H hP => ?_)
  refine lv_dup F.1 F.2.1 d_TM_init_38 rfl ?_
  refine p_callI (As := []) (rest := [.ref (xL X 4 1), .ref (xL X 0 0)]) F hP (c_Rc_init l X _ _ _ _ 1 rfl (by have h := hX 15 1 (by decide) (by decide); rw [off_15] at h; omega) (fun q hq => by have h := hX 5 (4 * 1 + q) (by decide) (by show 4 * 1 + q < 280; omega); rw [off_5] at h; split at h <;> (try split at h) <;> omega) (zS_zz hS (by decide) (fun j => rfl)) (fun q hq => zS_zz hS (by decide) (fun j => rfl))) (by omega) rfl ⟨by decide, by decide, q_Rc_init⟩ w_74 w_4 (Or.inl w_72) w_73 ⟨rfl, rfl⟩ ⟨Nat.le_of_ble_eq_true rfl, Nat.le_of_ble_eq_true rfl⟩ hl.1 (Nat.le_of_ble_eq_true rfl) ⟨Nat.le_of_ble_eq_true rfl, Nat.le_of_ble_eq_true rfl⟩ d_TM_init_39 rfl (fun H locs hP => ?_)
  refine p_putr 0 F hP 5 0 (by decide) (rfl) (by decide) hnm rfl rfl w_175 d_TM_init_42 (by first | rfl | simp [ftk, fti]) (fun H locs hP => ?_)
  refine lv_aload_n F.1 F.2.1 d_TM_init_45 rfl (lv_at hl 0 rfl) ?_
  refine p_values (rest := [.ref (xL X 0 0)]) F hP (by have h := hX 18 0 (by decide) (by decide); rw [off_18] at h; omega) hV hl.1 ⟨Nat.le_of_ble_eq_true rfl, Nat.le_of_ble_eq_true rfl⟩ (Nat.le_of_ble_eq_true rfl) ⟨Nat.le_of_ble_eq_true rfl, Nat.le_of_ble_eq_true rfl⟩ w_99 d_TM_init_46 (fun H locs hP => ?_)
  refine p_putr 0 F hP 6 0 (by decide) (rfl) (by decide) hnm rfl rfl w_176 d_TM_init_49 (by first | rfl | simp [ftk, fti]) (fun H locs hP => ?_)
  refine lv_aload_n F.1 F.2.1 d_TM_init_52 rfl (lv_at hl 0 rfl) ?_
  refine lv_bipush (v := 60) F.1 F.2.1 d_TM_init_53 (by decide) ?_
  refine p_anew F hP 19 0 (by decide) (by decide) (by have h := hX 19 0 (by decide) (by decide); rw [off_19] at h; omega) rfl (fun j _ => zz_ar (zS_zz hS (by decide) (fun j => rfl)) (by decide) j) w_112 wao_113 ⟨by decide, by decide⟩ (by decide) ⟨Nat.le_of_ble_eq_true rfl, Nat.le_of_ble_eq_true rfl⟩ d_TM_init_55 (fun H hP => ?_)
  refine p_putr 0 F hP 7 0 (by decide) (rfl) (by decide) hnm rfl rfl w_177 d_TM_init_58 (by first | rfl | simp [ftk, fti]) (fun H locs hP => ?_)
  refine lv_aload_n F.1 F.2.1 d_TM_init_61 rfl (lv_at hl 0 rfl) ?_
  refine lv_bipush (v := 16) F.1 F.2.1 d_TM_init_62 (by decide) ?_
  refine p_anew F hP 20 0 (by decide) (by decide) (by have h := hX 20 0 (by decide) (by decide); rw [off_20] at h; omega) rfl (fun j _ => zz_ar (zS_zz hS (by decide) (fun j => rfl)) (by decide) j) w_114 wao_77 ⟨by decide, by decide⟩ (by decide) ⟨Nat.le_of_ble_eq_true rfl, Nat.le_of_ble_eq_true rfl⟩ d_TM_init_64 (fun H hP => ?_)
  refine p_putr 0 F hP 9 0 (by decide) (rfl) (by decide) hnm rfl rfl w_179 d_TM_init_67 (by first | rfl | simp [ftk, fti]) (fun H locs hP => ?_)
  refine lv_aload_n F.1 F.2.1 d_TM_init_70 rfl (lv_at hl 0 rfl) ?_
  refine lv_iconst (v := 3) F.1 F.2.1 d_TM_init_71 (by decide) ?_
  refine p_anew F hP 21 0 (by decide) (by decide) (by have h := hX 21 0 (by decide) (by decide); rw [off_21] at h; omega) rfl (fun j _ => zz_ar (zS_zz hS (by decide) (fun j => rfl)) (by decide) j) w_115 wao_116 ⟨by decide, by decide⟩ (by decide) ⟨Nat.le_of_ble_eq_true rfl, Nat.le_of_ble_eq_true rfl⟩ d_TM_init_72 (fun H hP => ?_)
  refine p_putr 0 F hP 10 0 (by decide) (rfl) (by decide) hnm rfl rfl w_180 d_TM_init_75 (by first | rfl | simp [ftk, fti]) (fun H locs hP => ?_)
  refine lv_aload_n F.1 F.2.1 d_TM_init_78 rfl (lv_at hl 0 rfl) ?_
  refine lv_sipush (v := 256) F.1 F.2.1 d_TM_init_79 (by decide) ?_
  refine p_anew F hP 22 0 (by decide) (by decide) (by have h := hX 22 0 (by decide) (by decide); rw [off_22] at h; omega) rfl (fun j _ => zz_ar (zS_zz hS (by decide) (fun j => rfl)) (by decide) j) w_114 wao_77 ⟨by decide, by decide⟩ (by decide) ⟨Nat.le_of_ble_eq_true rfl, Nat.le_of_ble_eq_true rfl⟩ d_TM_init_82 (fun H hP => ?_)
  refine p_putr 0 F hP 11 0 (by decide) (rfl) (by decide) hnm rfl rfl w_181 d_TM_init_85 (by first | rfl | simp [ftk, fti]) (fun H locs hP => ?_)
  refine lv_aload_n F.1 F.2.1 d_TM_init_88 rfl (lv_at hl 0 rfl) ?_
  refine lv_bipush (v := 64) F.1 F.2.1 d_TM_init_89 (by decide) ?_
  refine p_newa F hP 23 0 (by decide) (by decide) (by have h := hX 23 0 (by decide) (by decide); rw [off_23] at h; omega) rfl rfl (fun j _ => zz_av (zS_zz hS (by decide) (fun j => rfl)) (by decide) (by decide) (by decide) j) wac_int ⟨(by decide : Int32.toNatClampNeg 64 = 64), by decide⟩ (by exact (by decide : 64 ≤ 1000)) ⟨Nat.le_of_ble_eq_true rfl, Nat.le_of_ble_eq_true rfl⟩ d_TM_init_91 (fun H hP => ?_)
  refine p_putr 0 F hP 12 0 (by decide) (rfl) (by decide) hnm rfl rfl w_182 d_TM_init_93 (by first | rfl | simp [ftk, fti]) (fun H locs hP => ?_)
  refine lv_aload_n F.1 F.2.1 d_TM_init_96 rfl (lv_at hl 0 rfl) ?_
  refine lv_iconst (v := (-1)) F.1 F.2.1 d_TM_init_97 (by decide) ?_
  refine p_puti 0 F hP 15 0 (by decide) (rfl) (by decide) hnm rfl rfl w_185 d_TM_init_98 (fun H locs hP => ?_)
  have hS := zS_si (i := 0) (j := 15) (x := -1) hS (k := 0) (by decide)
  refine lv_aload_n F.1 F.2.1 d_TM_init_101 rfl (lv_at hl 0 rfl) ?_
  refine lv_iconst (v := (-1)) F.1 F.2.1 d_TM_init_102 (by decide) ?_
  refine p_puti 0 F hP 16 0 (by decide) (rfl) (by decide) hnm rfl rfl w_186 d_TM_init_103 (fun H locs hP => ?_)
  have hS := zS_si (i := 0) (j := 16) (x := -1) hS (k := 0) (by decide)
  refine lv_aload_n F.1 F.2.1 d_TM_init_106 rfl (lv_at hl 0 rfl) ?_
  refine lv_iconst (v := 4) F.1 F.2.1 d_TM_init_107 (by decide) ?_
  refine p_anew F hP 24 0 (by decide) (by decide) (by have h := hX 24 0 (by decide) (by decide); rw [off_24] at h; omega) rfl (fun j _ => zz_ar (zS_zz hS (by decide) (fun j => rfl)) (by decide) j) w_117 wao_118 ⟨by decide, by decide⟩ (by decide) ⟨Nat.le_of_ble_eq_true rfl, Nat.le_of_ble_eq_true rfl⟩ d_TM_init_108 (fun H hP => ?_)
  refine p_putr 0 F hP 17 0 (by decide) (rfl) (by decide) hnm rfl rfl w_187 d_TM_init_111 (by first | rfl | simp [ftk, fti]) (fun H locs hP => ?_)
  refine lv_aload_n F.1 F.2.1 d_TM_init_114 rfl (lv_at hl 0 rfl) ?_
  refine lv_bipush (v := 8) F.1 F.2.1 d_TM_init_115 (by decide) ?_
  refine p_newa F hP 25 0 (by decide) (by decide) (by have h := hX 25 0 (by decide) (by decide); rw [off_25] at h; omega) rfl rfl (fun j _ => zz_av (zS_zz hS (by decide) (fun j => rfl)) (by decide) (by decide) (by decide) j) wac_int ⟨(by decide : Int32.toNatClampNeg 8 = 8), by decide⟩ (by exact (by decide : 8 ≤ 1000)) ⟨Nat.le_of_ble_eq_true rfl, Nat.le_of_ble_eq_true rfl⟩ d_TM_init_117 (fun H hP => ?_)
  refine p_putr 0 F hP 19 0 (by decide) (rfl) (by decide) hnm rfl rfl w_189 d_TM_init_119 (by first | rfl | simp [ftk, fti]) (fun H locs hP => ?_)
  have hP : SP X TMs TMl1 TMa1 (xb X + 505) s.heap H locs := hP
  have hS := TMs_S
  refine lv_iconst (v := 0) F.1 F.2.1 d_TM_init_122 (by decide) ?_
  refine lv_istore_n F.1 F.2.1 d_TM_init_123 rfl hl (by decide) rfl (fun ls hl => ?_)
  have hl : lv_has ls 2 [(1, .int (nI 0)), (0, .ref (xL X 0 0))] := hl
  refine p_fill (σ := TMs) (n := 60) (w := 2) (sl := 5) (mcn := 1) (msn := 3) (N := xb X + 505) (cells := 504) (slots := 32145) (kt := 0) (it := 0) (jf := 7) (karr := 19) (ko := 6) (q0 := 124) (q1 := 127) (qx := 149) (oi := fun q => q) (AlI := fun q => rL (rL TMl1 6 0 q) 16 0 q) (AlM := fun q => uL (uL (rL (rL TMl1 6 0 q) 16 0 q) 6 q) 16 q) (AI := fun q => rA (rB TMa1 6 1 q) 19 0 q) (AM := fun q => uA (rA (rB TMa1 6 1 q) 19 0 q) 6 q 1) F (by decide) (by decide) (by decide) ⟨by decide, by decide⟩ rfl rfl rfl rfl (by decide) rfl (fun q hq => ?_) (fun q hq => ?_) (fun q hq => ?_) (fun q hq => ?_) (fun q hq => ?_) (fun q hq => ?_) (fun q hq => ?_) (fun q hq => ?_) (fun q hq => ?_) rfl rfl ⟨Nat.le_of_ble_eq_true rfl, Nat.le_of_ble_eq_true rfl⟩ w_112 w_119 w_8 w_177 (fun H locs cells slots ls rest k => lv_bipush (v := nI 60) F.1 F.2.1 d_TM_init_125 (by decide) k) (fun q hq H locs ls rest hsz hW hP k => ?_) d_TM_init_124 d_TM_init_127 rfl d_TM_init_130 d_TM_init_131 d_TM_init_134 d_TM_init_135 d_TM_init_138 d_TM_init_142 d_TM_init_143 d_TM_init_146 rfl (fun H locs ls hP hl => ?_) 60 0 rfl H locs ls ?_ hl
  · unfold fvP
    rw [if_neg (fun z => by have h9 : rA (rB TMa1 6 1 q) 19 0 q 0 0 7 = true := rA_iff.mpr (Or.inl (rB_iff.mpr (Or.inl rfl))); rw [h9] at z; cases z.2)]
    rfl
  · exact rL_iff.mpr (Or.inl (rL_iff.mpr (Or.inl rfl)))
  · exact uL_iff.mpr (Or.inl (uL_iff.mpr (Or.inl (rL_iff.mpr (Or.inl (rL_iff.mpr (Or.inl rfl)))))))
  · exact uL_iff.mpr (Or.inl (uL_iff.mpr (Or.inr ⟨rfl, rfl⟩)))
  · rfl
  · have h := hX 6 q (by decide) (by show q < 60; omega)
    rw [off_6] at h
    show xL X 6 q = xb X + 505 + 2 * q
    omega
  · refine zS_zz hS (by decide) (fun j => bfalse (fun z => ?_))
    rw [rA_iff, rB_iff] at z
    rcases z with (z | z) | z
    · exact absurd (show TMa1 6 q j = true from z) (by rw [show TMa1 6 q j = false from rfl]; decide)
    · omega
    · omega
  · show rL (rL TMl1 6 0 (q + 1)) 16 0 (q + 1) = _
    rw [rL_s, rL_s, uL_rL, Nat.zero_add]
  · show rA (rB TMa1 6 1 (q + 1)) 19 0 (q + 1) = _
    rw [rA_s, rB_s, uA_rA]
  · refine p_callI (As := []) (rest := rest) F hP (c_In_init l X TMs _ _ _ q (uL_iff.mpr (Or.inr ⟨rfl, rfl⟩)) (by have h := hX 16 q (by decide) (by show q < 60; omega); rw [off_16] at h; omega) (zS_zz hS (by decide) (fun j => rfl))) (by omega) rfl ⟨by decide, by decide, q_In_init⟩ w_122 w_8 (Or.inr w_120) w_121 ⟨rfl, rfl⟩ ⟨Nat.le_of_ble_eq_true rfl, Nat.le_of_ble_eq_true rfl⟩ hsz hW ⟨by simp only; omega, by simp only [fn]; omega⟩ d_TM_init_139 rfl (fun H locs hP => k H locs hP)
  · have hP : SP X TMs TMl2 TMa2 (xb X + 625) s.heap H locs := hP
    refine lv_iconst (v := 0) F.1 F.2.1 d_TM_init_149 (by decide) ?_
    refine lv_istore_n F.1 F.2.1 d_TM_init_150 rfl hl (by decide) rfl (fun ls hl => ?_)
    have hl : lv_has ls 2 [(1, .int (nI 0)), (0, .ref (xL X 0 0))] := hl
    refine p_fill (σ := TMs) (n := 16) (w := 1) (sl := 2) (mcn := 0) (msn := 0) (N := xb X + 625) (cells := 624) (slots := 32445) (kt := 0) (it := 0) (jf := 9) (karr := 20) (ko := 5) (q0 := 151) (q1 := 154) (qx := 176) (oi := fun q => 8 + q) (AlI := rL TMl2 5 8) (AlM := fun q => uL (rL TMl2 5 8 q) 5 (8 + q)) (AI := rA TMa2 20 0) (AM := rA TMa2 20 0) F (by decide) (by decide) (by decide) ⟨by decide, by decide⟩ rfl rfl rfl rfl (by decide) rfl (fun q hq => ?_) (fun q hq => ?_) (fun q hq => ?_) (fun q hq => ?_) (fun q hq => ?_) (fun q hq => ?_) (fun q hq => ?_) (fun q hq => ?_) (fun q hq => ?_) rfl rfl ⟨Nat.le_of_ble_eq_true rfl, Nat.le_of_ble_eq_true rfl⟩ w_114 w_78 w_5 w_179 (fun H locs cells slots ls rest k => lv_bipush (v := nI 16) F.1 F.2.1 d_TM_init_152 (by decide) k) (fun q hq H locs ls rest hsz hW hP k => ?_) d_TM_init_151 d_TM_init_154 rfl d_TM_init_157 d_TM_init_158 d_TM_init_161 d_TM_init_162 d_TM_init_165 d_TM_init_169 d_TM_init_170 d_TM_init_173 rfl (fun H locs ls hP hl => ?_) 16 0 rfl H locs ls ?_ hl
    · unfold fvP
      rw [if_neg (fun z => by have h9 : rA TMa2 20 0 q 0 0 9 = true := rA_iff.mpr (Or.inl rfl); rw [h9] at z; cases z.2)]
      rfl
    · exact rL_iff.mpr (Or.inl rfl)
    · exact uL_iff.mpr (Or.inl (rL_iff.mpr (Or.inl rfl)))
    · exact uL_iff.mpr (Or.inr ⟨rfl, rfl⟩)
    · rfl
    · have h := hX 5 (8 + q) (by decide) (by show (8 + q) < 280; omega)
      rw [off_5] at h
      rw [if_neg (by omega), if_neg (by omega), if_pos (by omega)] at h
      show xL X 5 (8 + q) = xb X + 625 + 1 * q
      omega
    · exact zS_zz hS (by decide) (fun j => rfl)
    · exact rL_s _ _ _ q
    · exact rA_s _ _ _ q
    · refine p_callI (As := []) (rest := rest) F hP (c_Vl_init l X TMs _ _ _ _) (by omega) rfl ⟨by decide, by decide, q_Vl_init⟩ w_81 w_5 (Or.inr w_133) w_80 ⟨rfl, rfl⟩ ⟨Nat.le_of_ble_eq_true rfl, Nat.le_of_ble_eq_true rfl⟩ hsz hW ⟨by simp only; omega, by simp only [fn]; omega⟩ d_TM_init_166 rfl (fun H locs hP => k H locs hP)
    · have hP : SP X TMs TMl3 TMa3 (xb X + 641) s.heap H locs := hP
      refine lv_iconst (v := 0) F.1 F.2.1 d_TM_init_176 (by decide) ?_
      refine lv_istore_n F.1 F.2.1 d_TM_init_177 rfl hl (by decide) rfl (fun ls hl => ?_)
      have hl : lv_has ls 2 [(1, .int (nI 0)), (0, .ref (xL X 0 0))] := hl
      refine p_fill (σ := TMs) (n := 3) (w := 1) (sl := 3) (mcn := 0) (msn := 0) (N := xb X + 641) (cells := 640) (slots := 32477) (kt := 0) (it := 0) (jf := 10) (karr := 21) (ko := 7) (q0 := 178) (q1 := 180) (qx := 202) (oi := fun q => 0 + q) (AlI := rL TMl3 7 0) (AlM := fun q => uL (rL TMl3 7 0 q) 7 (0 + q)) (AI := rA TMa3 21 0) (AM := rA TMa3 21 0) F (by decide) (by decide) (by decide) ⟨by decide, by decide⟩ rfl rfl rfl rfl (by decide) rfl (fun q hq => ?_) (fun q hq => ?_) (fun q hq => ?_) (fun q hq => ?_) (fun q hq => ?_) (fun q hq => ?_) (fun q hq => ?_) (fun q hq => ?_) (fun q hq => ?_) rfl rfl ⟨Nat.le_of_ble_eq_true rfl, Nat.le_of_ble_eq_true rfl⟩ w_115 w_134 w_9 w_180 (fun H locs cells slots ls rest k => lv_iconst (v := nI 3) F.1 F.2.1 d_TM_init_179 (by decide) k) (fun q hq H locs ls rest hsz hW hP k => ?_) d_TM_init_178 d_TM_init_180 rfl d_TM_init_183 d_TM_init_184 d_TM_init_187 d_TM_init_188 d_TM_init_191 d_TM_init_195 d_TM_init_196 d_TM_init_199 rfl (fun H locs ls hP hl => ?_) 3 0 rfl H locs ls ?_ hl
      · unfold fvP
        rw [if_neg (fun z => by have h9 : rA TMa3 21 0 q 0 0 10 = true := rA_iff.mpr (Or.inl rfl); rw [h9] at z; cases z.2)]
        rfl
      · exact rL_iff.mpr (Or.inl rfl)
      · exact uL_iff.mpr (Or.inl (rL_iff.mpr (Or.inl rfl)))
      · exact uL_iff.mpr (Or.inr ⟨rfl, rfl⟩)
      · exact (Nat.zero_add q).symm
      · have h := hX 7 (0 + q) (by decide) (by show (0 + q) < 3; omega)
        rw [off_7] at h
        show xL X 7 (0 + q) = xb X + 641 + 1 * q
        omega
      · exact zS_zz hS (by decide) (fun j => rfl)
      · exact rL_s _ _ _ q
      · exact rA_s _ _ _ q
      · refine p_callI (As := []) (rest := rest) F hP (c_Cu_init l X TMs _ _ _ _) (by omega) rfl ⟨by decide, by decide, q_Cu_init⟩ w_137 w_9 (Or.inr w_135) w_136 ⟨rfl, rfl⟩ ⟨Nat.le_of_ble_eq_true rfl, Nat.le_of_ble_eq_true rfl⟩ hsz hW ⟨by simp only; omega, by simp only [fn]; omega⟩ d_TM_init_192 rfl (fun H locs hP => k H locs hP)
      · have hP : SP X TMs TMl4 TMa4 (xb X + 644) s.heap H locs := hP
        refine lv_iconst (v := 0) F.1 F.2.1 d_TM_init_202 (by decide) ?_
        refine lv_istore_n F.1 F.2.1 d_TM_init_203 rfl hl (by decide) rfl (fun ls hl => ?_)
        have hl : lv_has ls 2 [(1, .int (nI 0)), (0, .ref (xL X 0 0))] := hl
        refine p_fill (σ := TMs) (n := 256) (w := 1) (sl := 2) (mcn := 0) (msn := 0) (N := xb X + 644) (cells := 643) (slots := 32486) (kt := 0) (it := 0) (jf := 11) (karr := 22) (ko := 5) (q0 := 204) (q1 := 208) (qx := 230) (oi := fun q => 24 + q) (AlI := rL TMl4 5 24) (AlM := fun q => uL (rL TMl4 5 24 q) 5 (24 + q)) (AI := rA TMa4 22 0) (AM := rA TMa4 22 0) F (by decide) (by decide) (by decide) ⟨by decide, by decide⟩ rfl rfl rfl rfl (by decide) rfl (fun q hq => ?_) (fun q hq => ?_) (fun q hq => ?_) (fun q hq => ?_) (fun q hq => ?_) (fun q hq => ?_) (fun q hq => ?_) (fun q hq => ?_) (fun q hq => ?_) rfl rfl ⟨Nat.le_of_ble_eq_true rfl, Nat.le_of_ble_eq_true rfl⟩ w_114 w_78 w_5 w_181 (fun H locs cells slots ls rest k => lv_sipush (v := nI 256) F.1 F.2.1 d_TM_init_205 (by decide) k) (fun q hq H locs ls rest hsz hW hP k => ?_) d_TM_init_204 d_TM_init_208 rfl d_TM_init_211 d_TM_init_212 d_TM_init_215 d_TM_init_216 d_TM_init_219 d_TM_init_223 d_TM_init_224 d_TM_init_227 rfl (fun H locs ls hP hl => ?_) 256 0 rfl H locs ls ?_ hl
        · unfold fvP
          rw [if_neg (fun z => by have h9 : rA TMa4 22 0 q 0 0 11 = true := rA_iff.mpr (Or.inl rfl); rw [h9] at z; cases z.2)]
          rfl
        · exact rL_iff.mpr (Or.inl rfl)
        · exact uL_iff.mpr (Or.inl (rL_iff.mpr (Or.inl rfl)))
        · exact uL_iff.mpr (Or.inr ⟨rfl, rfl⟩)
        · rfl
        · have h := hX 5 (24 + q) (by decide) (by show (24 + q) < 280; omega)
          rw [off_5] at h
          rw [if_neg (by omega), if_neg (by omega), if_neg (by omega)] at h
          show xL X 5 (24 + q) = xb X + 644 + 1 * q
          omega
        · exact zS_zz hS (by decide) (fun j => rfl)
        · exact rL_s _ _ _ q
        · exact rA_s _ _ _ q
        · refine p_callI (As := []) (rest := rest) F hP (c_Vl_init l X TMs _ _ _ _) (by omega) rfl ⟨by decide, by decide, q_Vl_init⟩ w_81 w_5 (Or.inr w_133) w_80 ⟨rfl, rfl⟩ ⟨Nat.le_of_ble_eq_true rfl, Nat.le_of_ble_eq_true rfl⟩ hsz hW ⟨by simp only; omega, by simp only [fn]; omega⟩ d_TM_init_220 rfl (fun H locs hP => k H locs hP)
        · have hP : SP X TMs TMl5 TMa5 (xb X + 900) s.heap H locs := hP
          refine lv_iconst (v := 0) F.1 F.2.1 d_TM_init_230 (by decide) ?_
          refine lv_istore_n F.1 F.2.1 d_TM_init_231 rfl hl (by decide) rfl (fun ls hl => ?_)
          have hl : lv_has ls 2 [(1, .int (nI 0)), (0, .ref (xL X 0 0))] := hl
          refine p_fill (σ := TMs) (n := 4) (w := 1) (sl := 4) (mcn := 0) (msn := 0) (N := xb X + 900) (cells := 899) (slots := 32998) (kt := 0) (it := 0) (jf := 17) (karr := 24) (ko := 8) (q0 := 232) (q1 := 234) (qx := 256) (oi := fun q => 0 + q) (AlI := rL TMl5 8 0) (AlM := fun q => uL (rL TMl5 8 0 q) 8 (0 + q)) (AI := rA TMa5 24 0) (AM := rA TMa5 24 0) F (by decide) (by decide) (by decide) ⟨by decide, by decide⟩ rfl rfl rfl rfl (by decide) rfl (fun q hq => ?_) (fun q hq => ?_) (fun q hq => ?_) (fun q hq => ?_) (fun q hq => ?_) (fun q hq => ?_) (fun q hq => ?_) (fun q hq => ?_) (fun q hq => ?_) rfl rfl ⟨Nat.le_of_ble_eq_true rfl, Nat.le_of_ble_eq_true rfl⟩ w_117 w_152 w_10 w_187 (fun H locs cells slots ls rest k => lv_iconst (v := nI 4) F.1 F.2.1 d_TM_init_233 (by decide) k) (fun q hq H locs ls rest hsz hW hP k => ?_) d_TM_init_232 d_TM_init_234 rfl d_TM_init_237 d_TM_init_238 d_TM_init_241 d_TM_init_242 d_TM_init_245 d_TM_init_249 d_TM_init_250 d_TM_init_253 rfl (fun H locs ls hP hl => ?_) 4 0 rfl H locs ls ?_ hl
          · unfold fvP
            rw [if_neg (fun z => by have h9 : rA TMa5 24 0 q 0 0 17 = true := rA_iff.mpr (Or.inl rfl); rw [h9] at z; cases z.2)]
            rfl
          · exact rL_iff.mpr (Or.inl rfl)
          · exact uL_iff.mpr (Or.inl (rL_iff.mpr (Or.inl rfl)))
          · exact uL_iff.mpr (Or.inr ⟨rfl, rfl⟩)
          · exact (Nat.zero_add q).symm
          · have h := hX 8 (0 + q) (by decide) (by show (0 + q) < 4; omega)
            rw [off_8] at h
            show xL X 8 (0 + q) = xb X + 900 + 1 * q
            omega
          · exact zS_zz hS (by decide) (fun j => rfl)
          · exact rL_s _ _ _ q
          · exact rA_s _ _ _ q
          · refine p_callI (As := []) (rest := rest) F hP (c_Cd_init l X TMs _ _ _ _) (by omega) rfl ⟨by decide, by decide, q_Cd_init⟩ w_155 w_10 (Or.inr w_153) w_154 ⟨rfl, rfl⟩ ⟨Nat.le_of_ble_eq_true rfl, Nat.le_of_ble_eq_true rfl⟩ hsz hW ⟨by simp only; omega, by simp only [fn]; omega⟩ d_TM_init_246 rfl (fun H locs hP => k H locs hP)
          · have hP : SP X TMs TMl6 TMa6 (xb X + 904) s.heap H locs := hP
            exact p_vret F hP hr hlk d_TM_init_256
          · rw [rL_0, rA_0]
            exact hP
        · rw [rL_0, rA_0]
          exact hP
      · rw [rL_0, rA_0]
        exact hP
    · rw [rL_0, rA_0]
      exact hP
  · show SP X TMs (rL (rL TMl1 6 0 0) 16 0 0) (rA (rB TMa1 6 1 0) 19 0 0) _ _ _ _
    rw [rL_0, rL_0, rA_0, rB_0]
    exact hP
