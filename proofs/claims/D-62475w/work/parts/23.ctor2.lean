/-! ranges; Record and Pages -/
def rL (Al : Nat → Nat → Bool) (k lo n : Nat) : Nat → Nat → Bool := fun a b => Al a b || (a == k && (decide (lo ≤ b) && decide (b < lo + n)))
def rA (A : Nat → Nat → Nat → Bool) (k i n : Nat) : Nat → Nat → Nat → Bool := fun a b c => A a b c || (a == k && (b == i && decide (c < n)))
def rB (A : Nat → Nat → Nat → Bool) (k j n : Nat) : Nat → Nat → Nat → Bool := fun a b c => A a b c || (a == k && (decide (b < n) && c == j))
theorem rL_iff {Al : Nat → Nat → Bool} {k lo n a b : Nat} : rL Al k lo n a b = true ↔ Al a b = true ∨ (a = k ∧ lo ≤ b ∧ b < lo + n) := by simp [rL]
theorem rA_iff {A : Nat → Nat → Nat → Bool} {k i n a b c : Nat} : rA A k i n a b c = true ↔ A a b c = true ∨ (a = k ∧ b = i ∧ c < n) := by simp [rA]
theorem rB_iff {A : Nat → Nat → Nat → Bool} {k j n a b c : Nat} : rB A k j n a b c = true ↔ A a b c = true ∨ (a = k ∧ b < n ∧ c = j) := by simp [rB]
theorem eL {f g : Nat → Nat → Bool} (h : ∀ a b, f a b = true ↔ g a b = true) : f = g := funext fun a => funext fun b => Bool.eq_iff_iff.mpr (h a b)
theorem eA3 {f g : Nat → Nat → Nat → Bool} (h : ∀ a b c, f a b c = true ↔ g a b c = true) : f = g := funext fun a => funext fun b => funext fun c => Bool.eq_iff_iff.mpr (h a b c)
theorem or_o {P Q R : Prop} (h : Q ↔ R) : (P ∨ Q) ↔ (P ∨ R) := or_congr Iff.rfl h
theorem rL_0 (Al : Nat → Nat → Bool) (k lo : Nat) : rL Al k lo 0 = Al := eL fun a b => by
  rw [rL_iff]
  exact ⟨fun h => h.elim id (fun z => by omega), Or.inl⟩
theorem rA_0 (A : Nat → Nat → Nat → Bool) (k i : Nat) : rA A k i 0 = A := eA3 fun a b c => by
  rw [rA_iff]
  exact ⟨fun h => h.elim id (fun z => by omega), Or.inl⟩
theorem rB_0 (A : Nat → Nat → Nat → Bool) (k j : Nat) : rB A k j 0 = A := eA3 fun a b c => by
  rw [rB_iff]
  exact ⟨fun h => h.elim id (fun z => by omega), Or.inl⟩
theorem rL_s (Al : Nat → Nat → Bool) (k lo n : Nat) : rL Al k lo (n + 1) = uL (rL Al k lo n) k (lo + n) := eL fun a b => by
  rw [rL_iff, uL_iff, rL_iff, or_assoc]
  exact or_o (by omega)
theorem rA_s (A : Nat → Nat → Nat → Bool) (k i n : Nat) : rA A k i (n + 1) = uA (rA A k i n) k i n := eA3 fun a b c => by
  rw [rA_iff, uA_iff, rA_iff, or_assoc]
  exact or_o (by omega)
theorem rB_s (A : Nat → Nat → Nat → Bool) (k j n : Nat) : rB A k j (n + 1) = uA (rB A k j n) k n j := eA3 fun a b c => by
  rw [rB_iff, uA_iff, rB_iff, or_assoc]
  exact or_o (by omega)
theorem uL_rL (Al : Nat → Nat → Bool) (k lo n k' i' : Nat) : rL (uL Al k' i') k lo n = uL (rL Al k lo n) k' i' := eL fun a b => by
  rw [rL_iff, uL_iff, uL_iff, rL_iff, or_assoc, or_assoc]
  exact or_o or_comm
theorem uA_rA (A : Nat → Nat → Nat → Bool) (k i n k' i' j' : Nat) : rA (uA A k' i' j') k i n = uA (rA A k i n) k' i' j' := eA3 fun a b c => by
  rw [rA_iff, uA_iff, uA_iff, rA_iff, or_assoc, or_assoc]
  exact or_o or_comm
theorem bfalse {b : Bool} (h : ¬ b = true) : b = false := by cases b <;> simp_all
theorem d_Rc_init_0 : decode b_Rc_init 0 = .ok (.aload_n 0, 1) := by decide +kernel
theorem d_Rc_init_1 : decode b_Rc_init 1 = .ok (.invokespecial 3, 3) := by decide +kernel
theorem d_Rc_init_4 : decode b_Rc_init 4 = .ok (.aload_n 0, 1) := by decide +kernel
theorem d_Rc_init_5 : decode b_Rc_init 5 = .ok (.iconst 4, 1) := by decide +kernel
theorem d_Rc_init_6 : decode b_Rc_init 6 = .ok (.anewarray 9, 3) := by decide +kernel
theorem d_Rc_init_9 : decode b_Rc_init 9 = .ok (.putfield 11, 3) := by decide +kernel
theorem d_Rc_init_12 : decode b_Rc_init 12 = .ok (.iconst 0, 1) := by decide +kernel
theorem d_Rc_init_13 : decode b_Rc_init 13 = .ok (.istore_n 1, 1) := by decide +kernel
theorem d_Rc_init_14 : decode b_Rc_init 14 = .ok (.iload_n 1, 1) := by decide +kernel
theorem d_Rc_init_15 : decode b_Rc_init 15 = .ok (.iconst 4, 1) := by decide +kernel
theorem d_Rc_init_16 : decode b_Rc_init 16 = .ok (.if_icmp .ge 22, 3) := by decide +kernel
theorem d_Rc_init_19 : decode b_Rc_init 19 = .ok (.aload_n 0, 1) := by decide +kernel
theorem d_Rc_init_20 : decode b_Rc_init 20 = .ok (.getfield 11, 3) := by decide +kernel
theorem d_Rc_init_23 : decode b_Rc_init 23 = .ok (.iload_n 1, 1) := by decide +kernel
theorem d_Rc_init_24 : decode b_Rc_init 24 = .ok (.new 9, 3) := by decide +kernel
theorem d_Rc_init_27 : decode b_Rc_init 27 = .ok (.dup, 1) := by decide +kernel
theorem d_Rc_init_28 : decode b_Rc_init 28 = .ok (.invokespecial 17, 3) := by decide +kernel
theorem d_Rc_init_31 : decode b_Rc_init 31 = .ok (.aastore, 1) := by decide +kernel
theorem d_Rc_init_32 : decode b_Rc_init 32 = .ok (.iinc 1 1, 3) := by decide +kernel
theorem d_Rc_init_35 : decode b_Rc_init 35 = .ok (.goto (-21), 3) := by decide +kernel
theorem d_Rc_init_38 : decode b_Rc_init 38 = .ok (.return_, 1) := by decide +kernel
theorem c_Rc_init (l : Launch) (X : GX) (σ : Sg) (Al : Nat → Nat → Bool) (A : Nat → Nat → Nat → Bool) (N i : Nat) (hal : Al 4 i = true) (hx : xL X 15 i = N) (hx2 : ∀ q, q < 4 → xL X 5 (4 * i + q) = N + 1 + q) (hz : zz σ A 15 i) (hz2 : ∀ q, q < 4 → zz σ A 5 (4 * i + q)) :
    Met l y_Rc_init (cw y_Rc_init b_Rc_init 2 none) { frames := 2, cells := 5, slots := 12, locals := 200 } (PcP X σ Al A N [.ref (xL X 4 i)]) (QcP X σ (rL (uL Al 15 i) 5 (4 * i) 4) (rA (uA A 4 i 0) 15 i 4) (N + 5) none) 5 12 (eA X) := by
  refine p_head (own := "TableMachine$Record") (by decide) rfl (Nat.le_of_ble_eq_true rfl) ?_
  intro p e s m args below meth c ls F hr hlk hnm hP hl
  have hl : lv_has ls 2 [(0, .ref (xL X 4 i))] := hl
  refine lv_aload_n F.1 F.2.1 d_Rc_init_0 rfl (lv_at hl 0 rfl) ?_
  refine p_obj F w_75 hl.1 d_Rc_init_1 ⟨Nat.le_of_ble_eq_true rfl, Nat.le_of_ble_eq_true rfl⟩ (Nat.le_of_ble_eq_true rfl) ?_
  refine lv_aload_n F.1 F.2.1 d_Rc_init_4 rfl (lv_at hl 0 rfl) ?_
  refine lv_iconst (v := 4) F.1 F.2.1 d_Rc_init_5 (by decide) ?_
  refine p_anew F hP 15 i (by decide) (by decide) hx rfl (fun j _ => zz_ar hz (Or.inl rfl) j) w_76 wao_77 ⟨(by decide : Int32.toNatClampNeg 4 = 4), by decide⟩ (by exact (by decide : 4 ≤ 1000)) ⟨Nat.le_of_ble_eq_true rfl, Nat.le_of_ble_eq_true rfl⟩ d_Rc_init_6 (fun H hP => ?_)
  refine p_putr 4 F hP 0 i (by decide) (uL_iff.mpr (Or.inl hal)) (by decide) hnm rfl rfl w_94 d_Rc_init_9 rfl (fun H locs hP => ?_)
  refine lv_iconst (v := 0) F.1 F.2.1 d_Rc_init_12 (by decide) ?_
  refine lv_istore_n F.1 F.2.1 d_Rc_init_13 rfl hl (by decide) rfl (fun ls hl => ?_)
  have hl : lv_has ls 2 [(1, .int (nI 0)), (0, .ref (xL X 4 i))] := hl
  refine p_fill (σ := σ) (n := 4) (w := 1) (sl := 2) (mcn := 0) (msn := 0) (N := N + 1) (cells := 1) (slots := 4) (kt := 4) (it := i) (jf := 0) (karr := 15) (ko := 5) (q0 := 14) (q1 := 16) (qx := 38) (oi := fun q => 4 * i + q) (AlI := rL (uL Al 15 i) 5 (4 * i)) (AlM := fun q => uL (rL (uL Al 15 i) 5 (4 * i) q) 5 (4 * i + q)) (AI := rA (uA A 4 i 0) 15 i) (AM := rA (uA A 4 i 0) 15 i) F
    (by decide) (by decide) (by decide) ⟨by decide, by decide⟩ rfl rfl rfl rfl (by decide) rfl (fun q hq => ?_) (fun q hq => ?_) (fun q hq => ?_) (fun q hq => ?_) (fun q hq => rfl) (fun q hq => ?_) (fun q hq => ?_) (fun q hq => rL_s _ _ _ q) (fun q hq => rA_s _ _ _ q) rfl rfl ⟨Nat.le_of_ble_eq_true rfl, Nat.le_of_ble_eq_true rfl⟩ w_76 w_78 w_5 w_94
    (fun H locs cells slots ls rest k => lv_iconst (v := nI 4) F.1 F.2.1 d_Rc_init_15 (by decide) k) (fun q hq H locs ls rest hsz hW hP k => ?_) d_Rc_init_14 d_Rc_init_16 rfl d_Rc_init_19 d_Rc_init_20 d_Rc_init_23 d_Rc_init_24 d_Rc_init_27 d_Rc_init_31 d_Rc_init_32 d_Rc_init_35 rfl (fun H locs ls hP hl => ?_) 4 0 rfl H locs ls ?_ hl
  · unfold fvP
    rw [if_neg (fun z => by have h9 : rA (uA A 4 i 0) 15 i q 4 i 0 = true := rA_iff.mpr (Or.inl (uA_iff.mpr (Or.inr ⟨rfl, rfl, rfl⟩))); rw [h9] at z; cases z.2)]
    rfl
  · exact rL_iff.mpr (Or.inl (uL_iff.mpr (Or.inl hal)))
  · exact uL_iff.mpr (Or.inl (rL_iff.mpr (Or.inl (uL_iff.mpr (Or.inr ⟨rfl, rfl⟩)))))
  · exact uL_iff.mpr (Or.inr ⟨rfl, rfl⟩)
  · show xL X 5 (4 * i + q) = N + 1 + 1 * q
    rw [hx2 q hq]; omega
  · intro j
    obtain ⟨h1, h2, h3, h4⟩ := hz2 q hq j
    refine ⟨h1, h2, h3, bfalse (fun z => ?_)⟩
    rw [rA_iff, uA_iff, h4] at z
    rcases z with (z | z) | z
    · cases z
    · omega
    · omega
  · refine p_callI (As := []) (rest := rest) F hP (c_Vl_init l X σ _ _ _ _) (Nat.le_refl _) rfl ⟨by decide, by decide, q_Vl_init⟩ w_81 w_5 (Or.inr w_79) w_80 ⟨rfl, rfl⟩ ⟨by decide, by decide⟩ hsz hW ⟨by simp only; omega, by simp only [fn]; omega⟩ d_Rc_init_28 rfl (fun H locs hP => k H locs hP)
  · exact p_vret F hP hr hlk d_Rc_init_38
  · rw [rL_0, rA_0]; exact hP
theorem d_Pg_init_0 : decode b_Pg_init 0 = .ok (.aload_n 0, 1) := by decide +kernel
theorem d_Pg_init_1 : decode b_Pg_init 1 = .ok (.invokespecial 3, 3) := by decide +kernel
theorem d_Pg_init_4 : decode b_Pg_init 4 = .ok (.aload_n 0, 1) := by decide +kernel
theorem d_Pg_init_5 : decode b_Pg_init 5 = .ok (.sipush 240, 3) := by decide +kernel
theorem d_Pg_init_8 : decode b_Pg_init 8 = .ok (.anewarray 9, 3) := by decide +kernel
theorem d_Pg_init_11 : decode b_Pg_init 11 = .ok (.putfield 11, 3) := by decide +kernel
theorem d_Pg_init_14 : decode b_Pg_init 14 = .ok (.aload_n 0, 1) := by decide +kernel
theorem d_Pg_init_15 : decode b_Pg_init 15 = .ok (.sipush 240, 3) := by decide +kernel
theorem d_Pg_init_18 : decode b_Pg_init 18 = .ok (.newarray .int, 2) := by decide +kernel
theorem d_Pg_init_20 : decode b_Pg_init 20 = .ok (.putfield 17, 3) := by decide +kernel
theorem d_Pg_init_23 : decode b_Pg_init 23 = .ok (.iconst 0, 1) := by decide +kernel
theorem d_Pg_init_24 : decode b_Pg_init 24 = .ok (.istore_n 1, 1) := by decide +kernel
theorem d_Pg_init_25 : decode b_Pg_init 25 = .ok (.iload_n 1, 1) := by decide +kernel
theorem d_Pg_init_26 : decode b_Pg_init 26 = .ok (.sipush 240, 3) := by decide +kernel
theorem d_Pg_init_29 : decode b_Pg_init 29 = .ok (.if_icmp .ge 36, 3) := by decide +kernel
theorem d_Pg_init_32 : decode b_Pg_init 32 = .ok (.aload_n 0, 1) := by decide +kernel
theorem d_Pg_init_33 : decode b_Pg_init 33 = .ok (.getfield 11, 3) := by decide +kernel
theorem d_Pg_init_36 : decode b_Pg_init 36 = .ok (.iload_n 1, 1) := by decide +kernel
theorem d_Pg_init_37 : decode b_Pg_init 37 = .ok (.new 9, 3) := by decide +kernel
theorem d_Pg_init_40 : decode b_Pg_init 40 = .ok (.dup, 1) := by decide +kernel
theorem d_Pg_init_41 : decode b_Pg_init 41 = .ok (.sipush 128, 3) := by decide +kernel
theorem d_Pg_init_44 : decode b_Pg_init 44 = .ok (.invokespecial 21, 3) := by decide +kernel
theorem d_Pg_init_47 : decode b_Pg_init 47 = .ok (.aastore, 1) := by decide +kernel
theorem d_Pg_init_48 : decode b_Pg_init 48 = .ok (.aload_n 0, 1) := by decide +kernel
theorem d_Pg_init_49 : decode b_Pg_init 49 = .ok (.getfield 17, 3) := by decide +kernel
theorem d_Pg_init_52 : decode b_Pg_init 52 = .ok (.iload_n 1, 1) := by decide +kernel
theorem d_Pg_init_53 : decode b_Pg_init 53 = .ok (.sipush 239, 3) := by decide +kernel
theorem d_Pg_init_56 : decode b_Pg_init 56 = .ok (.iload_n 1, 1) := by decide +kernel
theorem d_Pg_init_57 : decode b_Pg_init 57 = .ok (.isub, 1) := by decide +kernel
theorem d_Pg_init_58 : decode b_Pg_init 58 = .ok (.iastore, 1) := by decide +kernel
theorem d_Pg_init_59 : decode b_Pg_init 59 = .ok (.iinc 1 1, 3) := by decide +kernel
theorem d_Pg_init_62 : decode b_Pg_init 62 = .ok (.goto (-37), 3) := by decide +kernel
theorem d_Pg_init_65 : decode b_Pg_init 65 = .ok (.aload_n 0, 1) := by decide +kernel
theorem d_Pg_init_66 : decode b_Pg_init 66 = .ok (.sipush 240, 3) := by decide +kernel
theorem d_Pg_init_69 : decode b_Pg_init 69 = .ok (.putfield 24, 3) := by decide +kernel
theorem d_Pg_init_72 : decode b_Pg_init 72 = .ok (.return_, 1) := by decide +kernel
/-- the free pages, the last one first -/
def sgF (σ : Sg) : Nat → Sg
  | 0 => σ
  | n + 1 => si (sgF σ n) 12 0 n (239 - nI n)
theorem sgF_gi (σ : Sg) (n a b c : Nat) (h : ¬ (a = 12 ∧ b = 0)) : gi (sgF σ n) a b c = gi σ a b c := by
  induction n with
  | zero => rfl
  | succ n ih => rw [sgF, gi_si, if_neg (fun z => h ⟨z.1, z.2.1⟩), ih]
theorem sgF_gj (σ : Sg) (n a b c : Nat) : gj (sgF σ n) a b c = gj σ a b c := by
  induction n with
  | zero => rfl
  | succ n ih => rw [sgF, gj_si, ih]
theorem sgF_gr (σ : Sg) (n a b c : Nat) : gr (sgF σ n) a b c = gr σ a b c := by
  induction n with
  | zero => rfl
  | succ n ih => rw [sgF, gr_si, ih]
theorem sgF_nt (σ : Sg) (n : Nat) : nt (sgF σ n) = nt σ := by
  induction n with
  | zero => rfl
  | succ n ih => rw [sgF, nt_si, ih]
theorem sgF_free (σ : Sg) (n c : Nat) (h : c < n) : gi (sgF σ n) 12 0 c = 239 - nI c := by
  induction n with
  | zero => omega
  | succ n ih =>
    rw [sgF, gi_si]
    split
    · rename_i z; rw [z.2.2]
    · rename_i z; exact ih (by omega)
theorem c_Pg_init (l : Launch) (X : GX) (σ : Sg) (Al : Nat → Nat → Bool) (A : Nat → Nat → Nat → Bool) (N : Nat) (hal : Al 1 0 = true) (hx1 : xL X 11 0 = N) (hx2 : xL X 12 0 = N + 1) (hx3 : ∀ q, q < 240 → xL X 2 q = N + 2 + 2 * q) (hx4 : ∀ q, q < 240 → xL X 10 q = N + 3 + 2 * q) (hz1 : zz σ A 11 0) (hz2 : zz σ A 12 0) (hz3 : ∀ q, q < 240 → zz σ A 2 q) (hz4 : ∀ q, q < 240 → zz σ A 10 q) :
    Met l y_Pg_init (cw y_Pg_init b_Pg_init 2 none) { frames := 2, cells := 482, slots := 31680, locals := 200 } (PcP X σ Al A N [.ref (xL X 1 0)]) (QcP X (si (sgF σ 240) 1 0 2 240) (rL (rL (uL (uL Al 11 0) 12 0) 2 0 240) 10 0 240) (rA (rB (uA (uA A 1 0 0) 1 0 1) 2 0 240) 11 0 240) (N + 482) none) 482 31680 (eA X) := by
  refine p_head (own := "TableMachine$Pages") (by decide) rfl (Nat.le_of_ble_eq_true rfl) ?_
  intro p e s m args below meth c ls F hr hlk hnm hP hl
  have hl : lv_has ls 2 [(0, .ref (xL X 1 0))] := hl
  refine lv_aload_n F.1 F.2.1 d_Pg_init_0 rfl (lv_at hl 0 rfl) ?_
  refine p_obj F w_37 hl.1 d_Pg_init_1 ⟨Nat.le_of_ble_eq_true rfl, Nat.le_of_ble_eq_true rfl⟩ (Nat.le_of_ble_eq_true rfl) ?_
  refine lv_aload_n F.1 F.2.1 d_Pg_init_4 rfl (lv_at hl 0 rfl) ?_
  refine lv_sipush (v := 240) F.1 F.2.1 d_Pg_init_5 (by decide) ?_
  refine p_anew F hP 11 0 (by decide) (by decide) hx1 rfl (fun j _ => zz_ar hz1 (Or.inl rfl) j) w_38 wao_39 ⟨by decide, by decide⟩ (by decide) ⟨Nat.le_of_ble_eq_true rfl, Nat.le_of_ble_eq_true rfl⟩ d_Pg_init_8 (fun H hP => ?_)
  refine p_putr 1 F hP 0 0 (by decide) (uL_iff.mpr (Or.inl hal)) (by decide) hnm rfl rfl w_58 d_Pg_init_11 rfl (fun H locs hP => ?_)
  refine lv_aload_n F.1 F.2.1 d_Pg_init_14 rfl (lv_at hl 0 rfl) ?_
  refine lv_sipush (v := 240) F.1 F.2.1 d_Pg_init_15 (by decide) ?_
  have hzA : zz σ (uA A 1 0 0) 12 0 := fun j => ⟨(hz2 j).1, (hz2 j).2.1, (hz2 j).2.2.1, bfalse (fun z => by rw [uA_iff, (hz2 j).2.2.2] at z; rcases z with z | z; cases z; omega)⟩
  refine p_newa F hP 12 0 (by decide) (by decide) hx2 rfl rfl (fun j _ => zz_av hzA (by decide) (by decide) (Or.inl rfl) j) wac_int ⟨by decide, by decide⟩ (by decide) ⟨Nat.le_of_ble_eq_true rfl, Nat.le_of_ble_eq_true rfl⟩ d_Pg_init_18 (fun H hP => ?_)
  refine p_putr 1 F hP 1 0 (by decide) (uL_iff.mpr (Or.inl (uL_iff.mpr (Or.inl hal)))) (by decide) hnm rfl rfl w_59 d_Pg_init_20 rfl (fun H locs hP => ?_)
  refine lv_iconst (v := 0) F.1 F.2.1 d_Pg_init_23 (by decide) ?_
  refine lv_istore_n F.1 F.2.1 d_Pg_init_24 rfl hl (by decide) rfl (fun ls hl => ?_)
  have hl : lv_has ls 2 [(1, .int (nI 0)), (0, .ref (xL X 1 0))] := hl
  generalize hAl : uL (uL Al 11 0) 12 0 = Al1 at hP ⊢
  generalize hA : uA (uA A 1 0 0) 1 0 1 = A1 at hP ⊢
  have a1 : Al1 1 0 = true := by rw [← hAl]; exact uL_iff.mpr (Or.inl (uL_iff.mpr (Or.inl hal)))
  have a11 : Al1 11 0 = true := by rw [← hAl]; exact uL_iff.mpr (Or.inl (uL_iff.mpr (Or.inr ⟨rfl, rfl⟩)))
  have a12 : Al1 12 0 = true := by rw [← hAl]; exact uL_iff.mpr (Or.inr ⟨rfl, rfl⟩)
  have s0 : A1 1 0 0 = true := by rw [← hA]; exact uA_iff.mpr (Or.inl (uA_iff.mpr (Or.inr ⟨rfl, rfl, rfl⟩)))
  have s1 : A1 1 0 1 = true := by rw [← hA]; exact uA_iff.mpr (Or.inr ⟨rfl, rfl, rfl⟩)
  have sz : ∀ k i j, k ≠ 1 → A k i j = false → A1 k i j = false := fun k i j hk h => bfalse (fun z => by rw [← hA, uA_iff, uA_iff, h] at z; rcases z with (z | z) | z; cases z; omega; omega)
  have loop : ∀ (d i : Nat), i + d = 240 → ∀ (H : Heap) (locs : List Loc) (ls : Array Slot), SP X (sgF σ i) (rL (rL Al1 2 0 i) 10 0 i) (rA (rB A1 2 0 i) 11 0 i) (N + 2 + 2 * i) s.heap H locs → lv_has ls 2 [(1, .int (nI i)), (0, .ref (xL X 1 0))] → WP l X { frames := 2, cells := 482, slots := 31680, locals := 200 } (si (sgF σ 240) 1 0 2 240) (rL (rL Al1 2 0 240) 10 0 240) (rA (rB A1 2 0 240) 11 0 240) (N + 482) none 482 31680 p e s m args below meth c H locs (2 + 2 * i) (480 + 130 * i) (F0 m 25 ls []) := by
    intro d
    induction d with
    | zero =>
      intro i hi H locs ls hP hl
      rw [Nat.add_zero] at hi
      subst hi
      refine lv_iload_n F.1 F.2.1 d_Pg_init_25 rfl (lv_at hl 0 rfl) ?_
      refine lv_sipush (v := nI 240) F.1 F.2.1 d_Pg_init_26 (by decide) ?_
      refine lv_icmp_ge F.1 F.2.1 d_Pg_init_29 rfl (fun _ => ?_) (fun h => absurd (nI_le (Nat.le_refl _) (by omega)) h)
      refine lv_aload_n F.1 F.2.1 d_Pg_init_65 rfl (lv_at hl 1 rfl) ?_
      refine lv_sipush (v := 240) F.1 F.2.1 d_Pg_init_66 (by decide) ?_
      refine p_puti 1 F hP 2 0 (by decide) (rL_iff.mpr (Or.inl (rL_iff.mpr (Or.inl a1)))) (by decide) hnm rfl rfl w_60 d_Pg_init_69 (fun H locs hP => ?_)
      exact p_vret F hP hr hlk d_Pg_init_72
    | succ d ih =>
      intro i hi H locs ls hP hl
      have hin : i < 240 := by omega
      refine lv_iload_n F.1 F.2.1 d_Pg_init_25 rfl (lv_at hl 0 rfl) ?_
      refine lv_sipush (v := nI 240) F.1 F.2.1 d_Pg_init_26 (by decide) ?_
      refine lv_icmp_ge F.1 F.2.1 d_Pg_init_29 rfl (fun h => absurd h (nI_ge hin (by omega))) (fun _ => ?_)
      refine lv_aload_n F.1 F.2.1 d_Pg_init_32 rfl (lv_at hl 1 rfl) ?_
      refine p_get F hP 1 0 0 (by decide) (rL_iff.mpr (Or.inl (rL_iff.mpr (Or.inl a1)))) (by decide) (v := .ref (xL X 11 0)) ?_ w_58 d_Pg_init_33 ?_
      · unfold fvP
        rw [if_neg (fun z => by have h9 : rA (rB A1 2 0 i) 11 0 i 1 0 0 = true := rA_iff.mpr (Or.inl (rB_iff.mpr (Or.inl s0))); rw [h9] at z; cases z.2)]
        rfl
      refine lv_iload_n F.1 F.2.1 d_Pg_init_36 rfl (lv_at hl 0 rfl) ?_
      have hzT : zz (sgF σ i) (rA (rB A1 2 0 i) 11 0 i) 2 i := fun j => by
        obtain ⟨h1, h2, h3, h4⟩ := hz3 i hin j
        refine ⟨by rw [sgF_gi _ _ _ _ _ (by omega), h1], by rw [sgF_gj, h2], by rw [sgF_gr, h3], bfalse (fun z => ?_)⟩
        rw [rA_iff, rB_iff, sz 2 i j (by decide) h4] at z
        rcases z with (z | z) | z
        · cases z
        · omega
        · omega
      refine p_new F hP 2 i (by decide) (hx3 i hin) (fun j hj => zz_fv hzT (by decide) j hj) w_38 w_40 w_3 ⟨by simp only; omega, by simp only [fn]; omega⟩ d_Pg_init_37 (fun H hP => ?_)
      refine lv_dup F.1 F.2.1 d_Pg_init_40 rfl ?_
      refine lv_sipush (v := 128) F.1 F.2.1 d_Pg_init_41 (by decide) ?_
      have hlen : alen 10 i = 128 := by
        show (if i < 240 then 128 else 512) = 128
        rw [if_pos hin]
      have hzB : zz (sgF σ i) (rA (rB A1 2 0 i) 11 0 i) 10 i := fun j => by
        obtain ⟨h1, h2, h3, h4⟩ := hz4 i hin j
        refine ⟨by rw [sgF_gi _ _ _ _ _ (by omega), h1], by rw [sgF_gj, h2], by rw [sgF_gr, h3], bfalse (fun z => ?_)⟩
        rw [rA_iff, rB_iff, sz 10 i j (by decide) h4] at z
        rcases z with (z | z) | z
        · cases z
        · omega
        · omega
      refine p_callI (As := [.int 128]) (rest := [.ref (xL X 2 i), .int (nI i), .ref (xL X 11 0)]) F hP (c_Tp_init l X _ _ _ _ i 128 (uL_iff.mpr (Or.inr ⟨rfl, rfl⟩)) (by rw [hx4 i hin]; omega) hzB (by rw [hlen]; exact ⟨by decide, by decide⟩) (Or.inl hlen)) (by omega) rfl ⟨by decide, by decide, q_Tp_init⟩ w_43 w_3 (Or.inl w_41) w_42 ⟨rfl, rfl⟩ ⟨Nat.le_of_ble_eq_true rfl, Nat.le_of_ble_eq_true rfl⟩ hl.1 (Nat.le_of_ble_eq_true rfl) ⟨by simp only; omega, by rw [hlen]; simp only [fn]; omega⟩ d_Pg_init_44 rfl (fun H locs hP => ?_)
      refine p_ar F hP 11 0 2 i (by decide) (by decide) (uL_iff.mpr (Or.inl (uL_iff.mpr (Or.inl (rL_iff.mpr (Or.inl (rL_iff.mpr (Or.inl a11)))))))) (by decide) (uL_iff.mpr (Or.inl (uL_iff.mpr (Or.inr ⟨rfl, rfl⟩)))) rfl (q := i) hin (by decide) rfl rfl rfl d_Pg_init_47 (fun H locs hP => ?_)
      refine lv_aload_n F.1 F.2.1 d_Pg_init_48 rfl (lv_at hl 1 rfl) ?_
      refine p_get F hP 1 1 0 (by decide) (uL_iff.mpr (Or.inl (uL_iff.mpr (Or.inl (rL_iff.mpr (Or.inl (rL_iff.mpr (Or.inl a1)))))))) (by decide) (v := .ref (xL X 12 0)) ?_ w_59 d_Pg_init_49 ?_
      · unfold fvP
        rw [if_neg (fun z => by have h9 : uA (uA (rA (rB A1 2 0 i) 11 0 i) 2 i 0) 11 0 i 1 0 1 = true := uA_iff.mpr (Or.inl (uA_iff.mpr (Or.inl (rA_iff.mpr (Or.inl (rB_iff.mpr (Or.inl s1))))))); rw [h9] at z; cases z.2)]
        rfl
      refine lv_iload_n F.1 F.2.1 d_Pg_init_52 rfl (lv_at hl 0 rfl) ?_
      refine lv_sipush (v := 239) F.1 F.2.1 d_Pg_init_53 (by decide) ?_
      refine lv_iload_n F.1 F.2.1 d_Pg_init_56 rfl (lv_at hl 0 rfl) ?_
      refine lv_isub F.1 F.2.1 d_Pg_init_57 ?_
      refine p_ast F hP 12 0 (by decide) (by decide) (uL_iff.mpr (Or.inl (uL_iff.mpr (Or.inl (rL_iff.mpr (Or.inl (rL_iff.mpr (Or.inl a12)))))))) rfl rfl (q := i) hin (by decide) d_Pg_init_58 (fun H locs hP => ?_)
      refine lv_iinc (k := 0) (v := nI (i + 1)) F.1 F.2.1 d_Pg_init_59 hl rfl (by rw [nI_succ]; rfl) (by decide) rfl (fun ls hl => ?_)
      refine lv_goto F.1 F.2.1 d_Pg_init_62 rfl ?_
      have e1 : rL (rL Al1 2 0 (i + 1)) 10 0 (i + 1) = uL (uL (rL (rL Al1 2 0 i) 10 0 i) 2 i) 10 i := by
        rw [rL_s, rL_s, uL_rL, Nat.zero_add]
      have e2 : rA (rB A1 2 0 (i + 1)) 11 0 (i + 1) = uA (uA (rA (rB A1 2 0 i) 11 0 i) 2 i 0) 11 0 i := by
        rw [rA_s, rB_s, uA_rA]
      have e3 : N + 2 + 2 * (i + 1) = N + 2 + 2 * i + 1 + 1 := by omega
      have k9 := ih (i + 1) (by omega) H locs ls (by
        rw [e1, e2, e3]
        exact hP) hl
      have e4 : 2 + 2 * (i + 1) = 2 + 2 * i + 1 + 1 := by omega
      have e5 : 480 + 130 * (i + 1) = 480 + 130 * i + fn 2 + alen 10 i := by rw [hlen]; simp only [fn]; omega
      rw [e4, e5] at k9
      exact k9
  exact loop 240 0 rfl H locs ls (by rw [rL_0, rL_0, rA_0, rB_0]; exact hP) hl
