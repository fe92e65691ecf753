/-! printed by wip/gen/cgen.py: the constructors -/
theorem wac_int : Cond.arrayClass .int ∈ TB := tb_in (t1_in (i := 56) rfl) rfl
theorem wac_byte : Cond.arrayClass .byte ∈ TB := tb_in (t1_in (i := 57) rfl) rfl
theorem wac_long : Cond.arrayClass .long ∈ TB := tb_in (t5_in (i := 10) rfl) rfl
theorem wac_boolean : Cond.arrayClass .boolean ∈ TB := tb_in (t5_in (i := 11) rfl) rfl
theorem wao_39 : Cond.arrayOver (.object "TableMachine$Tape") ∈ tables_1 := (t1_in (i := 39) rfl)
theorem wao_69 : Cond.arrayOver (.object "TableMachine$Tree") ∈ tables_1 := (t1_in (i := 69) rfl)
theorem wao_77 : Cond.arrayOver (.object "TableMachine$Value") ∈ tables_1 := (t1_in (i := 77) rfl)
theorem wao_110 : Cond.arrayOver (.object "TableMachine$Op") ∈ tables_1 := (t1_in (i := 110) rfl)
theorem wao_113 : Cond.arrayOver (.object "TableMachine$Instruction") ∈ tables_1 := (t1_in (i := 113) rfl)
theorem wao_116 : Cond.arrayOver (.object "TableMachine$Cursor") ∈ tables_1 := (t1_in (i := 116) rfl)
theorem wao_118 : Cond.arrayOver (.object "TableMachine$Condition") ∈ tables_1 := (t1_in (i := 118) rfl)
theorem d_Vl_init_0 : decode b_Vl_init 0 = .ok (.aload_n 0, 1) := by decide +kernel
theorem d_Vl_init_1 : decode b_Vl_init 1 = .ok (.invokespecial 1, 3) := by decide +kernel
theorem d_Vl_init_4 : decode b_Vl_init 4 = .ok (.return_, 1) := by decide +kernel
theorem c_Vl_init (l : Launch) (X : GX) (σ : Sg) (Al : Nat → Nat → Bool) (A : Nat → Nat → Nat → Bool) (N a : Nat) : Met l y_Vl_init (cw y_Vl_init b_Vl_init 1 none) { frames := 1, cells := 0, slots := 0, locals := 100 } (PcP X σ Al A N [.ref a]) (QcP X σ Al A N none) 0 0 (eA X) := by
  refine p_head (own := "TableMachine$Value") (by decide) rfl (Nat.le_of_ble_eq_true rfl) ?_
  intro p e s m args below meth c ls F hr hlk hnm hP hl
  have hl : lv_has ls 1 [(0, .ref a)] := hl
  refine lv_aload_n F.1 F.2.1 d_Vl_init_0 rfl (lv_at hl 0 rfl) ?_
  refine p_obj F w_82 hl.1 d_Vl_init_1 ⟨Nat.le_of_ble_eq_true rfl, Nat.le_of_ble_eq_true rfl⟩ (Nat.le_of_ble_eq_true rfl) ?_
  exact p_vret F hP hr hlk d_Vl_init_4
theorem d_Cu_init_0 : decode b_Cu_init 0 = .ok (.aload_n 0, 1) := by decide +kernel
theorem d_Cu_init_1 : decode b_Cu_init 1 = .ok (.invokespecial 1, 3) := by decide +kernel
theorem d_Cu_init_4 : decode b_Cu_init 4 = .ok (.return_, 1) := by decide +kernel
theorem c_Cu_init (l : Launch) (X : GX) (σ : Sg) (Al : Nat → Nat → Bool) (A : Nat → Nat → Nat → Bool) (N a : Nat) : Met l y_Cu_init (cw y_Cu_init b_Cu_init 1 none) { frames := 1, cells := 0, slots := 0, locals := 100 } (PcP X σ Al A N [.ref a]) (QcP X σ Al A N none) 0 0 (eA X) := by
  refine p_head (own := "TableMachine$Cursor") (by decide) rfl (Nat.le_of_ble_eq_true rfl) ?_
  intro p e s m args below meth c ls F hr hlk hnm hP hl
  have hl : lv_has ls 1 [(0, .ref a)] := hl
  refine lv_aload_n F.1 F.2.1 d_Cu_init_0 rfl (lv_at hl 0 rfl) ?_
  refine p_obj F w_138 hl.1 d_Cu_init_1 ⟨Nat.le_of_ble_eq_true rfl, Nat.le_of_ble_eq_true rfl⟩ (Nat.le_of_ble_eq_true rfl) ?_
  exact p_vret F hP hr hlk d_Cu_init_4
theorem d_Cd_init_0 : decode b_Cd_init 0 = .ok (.aload_n 0, 1) := by decide +kernel
theorem d_Cd_init_1 : decode b_Cd_init 1 = .ok (.invokespecial 1, 3) := by decide +kernel
theorem d_Cd_init_4 : decode b_Cd_init 4 = .ok (.return_, 1) := by decide +kernel
theorem c_Cd_init (l : Launch) (X : GX) (σ : Sg) (Al : Nat → Nat → Bool) (A : Nat → Nat → Nat → Bool) (N a : Nat) : Met l y_Cd_init (cw y_Cd_init b_Cd_init 1 none) { frames := 1, cells := 0, slots := 0, locals := 100 } (PcP X σ Al A N [.ref a]) (QcP X σ Al A N none) 0 0 (eA X) := by
  refine p_head (own := "TableMachine$Condition") (by decide) rfl (Nat.le_of_ble_eq_true rfl) ?_
  intro p e s m args below meth c ls F hr hlk hnm hP hl
  have hl : lv_has ls 1 [(0, .ref a)] := hl
  refine lv_aload_n F.1 F.2.1 d_Cd_init_0 rfl (lv_at hl 0 rfl) ?_
  refine p_obj F w_156 hl.1 d_Cd_init_1 ⟨Nat.le_of_ble_eq_true rfl, Nat.le_of_ble_eq_true rfl⟩ (Nat.le_of_ble_eq_true rfl) ?_
  exact p_vret F hP hr hlk d_Cd_init_4
theorem d_Tp_init_0 : decode b_Tp_init 0 = .ok (.aload_n 0, 1) := by decide +kernel
theorem d_Tp_init_1 : decode b_Tp_init 1 = .ok (.invokespecial 1, 3) := by decide +kernel
theorem d_Tp_init_4 : decode b_Tp_init 4 = .ok (.aload_n 0, 1) := by decide +kernel
theorem d_Tp_init_5 : decode b_Tp_init 5 = .ok (.iload_n 1, 1) := by decide +kernel
theorem d_Tp_init_6 : decode b_Tp_init 6 = .ok (.newarray .byte, 2) := by decide +kernel
theorem d_Tp_init_8 : decode b_Tp_init 8 = .ok (.putfield 7, 3) := by decide +kernel
theorem d_Tp_init_11 : decode b_Tp_init 11 = .ok (.return_, 1) := by decide +kernel
theorem c_Tp_init (l : Launch) (X : GX) (σ : Sg) (Al : Nat → Nat → Bool) (A : Nat → Nat → Nat → Bool) (N i : Nat) (v : Int32) (hal : Al 2 i = true) (hx : xL X 10 i = N) (hz : zz σ A 10 i) (hv : v.toNatClampNeg = alen 10 i ∧ ¬ v < 0) (hlen : alen 10 i = 128 ∨ alen 10 i = 512) : Met l y_Tp_init (cw y_Tp_init b_Tp_init 2 none) { frames := 1, cells := 1, slots := alen 10 i, locals := 100 } (PcP X σ Al A N [.ref (xL X 2 i), .int v]) (QcP X σ (uL Al 10 i) (uA A 2 i 0) (N + 1) none) 1 (alen 10 i) (eA X) := by
  refine p_head (own := "TableMachine$Tape") (by decide) rfl (Nat.le_of_ble_eq_true rfl) ?_
  intro p e s m args below meth c ls F hr hlk hnm hP hl
  have hl : lv_has ls 2 [(0, .ref (xL X 2 i)), (1, .int v)] := hl
  refine lv_aload_n F.1 F.2.1 d_Tp_init_0 rfl (lv_at hl 0 rfl) ?_
  refine p_obj F w_44 hl.1 d_Tp_init_1 ⟨Nat.le_of_ble_eq_true rfl, Nat.le_of_ble_eq_true rfl⟩ (Nat.le_of_ble_eq_true rfl) ?_
  refine lv_aload_n F.1 F.2.1 d_Tp_init_4 rfl (lv_at hl 0 rfl) ?_
  refine lv_iload_n F.1 F.2.1 d_Tp_init_5 rfl (lv_at hl 1 rfl) ?_
  refine p_newa F hP 10 i (by decide) (by decide) (hx) rfl rfl (fun j _ => zz_av (hz) (by decide) (by decide) (by decide) j) wac_byte hv (by rcases hlen with h | h <;> rw [h] <;> decide) ⟨Nat.le_refl _, by simp⟩ d_Tp_init_6 (fun H hP => ?_)
  refine p_putr 2 F hP 0 i (by decide) (uL_iff.mpr (Or.inl hal)) (by decide) hnm rfl rfl w_45 d_Tp_init_8 (by first | rfl | simp [ftk, fti]) (fun H locs hP => ?_)
  have h9 := p_vret (l := l) (R := { frames := 1, cells := 1, slots := alen 10 i, locals := 100 }) (e := e) (below := below) (ls := ls) (cells := 0 + 1) (slots := 0 + alen 10 i) F hP hr hlk d_Tp_init_11
  simpa using h9
theorem d_In_init_0 : decode b_In_init 0 = .ok (.aload_n 0, 1) := by decide +kernel
theorem d_In_init_1 : decode b_In_init 1 = .ok (.invokespecial 3, 3) := by decide +kernel
theorem d_In_init_4 : decode b_In_init 4 = .ok (.aload_n 0, 1) := by decide +kernel
theorem d_In_init_5 : decode b_In_init 5 = .ok (.iconst 3, 1) := by decide +kernel
theorem d_In_init_6 : decode b_In_init 6 = .ok (.newarray .int, 2) := by decide +kernel
theorem d_In_init_8 : decode b_In_init 8 = .ok (.putfield 9, 3) := by decide +kernel
theorem d_In_init_11 : decode b_In_init 11 = .ok (.return_, 1) := by decide +kernel
theorem c_In_init (l : Launch) (X : GX) (σ : Sg) (Al : Nat → Nat → Bool) (A : Nat → Nat → Nat → Bool) (N i : Nat) (hal : Al 6 i = true) (hx : xL X 16 i = N) (hz : zz σ A 16 i) : Met l y_In_init (cw y_In_init b_In_init 1 none) { frames := 1, cells := 1, slots := 3, locals := 100 } (PcP X σ Al A N [.ref (xL X 6 i)]) (QcP X σ (uL Al 16 i) (uA A 6 i 1) (N + 1) none) 1 3 (eA X) := by
  refine p_head (own := "TableMachine$Instruction") (by decide) rfl (Nat.le_of_ble_eq_true rfl) ?_
  intro p e s m args below meth c ls F hr hlk hnm hP hl
  have hl : lv_has ls 1 [(0, .ref (xL X 6 i))] := hl
  refine lv_aload_n F.1 F.2.1 d_In_init_0 rfl (lv_at hl 0 rfl) ?_
  refine p_obj F w_123 hl.1 d_In_init_1 ⟨Nat.le_of_ble_eq_true rfl, Nat.le_of_ble_eq_true rfl⟩ (Nat.le_of_ble_eq_true rfl) ?_
  refine lv_aload_n F.1 F.2.1 d_In_init_4 rfl (lv_at hl 0 rfl) ?_
  refine lv_iconst (v := 3) F.1 F.2.1 d_In_init_5 (by decide) ?_
  refine p_newa F hP 16 i (by decide) (by decide) (hx) rfl rfl (fun j _ => zz_av (hz) (by decide) (by decide) (by decide) j) wac_int ⟨(by decide : Int32.toNatClampNeg 3 = 3), by decide⟩ (by exact (by decide : 3 ≤ 1000)) ⟨Nat.le_of_ble_eq_true rfl, Nat.le_of_ble_eq_true rfl⟩ d_In_init_6 (fun H hP => ?_)
  refine p_putr 6 F hP 1 i (by decide) (uL_iff.mpr (Or.inl hal)) (by decide) hnm rfl rfl w_126 d_In_init_8 (by first | rfl | simp [ftk, fti]) (fun H locs hP => ?_)
  exact p_vret F hP hr hlk d_In_init_11
