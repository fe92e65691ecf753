/-! printed by wip/gen/cgen2.py: the constructor of the model -/
theorem d_Md_init_0 : decode b_Md_init 0 = .ok (.aload_n 0, 1) := by decide +kernel
theorem d_Md_init_1 : decode b_Md_init 1 = .ok (.invokespecial 1, 3) := by decide +kernel
theorem d_Md_init_4 : decode b_Md_init 4 = .ok (.aload_n 0, 1) := by decide +kernel
theorem d_Md_init_5 : decode b_Md_init 5 = .ok (.iconst 3, 1) := by decide +kernel
theorem d_Md_init_6 : decode b_Md_init 6 = .ok (.newarray .int, 2) := by decide +kernel
theorem d_Md_init_8 : decode b_Md_init 8 = .ok (.putfield 7, 3) := by decide +kernel
theorem d_Md_init_11 : decode b_Md_init 11 = .ok (.aload_n 0, 1) := by decide +kernel
theorem d_Md_init_12 : decode b_Md_init 12 = .ok (.bipush 90, 2) := by decide +kernel
theorem d_Md_init_14 : decode b_Md_init 14 = .ok (.newarray .int, 2) := by decide +kernel
theorem d_Md_init_16 : decode b_Md_init 16 = .ok (.putfield 13, 3) := by decide +kernel
theorem d_Md_init_19 : decode b_Md_init 19 = .ok (.aload_n 0, 1) := by decide +kernel
theorem d_Md_init_20 : decode b_Md_init 20 = .ok (.bipush 90, 2) := by decide +kernel
theorem d_Md_init_22 : decode b_Md_init 22 = .ok (.newarray .long, 2) := by decide +kernel
theorem d_Md_init_24 : decode b_Md_init 24 = .ok (.putfield 16, 3) := by decide +kernel
theorem d_Md_init_27 : decode b_Md_init 27 = .ok (.aload_n 0, 1) := by decide +kernel
theorem d_Md_init_28 : decode b_Md_init 28 = .ok (.sipush 360, 3) := by decide +kernel
theorem d_Md_init_31 : decode b_Md_init 31 = .ok (.newarray .long, 2) := by decide +kernel
theorem d_Md_init_33 : decode b_Md_init 33 = .ok (.putfield 20, 3) := by decide +kernel
theorem d_Md_init_36 : decode b_Md_init 36 = .ok (.aload_n 0, 1) := by decide +kernel
theorem d_Md_init_37 : decode b_Md_init 37 = .ok (.sipush 360, 3) := by decide +kernel
theorem d_Md_init_40 : decode b_Md_init 40 = .ok (.newarray .boolean, 2) := by decide +kernel
theorem d_Md_init_42 : decode b_Md_init 42 = .ok (.putfield 23, 3) := by decide +kernel
theorem d_Md_init_45 : decode b_Md_init 45 = .ok (.aload_n 0, 1) := by decide +kernel
theorem d_Md_init_46 : decode b_Md_init 46 = .ok (.iconst 4, 1) := by decide +kernel
theorem d_Md_init_47 : decode b_Md_init 47 = .ok (.newarray .long, 2) := by decide +kernel
theorem d_Md_init_49 : decode b_Md_init 49 = .ok (.putfield 27, 3) := by decide +kernel
theorem d_Md_init_52 : decode b_Md_init 52 = .ok (.aload_n 0, 1) := by decide +kernel
theorem d_Md_init_53 : decode b_Md_init 53 = .ok (.iconst 4, 1) := by decide +kernel
theorem d_Md_init_54 : decode b_Md_init 54 = .ok (.newarray .boolean, 2) := by decide +kernel
theorem d_Md_init_56 : decode b_Md_init 56 = .ok (.putfield 30, 3) := by decide +kernel
theorem d_Md_init_59 : decode b_Md_init 59 = .ok (.aload_n 0, 1) := by decide +kernel
theorem d_Md_init_60 : decode b_Md_init 60 = .ok (.sipush 240, 3) := by decide +kernel
theorem d_Md_init_63 : decode b_Md_init 63 = .ok (.newarray .int, 2) := by decide +kernel
theorem d_Md_init_65 : decode b_Md_init 65 = .ok (.putfield 33, 3) := by decide +kernel
theorem d_Md_init_68 : decode b_Md_init 68 = .ok (.aload_n 0, 1) := by decide +kernel
theorem d_Md_init_69 : decode b_Md_init 69 = .ok (.bipush 16, 2) := by decide +kernel
theorem d_Md_init_71 : decode b_Md_init 71 = .ok (.newarray .long, 2) := by decide +kernel
theorem d_Md_init_73 : decode b_Md_init 73 = .ok (.putfield 36, 3) := by decide +kernel
theorem d_Md_init_76 : decode b_Md_init 76 = .ok (.aload_n 0, 1) := by decide +kernel
theorem d_Md_init_77 : decode b_Md_init 77 = .ok (.bipush 16, 2) := by decide +kernel
theorem d_Md_init_79 : decode b_Md_init 79 = .ok (.newarray .boolean, 2) := by decide +kernel
theorem d_Md_init_81 : decode b_Md_init 81 = .ok (.putfield 39, 3) := by decide +kernel
theorem d_Md_init_84 : decode b_Md_init 84 = .ok (.aload_n 0, 1) := by decide +kernel
theorem d_Md_init_85 : decode b_Md_init 85 = .ok (.iconst 3, 1) := by decide +kernel
theorem d_Md_init_86 : decode b_Md_init 86 = .ok (.newarray .int, 2) := by decide +kernel
theorem d_Md_init_88 : decode b_Md_init 88 = .ok (.putfield 42, 3) := by decide +kernel
theorem d_Md_init_91 : decode b_Md_init 91 = .ok (.aload_n 0, 1) := by decide +kernel
theorem d_Md_init_92 : decode b_Md_init 92 = .ok (.iconst 3, 1) := by decide +kernel
theorem d_Md_init_93 : decode b_Md_init 93 = .ok (.newarray .boolean, 2) := by decide +kernel
theorem d_Md_init_95 : decode b_Md_init 95 = .ok (.putfield 45, 3) := by decide +kernel
theorem d_Md_init_98 : decode b_Md_init 98 = .ok (.aload_n 0, 1) := by decide +kernel
theorem d_Md_init_99 : decode b_Md_init 99 = .ok (.iconst 3, 1) := by decide +kernel
theorem d_Md_init_100 : decode b_Md_init 100 = .ok (.newarray .long, 2) := by decide +kernel
theorem d_Md_init_102 : decode b_Md_init 102 = .ok (.putfield 48, 3) := by decide +kernel
theorem d_Md_init_105 : decode b_Md_init 105 = .ok (.aload_n 0, 1) := by decide +kernel
theorem d_Md_init_106 : decode b_Md_init 106 = .ok (.bipush 64, 2) := by decide +kernel
theorem d_Md_init_108 : decode b_Md_init 108 = .ok (.newarray .int, 2) := by decide +kernel
theorem d_Md_init_110 : decode b_Md_init 110 = .ok (.putfield 51, 3) := by decide +kernel
theorem d_Md_init_113 : decode b_Md_init 113 = .ok (.aload_n 0, 1) := by decide +kernel
theorem d_Md_init_114 : decode b_Md_init 114 = .ok (.sipush 256, 3) := by decide +kernel
theorem d_Md_init_117 : decode b_Md_init 117 = .ok (.newarray .long, 2) := by decide +kernel
theorem d_Md_init_119 : decode b_Md_init 119 = .ok (.putfield 54, 3) := by decide +kernel
theorem d_Md_init_122 : decode b_Md_init 122 = .ok (.aload_n 0, 1) := by decide +kernel
theorem d_Md_init_123 : decode b_Md_init 123 = .ok (.sipush 256, 3) := by decide +kernel
theorem d_Md_init_126 : decode b_Md_init 126 = .ok (.newarray .boolean, 2) := by decide +kernel
theorem d_Md_init_128 : decode b_Md_init 128 = .ok (.putfield 57, 3) := by decide +kernel
theorem d_Md_init_131 : decode b_Md_init 131 = .ok (.aload_n 0, 1) := by decide +kernel
theorem d_Md_init_132 : decode b_Md_init 132 = .ok (.iconst (-1), 1) := by decide +kernel
theorem d_Md_init_133 : decode b_Md_init 133 = .ok (.putfield 60, 3) := by decide +kernel
theorem d_Md_init_136 : decode b_Md_init 136 = .ok (.aload_n 0, 1) := by decide +kernel
theorem d_Md_init_137 : decode b_Md_init 137 = .ok (.iconst (-1), 1) := by decide +kernel
theorem d_Md_init_138 : decode b_Md_init 138 = .ok (.putfield 64, 3) := by decide +kernel
theorem d_Md_init_141 : decode b_Md_init 141 = .ok (.aload_n 0, 1) := by decide +kernel
theorem d_Md_init_142 : decode b_Md_init 142 = .ok (.bipush 8, 2) := by decide +kernel
theorem d_Md_init_144 : decode b_Md_init 144 = .ok (.newarray .int, 2) := by decide +kernel
theorem d_Md_init_146 : decode b_Md_init 146 = .ok (.putfield 67, 3) := by decide +kernel
theorem d_Md_init_149 : decode b_Md_init 149 = .ok (.aload_n 0, 1) := by decide +kernel
theorem d_Md_init_150 : decode b_Md_init 150 = .ok (.bipush 16, 2) := by decide +kernel
theorem d_Md_init_152 : decode b_Md_init 152 = .ok (.newarray .int, 2) := by decide +kernel
theorem d_Md_init_154 : decode b_Md_init 154 = .ok (.putfield 70, 3) := by decide +kernel
theorem d_Md_init_157 : decode b_Md_init 157 = .ok (.return_, 1) := by decide +kernel
def MDl : Nat → Nat → Bool := uL (uL (uL (uL (uL (uL (uL (uL (uL (uL (uL (uL (uL (uL (uL (uL (uL (uL (uL TMl6 9 0) 26 0) 27 0) 28 0) 29 0) 30 0) 31 0) 32 0) 33 0) 34 0) 35 0) 36 0) 37 0) 38 0) 39 0) 40 0) 41 0) 42 0) 43 0
def MDa : Nat → Nat → Nat → Bool := uA (uA (uA (uA (uA (uA (uA (uA (uA (uA (uA (uA (uA (uA (uA (uA (uA (uA (TMa6) 9 0 2) 9 0 4) 9 0 5) 9 0 6) 9 0 7) 9 0 8) 9 0 9) 9 0 11) 9 0 12) 9 0 13) 9 0 14) 9 0 15) 9 0 16) 9 0 20) 9 0 21) 9 0 22) 9 0 26) 9 0 28
def MDs : Sg := si (si (TMs) 9 0 23 (-1)) 9 0 24 (-1)
set_option maxHeartbeats 4000000 in
set_option maxRecDepth 100000 in
theorem c_Md_init (l : Launch) (X : GX) (hX : xO X) : Met l y_Md_init (cw y_Md_init b_Md_init 1 none) { frames := 1, cells := 18, slots := 1792, locals := 100 } (PcP X TMs (uL TMl6 9 0) TMa6 (xb X + 905) [.ref (xL X 9 0)]) (QcP X MDs MDl MDa (xb X + 923) none) 18 1792 (eA X) := by
  refine p_head (own := "TableMachineModel") (by decide) rfl (Nat.le_of_ble_eq_true rfl) ?_
  intro p e s m args below meth c ls F hr hlk hnm hP hl
  have hl : lv_has ls 1 [(0, .ref (xL X 9 0))] := hl
  have hS := TMs_S
  refine lv_aload_n F.1 F.2.1 d_Md_init_0 rfl (lv_at hl 0 rfl) ?_
  refine p_obj F w_872 hl.1 d_Md_init_1 ⟨Nat.le_of_ble_eq_true rfl, Nat.le_of_ble_eq_true rfl⟩ (Nat.le_of_ble_eq_true rfl) ?_
  refine lv_aload_n F.1 F.2.1 d_Md_init_4 rfl (lv_at hl 0 rfl) ?_
  refine lv_iconst (v := 3) F.1 F.2.1 d_Md_init_5 (by decide) ?_
  refine p_newa F hP 26 0 (by decide) (by decide) (by have h := hX 26 0 (by decide) (by decide); rw [off_26] at h; omega) rfl rfl (fun j _ => zz_av (zS_zz hS (by decide) (fun j => rfl)) (by decide) (by decide) (by decide) j) wac_int ⟨(by decide : Int32.toNatClampNeg 3 = 3), by decide⟩ (by exact (by decide : 3 ≤ 1000)) ⟨Nat.le_of_ble_eq_true rfl, Nat.le_of_ble_eq_true rfl⟩ d_Md_init_6 (fun H hP => ?_)
  refine p_putr 9 F hP 2 0 (by decide) (rfl) (by decide) hnm rfl rfl w_875 d_Md_init_8 (by first | rfl | simp [ftk, fti]) (fun H locs hP => ?_)
  refine lv_aload_n F.1 F.2.1 d_Md_init_11 rfl (lv_at hl 0 rfl) ?_
  refine lv_bipush (v := 90) F.1 F.2.1 d_Md_init_12 (by decide) ?_
  refine p_newa F hP 27 0 (by decide) (by decide) (by have h := hX 27 0 (by decide) (by decide); rw [off_27] at h; omega) rfl rfl (fun j _ => zz_av (zS_zz hS (by decide) (fun j => rfl)) (by decide) (by decide) (by decide) j) wac_int ⟨(by decide : Int32.toNatClampNeg 90 = 90), by decide⟩ (by exact (by decide : 90 ≤ 1000)) ⟨Nat.le_of_ble_eq_true rfl, Nat.le_of_ble_eq_true rfl⟩ d_Md_init_14 (fun H hP => ?_)
  refine p_putr 9 F hP 4 0 (by decide) (rfl) (by decide) hnm rfl rfl w_877 d_Md_init_16 (by first | rfl | simp [ftk, fti]) (fun H locs hP => ?_)
  refine lv_aload_n F.1 F.2.1 d_Md_init_19 rfl (lv_at hl 0 rfl) ?_
  refine lv_bipush (v := 90) F.1 F.2.1 d_Md_init_20 (by decide) ?_
  refine p_newa F hP 28 0 (by decide) (by decide) (by have h := hX 28 0 (by decide) (by decide); rw [off_28] at h; omega) rfl rfl (fun j _ => zz_av (zS_zz hS (by decide) (fun j => rfl)) (by decide) (by decide) (by decide) j) wac_long ⟨(by decide : Int32.toNatClampNeg 90 = 90), by decide⟩ (by exact (by decide : 90 ≤ 1000)) ⟨Nat.le_of_ble_eq_true rfl, Nat.le_of_ble_eq_true rfl⟩ d_Md_init_22 (fun H hP => ?_)
  refine p_putr 9 F hP 5 0 (by decide) (rfl) (by decide) hnm rfl rfl w_878 d_Md_init_24 (by first | rfl | simp [ftk, fti]) (fun H locs hP => ?_)
  refine lv_aload_n F.1 F.2.1 d_Md_init_27 rfl (lv_at hl 0 rfl) ?_
  refine lv_sipush (v := 360) F.1 F.2.1 d_Md_init_28 (by decide) ?_
  refine p_newa F hP 29 0 (by decide) (by decide) (by have h := hX 29 0 (by decide) (by decide); rw [off_29] at h; omega) rfl rfl (fun j _ => zz_av (zS_zz hS (by decide) (fun j => rfl)) (by decide) (by decide) (by decide) j) wac_long ⟨(by decide : Int32.toNatClampNeg 360 = 360), by decide⟩ (by exact (by decide : 360 ≤ 1000)) ⟨Nat.le_of_ble_eq_true rfl, Nat.le_of_ble_eq_true rfl⟩ d_Md_init_31 (fun H hP => ?_)
  refine p_putr 9 F hP 6 0 (by decide) (rfl) (by decide) hnm rfl rfl w_879 d_Md_init_33 (by first | rfl | simp [ftk, fti]) (fun H locs hP => ?_)
  refine lv_aload_n F.1 F.2.1 d_Md_init_36 rfl (lv_at hl 0 rfl) ?_
  refine lv_sipush (v := 360) F.1 F.2.1 d_Md_init_37 (by decide) ?_
  refine p_newa F hP 30 0 (by decide) (by decide) (by have h := hX 30 0 (by decide) (by decide); rw [off_30] at h; omega) rfl rfl (fun j _ => zz_av (zS_zz hS (by decide) (fun j => rfl)) (by decide) (by decide) (by decide) j) wac_boolean ⟨(by decide : Int32.toNatClampNeg 360 = 360), by decide⟩ (by exact (by decide : 360 ≤ 1000)) ⟨Nat.le_of_ble_eq_true rfl, Nat.le_of_ble_eq_true rfl⟩ d_Md_init_40 (fun H hP => ?_)
  refine p_putr 9 F hP 7 0 (by decide) (rfl) (by decide) hnm rfl rfl w_880 d_Md_init_42 (by first | rfl | simp [ftk, fti]) (fun H locs hP => ?_)
  refine lv_aload_n F.1 F.2.1 d_Md_init_45 rfl (lv_at hl 0 rfl) ?_
  refine lv_iconst (v := 4) F.1 F.2.1 d_Md_init_46 (by decide) ?_
  refine p_newa F hP 31 0 (by decide) (by decide) (by have h := hX 31 0 (by decide) (by decide); rw [off_31] at h; omega) rfl rfl (fun j _ => zz_av (zS_zz hS (by decide) (fun j => rfl)) (by decide) (by decide) (by decide) j) wac_long ⟨(by decide : Int32.toNatClampNeg 4 = 4), by decide⟩ (by exact (by decide : 4 ≤ 1000)) ⟨Nat.le_of_ble_eq_true rfl, Nat.le_of_ble_eq_true rfl⟩ d_Md_init_47 (fun H hP => ?_)
  refine p_putr 9 F hP 8 0 (by decide) (rfl) (by decide) hnm rfl rfl w_881 d_Md_init_49 (by first | rfl | simp [ftk, fti]) (fun H locs hP => ?_)
  refine lv_aload_n F.1 F.2.1 d_Md_init_52 rfl (lv_at hl 0 rfl) ?_
  refine lv_iconst (v := 4) F.1 F.2.1 d_Md_init_53 (by decide) ?_
  refine p_newa F hP 32 0 (by decide) (by decide) (by have h := hX 32 0 (by decide) (by decide); rw [off_32] at h; omega) rfl rfl (fun j _ => zz_av (zS_zz hS (by decide) (fun j => rfl)) (by decide) (by decide) (by decide) j) wac_boolean ⟨(by decide : Int32.toNatClampNeg 4 = 4), by decide⟩ (by exact (by decide : 4 ≤ 1000)) ⟨Nat.le_of_ble_eq_true rfl, Nat.le_of_ble_eq_true rfl⟩ d_Md_init_54 (fun H hP => ?_)
  refine p_putr 9 F hP 9 0 (by decide) (rfl) (by decide) hnm rfl rfl w_882 d_Md_init_56 (by first | rfl | simp [ftk, fti]) (fun H locs hP => ?_)
  refine lv_aload_n F.1 F.2.1 d_Md_init_59 rfl (lv_at hl 0 rfl) ?_
  refine lv_sipush (v := 240) F.1 F.2.1 d_Md_init_60 (by decide) ?_
  refine p_newa F hP 33 0 (by decide) (by decide) (by have h := hX 33 0 (by decide) (by decide); rw [off_33] at h; omega) rfl rfl (fun j _ => zz_av (zS_zz hS (by decide) (fun j => rfl)) (by decide) (by decide) (by decide) j) wac_int ⟨(by decide : Int32.toNatClampNeg 240 = 240), by decide⟩ (by exact (by decide : 240 ≤ 1000)) ⟨Nat.le_of_ble_eq_true rfl, Nat.le_of_ble_eq_true rfl⟩ d_Md_init_63 (fun H hP => ?_)
  refine p_putr 9 F hP 11 0 (by decide) (rfl) (by decide) hnm rfl rfl w_884 d_Md_init_65 (by first | rfl | simp [ftk, fti]) (fun H locs hP => ?_)
  refine lv_aload_n F.1 F.2.1 d_Md_init_68 rfl (lv_at hl 0 rfl) ?_
  refine lv_bipush (v := 16) F.1 F.2.1 d_Md_init_69 (by decide) ?_
  refine p_newa F hP 34 0 (by decide) (by decide) (by have h := hX 34 0 (by decide) (by decide); rw [off_34] at h; omega) rfl rfl (fun j _ => zz_av (zS_zz hS (by decide) (fun j => rfl)) (by decide) (by decide) (by decide) j) wac_long ⟨(by decide : Int32.toNatClampNeg 16 = 16), by decide⟩ (by exact (by decide : 16 ≤ 1000)) ⟨Nat.le_of_ble_eq_true rfl, Nat.le_of_ble_eq_true rfl⟩ d_Md_init_71 (fun H hP => ?_)
  refine p_putr 9 F hP 12 0 (by decide) (rfl) (by decide) hnm rfl rfl w_885 d_Md_init_73 (by first | rfl | simp [ftk, fti]) (fun H locs hP => ?_)
  refine lv_aload_n F.1 F.2.1 d_Md_init_76 rfl (lv_at hl 0 rfl) ?_
  refine lv_bipush (v := 16) F.1 F.2.1 d_Md_init_77 (by decide) ?_
  refine p_newa F hP 35 0 (by decide) (by decide) (by have h := hX 35 0 (by decide) (by decide); rw [off_35] at h; omega) rfl rfl (fun j _ => zz_av (zS_zz hS (by decide) (fun j => rfl)) (by decide) (by decide) (by decide) j) wac_boolean ⟨(by decide : Int32.toNatClampNeg 16 = 16), by decide⟩ (by exact (by decide : 16 ≤ 1000)) ⟨Nat.le_of_ble_eq_true rfl, Nat.le_of_ble_eq_true rfl⟩ d_Md_init_79 (fun H hP => ?_)
  refine p_putr 9 F hP 13 0 (by decide) (rfl) (by decide) hnm rfl rfl w_886 d_Md_init_81 (by first | rfl | simp [ftk, fti]) (fun H locs hP => ?_)
  refine lv_aload_n F.1 F.2.1 d_Md_init_84 rfl (lv_at hl 0 rfl) ?_
  refine lv_iconst (v := 3) F.1 F.2.1 d_Md_init_85 (by decide) ?_
  refine p_newa F hP 36 0 (by decide) (by decide) (by have h := hX 36 0 (by decide) (by decide); rw [off_36] at h; omega) rfl rfl (fun j _ => zz_av (zS_zz hS (by decide) (fun j => rfl)) (by decide) (by decide) (by decide) j) wac_int ⟨(by decide : Int32.toNatClampNeg 3 = 3), by decide⟩ (by exact (by decide : 3 ≤ 1000)) ⟨Nat.le_of_ble_eq_true rfl, Nat.le_of_ble_eq_true rfl⟩ d_Md_init_86 (fun H hP => ?_)
  refine p_putr 9 F hP 14 0 (by decide) (rfl) (by decide) hnm rfl rfl w_887 d_Md_init_88 (by first | rfl | simp [ftk, fti]) (fun H locs hP => ?_)
  refine lv_aload_n F.1 F.2.1 d_Md_init_91 rfl (lv_at hl 0 rfl) ?_
  refine lv_iconst (v := 3) F.1 F.2.1 d_Md_init_92 (by decide) ?_
  refine p_newa F hP 37 0 (by decide) (by decide) (by have h := hX 37 0 (by decide) (by decide); rw [off_37] at h; omega) rfl rfl (fun j _ => zz_av (zS_zz hS (by decide) (fun j => rfl)) (by decide) (by decide) (by decide) j) wac_boolean ⟨(by decide : Int32.toNatClampNeg 3 = 3), by decide⟩ (by exact (by decide : 3 ≤ 1000)) ⟨Nat.le_of_ble_eq_true rfl, Nat.le_of_ble_eq_true rfl⟩ d_Md_init_93 (fun H hP => ?_)
  refine p_putr 9 F hP 15 0 (by decide) (rfl) (by decide) hnm rfl rfl w_888 d_Md_init_95 (by first | rfl | simp [ftk, fti]) (fun H locs hP => ?_)
  refine lv_aload_n F.1 F.2.1 d_Md_init_98 rfl (lv_at hl 0 rfl) ?_
  refine lv_iconst (v := 3) F.1 F.2.1 d_Md_init_99 (by decide) ?_
  refine p_newa F hP 38 0 (by decide) (by decide) (by have h := hX 38 0 (by decide) (by decide); rw [off_38] at h; omega) rfl rfl (fun j _ => zz_av (zS_zz hS (by decide) (fun j => rfl)) (by decide) (by decide) (by decide) j) wac_long ⟨(by decide : Int32.toNatClampNeg 3 = 3), by decide⟩ (by exact (by decide : 3 ≤ 1000)) ⟨Nat.le_of_ble_eq_true rfl, Nat.le_of_ble_eq_true rfl⟩ d_Md_init_100 (fun H hP => ?_)
  refine p_putr 9 F hP 16 0 (by decide) (rfl) (by decide) hnm rfl rfl w_889 d_Md_init_102 (by first | rfl | simp [ftk, fti]) (fun H locs hP => ?_)
  refine lv_aload_n F.1 F.2.1 d_Md_init_105 rfl (lv_at hl 0 rfl) ?_
  refine lv_bipush (v := 64) F.1 F.2.1 d_Md_init_106 (by decide) ?_
  refine p_newa F hP 39 0 (by decide) (by decide) (by have h := hX 39 0 (by decide) (by decide); rw [off_39] at h; omega) rfl rfl (fun j _ => zz_av (zS_zz hS (by decide) (fun j => rfl)) (by decide) (by decide) (by decide) j) wac_int ⟨(by decide : Int32.toNatClampNeg 64 = 64), by decide⟩ (by exact (by decide : 64 ≤ 1000)) ⟨Nat.le_of_ble_eq_true rfl, Nat.le_of_ble_eq_true rfl⟩ d_Md_init_108 (fun H hP => ?_)
  refine p_putr 9 F hP 20 0 (by decide) (rfl) (by decide) hnm rfl rfl w_893 d_Md_init_110 (by first | rfl | simp [ftk, fti]) (fun H locs hP => ?_)
  refine lv_aload_n F.1 F.2.1 d_Md_init_113 rfl (lv_at hl 0 rfl) ?_
  refine lv_sipush (v := 256) F.1 F.2.1 d_Md_init_114 (by decide) ?_
  refine p_newa F hP 40 0 (by decide) (by decide) (by have h := hX 40 0 (by decide) (by decide); rw [off_40] at h; omega) rfl rfl (fun j _ => zz_av (zS_zz hS (by decide) (fun j => rfl)) (by decide) (by decide) (by decide) j) wac_long ⟨(by decide : Int32.toNatClampNeg 256 = 256), by decide⟩ (by exact (by decide : 256 ≤ 1000)) ⟨Nat.le_of_ble_eq_true rfl, Nat.le_of_ble_eq_true rfl⟩ d_Md_init_117 (fun H hP => ?_)
  refine p_putr 9 F hP 21 0 (by decide) (rfl) (by decide) hnm rfl rfl w_894 d_Md_init_119 (by first | rfl | simp [ftk, fti]) (fun H locs hP => ?_)
  refine lv_aload_n F.1 F.2.1 d_Md_init_122 rfl (lv_at hl 0 rfl) ?_
  refine lv_sipush (v := 256) F.1 F.2.1 d_Md_init_123 (by decide) ?_
  refine p_newa F hP 41 0 (by decide) (by decide) (by have h := hX 41 0 (by decide) (by decide); rw [off_41] at h; omega) rfl rfl (fun j _ => zz_av (zS_zz hS (by decide) (fun j => rfl)) (by decide) (by decide) (by decide) j) wac_boolean ⟨(by decide : Int32.toNatClampNeg 256 = 256), by decide⟩ (by exact (by decide : 256 ≤ 1000)) ⟨Nat.le_of_ble_eq_true rfl, Nat.le_of_ble_eq_true rfl⟩ d_Md_init_126 (fun H hP => ?_)
  refine p_putr 9 F hP 22 0 (by decide) (rfl) (by decide) hnm rfl rfl w_895 d_Md_init_128 (by first | rfl | simp [ftk, fti]) (fun H locs hP => ?_)
  refine lv_aload_n F.1 F.2.1 d_Md_init_131 rfl (lv_at hl 0 rfl) ?_
  refine lv_iconst (v := (-1)) F.1 F.2.1 d_Md_init_132 (by decide) ?_
  refine p_puti 9 F hP 23 0 (by decide) (rfl) (by decide) hnm rfl rfl w_896 d_Md_init_133 (fun H locs hP => ?_)
  have hS := zS_si (i := 0) (j := 23) (x := -1) hS (k := 9) (by decide)
  refine lv_aload_n F.1 F.2.1 d_Md_init_136 rfl (lv_at hl 0 rfl) ?_
  refine lv_iconst (v := (-1)) F.1 F.2.1 d_Md_init_137 (by decide) ?_
  refine p_puti 9 F hP 24 0 (by decide) (rfl) (by decide) hnm rfl rfl w_897 d_Md_init_138 (fun H locs hP => ?_)
  have hS := zS_si (i := 0) (j := 24) (x := -1) hS (k := 9) (by decide)
  refine lv_aload_n F.1 F.2.1 d_Md_init_141 rfl (lv_at hl 0 rfl) ?_
  refine lv_bipush (v := 8) F.1 F.2.1 d_Md_init_142 (by decide) ?_
  refine p_newa F hP 42 0 (by decide) (by decide) (by have h := hX 42 0 (by decide) (by decide); rw [off_42] at h; omega) rfl rfl (fun j _ => zz_av (zS_zz hS (by decide) (fun j => rfl)) (by decide) (by decide) (by decide) j) wac_int ⟨(by decide : Int32.toNatClampNeg 8 = 8), by decide⟩ (by exact (by decide : 8 ≤ 1000)) ⟨Nat.le_of_ble_eq_true rfl, Nat.le_of_ble_eq_true rfl⟩ d_Md_init_144 (fun H hP => ?_)
  refine p_putr 9 F hP 26 0 (by decide) (rfl) (by decide) hnm rfl rfl w_899 d_Md_init_146 (by first | rfl | simp [ftk, fti]) (fun H locs hP => ?_)
  refine lv_aload_n F.1 F.2.1 d_Md_init_149 rfl (lv_at hl 0 rfl) ?_
  refine lv_bipush (v := 16) F.1 F.2.1 d_Md_init_150 (by decide) ?_
  refine p_newa F hP 43 0 (by decide) (by decide) (by have h := hX 43 0 (by decide) (by decide); rw [off_43] at h; omega) rfl rfl (fun j _ => zz_av (zS_zz hS (by decide) (fun j => rfl)) (by decide) (by decide) (by decide) j) wac_int ⟨(by decide : Int32.toNatClampNeg 16 = 16), by decide⟩ (by exact (by decide : 16 ≤ 1000)) ⟨Nat.le_of_ble_eq_true rfl, Nat.le_of_ble_eq_true rfl⟩ d_Md_init_152 (fun H hP => ?_)
  refine p_putr 9 F hP 28 0 (by decide) (rfl) (by decide) hnm rfl rfl w_901 d_Md_init_154 (by first | rfl | simp [ftk, fti]) (fun H locs hP => ?_)
  exact p_vret F hP hr hlk d_Md_init_157
