/-! printed by wip/gen: 10.tape -/
theorem d_Vl_to_0 : decode b_Vl_to 0 = .ok (.aload_n 0, 1) := by decide +kernel
theorem d_Vl_to_1 : decode b_Vl_to 1 = .ok (.iconst 1, 1) := by decide +kernel
theorem d_Vl_to_2 : decode b_Vl_to 2 = .ok (.putfield 7, 3) := by decide +kernel
theorem d_Vl_to_5 : decode b_Vl_to 5 = .ok (.aload_n 0, 1) := by decide +kernel
theorem d_Vl_to_6 : decode b_Vl_to 6 = .ok (.lload_n 1, 1) := by decide +kernel
theorem d_Vl_to_7 : decode b_Vl_to 7 = .ok (.putfield 13, 3) := by decide +kernel
theorem d_Vl_to_10 : decode b_Vl_to 10 = .ok (.return_, 1) := by decide +kernel
noncomputable def f_Vl_to (i0 : Nat) (a1 : Int64) (σ : Sg) : Option (Sg) :=
  lt_ (si σ 5 i0 0 1) (fun σ1 => lt_ (sj σ1 5 i0 1 a1) (fun σ2 => some σ2))
abbrev rm_Vl_to : Room := { frames := 0, cells := 0, slots := 0, locals := 0 }
set_option maxHeartbeats 4000000 in
set_option maxRecDepth 100000 in
theorem c_Vl_to (l : Launch) (X : GX) (n : Nat) {σ σ' : Sg} {i0 : Nat} {a1 : Int64} (h_i0 : i0 < cnt n 5) (hf : f_Vl_to i0 a1 σ = some σ') : Met l y_Vl_to (cw y_Vl_to b_Vl_to 3 none) rm_Vl_to (PcG X n σ [.ref (xL X 5 i0), .long a1]) (QcG X n σ' none) 0 0 (fr X n) := by
  refine g_head (own := "TableMachine$Value") (by decide) rfl (Nat.le_of_ble_eq_true rfl) ?_
  intro p e s m args below meth c ls F hr hlk hP hl
  have hl : lv_has ls 3 [(0, .ref (xL X 5 i0)), (1, .long a1)] := hl
  show WG l X n rm_Vl_to σ' none p e s m args below meth c s.heap [] (F0 m 0 ls [])
  unfold f_Vl_to at hf
  refine lv_aload_n F.1 F.2.1 d_Vl_to_0 rfl (lv_at hl 0 rfl) ?_
  refine lv_iconst (v := 1) F.1 F.2.1 d_Vl_to_1 (by decide) ?_
  obtain ⟨σ1, e_σ1, hf⟩ := lt_some hf
  refine g_puti F hP 5 0 i0 (by decide) h_i0 (by decide) rfl rfl (zb_n zb1) (zb_f zb1) (Or.inl w_83) d_Vl_to_2 e_σ1 (fun H locs hP => ?_)
  refine lv_aload_n F.1 F.2.1 d_Vl_to_5 rfl (lv_at hl 0 rfl) ?_
  refine lv_lload_n F.1 F.2.1 d_Vl_to_6 rfl (lv_at hl 1 rfl) ?_
  obtain ⟨σ2, e_σ2, hf⟩ := lt_some hf
  refine g_putj F hP 5 1 i0 (by decide) h_i0 (by decide) rfl rfl rfl (Or.inl w_86) d_Vl_to_7 e_σ2 (fun H locs hP => ?_)
  cases hf
  exact g_vret F hP hr hlk d_Vl_to_10

theorem d_Vl_none_0 : decode b_Vl_none 0 = .ok (.aload_n 0, 1) := by decide +kernel
theorem d_Vl_none_1 : decode b_Vl_none 1 = .ok (.iconst 0, 1) := by decide +kernel
theorem d_Vl_none_2 : decode b_Vl_none 2 = .ok (.putfield 7, 3) := by decide +kernel
theorem d_Vl_none_5 : decode b_Vl_none 5 = .ok (.aload_n 0, 1) := by decide +kernel
theorem d_Vl_none_6 : decode b_Vl_none 6 = .ok (.lconst 0, 1) := by decide +kernel
theorem d_Vl_none_7 : decode b_Vl_none 7 = .ok (.putfield 13, 3) := by decide +kernel
theorem d_Vl_none_10 : decode b_Vl_none 10 = .ok (.return_, 1) := by decide +kernel
noncomputable def f_Vl_none (i0 : Nat) (σ : Sg) : Option (Sg) :=
  lt_ (si σ 5 i0 0 0) (fun σ1 => lt_ (sj σ1 5 i0 1 0) (fun σ2 => some σ2))
abbrev rm_Vl_none : Room := { frames := 0, cells := 0, slots := 0, locals := 0 }
set_option maxHeartbeats 4000000 in
set_option maxRecDepth 100000 in
theorem c_Vl_none (l : Launch) (X : GX) (n : Nat) {σ σ' : Sg} {i0 : Nat} (h_i0 : i0 < cnt n 5) (hf : f_Vl_none i0 σ = some σ') : Met l y_Vl_none (cw y_Vl_none b_Vl_none 1 none) rm_Vl_none (PcG X n σ [.ref (xL X 5 i0)]) (QcG X n σ' none) 0 0 (fr X n) := by
  refine g_head (own := "TableMachine$Value") (by decide) rfl (Nat.le_of_ble_eq_true rfl) ?_
  intro p e s m args below meth c ls F hr hlk hP hl
  have hl : lv_has ls 1 [(0, .ref (xL X 5 i0))] := hl
  show WG l X n rm_Vl_none σ' none p e s m args below meth c s.heap [] (F0 m 0 ls [])
  unfold f_Vl_none at hf
  refine lv_aload_n F.1 F.2.1 d_Vl_none_0 rfl (lv_at hl 0 rfl) ?_
  refine lv_iconst (v := 0) F.1 F.2.1 d_Vl_none_1 (by decide) ?_
  obtain ⟨σ1, e_σ1, hf⟩ := lt_some hf
  refine g_puti F hP 5 0 i0 (by decide) h_i0 (by decide) rfl rfl (zb_n zb0) (zb_f zb0) (Or.inl w_83) d_Vl_none_2 e_σ1 (fun H locs hP => ?_)
  refine lv_aload_n F.1 F.2.1 d_Vl_none_5 rfl (lv_at hl 0 rfl) ?_
  refine lv_lconst (v := 0) F.1 F.2.1 d_Vl_none_6 (by decide) ?_
  obtain ⟨σ2, e_σ2, hf⟩ := lt_some hf
  refine g_putj F hP 5 1 i0 (by decide) h_i0 (by decide) rfl rfl rfl (Or.inl w_86) d_Vl_none_7 e_σ2 (fun H locs hP => ?_)
  cases hf
  exact g_vret F hP hr hlk d_Vl_none_10

theorem d_Tp_take_0 : decode b_Tp_take 0 = .ok (.aload_n 0, 1) := by decide +kernel
theorem d_Tp_take_1 : decode b_Tp_take 1 = .ok (.dup, 1) := by decide +kernel
theorem d_Tp_take_2 : decode b_Tp_take 2 = .ok (.getfield 13, 3) := by decide +kernel
theorem d_Tp_take_5 : decode b_Tp_take 5 = .ok (.iconst 1, 1) := by decide +kernel
theorem d_Tp_take_6 : decode b_Tp_take 6 = .ok (.iadd, 1) := by decide +kernel
theorem d_Tp_take_7 : decode b_Tp_take 7 = .ok (.putfield 13, 3) := by decide +kernel
theorem d_Tp_take_10 : decode b_Tp_take 10 = .ok (.aload_n 0, 1) := by decide +kernel
theorem d_Tp_take_11 : decode b_Tp_take 11 = .ok (.getfield 7, 3) := by decide +kernel
theorem d_Tp_take_14 : decode b_Tp_take 14 = .ok (.aload_n 0, 1) := by decide +kernel
theorem d_Tp_take_15 : decode b_Tp_take 15 = .ok (.getfield 13, 3) := by decide +kernel
theorem d_Tp_take_18 : decode b_Tp_take 18 = .ok (.iconst 1, 1) := by decide +kernel
theorem d_Tp_take_19 : decode b_Tp_take 19 = .ok (.isub, 1) := by decide +kernel
theorem d_Tp_take_20 : decode b_Tp_take 20 = .ok (.baload, 1) := by decide +kernel
theorem d_Tp_take_21 : decode b_Tp_take 21 = .ok (.sipush 255, 3) := by decide +kernel
theorem d_Tp_take_24 : decode b_Tp_take 24 = .ok (.iand, 1) := by decide +kernel
theorem d_Tp_take_25 : decode b_Tp_take 25 = .ok (.ireturn, 1) := by decide +kernel
noncomputable def f_Tp_take (i0 : Nat) (σ : Sg) : Option (Int32 × Sg) :=
  lt_ (si σ 2 i0 1 ((gi σ 2 i0 1) + 1)) (fun σ1 => chk (vp_in ((gi σ1 2 i0 1) - 1) (alen 10 i0)) (some ((gi σ1 10 i0 (((gi σ1 2 i0 1) - 1).toNatClampNeg)) &&& 255, σ1)))
abbrev rm_Tp_take : Room := { frames := 0, cells := 0, slots := 0, locals := 0 }
set_option maxHeartbeats 4000000 in
set_option maxRecDepth 100000 in
theorem c_Tp_take (l : Launch) (X : GX) (n : Nat) {σ σ' : Sg} {r : Int32} {i0 : Nat} (h_i0 : i0 < cnt n 2) (hf : f_Tp_take i0 σ = some (r, σ')) : Met l y_Tp_take (cw y_Tp_take b_Tp_take 1 (some .int)) rm_Tp_take (PcG X n σ [.ref (xL X 2 i0)]) (QcG X n σ' (some (.int r))) 0 0 (fr X n) := by
  refine g_head (own := "TableMachine$Tape") (by decide) rfl (Nat.le_of_ble_eq_true rfl) ?_
  intro p e s m args below meth c ls F hr hlk hP hl
  have hl : lv_has ls 1 [(0, .ref (xL X 2 i0))] := hl
  show WG l X n rm_Tp_take σ' (some (.int r)) p e s m args below meth c s.heap [] (F0 m 0 ls [])
  unfold f_Tp_take at hf
  refine lv_aload_n F.1 F.2.1 d_Tp_take_0 rfl (lv_at hl 0 rfl) ?_
  refine lv_dup F.1 F.2.1 d_Tp_take_1 rfl ?_
  refine g_get F hP 2 1 i0 (by decide) h_i0 (by decide) (v := .int (gi σ 2 i0 1)) rfl w_48 d_Tp_take_2 ?_
  refine lv_iconst (v := 1) F.1 F.2.1 d_Tp_take_5 (by decide) ?_
  refine lv_iadd F.1 F.2.1 d_Tp_take_6 ?_
  obtain ⟨σ1, e_σ1, hf⟩ := lt_some hf
  refine g_puti F hP 2 1 i0 (by decide) h_i0 (by decide) rfl rfl rfl rfl (Or.inl w_48) d_Tp_take_7 e_σ1 (fun H locs hP => ?_)
  refine lv_aload_n F.1 F.2.1 d_Tp_take_10 rfl (lv_at hl 0 rfl) ?_
  refine g_get F hP 2 0 i0 (by decide) h_i0 (by decide) (v := .ref (xL X 10 i0)) rfl w_45 d_Tp_take_11 ?_
  refine lv_aload_n F.1 F.2.1 d_Tp_take_14 rfl (lv_at hl 0 rfl) ?_
  refine g_get F hP 2 1 i0 (by decide) h_i0 (by decide) (v := .int (gi σ1 2 i0 1)) rfl w_48 d_Tp_take_15 ?_
  refine lv_iconst (v := 1) F.1 F.2.1 d_Tp_take_18 (by decide) ?_
  refine lv_isub F.1 F.2.1 d_Tp_take_19 ?_
  obtain ⟨hc2, hf⟩ := chk_some hf
  refine g_bld F hP 10 (by decide) (by decide) h_i0 rfl rfl hc2 d_Tp_take_20 ?_
  refine lv_sipush (v := 255) F.1 F.2.1 d_Tp_take_21 (by decide) ?_
  refine lv_iand F.1 F.2.1 d_Tp_take_24 ?_
  cases hf
  exact g_iret F hP hr hlk d_Tp_take_25

theorem d_Tp_takeNumber_0 : decode b_Tp_takeNumber 0 = .ok (.lconst 0, 1) := by decide +kernel
theorem d_Tp_takeNumber_1 : decode b_Tp_takeNumber 1 = .ok (.lstore_n 1, 1) := by decide +kernel
theorem d_Tp_takeNumber_2 : decode b_Tp_takeNumber 2 = .ok (.iconst 0, 1) := by decide +kernel
theorem d_Tp_takeNumber_3 : decode b_Tp_takeNumber 3 = .ok (.istore_n 3, 1) := by decide +kernel
theorem d_Tp_takeNumber_4 : decode b_Tp_takeNumber 4 = .ok (.sipush 128, 3) := by decide +kernel
theorem d_Tp_takeNumber_7 : decode b_Tp_takeNumber 7 = .ok (.istore 4, 2) := by decide +kernel
theorem d_Tp_takeNumber_9 : decode b_Tp_takeNumber 9 = .ok (.iload 4, 2) := by decide +kernel
theorem d_Tp_takeNumber_11 : decode b_Tp_takeNumber 11 = .ok (.bipush 127, 2) := by decide +kernel
theorem d_Tp_takeNumber_13 : decode b_Tp_takeNumber 13 = .ok (.if_icmp .le 26, 3) := by decide +kernel
theorem d_Tp_takeNumber_16 : decode b_Tp_takeNumber 16 = .ok (.aload_n 0, 1) := by decide +kernel
theorem d_Tp_takeNumber_17 : decode b_Tp_takeNumber 17 = .ok (.invokevirtual 23, 3) := by decide +kernel
theorem d_Tp_takeNumber_20 : decode b_Tp_takeNumber 20 = .ok (.istore 4, 2) := by decide +kernel
theorem d_Tp_takeNumber_22 : decode b_Tp_takeNumber 22 = .ok (.lload_n 1, 1) := by decide +kernel
theorem d_Tp_takeNumber_23 : decode b_Tp_takeNumber 23 = .ok (.iload 4, 2) := by decide +kernel
theorem d_Tp_takeNumber_25 : decode b_Tp_takeNumber 25 = .ok (.bipush 127, 2) := by decide +kernel
theorem d_Tp_takeNumber_27 : decode b_Tp_takeNumber 27 = .ok (.iand, 1) := by decide +kernel
theorem d_Tp_takeNumber_28 : decode b_Tp_takeNumber 28 = .ok (.i2l, 1) := by decide +kernel
theorem d_Tp_takeNumber_29 : decode b_Tp_takeNumber 29 = .ok (.iload_n 3, 1) := by decide +kernel
theorem d_Tp_takeNumber_30 : decode b_Tp_takeNumber 30 = .ok (.lshl, 1) := by decide +kernel
theorem d_Tp_takeNumber_31 : decode b_Tp_takeNumber 31 = .ok (.lor, 1) := by decide +kernel
theorem d_Tp_takeNumber_32 : decode b_Tp_takeNumber 32 = .ok (.lstore_n 1, 1) := by decide +kernel
theorem d_Tp_takeNumber_33 : decode b_Tp_takeNumber 33 = .ok (.iinc 3 7, 3) := by decide +kernel
theorem d_Tp_takeNumber_36 : decode b_Tp_takeNumber 36 = .ok (.goto (-27), 3) := by decide +kernel
theorem d_Tp_takeNumber_39 : decode b_Tp_takeNumber 39 = .ok (.lload_n 1, 1) := by decide +kernel
theorem d_Tp_takeNumber_40 : decode b_Tp_takeNumber 40 = .ok (.iconst 1, 1) := by decide +kernel
theorem d_Tp_takeNumber_41 : decode b_Tp_takeNumber 41 = .ok (.lushr, 1) := by decide +kernel
theorem d_Tp_takeNumber_42 : decode b_Tp_takeNumber 42 = .ok (.lload_n 1, 1) := by decide +kernel
theorem d_Tp_takeNumber_43 : decode b_Tp_takeNumber 43 = .ok (.lconst 1, 1) := by decide +kernel
theorem d_Tp_takeNumber_44 : decode b_Tp_takeNumber 44 = .ok (.land, 1) := by decide +kernel
theorem d_Tp_takeNumber_45 : decode b_Tp_takeNumber 45 = .ok (.lneg, 1) := by decide +kernel
theorem d_Tp_takeNumber_46 : decode b_Tp_takeNumber 46 = .ok (.lxor, 1) := by decide +kernel
theorem d_Tp_takeNumber_47 : decode b_Tp_takeNumber 47 = .ok (.lreturn, 1) := by decide +kernel
noncomputable def b_Tp_takeNumber_9 (i0 : Nat) (x1 : Int64) (x2 : Int32) (x3 : Int32) (σ4 : Sg) : Option ((Int64 × Int32 × Int32 × Sg) ⊕ (Int64 × Sg)) :=
  (if x3 ≤ 127 then (some (.inr (x1, σ4))) else (bn2 (f_Tp_take i0 σ4) (fun r10 σ8 => lt_ (x1 ||| (((r10 &&& 127).toInt64) <<< (x2.toInt64 &&& 63)) : Int64) (fun (x11 : Int64) => lt_ (x2 + 7 : Int32) (fun (x12 : Int32) => some (.inl (x11, x12, r10, σ8)))))))
noncomputable def l_Tp_takeNumber_9 (i0 : Nat) (x1 : Int64) (x2 : Int32) (x3 : Int32) (σ4 : Sg) : Option (Int64 × Sg) := lp (fun q => b_Tp_takeNumber_9 i0 q.1 q.2.1 q.2.2.1 q.2.2.2) FU (x1, x2, x3, σ4)
noncomputable def f_Tp_takeNumber (i0 : Nat) (σ : Sg) : Option (Int64 × Sg) :=
  bn2 (l_Tp_takeNumber_9 i0 0 0 128 σ) (fun x14 σ15 => some (((x14.toUInt64 >>> ((1 : Int32).toInt64.toUInt64 &&& Int64.toUInt64 63)).toInt64) ^^^ (-(x14 &&& 1)), σ15))
abbrev rm_Tp_takeNumber : Room := { frames := 1, cells := 0, slots := 0, locals := 20 }
set_option maxHeartbeats 4000000 in
set_option maxRecDepth 100000 in
theorem c_Tp_takeNumber (l : Launch) (X : GX) (n : Nat) {σ σ' : Sg} {r : Int64} {i0 : Nat} (h_i0 : i0 < cnt n 2) (hf : f_Tp_takeNumber i0 σ = some (r, σ')) : Met l y_Tp_takeNumber (cw y_Tp_takeNumber b_Tp_takeNumber 5 (some .long)) rm_Tp_takeNumber (PcG X n σ [.ref (xL X 2 i0)]) (QcG X n σ' (some (.long r))) 0 0 (fr X n) := by
  refine g_head (own := "TableMachine$Tape") (by decide) rfl (Nat.le_of_ble_eq_true rfl) ?_
  intro p e s m args below meth c ls F hr hlk hP hl
  have hl : lv_has ls 5 [(0, .ref (xL X 2 i0))] := hl
  show WG l X n rm_Tp_takeNumber σ' (some (.long r)) p e s m args below meth c s.heap [] (F0 m 0 ls [])
  unfold f_Tp_takeNumber at hf
  refine lv_lconst (v := 0) F.1 F.2.1 d_Tp_takeNumber_0 (by decide) ?_
  refine lv_lstore_n F.1 F.2.1 d_Tp_takeNumber_1 rfl hl (by decide) rfl (fun ls hl => ?_)
  have hl : lv_has ls 5 [(1, .long 0), (0, .ref (xL X 2 i0))] := hl
  refine lv_iconst (v := 0) F.1 F.2.1 d_Tp_takeNumber_2 (by decide) ?_
  refine lv_istore_n F.1 F.2.1 d_Tp_takeNumber_3 rfl hl (by decide) rfl (fun ls hl => ?_)
  have hl : lv_has ls 5 [(3, .int 0), (1, .long 0), (0, .ref (xL X 2 i0))] := hl
  refine lv_sipush (v := 128) F.1 F.2.1 d_Tp_takeNumber_4 (by decide) ?_
  refine lv_istore F.1 F.2.1 d_Tp_takeNumber_7 hl (by decide) rfl (fun ls hl => ?_)
  have hl : lv_has ls 5 [(4, .int 128), (3, .int 0), (1, .long 0), (0, .ref (xL X 2 i0))] := hl
  obtain ⟨x14, σ15, hlp16, hf⟩ := bn2_some hf
  have KX17 : ∀ (ls : Array Slot) (H : Heap) (locs : List Loc), lv_has ls 5 [(1, .long x14)] → St X n σ15 s.heap H locs → WG l X n rm_Tp_takeNumber σ' (some (.long r)) p e s m args below meth c H locs (F0 m 39 ls []) := by
    intro ls H locs hl hP
    refine lv_lload_n F.1 F.2.1 d_Tp_takeNumber_39 rfl (lv_at hl 0 rfl) ?_
    refine lv_iconst (v := 1) F.1 F.2.1 d_Tp_takeNumber_40 (by decide) ?_
    refine lv_lushr F.1 F.2.1 d_Tp_takeNumber_41 rfl ?_
    refine lv_lload_n F.1 F.2.1 d_Tp_takeNumber_42 rfl (lv_at hl 0 rfl) ?_
    refine lv_lconst (v := 1) F.1 F.2.1 d_Tp_takeNumber_43 (by decide) ?_
    refine lv_land F.1 F.2.1 d_Tp_takeNumber_44 ?_
    refine lv_lneg F.1 F.2.1 d_Tp_takeNumber_45 ?_
    refine lv_lxor F.1 F.2.1 d_Tp_takeNumber_46 ?_
    cases hf
    exact g_lret F hP hr hlk d_Tp_takeNumber_47
  unfold l_Tp_takeNumber_9 at hlp16
  refine lp_W (PW := fun q => ∀ (ls : Array Slot) (H : Heap) (locs : List Loc), lv_has ls 5 [(0, .ref (xL X 2 i0)), (1, .long q.1), (3, .int q.2.1), (4, .int q.2.2.1)] → St X n q.2.2.2 s.heap H locs → WG l X n rm_Tp_takeNumber σ' (some (.long r)) p e s m args below meth c H locs (F0 m 9 ls [])) (PE := fun q => ∀ (ls : Array Slot) (H : Heap) (locs : List Loc), lv_has ls 5 [(1, .long q.1)] → St X n q.2 s.heap H locs → WG l X n rm_Tp_takeNumber σ' (some (.long r)) p e s m args below meth c H locs (F0 m 39 ls [])) ?_ _ _ _ hlp16 KX17 _ _ _ (lv_sub hl [3, 2, 1, 0] rfl) hP
  rintro ⟨x1, x2, x3, σ4⟩ rr5 hb_9 hI6 hE7 ls H locs hl hP
  replace hb_9 : b_Tp_takeNumber_9 i0 x1 x2 x3 σ4 = some rr5 := hb_9
  unfold b_Tp_takeNumber_9 at hb_9
  refine lv_iload F.1 F.2.1 d_Tp_takeNumber_9 (lv_at hl 3 rfl) ?_
  refine lv_bipush (v := 127) F.1 F.2.1 d_Tp_takeNumber_11 (by decide) ?_
  refine lv_icmp_le F.1 F.2.1 d_Tp_takeNumber_13 rfl (fun hb13 => ?_) (fun hb13 => ?_)
  · rw [if_pos hb13] at hb_9
    cases hb_9
    exact hE7 _ rfl _ _ _ (lv_sub hl [1] rfl) hP
  · rw [if_neg hb13] at hb_9
    refine lv_aload_n F.1 F.2.1 d_Tp_takeNumber_16 rfl (lv_at hl 0 rfl) ?_
    obtain ⟨r10, σ8, hk9, hb_9⟩ := bn2_some hb_9
    refine g_callV (As := []) (rest := []) F hP 2 i0 (by decide) h_i0 (c_Tp_take l X n h_i0 hk9) rfl q_Tp_take w_471 w_3 w_480 w_469 w_470 ⟨rfl, rfl⟩ ⟨by decide, by decide⟩ hl.1 (Nat.le_of_ble_eq_true rfl) ⟨Nat.zero_le _, Nat.zero_le _⟩ d_Tp_takeNumber_17 rfl (fun H locs hP => ?_)
    refine W.eq (g2 := F0 m 20 ls [.int r10]) rfl ?_
    refine lv_istore F.1 F.2.1 d_Tp_takeNumber_20 hl (by decide) rfl (fun ls hl => ?_)
    have hl : lv_has ls 5 [(4, .int r10), (0, .ref (xL X 2 i0)), (1, .long x1), (3, .int x2)] := hl
    refine lv_lload_n F.1 F.2.1 d_Tp_takeNumber_22 rfl (lv_at hl 2 rfl) ?_
    refine lv_iload F.1 F.2.1 d_Tp_takeNumber_23 (lv_at hl 0 rfl) ?_
    refine lv_bipush (v := 127) F.1 F.2.1 d_Tp_takeNumber_25 (by decide) ?_
    refine lv_iand F.1 F.2.1 d_Tp_takeNumber_27 ?_
    refine lv_i2l F.1 F.2.1 d_Tp_takeNumber_28 rfl ?_
    refine lv_iload_n F.1 F.2.1 d_Tp_takeNumber_29 rfl (lv_at hl 3 rfl) ?_
    refine lv_lshl F.1 F.2.1 d_Tp_takeNumber_30 rfl ?_
    refine lv_lor F.1 F.2.1 d_Tp_takeNumber_31 ?_
    obtain ⟨x11, e_x11, hb_9⟩ := lt_some hb_9
    rw [← e_x11]
    refine lv_lstore_n F.1 F.2.1 d_Tp_takeNumber_32 rfl hl (by decide) rfl (fun ls hl => ?_)
    have hl : lv_has ls 5 [(1, .long x11), (4, .int r10), (0, .ref (xL X 2 i0)), (3, .int x2)] := hl
    obtain ⟨x12, e_x12, hb_9⟩ := lt_some hb_9
    refine lv_iinc (k := 3) (v := x12) F.1 F.2.1 d_Tp_takeNumber_33 hl rfl (by rw [e_x12]; rfl) (by decide) rfl (fun ls hl => ?_)
    have hl : lv_has ls 5 [(3, .int x12), (1, .long x11), (4, .int r10), (0, .ref (xL X 2 i0))] := hl
    refine lv_goto F.1 F.2.1 d_Tp_takeNumber_36 rfl ?_
    cases hb_9
    exact hI6 _ rfl _ _ _ (lv_sub hl [3, 1, 0, 2] rfl) hP

theorem d_Tp_one_0 : decode b_Tp_one 0 = .ok (.aload_n 0, 1) := by decide +kernel
theorem d_Tp_one_1 : decode b_Tp_one 1 = .ok (.getfield 7, 3) := by decide +kernel
theorem d_Tp_one_4 : decode b_Tp_one 4 = .ok (.aload_n 0, 1) := by decide +kernel
theorem d_Tp_one_5 : decode b_Tp_one 5 = .ok (.getfield 13, 3) := by decide +kernel
theorem d_Tp_one_8 : decode b_Tp_one 8 = .ok (.iload_n 1, 1) := by decide +kernel
theorem d_Tp_one_9 : decode b_Tp_one 9 = .ok (.i2b, 1) := by decide +kernel
theorem d_Tp_one_10 : decode b_Tp_one 10 = .ok (.bastore, 1) := by decide +kernel
theorem d_Tp_one_11 : decode b_Tp_one 11 = .ok (.aload_n 0, 1) := by decide +kernel
theorem d_Tp_one_12 : decode b_Tp_one 12 = .ok (.dup, 1) := by decide +kernel
theorem d_Tp_one_13 : decode b_Tp_one 13 = .ok (.getfield 13, 3) := by decide +kernel
theorem d_Tp_one_16 : decode b_Tp_one 16 = .ok (.iconst 1, 1) := by decide +kernel
theorem d_Tp_one_17 : decode b_Tp_one 17 = .ok (.iadd, 1) := by decide +kernel
theorem d_Tp_one_18 : decode b_Tp_one 18 = .ok (.putfield 13, 3) := by decide +kernel
theorem d_Tp_one_21 : decode b_Tp_one 21 = .ok (.return_, 1) := by decide +kernel
noncomputable def f_Tp_one (i0 : Nat) (a1 : Int32) (σ : Sg) : Option (Sg) :=
  chk (vp_in (gi σ 2 i0 1) (alen 10 i0)) (lt_ (si σ 10 i0 ((gi σ 2 i0 1).toNatClampNeg) (vp_nar .byte a1.toInt8.toInt32)) (fun σ2 => lt_ (si σ2 2 i0 1 ((gi σ2 2 i0 1) + 1)) (fun σ3 => some σ3)))
abbrev rm_Tp_one : Room := { frames := 0, cells := 0, slots := 0, locals := 0 }
set_option maxHeartbeats 4000000 in
set_option maxRecDepth 100000 in
theorem c_Tp_one (l : Launch) (X : GX) (n : Nat) {σ σ' : Sg} {i0 : Nat} {a1 : Int32} (h_i0 : i0 < cnt n 2) (hf : f_Tp_one i0 a1 σ = some σ') : Met l y_Tp_one (cw y_Tp_one b_Tp_one 2 none) rm_Tp_one (PcG X n σ [.ref (xL X 2 i0), .int a1]) (QcG X n σ' none) 0 0 (fr X n) := by
  refine g_head (own := "TableMachine$Tape") (by decide) rfl (Nat.le_of_ble_eq_true rfl) ?_
  intro p e s m args below meth c ls F hr hlk hP hl
  have hl : lv_has ls 2 [(0, .ref (xL X 2 i0)), (1, .int a1)] := hl
  show WG l X n rm_Tp_one σ' none p e s m args below meth c s.heap [] (F0 m 0 ls [])
  unfold f_Tp_one at hf
  refine lv_aload_n F.1 F.2.1 d_Tp_one_0 rfl (lv_at hl 0 rfl) ?_
  refine g_get F hP 2 0 i0 (by decide) h_i0 (by decide) (v := .ref (xL X 10 i0)) rfl w_45 d_Tp_one_1 ?_
  refine lv_aload_n F.1 F.2.1 d_Tp_one_4 rfl (lv_at hl 0 rfl) ?_
  refine g_get F hP 2 1 i0 (by decide) h_i0 (by decide) (v := .int (gi σ 2 i0 1)) rfl w_48 d_Tp_one_5 ?_
  refine lv_iload_n F.1 F.2.1 d_Tp_one_8 rfl (lv_at hl 1 rfl) ?_
  refine lv_i2b F.1 F.2.1 d_Tp_one_9 rfl ?_
  obtain ⟨hc1, hf⟩ := chk_some hf
  obtain ⟨σ2, e_σ2, hf⟩ := lt_some hf
  refine g_bst F hP 10 (by decide) (by decide) h_i0 rfl rfl hc1 d_Tp_one_10 e_σ2 (fun H locs hP => ?_)
  refine lv_aload_n F.1 F.2.1 d_Tp_one_11 rfl (lv_at hl 0 rfl) ?_
  refine lv_dup F.1 F.2.1 d_Tp_one_12 rfl ?_
  refine g_get F hP 2 1 i0 (by decide) h_i0 (by decide) (v := .int (gi σ2 2 i0 1)) rfl w_48 d_Tp_one_13 ?_
  refine lv_iconst (v := 1) F.1 F.2.1 d_Tp_one_16 (by decide) ?_
  refine lv_iadd F.1 F.2.1 d_Tp_one_17 ?_
  obtain ⟨σ3, e_σ3, hf⟩ := lt_some hf
  refine g_puti F hP 2 1 i0 (by decide) h_i0 (by decide) rfl rfl rfl rfl (Or.inl w_48) d_Tp_one_18 e_σ3 (fun H locs hP => ?_)
  cases hf
  exact g_vret F hP hr hlk d_Tp_one_21

theorem d_Tp_copy_0 : decode b_Tp_copy 0 = .ok (.iload_n 2, 1) := by decide +kernel
theorem d_Tp_copy_1 : decode b_Tp_copy 1 = .ok (.istore 4, 2) := by decide +kernel
theorem d_Tp_copy_3 : decode b_Tp_copy 3 = .ok (.iload 4, 2) := by decide +kernel
theorem d_Tp_copy_5 : decode b_Tp_copy 5 = .ok (.iload_n 3, 1) := by decide +kernel
theorem d_Tp_copy_6 : decode b_Tp_copy 6 = .ok (.if_icmp .ge 20, 3) := by decide +kernel
theorem d_Tp_copy_9 : decode b_Tp_copy 9 = .ok (.aload_n 0, 1) := by decide +kernel
theorem d_Tp_copy_10 : decode b_Tp_copy 10 = .ok (.aload_n 1, 1) := by decide +kernel
theorem d_Tp_copy_11 : decode b_Tp_copy 11 = .ok (.getfield 7, 3) := by decide +kernel
theorem d_Tp_copy_14 : decode b_Tp_copy 14 = .ok (.iload 4, 2) := by decide +kernel
theorem d_Tp_copy_16 : decode b_Tp_copy 16 = .ok (.baload, 1) := by decide +kernel
theorem d_Tp_copy_17 : decode b_Tp_copy 17 = .ok (.invokevirtual 19, 3) := by decide +kernel
theorem d_Tp_copy_20 : decode b_Tp_copy 20 = .ok (.iinc 4 1, 3) := by decide +kernel
theorem d_Tp_copy_23 : decode b_Tp_copy 23 = .ok (.goto (-20), 3) := by decide +kernel
theorem d_Tp_copy_26 : decode b_Tp_copy 26 = .ok (.return_, 1) := by decide +kernel
noncomputable def b_Tp_copy_3 (i0 : Nat) (i1 : Nat) (a3 : Int32) (x1 : Int32) (σ2 : Sg) : Option ((Int32 × Sg) ⊕ (Sg)) :=
  (if a3 ≤ x1 then (some (.inr σ2)) else (chk (vp_in x1 (alen 10 i1)) ((f_Tp_one i0 (gi σ2 10 i1 x1.toNatClampNeg) σ2).bind (fun σ7 => lt_ (x1 + 1 : Int32) (fun (x9 : Int32) => some (.inl (x9, σ7)))))))
noncomputable def l_Tp_copy_3 (i0 : Nat) (i1 : Nat) (a3 : Int32) (x1 : Int32) (σ2 : Sg) : Option (Sg) := lp (fun q => b_Tp_copy_3 i0 i1 a3 q.1 q.2) FU (x1, σ2)
noncomputable def f_Tp_copy (i0 : Nat) (i1 : Nat) (a2 : Int32) (a3 : Int32) (σ : Sg) : Option (Sg) :=
  (l_Tp_copy_3 i0 i1 a3 a2 σ).bind (fun σ11 => some σ11)
abbrev rm_Tp_copy : Room := { frames := 1, cells := 0, slots := 0, locals := 21 }
set_option maxHeartbeats 4000000 in
set_option maxRecDepth 100000 in
theorem c_Tp_copy (l : Launch) (X : GX) (n : Nat) {σ σ' : Sg} {i0 : Nat} {i1 : Nat} {a2 : Int32} {a3 : Int32} (h_i0 : i0 < cnt n 2) (h_i1 : i1 < cnt n 2) (hf : f_Tp_copy i0 i1 a2 a3 σ = some σ') : Met l y_Tp_copy (cw y_Tp_copy b_Tp_copy 5 none) rm_Tp_copy (PcG X n σ [.ref (xL X 2 i0), .ref (xL X 2 i1), .int a2, .int a3]) (QcG X n σ' none) 0 0 (fr X n) := by
  refine g_head (own := "TableMachine$Tape") (by decide) rfl (Nat.le_of_ble_eq_true rfl) ?_
  intro p e s m args below meth c ls F hr hlk hP hl
  have hl : lv_has ls 5 [(0, .ref (xL X 2 i0)), (1, .ref (xL X 2 i1)), (2, .int a2), (3, .int a3)] := hl
  show WG l X n rm_Tp_copy σ' none p e s m args below meth c s.heap [] (F0 m 0 ls [])
  unfold f_Tp_copy at hf
  refine lv_iload_n F.1 F.2.1 d_Tp_copy_0 rfl (lv_at hl 2 rfl) ?_
  refine lv_istore F.1 F.2.1 d_Tp_copy_1 hl (by decide) rfl (fun ls hl => ?_)
  have hl : lv_has ls 5 [(4, .int a2), (0, .ref (xL X 2 i0)), (1, .ref (xL X 2 i1)), (2, .int a2), (3, .int a3)] := hl
  obtain ⟨σ11, hlp12, hf⟩ := bnd_some hf
  have KX13 : ∀ (ls : Array Slot) (H : Heap) (locs : List Loc), lv_has ls 5 [] → St X n σ11 s.heap H locs → WG l X n rm_Tp_copy σ' none p e s m args below meth c H locs (F0 m 26 ls []) := by
    intro ls H locs hl hP
    cases hf
    exact g_vret F hP hr hlk d_Tp_copy_26
  unfold l_Tp_copy_3 at hlp12
  refine lp_W (PW := fun q => ∀ (ls : Array Slot) (H : Heap) (locs : List Loc), lv_has ls 5 [(0, .ref (xL X 2 i0)), (1, .ref (xL X 2 i1)), (3, .int a3), (4, .int q.1)] → St X n q.2 s.heap H locs → WG l X n rm_Tp_copy σ' none p e s m args below meth c H locs (F0 m 3 ls [])) (PE := fun q => ∀ (ls : Array Slot) (H : Heap) (locs : List Loc), lv_has ls 5 [] → St X n q s.heap H locs → WG l X n rm_Tp_copy σ' none p e s m args below meth c H locs (F0 m 26 ls [])) ?_ _ _ _ hlp12 KX13 _ _ _ (lv_sub hl [1, 2, 4, 0] rfl) hP
  rintro ⟨x1, σ2⟩ rr3 hb_3 hI4 hE5 ls H locs hl hP
  replace hb_3 : b_Tp_copy_3 i0 i1 a3 x1 σ2 = some rr3 := hb_3
  unfold b_Tp_copy_3 at hb_3
  refine lv_iload F.1 F.2.1 d_Tp_copy_3 (lv_at hl 3 rfl) ?_
  refine lv_iload_n F.1 F.2.1 d_Tp_copy_5 rfl (lv_at hl 2 rfl) ?_
  refine lv_icmp_ge F.1 F.2.1 d_Tp_copy_6 rfl (fun hb10 => ?_) (fun hb10 => ?_)
  · rw [if_pos hb10] at hb_3
    cases hb_3
    exact hE5 _ rfl _ _ _ (lv_sub hl [] rfl) hP
  · rw [if_neg hb10] at hb_3
    refine lv_aload_n F.1 F.2.1 d_Tp_copy_9 rfl (lv_at hl 0 rfl) ?_
    refine lv_aload_n F.1 F.2.1 d_Tp_copy_10 rfl (lv_at hl 1 rfl) ?_
    refine g_get F hP 2 0 i1 (by decide) h_i1 (by decide) (v := .ref (xL X 10 i1)) rfl w_45 d_Tp_copy_11 ?_
    refine lv_iload F.1 F.2.1 d_Tp_copy_14 (lv_at hl 3 rfl) ?_
    obtain ⟨hc6, hb_3⟩ := chk_some hb_3
    refine g_bld F hP 10 (by decide) (by decide) h_i1 rfl rfl hc6 d_Tp_copy_16 ?_
    obtain ⟨σ7, hk8, hb_3⟩ := bnd_some hb_3
    refine g_callV (As := [.int (gi σ2 10 i1 x1.toNatClampNeg)]) (rest := []) F hP 2 i0 (by decide) h_i0 (c_Tp_one l X n h_i0 hk8) rfl q_Tp_one w_504 w_3 w_501 w_502 w_503 ⟨rfl, rfl⟩ ⟨by decide, by decide⟩ hl.1 (Nat.le_of_ble_eq_true rfl) ⟨Nat.zero_le _, Nat.zero_le _⟩ d_Tp_copy_17 rfl (fun H locs hP => ?_)
    refine W.eq (g2 := F0 m 20 ls []) rfl ?_
    obtain ⟨x9, e_x9, hb_3⟩ := lt_some hb_3
    refine lv_iinc (k := 3) (v := x9) F.1 F.2.1 d_Tp_copy_20 hl rfl (by rw [e_x9]; rfl) (by decide) rfl (fun ls hl => ?_)
    have hl : lv_has ls 5 [(4, .int x9), (0, .ref (xL X 2 i0)), (1, .ref (xL X 2 i1)), (3, .int a3)] := hl
    refine lv_goto F.1 F.2.1 d_Tp_copy_23 rfl ?_
    cases hb_3
    exact hI4 _ rfl _ _ _ (lv_sub hl [1, 2, 3, 0] rfl) hP

theorem d_Tp_number_0 : decode b_Tp_number 0 = .ok (.lload_n 1, 1) := by decide +kernel
theorem d_Tp_number_1 : decode b_Tp_number 1 = .ok (.iconst 1, 1) := by decide +kernel
theorem d_Tp_number_2 : decode b_Tp_number 2 = .ok (.lshl, 1) := by decide +kernel
theorem d_Tp_number_3 : decode b_Tp_number 3 = .ok (.lload_n 1, 1) := by decide +kernel
theorem d_Tp_number_4 : decode b_Tp_number 4 = .ok (.bipush 63, 2) := by decide +kernel
theorem d_Tp_number_6 : decode b_Tp_number 6 = .ok (.lshr, 1) := by decide +kernel
theorem d_Tp_number_7 : decode b_Tp_number 7 = .ok (.lxor, 1) := by decide +kernel
theorem d_Tp_number_8 : decode b_Tp_number 8 = .ok (.lstore_n 3, 1) := by decide +kernel
theorem d_Tp_number_9 : decode b_Tp_number 9 = .ok (.lload_n 3, 1) := by decide +kernel
theorem d_Tp_number_10 : decode b_Tp_number 10 = .ok (.bipush 7, 2) := by decide +kernel
theorem d_Tp_number_12 : decode b_Tp_number 12 = .ok (.lushr, 1) := by decide +kernel
theorem d_Tp_number_13 : decode b_Tp_number 13 = .ok (.lconst 0, 1) := by decide +kernel
theorem d_Tp_number_14 : decode b_Tp_number 14 = .ok (.lcmp, 1) := by decide +kernel
theorem d_Tp_number_15 : decode b_Tp_number 15 = .ok (.ifCond .eq 25, 3) := by decide +kernel
theorem d_Tp_number_18 : decode b_Tp_number 18 = .ok (.aload_n 0, 1) := by decide +kernel
theorem d_Tp_number_19 : decode b_Tp_number 19 = .ok (.lload_n 3, 1) := by decide +kernel
theorem d_Tp_number_20 : decode b_Tp_number 20 = .ok (.ldc2_w 17, 3) := by decide +kernel
theorem d_Tp_number_23 : decode b_Tp_number 23 = .ok (.land, 1) := by decide +kernel
theorem d_Tp_number_24 : decode b_Tp_number 24 = .ok (.l2i, 1) := by decide +kernel
theorem d_Tp_number_25 : decode b_Tp_number 25 = .ok (.sipush 128, 3) := by decide +kernel
theorem d_Tp_number_28 : decode b_Tp_number 28 = .ok (.ior, 1) := by decide +kernel
theorem d_Tp_number_29 : decode b_Tp_number 29 = .ok (.invokevirtual 19, 3) := by decide +kernel
theorem d_Tp_number_32 : decode b_Tp_number 32 = .ok (.lload_n 3, 1) := by decide +kernel
theorem d_Tp_number_33 : decode b_Tp_number 33 = .ok (.bipush 7, 2) := by decide +kernel
theorem d_Tp_number_35 : decode b_Tp_number 35 = .ok (.lushr, 1) := by decide +kernel
theorem d_Tp_number_36 : decode b_Tp_number 36 = .ok (.lstore_n 3, 1) := by decide +kernel
theorem d_Tp_number_37 : decode b_Tp_number 37 = .ok (.goto (-28), 3) := by decide +kernel
theorem d_Tp_number_40 : decode b_Tp_number 40 = .ok (.aload_n 0, 1) := by decide +kernel
theorem d_Tp_number_41 : decode b_Tp_number 41 = .ok (.lload_n 3, 1) := by decide +kernel
theorem d_Tp_number_42 : decode b_Tp_number 42 = .ok (.l2i, 1) := by decide +kernel
theorem d_Tp_number_43 : decode b_Tp_number 43 = .ok (.invokevirtual 19, 3) := by decide +kernel
theorem d_Tp_number_46 : decode b_Tp_number 46 = .ok (.return_, 1) := by decide +kernel
noncomputable def b_Tp_number_9 (i0 : Nat) (x2 : Int64) (σ3 : Sg) : Option ((Int64 × Sg) ⊕ (Int64 × Sg)) :=
  (if ((x2.toUInt64 >>> ((7 : Int32).toInt64.toUInt64 &&& Int64.toUInt64 63)).toInt64) = 0 then (some (.inr (x2, σ3))) else ((f_Tp_one i0 (((x2 &&& 127).toInt32) ||| 128) σ3).bind (fun σ7 => lt_ ((x2.toUInt64 >>> ((7 : Int32).toInt64.toUInt64 &&& Int64.toUInt64 63)).toInt64 : Int64) (fun (x9 : Int64) => some (.inl (x9, σ7))))))
noncomputable def l_Tp_number_9 (i0 : Nat) (x2 : Int64) (σ3 : Sg) : Option (Int64 × Sg) := lp (fun q => b_Tp_number_9 i0 q.1 q.2) FU (x2, σ3)
noncomputable def f_Tp_number (i0 : Nat) (a1 : Int64) (σ : Sg) : Option (Sg) :=
  lt_ ((a1 <<< ((1 : Int32).toInt64 &&& 63)) ^^^ (a1 >>> ((63 : Int32).toInt64 &&& 63)) : Int64) (fun (x1 : Int64) => bn2 (l_Tp_number_9 i0 x1 σ) (fun x11 σ12 => (f_Tp_one i0 x11.toInt32 σ12).bind (fun σ15 => some σ15)))
abbrev rm_Tp_number : Room := { frames := 1, cells := 0, slots := 0, locals := 21 }
set_option maxHeartbeats 4000000 in
set_option maxRecDepth 100000 in
theorem c_Tp_number (l : Launch) (X : GX) (n : Nat) {σ σ' : Sg} {i0 : Nat} {a1 : Int64} (h_i0 : i0 < cnt n 2) (hf : f_Tp_number i0 a1 σ = some σ') : Met l y_Tp_number (cw y_Tp_number b_Tp_number 5 none) rm_Tp_number (PcG X n σ [.ref (xL X 2 i0), .long a1]) (QcG X n σ' none) 0 0 (fr X n) := by
  refine g_head (own := "TableMachine$Tape") (by decide) rfl (Nat.le_of_ble_eq_true rfl) ?_
  intro p e s m args below meth c ls F hr hlk hP hl
  have hl : lv_has ls 5 [(0, .ref (xL X 2 i0)), (1, .long a1)] := hl
  show WG l X n rm_Tp_number σ' none p e s m args below meth c s.heap [] (F0 m 0 ls [])
  unfold f_Tp_number at hf
  refine lv_lload_n F.1 F.2.1 d_Tp_number_0 rfl (lv_at hl 1 rfl) ?_
  refine lv_iconst (v := 1) F.1 F.2.1 d_Tp_number_1 (by decide) ?_
  refine lv_lshl F.1 F.2.1 d_Tp_number_2 rfl ?_
  refine lv_lload_n F.1 F.2.1 d_Tp_number_3 rfl (lv_at hl 1 rfl) ?_
  refine lv_bipush (v := 63) F.1 F.2.1 d_Tp_number_4 (by decide) ?_
  refine lv_lshr F.1 F.2.1 d_Tp_number_6 rfl ?_
  refine lv_lxor F.1 F.2.1 d_Tp_number_7 ?_
  obtain ⟨x1, e_x1, hf⟩ := lt_some hf
  rw [← e_x1]
  refine lv_lstore_n F.1 F.2.1 d_Tp_number_8 rfl hl (by decide) rfl (fun ls hl => ?_)
  have hl : lv_has ls 5 [(3, .long x1), (0, .ref (xL X 2 i0)), (1, .long a1)] := hl
  obtain ⟨x11, σ12, hlp13, hf⟩ := bn2_some hf
  have KX14 : ∀ (ls : Array Slot) (H : Heap) (locs : List Loc), lv_has ls 5 [(0, .ref (xL X 2 i0)), (3, .long x11)] → St X n σ12 s.heap H locs → WG l X n rm_Tp_number σ' none p e s m args below meth c H locs (F0 m 40 ls []) := by
    intro ls H locs hl hP
    refine lv_aload_n F.1 F.2.1 d_Tp_number_40 rfl (lv_at hl 0 rfl) ?_
    refine lv_lload_n F.1 F.2.1 d_Tp_number_41 rfl (lv_at hl 1 rfl) ?_
    refine lv_l2i F.1 F.2.1 d_Tp_number_42 rfl ?_
    obtain ⟨σ15, hk16, hf⟩ := bnd_some hf
    refine g_callV (As := [.int x11.toInt32]) (rest := []) F hP 2 i0 (by decide) h_i0 (c_Tp_one l X n h_i0 hk16) rfl q_Tp_one w_504 w_3 w_501 w_502 w_503 ⟨rfl, rfl⟩ ⟨by decide, by decide⟩ hl.1 (Nat.le_of_ble_eq_true rfl) ⟨Nat.zero_le _, Nat.zero_le _⟩ d_Tp_number_43 rfl (fun H locs hP => ?_)
    refine W.eq (g2 := F0 m 46 ls []) rfl ?_
    cases hf
    exact g_vret F hP hr hlk d_Tp_number_46
  unfold l_Tp_number_9 at hlp13
  refine lp_W (PW := fun q => ∀ (ls : Array Slot) (H : Heap) (locs : List Loc), lv_has ls 5 [(0, .ref (xL X 2 i0)), (3, .long q.1)] → St X n q.2 s.heap H locs → WG l X n rm_Tp_number σ' none p e s m args below meth c H locs (F0 m 9 ls [])) (PE := fun q => ∀ (ls : Array Slot) (H : Heap) (locs : List Loc), lv_has ls 5 [(0, .ref (xL X 2 i0)), (3, .long q.1)] → St X n q.2 s.heap H locs → WG l X n rm_Tp_number σ' none p e s m args below meth c H locs (F0 m 40 ls [])) ?_ _ _ _ hlp13 KX14 _ _ _ (lv_sub hl [1, 0] rfl) hP
  rintro ⟨x2, σ3⟩ rr4 hb_9 hI5 hE6 ls H locs hl hP
  replace hb_9 : b_Tp_number_9 i0 x2 σ3 = some rr4 := hb_9
  unfold b_Tp_number_9 at hb_9
  refine lv_lload_n F.1 F.2.1 d_Tp_number_9 rfl (lv_at hl 1 rfl) ?_
  refine lv_bipush (v := 7) F.1 F.2.1 d_Tp_number_10 (by decide) ?_
  refine lv_lushr F.1 F.2.1 d_Tp_number_12 rfl ?_
  refine lv_lconst (v := 0) F.1 F.2.1 d_Tp_number_13 (by decide) ?_
  refine g_lc_eq F d_Tp_number_14 d_Tp_number_15 rfl (fun hb10 => ?_) (fun hb10 => ?_)
  · rw [if_pos hb10] at hb_9
    cases hb_9
    exact hE6 _ rfl _ _ _ (lv_sub hl [0, 1] rfl) hP
  · rw [if_neg hb10] at hb_9
    refine lv_aload_n F.1 F.2.1 d_Tp_number_18 rfl (lv_at hl 0 rfl) ?_
    refine lv_lload_n F.1 F.2.1 d_Tp_number_19 rfl (lv_at hl 1 rfl) ?_
    refine lv_ldc2 F.1 F.2.1 F.2.2.2.1 (F.2.2.2.2.1 _ w_509) d_Tp_number_20 ?_
    refine lv_land F.1 F.2.1 d_Tp_number_23 ?_
    refine lv_l2i F.1 F.2.1 d_Tp_number_24 rfl ?_
    refine lv_sipush (v := 128) F.1 F.2.1 d_Tp_number_25 (by decide) ?_
    refine lv_ior F.1 F.2.1 d_Tp_number_28 ?_
    obtain ⟨σ7, hk8, hb_9⟩ := bnd_some hb_9
    refine g_callV (As := [.int (((x2 &&& 127).toInt32) ||| 128)]) (rest := []) F hP 2 i0 (by decide) h_i0 (c_Tp_one l X n h_i0 hk8) rfl q_Tp_one w_504 w_3 w_501 w_502 w_503 ⟨rfl, rfl⟩ ⟨by decide, by decide⟩ hl.1 (Nat.le_of_ble_eq_true rfl) ⟨Nat.zero_le _, Nat.zero_le _⟩ d_Tp_number_29 rfl (fun H locs hP => ?_)
    refine W.eq (g2 := F0 m 32 ls []) rfl ?_
    refine lv_lload_n F.1 F.2.1 d_Tp_number_32 rfl (lv_at hl 1 rfl) ?_
    refine lv_bipush (v := 7) F.1 F.2.1 d_Tp_number_33 (by decide) ?_
    refine lv_lushr F.1 F.2.1 d_Tp_number_35 rfl ?_
    obtain ⟨x9, e_x9, hb_9⟩ := lt_some hb_9
    rw [← e_x9]
    refine lv_lstore_n F.1 F.2.1 d_Tp_number_36 rfl hl (by decide) rfl (fun ls hl => ?_)
    have hl : lv_has ls 5 [(3, .long x9), (0, .ref (xL X 2 i0))] := hl
    refine lv_goto F.1 F.2.1 d_Tp_number_37 rfl ?_
    cases hb_9
    exact hI5 _ rfl _ _ _ (lv_sub hl [1, 0] rfl) hP

theorem d_Vl_like_0 : decode b_Vl_like 0 = .ok (.aload_n 0, 1) := by decide +kernel
theorem d_Vl_like_1 : decode b_Vl_like 1 = .ok (.aload_n 1, 1) := by decide +kernel
theorem d_Vl_like_2 : decode b_Vl_like 2 = .ok (.getfield 7, 3) := by decide +kernel
theorem d_Vl_like_5 : decode b_Vl_like 5 = .ok (.putfield 7, 3) := by decide +kernel
theorem d_Vl_like_8 : decode b_Vl_like 8 = .ok (.aload_n 0, 1) := by decide +kernel
theorem d_Vl_like_9 : decode b_Vl_like 9 = .ok (.aload_n 1, 1) := by decide +kernel
theorem d_Vl_like_10 : decode b_Vl_like 10 = .ok (.getfield 13, 3) := by decide +kernel
theorem d_Vl_like_13 : decode b_Vl_like 13 = .ok (.putfield 13, 3) := by decide +kernel
theorem d_Vl_like_16 : decode b_Vl_like 16 = .ok (.return_, 1) := by decide +kernel
noncomputable def f_Vl_like (i0 : Nat) (i1 : Nat) (σ : Sg) : Option (Sg) :=
  chk (zb (gi σ 5 i1 0)) (lt_ (si σ 5 i0 0 (gi σ 5 i1 0)) (fun σ2 => lt_ (sj σ2 5 i0 1 (gj σ2 5 i1 1)) (fun σ3 => some σ3)))
abbrev rm_Vl_like : Room := { frames := 0, cells := 0, slots := 0, locals := 0 }
set_option maxHeartbeats 4000000 in
set_option maxRecDepth 100000 in
theorem c_Vl_like (l : Launch) (X : GX) (n : Nat) {σ σ' : Sg} {i0 : Nat} {i1 : Nat} (h_i0 : i0 < cnt n 5) (h_i1 : i1 < cnt n 5) (hf : f_Vl_like i0 i1 σ = some σ') : Met l y_Vl_like (cw y_Vl_like b_Vl_like 2 none) rm_Vl_like (PcG X n σ [.ref (xL X 5 i0), .ref (xL X 5 i1)]) (QcG X n σ' none) 0 0 (fr X n) := by
  refine g_head (own := "TableMachine$Value") (by decide) rfl (Nat.le_of_ble_eq_true rfl) ?_
  intro p e s m args below meth c ls F hr hlk hP hl
  have hl : lv_has ls 2 [(0, .ref (xL X 5 i0)), (1, .ref (xL X 5 i1))] := hl
  show WG l X n rm_Vl_like σ' none p e s m args below meth c s.heap [] (F0 m 0 ls [])
  unfold f_Vl_like at hf
  refine lv_aload_n F.1 F.2.1 d_Vl_like_0 rfl (lv_at hl 0 rfl) ?_
  refine lv_aload_n F.1 F.2.1 d_Vl_like_1 rfl (lv_at hl 1 rfl) ?_
  refine g_get F hP 5 0 i1 (by decide) h_i1 (by decide) (v := .int (gi σ 5 i1 0)) rfl w_83 d_Vl_like_2 ?_
  obtain ⟨hc1, hf⟩ := chk_some hf
  obtain ⟨σ2, e_σ2, hf⟩ := lt_some hf
  refine g_puti F hP 5 0 i0 (by decide) h_i0 (by decide) rfl rfl (zb_n hc1) (zb_f hc1) (Or.inl w_83) d_Vl_like_5 e_σ2 (fun H locs hP => ?_)
  refine lv_aload_n F.1 F.2.1 d_Vl_like_8 rfl (lv_at hl 0 rfl) ?_
  refine lv_aload_n F.1 F.2.1 d_Vl_like_9 rfl (lv_at hl 1 rfl) ?_
  refine g_get F hP 5 1 i1 (by decide) h_i1 (by decide) (v := .long (gj σ2 5 i1 1)) rfl w_86 d_Vl_like_10 ?_
  obtain ⟨σ3, e_σ3, hf⟩ := lt_some hf
  refine g_putj F hP 5 1 i0 (by decide) h_i0 (by decide) rfl rfl rfl (Or.inl w_86) d_Vl_like_13 e_σ3 (fun H locs hP => ?_)
  cases hf
  exact g_vret F hP hr hlk d_Vl_like_16
