/-! printed by wip/gen: 11.pages -/
theorem d_Pg_isLeaf_0 : decode b_Pg_isLeaf 0 = .ok (.aload_n 0, 1) := by decide +kernel
theorem d_Pg_isLeaf_1 : decode b_Pg_isLeaf 1 = .ok (.getfield 11, 3) := by decide +kernel
theorem d_Pg_isLeaf_4 : decode b_Pg_isLeaf 4 = .ok (.iload_n 1, 1) := by decide +kernel
theorem d_Pg_isLeaf_5 : decode b_Pg_isLeaf 5 = .ok (.aaload, 1) := by decide +kernel
theorem d_Pg_isLeaf_6 : decode b_Pg_isLeaf 6 = .ok (.getfield 31, 3) := by decide +kernel
theorem d_Pg_isLeaf_9 : decode b_Pg_isLeaf 9 = .ok (.iconst 0, 1) := by decide +kernel
theorem d_Pg_isLeaf_10 : decode b_Pg_isLeaf 10 = .ok (.baload, 1) := by decide +kernel
theorem d_Pg_isLeaf_11 : decode b_Pg_isLeaf 11 = .ok (.iconst 1, 1) := by decide +kernel
theorem d_Pg_isLeaf_12 : decode b_Pg_isLeaf 12 = .ok (.if_icmp .ne 7, 3) := by decide +kernel
theorem d_Pg_isLeaf_15 : decode b_Pg_isLeaf 15 = .ok (.iconst 1, 1) := by decide +kernel
theorem d_Pg_isLeaf_16 : decode b_Pg_isLeaf 16 = .ok (.goto 4, 3) := by decide +kernel
theorem d_Pg_isLeaf_19 : decode b_Pg_isLeaf 19 = .ok (.iconst 0, 1) := by decide +kernel
theorem d_Pg_isLeaf_20 : decode b_Pg_isLeaf 20 = .ok (.ireturn, 1) := by decide +kernel
noncomputable def f_Pg_isLeaf (a1 : Int32) (σ : Sg) : Option (Int32 × Sg) :=
  chk (vp_in a1 240) (chk (vp_in 0 (alen 10 a1.toNatClampNeg)) (lt_ ((if (gi σ 10 a1.toNatClampNeg ((0 : Int32).toNatClampNeg)) = 1 then 1 else 0) : Int32) (fun (x3 : Int32) => chk (zb x3) (some (x3, σ)))))
abbrev rm_Pg_isLeaf : Room := { frames := 0, cells := 0, slots := 0, locals := 0 }
set_option maxHeartbeats 4000000 in
set_option maxRecDepth 100000 in
theorem c_Pg_isLeaf (l : Launch) (X : GX) (n : Nat) {σ σ' : Sg} {r : Int32} {a1 : Int32}  (hf : f_Pg_isLeaf a1 σ = some (r, σ')) : Met l y_Pg_isLeaf (cw y_Pg_isLeaf b_Pg_isLeaf 2 (some .boolean)) rm_Pg_isLeaf (PcG X n σ [.ref (xL X 1 0), .int a1]) (QcG X n σ' (some (.int r))) 0 0 (fr X n) := by
  refine g_head (own := "TableMachine$Pages") (by decide) rfl (Nat.le_of_ble_eq_true rfl) ?_
  intro p e s m args below meth c ls F hr hlk hP hl
  have hl : lv_has ls 2 [(0, .ref (xL X 1 0)), (1, .int a1)] := hl
  show WG l X n rm_Pg_isLeaf σ' (some (.int r)) p e s m args below meth c s.heap [] (F0 m 0 ls [])
  unfold f_Pg_isLeaf at hf
  refine lv_aload_n F.1 F.2.1 d_Pg_isLeaf_0 rfl (lv_at hl 0 rfl) ?_
  refine g_get F hP 1 0 0 (by decide) Nat.zero_lt_one (by decide) (v := .ref (xL X 11 0)) rfl w_58 d_Pg_isLeaf_1 ?_
  refine lv_iload_n F.1 F.2.1 d_Pg_isLeaf_4 rfl (lv_at hl 1 rfl) ?_
  obtain ⟨hc1, hf⟩ := chk_some hf
  refine g_rld F hP 11 (by decide) (by decide) Nat.zero_lt_one rfl hc1 (v := .ref (xL X 2 a1.toNatClampNeg)) rfl d_Pg_isLeaf_5 ?_
  refine g_getN F hP 2 0 a1.toNatClampNeg (by decide) (ve11 hc1) (by decide) (v := .ref (xL X 10 a1.toNatClampNeg)) rfl w_46 d_Pg_isLeaf_6 ?_
  refine lv_iconst (v := 0) F.1 F.2.1 d_Pg_isLeaf_9 (by decide) ?_
  obtain ⟨hc2, hf⟩ := chk_some hf
  refine g_bld F hP 10 (by decide) (by decide) (ve11 hc1) rfl rfl hc2 d_Pg_isLeaf_10 ?_
  refine lv_iconst (v := 1) F.1 F.2.1 d_Pg_isLeaf_11 (by decide) ?_
  obtain ⟨x3, hj5, hf⟩ := lt_some2 hf
  have KJ4 : ∀ (ls : Array Slot) (H : Heap) (locs : List Loc), lv_has ls 2 [] → St X n σ s.heap H locs → WG l X n rm_Pg_isLeaf σ' (some (.int r)) p e s m args below meth c H locs (F0 m 20 ls [.int x3]) := by
    intro ls H locs hl hP
    obtain ⟨hz7, hf⟩ := chk_some hf
    cases hf
    exact g_zret F hP hr hlk hz7 d_Pg_isLeaf_20
  refine lv_icmp_ne F.1 F.2.1 d_Pg_isLeaf_12 rfl (fun hb6 => ?_) (fun hb6 => ?_)
  · rw [if_neg hb6] at hj5
    refine lv_iconst (v := 0) F.1 F.2.1 d_Pg_isLeaf_19 (by decide) ?_
    subst hj5
    exact KJ4 _ _ _ (lv_sub hl [] rfl) hP
  · rw [if_pos hb6] at hj5
    refine lv_iconst (v := 1) F.1 F.2.1 d_Pg_isLeaf_15 (by decide) ?_
    refine lv_goto F.1 F.2.1 d_Pg_isLeaf_16 rfl ?_
    subst hj5
    exact KJ4 _ _ _ (lv_sub hl [] rfl) hP

theorem d_Pg_open_0 : decode b_Pg_open 0 = .ok (.aload_n 0, 1) := by decide +kernel
theorem d_Pg_open_1 : decode b_Pg_open 1 = .ok (.getfield 11, 3) := by decide +kernel
theorem d_Pg_open_4 : decode b_Pg_open 4 = .ok (.iload_n 1, 1) := by decide +kernel
theorem d_Pg_open_5 : decode b_Pg_open 5 = .ok (.aaload, 1) := by decide +kernel
theorem d_Pg_open_6 : decode b_Pg_open 6 = .ok (.iconst 2, 1) := by decide +kernel
theorem d_Pg_open_7 : decode b_Pg_open 7 = .ok (.putfield 28, 3) := by decide +kernel
theorem d_Pg_open_10 : decode b_Pg_open 10 = .ok (.aload_n 0, 1) := by decide +kernel
theorem d_Pg_open_11 : decode b_Pg_open 11 = .ok (.getfield 11, 3) := by decide +kernel
theorem d_Pg_open_14 : decode b_Pg_open 14 = .ok (.iload_n 1, 1) := by decide +kernel
theorem d_Pg_open_15 : decode b_Pg_open 15 = .ok (.aaload, 1) := by decide +kernel
theorem d_Pg_open_16 : decode b_Pg_open 16 = .ok (.areturn, 1) := by decide +kernel
noncomputable def f_Pg_open (a1 : Int32) (σ : Sg) : Option (Nat × Sg) :=
  chk (vp_in a1 240) (lt_ (si σ 2 a1.toNatClampNeg 1 2) (fun σ2 => chk (vp_in a1 240) (some (a1.toNatClampNeg, σ2))))
abbrev rm_Pg_open : Room := { frames := 0, cells := 0, slots := 0, locals := 0 }
set_option maxHeartbeats 4000000 in
set_option maxRecDepth 100000 in
theorem c_Pg_open (l : Launch) (X : GX) (n : Nat) {σ σ' : Sg} {r : Nat} {a1 : Int32}  (hf : f_Pg_open a1 σ = some (r, σ')) : Met l y_Pg_open (cw y_Pg_open b_Pg_open 2 (some (.object "TableMachine$Tape"))) rm_Pg_open (PcG X n σ [.ref (xL X 1 0), .int a1]) (QcG X n σ' (some (.ref (xL X 2 r)))) 0 0 (fr X n) := by
  refine g_head (own := "TableMachine$Pages") (by decide) rfl (Nat.le_of_ble_eq_true rfl) ?_
  intro p e s m args below meth c ls F hr hlk hP hl
  have hl : lv_has ls 2 [(0, .ref (xL X 1 0)), (1, .int a1)] := hl
  show WG l X n rm_Pg_open σ' (some (.ref (xL X 2 r))) p e s m args below meth c s.heap [] (F0 m 0 ls [])
  unfold f_Pg_open at hf
  refine lv_aload_n F.1 F.2.1 d_Pg_open_0 rfl (lv_at hl 0 rfl) ?_
  refine g_get F hP 1 0 0 (by decide) Nat.zero_lt_one (by decide) (v := .ref (xL X 11 0)) rfl w_58 d_Pg_open_1 ?_
  refine lv_iload_n F.1 F.2.1 d_Pg_open_4 rfl (lv_at hl 1 rfl) ?_
  obtain ⟨hc1, hf⟩ := chk_some hf
  refine g_rld F hP 11 (by decide) (by decide) Nat.zero_lt_one rfl hc1 (v := .ref (xL X 2 a1.toNatClampNeg)) rfl d_Pg_open_5 ?_
  refine lv_iconst (v := 2) F.1 F.2.1 d_Pg_open_6 (by decide) ?_
  obtain ⟨σ2, e_σ2, hf⟩ := lt_some hf
  refine g_puti F hP 2 1 a1.toNatClampNeg (by decide) (ve11 hc1) (by decide) rfl rfl rfl rfl (Or.inr w_49) d_Pg_open_7 e_σ2 (fun H locs hP => ?_)
  refine lv_aload_n F.1 F.2.1 d_Pg_open_10 rfl (lv_at hl 0 rfl) ?_
  refine g_get F hP 1 0 0 (by decide) Nat.zero_lt_one (by decide) (v := .ref (xL X 11 0)) rfl w_58 d_Pg_open_11 ?_
  refine lv_iload_n F.1 F.2.1 d_Pg_open_14 rfl (lv_at hl 1 rfl) ?_
  obtain ⟨hc3, hf⟩ := chk_some hf
  refine g_rld F hP 11 (by decide) (by decide) Nat.zero_lt_one rfl hc3 (v := .ref (xL X 2 a1.toNatClampNeg)) rfl d_Pg_open_15 ?_
  cases hf
  exact g_aret F hP hr hlk d_Pg_open_16

theorem d_Pg_cells_0 : decode b_Pg_cells 0 = .ok (.aload_n 0, 1) := by decide +kernel
theorem d_Pg_cells_1 : decode b_Pg_cells 1 = .ok (.getfield 11, 3) := by decide +kernel
theorem d_Pg_cells_4 : decode b_Pg_cells 4 = .ok (.iload_n 1, 1) := by decide +kernel
theorem d_Pg_cells_5 : decode b_Pg_cells 5 = .ok (.aaload, 1) := by decide +kernel
theorem d_Pg_cells_6 : decode b_Pg_cells 6 = .ok (.getfield 31, 3) := by decide +kernel
theorem d_Pg_cells_9 : decode b_Pg_cells 9 = .ok (.iconst 1, 1) := by decide +kernel
theorem d_Pg_cells_10 : decode b_Pg_cells 10 = .ok (.baload, 1) := by decide +kernel
theorem d_Pg_cells_11 : decode b_Pg_cells 11 = .ok (.ireturn, 1) := by decide +kernel
noncomputable def f_Pg_cells (a1 : Int32) (σ : Sg) : Option (Int32 × Sg) :=
  chk (vp_in a1 240) (chk (vp_in 1 (alen 10 a1.toNatClampNeg)) (some (gi σ 10 a1.toNatClampNeg ((1 : Int32).toNatClampNeg), σ)))
abbrev rm_Pg_cells : Room := { frames := 0, cells := 0, slots := 0, locals := 0 }
set_option maxHeartbeats 4000000 in
set_option maxRecDepth 100000 in
theorem c_Pg_cells (l : Launch) (X : GX) (n : Nat) {σ σ' : Sg} {r : Int32} {a1 : Int32}  (hf : f_Pg_cells a1 σ = some (r, σ')) : Met l y_Pg_cells (cw y_Pg_cells b_Pg_cells 2 (some .int)) rm_Pg_cells (PcG X n σ [.ref (xL X 1 0), .int a1]) (QcG X n σ' (some (.int r))) 0 0 (fr X n) := by
  refine g_head (own := "TableMachine$Pages") (by decide) rfl (Nat.le_of_ble_eq_true rfl) ?_
  intro p e s m args below meth c ls F hr hlk hP hl
  have hl : lv_has ls 2 [(0, .ref (xL X 1 0)), (1, .int a1)] := hl
  show WG l X n rm_Pg_cells σ' (some (.int r)) p e s m args below meth c s.heap [] (F0 m 0 ls [])
  unfold f_Pg_cells at hf
  refine lv_aload_n F.1 F.2.1 d_Pg_cells_0 rfl (lv_at hl 0 rfl) ?_
  refine g_get F hP 1 0 0 (by decide) Nat.zero_lt_one (by decide) (v := .ref (xL X 11 0)) rfl w_58 d_Pg_cells_1 ?_
  refine lv_iload_n F.1 F.2.1 d_Pg_cells_4 rfl (lv_at hl 1 rfl) ?_
  obtain ⟨hc1, hf⟩ := chk_some hf
  refine g_rld F hP 11 (by decide) (by decide) Nat.zero_lt_one rfl hc1 (v := .ref (xL X 2 a1.toNatClampNeg)) rfl d_Pg_cells_5 ?_
  refine g_getN F hP 2 0 a1.toNatClampNeg (by decide) (ve11 hc1) (by decide) (v := .ref (xL X 10 a1.toNatClampNeg)) rfl w_46 d_Pg_cells_6 ?_
  refine lv_iconst (v := 1) F.1 F.2.1 d_Pg_cells_9 (by decide) ?_
  obtain ⟨hc2, hf⟩ := chk_some hf
  refine g_bld F hP 10 (by decide) (by decide) (ve11 hc1) rfl rfl hc2 d_Pg_cells_10 ?_
  cases hf
  exact g_iret F hP hr hlk d_Pg_cells_11

theorem d_Rc_write_0 : decode b_Rc_write 0 = .ok (.iconst 0, 1) := by decide +kernel
theorem d_Rc_write_1 : decode b_Rc_write 1 = .ok (.istore_n 3, 1) := by decide +kernel
theorem d_Rc_write_2 : decode b_Rc_write 2 = .ok (.iconst 0, 1) := by decide +kernel
theorem d_Rc_write_3 : decode b_Rc_write 3 = .ok (.istore 4, 2) := by decide +kernel
theorem d_Rc_write_5 : decode b_Rc_write 5 = .ok (.iload 4, 2) := by decide +kernel
theorem d_Rc_write_7 : decode b_Rc_write 7 = .ok (.iload_n 2, 1) := by decide +kernel
theorem d_Rc_write_8 : decode b_Rc_write 8 = .ok (.if_icmp .ge 33, 3) := by decide +kernel
theorem d_Rc_write_11 : decode b_Rc_write 11 = .ok (.iload_n 3, 1) := by decide +kernel
theorem d_Rc_write_12 : decode b_Rc_write 12 = .ok (.aload_n 0, 1) := by decide +kernel
theorem d_Rc_write_13 : decode b_Rc_write 13 = .ok (.getfield 11, 3) := by decide +kernel
theorem d_Rc_write_16 : decode b_Rc_write 16 = .ok (.iload 4, 2) := by decide +kernel
theorem d_Rc_write_18 : decode b_Rc_write 18 = .ok (.aaload, 1) := by decide +kernel
theorem d_Rc_write_19 : decode b_Rc_write 19 = .ok (.getfield 18, 3) := by decide +kernel
theorem d_Rc_write_22 : decode b_Rc_write 22 = .ok (.ifCond .eq 10, 3) := by decide +kernel
theorem d_Rc_write_25 : decode b_Rc_write 25 = .ok (.iconst 1, 1) := by decide +kernel
theorem d_Rc_write_26 : decode b_Rc_write 26 = .ok (.iload 4, 2) := by decide +kernel
theorem d_Rc_write_28 : decode b_Rc_write 28 = .ok (.ishl, 1) := by decide +kernel
theorem d_Rc_write_29 : decode b_Rc_write 29 = .ok (.goto 4, 3) := by decide +kernel
theorem d_Rc_write_32 : decode b_Rc_write 32 = .ok (.iconst 0, 1) := by decide +kernel
theorem d_Rc_write_33 : decode b_Rc_write 33 = .ok (.ior, 1) := by decide +kernel
theorem d_Rc_write_34 : decode b_Rc_write 34 = .ok (.istore_n 3, 1) := by decide +kernel
theorem d_Rc_write_35 : decode b_Rc_write 35 = .ok (.iinc 4 1, 3) := by decide +kernel
theorem d_Rc_write_38 : decode b_Rc_write 38 = .ok (.goto (-33), 3) := by decide +kernel
theorem d_Rc_write_41 : decode b_Rc_write 41 = .ok (.aload_n 1, 1) := by decide +kernel
theorem d_Rc_write_42 : decode b_Rc_write 42 = .ok (.iload_n 3, 1) := by decide +kernel
theorem d_Rc_write_43 : decode b_Rc_write 43 = .ok (.invokevirtual 22, 3) := by decide +kernel
theorem d_Rc_write_46 : decode b_Rc_write 46 = .ok (.iconst 0, 1) := by decide +kernel
theorem d_Rc_write_47 : decode b_Rc_write 47 = .ok (.istore 4, 2) := by decide +kernel
theorem d_Rc_write_49 : decode b_Rc_write 49 = .ok (.iload 4, 2) := by decide +kernel
theorem d_Rc_write_51 : decode b_Rc_write 51 = .ok (.iload_n 2, 1) := by decide +kernel
theorem d_Rc_write_52 : decode b_Rc_write 52 = .ok (.if_icmp .ge 36, 3) := by decide +kernel
theorem d_Rc_write_55 : decode b_Rc_write 55 = .ok (.aload_n 0, 1) := by decide +kernel
theorem d_Rc_write_56 : decode b_Rc_write 56 = .ok (.getfield 11, 3) := by decide +kernel
theorem d_Rc_write_59 : decode b_Rc_write 59 = .ok (.iload 4, 2) := by decide +kernel
theorem d_Rc_write_61 : decode b_Rc_write 61 = .ok (.aaload, 1) := by decide +kernel
theorem d_Rc_write_62 : decode b_Rc_write 62 = .ok (.getfield 18, 3) := by decide +kernel
theorem d_Rc_write_65 : decode b_Rc_write 65 = .ok (.ifCond .eq 17, 3) := by decide +kernel
theorem d_Rc_write_68 : decode b_Rc_write 68 = .ok (.aload_n 1, 1) := by decide +kernel
theorem d_Rc_write_69 : decode b_Rc_write 69 = .ok (.aload_n 0, 1) := by decide +kernel
theorem d_Rc_write_70 : decode b_Rc_write 70 = .ok (.getfield 11, 3) := by decide +kernel
theorem d_Rc_write_73 : decode b_Rc_write 73 = .ok (.iload 4, 2) := by decide +kernel
theorem d_Rc_write_75 : decode b_Rc_write 75 = .ok (.aaload, 1) := by decide +kernel
theorem d_Rc_write_76 : decode b_Rc_write 76 = .ok (.getfield 28, 3) := by decide +kernel
theorem d_Rc_write_79 : decode b_Rc_write 79 = .ok (.invokevirtual 32, 3) := by decide +kernel
theorem d_Rc_write_82 : decode b_Rc_write 82 = .ok (.iinc 4 1, 3) := by decide +kernel
theorem d_Rc_write_85 : decode b_Rc_write 85 = .ok (.goto (-36), 3) := by decide +kernel
theorem d_Rc_write_88 : decode b_Rc_write 88 = .ok (.return_, 1) := by decide +kernel
noncomputable def b_Rc_write_5 (i0 : Nat) (a2 : Int32) (x1 : Int32) (x2 : Int32) (σ3 : Sg) : Option ((Int32 × Int32 × Sg) ⊕ (Int32 × Sg)) :=
  (if a2 ≤ x2 then (some (.inr (x1, σ3))) else (chk (vp_in x2 4) (lt_ ((if (gi σ3 5 (4 * i0 + x2.toNatClampNeg) 0) = 0 then 0 else (1 <<< (x2 &&& 31))) : Int32) (fun (x8 : Int32) => lt_ (x1 ||| x8 : Int32) (fun (x12 : Int32) => lt_ (x2 + 1 : Int32) (fun (x13 : Int32) => some (.inl (x12, x13, σ3))))))))
noncomputable def l_Rc_write_5 (i0 : Nat) (a2 : Int32) (x1 : Int32) (x2 : Int32) (σ3 : Sg) : Option (Int32 × Sg) := lp (fun q => b_Rc_write_5 i0 a2 q.1 q.2.1 q.2.2) FU (x1, x2, σ3)
noncomputable def b_Rc_write_49 (i0 : Nat) (i1 : Nat) (a2 : Int32) (x21 : Int32) (σ22 : Sg) : Option ((Int32 × Sg) ⊕ (Sg)) :=
  (if a2 ≤ x21 then (some (.inr σ22)) else (chk (vp_in x21 4) (Option.bind (if (gi σ22 5 (4 * i0 + x21.toNatClampNeg) 0) = 0 then (some (σ22)) else (chk (vp_in x21 4) ((f_Tp_number i1 (gj σ22 5 (4 * i0 + x21.toNatClampNeg) 1) σ22).bind (fun σ31 => some (σ31))))) (fun (σ27 : Sg) => lt_ (x21 + 1 : Int32) (fun (x34 : Int32) => some (.inl (x34, σ27)))))))
noncomputable def l_Rc_write_49 (i0 : Nat) (i1 : Nat) (a2 : Int32) (x21 : Int32) (σ22 : Sg) : Option (Sg) := lp (fun q => b_Rc_write_49 i0 i1 a2 q.1 q.2) FU (x21, σ22)
noncomputable def f_Rc_write (i0 : Nat) (i1 : Nat) (a2 : Int32) (σ : Sg) : Option (Sg) :=
  bn2 (l_Rc_write_5 i0 a2 0 0 σ) (fun x15 σ16 => (f_Tp_one i1 x15 σ16).bind (fun σ19 => (l_Rc_write_49 i0 i1 a2 0 σ19).bind (fun σ36 => some σ36)))
abbrev rm_Rc_write : Room := { frames := 2, cells := 0, slots := 0, locals := 45 }
set_option maxHeartbeats 4000000 in
set_option maxRecDepth 100000 in
theorem c_Rc_write (l : Launch) (X : GX) (n : Nat) {σ σ' : Sg} {i0 : Nat} {i1 : Nat} {a2 : Int32} (h_i0 : i0 < cnt n 4) (h_i1 : i1 < cnt n 2) (hf : f_Rc_write i0 i1 a2 σ = some σ') : Met l y_Rc_write (cw y_Rc_write b_Rc_write 5 none) rm_Rc_write (PcG X n σ [.ref (xL X 4 i0), .ref (xL X 2 i1), .int a2]) (QcG X n σ' none) 0 0 (fr X n) := by
  refine g_head (own := "TableMachine$Record") (by decide) rfl (Nat.le_of_ble_eq_true rfl) ?_
  intro p e s m args below meth c ls F hr hlk hP hl
  have hl : lv_has ls 5 [(0, .ref (xL X 4 i0)), (1, .ref (xL X 2 i1)), (2, .int a2)] := hl
  show WG l X n rm_Rc_write σ' none p e s m args below meth c s.heap [] (F0 m 0 ls [])
  unfold f_Rc_write at hf
  refine lv_iconst (v := 0) F.1 F.2.1 d_Rc_write_0 (by decide) ?_
  refine lv_istore_n F.1 F.2.1 d_Rc_write_1 rfl hl (by decide) rfl (fun ls hl => ?_)
  have hl : lv_has ls 5 [(3, .int 0), (0, .ref (xL X 4 i0)), (1, .ref (xL X 2 i1)), (2, .int a2)] := hl
  refine lv_iconst (v := 0) F.1 F.2.1 d_Rc_write_2 (by decide) ?_
  refine lv_istore F.1 F.2.1 d_Rc_write_3 hl (by decide) rfl (fun ls hl => ?_)
  have hl : lv_has ls 5 [(4, .int 0), (3, .int 0), (0, .ref (xL X 4 i0)), (1, .ref (xL X 2 i1)), (2, .int a2)] := hl
  obtain ⟨x15, σ16, hlp17, hf⟩ := bn2_some hf
  have KX18 : ∀ (ls : Array Slot) (H : Heap) (locs : List Loc), lv_has ls 5 [(0, .ref (xL X 4 i0)), (1, .ref (xL X 2 i1)), (2, .int a2), (3, .int x15)] → St X n σ16 s.heap H locs → WG l X n rm_Rc_write σ' none p e s m args below meth c H locs (F0 m 41 ls []) := by
    intro ls H locs hl hP
    refine lv_aload_n F.1 F.2.1 d_Rc_write_41 rfl (lv_at hl 1 rfl) ?_
    refine lv_iload_n F.1 F.2.1 d_Rc_write_42 rfl (lv_at hl 3 rfl) ?_
    obtain ⟨σ19, hk20, hf⟩ := bnd_some hf
    refine g_callV (As := [.int x15]) (rest := []) F hP 2 i1 (by decide) h_i1 (c_Tp_one l X n h_i1 hk20) rfl q_Tp_one w_504 w_3 w_514 w_502 w_503 ⟨rfl, rfl⟩ ⟨by decide, by decide⟩ hl.1 (Nat.le_of_ble_eq_true rfl) ⟨Nat.zero_le _, Nat.zero_le _⟩ d_Rc_write_43 rfl (fun H locs hP => ?_)
    refine W.eq (g2 := F0 m 46 ls []) rfl ?_
    refine lv_iconst (v := 0) F.1 F.2.1 d_Rc_write_46 (by decide) ?_
    refine lv_istore F.1 F.2.1 d_Rc_write_47 hl (by decide) rfl (fun ls hl => ?_)
    have hl : lv_has ls 5 [(4, .int 0), (0, .ref (xL X 4 i0)), (1, .ref (xL X 2 i1)), (2, .int a2), (3, .int x15)] := hl
    obtain ⟨σ36, hlp37, hf⟩ := bnd_some hf
    have KX38 : ∀ (ls : Array Slot) (H : Heap) (locs : List Loc), lv_has ls 5 [] → St X n σ36 s.heap H locs → WG l X n rm_Rc_write σ' none p e s m args below meth c H locs (F0 m 88 ls []) := by
      intro ls H locs hl hP
      cases hf
      exact g_vret F hP hr hlk d_Rc_write_88
    unfold l_Rc_write_49 at hlp37
    refine lp_W (PW := fun q => ∀ (ls : Array Slot) (H : Heap) (locs : List Loc), lv_has ls 5 [(0, .ref (xL X 4 i0)), (1, .ref (xL X 2 i1)), (2, .int a2), (4, .int q.1)] → St X n q.2 s.heap H locs → WG l X n rm_Rc_write σ' none p e s m args below meth c H locs (F0 m 49 ls [])) (PE := fun q => ∀ (ls : Array Slot) (H : Heap) (locs : List Loc), lv_has ls 5 [] → St X n q s.heap H locs → WG l X n rm_Rc_write σ' none p e s m args below meth c H locs (F0 m 88 ls [])) ?_ _ _ _ hlp37 KX38 _ _ _ (lv_sub hl [1, 2, 3, 0] rfl) hP
    rintro ⟨x21, σ22⟩ rr23 hb_49 hI24 hE25 ls H locs hl hP
    replace hb_49 : b_Rc_write_49 i0 i1 a2 x21 σ22 = some rr23 := hb_49
    unfold b_Rc_write_49 at hb_49
    refine lv_iload F.1 F.2.1 d_Rc_write_49 (lv_at hl 3 rfl) ?_
    refine lv_iload_n F.1 F.2.1 d_Rc_write_51 rfl (lv_at hl 2 rfl) ?_
    refine lv_icmp_ge F.1 F.2.1 d_Rc_write_52 rfl (fun hb35 => ?_) (fun hb35 => ?_)
    · rw [if_pos hb35] at hb_49
      cases hb_49
      exact hE25 _ rfl _ _ _ (lv_sub hl [] rfl) hP
    · rw [if_neg hb35] at hb_49
      refine lv_aload_n F.1 F.2.1 d_Rc_write_55 rfl (lv_at hl 0 rfl) ?_
      refine g_get F hP 4 0 i0 (by decide) h_i0 (by decide) (v := .ref (xL X 15 i0)) rfl w_94 d_Rc_write_56 ?_
      refine lv_iload F.1 F.2.1 d_Rc_write_59 (lv_at hl 3 rfl) ?_
      obtain ⟨hc26, hb_49⟩ := chk_some hb_49
      refine g_rld F hP 15 (by decide) (by decide) h_i0 rfl hc26 (v := .ref (xL X 5 (4 * i0 + x21.toNatClampNeg))) rfl d_Rc_write_61 ?_
      refine g_getN F hP 5 0 (4 * i0 + x21.toNatClampNeg) (by decide) (ve15 h_i0 hc26) (by decide) (v := .int (gi σ22 5 (4 * i0 + x21.toNatClampNeg) 0)) rfl w_84 d_Rc_write_62 ?_
      obtain ⟨σ27, hj29, hb_49⟩ := bnd_some hb_49
      have KJ28 : ∀ (ls : Array Slot) (H : Heap) (locs : List Loc), lv_has ls 5 [(0, .ref (xL X 4 i0)), (1, .ref (xL X 2 i1)), (2, .int a2), (4, .int x21)] → St X n σ27 s.heap H locs → WG l X n rm_Rc_write σ' none p e s m args below meth c H locs (F0 m 82 ls []) := by
        intro ls H locs hl hP
        obtain ⟨x34, e_x34, hb_49⟩ := lt_some hb_49
        refine lv_iinc (k := 3) (v := x34) F.1 F.2.1 d_Rc_write_82 hl rfl (by rw [e_x34]; rfl) (by decide) rfl (fun ls hl => ?_)
        have hl : lv_has ls 5 [(4, .int x34), (0, .ref (xL X 4 i0)), (1, .ref (xL X 2 i1)), (2, .int a2)] := hl
        refine lv_goto F.1 F.2.1 d_Rc_write_85 rfl ?_
        cases hb_49
        exact hI24 _ rfl _ _ _ (lv_sub hl [1, 2, 3, 0] rfl) hP
      refine lv_if_eq F.1 F.2.1 d_Rc_write_65 rfl (fun hb33 => ?_) (fun hb33 => ?_)
      · rw [if_pos hb33] at hj29
        cases hj29
        exact KJ28 _ _ _ (lv_sub hl [0, 1, 2, 3] rfl) hP
      · rw [if_neg hb33] at hj29
        refine lv_aload_n F.1 F.2.1 d_Rc_write_68 rfl (lv_at hl 1 rfl) ?_
        refine lv_aload_n F.1 F.2.1 d_Rc_write_69 rfl (lv_at hl 0 rfl) ?_
        refine g_get F hP 4 0 i0 (by decide) h_i0 (by decide) (v := .ref (xL X 15 i0)) rfl w_94 d_Rc_write_70 ?_
        refine lv_iload F.1 F.2.1 d_Rc_write_73 (lv_at hl 3 rfl) ?_
        obtain ⟨hc30, hj29⟩ := chk_some hj29
        refine g_rld F hP 15 (by decide) (by decide) h_i0 rfl hc30 (v := .ref (xL X 5 (4 * i0 + x21.toNatClampNeg))) rfl d_Rc_write_75 ?_
        refine g_getN F hP 5 1 (4 * i0 + x21.toNatClampNeg) (by decide) (ve15 h_i0 hc30) (by decide) (v := .long (gj σ22 5 (4 * i0 + x21.toNatClampNeg) 1)) rfl w_87 d_Rc_write_76 ?_
        obtain ⟨σ31, hk32, hj29⟩ := bnd_some hj29
        refine g_callV (As := [.long (gj σ22 5 (4 * i0 + x21.toNatClampNeg) 1)]) (rest := []) F hP 2 i1 (by decide) h_i1 (c_Tp_number l X n h_i1 hk32) rfl q_Tp_number w_508 w_3 w_515 w_506 w_507 ⟨rfl, rfl⟩ ⟨by decide, by decide⟩ hl.1 (Nat.le_of_ble_eq_true rfl) ⟨Nat.zero_le _, Nat.zero_le _⟩ d_Rc_write_79 rfl (fun H locs hP => ?_)
        refine W.eq (g2 := F0 m 82 ls []) rfl ?_
        cases hj29
        exact KJ28 _ _ _ (lv_sub hl [0, 1, 2, 3] rfl) hP
  unfold l_Rc_write_5 at hlp17
  refine lp_W (PW := fun q => ∀ (ls : Array Slot) (H : Heap) (locs : List Loc), lv_has ls 5 [(0, .ref (xL X 4 i0)), (1, .ref (xL X 2 i1)), (2, .int a2), (3, .int q.1), (4, .int q.2.1)] → St X n q.2.2 s.heap H locs → WG l X n rm_Rc_write σ' none p e s m args below meth c H locs (F0 m 5 ls [])) (PE := fun q => ∀ (ls : Array Slot) (H : Heap) (locs : List Loc), lv_has ls 5 [(0, .ref (xL X 4 i0)), (1, .ref (xL X 2 i1)), (2, .int a2), (3, .int q.1)] → St X n q.2 s.heap H locs → WG l X n rm_Rc_write σ' none p e s m args below meth c H locs (F0 m 41 ls [])) ?_ _ _ _ hlp17 KX18 _ _ _ (lv_sub hl [2, 3, 4, 1, 0] rfl) hP
  rintro ⟨x1, x2, σ3⟩ rr4 hb_5 hI5 hE6 ls H locs hl hP
  replace hb_5 : b_Rc_write_5 i0 a2 x1 x2 σ3 = some rr4 := hb_5
  unfold b_Rc_write_5 at hb_5
  refine lv_iload F.1 F.2.1 d_Rc_write_5 (lv_at hl 4 rfl) ?_
  refine lv_iload_n F.1 F.2.1 d_Rc_write_7 rfl (lv_at hl 2 rfl) ?_
  refine lv_icmp_ge F.1 F.2.1 d_Rc_write_8 rfl (fun hb14 => ?_) (fun hb14 => ?_)
  · rw [if_pos hb14] at hb_5
    cases hb_5
    exact hE6 _ rfl _ _ _ (lv_sub hl [0, 1, 2, 3] rfl) hP
  · rw [if_neg hb14] at hb_5
    refine lv_iload_n F.1 F.2.1 d_Rc_write_11 rfl (lv_at hl 3 rfl) ?_
    refine lv_aload_n F.1 F.2.1 d_Rc_write_12 rfl (lv_at hl 0 rfl) ?_
    refine g_get F hP 4 0 i0 (by decide) h_i0 (by decide) (v := .ref (xL X 15 i0)) rfl w_94 d_Rc_write_13 ?_
    refine lv_iload F.1 F.2.1 d_Rc_write_16 (lv_at hl 4 rfl) ?_
    obtain ⟨hc7, hb_5⟩ := chk_some hb_5
    refine g_rld F hP 15 (by decide) (by decide) h_i0 rfl hc7 (v := .ref (xL X 5 (4 * i0 + x2.toNatClampNeg))) rfl d_Rc_write_18 ?_
    refine g_getN F hP 5 0 (4 * i0 + x2.toNatClampNeg) (by decide) (ve15 h_i0 hc7) (by decide) (v := .int (gi σ3 5 (4 * i0 + x2.toNatClampNeg) 0)) rfl w_84 d_Rc_write_19 ?_
    obtain ⟨x8, hj10, hb_5⟩ := lt_some2 hb_5
    have KJ9 : ∀ (ls : Array Slot) (H : Heap) (locs : List Loc), lv_has ls 5 [(0, .ref (xL X 4 i0)), (1, .ref (xL X 2 i1)), (2, .int a2), (4, .int x2)] → St X n σ3 s.heap H locs → WG l X n rm_Rc_write σ' none p e s m args below meth c H locs (F0 m 33 ls [.int x8, .int x1]) := by
      intro ls H locs hl hP
      refine lv_ior F.1 F.2.1 d_Rc_write_33 ?_
      obtain ⟨x12, e_x12, hb_5⟩ := lt_some hb_5
      rw [← e_x12]
      refine lv_istore_n F.1 F.2.1 d_Rc_write_34 rfl hl (by decide) rfl (fun ls hl => ?_)
      have hl : lv_has ls 5 [(3, .int x12), (0, .ref (xL X 4 i0)), (1, .ref (xL X 2 i1)), (2, .int a2), (4, .int x2)] := hl
      obtain ⟨x13, e_x13, hb_5⟩ := lt_some hb_5
      refine lv_iinc (k := 4) (v := x13) F.1 F.2.1 d_Rc_write_35 hl rfl (by rw [e_x13]; rfl) (by decide) rfl (fun ls hl => ?_)
      have hl : lv_has ls 5 [(4, .int x13), (3, .int x12), (0, .ref (xL X 4 i0)), (1, .ref (xL X 2 i1)), (2, .int a2)] := hl
      refine lv_goto F.1 F.2.1 d_Rc_write_38 rfl ?_
      cases hb_5
      exact hI5 _ rfl _ _ _ (lv_sub hl [2, 3, 4, 1, 0] rfl) hP
    refine lv_if_eq F.1 F.2.1 d_Rc_write_22 rfl (fun hb11 => ?_) (fun hb11 => ?_)
    · rw [if_pos hb11] at hj10
      refine lv_iconst (v := 0) F.1 F.2.1 d_Rc_write_32 (by decide) ?_
      subst hj10
      exact KJ9 _ _ _ (lv_sub hl [0, 1, 2, 4] rfl) hP
    · rw [if_neg hb11] at hj10
      refine lv_iconst (v := 1) F.1 F.2.1 d_Rc_write_25 (by decide) ?_
      refine lv_iload F.1 F.2.1 d_Rc_write_26 (lv_at hl 4 rfl) ?_
      refine lv_ishl F.1 F.2.1 d_Rc_write_28 ?_
      refine lv_goto F.1 F.2.1 d_Rc_write_29 rfl ?_
      subst hj10
      exact KJ9 _ _ _ (lv_sub hl [0, 1, 2, 4] rfl) hP

theorem d_Pg_head_0 : decode b_Pg_head 0 = .ok (.aload_n 0, 1) := by decide +kernel
theorem d_Pg_head_1 : decode b_Pg_head 1 = .ok (.getfield 11, 3) := by decide +kernel
theorem d_Pg_head_4 : decode b_Pg_head 4 = .ok (.iload_n 1, 1) := by decide +kernel
theorem d_Pg_head_5 : decode b_Pg_head 5 = .ok (.aaload, 1) := by decide +kernel
theorem d_Pg_head_6 : decode b_Pg_head 6 = .ok (.getfield 31, 3) := by decide +kernel
theorem d_Pg_head_9 : decode b_Pg_head 9 = .ok (.iconst 0, 1) := by decide +kernel
theorem d_Pg_head_10 : decode b_Pg_head 10 = .ok (.iload_n 2, 1) := by decide +kernel
theorem d_Pg_head_11 : decode b_Pg_head 11 = .ok (.ifCond .eq 7, 3) := by decide +kernel
theorem d_Pg_head_14 : decode b_Pg_head 14 = .ok (.iconst 1, 1) := by decide +kernel
theorem d_Pg_head_15 : decode b_Pg_head 15 = .ok (.goto 4, 3) := by decide +kernel
theorem d_Pg_head_18 : decode b_Pg_head 18 = .ok (.iconst 0, 1) := by decide +kernel
theorem d_Pg_head_19 : decode b_Pg_head 19 = .ok (.i2b, 1) := by decide +kernel
theorem d_Pg_head_20 : decode b_Pg_head 20 = .ok (.bastore, 1) := by decide +kernel
theorem d_Pg_head_21 : decode b_Pg_head 21 = .ok (.aload_n 0, 1) := by decide +kernel
theorem d_Pg_head_22 : decode b_Pg_head 22 = .ok (.getfield 11, 3) := by decide +kernel
theorem d_Pg_head_25 : decode b_Pg_head 25 = .ok (.iload_n 1, 1) := by decide +kernel
theorem d_Pg_head_26 : decode b_Pg_head 26 = .ok (.aaload, 1) := by decide +kernel
theorem d_Pg_head_27 : decode b_Pg_head 27 = .ok (.getfield 31, 3) := by decide +kernel
theorem d_Pg_head_30 : decode b_Pg_head 30 = .ok (.iconst 1, 1) := by decide +kernel
theorem d_Pg_head_31 : decode b_Pg_head 31 = .ok (.iload_n 3, 1) := by decide +kernel
theorem d_Pg_head_32 : decode b_Pg_head 32 = .ok (.i2b, 1) := by decide +kernel
theorem d_Pg_head_33 : decode b_Pg_head 33 = .ok (.bastore, 1) := by decide +kernel
theorem d_Pg_head_34 : decode b_Pg_head 34 = .ok (.aload_n 0, 1) := by decide +kernel
theorem d_Pg_head_35 : decode b_Pg_head 35 = .ok (.getfield 11, 3) := by decide +kernel
theorem d_Pg_head_38 : decode b_Pg_head 38 = .ok (.iload_n 1, 1) := by decide +kernel
theorem d_Pg_head_39 : decode b_Pg_head 39 = .ok (.aaload, 1) := by decide +kernel
theorem d_Pg_head_40 : decode b_Pg_head 40 = .ok (.iconst 2, 1) := by decide +kernel
theorem d_Pg_head_41 : decode b_Pg_head 41 = .ok (.putfield 28, 3) := by decide +kernel
theorem d_Pg_head_44 : decode b_Pg_head 44 = .ok (.return_, 1) := by decide +kernel
noncomputable def f_Pg_head (a1 : Int32) (a2 : Int32) (a3 : Int32) (σ : Sg) : Option (Sg) :=
  chk (vp_in a1 240) (lt_ ((if a2 = 0 then 0 else 1) : Int32) (fun (x2 : Int32) => chk (vp_in 0 (alen 10 a1.toNatClampNeg)) (lt_ (si σ 10 a1.toNatClampNeg ((0 : Int32).toNatClampNeg) (vp_nar .byte x2.toInt8.toInt32)) (fun σ7 => chk (vp_in a1 240) (chk (vp_in 1 (alen 10 a1.toNatClampNeg)) (lt_ (si σ7 10 a1.toNatClampNeg ((1 : Int32).toNatClampNeg) (vp_nar .byte a3.toInt8.toInt32)) (fun σ10 => chk (vp_in a1 240) (lt_ (si σ10 2 a1.toNatClampNeg 1 2) (fun σ12 => some σ12)))))))))
abbrev rm_Pg_head : Room := { frames := 0, cells := 0, slots := 0, locals := 0 }
set_option maxHeartbeats 4000000 in
set_option maxRecDepth 100000 in
theorem c_Pg_head (l : Launch) (X : GX) (n : Nat) {σ σ' : Sg} {a1 : Int32} {a2 : Int32} {a3 : Int32}  (hf : f_Pg_head a1 a2 a3 σ = some σ') : Met l y_Pg_head (cw y_Pg_head b_Pg_head 4 none) rm_Pg_head (PcG X n σ [.ref (xL X 1 0), .int a1, .int a2, .int a3]) (QcG X n σ' none) 0 0 (fr X n) := by
  refine g_head (own := "TableMachine$Pages") (by decide) rfl (Nat.le_of_ble_eq_true rfl) ?_
  intro p e s m args below meth c ls F hr hlk hP hl
  have hl : lv_has ls 4 [(0, .ref (xL X 1 0)), (1, .int a1), (2, .int a2), (3, .int a3)] := hl
  show WG l X n rm_Pg_head σ' none p e s m args below meth c s.heap [] (F0 m 0 ls [])
  unfold f_Pg_head at hf
  refine lv_aload_n F.1 F.2.1 d_Pg_head_0 rfl (lv_at hl 0 rfl) ?_
  refine g_get F hP 1 0 0 (by decide) Nat.zero_lt_one (by decide) (v := .ref (xL X 11 0)) rfl w_58 d_Pg_head_1 ?_
  refine lv_iload_n F.1 F.2.1 d_Pg_head_4 rfl (lv_at hl 1 rfl) ?_
  obtain ⟨hc1, hf⟩ := chk_some hf
  refine g_rld F hP 11 (by decide) (by decide) Nat.zero_lt_one rfl hc1 (v := .ref (xL X 2 a1.toNatClampNeg)) rfl d_Pg_head_5 ?_
  refine g_getN F hP 2 0 a1.toNatClampNeg (by decide) (ve11 hc1) (by decide) (v := .ref (xL X 10 a1.toNatClampNeg)) rfl w_46 d_Pg_head_6 ?_
  refine lv_iconst (v := 0) F.1 F.2.1 d_Pg_head_9 (by decide) ?_
  refine lv_iload_n F.1 F.2.1 d_Pg_head_10 rfl (lv_at hl 2 rfl) ?_
  obtain ⟨x2, hj4, hf⟩ := lt_some2 hf
  have KJ3 : ∀ (ls : Array Slot) (H : Heap) (locs : List Loc), lv_has ls 4 [(0, .ref (xL X 1 0)), (1, .int a1), (3, .int a3)] → St X n σ s.heap H locs → WG l X n rm_Pg_head σ' none p e s m args below meth c H locs (F0 m 19 ls [.int x2, .int 0, .ref (xL X 10 a1.toNatClampNeg)]) := by
    intro ls H locs hl hP
    refine lv_i2b F.1 F.2.1 d_Pg_head_19 rfl ?_
    obtain ⟨hc6, hf⟩ := chk_some hf
    obtain ⟨σ7, e_σ7, hf⟩ := lt_some hf
    refine g_bst F hP 10 (by decide) (by decide) (ve11 hc1) rfl rfl hc6 d_Pg_head_20 e_σ7 (fun H locs hP => ?_)
    refine lv_aload_n F.1 F.2.1 d_Pg_head_21 rfl (lv_at hl 0 rfl) ?_
    refine g_get F hP 1 0 0 (by decide) Nat.zero_lt_one (by decide) (v := .ref (xL X 11 0)) rfl w_58 d_Pg_head_22 ?_
    refine lv_iload_n F.1 F.2.1 d_Pg_head_25 rfl (lv_at hl 1 rfl) ?_
    obtain ⟨hc8, hf⟩ := chk_some hf
    refine g_rld F hP 11 (by decide) (by decide) Nat.zero_lt_one rfl hc8 (v := .ref (xL X 2 a1.toNatClampNeg)) rfl d_Pg_head_26 ?_
    refine g_getN F hP 2 0 a1.toNatClampNeg (by decide) (ve11 hc8) (by decide) (v := .ref (xL X 10 a1.toNatClampNeg)) rfl w_46 d_Pg_head_27 ?_
    refine lv_iconst (v := 1) F.1 F.2.1 d_Pg_head_30 (by decide) ?_
    refine lv_iload_n F.1 F.2.1 d_Pg_head_31 rfl (lv_at hl 2 rfl) ?_
    refine lv_i2b F.1 F.2.1 d_Pg_head_32 rfl ?_
    obtain ⟨hc9, hf⟩ := chk_some hf
    obtain ⟨σ10, e_σ10, hf⟩ := lt_some hf
    refine g_bst F hP 10 (by decide) (by decide) (ve11 hc8) rfl rfl hc9 d_Pg_head_33 e_σ10 (fun H locs hP => ?_)
    refine lv_aload_n F.1 F.2.1 d_Pg_head_34 rfl (lv_at hl 0 rfl) ?_
    refine g_get F hP 1 0 0 (by decide) Nat.zero_lt_one (by decide) (v := .ref (xL X 11 0)) rfl w_58 d_Pg_head_35 ?_
    refine lv_iload_n F.1 F.2.1 d_Pg_head_38 rfl (lv_at hl 1 rfl) ?_
    obtain ⟨hc11, hf⟩ := chk_some hf
    refine g_rld F hP 11 (by decide) (by decide) Nat.zero_lt_one rfl hc11 (v := .ref (xL X 2 a1.toNatClampNeg)) rfl d_Pg_head_39 ?_
    refine lv_iconst (v := 2) F.1 F.2.1 d_Pg_head_40 (by decide) ?_
    obtain ⟨σ12, e_σ12, hf⟩ := lt_some hf
    refine g_puti F hP 2 1 a1.toNatClampNeg (by decide) (ve11 hc11) (by decide) rfl rfl rfl rfl (Or.inr w_49) d_Pg_head_41 e_σ12 (fun H locs hP => ?_)
    cases hf
    exact g_vret F hP hr hlk d_Pg_head_44
  refine lv_if_eq F.1 F.2.1 d_Pg_head_11 rfl (fun hb5 => ?_) (fun hb5 => ?_)
  · rw [if_pos hb5] at hj4
    refine lv_iconst (v := 0) F.1 F.2.1 d_Pg_head_18 (by decide) ?_
    subst hj4
    exact KJ3 _ _ _ (lv_sub hl [0, 1, 3] rfl) hP
  · rw [if_neg hb5] at hj4
    refine lv_iconst (v := 1) F.1 F.2.1 d_Pg_head_14 (by decide) ?_
    refine lv_goto F.1 F.2.1 d_Pg_head_15 rfl ?_
    subst hj4
    exact KJ3 _ _ _ (lv_sub hl [0, 1, 3] rfl) hP

theorem d_Pg_fresh_0 : decode b_Pg_fresh 0 = .ok (.aload_n 0, 1) := by decide +kernel
theorem d_Pg_fresh_1 : decode b_Pg_fresh 1 = .ok (.dup, 1) := by decide +kernel
theorem d_Pg_fresh_2 : decode b_Pg_fresh 2 = .ok (.getfield 24, 3) := by decide +kernel
theorem d_Pg_fresh_5 : decode b_Pg_fresh 5 = .ok (.iconst 1, 1) := by decide +kernel
theorem d_Pg_fresh_6 : decode b_Pg_fresh 6 = .ok (.isub, 1) := by decide +kernel
theorem d_Pg_fresh_7 : decode b_Pg_fresh 7 = .ok (.putfield 24, 3) := by decide +kernel
theorem d_Pg_fresh_10 : decode b_Pg_fresh 10 = .ok (.aload_n 0, 1) := by decide +kernel
theorem d_Pg_fresh_11 : decode b_Pg_fresh 11 = .ok (.getfield 17, 3) := by decide +kernel
theorem d_Pg_fresh_14 : decode b_Pg_fresh 14 = .ok (.aload_n 0, 1) := by decide +kernel
theorem d_Pg_fresh_15 : decode b_Pg_fresh 15 = .ok (.getfield 24, 3) := by decide +kernel
theorem d_Pg_fresh_18 : decode b_Pg_fresh 18 = .ok (.iaload, 1) := by decide +kernel
theorem d_Pg_fresh_19 : decode b_Pg_fresh 19 = .ok (.ireturn, 1) := by decide +kernel
noncomputable def f_Pg_fresh  (σ : Sg) : Option (Int32 × Sg) :=
  lt_ (si σ 1 0 2 ((gi σ 1 0 2) - 1)) (fun σ1 => chk (vp_in (gi σ1 1 0 2) 240) (some (gi σ1 12 0 ((gi σ1 1 0 2).toNatClampNeg), σ1)))
abbrev rm_Pg_fresh : Room := { frames := 0, cells := 0, slots := 0, locals := 0 }
set_option maxHeartbeats 4000000 in
set_option maxRecDepth 100000 in
theorem c_Pg_fresh (l : Launch) (X : GX) (n : Nat) {σ σ' : Sg} {r : Int32}   (hf : f_Pg_fresh  σ = some (r, σ')) : Met l y_Pg_fresh (cw y_Pg_fresh b_Pg_fresh 1 (some .int)) rm_Pg_fresh (PcG X n σ [.ref (xL X 1 0)]) (QcG X n σ' (some (.int r))) 0 0 (fr X n) := by
  refine g_head (own := "TableMachine$Pages") (by decide) rfl (Nat.le_of_ble_eq_true rfl) ?_
  intro p e s m args below meth c ls F hr hlk hP hl
  have hl : lv_has ls 1 [(0, .ref (xL X 1 0))] := hl
  show WG l X n rm_Pg_fresh σ' (some (.int r)) p e s m args below meth c s.heap [] (F0 m 0 ls [])
  unfold f_Pg_fresh at hf
  refine lv_aload_n F.1 F.2.1 d_Pg_fresh_0 rfl (lv_at hl 0 rfl) ?_
  refine lv_dup F.1 F.2.1 d_Pg_fresh_1 rfl ?_
  refine g_get F hP 1 2 0 (by decide) Nat.zero_lt_one (by decide) (v := .int (gi σ 1 0 2)) rfl w_60 d_Pg_fresh_2 ?_
  refine lv_iconst (v := 1) F.1 F.2.1 d_Pg_fresh_5 (by decide) ?_
  refine lv_isub F.1 F.2.1 d_Pg_fresh_6 ?_
  obtain ⟨σ1, e_σ1, hf⟩ := lt_some hf
  refine g_puti F hP 1 2 0 (by decide) Nat.zero_lt_one (by decide) rfl rfl rfl rfl (Or.inl w_60) d_Pg_fresh_7 e_σ1 (fun H locs hP => ?_)
  refine lv_aload_n F.1 F.2.1 d_Pg_fresh_10 rfl (lv_at hl 0 rfl) ?_
  refine g_get F hP 1 1 0 (by decide) Nat.zero_lt_one (by decide) (v := .ref (xL X 12 0)) rfl w_59 d_Pg_fresh_11 ?_
  refine lv_aload_n F.1 F.2.1 d_Pg_fresh_14 rfl (lv_at hl 0 rfl) ?_
  refine g_get F hP 1 2 0 (by decide) Nat.zero_lt_one (by decide) (v := .int (gi σ1 1 0 2)) rfl w_60 d_Pg_fresh_15 ?_
  obtain ⟨hc2, hf⟩ := chk_some hf
  refine g_ald F hP 12 (by decide) (by decide) Nat.zero_lt_one rfl rfl hc2 d_Pg_fresh_18 ?_
  cases hf
  exact g_iret F hP hr hlk d_Pg_fresh_19

theorem d_Pg_giveBack_0 : decode b_Pg_giveBack 0 = .ok (.aload_n 0, 1) := by decide +kernel
theorem d_Pg_giveBack_1 : decode b_Pg_giveBack 1 = .ok (.getfield 17, 3) := by decide +kernel
theorem d_Pg_giveBack_4 : decode b_Pg_giveBack 4 = .ok (.aload_n 0, 1) := by decide +kernel
theorem d_Pg_giveBack_5 : decode b_Pg_giveBack 5 = .ok (.getfield 24, 3) := by decide +kernel
theorem d_Pg_giveBack_8 : decode b_Pg_giveBack 8 = .ok (.iload_n 1, 1) := by decide +kernel
theorem d_Pg_giveBack_9 : decode b_Pg_giveBack 9 = .ok (.iastore, 1) := by decide +kernel
theorem d_Pg_giveBack_10 : decode b_Pg_giveBack 10 = .ok (.aload_n 0, 1) := by decide +kernel
theorem d_Pg_giveBack_11 : decode b_Pg_giveBack 11 = .ok (.dup, 1) := by decide +kernel
theorem d_Pg_giveBack_12 : decode b_Pg_giveBack 12 = .ok (.getfield 24, 3) := by decide +kernel
theorem d_Pg_giveBack_15 : decode b_Pg_giveBack 15 = .ok (.iconst 1, 1) := by decide +kernel
theorem d_Pg_giveBack_16 : decode b_Pg_giveBack 16 = .ok (.iadd, 1) := by decide +kernel
theorem d_Pg_giveBack_17 : decode b_Pg_giveBack 17 = .ok (.putfield 24, 3) := by decide +kernel
theorem d_Pg_giveBack_20 : decode b_Pg_giveBack 20 = .ok (.return_, 1) := by decide +kernel
noncomputable def f_Pg_giveBack (a1 : Int32) (σ : Sg) : Option (Sg) :=
  chk (vp_in (gi σ 1 0 2) 240) (lt_ (si σ 12 0 ((gi σ 1 0 2).toNatClampNeg) a1) (fun σ2 => lt_ (si σ2 1 0 2 ((gi σ2 1 0 2) + 1)) (fun σ3 => some σ3)))
abbrev rm_Pg_giveBack : Room := { frames := 0, cells := 0, slots := 0, locals := 0 }
set_option maxHeartbeats 4000000 in
set_option maxRecDepth 100000 in
theorem c_Pg_giveBack (l : Launch) (X : GX) (n : Nat) {σ σ' : Sg} {a1 : Int32}  (hf : f_Pg_giveBack a1 σ = some σ') : Met l y_Pg_giveBack (cw y_Pg_giveBack b_Pg_giveBack 2 none) rm_Pg_giveBack (PcG X n σ [.ref (xL X 1 0), .int a1]) (QcG X n σ' none) 0 0 (fr X n) := by
  refine g_head (own := "TableMachine$Pages") (by decide) rfl (Nat.le_of_ble_eq_true rfl) ?_
  intro p e s m args below meth c ls F hr hlk hP hl
  have hl : lv_has ls 2 [(0, .ref (xL X 1 0)), (1, .int a1)] := hl
  show WG l X n rm_Pg_giveBack σ' none p e s m args below meth c s.heap [] (F0 m 0 ls [])
  unfold f_Pg_giveBack at hf
  refine lv_aload_n F.1 F.2.1 d_Pg_giveBack_0 rfl (lv_at hl 0 rfl) ?_
  refine g_get F hP 1 1 0 (by decide) Nat.zero_lt_one (by decide) (v := .ref (xL X 12 0)) rfl w_59 d_Pg_giveBack_1 ?_
  refine lv_aload_n F.1 F.2.1 d_Pg_giveBack_4 rfl (lv_at hl 0 rfl) ?_
  refine g_get F hP 1 2 0 (by decide) Nat.zero_lt_one (by decide) (v := .int (gi σ 1 0 2)) rfl w_60 d_Pg_giveBack_5 ?_
  refine lv_iload_n F.1 F.2.1 d_Pg_giveBack_8 rfl (lv_at hl 1 rfl) ?_
  obtain ⟨hc1, hf⟩ := chk_some hf
  obtain ⟨σ2, e_σ2, hf⟩ := lt_some hf
  refine g_ast F hP 12 (by decide) (by decide) Nat.zero_lt_one rfl rfl hc1 d_Pg_giveBack_9 e_σ2 (fun H locs hP => ?_)
  refine lv_aload_n F.1 F.2.1 d_Pg_giveBack_10 rfl (lv_at hl 0 rfl) ?_
  refine lv_dup F.1 F.2.1 d_Pg_giveBack_11 rfl ?_
  refine g_get F hP 1 2 0 (by decide) Nat.zero_lt_one (by decide) (v := .int (gi σ2 1 0 2)) rfl w_60 d_Pg_giveBack_12 ?_
  refine lv_iconst (v := 1) F.1 F.2.1 d_Pg_giveBack_15 (by decide) ?_
  refine lv_iadd F.1 F.2.1 d_Pg_giveBack_16 ?_
  obtain ⟨σ3, e_σ3, hf⟩ := lt_some hf
  refine g_puti F hP 1 2 0 (by decide) Nat.zero_lt_one (by decide) rfl rfl rfl rfl (Or.inl w_60) d_Pg_giveBack_17 e_σ3 (fun H locs hP => ?_)
  cases hf
  exact g_vret F hP hr hlk d_Pg_giveBack_20

theorem d_Rc_read_0 : decode b_Rc_read 0 = .ok (.aload_n 1, 1) := by decide +kernel
theorem d_Rc_read_1 : decode b_Rc_read 1 = .ok (.invokevirtual 36, 3) := by decide +kernel
theorem d_Rc_read_4 : decode b_Rc_read 4 = .ok (.istore_n 3, 1) := by decide +kernel
theorem d_Rc_read_5 : decode b_Rc_read 5 = .ok (.iconst 0, 1) := by decide +kernel
theorem d_Rc_read_6 : decode b_Rc_read 6 = .ok (.istore 4, 2) := by decide +kernel
theorem d_Rc_read_8 : decode b_Rc_read 8 = .ok (.iload 4, 2) := by decide +kernel
theorem d_Rc_read_10 : decode b_Rc_read 10 = .ok (.iconst 4, 1) := by decide +kernel
theorem d_Rc_read_11 : decode b_Rc_read 11 = .ok (.if_icmp .ge 52, 3) := by decide +kernel
theorem d_Rc_read_14 : decode b_Rc_read 14 = .ok (.iload 4, 2) := by decide +kernel
theorem d_Rc_read_16 : decode b_Rc_read 16 = .ok (.iload_n 2, 1) := by decide +kernel
theorem d_Rc_read_17 : decode b_Rc_read 17 = .ok (.if_icmp .ge 30, 3) := by decide +kernel
theorem d_Rc_read_20 : decode b_Rc_read 20 = .ok (.iload_n 3, 1) := by decide +kernel
theorem d_Rc_read_21 : decode b_Rc_read 21 = .ok (.iload 4, 2) := by decide +kernel
theorem d_Rc_read_23 : decode b_Rc_read 23 = .ok (.ishr, 1) := by decide +kernel
theorem d_Rc_read_24 : decode b_Rc_read 24 = .ok (.iconst 1, 1) := by decide +kernel
theorem d_Rc_read_25 : decode b_Rc_read 25 = .ok (.iand, 1) := by decide +kernel
theorem d_Rc_read_26 : decode b_Rc_read 26 = .ok (.iconst 1, 1) := by decide +kernel
theorem d_Rc_read_27 : decode b_Rc_read 27 = .ok (.if_icmp .ne 20, 3) := by decide +kernel
theorem d_Rc_read_30 : decode b_Rc_read 30 = .ok (.aload_n 0, 1) := by decide +kernel
theorem d_Rc_read_31 : decode b_Rc_read 31 = .ok (.getfield 11, 3) := by decide +kernel
theorem d_Rc_read_34 : decode b_Rc_read 34 = .ok (.iload 4, 2) := by decide +kernel
theorem d_Rc_read_36 : decode b_Rc_read 36 = .ok (.aaload, 1) := by decide +kernel
theorem d_Rc_read_37 : decode b_Rc_read 37 = .ok (.aload_n 1, 1) := by decide +kernel
theorem d_Rc_read_38 : decode b_Rc_read 38 = .ok (.invokevirtual 40, 3) := by decide +kernel
theorem d_Rc_read_41 : decode b_Rc_read 41 = .ok (.invokevirtual 44, 3) := by decide +kernel
theorem d_Rc_read_44 : decode b_Rc_read 44 = .ok (.goto 13, 3) := by decide +kernel
theorem d_Rc_read_47 : decode b_Rc_read 47 = .ok (.aload_n 0, 1) := by decide +kernel
theorem d_Rc_read_48 : decode b_Rc_read 48 = .ok (.getfield 11, 3) := by decide +kernel
theorem d_Rc_read_51 : decode b_Rc_read 51 = .ok (.iload 4, 2) := by decide +kernel
theorem d_Rc_read_53 : decode b_Rc_read 53 = .ok (.aaload, 1) := by decide +kernel
theorem d_Rc_read_54 : decode b_Rc_read 54 = .ok (.invokevirtual 47, 3) := by decide +kernel
theorem d_Rc_read_57 : decode b_Rc_read 57 = .ok (.iinc 4 1, 3) := by decide +kernel
theorem d_Rc_read_60 : decode b_Rc_read 60 = .ok (.goto (-52), 3) := by decide +kernel
theorem d_Rc_read_63 : decode b_Rc_read 63 = .ok (.return_, 1) := by decide +kernel
noncomputable def b_Rc_read_8 (i0 : Nat) (i1 : Nat) (a2 : Int32) (r3 : Int32) (x4 : Int32) (σ5 : Sg) : Option ((Int32 × Sg) ⊕ (Sg)) :=
  (if 4 ≤ x4 then (some (.inr σ5)) else (Option.bind (if a2 ≤ x4 then (chk (vp_in x4 4) ((f_Vl_none (4 * i0 + x4.toNatClampNeg) σ5).bind (fun σ13 => some (σ13)))) else (if ((r3 >>> (x4 &&& 31)) &&& 1) = 1 then (chk (vp_in x4 4) (bn2 (f_Tp_takeNumber i1 σ5) (fun r21 σ19 => (f_Vl_to (4 * i0 + x4.toNatClampNeg) r21 σ19).bind (fun σ22 => some (σ22))))) else (chk (vp_in x4 4) ((f_Vl_none (4 * i0 + x4.toNatClampNeg) σ5).bind (fun σ16 => some (σ16)))))) (fun (σ9 : Sg) => lt_ (x4 + 1 : Int32) (fun (x26 : Int32) => some (.inl (x26, σ9))))))
noncomputable def l_Rc_read_8 (i0 : Nat) (i1 : Nat) (a2 : Int32) (r3 : Int32) (x4 : Int32) (σ5 : Sg) : Option (Sg) := lp (fun q => b_Rc_read_8 i0 i1 a2 r3 q.1 q.2) FU (x4, σ5)
noncomputable def f_Rc_read (i0 : Nat) (i1 : Nat) (a2 : Int32) (σ : Sg) : Option (Sg) :=
  bn2 (f_Tp_take i1 σ) (fun r3 σ1 => (l_Rc_read_8 i0 i1 a2 r3 0 σ1).bind (fun σ28 => some σ28))
abbrev rm_Rc_read : Room := { frames := 2, cells := 0, slots := 0, locals := 44 }
set_option maxHeartbeats 4000000 in
set_option maxRecDepth 100000 in
theorem c_Rc_read (l : Launch) (X : GX) (n : Nat) {σ σ' : Sg} {i0 : Nat} {i1 : Nat} {a2 : Int32} (h_i0 : i0 < cnt n 4) (h_i1 : i1 < cnt n 2) (hf : f_Rc_read i0 i1 a2 σ = some σ') : Met l y_Rc_read (cw y_Rc_read b_Rc_read 5 none) rm_Rc_read (PcG X n σ [.ref (xL X 4 i0), .ref (xL X 2 i1), .int a2]) (QcG X n σ' none) 0 0 (fr X n) := by
  refine g_head (own := "TableMachine$Record") (by decide) rfl (Nat.le_of_ble_eq_true rfl) ?_
  intro p e s m args below meth c ls F hr hlk hP hl
  have hl : lv_has ls 5 [(0, .ref (xL X 4 i0)), (1, .ref (xL X 2 i1)), (2, .int a2)] := hl
  show WG l X n rm_Rc_read σ' none p e s m args below meth c s.heap [] (F0 m 0 ls [])
  unfold f_Rc_read at hf
  refine lv_aload_n F.1 F.2.1 d_Rc_read_0 rfl (lv_at hl 1 rfl) ?_
  obtain ⟨r3, σ1, hk2, hf⟩ := bn2_some hf
  refine g_callV (As := []) (rest := []) F hP 2 i1 (by decide) h_i1 (c_Tp_take l X n h_i1 hk2) rfl q_Tp_take w_471 w_3 w_630 w_469 w_470 ⟨rfl, rfl⟩ ⟨by decide, by decide⟩ hl.1 (Nat.le_of_ble_eq_true rfl) ⟨Nat.zero_le _, Nat.zero_le _⟩ d_Rc_read_1 rfl (fun H locs hP => ?_)
  refine W.eq (g2 := F0 m 4 ls [.int r3]) rfl ?_
  refine lv_istore_n F.1 F.2.1 d_Rc_read_4 rfl hl (by decide) rfl (fun ls hl => ?_)
  have hl : lv_has ls 5 [(3, .int r3), (0, .ref (xL X 4 i0)), (1, .ref (xL X 2 i1)), (2, .int a2)] := hl
  refine lv_iconst (v := 0) F.1 F.2.1 d_Rc_read_5 (by decide) ?_
  refine lv_istore F.1 F.2.1 d_Rc_read_6 hl (by decide) rfl (fun ls hl => ?_)
  have hl : lv_has ls 5 [(4, .int 0), (3, .int r3), (0, .ref (xL X 4 i0)), (1, .ref (xL X 2 i1)), (2, .int a2)] := hl
  obtain ⟨σ28, hlp29, hf⟩ := bnd_some hf
  have KX30 : ∀ (ls : Array Slot) (H : Heap) (locs : List Loc), lv_has ls 5 [] → St X n σ28 s.heap H locs → WG l X n rm_Rc_read σ' none p e s m args below meth c H locs (F0 m 63 ls []) := by
    intro ls H locs hl hP
    cases hf
    exact g_vret F hP hr hlk d_Rc_read_63
  unfold l_Rc_read_8 at hlp29
  refine lp_W (PW := fun q => ∀ (ls : Array Slot) (H : Heap) (locs : List Loc), lv_has ls 5 [(0, .ref (xL X 4 i0)), (1, .ref (xL X 2 i1)), (2, .int a2), (3, .int r3), (4, .int q.1)] → St X n q.2 s.heap H locs → WG l X n rm_Rc_read σ' none p e s m args below meth c H locs (F0 m 8 ls [])) (PE := fun q => ∀ (ls : Array Slot) (H : Heap) (locs : List Loc), lv_has ls 5 [] → St X n q s.heap H locs → WG l X n rm_Rc_read σ' none p e s m args below meth c H locs (F0 m 63 ls [])) ?_ _ _ _ hlp29 KX30 _ _ _ (lv_sub hl [2, 3, 4, 1, 0] rfl) hP
  rintro ⟨x4, σ5⟩ rr6 hb_8 hI7 hE8 ls H locs hl hP
  replace hb_8 : b_Rc_read_8 i0 i1 a2 r3 x4 σ5 = some rr6 := hb_8
  unfold b_Rc_read_8 at hb_8
  refine lv_iload F.1 F.2.1 d_Rc_read_8 (lv_at hl 4 rfl) ?_
  refine lv_iconst (v := 4) F.1 F.2.1 d_Rc_read_10 (by decide) ?_
  refine lv_icmp_ge F.1 F.2.1 d_Rc_read_11 rfl (fun hb27 => ?_) (fun hb27 => ?_)
  · rw [if_pos hb27] at hb_8
    cases hb_8
    exact hE8 _ rfl _ _ _ (lv_sub hl [] rfl) hP
  · rw [if_neg hb27] at hb_8
    refine lv_iload F.1 F.2.1 d_Rc_read_14 (lv_at hl 4 rfl) ?_
    refine lv_iload_n F.1 F.2.1 d_Rc_read_16 rfl (lv_at hl 2 rfl) ?_
    obtain ⟨σ9, hj11, hb_8⟩ := bnd_some hb_8
    have KJ10 : ∀ (ls : Array Slot) (H : Heap) (locs : List Loc), lv_has ls 5 [(0, .ref (xL X 4 i0)), (1, .ref (xL X 2 i1)), (2, .int a2), (3, .int r3), (4, .int x4)] → St X n σ9 s.heap H locs → WG l X n rm_Rc_read σ' none p e s m args below meth c H locs (F0 m 57 ls []) := by
      intro ls H locs hl hP
      obtain ⟨x26, e_x26, hb_8⟩ := lt_some hb_8
      refine lv_iinc (k := 4) (v := x26) F.1 F.2.1 d_Rc_read_57 hl rfl (by rw [e_x26]; rfl) (by decide) rfl (fun ls hl => ?_)
      have hl : lv_has ls 5 [(4, .int x26), (0, .ref (xL X 4 i0)), (1, .ref (xL X 2 i1)), (2, .int a2), (3, .int r3)] := hl
      refine lv_goto F.1 F.2.1 d_Rc_read_60 rfl ?_
      cases hb_8
      exact hI7 _ rfl _ _ _ (lv_sub hl [1, 2, 3, 4, 0] rfl) hP
    refine lv_icmp_ge F.1 F.2.1 d_Rc_read_17 rfl (fun hb25 => ?_) (fun hb25 => ?_)
    · rw [if_pos hb25] at hj11
      refine lv_aload_n F.1 F.2.1 d_Rc_read_47 rfl (lv_at hl 0 rfl) ?_
      refine g_get F hP 4 0 i0 (by decide) h_i0 (by decide) (v := .ref (xL X 15 i0)) rfl w_94 d_Rc_read_48 ?_
      refine lv_iload F.1 F.2.1 d_Rc_read_51 (lv_at hl 4 rfl) ?_
      obtain ⟨hc12, hj11⟩ := chk_some hj11
      refine g_rld F hP 15 (by decide) (by decide) h_i0 rfl hc12 (v := .ref (xL X 5 (4 * i0 + x4.toNatClampNeg))) rfl d_Rc_read_53 ?_
      obtain ⟨σ13, hk14, hj11⟩ := bnd_some hj11
      refine g_callV (As := []) (rest := []) F hP 5 (4 * i0 + x4.toNatClampNeg) (by decide) (ve15 h_i0 hc12) (c_Vl_none l X n (ve15 h_i0 hc12) hk14) rfl q_Vl_none w_254 w_5 w_633 w_252 w_253 ⟨rfl, rfl⟩ ⟨by decide, by decide⟩ hl.1 (Nat.le_of_ble_eq_true rfl) ⟨Nat.zero_le _, Nat.zero_le _⟩ d_Rc_read_54 rfl (fun H locs hP => ?_)
      refine W.eq (g2 := F0 m 57 ls []) rfl ?_
      cases hj11
      exact KJ10 _ _ _ (lv_sub hl [0, 1, 2, 3, 4] rfl) hP
    · rw [if_neg hb25] at hj11
      refine lv_iload_n F.1 F.2.1 d_Rc_read_20 rfl (lv_at hl 3 rfl) ?_
      refine lv_iload F.1 F.2.1 d_Rc_read_21 (lv_at hl 4 rfl) ?_
      refine lv_ishr F.1 F.2.1 d_Rc_read_23 ?_
      refine lv_iconst (v := 1) F.1 F.2.1 d_Rc_read_24 (by decide) ?_
      refine lv_iand F.1 F.2.1 d_Rc_read_25 ?_
      refine lv_iconst (v := 1) F.1 F.2.1 d_Rc_read_26 (by decide) ?_
      refine lv_icmp_ne F.1 F.2.1 d_Rc_read_27 rfl (fun hb24 => ?_) (fun hb24 => ?_)
      · rw [if_neg hb24] at hj11
        refine lv_aload_n F.1 F.2.1 d_Rc_read_47 rfl (lv_at hl 0 rfl) ?_
        refine g_get F hP 4 0 i0 (by decide) h_i0 (by decide) (v := .ref (xL X 15 i0)) rfl w_94 d_Rc_read_48 ?_
        refine lv_iload F.1 F.2.1 d_Rc_read_51 (lv_at hl 4 rfl) ?_
        obtain ⟨hc15, hj11⟩ := chk_some hj11
        refine g_rld F hP 15 (by decide) (by decide) h_i0 rfl hc15 (v := .ref (xL X 5 (4 * i0 + x4.toNatClampNeg))) rfl d_Rc_read_53 ?_
        obtain ⟨σ16, hk17, hj11⟩ := bnd_some hj11
        refine g_callV (As := []) (rest := []) F hP 5 (4 * i0 + x4.toNatClampNeg) (by decide) (ve15 h_i0 hc15) (c_Vl_none l X n (ve15 h_i0 hc15) hk17) rfl q_Vl_none w_254 w_5 w_633 w_252 w_253 ⟨rfl, rfl⟩ ⟨by decide, by decide⟩ hl.1 (Nat.le_of_ble_eq_true rfl) ⟨Nat.zero_le _, Nat.zero_le _⟩ d_Rc_read_54 rfl (fun H locs hP => ?_)
        refine W.eq (g2 := F0 m 57 ls []) rfl ?_
        cases hj11
        exact KJ10 _ _ _ (lv_sub hl [0, 1, 2, 3, 4] rfl) hP
      · rw [if_pos hb24] at hj11
        refine lv_aload_n F.1 F.2.1 d_Rc_read_30 rfl (lv_at hl 0 rfl) ?_
        refine g_get F hP 4 0 i0 (by decide) h_i0 (by decide) (v := .ref (xL X 15 i0)) rfl w_94 d_Rc_read_31 ?_
        refine lv_iload F.1 F.2.1 d_Rc_read_34 (lv_at hl 4 rfl) ?_
        obtain ⟨hc18, hj11⟩ := chk_some hj11
        refine g_rld F hP 15 (by decide) (by decide) h_i0 rfl hc18 (v := .ref (xL X 5 (4 * i0 + x4.toNatClampNeg))) rfl d_Rc_read_36 ?_
        refine lv_aload_n F.1 F.2.1 d_Rc_read_37 rfl (lv_at hl 1 rfl) ?_
        obtain ⟨r21, σ19, hk20, hj11⟩ := bn2_some hj11
        refine g_callV (As := []) (rest := [.ref (xL X 5 (4 * i0 + x4.toNatClampNeg))]) F hP 2 i1 (by decide) h_i1 (c_Tp_takeNumber l X n h_i1 hk20) rfl q_Tp_takeNumber w_479 w_3 w_631 w_477 w_478 ⟨rfl, rfl⟩ ⟨by decide, by decide⟩ hl.1 (Nat.le_of_ble_eq_true rfl) ⟨Nat.zero_le _, Nat.zero_le _⟩ d_Rc_read_38 rfl (fun H locs hP => ?_)
        refine W.eq (g2 := F0 m 41 ls [.long r21, .ref (xL X 5 (4 * i0 + x4.toNatClampNeg))]) rfl ?_
        obtain ⟨σ22, hk23, hj11⟩ := bnd_some hj11
        refine g_callV (As := [.long r21]) (rest := []) F hP 5 (4 * i0 + x4.toNatClampNeg) (by decide) (ve15 h_i0 hc18) (c_Vl_to l X n (ve15 h_i0 hc18) hk23) rfl q_Vl_to w_250 w_5 w_632 w_248 w_249 ⟨rfl, rfl⟩ ⟨by decide, by decide⟩ hl.1 (Nat.le_of_ble_eq_true rfl) ⟨Nat.zero_le _, Nat.zero_le _⟩ d_Rc_read_41 rfl (fun H locs hP => ?_)
        refine W.eq (g2 := F0 m 44 ls []) rfl ?_
        refine lv_goto F.1 F.2.1 d_Rc_read_44 rfl ?_
        cases hj11
        exact KJ10 _ _ _ (lv_sub hl [0, 1, 2, 3, 4] rfl) hP

theorem d_In_goal_0 : decode b_In_goal 0 = .ok (.iconst (-1), 1) := by decide +kernel
theorem d_In_goal_1 : decode b_In_goal 1 = .ok (.istore_n 1, 1) := by decide +kernel
theorem d_In_goal_2 : decode b_In_goal 2 = .ok (.iconst 0, 1) := by decide +kernel
theorem d_In_goal_3 : decode b_In_goal 3 = .ok (.istore_n 2, 1) := by decide +kernel
theorem d_In_goal_4 : decode b_In_goal 4 = .ok (.iload_n 2, 1) := by decide +kernel
theorem d_In_goal_5 : decode b_In_goal 5 = .ok (.iconst 3, 1) := by decide +kernel
theorem d_In_goal_6 : decode b_In_goal 6 = .ok (.if_icmp .ge 36, 3) := by decide +kernel
theorem d_In_goal_9 : decode b_In_goal 9 = .ok (.aload_n 0, 1) := by decide +kernel
theorem d_In_goal_10 : decode b_In_goal 10 = .ok (.getfield 15, 3) := by decide +kernel
theorem d_In_goal_13 : decode b_In_goal 13 = .ok (.getfield 19, 3) := by decide +kernel
theorem d_In_goal_16 : decode b_In_goal 16 = .ok (.iload_n 2, 1) := by decide +kernel
theorem d_In_goal_17 : decode b_In_goal 17 = .ok (.invokevirtual 25, 3) := by decide +kernel
theorem d_In_goal_20 : decode b_In_goal 20 = .ok (.bipush 106, 2) := by decide +kernel
theorem d_In_goal_22 : decode b_In_goal 22 = .ok (.if_icmp .ne 12, 3) := by decide +kernel
theorem d_In_goal_25 : decode b_In_goal 25 = .ok (.aload_n 0, 1) := by decide +kernel
theorem d_In_goal_26 : decode b_In_goal 26 = .ok (.getfield 9, 3) := by decide +kernel
theorem d_In_goal_29 : decode b_In_goal 29 = .ok (.iload_n 2, 1) := by decide +kernel
theorem d_In_goal_30 : decode b_In_goal 30 = .ok (.iaload, 1) := by decide +kernel
theorem d_In_goal_31 : decode b_In_goal 31 = .ok (.goto 4, 3) := by decide +kernel
theorem d_In_goal_34 : decode b_In_goal 34 = .ok (.iload_n 1, 1) := by decide +kernel
theorem d_In_goal_35 : decode b_In_goal 35 = .ok (.istore_n 1, 1) := by decide +kernel
theorem d_In_goal_36 : decode b_In_goal 36 = .ok (.iinc 2 1, 3) := by decide +kernel
theorem d_In_goal_39 : decode b_In_goal 39 = .ok (.goto (-35), 3) := by decide +kernel
theorem d_In_goal_42 : decode b_In_goal 42 = .ok (.iload_n 1, 1) := by decide +kernel
theorem d_In_goal_43 : decode b_In_goal 43 = .ok (.ireturn, 1) := by decide +kernel
noncomputable def b_In_goal_4 (i0 : Nat) (x2 : Int32) (x3 : Int32) (σ4 : Sg) : Option ((Int32 × Int32 × Sg) ⊕ (Int32 × Sg)) :=
  (if 3 ≤ x3 then (some (.inr (x2, σ4))) else ((gr σ4 6 i0 0).bind (fun o8 => chk (o8 < 22) (chk (vp_in x3 3) (Option.bind (if (chr o8 x3.toNatClampNeg) = 106 then (chk (vp_in x3 3) (some (gi σ4 16 i0 x3.toNatClampNeg))) else (some (x2))) (fun (x11 : Int32) => lt_ (x3 + 1 : Int32) (fun (x16 : Int32) => some (.inl (x11, x16, σ4)))))))))
noncomputable def l_In_goal_4 (i0 : Nat) (x2 : Int32) (x3 : Int32) (σ4 : Sg) : Option (Int32 × Sg) := lp (fun q => b_In_goal_4 i0 q.1 q.2.1 q.2.2) FU (x2, x3, σ4)
noncomputable def f_In_goal (i0 : Nat) (σ : Sg) : Option (Int32 × Sg) :=
  lt_ ((-1) : Int32) (fun (x1 : Int32) => bn2 (l_In_goal_4 i0 x1 0 σ) (fun x18 σ19 => some (x18, σ19)))
abbrev rm_In_goal : Room := { frames := 4, cells := 0, slots := 0, locals := 85 }
set_option maxHeartbeats 4000000 in
set_option maxRecDepth 100000 in
theorem c_In_goal (l : Launch) (X : GX) (n : Nat) {σ σ' : Sg} {r : Int32} {i0 : Nat} (h_i0 : i0 < cnt n 6) (hf : f_In_goal i0 σ = some (r, σ')) : Met l y_In_goal (cw y_In_goal b_In_goal 3 (some .int)) rm_In_goal (PcG X n σ [.ref (xL X 6 i0)]) (QcG X n σ' (some (.int r))) 0 0 (fr X n) := by
  refine g_head (own := "TableMachine$Instruction") (by decide) rfl (Nat.le_of_ble_eq_true rfl) ?_
  intro p e s m args below meth c ls F hr hlk hP hl
  have hl : lv_has ls 3 [(0, .ref (xL X 6 i0))] := hl
  show WG l X n rm_In_goal σ' (some (.int r)) p e s m args below meth c s.heap [] (F0 m 0 ls [])
  unfold f_In_goal at hf
  refine lv_iconst (v := (-1)) F.1 F.2.1 d_In_goal_0 (by decide) ?_
  obtain ⟨x1, e_x1, hf⟩ := lt_some hf
  rw [← e_x1]
  refine lv_istore_n F.1 F.2.1 d_In_goal_1 rfl hl (by decide) rfl (fun ls hl => ?_)
  have hl : lv_has ls 3 [(1, .int x1), (0, .ref (xL X 6 i0))] := hl
  refine lv_iconst (v := 0) F.1 F.2.1 d_In_goal_2 (by decide) ?_
  refine lv_istore_n F.1 F.2.1 d_In_goal_3 rfl hl (by decide) rfl (fun ls hl => ?_)
  have hl : lv_has ls 3 [(2, .int 0), (1, .int x1), (0, .ref (xL X 6 i0))] := hl
  obtain ⟨x18, σ19, hlp20, hf⟩ := bn2_some hf
  have KX21 : ∀ (ls : Array Slot) (H : Heap) (locs : List Loc), lv_has ls 3 [(1, .int x18)] → St X n σ19 s.heap H locs → WG l X n rm_In_goal σ' (some (.int r)) p e s m args below meth c H locs (F0 m 42 ls []) := by
    intro ls H locs hl hP
    refine lv_iload_n F.1 F.2.1 d_In_goal_42 rfl (lv_at hl 0 rfl) ?_
    cases hf
    exact g_iret F hP hr hlk d_In_goal_43
  unfold l_In_goal_4 at hlp20
  refine lp_W (PW := fun q => ∀ (ls : Array Slot) (H : Heap) (locs : List Loc), lv_has ls 3 [(0, .ref (xL X 6 i0)), (1, .int q.1), (2, .int q.2.1)] → St X n q.2.2 s.heap H locs → WG l X n rm_In_goal σ' (some (.int r)) p e s m args below meth c H locs (F0 m 4 ls [])) (PE := fun q => ∀ (ls : Array Slot) (H : Heap) (locs : List Loc), lv_has ls 3 [(1, .int q.1)] → St X n q.2 s.heap H locs → WG l X n rm_In_goal σ' (some (.int r)) p e s m args below meth c H locs (F0 m 42 ls [])) ?_ _ _ _ hlp20 KX21 _ _ _ (lv_sub hl [2, 1, 0] rfl) hP
  rintro ⟨x2, x3, σ4⟩ rr5 hb_4 hI6 hE7 ls H locs hl hP
  replace hb_4 : b_In_goal_4 i0 x2 x3 σ4 = some rr5 := hb_4
  unfold b_In_goal_4 at hb_4
  refine lv_iload_n F.1 F.2.1 d_In_goal_4 rfl (lv_at hl 2 rfl) ?_
  refine lv_iconst (v := 3) F.1 F.2.1 d_In_goal_5 (by decide) ?_
  refine lv_icmp_ge F.1 F.2.1 d_In_goal_6 rfl (fun hb17 => ?_) (fun hb17 => ?_)
  · rw [if_pos hb17] at hb_4
    cases hb_4
    exact hE7 _ rfl _ _ _ (lv_sub hl [1] rfl) hP
  · rw [if_neg hb17] at hb_4
    refine lv_aload_n F.1 F.2.1 d_In_goal_9 rfl (lv_at hl 0 rfl) ?_
    obtain ⟨o8, e_o8, hb_4⟩ := bnd_some hb_4
    obtain ⟨hc9, hb_4⟩ := chk_some hb_4
    refine g_get F hP 6 0 i0 (by decide) h_i0 (by decide) (v := .ref (xad X o8)) (fv_op e_o8) w_124 d_In_goal_10 ?_
    refine g_what F hP hc9 w_1165 d_In_goal_13 ?_
    refine lv_iload_n F.1 F.2.1 d_In_goal_16 rfl (lv_at hl 2 rfl) ?_
    obtain ⟨hc10, hb_4⟩ := chk_some hb_4
    refine g_charAt (rest := []) F hP hc9 hc10 w_744 ⟨by decide, by decide⟩ hl.1 (Nat.le_of_ble_eq_true rfl) ⟨Nat.zero_le _, Nat.zero_le _⟩ d_In_goal_17 (fun H locs hP => ?_)
    refine lv_bipush (v := 106) F.1 F.2.1 d_In_goal_20 (by decide) ?_
    obtain ⟨x11, hj13, hb_4⟩ := bnd_some hb_4
    have KJ12 : ∀ (ls : Array Slot) (H : Heap) (locs : List Loc), lv_has ls 3 [(0, .ref (xL X 6 i0)), (2, .int x3)] → St X n σ4 s.heap H locs → WG l X n rm_In_goal σ' (some (.int r)) p e s m args below meth c H locs (F0 m 35 ls [.int x11]) := by
      intro ls H locs hl hP
      refine lv_istore_n F.1 F.2.1 d_In_goal_35 rfl hl (by decide) rfl (fun ls hl => ?_)
      have hl : lv_has ls 3 [(1, .int x11), (0, .ref (xL X 6 i0)), (2, .int x3)] := hl
      obtain ⟨x16, e_x16, hb_4⟩ := lt_some hb_4
      refine lv_iinc (k := 2) (v := x16) F.1 F.2.1 d_In_goal_36 hl rfl (by rw [e_x16]; rfl) (by decide) rfl (fun ls hl => ?_)
      have hl : lv_has ls 3 [(2, .int x16), (1, .int x11), (0, .ref (xL X 6 i0))] := hl
      refine lv_goto F.1 F.2.1 d_In_goal_39 rfl ?_
      cases hb_4
      exact hI6 _ rfl _ _ _ (lv_sub hl [2, 1, 0] rfl) hP
    refine lv_icmp_ne F.1 F.2.1 d_In_goal_22 rfl (fun hb15 => ?_) (fun hb15 => ?_)
    · rw [if_neg hb15] at hj13
      refine lv_iload_n F.1 F.2.1 d_In_goal_34 rfl (lv_at hl 1 rfl) ?_
      cases hj13
      exact KJ12 _ _ _ (lv_sub hl [0, 2] rfl) hP
    · rw [if_pos hb15] at hj13
      refine lv_aload_n F.1 F.2.1 d_In_goal_25 rfl (lv_at hl 0 rfl) ?_
      refine g_get F hP 6 1 i0 (by decide) h_i0 (by decide) (v := .ref (xL X 16 i0)) rfl w_126 d_In_goal_26 ?_
      refine lv_iload_n F.1 F.2.1 d_In_goal_29 rfl (lv_at hl 2 rfl) ?_
      obtain ⟨hc14, hj13⟩ := chk_some hj13
      refine g_ald F hP 16 (by decide) (by decide) h_i0 rfl rfl hc14 d_In_goal_30 ?_
      refine lv_goto F.1 F.2.1 d_In_goal_31 rfl ?_
      cases hj13
      exact KJ12 _ _ _ (lv_sub hl [0, 2] rfl) hP
