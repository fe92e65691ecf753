/-! printed by wip/gen: 16.thr -/
theorem d_TM_check_0 : decode b_TM_check 0 = .ok (.iload_n 0, 1) := by decide +kernel
theorem d_TM_check_1 : decode b_TM_check 1 = .ok (.ifCond .ne 11, 3) := by decide +kernel
theorem d_TM_check_4 : decode b_TM_check 4 = .ok (.new 87, 3) := by decide +kernel
theorem d_TM_check_7 : decode b_TM_check 7 = .ok (.dup, 1) := by decide +kernel
theorem d_TM_check_8 : decode b_TM_check 8 = .ok (.invokespecial 89, 3) := by decide +kernel
theorem d_TM_check_11 : decode b_TM_check 11 = .ok (.athrow, 1) := by decide +kernel
theorem d_TM_check_12 : decode b_TM_check 12 = .ok (.return_, 1) := by decide +kernel
noncomputable def f_TM_check (a0 : Int32) (σ : Sg) : Option ((Unit ⊕ Nat) × Sg) :=
  (if a0 = 0 then (some (.inr 0, σ)) else (some (.inl (), σ)))
abbrev rm_TM_check : Room := { frames := 6, cells := 1, slots := 6, locals := 100 }
set_option maxHeartbeats 4000000 in
set_option maxRecDepth 100000 in
theorem c_TM_check (l : Launch) (X : GX) (n : Nat) {σ σ' : Sg} {r : Unit ⊕ Nat} {a0 : Int32} (hfl : l.flags = flags0)  (hf : f_TM_check a0 σ = some (r, σ')) : MetX l y_TM_check (cw y_TM_check b_TM_check 1 none) rm_TM_check (PcG X n σ [.int a0]) (QcX X n σ' (rU r)) 1 6 (fr X n) := by
  refine g_headX (own := "TableMachine") (by decide) rfl (Nat.le_of_ble_eq_true rfl) ?_
  intro p e s m args below meth c ls F hr hlk hnh hP hl
  have hl : lv_has ls 1 [(0, .int a0)] := hl
  show WX l X n rm_TM_check σ' (rU r) p e s m args below meth c s.heap [] (F0 m 0 ls [])
  unfold f_TM_check at hf
  refine lv_iload_n F.1 F.2.1 d_TM_check_0 rfl (lv_at hl 0 rfl) ?_
  refine lv_if_ne F.1 F.2.1 d_TM_check_1 rfl (fun hb1 => ?_) (fun hb1 => ?_)
  · rw [if_neg hb1] at hf
    cases hf
    exact W.mono mqx_ret (g_vret F hP hr hlk d_TM_check_12)
  · rw [if_pos hb1] at hf
    cases hf
    exact x_throw F hfl hP (by decide) hlk hnh ⟨by decide, by decide⟩ ⟨by decide, by decide⟩ hl.1 d_TM_check_4 d_TM_check_7 d_TM_check_8 d_TM_check_11

theorem d_TM_demand_0 : decode b_TM_demand 0 = .ok (.iload_n 0, 1) := by decide +kernel
theorem d_TM_demand_1 : decode b_TM_demand 1 = .ok (.ifCond .ne 11, 3) := by decide +kernel
theorem d_TM_demand_4 : decode b_TM_demand 4 = .ok (.new 90, 3) := by decide +kernel
theorem d_TM_demand_7 : decode b_TM_demand 7 = .ok (.dup, 1) := by decide +kernel
theorem d_TM_demand_8 : decode b_TM_demand 8 = .ok (.invokespecial 92, 3) := by decide +kernel
theorem d_TM_demand_11 : decode b_TM_demand 11 = .ok (.athrow, 1) := by decide +kernel
theorem d_TM_demand_12 : decode b_TM_demand 12 = .ok (.return_, 1) := by decide +kernel
noncomputable def f_TM_demand (a0 : Int32) (σ : Sg) : Option ((Unit ⊕ Nat) × Sg) :=
  (if a0 = 0 then (some (.inr 1, σ)) else (some (.inl (), σ)))
abbrev rm_TM_demand : Room := { frames := 6, cells := 1, slots := 6, locals := 100 }
set_option maxHeartbeats 4000000 in
set_option maxRecDepth 100000 in
theorem c_TM_demand (l : Launch) (X : GX) (n : Nat) {σ σ' : Sg} {r : Unit ⊕ Nat} {a0 : Int32} (hfl : l.flags = flags0)  (hf : f_TM_demand a0 σ = some (r, σ')) : MetX l y_TM_demand (cw y_TM_demand b_TM_demand 1 none) rm_TM_demand (PcG X n σ [.int a0]) (QcX X n σ' (rU r)) 1 6 (fr X n) := by
  refine g_headX (own := "TableMachine") (by decide) rfl (Nat.le_of_ble_eq_true rfl) ?_
  intro p e s m args below meth c ls F hr hlk hnh hP hl
  have hl : lv_has ls 1 [(0, .int a0)] := hl
  show WX l X n rm_TM_demand σ' (rU r) p e s m args below meth c s.heap [] (F0 m 0 ls [])
  unfold f_TM_demand at hf
  refine lv_iload_n F.1 F.2.1 d_TM_demand_0 rfl (lv_at hl 0 rfl) ?_
  refine lv_if_ne F.1 F.2.1 d_TM_demand_1 rfl (fun hb1 => ?_) (fun hb1 => ?_)
  · rw [if_neg hb1] at hf
    cases hf
    exact W.mono mqx_ret (g_vret F hP hr hlk d_TM_demand_12)
  · rw [if_pos hb1] at hf
    cases hf
    exact x_throw F hfl hP (by decide) hlk hnh ⟨by decide, by decide⟩ ⟨by decide, by decide⟩ hl.1 d_TM_demand_4 d_TM_demand_7 d_TM_demand_8 d_TM_demand_11

theorem d_TM_there_0 : decode b_TM_there 0 = .ok (.iload_n 0, 1) := by decide +kernel
theorem d_TM_there_1 : decode b_TM_there 1 = .ok (.ifCond .ne 11, 3) := by decide +kernel
theorem d_TM_there_4 : decode b_TM_there 4 = .ok (.new 93, 3) := by decide +kernel
theorem d_TM_there_7 : decode b_TM_there 7 = .ok (.dup, 1) := by decide +kernel
theorem d_TM_there_8 : decode b_TM_there 8 = .ok (.invokespecial 95, 3) := by decide +kernel
theorem d_TM_there_11 : decode b_TM_there 11 = .ok (.athrow, 1) := by decide +kernel
theorem d_TM_there_12 : decode b_TM_there 12 = .ok (.return_, 1) := by decide +kernel
noncomputable def f_TM_there (a0 : Int32) (σ : Sg) : Option ((Unit ⊕ Nat) × Sg) :=
  (if a0 = 0 then (some (.inr 2, σ)) else (some (.inl (), σ)))
abbrev rm_TM_there : Room := { frames := 6, cells := 1, slots := 6, locals := 100 }
set_option maxHeartbeats 4000000 in
set_option maxRecDepth 100000 in
theorem c_TM_there (l : Launch) (X : GX) (n : Nat) {σ σ' : Sg} {r : Unit ⊕ Nat} {a0 : Int32} (hfl : l.flags = flags0)  (hf : f_TM_there a0 σ = some (r, σ')) : MetX l y_TM_there (cw y_TM_there b_TM_there 1 none) rm_TM_there (PcG X n σ [.int a0]) (QcX X n σ' (rU r)) 1 6 (fr X n) := by
  refine g_headX (own := "TableMachine") (by decide) rfl (Nat.le_of_ble_eq_true rfl) ?_
  intro p e s m args below meth c ls F hr hlk hnh hP hl
  have hl : lv_has ls 1 [(0, .int a0)] := hl
  show WX l X n rm_TM_there σ' (rU r) p e s m args below meth c s.heap [] (F0 m 0 ls [])
  unfold f_TM_there at hf
  refine lv_iload_n F.1 F.2.1 d_TM_there_0 rfl (lv_at hl 0 rfl) ?_
  refine lv_if_ne F.1 F.2.1 d_TM_there_1 rfl (fun hb1 => ?_) (fun hb1 => ?_)
  · rw [if_neg hb1] at hf
    cases hf
    exact W.mono mqx_ret (g_vret F hP hr hlk d_TM_there_12)
  · rw [if_pos hb1] at hf
    cases hf
    exact x_throw F hfl hP (by decide) hlk hnh ⟨by decide, by decide⟩ ⟨by decide, by decide⟩ hl.1 d_TM_there_4 d_TM_there_7 d_TM_there_8 d_TM_there_11

theorem d_TM_insert_0 : decode b_TM_insert 0 = .ok (.aload_n 0, 1) := by decide +kernel
theorem d_TM_insert_1 : decode b_TM_insert 1 = .ok (.iload_n 1, 1) := by decide +kernel
theorem d_TM_insert_2 : decode b_TM_insert 2 = .ok (.invokevirtual 118, 3) := by decide +kernel
theorem d_TM_insert_5 : decode b_TM_insert 5 = .ok (.invokestatic 99, 3) := by decide +kernel
theorem d_TM_insert_8 : decode b_TM_insert 8 = .ok (.aload_n 0, 1) := by decide +kernel
theorem d_TM_insert_9 : decode b_TM_insert 9 = .ok (.getfield 122, 3) := by decide +kernel
theorem d_TM_insert_12 : decode b_TM_insert 12 = .ok (.bipush 90, 2) := by decide +kernel
theorem d_TM_insert_14 : decode b_TM_insert 14 = .ok (.if_icmp .ge 7, 3) := by decide +kernel
theorem d_TM_insert_17 : decode b_TM_insert 17 = .ok (.iconst 1, 1) := by decide +kernel
theorem d_TM_insert_18 : decode b_TM_insert 18 = .ok (.goto 4, 3) := by decide +kernel
theorem d_TM_insert_21 : decode b_TM_insert 21 = .ok (.iconst 0, 1) := by decide +kernel
theorem d_TM_insert_22 : decode b_TM_insert 22 = .ok (.invokestatic 103, 3) := by decide +kernel
theorem d_TM_insert_25 : decode b_TM_insert 25 = .ok (.aload_n 0, 1) := by decide +kernel
theorem d_TM_insert_26 : decode b_TM_insert 26 = .ok (.getfield 18, 3) := by decide +kernel
theorem d_TM_insert_29 : decode b_TM_insert 29 = .ok (.iload_n 1, 1) := by decide +kernel
theorem d_TM_insert_30 : decode b_TM_insert 30 = .ok (.aaload, 1) := by decide +kernel
theorem d_TM_insert_31 : decode b_TM_insert 31 = .ok (.lload_n 2, 1) := by decide +kernel
theorem d_TM_insert_32 : decode b_TM_insert 32 = .ok (.invokevirtual 125, 3) := by decide +kernel
theorem d_TM_insert_35 : decode b_TM_insert 35 = .ok (.ifCond .eq 5, 3) := by decide +kernel
theorem d_TM_insert_38 : decode b_TM_insert 38 = .ok (.iconst 0, 1) := by decide +kernel
theorem d_TM_insert_39 : decode b_TM_insert 39 = .ok (.ireturn, 1) := by decide +kernel
theorem d_TM_insert_40 : decode b_TM_insert 40 = .ok (.aload_n 0, 1) := by decide +kernel
theorem d_TM_insert_41 : decode b_TM_insert 41 = .ok (.getfield 18, 3) := by decide +kernel
theorem d_TM_insert_44 : decode b_TM_insert 44 = .ok (.iload_n 1, 1) := by decide +kernel
theorem d_TM_insert_45 : decode b_TM_insert 45 = .ok (.aaload, 1) := by decide +kernel
theorem d_TM_insert_46 : decode b_TM_insert 46 = .ok (.lload_n 2, 1) := by decide +kernel
theorem d_TM_insert_47 : decode b_TM_insert 47 = .ok (.aload_n 0, 1) := by decide +kernel
theorem d_TM_insert_48 : decode b_TM_insert 48 = .ok (.getfield 25, 3) := by decide +kernel
theorem d_TM_insert_51 : decode b_TM_insert 51 = .ok (.invokevirtual 129, 3) := by decide +kernel
theorem d_TM_insert_54 : decode b_TM_insert 54 = .ok (.aload_n 0, 1) := by decide +kernel
theorem d_TM_insert_55 : decode b_TM_insert 55 = .ok (.dup, 1) := by decide +kernel
theorem d_TM_insert_56 : decode b_TM_insert 56 = .ok (.getfield 122, 3) := by decide +kernel
theorem d_TM_insert_59 : decode b_TM_insert 59 = .ok (.iconst 1, 1) := by decide +kernel
theorem d_TM_insert_60 : decode b_TM_insert 60 = .ok (.iadd, 1) := by decide +kernel
theorem d_TM_insert_61 : decode b_TM_insert 61 = .ok (.putfield 122, 3) := by decide +kernel
theorem d_TM_insert_64 : decode b_TM_insert 64 = .ok (.iconst 1, 1) := by decide +kernel
theorem d_TM_insert_65 : decode b_TM_insert 65 = .ok (.ireturn, 1) := by decide +kernel
noncomputable def f_TM_insert (a1 : Int32) (a2 : Int64) (σ : Sg) : Option ((Int32 ⊕ Nat) × Sg) :=
  bn2 (f_TM_isTable a1 σ) (fun r3 σ1 => bnX (f_TM_check r3 σ1) (fun (r6 : Unit) (σ4 : Sg) => lt_ ((if 90 ≤ (gi σ4 0 0 3) then 0 else 1) : Int32) (fun (x8 : Int32) => bnX (f_TM_demand x8 σ4) (fun (r14 : Unit) (σ12 : Sg) => chk (vp_in a1 3) (chk (a1.toNatClampNeg < nt σ12) (bn2 (f_Tr_has a1.toNatClampNeg a2 σ12) (fun r21 σ19 => (if r21 = 0 then (chk (vp_in a1 3) (chk (a1.toNatClampNeg < nt σ19) ((f_Tr_place a1.toNatClampNeg a2 0 σ19).bind (fun σ25 => lt_ (si σ25 0 0 3 ((gi σ25 0 0 3) + 1)) (fun σ27 => some (.inl 1, σ27)))))) else (some (.inl 0, σ19))))))))))
abbrev rm_TM_insert : Room := { frames := 9, cells := 1, slots := 6, locals := 225 }
set_option maxHeartbeats 4000000 in
set_option maxRecDepth 100000 in
theorem c_TM_insert (l : Launch) (X : GX) (n : Nat) {σ σ' : Sg} {r : Int32 ⊕ Nat} {a1 : Int32} {a2 : Int64} (hfl : l.flags = flags0)  (hf : f_TM_insert a1 a2 σ = some (r, σ')) : MetX l y_TM_insert (cw y_TM_insert b_TM_insert 4 (some .boolean)) rm_TM_insert (PcG X n σ [.ref (xL X 0 0), .int a1, .long a2]) (QcX X n σ' (rI r)) 1 6 (fr X n) := by
  refine g_headX (own := "TableMachine") (by decide) rfl (Nat.le_of_ble_eq_true rfl) ?_
  intro p e s m args below meth c ls F hr hlk hnh hP hl
  have hl : lv_has ls 4 [(0, .ref (xL X 0 0)), (1, .int a1), (2, .long a2)] := hl
  show WX l X n rm_TM_insert σ' (rI r) p e s m args below meth c s.heap [] (F0 m 0 ls [])
  unfold f_TM_insert at hf
  refine lv_aload_n F.1 F.2.1 d_TM_insert_0 rfl (lv_at hl 0 rfl) ?_
  refine lv_iload_n F.1 F.2.1 d_TM_insert_1 rfl (lv_at hl 1 rfl) ?_
  obtain ⟨r3, σ1, hk2, hf⟩ := bn2_some hf
  refine g_callV (As := [.int a1]) (rest := []) F hP 0 0 (by decide) Nat.zero_lt_one (c_TM_isTable l X n  hk2) rfl q_TM_isTable w_262 w_1 w_259 w_261 wp_0 ⟨rfl, rfl⟩ ⟨by decide, by decide⟩ hl.1 (Nat.le_of_ble_eq_true rfl) ⟨Nat.zero_le _, Nat.zero_le _⟩ d_TM_insert_2 rfl (fun H locs hP => ?_)
  refine W.eq (g2 := F0 m 5 ls [.int r3]) rfl ?_
  rcases bnX_some hf with ⟨r6, σ4, hk5, hf⟩ | ⟨k7, σ4, hk5, hf⟩
  rotate_left
  · cases hf
    exact xr_thr hP hlk hnh (g_xS (As := [.int r3]) (rest := []) F hP (c_TM_check l X n hfl  hk5) ⟨by decide, by decide, q_TM_check⟩ w_298 w_1 w_296 w_297 ⟨by decide, by decide⟩ hl.1 (Nat.le_of_ble_eq_true rfl) ⟨by decide, by decide⟩ d_TM_insert_5 rfl)
  refine xr_ret hP (g_xS (As := [.int r3]) (rest := []) F hP (c_TM_check l X n hfl  hk5) ⟨by decide, by decide, q_TM_check⟩ w_298 w_1 w_296 w_297 ⟨by decide, by decide⟩ hl.1 (Nat.le_of_ble_eq_true rfl) ⟨by decide, by decide⟩ d_TM_insert_5 rfl) (fun H locs hP => ?_)
  refine W.eq (g2 := F0 m 8 ls []) rfl ?_
  refine lv_aload_n F.1 F.2.1 d_TM_insert_8 rfl (lv_at hl 0 rfl) ?_
  refine g_get F hP 0 3 0 (by decide) Nat.zero_lt_one (by decide) (v := .int (gi σ4 0 0 3)) rfl w_173 d_TM_insert_9 ?_
  refine lv_bipush (v := 90) F.1 F.2.1 d_TM_insert_12 (by decide) ?_
  obtain ⟨x8, hj10, hf⟩ := lt_some2 hf
  have KJ9 : ∀ (ls : Array Slot) (H : Heap) (locs : List Loc), lv_has ls 4 [(0, .ref (xL X 0 0)), (1, .int a1), (2, .long a2)] → St X n σ4 s.heap H locs → WX l X n rm_TM_insert σ' (rI r) p e s m args below meth c H locs (F0 m 22 ls [.int x8]) := by
    intro ls H locs hl hP
    rcases bnX_some hf with ⟨r14, σ12, hk13, hf⟩ | ⟨k15, σ12, hk13, hf⟩
    rotate_left
    · cases hf
      exact xr_thr hP hlk hnh (g_xS (As := [.int x8]) (rest := []) F hP (c_TM_demand l X n hfl  hk13) ⟨by decide, by decide, q_TM_demand⟩ w_365 w_1 w_363 w_364 ⟨by decide, by decide⟩ hl.1 (Nat.le_of_ble_eq_true rfl) ⟨by decide, by decide⟩ d_TM_insert_22 rfl)
    refine xr_ret hP (g_xS (As := [.int x8]) (rest := []) F hP (c_TM_demand l X n hfl  hk13) ⟨by decide, by decide, q_TM_demand⟩ w_365 w_1 w_363 w_364 ⟨by decide, by decide⟩ hl.1 (Nat.le_of_ble_eq_true rfl) ⟨by decide, by decide⟩ d_TM_insert_22 rfl) (fun H locs hP => ?_)
    refine W.eq (g2 := F0 m 25 ls []) rfl ?_
    refine lv_aload_n F.1 F.2.1 d_TM_insert_25 rfl (lv_at hl 0 rfl) ?_
    refine g_get F hP 0 1 0 (by decide) Nat.zero_lt_one (by decide) (v := .ref (xL X 17 0)) rfl w_171 d_TM_insert_26 ?_
    refine lv_iload_n F.1 F.2.1 d_TM_insert_29 rfl (lv_at hl 1 rfl) ?_
    obtain ⟨hc16, hf⟩ := chk_some hf
    obtain ⟨hc17, hf⟩ := chk_some hf
    have hv18 : a1.toNatClampNeg < cnt n 3 := hP.lt hc17
    refine g_rld F hP 17 (by decide) (by decide) Nat.zero_lt_one rfl hc16 (v := .ref (xL X 3 a1.toNatClampNeg)) (av_tab hc17) d_TM_insert_30 ?_
    refine lv_lload_n F.1 F.2.1 d_TM_insert_31 rfl (lv_at hl 2 rfl) ?_
    obtain ⟨r21, σ19, hk20, hf⟩ := bn2_some hf
    refine g_callV (As := [.long a2]) (rest := []) F hP 3 a1.toNatClampNeg (by decide) hv18 (c_Tr_has l X n hv18 hk20) rfl q_Tr_has w_451 w_17 w_448 w_449 w_450 ⟨rfl, rfl⟩ ⟨by decide, by decide⟩ hl.1 (Nat.le_of_ble_eq_true rfl) ⟨Nat.zero_le _, Nat.zero_le _⟩ d_TM_insert_32 rfl (fun H locs hP => ?_)
    refine W.eq (g2 := F0 m 35 ls [.int r21]) rfl ?_
    refine lv_if_eq F.1 F.2.1 d_TM_insert_35 rfl (fun hb28 => ?_) (fun hb28 => ?_)
    · rw [if_pos hb28] at hf
      refine lv_aload_n F.1 F.2.1 d_TM_insert_40 rfl (lv_at hl 0 rfl) ?_
      refine g_get F hP 0 1 0 (by decide) Nat.zero_lt_one (by decide) (v := .ref (xL X 17 0)) rfl w_171 d_TM_insert_41 ?_
      refine lv_iload_n F.1 F.2.1 d_TM_insert_44 rfl (lv_at hl 1 rfl) ?_
      obtain ⟨hc22, hf⟩ := chk_some hf
      obtain ⟨hc23, hf⟩ := chk_some hf
      have hv24 : a1.toNatClampNeg < cnt n 3 := hP.lt hc23
      refine g_rld F hP 17 (by decide) (by decide) Nat.zero_lt_one rfl hc22 (v := .ref (xL X 3 a1.toNatClampNeg)) (av_tab hc23) d_TM_insert_45 ?_
      refine lv_lload_n F.1 F.2.1 d_TM_insert_46 rfl (lv_at hl 2 rfl) ?_
      refine lv_aload_n F.1 F.2.1 d_TM_insert_47 rfl (lv_at hl 0 rfl) ?_
      refine g_get F hP 0 4 0 (by decide) Nat.zero_lt_one (by decide) (v := .ref (xL X 4 0)) rfl w_174 d_TM_insert_48 ?_
      obtain ⟨σ25, hk26, hf⟩ := bnd_some hf
      refine g_callV (As := [.long a2, .ref (xL X 4 0)]) (rest := []) F hP 3 a1.toNatClampNeg (by decide) hv24 (c_Tr_place l X n hv24 o02 hk26) rfl q_Tr_place w_488 w_17 w_485 w_486 w_487 ⟨rfl, rfl⟩ ⟨by decide, by decide⟩ hl.1 (Nat.le_of_ble_eq_true rfl) ⟨Nat.zero_le _, Nat.zero_le _⟩ d_TM_insert_51 rfl (fun H locs hP => ?_)
      refine W.eq (g2 := F0 m 54 ls []) rfl ?_
      refine lv_aload_n F.1 F.2.1 d_TM_insert_54 rfl (lv_at hl 0 rfl) ?_
      refine lv_dup F.1 F.2.1 d_TM_insert_55 rfl ?_
      refine g_get F hP 0 3 0 (by decide) Nat.zero_lt_one (by decide) (v := .int (gi σ25 0 0 3)) rfl w_173 d_TM_insert_56 ?_
      refine lv_iconst (v := 1) F.1 F.2.1 d_TM_insert_59 (by decide) ?_
      refine lv_iadd F.1 F.2.1 d_TM_insert_60 ?_
      obtain ⟨σ27, e_σ27, hf⟩ := lt_some hf
      refine g_puti F hP 0 3 0 (by decide) Nat.zero_lt_one (by decide) rfl rfl rfl rfl (Or.inl w_173) d_TM_insert_61 e_σ27 (fun H locs hP => ?_)
      refine lv_iconst (v := 1) F.1 F.2.1 d_TM_insert_64 (by decide) ?_
      cases hf
      exact W.mono mqx_ret (g_zret F hP hr hlk zb1 d_TM_insert_65)
    · rw [if_neg hb28] at hf
      refine lv_iconst (v := 0) F.1 F.2.1 d_TM_insert_38 (by decide) ?_
      cases hf
      exact W.mono mqx_ret (g_zret F hP hr hlk zb0 d_TM_insert_39)
  refine lv_icmp_ge F.1 F.2.1 d_TM_insert_14 rfl (fun hb11 => ?_) (fun hb11 => ?_)
  · rw [if_pos hb11] at hj10
    refine lv_iconst (v := 0) F.1 F.2.1 d_TM_insert_21 (by decide) ?_
    subst hj10
    exact KJ9 _ _ _ (lv_sub hl [0, 1, 2] rfl) hP
  · rw [if_neg hb11] at hj10
    refine lv_iconst (v := 1) F.1 F.2.1 d_TM_insert_17 (by decide) ?_
    refine lv_goto F.1 F.2.1 d_TM_insert_18 rfl ?_
    subst hj10
    exact KJ9 _ _ _ (lv_sub hl [0, 1, 2] rfl) hP

theorem d_TM_delete_0 : decode b_TM_delete 0 = .ok (.aload_n 0, 1) := by decide +kernel
theorem d_TM_delete_1 : decode b_TM_delete 1 = .ok (.iload_n 1, 1) := by decide +kernel
theorem d_TM_delete_2 : decode b_TM_delete 2 = .ok (.invokevirtual 118, 3) := by decide +kernel
theorem d_TM_delete_5 : decode b_TM_delete 5 = .ok (.invokestatic 99, 3) := by decide +kernel
theorem d_TM_delete_8 : decode b_TM_delete 8 = .ok (.aload_n 0, 1) := by decide +kernel
theorem d_TM_delete_9 : decode b_TM_delete 9 = .ok (.getfield 18, 3) := by decide +kernel
theorem d_TM_delete_12 : decode b_TM_delete 12 = .ok (.iload_n 1, 1) := by decide +kernel
theorem d_TM_delete_13 : decode b_TM_delete 13 = .ok (.aaload, 1) := by decide +kernel
theorem d_TM_delete_14 : decode b_TM_delete 14 = .ok (.lload_n 2, 1) := by decide +kernel
theorem d_TM_delete_15 : decode b_TM_delete 15 = .ok (.invokevirtual 125, 3) := by decide +kernel
theorem d_TM_delete_18 : decode b_TM_delete 18 = .ok (.ifCond .ne 5, 3) := by decide +kernel
theorem d_TM_delete_21 : decode b_TM_delete 21 = .ok (.iconst 0, 1) := by decide +kernel
theorem d_TM_delete_22 : decode b_TM_delete 22 = .ok (.ireturn, 1) := by decide +kernel
theorem d_TM_delete_23 : decode b_TM_delete 23 = .ok (.aload_n 0, 1) := by decide +kernel
theorem d_TM_delete_24 : decode b_TM_delete 24 = .ok (.getfield 18, 3) := by decide +kernel
theorem d_TM_delete_27 : decode b_TM_delete 27 = .ok (.iload_n 1, 1) := by decide +kernel
theorem d_TM_delete_28 : decode b_TM_delete 28 = .ok (.aaload, 1) := by decide +kernel
theorem d_TM_delete_29 : decode b_TM_delete 29 = .ok (.lload_n 2, 1) := by decide +kernel
theorem d_TM_delete_30 : decode b_TM_delete 30 = .ok (.invokevirtual 133, 3) := by decide +kernel
theorem d_TM_delete_33 : decode b_TM_delete 33 = .ok (.aload_n 0, 1) := by decide +kernel
theorem d_TM_delete_34 : decode b_TM_delete 34 = .ok (.dup, 1) := by decide +kernel
theorem d_TM_delete_35 : decode b_TM_delete 35 = .ok (.getfield 122, 3) := by decide +kernel
theorem d_TM_delete_38 : decode b_TM_delete 38 = .ok (.iconst 1, 1) := by decide +kernel
theorem d_TM_delete_39 : decode b_TM_delete 39 = .ok (.isub, 1) := by decide +kernel
theorem d_TM_delete_40 : decode b_TM_delete 40 = .ok (.putfield 122, 3) := by decide +kernel
theorem d_TM_delete_43 : decode b_TM_delete 43 = .ok (.iconst 1, 1) := by decide +kernel
theorem d_TM_delete_44 : decode b_TM_delete 44 = .ok (.ireturn, 1) := by decide +kernel
noncomputable def f_TM_delete (a1 : Int32) (a2 : Int64) (σ : Sg) : Option ((Int32 ⊕ Nat) × Sg) :=
  bn2 (f_TM_isTable a1 σ) (fun r3 σ1 => bnX (f_TM_check r3 σ1) (fun (r6 : Unit) (σ4 : Sg) => chk (vp_in a1 3) (chk (a1.toNatClampNeg < nt σ4) (bn2 (f_Tr_has a1.toNatClampNeg a2 σ4) (fun r13 σ11 => (if r13 = 0 then (some (.inl 0, σ11)) else (chk (vp_in a1 3) (chk (a1.toNatClampNeg < nt σ11) ((f_Tr_remove a1.toNatClampNeg a2 σ11).bind (fun σ17 => lt_ (si σ17 0 0 3 ((gi σ17 0 0 3) - 1)) (fun σ19 => some (.inl 1, σ19))))))))))))
abbrev rm_TM_delete : Room := { frames := 7, cells := 1, slots := 6, locals := 169 }
set_option maxHeartbeats 4000000 in
set_option maxRecDepth 100000 in
theorem c_TM_delete (l : Launch) (X : GX) (n : Nat) {σ σ' : Sg} {r : Int32 ⊕ Nat} {a1 : Int32} {a2 : Int64} (hfl : l.flags = flags0)  (hf : f_TM_delete a1 a2 σ = some (r, σ')) : MetX l y_TM_delete (cw y_TM_delete b_TM_delete 4 (some .boolean)) rm_TM_delete (PcG X n σ [.ref (xL X 0 0), .int a1, .long a2]) (QcX X n σ' (rI r)) 1 6 (fr X n) := by
  refine g_headX (own := "TableMachine") (by decide) rfl (Nat.le_of_ble_eq_true rfl) ?_
  intro p e s m args below meth c ls F hr hlk hnh hP hl
  have hl : lv_has ls 4 [(0, .ref (xL X 0 0)), (1, .int a1), (2, .long a2)] := hl
  show WX l X n rm_TM_delete σ' (rI r) p e s m args below meth c s.heap [] (F0 m 0 ls [])
  unfold f_TM_delete at hf
  refine lv_aload_n F.1 F.2.1 d_TM_delete_0 rfl (lv_at hl 0 rfl) ?_
  refine lv_iload_n F.1 F.2.1 d_TM_delete_1 rfl (lv_at hl 1 rfl) ?_
  obtain ⟨r3, σ1, hk2, hf⟩ := bn2_some hf
  refine g_callV (As := [.int a1]) (rest := []) F hP 0 0 (by decide) Nat.zero_lt_one (c_TM_isTable l X n  hk2) rfl q_TM_isTable w_262 w_1 w_259 w_261 wp_0 ⟨rfl, rfl⟩ ⟨by decide, by decide⟩ hl.1 (Nat.le_of_ble_eq_true rfl) ⟨Nat.zero_le _, Nat.zero_le _⟩ d_TM_delete_2 rfl (fun H locs hP => ?_)
  refine W.eq (g2 := F0 m 5 ls [.int r3]) rfl ?_
  rcases bnX_some hf with ⟨r6, σ4, hk5, hf⟩ | ⟨k7, σ4, hk5, hf⟩
  rotate_left
  · cases hf
    exact xr_thr hP hlk hnh (g_xS (As := [.int r3]) (rest := []) F hP (c_TM_check l X n hfl  hk5) ⟨by decide, by decide, q_TM_check⟩ w_298 w_1 w_296 w_297 ⟨by decide, by decide⟩ hl.1 (Nat.le_of_ble_eq_true rfl) ⟨by decide, by decide⟩ d_TM_delete_5 rfl)
  refine xr_ret hP (g_xS (As := [.int r3]) (rest := []) F hP (c_TM_check l X n hfl  hk5) ⟨by decide, by decide, q_TM_check⟩ w_298 w_1 w_296 w_297 ⟨by decide, by decide⟩ hl.1 (Nat.le_of_ble_eq_true rfl) ⟨by decide, by decide⟩ d_TM_delete_5 rfl) (fun H locs hP => ?_)
  refine W.eq (g2 := F0 m 8 ls []) rfl ?_
  refine lv_aload_n F.1 F.2.1 d_TM_delete_8 rfl (lv_at hl 0 rfl) ?_
  refine g_get F hP 0 1 0 (by decide) Nat.zero_lt_one (by decide) (v := .ref (xL X 17 0)) rfl w_171 d_TM_delete_9 ?_
  refine lv_iload_n F.1 F.2.1 d_TM_delete_12 rfl (lv_at hl 1 rfl) ?_
  obtain ⟨hc8, hf⟩ := chk_some hf
  obtain ⟨hc9, hf⟩ := chk_some hf
  have hv10 : a1.toNatClampNeg < cnt n 3 := hP.lt hc9
  refine g_rld F hP 17 (by decide) (by decide) Nat.zero_lt_one rfl hc8 (v := .ref (xL X 3 a1.toNatClampNeg)) (av_tab hc9) d_TM_delete_13 ?_
  refine lv_lload_n F.1 F.2.1 d_TM_delete_14 rfl (lv_at hl 2 rfl) ?_
  obtain ⟨r13, σ11, hk12, hf⟩ := bn2_some hf
  refine g_callV (As := [.long a2]) (rest := []) F hP 3 a1.toNatClampNeg (by decide) hv10 (c_Tr_has l X n hv10 hk12) rfl q_Tr_has w_451 w_17 w_448 w_449 w_450 ⟨rfl, rfl⟩ ⟨by decide, by decide⟩ hl.1 (Nat.le_of_ble_eq_true rfl) ⟨Nat.zero_le _, Nat.zero_le _⟩ d_TM_delete_15 rfl (fun H locs hP => ?_)
  refine W.eq (g2 := F0 m 18 ls [.int r13]) rfl ?_
  refine lv_if_ne F.1 F.2.1 d_TM_delete_18 rfl (fun hb20 => ?_) (fun hb20 => ?_)
  · rw [if_neg hb20] at hf
    refine lv_aload_n F.1 F.2.1 d_TM_delete_23 rfl (lv_at hl 0 rfl) ?_
    refine g_get F hP 0 1 0 (by decide) Nat.zero_lt_one (by decide) (v := .ref (xL X 17 0)) rfl w_171 d_TM_delete_24 ?_
    refine lv_iload_n F.1 F.2.1 d_TM_delete_27 rfl (lv_at hl 1 rfl) ?_
    obtain ⟨hc14, hf⟩ := chk_some hf
    obtain ⟨hc15, hf⟩ := chk_some hf
    have hv16 : a1.toNatClampNeg < cnt n 3 := hP.lt hc15
    refine g_rld F hP 17 (by decide) (by decide) Nat.zero_lt_one rfl hc14 (v := .ref (xL X 3 a1.toNatClampNeg)) (av_tab hc15) d_TM_delete_28 ?_
    refine lv_lload_n F.1 F.2.1 d_TM_delete_29 rfl (lv_at hl 2 rfl) ?_
    obtain ⟨σ17, hk18, hf⟩ := bnd_some hf
    refine g_callV (As := [.long a2]) (rest := []) F hP 3 a1.toNatClampNeg (by decide) hv16 (c_Tr_remove l X n hv16 hk18) rfl q_Tr_remove w_555 w_17 w_552 w_553 w_554 ⟨rfl, rfl⟩ ⟨by decide, by decide⟩ hl.1 (Nat.le_of_ble_eq_true rfl) ⟨Nat.zero_le _, Nat.zero_le _⟩ d_TM_delete_30 rfl (fun H locs hP => ?_)
    refine W.eq (g2 := F0 m 33 ls []) rfl ?_
    refine lv_aload_n F.1 F.2.1 d_TM_delete_33 rfl (lv_at hl 0 rfl) ?_
    refine lv_dup F.1 F.2.1 d_TM_delete_34 rfl ?_
    refine g_get F hP 0 3 0 (by decide) Nat.zero_lt_one (by decide) (v := .int (gi σ17 0 0 3)) rfl w_173 d_TM_delete_35 ?_
    refine lv_iconst (v := 1) F.1 F.2.1 d_TM_delete_38 (by decide) ?_
    refine lv_isub F.1 F.2.1 d_TM_delete_39 ?_
    obtain ⟨σ19, e_σ19, hf⟩ := lt_some hf
    refine g_puti F hP 0 3 0 (by decide) Nat.zero_lt_one (by decide) rfl rfl rfl rfl (Or.inl w_173) d_TM_delete_40 e_σ19 (fun H locs hP => ?_)
    refine lv_iconst (v := 1) F.1 F.2.1 d_TM_delete_43 (by decide) ?_
    cases hf
    exact W.mono mqx_ret (g_zret F hP hr hlk zb1 d_TM_delete_44)
  · rw [if_pos hb20] at hf
    refine lv_iconst (v := 0) F.1 F.2.1 d_TM_delete_21 (by decide) ?_
    cases hf
    exact W.mono mqx_ret (g_zret F hP hr hlk zb0 d_TM_delete_22)

theorem d_TM_next_0 : decode b_TM_next 0 = .ok (.aload_n 0, 1) := by decide +kernel
theorem d_TM_next_1 : decode b_TM_next 1 = .ok (.iload_n 1, 1) := by decide +kernel
theorem d_TM_next_2 : decode b_TM_next 2 = .ok (.invokevirtual 118, 3) := by decide +kernel
theorem d_TM_next_5 : decode b_TM_next 5 = .ok (.invokestatic 99, 3) := by decide +kernel
theorem d_TM_next_8 : decode b_TM_next 8 = .ok (.aload_n 0, 1) := by decide +kernel
theorem d_TM_next_9 : decode b_TM_next 9 = .ok (.getfield 18, 3) := by decide +kernel
theorem d_TM_next_12 : decode b_TM_next 12 = .ok (.iload_n 1, 1) := by decide +kernel
theorem d_TM_next_13 : decode b_TM_next 13 = .ok (.aaload, 1) := by decide +kernel
theorem d_TM_next_14 : decode b_TM_next 14 = .ok (.lload_n 2, 1) := by decide +kernel
theorem d_TM_next_15 : decode b_TM_next 15 = .ok (.iload 4, 2) := by decide +kernel
theorem d_TM_next_17 : decode b_TM_next 17 = .ok (.invokevirtual 137, 3) := by decide +kernel
theorem d_TM_next_20 : decode b_TM_next 20 = .ok (.ifCond .ne 11, 3) := by decide +kernel
theorem d_TM_next_23 : decode b_TM_next 23 = .ok (.new 141, 3) := by decide +kernel
theorem d_TM_next_26 : decode b_TM_next 26 = .ok (.dup, 1) := by decide +kernel
theorem d_TM_next_27 : decode b_TM_next 27 = .ok (.invokespecial 143, 3) := by decide +kernel
theorem d_TM_next_30 : decode b_TM_next 30 = .ok (.athrow, 1) := by decide +kernel
theorem d_TM_next_31 : decode b_TM_next 31 = .ok (.aload_n 0, 1) := by decide +kernel
theorem d_TM_next_32 : decode b_TM_next 32 = .ok (.getfield 18, 3) := by decide +kernel
theorem d_TM_next_35 : decode b_TM_next 35 = .ok (.iload_n 1, 1) := by decide +kernel
theorem d_TM_next_36 : decode b_TM_next 36 = .ok (.aaload, 1) := by decide +kernel
theorem d_TM_next_37 : decode b_TM_next 37 = .ok (.invokevirtual 144, 3) := by decide +kernel
theorem d_TM_next_40 : decode b_TM_next 40 = .ok (.lreturn, 1) := by decide +kernel
noncomputable def f_TM_next (a1 : Int32) (a2 : Int64) (a4 : Int32) (σ : Sg) : Option ((Int64 ⊕ Nat) × Sg) :=
  bn2 (f_TM_isTable a1 σ) (fun r3 σ1 => bnX (f_TM_check r3 σ1) (fun (r6 : Unit) (σ4 : Sg) => chk (vp_in a1 3) (chk (a1.toNatClampNeg < nt σ4) (bn2 (f_Tr_seek a1.toNatClampNeg a2 a4 σ4) (fun r13 σ11 => (if r13 = 0 then (some (.inr 3, σ11)) else (chk (vp_in a1 3) (chk (a1.toNatClampNeg < nt σ11) (bn2 (f_Tr_key a1.toNatClampNeg σ11) (fun r19 σ17 => some (.inl r19, σ17)))))))))))
abbrev rm_TM_next : Room := { frames := 7, cells := 1, slots := 6, locals := 123 }
set_option maxHeartbeats 4000000 in
set_option maxRecDepth 100000 in
theorem c_TM_next (l : Launch) (X : GX) (n : Nat) {σ σ' : Sg} {r : Int64 ⊕ Nat} {a1 : Int32} {a2 : Int64} {a4 : Int32} (hfl : l.flags = flags0)  (hf : f_TM_next a1 a2 a4 σ = some (r, σ')) : MetX l y_TM_next (cw y_TM_next b_TM_next 5 (some .long)) rm_TM_next (PcG X n σ [.ref (xL X 0 0), .int a1, .long a2, .int a4]) (QcX X n σ' (rJ r)) 1 6 (fr X n) := by
  refine g_headX (own := "TableMachine") (by decide) rfl (Nat.le_of_ble_eq_true rfl) ?_
  intro p e s m args below meth c ls F hr hlk hnh hP hl
  have hl : lv_has ls 5 [(0, .ref (xL X 0 0)), (1, .int a1), (2, .long a2), (4, .int a4)] := hl
  show WX l X n rm_TM_next σ' (rJ r) p e s m args below meth c s.heap [] (F0 m 0 ls [])
  unfold f_TM_next at hf
  refine lv_aload_n F.1 F.2.1 d_TM_next_0 rfl (lv_at hl 0 rfl) ?_
  refine lv_iload_n F.1 F.2.1 d_TM_next_1 rfl (lv_at hl 1 rfl) ?_
  obtain ⟨r3, σ1, hk2, hf⟩ := bn2_some hf
  refine g_callV (As := [.int a1]) (rest := []) F hP 0 0 (by decide) Nat.zero_lt_one (c_TM_isTable l X n  hk2) rfl q_TM_isTable w_262 w_1 w_259 w_261 wp_0 ⟨rfl, rfl⟩ ⟨by decide, by decide⟩ hl.1 (Nat.le_of_ble_eq_true rfl) ⟨Nat.zero_le _, Nat.zero_le _⟩ d_TM_next_2 rfl (fun H locs hP => ?_)
  refine W.eq (g2 := F0 m 5 ls [.int r3]) rfl ?_
  rcases bnX_some hf with ⟨r6, σ4, hk5, hf⟩ | ⟨k7, σ4, hk5, hf⟩
  rotate_left
  · cases hf
    exact xr_thr hP hlk hnh (g_xS (As := [.int r3]) (rest := []) F hP (c_TM_check l X n hfl  hk5) ⟨by decide, by decide, q_TM_check⟩ w_298 w_1 w_296 w_297 ⟨by decide, by decide⟩ hl.1 (Nat.le_of_ble_eq_true rfl) ⟨by decide, by decide⟩ d_TM_next_5 rfl)
  refine xr_ret hP (g_xS (As := [.int r3]) (rest := []) F hP (c_TM_check l X n hfl  hk5) ⟨by decide, by decide, q_TM_check⟩ w_298 w_1 w_296 w_297 ⟨by decide, by decide⟩ hl.1 (Nat.le_of_ble_eq_true rfl) ⟨by decide, by decide⟩ d_TM_next_5 rfl) (fun H locs hP => ?_)
  refine W.eq (g2 := F0 m 8 ls []) rfl ?_
  refine lv_aload_n F.1 F.2.1 d_TM_next_8 rfl (lv_at hl 0 rfl) ?_
  refine g_get F hP 0 1 0 (by decide) Nat.zero_lt_one (by decide) (v := .ref (xL X 17 0)) rfl w_171 d_TM_next_9 ?_
  refine lv_iload_n F.1 F.2.1 d_TM_next_12 rfl (lv_at hl 1 rfl) ?_
  obtain ⟨hc8, hf⟩ := chk_some hf
  obtain ⟨hc9, hf⟩ := chk_some hf
  have hv10 : a1.toNatClampNeg < cnt n 3 := hP.lt hc9
  refine g_rld F hP 17 (by decide) (by decide) Nat.zero_lt_one rfl hc8 (v := .ref (xL X 3 a1.toNatClampNeg)) (av_tab hc9) d_TM_next_13 ?_
  refine lv_lload_n F.1 F.2.1 d_TM_next_14 rfl (lv_at hl 2 rfl) ?_
  refine lv_iload F.1 F.2.1 d_TM_next_15 (lv_at hl 3 rfl) ?_
  obtain ⟨r13, σ11, hk12, hf⟩ := bn2_some hf
  refine g_callV (As := [.long a2, .int a4]) (rest := []) F hP 3 a1.toNatClampNeg (by decide) hv10 (c_Tr_seek l X n hv10 hk12) rfl q_Tr_seek w_587 w_17 w_584 w_585 w_586 ⟨rfl, rfl⟩ ⟨by decide, by decide⟩ hl.1 (Nat.le_of_ble_eq_true rfl) ⟨Nat.zero_le _, Nat.zero_le _⟩ d_TM_next_17 rfl (fun H locs hP => ?_)
  refine W.eq (g2 := F0 m 20 ls [.int r13]) rfl ?_
  refine lv_if_ne F.1 F.2.1 d_TM_next_20 rfl (fun hb20 => ?_) (fun hb20 => ?_)
  · rw [if_neg hb20] at hf
    refine lv_aload_n F.1 F.2.1 d_TM_next_31 rfl (lv_at hl 0 rfl) ?_
    refine g_get F hP 0 1 0 (by decide) Nat.zero_lt_one (by decide) (v := .ref (xL X 17 0)) rfl w_171 d_TM_next_32 ?_
    refine lv_iload_n F.1 F.2.1 d_TM_next_35 rfl (lv_at hl 1 rfl) ?_
    obtain ⟨hc14, hf⟩ := chk_some hf
    obtain ⟨hc15, hf⟩ := chk_some hf
    have hv16 : a1.toNatClampNeg < cnt n 3 := hP.lt hc15
    refine g_rld F hP 17 (by decide) (by decide) Nat.zero_lt_one rfl hc14 (v := .ref (xL X 3 a1.toNatClampNeg)) (av_tab hc15) d_TM_next_36 ?_
    obtain ⟨r19, σ17, hk18, hf⟩ := bn2_some hf
    refine g_callV (As := []) (rest := []) F hP 3 a1.toNatClampNeg (by decide) hv16 (c_Tr_key l X n hv16 hk18) rfl q_Tr_key w_610 w_17 w_607 w_608 w_609 ⟨rfl, rfl⟩ ⟨by decide, by decide⟩ hl.1 (Nat.le_of_ble_eq_true rfl) ⟨Nat.zero_le _, Nat.zero_le _⟩ d_TM_next_37 rfl (fun H locs hP => ?_)
    refine W.eq (g2 := F0 m 40 ls [.long r19]) rfl ?_
    cases hf
    exact W.mono mqx_ret (g_lret F hP hr hlk d_TM_next_40)
  · rw [if_pos hb20] at hf
    cases hf
    exact x_throw F hfl hP (by decide) hlk hnh ⟨by decide, by decide⟩ ⟨by decide, by decide⟩ hl.1 d_TM_next_23 d_TM_next_26 d_TM_next_27 d_TM_next_30

theorem d_TM_valueOf_0 : decode b_TM_valueOf 0 = .ok (.aload_n 0, 1) := by decide +kernel
theorem d_TM_valueOf_1 : decode b_TM_valueOf 1 = .ok (.iload_n 1, 1) := by decide +kernel
theorem d_TM_valueOf_2 : decode b_TM_valueOf 2 = .ok (.invokevirtual 118, 3) := by decide +kernel
theorem d_TM_valueOf_5 : decode b_TM_valueOf 5 = .ok (.ifCond .eq 26, 3) := by decide +kernel
theorem d_TM_valueOf_8 : decode b_TM_valueOf 8 = .ok (.iload 4, 2) := by decide +kernel
theorem d_TM_valueOf_10 : decode b_TM_valueOf 10 = .ok (.ifCond .lt 21, 3) := by decide +kernel
theorem d_TM_valueOf_13 : decode b_TM_valueOf 13 = .ok (.iload 4, 2) := by decide +kernel
theorem d_TM_valueOf_15 : decode b_TM_valueOf 15 = .ok (.aload_n 0, 1) := by decide +kernel
theorem d_TM_valueOf_16 : decode b_TM_valueOf 16 = .ok (.getfield 18, 3) := by decide +kernel
theorem d_TM_valueOf_19 : decode b_TM_valueOf 19 = .ok (.iload_n 1, 1) := by decide +kernel
theorem d_TM_valueOf_20 : decode b_TM_valueOf 20 = .ok (.aaload, 1) := by decide +kernel
theorem d_TM_valueOf_21 : decode b_TM_valueOf 21 = .ok (.getfield 148, 3) := by decide +kernel
theorem d_TM_valueOf_24 : decode b_TM_valueOf 24 = .ok (.if_icmp .ge 7, 3) := by decide +kernel
theorem d_TM_valueOf_27 : decode b_TM_valueOf 27 = .ok (.iconst 1, 1) := by decide +kernel
theorem d_TM_valueOf_28 : decode b_TM_valueOf 28 = .ok (.goto 4, 3) := by decide +kernel
theorem d_TM_valueOf_31 : decode b_TM_valueOf 31 = .ok (.iconst 0, 1) := by decide +kernel
theorem d_TM_valueOf_32 : decode b_TM_valueOf 32 = .ok (.invokestatic 99, 3) := by decide +kernel
theorem d_TM_valueOf_35 : decode b_TM_valueOf 35 = .ok (.aload_n 0, 1) := by decide +kernel
theorem d_TM_valueOf_36 : decode b_TM_valueOf 36 = .ok (.getfield 18, 3) := by decide +kernel
theorem d_TM_valueOf_39 : decode b_TM_valueOf 39 = .ok (.iload_n 1, 1) := by decide +kernel
theorem d_TM_valueOf_40 : decode b_TM_valueOf 40 = .ok (.aaload, 1) := by decide +kernel
theorem d_TM_valueOf_41 : decode b_TM_valueOf 41 = .ok (.lload_n 2, 1) := by decide +kernel
theorem d_TM_valueOf_42 : decode b_TM_valueOf 42 = .ok (.invokevirtual 125, 3) := by decide +kernel
theorem d_TM_valueOf_45 : decode b_TM_valueOf 45 = .ok (.ifCond .ne 11, 3) := by decide +kernel
theorem d_TM_valueOf_48 : decode b_TM_valueOf 48 = .ok (.new 141, 3) := by decide +kernel
theorem d_TM_valueOf_51 : decode b_TM_valueOf 51 = .ok (.dup, 1) := by decide +kernel
theorem d_TM_valueOf_52 : decode b_TM_valueOf 52 = .ok (.invokespecial 143, 3) := by decide +kernel
theorem d_TM_valueOf_55 : decode b_TM_valueOf 55 = .ok (.athrow, 1) := by decide +kernel
theorem d_TM_valueOf_56 : decode b_TM_valueOf 56 = .ok (.aload_n 0, 1) := by decide +kernel
theorem d_TM_valueOf_57 : decode b_TM_valueOf 57 = .ok (.getfield 18, 3) := by decide +kernel
theorem d_TM_valueOf_60 : decode b_TM_valueOf 60 = .ok (.iload_n 1, 1) := by decide +kernel
theorem d_TM_valueOf_61 : decode b_TM_valueOf 61 = .ok (.aaload, 1) := by decide +kernel
theorem d_TM_valueOf_62 : decode b_TM_valueOf 62 = .ok (.lload_n 2, 1) := by decide +kernel
theorem d_TM_valueOf_63 : decode b_TM_valueOf 63 = .ok (.aload_n 0, 1) := by decide +kernel
theorem d_TM_valueOf_64 : decode b_TM_valueOf 64 = .ok (.getfield 29, 3) := by decide +kernel
theorem d_TM_valueOf_67 : decode b_TM_valueOf 67 = .ok (.invokevirtual 151, 3) := by decide +kernel
theorem d_TM_valueOf_70 : decode b_TM_valueOf 70 = .ok (.aload_n 0, 1) := by decide +kernel
theorem d_TM_valueOf_71 : decode b_TM_valueOf 71 = .ok (.getfield 29, 3) := by decide +kernel
theorem d_TM_valueOf_74 : decode b_TM_valueOf 74 = .ok (.getfield 109, 3) := by decide +kernel
theorem d_TM_valueOf_77 : decode b_TM_valueOf 77 = .ok (.iload 4, 2) := by decide +kernel
theorem d_TM_valueOf_79 : decode b_TM_valueOf 79 = .ok (.aaload, 1) := by decide +kernel
theorem d_TM_valueOf_80 : decode b_TM_valueOf 80 = .ok (.areturn, 1) := by decide +kernel
noncomputable def f_TM_valueOf (a1 : Int32) (a2 : Int64) (a4 : Int32) (σ : Sg) : Option ((Nat ⊕ Nat) × Sg) :=
  bn2 (f_TM_isTable a1 σ) (fun r3 σ1 => Option.bind (if r3 = 0 then (some (0)) else (if a4 < 0 then (some (0)) else (chk (vp_in a1 3) (chk (a1.toNatClampNeg < nt σ1) ((if (gi σ1 3 a1.toNatClampNeg 2) ≤ a4 then (some (0)) else (some (1)))))))) (fun (x4 : Int32) => bnX (f_TM_check x4 σ1) (fun (r15 : Unit) (σ13 : Sg) => chk (vp_in a1 3) (chk (a1.toNatClampNeg < nt σ13) (bn2 (f_Tr_has a1.toNatClampNeg a2 σ13) (fun r22 σ20 => (if r22 = 0 then (some (.inr 3, σ20)) else (chk (vp_in a1 3) (chk (a1.toNatClampNeg < nt σ20) ((f_Tr_read a1.toNatClampNeg a2 1 σ20).bind (fun σ26 => chk (vp_in a4 4) (some (.inl (4 * 1 + a4.toNatClampNeg), σ26)))))))))))))
abbrev rm_TM_valueOf : Room := { frames := 7, cells := 1, slots := 6, locals := 126 }
set_option maxHeartbeats 4000000 in
set_option maxRecDepth 100000 in
theorem c_TM_valueOf (l : Launch) (X : GX) (n : Nat) {σ σ' : Sg} {r : Nat ⊕ Nat} {a1 : Int32} {a2 : Int64} {a4 : Int32} (hfl : l.flags = flags0)  (hf : f_TM_valueOf a1 a2 a4 σ = some (r, σ')) : MetX l y_TM_valueOf (cw y_TM_valueOf b_TM_valueOf 5 (some (.object "TableMachine$Value"))) rm_TM_valueOf (PcG X n σ [.ref (xL X 0 0), .int a1, .long a2, .int a4]) (QcX X n σ' (rR X 5 r)) 1 6 (fr X n) := by
  refine g_headX (own := "TableMachine") (by decide) rfl (Nat.le_of_ble_eq_true rfl) ?_
  intro p e s m args below meth c ls F hr hlk hnh hP hl
  have hl : lv_has ls 5 [(0, .ref (xL X 0 0)), (1, .int a1), (2, .long a2), (4, .int a4)] := hl
  show WX l X n rm_TM_valueOf σ' (rR X 5 r) p e s m args below meth c s.heap [] (F0 m 0 ls [])
  unfold f_TM_valueOf at hf
  refine lv_aload_n F.1 F.2.1 d_TM_valueOf_0 rfl (lv_at hl 0 rfl) ?_
  refine lv_iload_n F.1 F.2.1 d_TM_valueOf_1 rfl (lv_at hl 1 rfl) ?_
  obtain ⟨r3, σ1, hk2, hf⟩ := bn2_some hf
  refine g_callV (As := [.int a1]) (rest := []) F hP 0 0 (by decide) Nat.zero_lt_one (c_TM_isTable l X n  hk2) rfl q_TM_isTable w_262 w_1 w_259 w_261 wp_0 ⟨rfl, rfl⟩ ⟨by decide, by decide⟩ hl.1 (Nat.le_of_ble_eq_true rfl) ⟨Nat.zero_le _, Nat.zero_le _⟩ d_TM_valueOf_2 rfl (fun H locs hP => ?_)
  refine W.eq (g2 := F0 m 5 ls [.int r3]) rfl ?_
  obtain ⟨x4, hj6, hf⟩ := bnd_some hf
  have KJ5 : ∀ (ls : Array Slot) (H : Heap) (locs : List Loc), lv_has ls 5 [(0, .ref (xL X 0 0)), (1, .int a1), (2, .long a2), (4, .int a4)] → St X n σ1 s.heap H locs → WX l X n rm_TM_valueOf σ' (rR X 5 r) p e s m args below meth c H locs (F0 m 32 ls [.int x4]) := by
    intro ls H locs hl hP
    rcases bnX_some hf with ⟨r15, σ13, hk14, hf⟩ | ⟨k16, σ13, hk14, hf⟩
    rotate_left
    · cases hf
      exact xr_thr hP hlk hnh (g_xS (As := [.int x4]) (rest := []) F hP (c_TM_check l X n hfl  hk14) ⟨by decide, by decide, q_TM_check⟩ w_298 w_1 w_296 w_297 ⟨by decide, by decide⟩ hl.1 (Nat.le_of_ble_eq_true rfl) ⟨by decide, by decide⟩ d_TM_valueOf_32 rfl)
    refine xr_ret hP (g_xS (As := [.int x4]) (rest := []) F hP (c_TM_check l X n hfl  hk14) ⟨by decide, by decide, q_TM_check⟩ w_298 w_1 w_296 w_297 ⟨by decide, by decide⟩ hl.1 (Nat.le_of_ble_eq_true rfl) ⟨by decide, by decide⟩ d_TM_valueOf_32 rfl) (fun H locs hP => ?_)
    refine W.eq (g2 := F0 m 35 ls []) rfl ?_
    refine lv_aload_n F.1 F.2.1 d_TM_valueOf_35 rfl (lv_at hl 0 rfl) ?_
    refine g_get F hP 0 1 0 (by decide) Nat.zero_lt_one (by decide) (v := .ref (xL X 17 0)) rfl w_171 d_TM_valueOf_36 ?_
    refine lv_iload_n F.1 F.2.1 d_TM_valueOf_39 rfl (lv_at hl 1 rfl) ?_
    obtain ⟨hc17, hf⟩ := chk_some hf
    obtain ⟨hc18, hf⟩ := chk_some hf
    have hv19 : a1.toNatClampNeg < cnt n 3 := hP.lt hc18
    refine g_rld F hP 17 (by decide) (by decide) Nat.zero_lt_one rfl hc17 (v := .ref (xL X 3 a1.toNatClampNeg)) (av_tab hc18) d_TM_valueOf_40 ?_
    refine lv_lload_n F.1 F.2.1 d_TM_valueOf_41 rfl (lv_at hl 2 rfl) ?_
    obtain ⟨r22, σ20, hk21, hf⟩ := bn2_some hf
    refine g_callV (As := [.long a2]) (rest := []) F hP 3 a1.toNatClampNeg (by decide) hv19 (c_Tr_has l X n hv19 hk21) rfl q_Tr_has w_451 w_17 w_448 w_449 w_450 ⟨rfl, rfl⟩ ⟨by decide, by decide⟩ hl.1 (Nat.le_of_ble_eq_true rfl) ⟨Nat.zero_le _, Nat.zero_le _⟩ d_TM_valueOf_42 rfl (fun H locs hP => ?_)
    refine W.eq (g2 := F0 m 45 ls [.int r22]) rfl ?_
    refine lv_if_ne F.1 F.2.1 d_TM_valueOf_45 rfl (fun hb29 => ?_) (fun hb29 => ?_)
    · rw [if_neg hb29] at hf
      refine lv_aload_n F.1 F.2.1 d_TM_valueOf_56 rfl (lv_at hl 0 rfl) ?_
      refine g_get F hP 0 1 0 (by decide) Nat.zero_lt_one (by decide) (v := .ref (xL X 17 0)) rfl w_171 d_TM_valueOf_57 ?_
      refine lv_iload_n F.1 F.2.1 d_TM_valueOf_60 rfl (lv_at hl 1 rfl) ?_
      obtain ⟨hc23, hf⟩ := chk_some hf
      obtain ⟨hc24, hf⟩ := chk_some hf
      have hv25 : a1.toNatClampNeg < cnt n 3 := hP.lt hc24
      refine g_rld F hP 17 (by decide) (by decide) Nat.zero_lt_one rfl hc23 (v := .ref (xL X 3 a1.toNatClampNeg)) (av_tab hc24) d_TM_valueOf_61 ?_
      refine lv_lload_n F.1 F.2.1 d_TM_valueOf_62 rfl (lv_at hl 2 rfl) ?_
      refine lv_aload_n F.1 F.2.1 d_TM_valueOf_63 rfl (lv_at hl 0 rfl) ?_
      refine g_get F hP 0 5 0 (by decide) Nat.zero_lt_one (by decide) (v := .ref (xL X 4 1)) rfl w_175 d_TM_valueOf_64 ?_
      obtain ⟨σ26, hk27, hf⟩ := bnd_some hf
      refine g_callV (As := [.long a2, .ref (xL X 4 1)]) (rest := []) F hP 3 a1.toNatClampNeg (by decide) hv25 (c_Tr_read l X n hv25 o12 hk27) rfl q_Tr_read w_625 w_17 w_622 w_623 w_624 ⟨rfl, rfl⟩ ⟨by decide, by decide⟩ hl.1 (Nat.le_of_ble_eq_true rfl) ⟨Nat.zero_le _, Nat.zero_le _⟩ d_TM_valueOf_67 rfl (fun H locs hP => ?_)
      refine W.eq (g2 := F0 m 70 ls []) rfl ?_
      refine lv_aload_n F.1 F.2.1 d_TM_valueOf_70 rfl (lv_at hl 0 rfl) ?_
      refine g_get F hP 0 5 0 (by decide) Nat.zero_lt_one (by decide) (v := .ref (xL X 4 1)) rfl w_175 d_TM_valueOf_71 ?_
      refine g_getN F hP 4 0 1 (by decide) o12 (by decide) (v := .ref (xL X 15 1)) rfl w_95 d_TM_valueOf_74 ?_
      refine lv_iload F.1 F.2.1 d_TM_valueOf_77 (lv_at hl 3 rfl) ?_
      obtain ⟨hc28, hf⟩ := chk_some hf
      refine g_rld F hP 15 (by decide) (by decide) o12 rfl hc28 (v := .ref (xL X 5 (4 * 1 + a4.toNatClampNeg))) rfl d_TM_valueOf_79 ?_
      cases hf
      exact W.mono mqx_ret (g_aret F hP hr hlk d_TM_valueOf_80)
    · rw [if_pos hb29] at hf
      cases hf
      exact x_throw F hfl hP (by decide) hlk hnh ⟨by decide, by decide⟩ ⟨by decide, by decide⟩ hl.1 d_TM_valueOf_48 d_TM_valueOf_51 d_TM_valueOf_52 d_TM_valueOf_55
  refine lv_if_eq F.1 F.2.1 d_TM_valueOf_5 rfl (fun hb12 => ?_) (fun hb12 => ?_)
  · rw [if_pos hb12] at hj6
    refine lv_iconst (v := 0) F.1 F.2.1 d_TM_valueOf_31 (by decide) ?_
    cases hj6
    exact KJ5 _ _ _ (lv_sub hl [0, 1, 2, 3] rfl) hP
  · rw [if_neg hb12] at hj6
    refine lv_iload F.1 F.2.1 d_TM_valueOf_8 (lv_at hl 3 rfl) ?_
    refine lv_if_lt F.1 F.2.1 d_TM_valueOf_10 rfl (fun hb11 => ?_) (fun hb11 => ?_)
    · rw [if_pos hb11] at hj6
      refine lv_iconst (v := 0) F.1 F.2.1 d_TM_valueOf_31 (by decide) ?_
      cases hj6
      exact KJ5 _ _ _ (lv_sub hl [0, 1, 2, 3] rfl) hP
    · rw [if_neg hb11] at hj6
      refine lv_iload F.1 F.2.1 d_TM_valueOf_13 (lv_at hl 3 rfl) ?_
      refine lv_aload_n F.1 F.2.1 d_TM_valueOf_15 rfl (lv_at hl 0 rfl) ?_
      refine g_get F hP 0 1 0 (by decide) Nat.zero_lt_one (by decide) (v := .ref (xL X 17 0)) rfl w_171 d_TM_valueOf_16 ?_
      refine lv_iload_n F.1 F.2.1 d_TM_valueOf_19 rfl (lv_at hl 1 rfl) ?_
      obtain ⟨hc7, hj6⟩ := chk_some hj6
      obtain ⟨hc8, hj6⟩ := chk_some hj6
      have hv9 : a1.toNatClampNeg < cnt n 3 := hP.lt hc8
      refine g_rld F hP 17 (by decide) (by decide) Nat.zero_lt_one rfl hc7 (v := .ref (xL X 3 a1.toNatClampNeg)) (av_tab hc8) d_TM_valueOf_20 ?_
      refine g_getN F hP 3 2 a1.toNatClampNeg (by decide) hv9 (by decide) (v := .int (gi σ1 3 a1.toNatClampNeg 2)) rfl w_399 d_TM_valueOf_21 ?_
      refine lv_icmp_ge F.1 F.2.1 d_TM_valueOf_24 rfl (fun hb10 => ?_) (fun hb10 => ?_)
      · rw [if_pos hb10] at hj6
        refine lv_iconst (v := 0) F.1 F.2.1 d_TM_valueOf_31 (by decide) ?_
        cases hj6
        exact KJ5 _ _ _ (lv_sub hl [0, 1, 2, 3] rfl) hP
      · rw [if_neg hb10] at hj6
        refine lv_iconst (v := 1) F.1 F.2.1 d_TM_valueOf_27 (by decide) ?_
        refine lv_goto F.1 F.2.1 d_TM_valueOf_28 rfl ?_
        cases hj6
        exact KJ5 _ _ _ (lv_sub hl [0, 1, 2, 3] rfl) hP

theorem d_TM_add_0 : decode b_TM_add 0 = .ok (.iload_n 1, 1) := by decide +kernel
theorem d_TM_add_1 : decode b_TM_add 1 = .ok (.ifCond .lt 16, 3) := by decide +kernel
theorem d_TM_add_4 : decode b_TM_add 4 = .ok (.iload_n 1, 1) := by decide +kernel
theorem d_TM_add_5 : decode b_TM_add 5 = .ok (.aload_n 0, 1) := by decide +kernel
theorem d_TM_add_6 : decode b_TM_add 6 = .ok (.getfield 38, 3) := by decide +kernel
theorem d_TM_add_9 : decode b_TM_add 9 = .ok (.arraylength, 1) := by decide +kernel
theorem d_TM_add_10 : decode b_TM_add 10 = .ok (.if_icmp .ge 7, 3) := by decide +kernel
theorem d_TM_add_13 : decode b_TM_add 13 = .ok (.iconst 1, 1) := by decide +kernel
theorem d_TM_add_14 : decode b_TM_add 14 = .ok (.goto 4, 3) := by decide +kernel
theorem d_TM_add_17 : decode b_TM_add 17 = .ok (.iconst 0, 1) := by decide +kernel
theorem d_TM_add_18 : decode b_TM_add 18 = .ok (.invokestatic 99, 3) := by decide +kernel
theorem d_TM_add_21 : decode b_TM_add 21 = .ok (.aload_n 0, 1) := by decide +kernel
theorem d_TM_add_22 : decode b_TM_add 22 = .ok (.getfield 38, 3) := by decide +kernel
theorem d_TM_add_25 : decode b_TM_add 25 = .ok (.iload_n 1, 1) := by decide +kernel
theorem d_TM_add_26 : decode b_TM_add 26 = .ok (.aaload, 1) := by decide +kernel
theorem d_TM_add_27 : decode b_TM_add 27 = .ok (.astore 5, 2) := by decide +kernel
theorem d_TM_add_29 : decode b_TM_add 29 = .ok (.aload 5, 2) := by decide +kernel
theorem d_TM_add_31 : decode b_TM_add 31 = .ok (.getfield 176, 3) := by decide +kernel
theorem d_TM_add_34 : decode b_TM_add 34 = .ok (.iconst 0, 1) := by decide +kernel
theorem d_TM_add_35 : decode b_TM_add 35 = .ok (.invokevirtual 180, 3) := by decide +kernel
theorem d_TM_add_38 : decode b_TM_add 38 = .ok (.iload_n 2, 1) := by decide +kernel
theorem d_TM_add_39 : decode b_TM_add 39 = .ok (.invokestatic 186, 3) := by decide +kernel
theorem d_TM_add_42 : decode b_TM_add 42 = .ok (.ifCond .eq 56, 3) := by decide +kernel
theorem d_TM_add_45 : decode b_TM_add 45 = .ok (.aload 5, 2) := by decide +kernel
theorem d_TM_add_47 : decode b_TM_add 47 = .ok (.getfield 176, 3) := by decide +kernel
theorem d_TM_add_50 : decode b_TM_add 50 = .ok (.iconst 1, 1) := by decide +kernel
theorem d_TM_add_51 : decode b_TM_add 51 = .ok (.invokevirtual 180, 3) := by decide +kernel
theorem d_TM_add_54 : decode b_TM_add 54 = .ok (.iload_n 3, 1) := by decide +kernel
theorem d_TM_add_55 : decode b_TM_add 55 = .ok (.invokestatic 186, 3) := by decide +kernel
theorem d_TM_add_58 : decode b_TM_add 58 = .ok (.ifCond .eq 40, 3) := by decide +kernel
theorem d_TM_add_61 : decode b_TM_add 61 = .ok (.aload 5, 2) := by decide +kernel
theorem d_TM_add_63 : decode b_TM_add 63 = .ok (.getfield 176, 3) := by decide +kernel
theorem d_TM_add_66 : decode b_TM_add 66 = .ok (.iconst 2, 1) := by decide +kernel
theorem d_TM_add_67 : decode b_TM_add 67 = .ok (.invokevirtual 180, 3) := by decide +kernel
theorem d_TM_add_70 : decode b_TM_add 70 = .ok (.iload 4, 2) := by decide +kernel
theorem d_TM_add_72 : decode b_TM_add 72 = .ok (.invokestatic 186, 3) := by decide +kernel
theorem d_TM_add_75 : decode b_TM_add 75 = .ok (.ifCond .eq 23, 3) := by decide +kernel
theorem d_TM_add_78 : decode b_TM_add 78 = .ok (.aload 5, 2) := by decide +kernel
theorem d_TM_add_80 : decode b_TM_add 80 = .ok (.getstatic 190, 3) := by decide +kernel
theorem d_TM_add_83 : decode b_TM_add 83 = .ok (.if_acmp .ne 11, 3) := by decide +kernel
theorem d_TM_add_86 : decode b_TM_add 86 = .ok (.iload_n 2, 1) := by decide +kernel
theorem d_TM_add_87 : decode b_TM_add 87 = .ok (.iload_n 3, 1) := by decide +kernel
theorem d_TM_add_88 : decode b_TM_add 88 = .ok (.iadd, 1) := by decide +kernel
theorem d_TM_add_89 : decode b_TM_add 89 = .ok (.bipush 16, 2) := by decide +kernel
theorem d_TM_add_91 : decode b_TM_add 91 = .ok (.if_icmp .gt 7, 3) := by decide +kernel
theorem d_TM_add_94 : decode b_TM_add 94 = .ok (.iconst 1, 1) := by decide +kernel
theorem d_TM_add_95 : decode b_TM_add 95 = .ok (.goto 4, 3) := by decide +kernel
theorem d_TM_add_98 : decode b_TM_add 98 = .ok (.iconst 0, 1) := by decide +kernel
theorem d_TM_add_99 : decode b_TM_add 99 = .ok (.invokestatic 99, 3) := by decide +kernel
theorem d_TM_add_102 : decode b_TM_add 102 = .ok (.aload_n 0, 1) := by decide +kernel
theorem d_TM_add_103 : decode b_TM_add 103 = .ok (.getfield 166, 3) := by decide +kernel
theorem d_TM_add_106 : decode b_TM_add 106 = .ok (.bipush 60, 2) := by decide +kernel
theorem d_TM_add_108 : decode b_TM_add 108 = .ok (.if_icmp .ge 7, 3) := by decide +kernel
theorem d_TM_add_111 : decode b_TM_add 111 = .ok (.iconst 1, 1) := by decide +kernel
theorem d_TM_add_112 : decode b_TM_add 112 = .ok (.goto 4, 3) := by decide +kernel
theorem d_TM_add_115 : decode b_TM_add 115 = .ok (.iconst 0, 1) := by decide +kernel
theorem d_TM_add_116 : decode b_TM_add 116 = .ok (.invokestatic 103, 3) := by decide +kernel
theorem d_TM_add_119 : decode b_TM_add 119 = .ok (.aload_n 0, 1) := by decide +kernel
theorem d_TM_add_120 : decode b_TM_add 120 = .ok (.aload 5, 2) := by decide +kernel
theorem d_TM_add_122 : decode b_TM_add 122 = .ok (.iload_n 2, 1) := by decide +kernel
theorem d_TM_add_123 : decode b_TM_add 123 = .ok (.iload_n 3, 1) := by decide +kernel
theorem d_TM_add_124 : decode b_TM_add 124 = .ok (.iload 4, 2) := by decide +kernel
theorem d_TM_add_126 : decode b_TM_add 126 = .ok (.invokevirtual 193, 3) := by decide +kernel
theorem d_TM_add_129 : decode b_TM_add 129 = .ok (.aload_n 0, 1) := by decide +kernel
theorem d_TM_add_130 : decode b_TM_add 130 = .ok (.getfield 166, 3) := by decide +kernel
theorem d_TM_add_133 : decode b_TM_add 133 = .ok (.iconst 1, 1) := by decide +kernel
theorem d_TM_add_134 : decode b_TM_add 134 = .ok (.isub, 1) := by decide +kernel
theorem d_TM_add_135 : decode b_TM_add 135 = .ok (.ireturn, 1) := by decide +kernel
noncomputable def f_TM_add (a1 : Int32) (a2 : Int32) (a3 : Int32) (a4 : Int32) (σ : Sg) : Option ((Int32 ⊕ Nat) × Sg) :=
  lt_ ((if a1 < 0 then 0 else (if 22 ≤ a1 then 0 else 1)) : Int32) (fun (x1 : Int32) => bnX (f_TM_check x1 σ) (fun (r8 : Unit) (σ6 : Sg) => chk (vp_in a1 22) (chk (vp_in 0 3) (bn2 (f_TM_fits (chr a1.toNatClampNeg ((0 : Int32).toNatClampNeg)) a2 σ6) (fun r14 σ12 => bn2 (if r14 = 0 then (some (0, σ12)) else (chk (vp_in 1 3) (bn2 (f_TM_fits (chr a1.toNatClampNeg ((1 : Int32).toNatClampNeg)) a3 σ12) (fun r22 σ20 => (if r22 = 0 then (some (0, σ20)) else (chk (vp_in 2 3) (bn2 (f_TM_fits (chr a1.toNatClampNeg ((2 : Int32).toNatClampNeg)) a4 σ20) (fun r26 σ24 => (if r26 = 0 then (some (0, σ24)) else (if a1.toNatClampNeg = 18 then (if 16 < (a2 + a3) then (some (0, σ24)) else (some (1, σ24))) else (some (1, σ24)))))))))))) (fun (x15 : Int32) (σ16 : Sg) => bnX (f_TM_check x15 σ16) (fun (r34 : Unit) (σ32 : Sg) => lt_ ((if 60 ≤ (gi σ32 0 0 8) then 0 else 1) : Int32) (fun (x36 : Int32) => bnX (f_TM_demand x36 σ32) (fun (r42 : Unit) (σ40 : Sg) => (f_TM_emit a1.toNatClampNeg a2 a3 a4 σ40).bind (fun σ44 => some (.inl ((gi σ44 0 0 8) - 1), σ44)))))))))))
abbrev rm_TM_add : Room := { frames := 7, cells := 1, slots := 6, locals := 120 }
set_option maxHeartbeats 4000000 in
set_option maxRecDepth 100000 in
theorem c_TM_add (l : Launch) (X : GX) (n : Nat) {σ σ' : Sg} {r : Int32 ⊕ Nat} {a1 : Int32} {a2 : Int32} {a3 : Int32} {a4 : Int32} (hfl : l.flags = flags0)  (hf : f_TM_add a1 a2 a3 a4 σ = some (r, σ')) : MetX l y_TM_add (cw y_TM_add b_TM_add 6 (some .int)) rm_TM_add (PcG X n σ [.ref (xL X 0 0), .int a1, .int a2, .int a3, .int a4]) (QcX X n σ' (rI r)) 1 6 (fr X n) := by
  refine g_headX (own := "TableMachine") (by decide) rfl (Nat.le_of_ble_eq_true rfl) ?_
  intro p e s m args below meth c ls F hr hlk hnh hP hl
  have hl : lv_has ls 6 [(0, .ref (xL X 0 0)), (1, .int a1), (2, .int a2), (3, .int a3), (4, .int a4)] := hl
  show WX l X n rm_TM_add σ' (rI r) p e s m args below meth c s.heap [] (F0 m 0 ls [])
  unfold f_TM_add at hf
  refine lv_iload_n F.1 F.2.1 d_TM_add_0 rfl (lv_at hl 1 rfl) ?_
  obtain ⟨x1, hj3, hf⟩ := lt_some2 hf
  have KJ2 : ∀ (ls : Array Slot) (H : Heap) (locs : List Loc), lv_has ls 6 [(0, .ref (xL X 0 0)), (1, .int a1), (2, .int a2), (3, .int a3), (4, .int a4)] → St X n σ s.heap H locs → WX l X n rm_TM_add σ' (rI r) p e s m args below meth c H locs (F0 m 18 ls [.int x1]) := by
    intro ls H locs hl hP
    rcases bnX_some hf with ⟨r8, σ6, hk7, hf⟩ | ⟨k9, σ6, hk7, hf⟩
    rotate_left
    · cases hf
      exact xr_thr hP hlk hnh (g_xS (As := [.int x1]) (rest := []) F hP (c_TM_check l X n hfl  hk7) ⟨by decide, by decide, q_TM_check⟩ w_298 w_1 w_296 w_297 ⟨by decide, by decide⟩ hl.1 (Nat.le_of_ble_eq_true rfl) ⟨by decide, by decide⟩ d_TM_add_18 rfl)
    refine xr_ret hP (g_xS (As := [.int x1]) (rest := []) F hP (c_TM_check l X n hfl  hk7) ⟨by decide, by decide, q_TM_check⟩ w_298 w_1 w_296 w_297 ⟨by decide, by decide⟩ hl.1 (Nat.le_of_ble_eq_true rfl) ⟨by decide, by decide⟩ d_TM_add_18 rfl) (fun H locs hP => ?_)
    refine W.eq (g2 := F0 m 21 ls []) rfl ?_
    refine lv_aload_n F.1 F.2.1 d_TM_add_21 rfl (lv_at hl 0 rfl) ?_
    refine g_get F hP 0 6 0 (by decide) Nat.zero_lt_one (by decide) (v := .ref (xL X 18 0)) rfl w_176 d_TM_add_22 ?_
    refine lv_iload_n F.1 F.2.1 d_TM_add_25 rfl (lv_at hl 1 rfl) ?_
    obtain ⟨hc10, hf⟩ := chk_some hf
    refine g_rld F hP 18 (by decide) (by decide) Nat.zero_lt_one rfl hc10 (v := .ref (xad X a1.toNatClampNeg)) rfl d_TM_add_26 ?_
    refine lv_astore F.1 F.2.1 d_TM_add_27 hl (by decide) rfl (fun ls hl => ?_)
    have hl : lv_has ls 6 [(5, .ref (xad X a1.toNatClampNeg)), (0, .ref (xL X 0 0)), (1, .int a1), (2, .int a2), (3, .int a3), (4, .int a4)] := hl
    refine lv_aload F.1 F.2.1 d_TM_add_29 (lv_at hl 0 rfl) ?_
    refine g_what F hP (vin_lt hc10) w_1161 d_TM_add_31 ?_
    refine lv_iconst (v := 0) F.1 F.2.1 d_TM_add_34 (by decide) ?_
    obtain ⟨hc11, hf⟩ := chk_some hf
    refine g_charAt (rest := []) F hP (vin_lt hc10) hc11 w_648 ⟨by decide, by decide⟩ hl.1 (Nat.le_of_ble_eq_true rfl) ⟨Nat.zero_le _, Nat.zero_le _⟩ d_TM_add_35 (fun H locs hP => ?_)
    refine lv_iload_n F.1 F.2.1 d_TM_add_38 rfl (lv_at hl 3 rfl) ?_
    obtain ⟨r14, σ12, hk13, hf⟩ := bn2_some hf
    refine g_callS (As := [.int (chr a1.toNatClampNeg ((0 : Int32).toNatClampNeg)), .int a2]) (rest := []) F hP (c_TM_fits l X n  hk13) ⟨by decide, by decide, q_TM_fits⟩ w_690 w_1 w_688 w_689 ⟨rfl, rfl⟩ ⟨by decide, by decide⟩ hl.1 (Nat.le_of_ble_eq_true rfl) ⟨Nat.zero_le _, Nat.zero_le _⟩ d_TM_add_39 rfl (fun H locs hP => ?_)
    refine W.eq (g2 := F0 m 42 ls [.int r14]) rfl ?_
    obtain ⟨x15, σ16, hj18, hf⟩ := bn2_some hf
    have KJ17 : ∀ (ls : Array Slot) (H : Heap) (locs : List Loc), lv_has ls 6 [(0, .ref (xL X 0 0)), (2, .int a2), (3, .int a3), (4, .int a4), (5, .ref (xad X a1.toNatClampNeg))] → St X n σ16 s.heap H locs → WX l X n rm_TM_add σ' (rI r) p e s m args below meth c H locs (F0 m 99 ls [.int x15]) := by
      intro ls H locs hl hP
      rcases bnX_some hf with ⟨r34, σ32, hk33, hf⟩ | ⟨k35, σ32, hk33, hf⟩
      rotate_left
      · cases hf
        exact xr_thr hP hlk hnh (g_xS (As := [.int x15]) (rest := []) F hP (c_TM_check l X n hfl  hk33) ⟨by decide, by decide, q_TM_check⟩ w_298 w_1 w_296 w_297 ⟨by decide, by decide⟩ hl.1 (Nat.le_of_ble_eq_true rfl) ⟨by decide, by decide⟩ d_TM_add_99 rfl)
      refine xr_ret hP (g_xS (As := [.int x15]) (rest := []) F hP (c_TM_check l X n hfl  hk33) ⟨by decide, by decide, q_TM_check⟩ w_298 w_1 w_296 w_297 ⟨by decide, by decide⟩ hl.1 (Nat.le_of_ble_eq_true rfl) ⟨by decide, by decide⟩ d_TM_add_99 rfl) (fun H locs hP => ?_)
      refine W.eq (g2 := F0 m 102 ls []) rfl ?_
      refine lv_aload_n F.1 F.2.1 d_TM_add_102 rfl (lv_at hl 0 rfl) ?_
      refine g_get F hP 0 8 0 (by decide) Nat.zero_lt_one (by decide) (v := .int (gi σ32 0 0 8)) rfl w_178 d_TM_add_103 ?_
      refine lv_bipush (v := 60) F.1 F.2.1 d_TM_add_106 (by decide) ?_
      obtain ⟨x36, hj38, hf⟩ := lt_some2 hf
      have KJ37 : ∀ (ls : Array Slot) (H : Heap) (locs : List Loc), lv_has ls 6 [(0, .ref (xL X 0 0)), (2, .int a2), (3, .int a3), (4, .int a4), (5, .ref (xad X a1.toNatClampNeg))] → St X n σ32 s.heap H locs → WX l X n rm_TM_add σ' (rI r) p e s m args below meth c H locs (F0 m 116 ls [.int x36]) := by
        intro ls H locs hl hP
        rcases bnX_some hf with ⟨r42, σ40, hk41, hf⟩ | ⟨k43, σ40, hk41, hf⟩
        rotate_left
        · cases hf
          exact xr_thr hP hlk hnh (g_xS (As := [.int x36]) (rest := []) F hP (c_TM_demand l X n hfl  hk41) ⟨by decide, by decide, q_TM_demand⟩ w_365 w_1 w_363 w_364 ⟨by decide, by decide⟩ hl.1 (Nat.le_of_ble_eq_true rfl) ⟨by decide, by decide⟩ d_TM_add_116 rfl)
        refine xr_ret hP (g_xS (As := [.int x36]) (rest := []) F hP (c_TM_demand l X n hfl  hk41) ⟨by decide, by decide, q_TM_demand⟩ w_365 w_1 w_363 w_364 ⟨by decide, by decide⟩ hl.1 (Nat.le_of_ble_eq_true rfl) ⟨by decide, by decide⟩ d_TM_add_116 rfl) (fun H locs hP => ?_)
        refine W.eq (g2 := F0 m 119 ls []) rfl ?_
        refine lv_aload_n F.1 F.2.1 d_TM_add_119 rfl (lv_at hl 0 rfl) ?_
        refine lv_aload F.1 F.2.1 d_TM_add_120 (lv_at hl 4 rfl) ?_
        refine lv_iload_n F.1 F.2.1 d_TM_add_122 rfl (lv_at hl 1 rfl) ?_
        refine lv_iload_n F.1 F.2.1 d_TM_add_123 rfl (lv_at hl 2 rfl) ?_
        refine lv_iload F.1 F.2.1 d_TM_add_124 (lv_at hl 3 rfl) ?_
        obtain ⟨σ44, hk45, hf⟩ := bnd_some hf
        refine g_callV (As := [.ref (xad X a1.toNatClampNeg), .int a2, .int a3, .int a4]) (rest := []) F hP 0 0 (by decide) Nat.zero_lt_one (c_TM_emit l X n (vin_lt hc10) hk45) rfl q_TM_emit w_696 w_1 w_693 w_695 wp_21 ⟨rfl, rfl⟩ ⟨by decide, by decide⟩ hl.1 (Nat.le_of_ble_eq_true rfl) ⟨Nat.zero_le _, Nat.zero_le _⟩ d_TM_add_126 rfl (fun H locs hP => ?_)
        refine W.eq (g2 := F0 m 129 ls []) rfl ?_
        refine lv_aload_n F.1 F.2.1 d_TM_add_129 rfl (lv_at hl 0 rfl) ?_
        refine g_get F hP 0 8 0 (by decide) Nat.zero_lt_one (by decide) (v := .int (gi σ44 0 0 8)) rfl w_178 d_TM_add_130 ?_
        refine lv_iconst (v := 1) F.1 F.2.1 d_TM_add_133 (by decide) ?_
        refine lv_isub F.1 F.2.1 d_TM_add_134 ?_
        cases hf
        exact W.mono mqx_ret (g_iret F hP hr hlk d_TM_add_135)
      refine lv_icmp_ge F.1 F.2.1 d_TM_add_108 rfl (fun hb39 => ?_) (fun hb39 => ?_)
      · rw [if_pos hb39] at hj38
        refine lv_iconst (v := 0) F.1 F.2.1 d_TM_add_115 (by decide) ?_
        subst hj38
        exact KJ37 _ _ _ (lv_sub hl [0, 1, 2, 3, 4] rfl) hP
      · rw [if_neg hb39] at hj38
        refine lv_iconst (v := 1) F.1 F.2.1 d_TM_add_111 (by decide) ?_
        refine lv_goto F.1 F.2.1 d_TM_add_112 rfl ?_
        subst hj38
        exact KJ37 _ _ _ (lv_sub hl [0, 1, 2, 3, 4] rfl) hP
    refine lv_if_eq F.1 F.2.1 d_TM_add_42 rfl (fun hb31 => ?_) (fun hb31 => ?_)
    · rw [if_pos hb31] at hj18
      refine lv_iconst (v := 0) F.1 F.2.1 d_TM_add_98 (by decide) ?_
      cases hj18
      exact KJ17 _ _ _ (lv_sub hl [1, 3, 4, 5, 0] rfl) hP
    · rw [if_neg hb31] at hj18
      refine lv_aload F.1 F.2.1 d_TM_add_45 (lv_at hl 0 rfl) ?_
      refine g_what F hP (vin_lt hc10) w_1161 d_TM_add_47 ?_
      refine lv_iconst (v := 1) F.1 F.2.1 d_TM_add_50 (by decide) ?_
      obtain ⟨hc19, hj18⟩ := chk_some hj18
      refine g_charAt (rest := []) F hP (vin_lt hc10) hc19 w_648 ⟨by decide, by decide⟩ hl.1 (Nat.le_of_ble_eq_true rfl) ⟨Nat.zero_le _, Nat.zero_le _⟩ d_TM_add_51 (fun H locs hP => ?_)
      refine lv_iload_n F.1 F.2.1 d_TM_add_54 rfl (lv_at hl 4 rfl) ?_
      obtain ⟨r22, σ20, hk21, hj18⟩ := bn2_some hj18
      refine g_callS (As := [.int (chr a1.toNatClampNeg ((1 : Int32).toNatClampNeg)), .int a3]) (rest := []) F hP (c_TM_fits l X n  hk21) ⟨by decide, by decide, q_TM_fits⟩ w_690 w_1 w_688 w_689 ⟨rfl, rfl⟩ ⟨by decide, by decide⟩ hl.1 (Nat.le_of_ble_eq_true rfl) ⟨Nat.zero_le _, Nat.zero_le _⟩ d_TM_add_55 rfl (fun H locs hP => ?_)
      refine W.eq (g2 := F0 m 58 ls [.int r22]) rfl ?_
      refine lv_if_eq F.1 F.2.1 d_TM_add_58 rfl (fun hb30 => ?_) (fun hb30 => ?_)
      · rw [if_pos hb30] at hj18
        refine lv_iconst (v := 0) F.1 F.2.1 d_TM_add_98 (by decide) ?_
        cases hj18
        exact KJ17 _ _ _ (lv_sub hl [1, 3, 4, 5, 0] rfl) hP
      · rw [if_neg hb30] at hj18
        refine lv_aload F.1 F.2.1 d_TM_add_61 (lv_at hl 0 rfl) ?_
        refine g_what F hP (vin_lt hc10) w_1161 d_TM_add_63 ?_
        refine lv_iconst (v := 2) F.1 F.2.1 d_TM_add_66 (by decide) ?_
        obtain ⟨hc23, hj18⟩ := chk_some hj18
        refine g_charAt (rest := []) F hP (vin_lt hc10) hc23 w_648 ⟨by decide, by decide⟩ hl.1 (Nat.le_of_ble_eq_true rfl) ⟨Nat.zero_le _, Nat.zero_le _⟩ d_TM_add_67 (fun H locs hP => ?_)
        refine lv_iload F.1 F.2.1 d_TM_add_70 (lv_at hl 5 rfl) ?_
        obtain ⟨r26, σ24, hk25, hj18⟩ := bn2_some hj18
        refine g_callS (As := [.int (chr a1.toNatClampNeg ((2 : Int32).toNatClampNeg)), .int a4]) (rest := []) F hP (c_TM_fits l X n  hk25) ⟨by decide, by decide, q_TM_fits⟩ w_690 w_1 w_688 w_689 ⟨rfl, rfl⟩ ⟨by decide, by decide⟩ hl.1 (Nat.le_of_ble_eq_true rfl) ⟨Nat.zero_le _, Nat.zero_le _⟩ d_TM_add_72 rfl (fun H locs hP => ?_)
        refine W.eq (g2 := F0 m 75 ls [.int r26]) rfl ?_
        refine lv_if_eq F.1 F.2.1 d_TM_add_75 rfl (fun hb29 => ?_) (fun hb29 => ?_)
        · rw [if_pos hb29] at hj18
          refine lv_iconst (v := 0) F.1 F.2.1 d_TM_add_98 (by decide) ?_
          cases hj18
          exact KJ17 _ _ _ (lv_sub hl [1, 3, 4, 5, 0] rfl) hP
        · rw [if_neg hb29] at hj18
          refine lv_aload F.1 F.2.1 d_TM_add_78 (lv_at hl 0 rfl) ?_
          refine g_enum F hP 18 (by decide) w_691 d_TM_add_80 ?_
          refine g_acmp_ne F (vin_lt hc10) (by decide) d_TM_add_83 rfl (fun hb28 => ?_) (fun hb28 => ?_)
          · rw [if_neg hb28] at hj18
            refine lv_iconst (v := 1) F.1 F.2.1 d_TM_add_94 (by decide) ?_
            refine lv_goto F.1 F.2.1 d_TM_add_95 rfl ?_
            cases hj18
            exact KJ17 _ _ _ (lv_sub hl [1, 3, 4, 5, 0] rfl) hP
          · rw [if_pos hb28] at hj18
            refine lv_iload_n F.1 F.2.1 d_TM_add_86 rfl (lv_at hl 3 rfl) ?_
            refine lv_iload_n F.1 F.2.1 d_TM_add_87 rfl (lv_at hl 4 rfl) ?_
            refine lv_iadd F.1 F.2.1 d_TM_add_88 ?_
            refine lv_bipush (v := 16) F.1 F.2.1 d_TM_add_89 (by decide) ?_
            refine lv_icmp_gt F.1 F.2.1 d_TM_add_91 rfl (fun hb27 => ?_) (fun hb27 => ?_)
            · rw [if_pos hb27] at hj18
              refine lv_iconst (v := 0) F.1 F.2.1 d_TM_add_98 (by decide) ?_
              cases hj18
              exact KJ17 _ _ _ (lv_sub hl [1, 3, 4, 5, 0] rfl) hP
            · rw [if_neg hb27] at hj18
              refine lv_iconst (v := 1) F.1 F.2.1 d_TM_add_94 (by decide) ?_
              refine lv_goto F.1 F.2.1 d_TM_add_95 rfl ?_
              cases hj18
              exact KJ17 _ _ _ (lv_sub hl [1, 3, 4, 5, 0] rfl) hP
  refine lv_if_lt F.1 F.2.1 d_TM_add_1 rfl (fun hb5 => ?_) (fun hb5 => ?_)
  · rw [if_pos hb5] at hj3
    refine lv_iconst (v := 0) F.1 F.2.1 d_TM_add_17 (by decide) ?_
    subst hj3
    exact KJ2 _ _ _ (lv_sub hl [0, 1, 2, 3, 4] rfl) hP
  · rw [if_neg hb5] at hj3
    refine lv_iload_n F.1 F.2.1 d_TM_add_4 rfl (lv_at hl 1 rfl) ?_
    refine lv_aload_n F.1 F.2.1 d_TM_add_5 rfl (lv_at hl 0 rfl) ?_
    refine g_get F hP 0 6 0 (by decide) Nat.zero_lt_one (by decide) (v := .ref (xL X 18 0)) rfl w_176 d_TM_add_6 ?_
    refine g_alen F hP 18 (by decide) (by decide) Nat.zero_lt_one (v := 22) (by decide) d_TM_add_9 ?_
    refine lv_icmp_ge F.1 F.2.1 d_TM_add_10 rfl (fun hb4 => ?_) (fun hb4 => ?_)
    · rw [if_pos hb4] at hj3
      refine lv_iconst (v := 0) F.1 F.2.1 d_TM_add_17 (by decide) ?_
      subst hj3
      exact KJ2 _ _ _ (lv_sub hl [0, 1, 2, 3, 4] rfl) hP
    · rw [if_neg hb4] at hj3
      refine lv_iconst (v := 1) F.1 F.2.1 d_TM_add_13 (by decide) ?_
      refine lv_goto F.1 F.2.1 d_TM_add_14 rfl ?_
      subst hj3
      exact KJ2 _ _ _ (lv_sub hl [0, 1, 2, 3, 4] rfl) hP

theorem d_TM_code_0 : decode b_TM_code 0 = .ok (.iload_n 1, 1) := by decide +kernel
theorem d_TM_code_1 : decode b_TM_code 1 = .ok (.ifCond .lt 24, 3) := by decide +kernel
theorem d_TM_code_4 : decode b_TM_code 4 = .ok (.iload_n 1, 1) := by decide +kernel
theorem d_TM_code_5 : decode b_TM_code 5 = .ok (.aload_n 0, 1) := by decide +kernel
theorem d_TM_code_6 : decode b_TM_code 6 = .ok (.getfield 166, 3) := by decide +kernel
theorem d_TM_code_9 : decode b_TM_code 9 = .ok (.if_icmp .ge 16, 3) := by decide +kernel
theorem d_TM_code_12 : decode b_TM_code 12 = .ok (.iload_n 2, 1) := by decide +kernel
theorem d_TM_code_13 : decode b_TM_code 13 = .ok (.ifCond .lt 12, 3) := by decide +kernel
theorem d_TM_code_16 : decode b_TM_code 16 = .ok (.iload_n 2, 1) := by decide +kernel
theorem d_TM_code_17 : decode b_TM_code 17 = .ok (.iconst 3, 1) := by decide +kernel
theorem d_TM_code_18 : decode b_TM_code 18 = .ok (.if_icmp .gt 7, 3) := by decide +kernel
theorem d_TM_code_21 : decode b_TM_code 21 = .ok (.iconst 1, 1) := by decide +kernel
theorem d_TM_code_22 : decode b_TM_code 22 = .ok (.goto 4, 3) := by decide +kernel
theorem d_TM_code_25 : decode b_TM_code 25 = .ok (.iconst 0, 1) := by decide +kernel
theorem d_TM_code_26 : decode b_TM_code 26 = .ok (.invokestatic 197, 3) := by decide +kernel
theorem d_TM_code_29 : decode b_TM_code 29 = .ok (.iload_n 2, 1) := by decide +kernel
theorem d_TM_code_30 : decode b_TM_code 30 = .ok (.ifCond .ne 18, 3) := by decide +kernel
theorem d_TM_code_33 : decode b_TM_code 33 = .ok (.aload_n 0, 1) := by decide +kernel
theorem d_TM_code_34 : decode b_TM_code 34 = .ok (.getfield 44, 3) := by decide +kernel
theorem d_TM_code_37 : decode b_TM_code 37 = .ok (.iload_n 1, 1) := by decide +kernel
theorem d_TM_code_38 : decode b_TM_code 38 = .ok (.aaload, 1) := by decide +kernel
theorem d_TM_code_39 : decode b_TM_code 39 = .ok (.getfield 169, 3) := by decide +kernel
theorem d_TM_code_42 : decode b_TM_code 42 = .ok (.invokevirtual 200, 3) := by decide +kernel
theorem d_TM_code_45 : decode b_TM_code 45 = .ok (.goto 16, 3) := by decide +kernel
theorem d_TM_code_48 : decode b_TM_code 48 = .ok (.aload_n 0, 1) := by decide +kernel
theorem d_TM_code_49 : decode b_TM_code 49 = .ok (.getfield 44, 3) := by decide +kernel
theorem d_TM_code_52 : decode b_TM_code 52 = .ok (.iload_n 1, 1) := by decide +kernel
theorem d_TM_code_53 : decode b_TM_code 53 = .ok (.aaload, 1) := by decide +kernel
theorem d_TM_code_54 : decode b_TM_code 54 = .ok (.getfield 173, 3) := by decide +kernel
theorem d_TM_code_57 : decode b_TM_code 57 = .ok (.iload_n 2, 1) := by decide +kernel
theorem d_TM_code_58 : decode b_TM_code 58 = .ok (.iconst 1, 1) := by decide +kernel
theorem d_TM_code_59 : decode b_TM_code 59 = .ok (.isub, 1) := by decide +kernel
theorem d_TM_code_60 : decode b_TM_code 60 = .ok (.iaload, 1) := by decide +kernel
theorem d_TM_code_61 : decode b_TM_code 61 = .ok (.ireturn, 1) := by decide +kernel
noncomputable def f_TM_code (a1 : Int32) (a2 : Int32) (σ : Sg) : Option ((Int32 ⊕ Nat) × Sg) :=
  lt_ ((if a1 < 0 then 0 else (if (gi σ 0 0 8) ≤ a1 then 0 else (if a2 < 0 then 0 else (if 3 < a2 then 0 else 1)))) : Int32) (fun (x1 : Int32) => bnX (f_TM_there x1 σ) (fun (r10 : Unit) (σ8 : Sg) => Option.bind (if a2 = 0 then (chk (vp_in a1 60) ((gr σ8 6 a1.toNatClampNeg 0).bind (fun o18 => chk (o18 < 22) (some (nI o18))))) else (chk (vp_in a1 60) (chk (vp_in (a2 - 1) 3) (some (gi σ8 16 a1.toNatClampNeg ((a2 - 1).toNatClampNeg)))))) (fun (x12 : Int32) => some (.inl x12, σ8))))
abbrev rm_TM_code : Room := { frames := 7, cells := 1, slots := 6, locals := 120 }
set_option maxHeartbeats 4000000 in
set_option maxRecDepth 100000 in
theorem c_TM_code (l : Launch) (X : GX) (n : Nat) {σ σ' : Sg} {r : Int32 ⊕ Nat} {a1 : Int32} {a2 : Int32} (hfl : l.flags = flags0)  (hf : f_TM_code a1 a2 σ = some (r, σ')) : MetX l y_TM_code (cw y_TM_code b_TM_code 3 (some .int)) rm_TM_code (PcG X n σ [.ref (xL X 0 0), .int a1, .int a2]) (QcX X n σ' (rI r)) 1 6 (fr X n) := by
  refine g_headX (own := "TableMachine") (by decide) rfl (Nat.le_of_ble_eq_true rfl) ?_
  intro p e s m args below meth c ls F hr hlk hnh hP hl
  have hl : lv_has ls 3 [(0, .ref (xL X 0 0)), (1, .int a1), (2, .int a2)] := hl
  show WX l X n rm_TM_code σ' (rI r) p e s m args below meth c s.heap [] (F0 m 0 ls [])
  unfold f_TM_code at hf
  refine lv_iload_n F.1 F.2.1 d_TM_code_0 rfl (lv_at hl 1 rfl) ?_
  obtain ⟨x1, hj3, hf⟩ := lt_some2 hf
  have KJ2 : ∀ (ls : Array Slot) (H : Heap) (locs : List Loc), lv_has ls 3 [(0, .ref (xL X 0 0)), (1, .int a1), (2, .int a2)] → St X n σ s.heap H locs → WX l X n rm_TM_code σ' (rI r) p e s m args below meth c H locs (F0 m 26 ls [.int x1]) := by
    intro ls H locs hl hP
    rcases bnX_some hf with ⟨r10, σ8, hk9, hf⟩ | ⟨k11, σ8, hk9, hf⟩
    rotate_left
    · cases hf
      exact xr_thr hP hlk hnh (g_xS (As := [.int x1]) (rest := []) F hP (c_TM_there l X n hfl  hk9) ⟨by decide, by decide, q_TM_there⟩ w_707 w_1 w_705 w_706 ⟨by decide, by decide⟩ hl.1 (Nat.le_of_ble_eq_true rfl) ⟨by decide, by decide⟩ d_TM_code_26 rfl)
    refine xr_ret hP (g_xS (As := [.int x1]) (rest := []) F hP (c_TM_there l X n hfl  hk9) ⟨by decide, by decide, q_TM_there⟩ w_707 w_1 w_705 w_706 ⟨by decide, by decide⟩ hl.1 (Nat.le_of_ble_eq_true rfl) ⟨by decide, by decide⟩ d_TM_code_26 rfl) (fun H locs hP => ?_)
    refine W.eq (g2 := F0 m 29 ls []) rfl ?_
    refine lv_iload_n F.1 F.2.1 d_TM_code_29 rfl (lv_at hl 2 rfl) ?_
    obtain ⟨x12, hj14, hf⟩ := bnd_some hf
    have KJ13 : ∀ (ls : Array Slot) (H : Heap) (locs : List Loc), lv_has ls 3 [] → St X n σ8 s.heap H locs → WX l X n rm_TM_code σ' (rI r) p e s m args below meth c H locs (F0 m 61 ls [.int x12]) := by
      intro ls H locs hl hP
      cases hf
      exact W.mono mqx_ret (g_iret F hP hr hlk d_TM_code_61)
    refine lv_if_ne F.1 F.2.1 d_TM_code_30 rfl (fun hb20 => ?_) (fun hb20 => ?_)
    · rw [if_neg hb20] at hj14
      refine lv_aload_n F.1 F.2.1 d_TM_code_48 rfl (lv_at hl 0 rfl) ?_
      refine g_get F hP 0 7 0 (by decide) Nat.zero_lt_one (by decide) (v := .ref (xL X 19 0)) rfl w_177 d_TM_code_49 ?_
      refine lv_iload_n F.1 F.2.1 d_TM_code_52 rfl (lv_at hl 1 rfl) ?_
      obtain ⟨hc15, hj14⟩ := chk_some hj14
      refine g_rld F hP 19 (by decide) (by decide) Nat.zero_lt_one rfl hc15 (v := .ref (xL X 6 a1.toNatClampNeg)) rfl d_TM_code_53 ?_
      refine g_getN F hP 6 1 a1.toNatClampNeg (by decide) (vin_lt hc15) (by decide) (v := .ref (xL X 16 a1.toNatClampNeg)) rfl w_127 d_TM_code_54 ?_
      refine lv_iload_n F.1 F.2.1 d_TM_code_57 rfl (lv_at hl 2 rfl) ?_
      refine lv_iconst (v := 1) F.1 F.2.1 d_TM_code_58 (by decide) ?_
      refine lv_isub F.1 F.2.1 d_TM_code_59 ?_
      obtain ⟨hc16, hj14⟩ := chk_some hj14
      refine g_ald F hP 16 (by decide) (by decide) (vin_lt hc15) rfl rfl hc16 d_TM_code_60 ?_
      cases hj14
      exact KJ13 _ _ _ (lv_sub hl [] rfl) hP
    · rw [if_pos hb20] at hj14
      refine lv_aload_n F.1 F.2.1 d_TM_code_33 rfl (lv_at hl 0 rfl) ?_
      refine g_get F hP 0 7 0 (by decide) Nat.zero_lt_one (by decide) (v := .ref (xL X 19 0)) rfl w_177 d_TM_code_34 ?_
      refine lv_iload_n F.1 F.2.1 d_TM_code_37 rfl (lv_at hl 1 rfl) ?_
      obtain ⟨hc17, hj14⟩ := chk_some hj14
      refine g_rld F hP 19 (by decide) (by decide) Nat.zero_lt_one rfl hc17 (v := .ref (xL X 6 a1.toNatClampNeg)) rfl d_TM_code_38 ?_
      obtain ⟨o18, e_o18, hj14⟩ := bnd_some hj14
      obtain ⟨hc19, hj14⟩ := chk_some hj14
      refine g_getN F hP 6 0 a1.toNatClampNeg (by decide) (vin_lt hc17) (by decide) (v := .ref (xad X o18)) (fv_op e_o18) w_125 d_TM_code_39 ?_
      refine g_ord (rest := []) F hP hc19 w_723 ⟨by decide, by decide⟩ hl.1 (Nat.le_of_ble_eq_true rfl) ⟨Nat.zero_le _, Nat.zero_le _⟩ d_TM_code_42 (fun H locs hP => ?_)
      refine lv_goto F.1 F.2.1 d_TM_code_45 rfl ?_
      cases hj14
      exact KJ13 _ _ _ (lv_sub hl [] rfl) hP
  refine lv_if_lt F.1 F.2.1 d_TM_code_1 rfl (fun hb7 => ?_) (fun hb7 => ?_)
  · rw [if_pos hb7] at hj3
    refine lv_iconst (v := 0) F.1 F.2.1 d_TM_code_25 (by decide) ?_
    subst hj3
    exact KJ2 _ _ _ (lv_sub hl [0, 1, 2] rfl) hP
  · rw [if_neg hb7] at hj3
    refine lv_iload_n F.1 F.2.1 d_TM_code_4 rfl (lv_at hl 1 rfl) ?_
    refine lv_aload_n F.1 F.2.1 d_TM_code_5 rfl (lv_at hl 0 rfl) ?_
    refine g_get F hP 0 8 0 (by decide) Nat.zero_lt_one (by decide) (v := .int (gi σ 0 0 8)) rfl w_178 d_TM_code_6 ?_
    refine lv_icmp_ge F.1 F.2.1 d_TM_code_9 rfl (fun hb6 => ?_) (fun hb6 => ?_)
    · rw [if_pos hb6] at hj3
      refine lv_iconst (v := 0) F.1 F.2.1 d_TM_code_25 (by decide) ?_
      subst hj3
      exact KJ2 _ _ _ (lv_sub hl [0, 1, 2] rfl) hP
    · rw [if_neg hb6] at hj3
      refine lv_iload_n F.1 F.2.1 d_TM_code_12 rfl (lv_at hl 2 rfl) ?_
      refine lv_if_lt F.1 F.2.1 d_TM_code_13 rfl (fun hb5 => ?_) (fun hb5 => ?_)
      · rw [if_pos hb5] at hj3
        refine lv_iconst (v := 0) F.1 F.2.1 d_TM_code_25 (by decide) ?_
        subst hj3
        exact KJ2 _ _ _ (lv_sub hl [0, 1, 2] rfl) hP
      · rw [if_neg hb5] at hj3
        refine lv_iload_n F.1 F.2.1 d_TM_code_16 rfl (lv_at hl 2 rfl) ?_
        refine lv_iconst (v := 3) F.1 F.2.1 d_TM_code_17 (by decide) ?_
        refine lv_icmp_gt F.1 F.2.1 d_TM_code_18 rfl (fun hb4 => ?_) (fun hb4 => ?_)
        · rw [if_pos hb4] at hj3
          refine lv_iconst (v := 0) F.1 F.2.1 d_TM_code_25 (by decide) ?_
          subst hj3
          exact KJ2 _ _ _ (lv_sub hl [0, 1, 2] rfl) hP
        · rw [if_neg hb4] at hj3
          refine lv_iconst (v := 1) F.1 F.2.1 d_TM_code_21 (by decide) ?_
          refine lv_goto F.1 F.2.1 d_TM_code_22 rfl ?_
          subst hj3
          exact KJ2 _ _ _ (lv_sub hl [0, 1, 2] rfl) hP

theorem d_TM_run_0 : decode b_TM_run 0 = .ok (.iload_n 1, 1) := by decide +kernel
theorem d_TM_run_1 : decode b_TM_run 1 = .ok (.ifCond .lt 21, 3) := by decide +kernel
theorem d_TM_run_4 : decode b_TM_run 4 = .ok (.iload_n 1, 1) := by decide +kernel
theorem d_TM_run_5 : decode b_TM_run 5 = .ok (.sipush 4000, 3) := by decide +kernel
theorem d_TM_run_8 : decode b_TM_run 8 = .ok (.if_icmp .gt 14, 3) := by decide +kernel
theorem d_TM_run_11 : decode b_TM_run 11 = .ok (.aload_n 0, 1) := by decide +kernel
theorem d_TM_run_12 : decode b_TM_run 12 = .ok (.invokevirtual 274, 3) := by decide +kernel
theorem d_TM_run_15 : decode b_TM_run 15 = .ok (.ifCond .eq 7, 3) := by decide +kernel
theorem d_TM_run_18 : decode b_TM_run 18 = .ok (.iconst 1, 1) := by decide +kernel
theorem d_TM_run_19 : decode b_TM_run 19 = .ok (.goto 4, 3) := by decide +kernel
theorem d_TM_run_22 : decode b_TM_run 22 = .ok (.iconst 0, 1) := by decide +kernel
theorem d_TM_run_23 : decode b_TM_run 23 = .ok (.invokestatic 99, 3) := by decide +kernel
theorem d_TM_run_26 : decode b_TM_run 26 = .ok (.iconst 0, 1) := by decide +kernel
theorem d_TM_run_27 : decode b_TM_run 27 = .ok (.istore_n 2, 1) := by decide +kernel
theorem d_TM_run_28 : decode b_TM_run 28 = .ok (.iload_n 2, 1) := by decide +kernel
theorem d_TM_run_29 : decode b_TM_run 29 = .ok (.bipush 16, 2) := by decide +kernel
theorem d_TM_run_31 : decode b_TM_run 31 = .ok (.if_icmp .ge 18, 3) := by decide +kernel
theorem d_TM_run_34 : decode b_TM_run 34 = .ok (.aload_n 0, 1) := by decide +kernel
theorem d_TM_run_35 : decode b_TM_run 35 = .ok (.getfield 50, 3) := by decide +kernel
theorem d_TM_run_38 : decode b_TM_run 38 = .ok (.iload_n 2, 1) := by decide +kernel
theorem d_TM_run_39 : decode b_TM_run 39 = .ok (.aaload, 1) := by decide +kernel
theorem d_TM_run_40 : decode b_TM_run 40 = .ok (.invokevirtual 115, 3) := by decide +kernel
theorem d_TM_run_43 : decode b_TM_run 43 = .ok (.iinc 2 1, 3) := by decide +kernel
theorem d_TM_run_46 : decode b_TM_run 46 = .ok (.goto (-18), 3) := by decide +kernel
theorem d_TM_run_49 : decode b_TM_run 49 = .ok (.iconst 0, 1) := by decide +kernel
theorem d_TM_run_50 : decode b_TM_run 50 = .ok (.istore_n 2, 1) := by decide +kernel
theorem d_TM_run_51 : decode b_TM_run 51 = .ok (.iload_n 2, 1) := by decide +kernel
theorem d_TM_run_52 : decode b_TM_run 52 = .ok (.iconst 3, 1) := by decide +kernel
theorem d_TM_run_53 : decode b_TM_run 53 = .ok (.if_icmp .ge 28, 3) := by decide +kernel
theorem d_TM_run_56 : decode b_TM_run 56 = .ok (.aload_n 0, 1) := by decide +kernel
theorem d_TM_run_57 : decode b_TM_run 57 = .ok (.getfield 56, 3) := by decide +kernel
theorem d_TM_run_60 : decode b_TM_run 60 = .ok (.iload_n 2, 1) := by decide +kernel
theorem d_TM_run_61 : decode b_TM_run 61 = .ok (.aaload, 1) := by decide +kernel
theorem d_TM_run_62 : decode b_TM_run 62 = .ok (.aconst_null, 1) := by decide +kernel
theorem d_TM_run_63 : decode b_TM_run 63 = .ok (.putfield 204, 3) := by decide +kernel
theorem d_TM_run_66 : decode b_TM_run 66 = .ok (.aload_n 0, 1) := by decide +kernel
theorem d_TM_run_67 : decode b_TM_run 67 = .ok (.getfield 56, 3) := by decide +kernel
theorem d_TM_run_70 : decode b_TM_run 70 = .ok (.iload_n 2, 1) := by decide +kernel
theorem d_TM_run_71 : decode b_TM_run 71 = .ok (.aaload, 1) := by decide +kernel
theorem d_TM_run_72 : decode b_TM_run 72 = .ok (.invokevirtual 241, 3) := by decide +kernel
theorem d_TM_run_75 : decode b_TM_run 75 = .ok (.iinc 2 1, 3) := by decide +kernel
theorem d_TM_run_78 : decode b_TM_run 78 = .ok (.goto (-27), 3) := by decide +kernel
theorem d_TM_run_81 : decode b_TM_run 81 = .ok (.aload_n 0, 1) := by decide +kernel
theorem d_TM_run_82 : decode b_TM_run 82 = .ok (.iconst 0, 1) := by decide +kernel
theorem d_TM_run_83 : decode b_TM_run 83 = .ok (.putfield 235, 3) := by decide +kernel
theorem d_TM_run_86 : decode b_TM_run 86 = .ok (.aload_n 0, 1) := by decide +kernel
theorem d_TM_run_87 : decode b_TM_run 87 = .ok (.iconst (-1), 1) := by decide +kernel
theorem d_TM_run_88 : decode b_TM_run 88 = .ok (.putfield 238, 3) := by decide +kernel
theorem d_TM_run_91 : decode b_TM_run 91 = .ok (.iconst 0, 1) := by decide +kernel
theorem d_TM_run_92 : decode b_TM_run 92 = .ok (.istore_n 2, 1) := by decide +kernel
theorem d_TM_run_93 : decode b_TM_run 93 = .ok (.iconst 0, 1) := by decide +kernel
theorem d_TM_run_94 : decode b_TM_run 94 = .ok (.istore_n 3, 1) := by decide +kernel
theorem d_TM_run_95 : decode b_TM_run 95 = .ok (.aload_n 0, 1) := by decide +kernel
theorem d_TM_run_96 : decode b_TM_run 96 = .ok (.getfield 238, 3) := by decide +kernel
theorem d_TM_run_99 : decode b_TM_run 99 = .ok (.ifCond .ge 44, 3) := by decide +kernel
theorem d_TM_run_102 : decode b_TM_run 102 = .ok (.iload_n 2, 1) := by decide +kernel
theorem d_TM_run_103 : decode b_TM_run 103 = .ok (.aload_n 0, 1) := by decide +kernel
theorem d_TM_run_104 : decode b_TM_run 104 = .ok (.getfield 166, 3) := by decide +kernel
theorem d_TM_run_107 : decode b_TM_run 107 = .ok (.if_icmp .ne 11, 3) := by decide +kernel
theorem d_TM_run_110 : decode b_TM_run 110 = .ok (.aload_n 0, 1) := by decide +kernel
theorem d_TM_run_111 : decode b_TM_run 111 = .ok (.iconst 0, 1) := by decide +kernel
theorem d_TM_run_112 : decode b_TM_run 112 = .ok (.putfield 238, 3) := by decide +kernel
theorem d_TM_run_115 : decode b_TM_run 115 = .ok (.goto 22, 3) := by decide +kernel
theorem d_TM_run_118 : decode b_TM_run 118 = .ok (.iload_n 3, 1) := by decide +kernel
theorem d_TM_run_119 : decode b_TM_run 119 = .ok (.iload_n 1, 1) := by decide +kernel
theorem d_TM_run_120 : decode b_TM_run 120 = .ok (.if_icmp .ne 11, 3) := by decide +kernel
theorem d_TM_run_123 : decode b_TM_run 123 = .ok (.aload_n 0, 1) := by decide +kernel
theorem d_TM_run_124 : decode b_TM_run 124 = .ok (.iconst 1, 1) := by decide +kernel
theorem d_TM_run_125 : decode b_TM_run 125 = .ok (.putfield 238, 3) := by decide +kernel
theorem d_TM_run_128 : decode b_TM_run 128 = .ok (.goto 9, 3) := by decide +kernel
theorem d_TM_run_131 : decode b_TM_run 131 = .ok (.aload_n 0, 1) := by decide +kernel
theorem d_TM_run_132 : decode b_TM_run 132 = .ok (.iload_n 2, 1) := by decide +kernel
theorem d_TM_run_133 : decode b_TM_run 133 = .ok (.invokevirtual 277, 3) := by decide +kernel
theorem d_TM_run_136 : decode b_TM_run 136 = .ok (.istore_n 2, 1) := by decide +kernel
theorem d_TM_run_137 : decode b_TM_run 137 = .ok (.iinc 3 1, 3) := by decide +kernel
theorem d_TM_run_140 : decode b_TM_run 140 = .ok (.goto (-45), 3) := by decide +kernel
theorem d_TM_run_143 : decode b_TM_run 143 = .ok (.aload_n 0, 1) := by decide +kernel
theorem d_TM_run_144 : decode b_TM_run 144 = .ok (.getfield 238, 3) := by decide +kernel
theorem d_TM_run_147 : decode b_TM_run 147 = .ok (.ireturn, 1) := by decide +kernel
noncomputable def b_TM_run_28  (x15 : Int32) (σ16 : Sg) : Option ((Int32 × Sg) ⊕ (Sg)) :=
  (if 16 ≤ x15 then (some (.inr σ16)) else (chk (vp_in x15 16) ((f_Vl_none (8 + x15.toNatClampNeg) σ16).bind (fun σ21 => lt_ (x15 + 1 : Int32) (fun (x23 : Int32) => some (.inl (x23, σ21)))))))
noncomputable def l_TM_run_28  (x15 : Int32) (σ16 : Sg) : Option (Sg) := lp (fun q => b_TM_run_28  q.1 q.2) FU (x15, σ16)
noncomputable def b_TM_run_51  (x28 : Int32) (σ29 : Sg) : Option ((Int32 × Sg) ⊕ (Sg)) :=
  (if 3 ≤ x28 then (some (.inr σ29)) else (chk (vp_in x28 3) (lt_ (sr σ29 7 x28.toNatClampNeg 0 none) (fun σ34 => chk (vp_in x28 3) ((f_Cu_clear x28.toNatClampNeg σ34).bind (fun σ36 => lt_ (x28 + 1 : Int32) (fun (x38 : Int32) => some (.inl (x38, σ36)))))))))
noncomputable def l_TM_run_51  (x28 : Int32) (σ29 : Sg) : Option (Sg) := lp (fun q => b_TM_run_51  q.1 q.2) FU (x28, σ29)
noncomputable def b_TM_run_95 (a1 : Int32) (x45 : Int32) (x46 : Int32) (σ47 : Sg) : Option ((Int32 × Int32 × Sg) ⊕ (Sg)) :=
  (if 0 ≤ (gi σ47 0 0 14) then (some (.inr σ47)) else (bn2 (if x45 = (gi σ47 0 0 8) then (lt_ (si σ47 0 0 14 0) (fun σ60 => some (x45, σ60))) else (if x46 = a1 then (lt_ (si σ47 0 0 14 1) (fun σ58 => some (x45, σ58))) else (bn2 (f_TM_step x45 σ47) (fun r57 σ55 => some (r57, σ55))))) (fun (x51 : Int32) (σ52 : Sg) => lt_ (x46 + 1 : Int32) (fun (x62 : Int32) => some (.inl (x51, x62, σ52))))))
noncomputable def l_TM_run_95 (a1 : Int32) (x45 : Int32) (x46 : Int32) (σ47 : Sg) : Option (Sg) := lp (fun q => b_TM_run_95 a1 q.1 q.2.1 q.2.2) FU (x45, x46, σ47)
noncomputable def f_TM_run (a1 : Int32) (σ : Sg) : Option ((Int32 ⊕ Nat) × Sg) :=
  bn2 (if a1 < 0 then (some (0, σ)) else (if 4000 < a1 then (some (0, σ)) else (bn2 (f_TM_isSound σ) (fun r7 σ5 => (if r7 = 0 then (some (0, σ5)) else (some (1, σ5))))))) (fun (x1 : Int32) (σ2 : Sg) => bnX (f_TM_check x1 σ2) (fun (r13 : Unit) (σ11 : Sg) => (l_TM_run_28  0 σ11).bind (fun σ25 => (l_TM_run_51  0 σ25).bind (fun σ40 => lt_ (si σ40 0 0 13 0) (fun σ43 => lt_ (si σ43 0 0 14 (-1)) (fun σ44 => (l_TM_run_95 a1 0 0 σ44).bind (fun σ64 => some (.inl (gi σ64 0 0 14), σ64))))))))
abbrev rm_TM_run : Room := { frames := 12, cells := 1, slots := 6, locals := 293 }
set_option maxHeartbeats 4000000 in
set_option maxRecDepth 100000 in
theorem c_TM_run (l : Launch) (X : GX) (n : Nat) {σ σ' : Sg} {r : Int32 ⊕ Nat} {a1 : Int32} (hfl : l.flags = flags0)  (hf : f_TM_run a1 σ = some (r, σ')) : MetX l y_TM_run (cw y_TM_run b_TM_run 4 (some .int)) rm_TM_run (PcG X n σ [.ref (xL X 0 0), .int a1]) (QcX X n σ' (rI r)) 1 6 (fr X n) := by
  refine g_headX (own := "TableMachine") (by decide) rfl (Nat.le_of_ble_eq_true rfl) ?_
  intro p e s m args below meth c ls F hr hlk hnh hP hl
  have hl : lv_has ls 4 [(0, .ref (xL X 0 0)), (1, .int a1)] := hl
  show WX l X n rm_TM_run σ' (rI r) p e s m args below meth c s.heap [] (F0 m 0 ls [])
  unfold f_TM_run at hf
  refine lv_iload_n F.1 F.2.1 d_TM_run_0 rfl (lv_at hl 1 rfl) ?_
  obtain ⟨x1, σ2, hj4, hf⟩ := bn2_some hf
  have KJ3 : ∀ (ls : Array Slot) (H : Heap) (locs : List Loc), lv_has ls 4 [(0, .ref (xL X 0 0)), (1, .int a1)] → St X n σ2 s.heap H locs → WX l X n rm_TM_run σ' (rI r) p e s m args below meth c H locs (F0 m 23 ls [.int x1]) := by
    intro ls H locs hl hP
    rcases bnX_some hf with ⟨r13, σ11, hk12, hf⟩ | ⟨k14, σ11, hk12, hf⟩
    rotate_left
    · cases hf
      exact xr_thr hP hlk hnh (g_xS (As := [.int x1]) (rest := []) F hP (c_TM_check l X n hfl  hk12) ⟨by decide, by decide, q_TM_check⟩ w_298 w_1 w_296 w_297 ⟨by decide, by decide⟩ hl.1 (Nat.le_of_ble_eq_true rfl) ⟨by decide, by decide⟩ d_TM_run_23 rfl)
    refine xr_ret hP (g_xS (As := [.int x1]) (rest := []) F hP (c_TM_check l X n hfl  hk12) ⟨by decide, by decide, q_TM_check⟩ w_298 w_1 w_296 w_297 ⟨by decide, by decide⟩ hl.1 (Nat.le_of_ble_eq_true rfl) ⟨by decide, by decide⟩ d_TM_run_23 rfl) (fun H locs hP => ?_)
    refine W.eq (g2 := F0 m 26 ls []) rfl ?_
    refine lv_iconst (v := 0) F.1 F.2.1 d_TM_run_26 (by decide) ?_
    refine lv_istore_n F.1 F.2.1 d_TM_run_27 rfl hl (by decide) rfl (fun ls hl => ?_)
    have hl : lv_has ls 4 [(2, .int 0), (0, .ref (xL X 0 0)), (1, .int a1)] := hl
    obtain ⟨σ25, hlp26, hf⟩ := bnd_some hf
    have KX27 : ∀ (ls : Array Slot) (H : Heap) (locs : List Loc), lv_has ls 4 [(0, .ref (xL X 0 0)), (1, .int a1)] → St X n σ25 s.heap H locs → WX l X n rm_TM_run σ' (rI r) p e s m args below meth c H locs (F0 m 49 ls []) := by
      intro ls H locs hl hP
      refine lv_iconst (v := 0) F.1 F.2.1 d_TM_run_49 (by decide) ?_
      refine lv_istore_n F.1 F.2.1 d_TM_run_50 rfl hl (by decide) rfl (fun ls hl => ?_)
      have hl : lv_has ls 4 [(2, .int 0), (0, .ref (xL X 0 0)), (1, .int a1)] := hl
      obtain ⟨σ40, hlp41, hf⟩ := bnd_some hf
      have KX42 : ∀ (ls : Array Slot) (H : Heap) (locs : List Loc), lv_has ls 4 [(0, .ref (xL X 0 0)), (1, .int a1)] → St X n σ40 s.heap H locs → WX l X n rm_TM_run σ' (rI r) p e s m args below meth c H locs (F0 m 81 ls []) := by
        intro ls H locs hl hP
        refine lv_aload_n F.1 F.2.1 d_TM_run_81 rfl (lv_at hl 0 rfl) ?_
        refine lv_iconst (v := 0) F.1 F.2.1 d_TM_run_82 (by decide) ?_
        obtain ⟨σ43, e_σ43, hf⟩ := lt_some hf
        refine g_puti F hP 0 13 0 (by decide) Nat.zero_lt_one (by decide) rfl rfl rfl rfl (Or.inl w_183) d_TM_run_83 e_σ43 (fun H locs hP => ?_)
        refine lv_aload_n F.1 F.2.1 d_TM_run_86 rfl (lv_at hl 0 rfl) ?_
        refine lv_iconst (v := (-1)) F.1 F.2.1 d_TM_run_87 (by decide) ?_
        obtain ⟨σ44, e_σ44, hf⟩ := lt_some hf
        refine g_puti F hP 0 14 0 (by decide) Nat.zero_lt_one (by decide) rfl rfl rfl rfl (Or.inl w_184) d_TM_run_88 e_σ44 (fun H locs hP => ?_)
        refine lv_iconst (v := 0) F.1 F.2.1 d_TM_run_91 (by decide) ?_
        refine lv_istore_n F.1 F.2.1 d_TM_run_92 rfl hl (by decide) rfl (fun ls hl => ?_)
        have hl : lv_has ls 4 [(2, .int 0), (0, .ref (xL X 0 0)), (1, .int a1)] := hl
        refine lv_iconst (v := 0) F.1 F.2.1 d_TM_run_93 (by decide) ?_
        refine lv_istore_n F.1 F.2.1 d_TM_run_94 rfl hl (by decide) rfl (fun ls hl => ?_)
        have hl : lv_has ls 4 [(3, .int 0), (2, .int 0), (0, .ref (xL X 0 0)), (1, .int a1)] := hl
        obtain ⟨σ64, hlp65, hf⟩ := bnd_some hf
        have KX66 : ∀ (ls : Array Slot) (H : Heap) (locs : List Loc), lv_has ls 4 [(0, .ref (xL X 0 0))] → St X n σ64 s.heap H locs → WX l X n rm_TM_run σ' (rI r) p e s m args below meth c H locs (F0 m 143 ls []) := by
          intro ls H locs hl hP
          refine lv_aload_n F.1 F.2.1 d_TM_run_143 rfl (lv_at hl 0 rfl) ?_
          refine g_get F hP 0 14 0 (by decide) Nat.zero_lt_one (by decide) (v := .int (gi σ64 0 0 14)) rfl w_184 d_TM_run_144 ?_
          cases hf
          exact W.mono mqx_ret (g_iret F hP hr hlk d_TM_run_147)
        unfold l_TM_run_95 at hlp65
        refine lp_W (PW := fun q => ∀ (ls : Array Slot) (H : Heap) (locs : List Loc), lv_has ls 4 [(0, .ref (xL X 0 0)), (1, .int a1), (2, .int q.1), (3, .int q.2.1)] → St X n q.2.2 s.heap H locs → WX l X n rm_TM_run σ' (rI r) p e s m args below meth c H locs (F0 m 95 ls [])) (PE := fun q => ∀ (ls : Array Slot) (H : Heap) (locs : List Loc), lv_has ls 4 [(0, .ref (xL X 0 0))] → St X n q s.heap H locs → WX l X n rm_TM_run σ' (rI r) p e s m args below meth c H locs (F0 m 143 ls [])) ?_ _ _ _ hlp65 KX66 _ _ _ (lv_sub hl [2, 3, 1, 0] rfl) hP
        rintro ⟨x45, x46, σ47⟩ rr48 hb_95 hI49 hE50 ls H locs hl hP
        replace hb_95 : b_TM_run_95 a1 x45 x46 σ47 = some rr48 := hb_95
        unfold b_TM_run_95 at hb_95
        refine lv_aload_n F.1 F.2.1 d_TM_run_95 rfl (lv_at hl 0 rfl) ?_
        refine g_get F hP 0 14 0 (by decide) Nat.zero_lt_one (by decide) (v := .int (gi σ47 0 0 14)) rfl w_184 d_TM_run_96 ?_
        refine lv_if_ge F.1 F.2.1 d_TM_run_99 rfl (fun hb63 => ?_) (fun hb63 => ?_)
        · rw [if_pos hb63] at hb_95
          cases hb_95
          exact hE50 _ rfl _ _ _ (lv_sub hl [0] rfl) hP
        · rw [if_neg hb63] at hb_95
          refine lv_iload_n F.1 F.2.1 d_TM_run_102 rfl (lv_at hl 2 rfl) ?_
          refine lv_aload_n F.1 F.2.1 d_TM_run_103 rfl (lv_at hl 0 rfl) ?_
          refine g_get F hP 0 8 0 (by decide) Nat.zero_lt_one (by decide) (v := .int (gi σ47 0 0 8)) rfl w_178 d_TM_run_104 ?_
          obtain ⟨x51, σ52, hj54, hb_95⟩ := bn2_some hb_95
          have KJ53 : ∀ (ls : Array Slot) (H : Heap) (locs : List Loc), lv_has ls 4 [(0, .ref (xL X 0 0)), (1, .int a1), (2, .int x51), (3, .int x46)] → St X n σ52 s.heap H locs → WX l X n rm_TM_run σ' (rI r) p e s m args below meth c H locs (F0 m 137 ls []) := by
            intro ls H locs hl hP
            obtain ⟨x62, e_x62, hb_95⟩ := lt_some hb_95
            refine lv_iinc (k := 3) (v := x62) F.1 F.2.1 d_TM_run_137 hl rfl (by rw [e_x62]; rfl) (by decide) rfl (fun ls hl => ?_)
            have hl : lv_has ls 4 [(3, .int x62), (0, .ref (xL X 0 0)), (1, .int a1), (2, .int x51)] := hl
            refine lv_goto F.1 F.2.1 d_TM_run_140 rfl ?_
            cases hb_95
            exact hI49 _ rfl _ _ _ (lv_sub hl [1, 2, 3, 0] rfl) hP
          refine lv_icmp_ne F.1 F.2.1 d_TM_run_107 rfl (fun hb61 => ?_) (fun hb61 => ?_)
          · rw [if_neg hb61] at hj54
            refine lv_iload_n F.1 F.2.1 d_TM_run_118 rfl (lv_at hl 3 rfl) ?_
            refine lv_iload_n F.1 F.2.1 d_TM_run_119 rfl (lv_at hl 1 rfl) ?_
            refine lv_icmp_ne F.1 F.2.1 d_TM_run_120 rfl (fun hb59 => ?_) (fun hb59 => ?_)
            · rw [if_neg hb59] at hj54
              refine lv_aload_n F.1 F.2.1 d_TM_run_131 rfl (lv_at hl 0 rfl) ?_
              refine lv_iload_n F.1 F.2.1 d_TM_run_132 rfl (lv_at hl 2 rfl) ?_
              obtain ⟨r57, σ55, hk56, hj54⟩ := bn2_some hj54
              refine g_callV (As := [.int x45]) (rest := []) F hP 0 0 (by decide) Nat.zero_lt_one (c_TM_step l X n  hk56) rfl q_TM_step w_754 w_1 w_751 w_753 wp_23 ⟨rfl, rfl⟩ ⟨by decide, by decide⟩ hl.1 (Nat.le_of_ble_eq_true rfl) ⟨Nat.zero_le _, Nat.zero_le _⟩ d_TM_run_133 rfl (fun H locs hP => ?_)
              refine W.eq (g2 := F0 m 136 ls [.int r57]) rfl ?_
              refine lv_istore_n F.1 F.2.1 d_TM_run_136 rfl hl (by decide) rfl (fun ls hl => ?_)
              have hl : lv_has ls 4 [(2, .int r57), (0, .ref (xL X 0 0)), (1, .int a1), (3, .int x46)] := hl
              cases hj54
              exact KJ53 _ _ _ (lv_sub hl [1, 2, 0, 3] rfl) hP
            · rw [if_pos hb59] at hj54
              refine lv_aload_n F.1 F.2.1 d_TM_run_123 rfl (lv_at hl 0 rfl) ?_
              refine lv_iconst (v := 1) F.1 F.2.1 d_TM_run_124 (by decide) ?_
              obtain ⟨σ58, e_σ58, hj54⟩ := lt_some hj54
              refine g_puti F hP 0 14 0 (by decide) Nat.zero_lt_one (by decide) rfl rfl rfl rfl (Or.inl w_184) d_TM_run_125 e_σ58 (fun H locs hP => ?_)
              refine lv_goto F.1 F.2.1 d_TM_run_128 rfl ?_
              cases hj54
              exact KJ53 _ _ _ (lv_sub hl [0, 1, 2, 3] rfl) hP
          · rw [if_pos hb61] at hj54
            refine lv_aload_n F.1 F.2.1 d_TM_run_110 rfl (lv_at hl 0 rfl) ?_
            refine lv_iconst (v := 0) F.1 F.2.1 d_TM_run_111 (by decide) ?_
            obtain ⟨σ60, e_σ60, hj54⟩ := lt_some hj54
            refine g_puti F hP 0 14 0 (by decide) Nat.zero_lt_one (by decide) rfl rfl rfl rfl (Or.inl w_184) d_TM_run_112 e_σ60 (fun H locs hP => ?_)
            refine lv_goto F.1 F.2.1 d_TM_run_115 rfl ?_
            cases hj54
            exact KJ53 _ _ _ (lv_sub hl [0, 1, 2, 3] rfl) hP
      unfold l_TM_run_51 at hlp41
      refine lp_W (PW := fun q => ∀ (ls : Array Slot) (H : Heap) (locs : List Loc), lv_has ls 4 [(0, .ref (xL X 0 0)), (1, .int a1), (2, .int q.1)] → St X n q.2 s.heap H locs → WX l X n rm_TM_run σ' (rI r) p e s m args below meth c H locs (F0 m 51 ls [])) (PE := fun q => ∀ (ls : Array Slot) (H : Heap) (locs : List Loc), lv_has ls 4 [(0, .ref (xL X 0 0)), (1, .int a1)] → St X n q s.heap H locs → WX l X n rm_TM_run σ' (rI r) p e s m args below meth c H locs (F0 m 81 ls [])) ?_ _ _ _ hlp41 KX42 _ _ _ (lv_sub hl [1, 2, 0] rfl) hP
      rintro ⟨x28, σ29⟩ rr30 hb_51 hI31 hE32 ls H locs hl hP
      replace hb_51 : b_TM_run_51  x28 σ29 = some rr30 := hb_51
      unfold b_TM_run_51 at hb_51
      refine lv_iload_n F.1 F.2.1 d_TM_run_51 rfl (lv_at hl 2 rfl) ?_
      refine lv_iconst (v := 3) F.1 F.2.1 d_TM_run_52 (by decide) ?_
      refine lv_icmp_ge F.1 F.2.1 d_TM_run_53 rfl (fun hb39 => ?_) (fun hb39 => ?_)
      · rw [if_pos hb39] at hb_51
        cases hb_51
        exact hE32 _ rfl _ _ _ (lv_sub hl [0, 1] rfl) hP
      · rw [if_neg hb39] at hb_51
        refine lv_aload_n F.1 F.2.1 d_TM_run_56 rfl (lv_at hl 0 rfl) ?_
        refine g_get F hP 0 10 0 (by decide) Nat.zero_lt_one (by decide) (v := .ref (xL X 21 0)) rfl w_180 d_TM_run_57 ?_
        refine lv_iload_n F.1 F.2.1 d_TM_run_60 rfl (lv_at hl 2 rfl) ?_
        obtain ⟨hc33, hb_51⟩ := chk_some hb_51
        refine g_rld F hP 21 (by decide) (by decide) Nat.zero_lt_one rfl hc33 (v := .ref (xL X 7 x28.toNatClampNeg)) rfl d_TM_run_61 ?_
        refine lv_null F.1 F.2.1 d_TM_run_62 ?_
        obtain ⟨σ34, e_σ34, hb_51⟩ := lt_some hb_51
        refine g_putT F hP x28.toNatClampNeg (vin_lt hc33) (x := none) rfl (Or.inr w_140) d_TM_run_63 e_σ34 (fun H locs hP => ?_)
        refine lv_aload_n F.1 F.2.1 d_TM_run_66 rfl (lv_at hl 0 rfl) ?_
        refine g_get F hP 0 10 0 (by decide) Nat.zero_lt_one (by decide) (v := .ref (xL X 21 0)) rfl w_180 d_TM_run_67 ?_
        refine lv_iload_n F.1 F.2.1 d_TM_run_70 rfl (lv_at hl 2 rfl) ?_
        obtain ⟨hc35, hb_51⟩ := chk_some hb_51
        refine g_rld F hP 21 (by decide) (by decide) Nat.zero_lt_one rfl hc35 (v := .ref (xL X 7 x28.toNatClampNeg)) rfl d_TM_run_71 ?_
        obtain ⟨σ36, hk37, hb_51⟩ := bnd_some hb_51
        refine g_callV (As := []) (rest := []) F hP 7 x28.toNatClampNeg (by decide) (vin_lt hc35) (c_Cu_clear l X n (vin_lt hc35) hk37) rfl q_Cu_clear w_750 w_9 w_747 w_748 w_749 ⟨rfl, rfl⟩ ⟨by decide, by decide⟩ hl.1 (Nat.le_of_ble_eq_true rfl) ⟨Nat.zero_le _, Nat.zero_le _⟩ d_TM_run_72 rfl (fun H locs hP => ?_)
        refine W.eq (g2 := F0 m 75 ls []) rfl ?_
        obtain ⟨x38, e_x38, hb_51⟩ := lt_some hb_51
        refine lv_iinc (k := 2) (v := x38) F.1 F.2.1 d_TM_run_75 hl rfl (by rw [e_x38]; rfl) (by decide) rfl (fun ls hl => ?_)
        have hl : lv_has ls 4 [(2, .int x38), (0, .ref (xL X 0 0)), (1, .int a1)] := hl
        refine lv_goto F.1 F.2.1 d_TM_run_78 rfl ?_
        cases hb_51
        exact hI31 _ rfl _ _ _ (lv_sub hl [1, 2, 0] rfl) hP
    unfold l_TM_run_28 at hlp26
    refine lp_W (PW := fun q => ∀ (ls : Array Slot) (H : Heap) (locs : List Loc), lv_has ls 4 [(0, .ref (xL X 0 0)), (1, .int a1), (2, .int q.1)] → St X n q.2 s.heap H locs → WX l X n rm_TM_run σ' (rI r) p e s m args below meth c H locs (F0 m 28 ls [])) (PE := fun q => ∀ (ls : Array Slot) (H : Heap) (locs : List Loc), lv_has ls 4 [(0, .ref (xL X 0 0)), (1, .int a1)] → St X n q s.heap H locs → WX l X n rm_TM_run σ' (rI r) p e s m args below meth c H locs (F0 m 49 ls [])) ?_ _ _ _ hlp26 KX27 _ _ _ (lv_sub hl [1, 2, 0] rfl) hP
    rintro ⟨x15, σ16⟩ rr17 hb_28 hI18 hE19 ls H locs hl hP
    replace hb_28 : b_TM_run_28  x15 σ16 = some rr17 := hb_28
    unfold b_TM_run_28 at hb_28
    refine lv_iload_n F.1 F.2.1 d_TM_run_28 rfl (lv_at hl 2 rfl) ?_
    refine lv_bipush (v := 16) F.1 F.2.1 d_TM_run_29 (by decide) ?_
    refine lv_icmp_ge F.1 F.2.1 d_TM_run_31 rfl (fun hb24 => ?_) (fun hb24 => ?_)
    · rw [if_pos hb24] at hb_28
      cases hb_28
      exact hE19 _ rfl _ _ _ (lv_sub hl [0, 1] rfl) hP
    · rw [if_neg hb24] at hb_28
      refine lv_aload_n F.1 F.2.1 d_TM_run_34 rfl (lv_at hl 0 rfl) ?_
      refine g_get F hP 0 9 0 (by decide) Nat.zero_lt_one (by decide) (v := .ref (xL X 20 0)) rfl w_179 d_TM_run_35 ?_
      refine lv_iload_n F.1 F.2.1 d_TM_run_38 rfl (lv_at hl 2 rfl) ?_
      obtain ⟨hc20, hb_28⟩ := chk_some hb_28
      refine g_rld F hP 20 (by decide) (by decide) Nat.zero_lt_one rfl hc20 (v := .ref (xL X 5 (8 + x15.toNatClampNeg))) rfl d_TM_run_39 ?_
      obtain ⟨σ21, hk22, hb_28⟩ := bnd_some hb_28
      refine g_callV (As := []) (rest := []) F hP 5 (8 + x15.toNatClampNeg) (by decide) (ve20 hc20) (c_Vl_none l X n (ve20 hc20) hk22) rfl q_Vl_none w_254 w_5 w_251 w_252 w_253 ⟨rfl, rfl⟩ ⟨by decide, by decide⟩ hl.1 (Nat.le_of_ble_eq_true rfl) ⟨Nat.zero_le _, Nat.zero_le _⟩ d_TM_run_40 rfl (fun H locs hP => ?_)
      refine W.eq (g2 := F0 m 43 ls []) rfl ?_
      obtain ⟨x23, e_x23, hb_28⟩ := lt_some hb_28
      refine lv_iinc (k := 2) (v := x23) F.1 F.2.1 d_TM_run_43 hl rfl (by rw [e_x23]; rfl) (by decide) rfl (fun ls hl => ?_)
      have hl : lv_has ls 4 [(2, .int x23), (0, .ref (xL X 0 0)), (1, .int a1)] := hl
      refine lv_goto F.1 F.2.1 d_TM_run_46 rfl ?_
      cases hb_28
      exact hI18 _ rfl _ _ _ (lv_sub hl [1, 2, 0] rfl) hP
  refine lv_if_lt F.1 F.2.1 d_TM_run_1 rfl (fun hb10 => ?_) (fun hb10 => ?_)
  · rw [if_pos hb10] at hj4
    refine lv_iconst (v := 0) F.1 F.2.1 d_TM_run_22 (by decide) ?_
    cases hj4
    exact KJ3 _ _ _ (lv_sub hl [0, 1] rfl) hP
  · rw [if_neg hb10] at hj4
    refine lv_iload_n F.1 F.2.1 d_TM_run_4 rfl (lv_at hl 1 rfl) ?_
    refine lv_sipush (v := 4000) F.1 F.2.1 d_TM_run_5 (by decide) ?_
    refine lv_icmp_gt F.1 F.2.1 d_TM_run_8 rfl (fun hb9 => ?_) (fun hb9 => ?_)
    · rw [if_pos hb9] at hj4
      refine lv_iconst (v := 0) F.1 F.2.1 d_TM_run_22 (by decide) ?_
      cases hj4
      exact KJ3 _ _ _ (lv_sub hl [0, 1] rfl) hP
    · rw [if_neg hb9] at hj4
      refine lv_aload_n F.1 F.2.1 d_TM_run_11 rfl (lv_at hl 0 rfl) ?_
      obtain ⟨r7, σ5, hk6, hj4⟩ := bn2_some hj4
      refine g_callV (As := []) (rest := []) F hP 0 0 (by decide) Nat.zero_lt_one (c_TM_isSound l X n  hk6) rfl q_TM_isSound w_739 w_1 w_736 w_738 wp_22 ⟨rfl, rfl⟩ ⟨by decide, by decide⟩ hl.1 (Nat.le_of_ble_eq_true rfl) ⟨Nat.zero_le _, Nat.zero_le _⟩ d_TM_run_12 rfl (fun H locs hP => ?_)
      refine W.eq (g2 := F0 m 15 ls [.int r7]) rfl ?_
      refine lv_if_eq F.1 F.2.1 d_TM_run_15 rfl (fun hb8 => ?_) (fun hb8 => ?_)
      · rw [if_pos hb8] at hj4
        refine lv_iconst (v := 0) F.1 F.2.1 d_TM_run_22 (by decide) ?_
        cases hj4
        exact KJ3 _ _ _ (lv_sub hl [0, 1] rfl) hP
      · rw [if_neg hb8] at hj4
        refine lv_iconst (v := 1) F.1 F.2.1 d_TM_run_18 (by decide) ?_
        refine lv_goto F.1 F.2.1 d_TM_run_19 rfl ?_
        cases hj4
        exact KJ3 _ _ _ (lv_sub hl [0, 1] rfl) hP

theorem d_TM_result_0 : decode b_TM_result 0 = .ok (.iload_n 1, 1) := by decide +kernel
theorem d_TM_result_1 : decode b_TM_result 1 = .ok (.iconst (-1), 1) := by decide +kernel
theorem d_TM_result_2 : decode b_TM_result 2 = .ok (.if_icmp .ne 9, 3) := by decide +kernel
theorem d_TM_result_5 : decode b_TM_result 5 = .ok (.aload_n 0, 1) := by decide +kernel
theorem d_TM_result_6 : decode b_TM_result 6 = .ok (.getfield 235, 3) := by decide +kernel
theorem d_TM_result_9 : decode b_TM_result 9 = .ok (.i2l, 1) := by decide +kernel
theorem d_TM_result_10 : decode b_TM_result 10 = .ok (.lreturn, 1) := by decide +kernel
theorem d_TM_result_11 : decode b_TM_result 11 = .ok (.iload_n 1, 1) := by decide +kernel
theorem d_TM_result_12 : decode b_TM_result 12 = .ok (.ifCond .lt 30, 3) := by decide +kernel
theorem d_TM_result_15 : decode b_TM_result 15 = .ok (.iload_n 1, 1) := by decide +kernel
theorem d_TM_result_16 : decode b_TM_result 16 = .ok (.aload_n 0, 1) := by decide +kernel
theorem d_TM_result_17 : decode b_TM_result 17 = .ok (.getfield 235, 3) := by decide +kernel
theorem d_TM_result_20 : decode b_TM_result 20 = .ok (.if_icmp .ge 22, 3) := by decide +kernel
theorem d_TM_result_23 : decode b_TM_result 23 = .ok (.iload_n 2, 1) := by decide +kernel
theorem d_TM_result_24 : decode b_TM_result 24 = .ok (.iconst (-1), 1) := by decide +kernel
theorem d_TM_result_25 : decode b_TM_result 25 = .ok (.if_icmp .lt 17, 3) := by decide +kernel
theorem d_TM_result_28 : decode b_TM_result 28 = .ok (.iload_n 2, 1) := by decide +kernel
theorem d_TM_result_29 : decode b_TM_result 29 = .ok (.aload_n 0, 1) := by decide +kernel
theorem d_TM_result_30 : decode b_TM_result 30 = .ok (.getfield 63, 3) := by decide +kernel
theorem d_TM_result_33 : decode b_TM_result 33 = .ok (.iload_n 1, 1) := by decide +kernel
theorem d_TM_result_34 : decode b_TM_result 34 = .ok (.iaload, 1) := by decide +kernel
theorem d_TM_result_35 : decode b_TM_result 35 = .ok (.if_icmp .ge 7, 3) := by decide +kernel
theorem d_TM_result_38 : decode b_TM_result 38 = .ok (.iconst 1, 1) := by decide +kernel
theorem d_TM_result_39 : decode b_TM_result 39 = .ok (.goto 4, 3) := by decide +kernel
theorem d_TM_result_42 : decode b_TM_result 42 = .ok (.iconst 0, 1) := by decide +kernel
theorem d_TM_result_43 : decode b_TM_result 43 = .ok (.invokestatic 197, 3) := by decide +kernel
theorem d_TM_result_46 : decode b_TM_result 46 = .ok (.iload_n 2, 1) := by decide +kernel
theorem d_TM_result_47 : decode b_TM_result 47 = .ok (.iconst (-1), 1) := by decide +kernel
theorem d_TM_result_48 : decode b_TM_result 48 = .ok (.if_icmp .ne 13, 3) := by decide +kernel
theorem d_TM_result_51 : decode b_TM_result 51 = .ok (.aload_n 0, 1) := by decide +kernel
theorem d_TM_result_52 : decode b_TM_result 52 = .ok (.getfield 63, 3) := by decide +kernel
theorem d_TM_result_55 : decode b_TM_result 55 = .ok (.iload_n 1, 1) := by decide +kernel
theorem d_TM_result_56 : decode b_TM_result 56 = .ok (.iaload, 1) := by decide +kernel
theorem d_TM_result_57 : decode b_TM_result 57 = .ok (.i2l, 1) := by decide +kernel
theorem d_TM_result_58 : decode b_TM_result 58 = .ok (.goto 16, 3) := by decide +kernel
theorem d_TM_result_61 : decode b_TM_result 61 = .ok (.aload_n 0, 1) := by decide +kernel
theorem d_TM_result_62 : decode b_TM_result 62 = .ok (.getfield 60, 3) := by decide +kernel
theorem d_TM_result_65 : decode b_TM_result 65 = .ok (.iconst 4, 1) := by decide +kernel
theorem d_TM_result_66 : decode b_TM_result 66 = .ok (.iload_n 1, 1) := by decide +kernel
theorem d_TM_result_67 : decode b_TM_result 67 = .ok (.imul, 1) := by decide +kernel
theorem d_TM_result_68 : decode b_TM_result 68 = .ok (.iload_n 2, 1) := by decide +kernel
theorem d_TM_result_69 : decode b_TM_result 69 = .ok (.iadd, 1) := by decide +kernel
theorem d_TM_result_70 : decode b_TM_result 70 = .ok (.aaload, 1) := by decide +kernel
theorem d_TM_result_71 : decode b_TM_result 71 = .ok (.getfield 158, 3) := by decide +kernel
theorem d_TM_result_74 : decode b_TM_result 74 = .ok (.lreturn, 1) := by decide +kernel
noncomputable def f_TM_result (a1 : Int32) (a2 : Int32) (σ : Sg) : Option ((Int64 ⊕ Nat) × Sg) :=
  (if a1 = (-1) then (some (.inl ((gi σ 0 0 13).toInt64), σ)) else (Option.bind (if a1 < 0 then (some (0)) else (if (gi σ 0 0 13) ≤ a1 then (some (0)) else (if a2 < (-1) then (some (0)) else (chk (vp_in a1 64) ((if (gi σ 23 0 a1.toNatClampNeg) ≤ a2 then (some (0)) else (some (1)))))))) (fun (x1 : Int32) => bnX (f_TM_there x1 σ) (fun (r11 : Unit) (σ9 : Sg) => Option.bind (if a2 = (-1) then (chk (vp_in a1 64) (some ((gi σ9 23 0 a1.toNatClampNeg).toInt64))) else (chk (vp_in ((4 * a1) + a2) 256) (some (gj σ9 5 (24 + ((4 * a1) + a2).toNatClampNeg) 1)))) (fun (x13 : Int64) => some (.inl x13, σ9))))))
abbrev rm_TM_result : Room := { frames := 7, cells := 1, slots := 6, locals := 120 }
set_option maxHeartbeats 4000000 in
set_option maxRecDepth 100000 in
theorem c_TM_result (l : Launch) (X : GX) (n : Nat) {σ σ' : Sg} {r : Int64 ⊕ Nat} {a1 : Int32} {a2 : Int32} (hfl : l.flags = flags0)  (hf : f_TM_result a1 a2 σ = some (r, σ')) : MetX l y_TM_result (cw y_TM_result b_TM_result 3 (some .long)) rm_TM_result (PcG X n σ [.ref (xL X 0 0), .int a1, .int a2]) (QcX X n σ' (rJ r)) 1 6 (fr X n) := by
  refine g_headX (own := "TableMachine") (by decide) rfl (Nat.le_of_ble_eq_true rfl) ?_
  intro p e s m args below meth c ls F hr hlk hnh hP hl
  have hl : lv_has ls 3 [(0, .ref (xL X 0 0)), (1, .int a1), (2, .int a2)] := hl
  show WX l X n rm_TM_result σ' (rJ r) p e s m args below meth c s.heap [] (F0 m 0 ls [])
  unfold f_TM_result at hf
  refine lv_iload_n F.1 F.2.1 d_TM_result_0 rfl (lv_at hl 1 rfl) ?_
  refine lv_iconst (v := (-1)) F.1 F.2.1 d_TM_result_1 (by decide) ?_
  refine lv_icmp_ne F.1 F.2.1 d_TM_result_2 rfl (fun hb19 => ?_) (fun hb19 => ?_)
  · rw [if_neg hb19] at hf
    refine lv_iload_n F.1 F.2.1 d_TM_result_11 rfl (lv_at hl 1 rfl) ?_
    obtain ⟨x1, hj3, hf⟩ := bnd_some hf
    have KJ2 : ∀ (ls : Array Slot) (H : Heap) (locs : List Loc), lv_has ls 3 [(0, .ref (xL X 0 0)), (1, .int a1), (2, .int a2)] → St X n σ s.heap H locs → WX l X n rm_TM_result σ' (rJ r) p e s m args below meth c H locs (F0 m 43 ls [.int x1]) := by
      intro ls H locs hl hP
      rcases bnX_some hf with ⟨r11, σ9, hk10, hf⟩ | ⟨k12, σ9, hk10, hf⟩
      rotate_left
      · cases hf
        exact xr_thr hP hlk hnh (g_xS (As := [.int x1]) (rest := []) F hP (c_TM_there l X n hfl  hk10) ⟨by decide, by decide, q_TM_there⟩ w_707 w_1 w_705 w_706 ⟨by decide, by decide⟩ hl.1 (Nat.le_of_ble_eq_true rfl) ⟨by decide, by decide⟩ d_TM_result_43 rfl)
      refine xr_ret hP (g_xS (As := [.int x1]) (rest := []) F hP (c_TM_there l X n hfl  hk10) ⟨by decide, by decide, q_TM_there⟩ w_707 w_1 w_705 w_706 ⟨by decide, by decide⟩ hl.1 (Nat.le_of_ble_eq_true rfl) ⟨by decide, by decide⟩ d_TM_result_43 rfl) (fun H locs hP => ?_)
      refine W.eq (g2 := F0 m 46 ls []) rfl ?_
      refine lv_iload_n F.1 F.2.1 d_TM_result_46 rfl (lv_at hl 2 rfl) ?_
      refine lv_iconst (v := (-1)) F.1 F.2.1 d_TM_result_47 (by decide) ?_
      obtain ⟨x13, hj15, hf⟩ := bnd_some hf
      have KJ14 : ∀ (ls : Array Slot) (H : Heap) (locs : List Loc), lv_has ls 3 [] → St X n σ9 s.heap H locs → WX l X n rm_TM_result σ' (rJ r) p e s m args below meth c H locs (F0 m 74 ls [.long x13]) := by
        intro ls H locs hl hP
        cases hf
        exact W.mono mqx_ret (g_lret F hP hr hlk d_TM_result_74)
      refine lv_icmp_ne F.1 F.2.1 d_TM_result_48 rfl (fun hb18 => ?_) (fun hb18 => ?_)
      · rw [if_neg hb18] at hj15
        refine lv_aload_n F.1 F.2.1 d_TM_result_61 rfl (lv_at hl 0 rfl) ?_
        refine g_get F hP 0 11 0 (by decide) Nat.zero_lt_one (by decide) (v := .ref (xL X 22 0)) rfl w_181 d_TM_result_62 ?_
        refine lv_iconst (v := 4) F.1 F.2.1 d_TM_result_65 (by decide) ?_
        refine lv_iload_n F.1 F.2.1 d_TM_result_66 rfl (lv_at hl 1 rfl) ?_
        refine lv_imul F.1 F.2.1 d_TM_result_67 ?_
        refine lv_iload_n F.1 F.2.1 d_TM_result_68 rfl (lv_at hl 2 rfl) ?_
        refine lv_iadd F.1 F.2.1 d_TM_result_69 ?_
        obtain ⟨hc16, hj15⟩ := chk_some hj15
        refine g_rld F hP 22 (by decide) (by decide) Nat.zero_lt_one rfl hc16 (v := .ref (xL X 5 (24 + ((4 * a1) + a2).toNatClampNeg))) rfl d_TM_result_70 ?_
        refine g_getN F hP 5 1 (24 + ((4 * a1) + a2).toNatClampNeg) (by decide) (ve22 hc16) (by decide) (v := .long (gj σ9 5 (24 + ((4 * a1) + a2).toNatClampNeg) 1)) rfl w_88 d_TM_result_71 ?_
        cases hj15
        exact KJ14 _ _ _ (lv_sub hl [] rfl) hP
      · rw [if_pos hb18] at hj15
        refine lv_aload_n F.1 F.2.1 d_TM_result_51 rfl (lv_at hl 0 rfl) ?_
        refine g_get F hP 0 12 0 (by decide) Nat.zero_lt_one (by decide) (v := .ref (xL X 23 0)) rfl w_182 d_TM_result_52 ?_
        refine lv_iload_n F.1 F.2.1 d_TM_result_55 rfl (lv_at hl 1 rfl) ?_
        obtain ⟨hc17, hj15⟩ := chk_some hj15
        refine g_ald F hP 23 (by decide) (by decide) Nat.zero_lt_one rfl rfl hc17 d_TM_result_56 ?_
        refine lv_i2l F.1 F.2.1 d_TM_result_57 rfl ?_
        refine lv_goto F.1 F.2.1 d_TM_result_58 rfl ?_
        cases hj15
        exact KJ14 _ _ _ (lv_sub hl [] rfl) hP
    refine lv_if_lt F.1 F.2.1 d_TM_result_12 rfl (fun hb8 => ?_) (fun hb8 => ?_)
    · rw [if_pos hb8] at hj3
      refine lv_iconst (v := 0) F.1 F.2.1 d_TM_result_42 (by decide) ?_
      cases hj3
      exact KJ2 _ _ _ (lv_sub hl [0, 1, 2] rfl) hP
    · rw [if_neg hb8] at hj3
      refine lv_iload_n F.1 F.2.1 d_TM_result_15 rfl (lv_at hl 1 rfl) ?_
      refine lv_aload_n F.1 F.2.1 d_TM_result_16 rfl (lv_at hl 0 rfl) ?_
      refine g_get F hP 0 13 0 (by decide) Nat.zero_lt_one (by decide) (v := .int (gi σ 0 0 13)) rfl w_183 d_TM_result_17 ?_
      refine lv_icmp_ge F.1 F.2.1 d_TM_result_20 rfl (fun hb7 => ?_) (fun hb7 => ?_)
      · rw [if_pos hb7] at hj3
        refine lv_iconst (v := 0) F.1 F.2.1 d_TM_result_42 (by decide) ?_
        cases hj3
        exact KJ2 _ _ _ (lv_sub hl [0, 1, 2] rfl) hP
      · rw [if_neg hb7] at hj3
        refine lv_iload_n F.1 F.2.1 d_TM_result_23 rfl (lv_at hl 2 rfl) ?_
        refine lv_iconst (v := (-1)) F.1 F.2.1 d_TM_result_24 (by decide) ?_
        refine lv_icmp_lt F.1 F.2.1 d_TM_result_25 rfl (fun hb6 => ?_) (fun hb6 => ?_)
        · rw [if_pos hb6] at hj3
          refine lv_iconst (v := 0) F.1 F.2.1 d_TM_result_42 (by decide) ?_
          cases hj3
          exact KJ2 _ _ _ (lv_sub hl [0, 1, 2] rfl) hP
        · rw [if_neg hb6] at hj3
          refine lv_iload_n F.1 F.2.1 d_TM_result_28 rfl (lv_at hl 2 rfl) ?_
          refine lv_aload_n F.1 F.2.1 d_TM_result_29 rfl (lv_at hl 0 rfl) ?_
          refine g_get F hP 0 12 0 (by decide) Nat.zero_lt_one (by decide) (v := .ref (xL X 23 0)) rfl w_182 d_TM_result_30 ?_
          refine lv_iload_n F.1 F.2.1 d_TM_result_33 rfl (lv_at hl 1 rfl) ?_
          obtain ⟨hc4, hj3⟩ := chk_some hj3
          refine g_ald F hP 23 (by decide) (by decide) Nat.zero_lt_one rfl rfl hc4 d_TM_result_34 ?_
          refine lv_icmp_ge F.1 F.2.1 d_TM_result_35 rfl (fun hb5 => ?_) (fun hb5 => ?_)
          · rw [if_pos hb5] at hj3
            refine lv_iconst (v := 0) F.1 F.2.1 d_TM_result_42 (by decide) ?_
            cases hj3
            exact KJ2 _ _ _ (lv_sub hl [0, 1, 2] rfl) hP
          · rw [if_neg hb5] at hj3
            refine lv_iconst (v := 1) F.1 F.2.1 d_TM_result_38 (by decide) ?_
            refine lv_goto F.1 F.2.1 d_TM_result_39 rfl ?_
            cases hj3
            exact KJ2 _ _ _ (lv_sub hl [0, 1, 2] rfl) hP
  · rw [if_pos hb19] at hf
    refine lv_aload_n F.1 F.2.1 d_TM_result_5 rfl (lv_at hl 0 rfl) ?_
    refine g_get F hP 0 13 0 (by decide) Nat.zero_lt_one (by decide) (v := .int (gi σ 0 0 13)) rfl w_183 d_TM_result_6 ?_
    refine lv_i2l F.1 F.2.1 d_TM_result_9 rfl ?_
    cases hf
    exact W.mono mqx_ret (g_lret F hP hr hlk d_TM_result_10)

theorem d_TM_wasNull_0 : decode b_TM_wasNull 0 = .ok (.iload_n 1, 1) := by decide +kernel
theorem d_TM_wasNull_1 : decode b_TM_wasNull 1 = .ok (.ifCond .lt 29, 3) := by decide +kernel
theorem d_TM_wasNull_4 : decode b_TM_wasNull 4 = .ok (.iload_n 1, 1) := by decide +kernel
theorem d_TM_wasNull_5 : decode b_TM_wasNull 5 = .ok (.aload_n 0, 1) := by decide +kernel
theorem d_TM_wasNull_6 : decode b_TM_wasNull 6 = .ok (.getfield 235, 3) := by decide +kernel
theorem d_TM_wasNull_9 : decode b_TM_wasNull 9 = .ok (.if_icmp .ge 21, 3) := by decide +kernel
theorem d_TM_wasNull_12 : decode b_TM_wasNull 12 = .ok (.iload_n 2, 1) := by decide +kernel
theorem d_TM_wasNull_13 : decode b_TM_wasNull 13 = .ok (.ifCond .lt 17, 3) := by decide +kernel
theorem d_TM_wasNull_16 : decode b_TM_wasNull 16 = .ok (.iload_n 2, 1) := by decide +kernel
theorem d_TM_wasNull_17 : decode b_TM_wasNull 17 = .ok (.aload_n 0, 1) := by decide +kernel
theorem d_TM_wasNull_18 : decode b_TM_wasNull 18 = .ok (.getfield 63, 3) := by decide +kernel
theorem d_TM_wasNull_21 : decode b_TM_wasNull 21 = .ok (.iload_n 1, 1) := by decide +kernel
theorem d_TM_wasNull_22 : decode b_TM_wasNull 22 = .ok (.iaload, 1) := by decide +kernel
theorem d_TM_wasNull_23 : decode b_TM_wasNull 23 = .ok (.if_icmp .ge 7, 3) := by decide +kernel
theorem d_TM_wasNull_26 : decode b_TM_wasNull 26 = .ok (.iconst 1, 1) := by decide +kernel
theorem d_TM_wasNull_27 : decode b_TM_wasNull 27 = .ok (.goto 4, 3) := by decide +kernel
theorem d_TM_wasNull_30 : decode b_TM_wasNull 30 = .ok (.iconst 0, 1) := by decide +kernel
theorem d_TM_wasNull_31 : decode b_TM_wasNull 31 = .ok (.invokestatic 197, 3) := by decide +kernel
theorem d_TM_wasNull_34 : decode b_TM_wasNull 34 = .ok (.aload_n 0, 1) := by decide +kernel
theorem d_TM_wasNull_35 : decode b_TM_wasNull 35 = .ok (.getfield 60, 3) := by decide +kernel
theorem d_TM_wasNull_38 : decode b_TM_wasNull 38 = .ok (.iconst 4, 1) := by decide +kernel
theorem d_TM_wasNull_39 : decode b_TM_wasNull 39 = .ok (.iload_n 1, 1) := by decide +kernel
theorem d_TM_wasNull_40 : decode b_TM_wasNull 40 = .ok (.imul, 1) := by decide +kernel
theorem d_TM_wasNull_41 : decode b_TM_wasNull 41 = .ok (.iload_n 2, 1) := by decide +kernel
theorem d_TM_wasNull_42 : decode b_TM_wasNull 42 = .ok (.iadd, 1) := by decide +kernel
theorem d_TM_wasNull_43 : decode b_TM_wasNull 43 = .ok (.aaload, 1) := by decide +kernel
theorem d_TM_wasNull_44 : decode b_TM_wasNull 44 = .ok (.getfield 162, 3) := by decide +kernel
theorem d_TM_wasNull_47 : decode b_TM_wasNull 47 = .ok (.ifCond .ne 7, 3) := by decide +kernel
theorem d_TM_wasNull_50 : decode b_TM_wasNull 50 = .ok (.iconst 1, 1) := by decide +kernel
theorem d_TM_wasNull_51 : decode b_TM_wasNull 51 = .ok (.goto 4, 3) := by decide +kernel
theorem d_TM_wasNull_54 : decode b_TM_wasNull 54 = .ok (.iconst 0, 1) := by decide +kernel
theorem d_TM_wasNull_55 : decode b_TM_wasNull 55 = .ok (.ireturn, 1) := by decide +kernel
noncomputable def f_TM_wasNull (a1 : Int32) (a2 : Int32) (σ : Sg) : Option ((Int32 ⊕ Nat) × Sg) :=
  Option.bind (if a1 < 0 then (some (0)) else (if (gi σ 0 0 13) ≤ a1 then (some (0)) else (if a2 < 0 then (some (0)) else (chk (vp_in a1 64) ((if (gi σ 23 0 a1.toNatClampNeg) ≤ a2 then (some (0)) else (some (1)))))))) (fun (x1 : Int32) => bnX (f_TM_there x1 σ) (fun (r11 : Unit) (σ9 : Sg) => chk (vp_in ((4 * a1) + a2) 256) (lt_ ((if (gi σ9 5 (24 + ((4 * a1) + a2).toNatClampNeg) 0) = 0 then 1 else 0) : Int32) (fun (x14 : Int32) => chk (zb x14) (some (.inl x14, σ9))))))
abbrev rm_TM_wasNull : Room := { frames := 7, cells := 1, slots := 6, locals := 120 }
set_option maxHeartbeats 4000000 in
set_option maxRecDepth 100000 in
theorem c_TM_wasNull (l : Launch) (X : GX) (n : Nat) {σ σ' : Sg} {r : Int32 ⊕ Nat} {a1 : Int32} {a2 : Int32} (hfl : l.flags = flags0)  (hf : f_TM_wasNull a1 a2 σ = some (r, σ')) : MetX l y_TM_wasNull (cw y_TM_wasNull b_TM_wasNull 3 (some .boolean)) rm_TM_wasNull (PcG X n σ [.ref (xL X 0 0), .int a1, .int a2]) (QcX X n σ' (rI r)) 1 6 (fr X n) := by
  refine g_headX (own := "TableMachine") (by decide) rfl (Nat.le_of_ble_eq_true rfl) ?_
  intro p e s m args below meth c ls F hr hlk hnh hP hl
  have hl : lv_has ls 3 [(0, .ref (xL X 0 0)), (1, .int a1), (2, .int a2)] := hl
  show WX l X n rm_TM_wasNull σ' (rI r) p e s m args below meth c s.heap [] (F0 m 0 ls [])
  unfold f_TM_wasNull at hf
  refine lv_iload_n F.1 F.2.1 d_TM_wasNull_0 rfl (lv_at hl 1 rfl) ?_
  obtain ⟨x1, hj3, hf⟩ := bnd_some hf
  have KJ2 : ∀ (ls : Array Slot) (H : Heap) (locs : List Loc), lv_has ls 3 [(0, .ref (xL X 0 0)), (1, .int a1), (2, .int a2)] → St X n σ s.heap H locs → WX l X n rm_TM_wasNull σ' (rI r) p e s m args below meth c H locs (F0 m 31 ls [.int x1]) := by
    intro ls H locs hl hP
    rcases bnX_some hf with ⟨r11, σ9, hk10, hf⟩ | ⟨k12, σ9, hk10, hf⟩
    rotate_left
    · cases hf
      exact xr_thr hP hlk hnh (g_xS (As := [.int x1]) (rest := []) F hP (c_TM_there l X n hfl  hk10) ⟨by decide, by decide, q_TM_there⟩ w_707 w_1 w_705 w_706 ⟨by decide, by decide⟩ hl.1 (Nat.le_of_ble_eq_true rfl) ⟨by decide, by decide⟩ d_TM_wasNull_31 rfl)
    refine xr_ret hP (g_xS (As := [.int x1]) (rest := []) F hP (c_TM_there l X n hfl  hk10) ⟨by decide, by decide, q_TM_there⟩ w_707 w_1 w_705 w_706 ⟨by decide, by decide⟩ hl.1 (Nat.le_of_ble_eq_true rfl) ⟨by decide, by decide⟩ d_TM_wasNull_31 rfl) (fun H locs hP => ?_)
    refine W.eq (g2 := F0 m 34 ls []) rfl ?_
    refine lv_aload_n F.1 F.2.1 d_TM_wasNull_34 rfl (lv_at hl 0 rfl) ?_
    refine g_get F hP 0 11 0 (by decide) Nat.zero_lt_one (by decide) (v := .ref (xL X 22 0)) rfl w_181 d_TM_wasNull_35 ?_
    refine lv_iconst (v := 4) F.1 F.2.1 d_TM_wasNull_38 (by decide) ?_
    refine lv_iload_n F.1 F.2.1 d_TM_wasNull_39 rfl (lv_at hl 1 rfl) ?_
    refine lv_imul F.1 F.2.1 d_TM_wasNull_40 ?_
    refine lv_iload_n F.1 F.2.1 d_TM_wasNull_41 rfl (lv_at hl 2 rfl) ?_
    refine lv_iadd F.1 F.2.1 d_TM_wasNull_42 ?_
    obtain ⟨hc13, hf⟩ := chk_some hf
    refine g_rld F hP 22 (by decide) (by decide) Nat.zero_lt_one rfl hc13 (v := .ref (xL X 5 (24 + ((4 * a1) + a2).toNatClampNeg))) rfl d_TM_wasNull_43 ?_
    refine g_getN F hP 5 0 (24 + ((4 * a1) + a2).toNatClampNeg) (by decide) (ve22 hc13) (by decide) (v := .int (gi σ9 5 (24 + ((4 * a1) + a2).toNatClampNeg) 0)) rfl w_85 d_TM_wasNull_44 ?_
    obtain ⟨x14, hj16, hf⟩ := lt_some2 hf
    have KJ15 : ∀ (ls : Array Slot) (H : Heap) (locs : List Loc), lv_has ls 3 [] → St X n σ9 s.heap H locs → WX l X n rm_TM_wasNull σ' (rI r) p e s m args below meth c H locs (F0 m 55 ls [.int x14]) := by
      intro ls H locs hl hP
      obtain ⟨hz18, hf⟩ := chk_some hf
      cases hf
      exact W.mono mqx_ret (g_zret F hP hr hlk hz18 d_TM_wasNull_55)
    refine lv_if_ne F.1 F.2.1 d_TM_wasNull_47 rfl (fun hb17 => ?_) (fun hb17 => ?_)
    · rw [if_neg hb17] at hj16
      refine lv_iconst (v := 0) F.1 F.2.1 d_TM_wasNull_54 (by decide) ?_
      subst hj16
      exact KJ15 _ _ _ (lv_sub hl [] rfl) hP
    · rw [if_pos hb17] at hj16
      refine lv_iconst (v := 1) F.1 F.2.1 d_TM_wasNull_50 (by decide) ?_
      refine lv_goto F.1 F.2.1 d_TM_wasNull_51 rfl ?_
      subst hj16
      exact KJ15 _ _ _ (lv_sub hl [] rfl) hP
  refine lv_if_lt F.1 F.2.1 d_TM_wasNull_1 rfl (fun hb8 => ?_) (fun hb8 => ?_)
  · rw [if_pos hb8] at hj3
    refine lv_iconst (v := 0) F.1 F.2.1 d_TM_wasNull_30 (by decide) ?_
    cases hj3
    exact KJ2 _ _ _ (lv_sub hl [0, 1, 2] rfl) hP
  · rw [if_neg hb8] at hj3
    refine lv_iload_n F.1 F.2.1 d_TM_wasNull_4 rfl (lv_at hl 1 rfl) ?_
    refine lv_aload_n F.1 F.2.1 d_TM_wasNull_5 rfl (lv_at hl 0 rfl) ?_
    refine g_get F hP 0 13 0 (by decide) Nat.zero_lt_one (by decide) (v := .int (gi σ 0 0 13)) rfl w_183 d_TM_wasNull_6 ?_
    refine lv_icmp_ge F.1 F.2.1 d_TM_wasNull_9 rfl (fun hb7 => ?_) (fun hb7 => ?_)
    · rw [if_pos hb7] at hj3
      refine lv_iconst (v := 0) F.1 F.2.1 d_TM_wasNull_30 (by decide) ?_
      cases hj3
      exact KJ2 _ _ _ (lv_sub hl [0, 1, 2] rfl) hP
    · rw [if_neg hb7] at hj3
      refine lv_iload_n F.1 F.2.1 d_TM_wasNull_12 rfl (lv_at hl 2 rfl) ?_
      refine lv_if_lt F.1 F.2.1 d_TM_wasNull_13 rfl (fun hb6 => ?_) (fun hb6 => ?_)
      · rw [if_pos hb6] at hj3
        refine lv_iconst (v := 0) F.1 F.2.1 d_TM_wasNull_30 (by decide) ?_
        cases hj3
        exact KJ2 _ _ _ (lv_sub hl [0, 1, 2] rfl) hP
      · rw [if_neg hb6] at hj3
        refine lv_iload_n F.1 F.2.1 d_TM_wasNull_16 rfl (lv_at hl 2 rfl) ?_
        refine lv_aload_n F.1 F.2.1 d_TM_wasNull_17 rfl (lv_at hl 0 rfl) ?_
        refine g_get F hP 0 12 0 (by decide) Nat.zero_lt_one (by decide) (v := .ref (xL X 23 0)) rfl w_182 d_TM_wasNull_18 ?_
        refine lv_iload_n F.1 F.2.1 d_TM_wasNull_21 rfl (lv_at hl 1 rfl) ?_
        obtain ⟨hc4, hj3⟩ := chk_some hj3
        refine g_ald F hP 23 (by decide) (by decide) Nat.zero_lt_one rfl rfl hc4 d_TM_wasNull_22 ?_
        refine lv_icmp_ge F.1 F.2.1 d_TM_wasNull_23 rfl (fun hb5 => ?_) (fun hb5 => ?_)
        · rw [if_pos hb5] at hj3
          refine lv_iconst (v := 0) F.1 F.2.1 d_TM_wasNull_30 (by decide) ?_
          cases hj3
          exact KJ2 _ _ _ (lv_sub hl [0, 1, 2] rfl) hP
        · rw [if_neg hb5] at hj3
          refine lv_iconst (v := 1) F.1 F.2.1 d_TM_wasNull_26 (by decide) ?_
          refine lv_goto F.1 F.2.1 d_TM_wasNull_27 rfl ?_
          cases hj3
          exact KJ2 _ _ _ (lv_sub hl [0, 1, 2] rfl) hP

theorem d_TM_compile_0 : decode b_TM_compile 0 = .ok (.aload_n 0, 1) := by decide +kernel
theorem d_TM_compile_1 : decode b_TM_compile 1 = .ok (.getfield 67, 3) := by decide +kernel
theorem d_TM_compile_4 : decode b_TM_compile 4 = .ok (.iconst (-1), 1) := by decide +kernel
theorem d_TM_compile_5 : decode b_TM_compile 5 = .ok (.if_icmp .eq 14, 3) := by decide +kernel
theorem d_TM_compile_8 : decode b_TM_compile 8 = .ok (.aload_n 0, 1) := by decide +kernel
theorem d_TM_compile_9 : decode b_TM_compile 9 = .ok (.getfield 284, 3) := by decide +kernel
theorem d_TM_compile_12 : decode b_TM_compile 12 = .ok (.ifCond .le 7, 3) := by decide +kernel
theorem d_TM_compile_15 : decode b_TM_compile 15 = .ok (.iconst 1, 1) := by decide +kernel
theorem d_TM_compile_16 : decode b_TM_compile 16 = .ok (.goto 4, 3) := by decide +kernel
theorem d_TM_compile_19 : decode b_TM_compile 19 = .ok (.iconst 0, 1) := by decide +kernel
theorem d_TM_compile_20 : decode b_TM_compile 20 = .ok (.invokestatic 103, 3) := by decide +kernel
theorem d_TM_compile_23 : decode b_TM_compile 23 = .ok (.aload_n 0, 1) := by decide +kernel
theorem d_TM_compile_24 : decode b_TM_compile 24 = .ok (.iconst 0, 1) := by decide +kernel
theorem d_TM_compile_25 : decode b_TM_compile 25 = .ok (.putfield 166, 3) := by decide +kernel
theorem d_TM_compile_28 : decode b_TM_compile 28 = .ok (.aload_n 0, 1) := by decide +kernel
theorem d_TM_compile_29 : decode b_TM_compile 29 = .ok (.getstatic 256, 3) := by decide +kernel
theorem d_TM_compile_32 : decode b_TM_compile 32 = .ok (.iconst 0, 1) := by decide +kernel
theorem d_TM_compile_33 : decode b_TM_compile 33 = .ok (.aload_n 0, 1) := by decide +kernel
theorem d_TM_compile_34 : decode b_TM_compile 34 = .ok (.getfield 67, 3) := by decide +kernel
theorem d_TM_compile_37 : decode b_TM_compile 37 = .ok (.iconst 0, 1) := by decide +kernel
theorem d_TM_compile_38 : decode b_TM_compile 38 = .ok (.invokevirtual 193, 3) := by decide +kernel
theorem d_TM_compile_41 : decode b_TM_compile 41 = .ok (.aload_n 0, 1) := by decide +kernel
theorem d_TM_compile_42 : decode b_TM_compile 42 = .ok (.getfield 71, 3) := by decide +kernel
theorem d_TM_compile_45 : decode b_TM_compile 45 = .ok (.iconst (-1), 1) := by decide +kernel
theorem d_TM_compile_46 : decode b_TM_compile 46 = .ok (.if_icmp .eq 16, 3) := by decide +kernel
theorem d_TM_compile_49 : decode b_TM_compile 49 = .ok (.aload_n 0, 1) := by decide +kernel
theorem d_TM_compile_50 : decode b_TM_compile 50 = .ok (.getstatic 256, 3) := by decide +kernel
theorem d_TM_compile_53 : decode b_TM_compile 53 = .ok (.iconst 1, 1) := by decide +kernel
theorem d_TM_compile_54 : decode b_TM_compile 54 = .ok (.aload_n 0, 1) := by decide +kernel
theorem d_TM_compile_55 : decode b_TM_compile 55 = .ok (.getfield 71, 3) := by decide +kernel
theorem d_TM_compile_58 : decode b_TM_compile 58 = .ok (.iconst 0, 1) := by decide +kernel
theorem d_TM_compile_59 : decode b_TM_compile 59 = .ok (.invokevirtual 193, 3) := by decide +kernel
theorem d_TM_compile_62 : decode b_TM_compile 62 = .ok (.aload_n 0, 1) := by decide +kernel
theorem d_TM_compile_63 : decode b_TM_compile 63 = .ok (.getfield 166, 3) := by decide +kernel
theorem d_TM_compile_66 : decode b_TM_compile 66 = .ok (.istore_n 1, 1) := by decide +kernel
theorem d_TM_compile_67 : decode b_TM_compile 67 = .ok (.aload_n 0, 1) := by decide +kernel
theorem d_TM_compile_68 : decode b_TM_compile 68 = .ok (.iconst 0, 1) := by decide +kernel
theorem d_TM_compile_69 : decode b_TM_compile 69 = .ok (.invokevirtual 340, 3) := by decide +kernel
theorem d_TM_compile_72 : decode b_TM_compile 72 = .ok (.aload_n 0, 1) := by decide +kernel
theorem d_TM_compile_73 : decode b_TM_compile 73 = .ok (.getfield 166, 3) := by decide +kernel
theorem d_TM_compile_76 : decode b_TM_compile 76 = .ok (.istore_n 2, 1) := by decide +kernel
theorem d_TM_compile_77 : decode b_TM_compile 77 = .ok (.aload_n 0, 1) := by decide +kernel
theorem d_TM_compile_78 : decode b_TM_compile 78 = .ok (.iconst 0, 1) := by decide +kernel
theorem d_TM_compile_79 : decode b_TM_compile 79 = .ok (.invokevirtual 344, 3) := by decide +kernel
theorem d_TM_compile_82 : decode b_TM_compile 82 = .ok (.aload_n 0, 1) := by decide +kernel
theorem d_TM_compile_83 : decode b_TM_compile 83 = .ok (.getfield 71, 3) := by decide +kernel
theorem d_TM_compile_86 : decode b_TM_compile 86 = .ok (.iconst (-1), 1) := by decide +kernel
theorem d_TM_compile_87 : decode b_TM_compile 87 = .ok (.if_icmp .eq 74, 3) := by decide +kernel
theorem d_TM_compile_90 : decode b_TM_compile 90 = .ok (.aload_n 0, 1) := by decide +kernel
theorem d_TM_compile_91 : decode b_TM_compile 91 = .ok (.iconst 1, 1) := by decide +kernel
theorem d_TM_compile_92 : decode b_TM_compile 92 = .ok (.invokevirtual 340, 3) := by decide +kernel
theorem d_TM_compile_95 : decode b_TM_compile 95 = .ok (.aload_n 0, 1) := by decide +kernel
theorem d_TM_compile_96 : decode b_TM_compile 96 = .ok (.getfield 166, 3) := by decide +kernel
theorem d_TM_compile_99 : decode b_TM_compile 99 = .ok (.istore_n 3, 1) := by decide +kernel
theorem d_TM_compile_100 : decode b_TM_compile 100 = .ok (.aload_n 0, 1) := by decide +kernel
theorem d_TM_compile_101 : decode b_TM_compile 101 = .ok (.iconst 1, 1) := by decide +kernel
theorem d_TM_compile_102 : decode b_TM_compile 102 = .ok (.invokevirtual 344, 3) := by decide +kernel
theorem d_TM_compile_105 : decode b_TM_compile 105 = .ok (.aload_n 0, 1) := by decide +kernel
theorem d_TM_compile_106 : decode b_TM_compile 106 = .ok (.getfield 287, 3) := by decide +kernel
theorem d_TM_compile_109 : decode b_TM_compile 109 = .ok (.ifCond .eq 30, 3) := by decide +kernel
theorem d_TM_compile_112 : decode b_TM_compile 112 = .ok (.aload_n 0, 1) := by decide +kernel
theorem d_TM_compile_113 : decode b_TM_compile 113 = .ok (.iconst 0, 1) := by decide +kernel
theorem d_TM_compile_114 : decode b_TM_compile 114 = .ok (.aload_n 0, 1) := by decide +kernel
theorem d_TM_compile_115 : decode b_TM_compile 115 = .ok (.getfield 305, 3) := by decide +kernel
theorem d_TM_compile_118 : decode b_TM_compile 118 = .ok (.iconst 0, 1) := by decide +kernel
theorem d_TM_compile_119 : decode b_TM_compile 119 = .ok (.invokevirtual 329, 3) := by decide +kernel
theorem d_TM_compile_122 : decode b_TM_compile 122 = .ok (.aload_n 0, 1) := by decide +kernel
theorem d_TM_compile_123 : decode b_TM_compile 123 = .ok (.iconst 1, 1) := by decide +kernel
theorem d_TM_compile_124 : decode b_TM_compile 124 = .ok (.aload_n 0, 1) := by decide +kernel
theorem d_TM_compile_125 : decode b_TM_compile 125 = .ok (.getfield 308, 3) := by decide +kernel
theorem d_TM_compile_128 : decode b_TM_compile 128 = .ok (.iconst 1, 1) := by decide +kernel
theorem d_TM_compile_129 : decode b_TM_compile 129 = .ok (.invokevirtual 329, 3) := by decide +kernel
theorem d_TM_compile_132 : decode b_TM_compile 132 = .ok (.aload_n 0, 1) := by decide +kernel
theorem d_TM_compile_133 : decode b_TM_compile 133 = .ok (.getstatic 333, 3) := by decide +kernel
theorem d_TM_compile_136 : decode b_TM_compile 136 = .ok (.invokevirtual 336, 3) := by decide +kernel
theorem d_TM_compile_139 : decode b_TM_compile 139 = .ok (.aload_n 0, 1) := by decide +kernel
theorem d_TM_compile_140 : decode b_TM_compile 140 = .ok (.invokevirtual 347, 3) := by decide +kernel
theorem d_TM_compile_143 : decode b_TM_compile 143 = .ok (.aload_n 0, 1) := by decide +kernel
theorem d_TM_compile_144 : decode b_TM_compile 144 = .ok (.iload_n 3, 1) := by decide +kernel
theorem d_TM_compile_145 : decode b_TM_compile 145 = .ok (.invokevirtual 350, 3) := by decide +kernel
theorem d_TM_compile_148 : decode b_TM_compile 148 = .ok (.aload_n 0, 1) := by decide +kernel
theorem d_TM_compile_149 : decode b_TM_compile 149 = .ok (.getstatic 353, 3) := by decide +kernel
theorem d_TM_compile_152 : decode b_TM_compile 152 = .ok (.iconst 1, 1) := by decide +kernel
theorem d_TM_compile_153 : decode b_TM_compile 153 = .ok (.iload_n 3, 1) := by decide +kernel
theorem d_TM_compile_154 : decode b_TM_compile 154 = .ok (.iconst 0, 1) := by decide +kernel
theorem d_TM_compile_155 : decode b_TM_compile 155 = .ok (.invokevirtual 193, 3) := by decide +kernel
theorem d_TM_compile_158 : decode b_TM_compile 158 = .ok (.goto 7, 3) := by decide +kernel
theorem d_TM_compile_161 : decode b_TM_compile 161 = .ok (.aload_n 0, 1) := by decide +kernel
theorem d_TM_compile_162 : decode b_TM_compile 162 = .ok (.invokevirtual 347, 3) := by decide +kernel
theorem d_TM_compile_165 : decode b_TM_compile 165 = .ok (.aload_n 0, 1) := by decide +kernel
theorem d_TM_compile_166 : decode b_TM_compile 166 = .ok (.iload_n 2, 1) := by decide +kernel
theorem d_TM_compile_167 : decode b_TM_compile 167 = .ok (.invokevirtual 350, 3) := by decide +kernel
theorem d_TM_compile_170 : decode b_TM_compile 170 = .ok (.aload_n 0, 1) := by decide +kernel
theorem d_TM_compile_171 : decode b_TM_compile 171 = .ok (.getstatic 353, 3) := by decide +kernel
theorem d_TM_compile_174 : decode b_TM_compile 174 = .ok (.iconst 0, 1) := by decide +kernel
theorem d_TM_compile_175 : decode b_TM_compile 175 = .ok (.iload_n 2, 1) := by decide +kernel
theorem d_TM_compile_176 : decode b_TM_compile 176 = .ok (.iconst 0, 1) := by decide +kernel
theorem d_TM_compile_177 : decode b_TM_compile 177 = .ok (.invokevirtual 193, 3) := by decide +kernel
theorem d_TM_compile_180 : decode b_TM_compile 180 = .ok (.aload_n 0, 1) := by decide +kernel
theorem d_TM_compile_181 : decode b_TM_compile 181 = .ok (.iload_n 1, 1) := by decide +kernel
theorem d_TM_compile_182 : decode b_TM_compile 182 = .ok (.invokevirtual 350, 3) := by decide +kernel
theorem d_TM_compile_185 : decode b_TM_compile 185 = .ok (.aload_n 0, 1) := by decide +kernel
theorem d_TM_compile_186 : decode b_TM_compile 186 = .ok (.getstatic 356, 3) := by decide +kernel
theorem d_TM_compile_189 : decode b_TM_compile 189 = .ok (.iconst 0, 1) := by decide +kernel
theorem d_TM_compile_190 : decode b_TM_compile 190 = .ok (.iconst 0, 1) := by decide +kernel
theorem d_TM_compile_191 : decode b_TM_compile 191 = .ok (.iconst 0, 1) := by decide +kernel
theorem d_TM_compile_192 : decode b_TM_compile 192 = .ok (.invokevirtual 193, 3) := by decide +kernel
theorem d_TM_compile_195 : decode b_TM_compile 195 = .ok (.aload_n 0, 1) := by decide +kernel
theorem d_TM_compile_196 : decode b_TM_compile 196 = .ok (.getfield 166, 3) := by decide +kernel
theorem d_TM_compile_199 : decode b_TM_compile 199 = .ok (.ireturn, 1) := by decide +kernel
noncomputable def f_TM_compile  (σ : Sg) : Option ((Int32 ⊕ Nat) × Sg) :=
  lt_ ((if (gi σ 0 0 15) = (-1) then 0 else (if (gi σ 0 0 20) ≤ 0 then 0 else 1)) : Int32) (fun (x1 : Int32) => bnX (f_TM_demand x1 σ) (fun (r8 : Unit) (σ6 : Sg) => lt_ (si σ6 0 0 8 0) (fun σ10 => (f_TM_emit 1 0 (gi σ10 0 0 15) 0 σ10).bind (fun σ11 => Option.bind (if (gi σ11 0 0 16) = (-1) then (some (σ11)) else ((f_TM_emit 1 1 (gi σ11 0 0 16) 0 σ11).bind (fun σ16 => some (σ16)))) (fun (σ13 : Sg) => lt_ (gi σ13 0 0 8 : Int32) (fun (x19 : Int32) => (f_TM_opens 0 σ13).bind (fun σ20 => lt_ (gi σ20 0 0 8 : Int32) (fun (x22 : Int32) => (f_TM_asksAll 0 σ20).bind (fun σ23 => Option.bind (if (gi σ23 0 0 16) = (-1) then ((f_TM_tells σ23).bind (fun σ28 => some (σ28))) else ((f_TM_opens 1 σ23).bind (fun σ30 => lt_ (gi σ30 0 0 8 : Int32) (fun (x32 : Int32) => (f_TM_asksAll 1 σ30).bind (fun σ33 => Option.bind (if (gi σ33 0 0 21) = 0 then (some (σ33)) else ((f_TM_fetch 0 (gi σ33 0 0 22) 0 σ33).bind (fun σ38 => (f_TM_fetch 1 (gi σ38 0 0 23) 1 σ38).bind (fun σ40 => (f_TM_orElse 9 σ40).bind (fun σ42 => some (σ42)))))) (fun (σ35 : Sg) => (f_TM_tells σ35).bind (fun σ45 => (f_TM_settle x32 σ45).bind (fun σ47 => (f_TM_emit 3 1 x32 0 σ47).bind (fun σ49 => some (σ49)))))))))) (fun (σ25 : Sg) => (f_TM_settle x22 σ25).bind (fun σ52 => (f_TM_emit 3 0 x22 0 σ52).bind (fun σ54 => (f_TM_settle x19 σ54).bind (fun σ56 => (f_TM_emit 0 0 0 0 σ56).bind (fun σ58 => some (.inl (gi σ58 0 0 8), σ58)))))))))))))))
abbrev rm_TM_compile : Room := { frames := 7, cells := 1, slots := 6, locals := 156 }
set_option maxHeartbeats 4000000 in
set_option maxRecDepth 100000 in
theorem c_TM_compile (l : Launch) (X : GX) (n : Nat) {σ σ' : Sg} {r : Int32 ⊕ Nat}  (hfl : l.flags = flags0)  (hf : f_TM_compile  σ = some (r, σ')) : MetX l y_TM_compile (cw y_TM_compile b_TM_compile 4 (some .int)) rm_TM_compile (PcG X n σ [.ref (xL X 0 0)]) (QcX X n σ' (rI r)) 1 6 (fr X n) := by
  refine g_headX (own := "TableMachine") (by decide) rfl (Nat.le_of_ble_eq_true rfl) ?_
  intro p e s m args below meth c ls F hr hlk hnh hP hl
  have hl : lv_has ls 4 [(0, .ref (xL X 0 0))] := hl
  show WX l X n rm_TM_compile σ' (rI r) p e s m args below meth c s.heap [] (F0 m 0 ls [])
  unfold f_TM_compile at hf
  refine lv_aload_n F.1 F.2.1 d_TM_compile_0 rfl (lv_at hl 0 rfl) ?_
  refine g_get F hP 0 15 0 (by decide) Nat.zero_lt_one (by decide) (v := .int (gi σ 0 0 15)) rfl w_185 d_TM_compile_1 ?_
  refine lv_iconst (v := (-1)) F.1 F.2.1 d_TM_compile_4 (by decide) ?_
  obtain ⟨x1, hj3, hf⟩ := lt_some2 hf
  have KJ2 : ∀ (ls : Array Slot) (H : Heap) (locs : List Loc), lv_has ls 4 [(0, .ref (xL X 0 0))] → St X n σ s.heap H locs → WX l X n rm_TM_compile σ' (rI r) p e s m args below meth c H locs (F0 m 20 ls [.int x1]) := by
    intro ls H locs hl hP
    rcases bnX_some hf with ⟨r8, σ6, hk7, hf⟩ | ⟨k9, σ6, hk7, hf⟩
    rotate_left
    · cases hf
      exact xr_thr hP hlk hnh (g_xS (As := [.int x1]) (rest := []) F hP (c_TM_demand l X n hfl  hk7) ⟨by decide, by decide, q_TM_demand⟩ w_365 w_1 w_363 w_364 ⟨by decide, by decide⟩ hl.1 (Nat.le_of_ble_eq_true rfl) ⟨by decide, by decide⟩ d_TM_compile_20 rfl)
    refine xr_ret hP (g_xS (As := [.int x1]) (rest := []) F hP (c_TM_demand l X n hfl  hk7) ⟨by decide, by decide, q_TM_demand⟩ w_365 w_1 w_363 w_364 ⟨by decide, by decide⟩ hl.1 (Nat.le_of_ble_eq_true rfl) ⟨by decide, by decide⟩ d_TM_compile_20 rfl) (fun H locs hP => ?_)
    refine W.eq (g2 := F0 m 23 ls []) rfl ?_
    refine lv_aload_n F.1 F.2.1 d_TM_compile_23 rfl (lv_at hl 0 rfl) ?_
    refine lv_iconst (v := 0) F.1 F.2.1 d_TM_compile_24 (by decide) ?_
    obtain ⟨σ10, e_σ10, hf⟩ := lt_some hf
    refine g_puti F hP 0 8 0 (by decide) Nat.zero_lt_one (by decide) rfl rfl rfl rfl (Or.inl w_178) d_TM_compile_25 e_σ10 (fun H locs hP => ?_)
    refine lv_aload_n F.1 F.2.1 d_TM_compile_28 rfl (lv_at hl 0 rfl) ?_
    refine g_enum F hP 1 (by decide) w_745 d_TM_compile_29 ?_
    refine lv_iconst (v := 0) F.1 F.2.1 d_TM_compile_32 (by decide) ?_
    refine lv_aload_n F.1 F.2.1 d_TM_compile_33 rfl (lv_at hl 0 rfl) ?_
    refine g_get F hP 0 15 0 (by decide) Nat.zero_lt_one (by decide) (v := .int (gi σ10 0 0 15)) rfl w_185 d_TM_compile_34 ?_
    refine lv_iconst (v := 0) F.1 F.2.1 d_TM_compile_37 (by decide) ?_
    obtain ⟨σ11, hk12, hf⟩ := bnd_some hf
    refine g_callV (As := [.ref (xad X 1), .int 0, .int (gi σ10 0 0 15), .int 0]) (rest := []) F hP 0 0 (by decide) Nat.zero_lt_one (c_TM_emit l X n (by decide) hk12) rfl q_TM_emit w_696 w_1 w_693 w_695 wp_21 ⟨rfl, rfl⟩ ⟨by decide, by decide⟩ hl.1 (Nat.le_of_ble_eq_true rfl) ⟨Nat.zero_le _, Nat.zero_le _⟩ d_TM_compile_38 rfl (fun H locs hP => ?_)
    refine W.eq (g2 := F0 m 41 ls []) rfl ?_
    refine lv_aload_n F.1 F.2.1 d_TM_compile_41 rfl (lv_at hl 0 rfl) ?_
    refine g_get F hP 0 16 0 (by decide) Nat.zero_lt_one (by decide) (v := .int (gi σ11 0 0 16)) rfl w_186 d_TM_compile_42 ?_
    refine lv_iconst (v := (-1)) F.1 F.2.1 d_TM_compile_45 (by decide) ?_
    obtain ⟨σ13, hj15, hf⟩ := bnd_some hf
    have KJ14 : ∀ (ls : Array Slot) (H : Heap) (locs : List Loc), lv_has ls 4 [(0, .ref (xL X 0 0))] → St X n σ13 s.heap H locs → WX l X n rm_TM_compile σ' (rI r) p e s m args below meth c H locs (F0 m 62 ls []) := by
      intro ls H locs hl hP
      refine lv_aload_n F.1 F.2.1 d_TM_compile_62 rfl (lv_at hl 0 rfl) ?_
      refine g_get F hP 0 8 0 (by decide) Nat.zero_lt_one (by decide) (v := .int (gi σ13 0 0 8)) rfl w_178 d_TM_compile_63 ?_
      obtain ⟨x19, e_x19, hf⟩ := lt_some hf
      rw [← e_x19]
      refine lv_istore_n F.1 F.2.1 d_TM_compile_66 rfl hl (by decide) rfl (fun ls hl => ?_)
      have hl : lv_has ls 4 [(1, .int x19), (0, .ref (xL X 0 0))] := hl
      refine lv_aload_n F.1 F.2.1 d_TM_compile_67 rfl (lv_at hl 1 rfl) ?_
      refine lv_iconst (v := 0) F.1 F.2.1 d_TM_compile_68 (by decide) ?_
      obtain ⟨σ20, hk21, hf⟩ := bnd_some hf
      refine g_callV (As := [.int 0]) (rest := []) F hP 0 0 (by decide) Nat.zero_lt_one (c_TM_opens l X n  hk21) rfl q_TM_opens w_828 w_1 w_825 w_827 wp_29 ⟨rfl, rfl⟩ ⟨by decide, by decide⟩ hl.1 (Nat.le_of_ble_eq_true rfl) ⟨Nat.zero_le _, Nat.zero_le _⟩ d_TM_compile_69 rfl (fun H locs hP => ?_)
      refine W.eq (g2 := F0 m 72 ls []) rfl ?_
      refine lv_aload_n F.1 F.2.1 d_TM_compile_72 rfl (lv_at hl 1 rfl) ?_
      refine g_get F hP 0 8 0 (by decide) Nat.zero_lt_one (by decide) (v := .int (gi σ20 0 0 8)) rfl w_178 d_TM_compile_73 ?_
      obtain ⟨x22, e_x22, hf⟩ := lt_some hf
      rw [← e_x22]
      refine lv_istore_n F.1 F.2.1 d_TM_compile_76 rfl hl (by decide) rfl (fun ls hl => ?_)
      have hl : lv_has ls 4 [(2, .int x22), (1, .int x19), (0, .ref (xL X 0 0))] := hl
      refine lv_aload_n F.1 F.2.1 d_TM_compile_77 rfl (lv_at hl 2 rfl) ?_
      refine lv_iconst (v := 0) F.1 F.2.1 d_TM_compile_78 (by decide) ?_
      obtain ⟨σ23, hk24, hf⟩ := bnd_some hf
      refine g_callV (As := [.int 0]) (rest := []) F hP 0 0 (by decide) Nat.zero_lt_one (c_TM_asksAll l X n  hk24) rfl q_TM_asksAll w_838 w_1 w_835 w_837 wp_30 ⟨rfl, rfl⟩ ⟨by decide, by decide⟩ hl.1 (Nat.le_of_ble_eq_true rfl) ⟨Nat.zero_le _, Nat.zero_le _⟩ d_TM_compile_79 rfl (fun H locs hP => ?_)
      refine W.eq (g2 := F0 m 82 ls []) rfl ?_
      refine lv_aload_n F.1 F.2.1 d_TM_compile_82 rfl (lv_at hl 2 rfl) ?_
      refine g_get F hP 0 16 0 (by decide) Nat.zero_lt_one (by decide) (v := .int (gi σ23 0 0 16)) rfl w_186 d_TM_compile_83 ?_
      refine lv_iconst (v := (-1)) F.1 F.2.1 d_TM_compile_86 (by decide) ?_
      obtain ⟨σ25, hj27, hf⟩ := bnd_some hf
      have KJ26 : ∀ (ls : Array Slot) (H : Heap) (locs : List Loc), lv_has ls 4 [(0, .ref (xL X 0 0)), (1, .int x19), (2, .int x22)] → St X n σ25 s.heap H locs → WX l X n rm_TM_compile σ' (rI r) p e s m args below meth c H locs (F0 m 165 ls []) := by
        intro ls H locs hl hP
        refine lv_aload_n F.1 F.2.1 d_TM_compile_165 rfl (lv_at hl 0 rfl) ?_
        refine lv_iload_n F.1 F.2.1 d_TM_compile_166 rfl (lv_at hl 2 rfl) ?_
        obtain ⟨σ52, hk53, hf⟩ := bnd_some hf
        refine g_callV (As := [.int x22]) (rest := []) F hP 0 0 (by decide) Nat.zero_lt_one (c_TM_settle l X n  hk53) rfl q_TM_settle w_862 w_1 w_859 w_861 wp_34 ⟨rfl, rfl⟩ ⟨by decide, by decide⟩ hl.1 (Nat.le_of_ble_eq_true rfl) ⟨Nat.zero_le _, Nat.zero_le _⟩ d_TM_compile_167 rfl (fun H locs hP => ?_)
        refine W.eq (g2 := F0 m 170 ls []) rfl ?_
        refine lv_aload_n F.1 F.2.1 d_TM_compile_170 rfl (lv_at hl 0 rfl) ?_
        refine g_enum F hP 3 (by decide) w_863 d_TM_compile_171 ?_
        refine lv_iconst (v := 0) F.1 F.2.1 d_TM_compile_174 (by decide) ?_
        refine lv_iload_n F.1 F.2.1 d_TM_compile_175 rfl (lv_at hl 2 rfl) ?_
        refine lv_iconst (v := 0) F.1 F.2.1 d_TM_compile_176 (by decide) ?_
        obtain ⟨σ54, hk55, hf⟩ := bnd_some hf
        refine g_callV (As := [.ref (xad X 3), .int 0, .int x22, .int 0]) (rest := []) F hP 0 0 (by decide) Nat.zero_lt_one (c_TM_emit l X n (by decide) hk55) rfl q_TM_emit w_696 w_1 w_693 w_695 wp_21 ⟨rfl, rfl⟩ ⟨by decide, by decide⟩ hl.1 (Nat.le_of_ble_eq_true rfl) ⟨Nat.zero_le _, Nat.zero_le _⟩ d_TM_compile_177 rfl (fun H locs hP => ?_)
        refine W.eq (g2 := F0 m 180 ls []) rfl ?_
        refine lv_aload_n F.1 F.2.1 d_TM_compile_180 rfl (lv_at hl 0 rfl) ?_
        refine lv_iload_n F.1 F.2.1 d_TM_compile_181 rfl (lv_at hl 1 rfl) ?_
        obtain ⟨σ56, hk57, hf⟩ := bnd_some hf
        refine g_callV (As := [.int x19]) (rest := []) F hP 0 0 (by decide) Nat.zero_lt_one (c_TM_settle l X n  hk57) rfl q_TM_settle w_862 w_1 w_859 w_861 wp_34 ⟨rfl, rfl⟩ ⟨by decide, by decide⟩ hl.1 (Nat.le_of_ble_eq_true rfl) ⟨Nat.zero_le _, Nat.zero_le _⟩ d_TM_compile_182 rfl (fun H locs hP => ?_)
        refine W.eq (g2 := F0 m 185 ls []) rfl ?_
        refine lv_aload_n F.1 F.2.1 d_TM_compile_185 rfl (lv_at hl 0 rfl) ?_
        refine g_enum F hP 0 (by decide) w_865 d_TM_compile_186 ?_
        refine lv_iconst (v := 0) F.1 F.2.1 d_TM_compile_189 (by decide) ?_
        refine lv_iconst (v := 0) F.1 F.2.1 d_TM_compile_190 (by decide) ?_
        refine lv_iconst (v := 0) F.1 F.2.1 d_TM_compile_191 (by decide) ?_
        obtain ⟨σ58, hk59, hf⟩ := bnd_some hf
        refine g_callV (As := [.ref (xad X 0), .int 0, .int 0, .int 0]) (rest := []) F hP 0 0 (by decide) Nat.zero_lt_one (c_TM_emit l X n (by decide) hk59) rfl q_TM_emit w_696 w_1 w_693 w_695 wp_21 ⟨rfl, rfl⟩ ⟨by decide, by decide⟩ hl.1 (Nat.le_of_ble_eq_true rfl) ⟨Nat.zero_le _, Nat.zero_le _⟩ d_TM_compile_192 rfl (fun H locs hP => ?_)
        refine W.eq (g2 := F0 m 195 ls []) rfl ?_
        refine lv_aload_n F.1 F.2.1 d_TM_compile_195 rfl (lv_at hl 0 rfl) ?_
        refine g_get F hP 0 8 0 (by decide) Nat.zero_lt_one (by decide) (v := .int (gi σ58 0 0 8)) rfl w_178 d_TM_compile_196 ?_
        cases hf
        exact W.mono mqx_ret (g_iret F hP hr hlk d_TM_compile_199)
      refine lv_icmp_eq F.1 F.2.1 d_TM_compile_87 rfl (fun hb51 => ?_) (fun hb51 => ?_)
      · rw [if_pos hb51] at hj27
        refine lv_aload_n F.1 F.2.1 d_TM_compile_161 rfl (lv_at hl 2 rfl) ?_
        obtain ⟨σ28, hk29, hj27⟩ := bnd_some hj27
        refine g_callV (As := []) (rest := []) F hP 0 0 (by decide) Nat.zero_lt_one (c_TM_tells l X n  hk29) rfl q_TM_tells w_858 w_1 w_855 w_857 wp_33 ⟨rfl, rfl⟩ ⟨by decide, by decide⟩ hl.1 (Nat.le_of_ble_eq_true rfl) ⟨Nat.zero_le _, Nat.zero_le _⟩ d_TM_compile_162 rfl (fun H locs hP => ?_)
        refine W.eq (g2 := F0 m 165 ls []) rfl ?_
        cases hj27
        exact KJ26 _ _ _ (lv_sub hl [2, 1, 0] rfl) hP
      · rw [if_neg hb51] at hj27
        refine lv_aload_n F.1 F.2.1 d_TM_compile_90 rfl (lv_at hl 2 rfl) ?_
        refine lv_iconst (v := 1) F.1 F.2.1 d_TM_compile_91 (by decide) ?_
        obtain ⟨σ30, hk31, hj27⟩ := bnd_some hj27
        refine g_callV (As := [.int 1]) (rest := []) F hP 0 0 (by decide) Nat.zero_lt_one (c_TM_opens l X n  hk31) rfl q_TM_opens w_828 w_1 w_825 w_827 wp_29 ⟨rfl, rfl⟩ ⟨by decide, by decide⟩ hl.1 (Nat.le_of_ble_eq_true rfl) ⟨Nat.zero_le _, Nat.zero_le _⟩ d_TM_compile_92 rfl (fun H locs hP => ?_)
        refine W.eq (g2 := F0 m 95 ls []) rfl ?_
        refine lv_aload_n F.1 F.2.1 d_TM_compile_95 rfl (lv_at hl 2 rfl) ?_
        refine g_get F hP 0 8 0 (by decide) Nat.zero_lt_one (by decide) (v := .int (gi σ30 0 0 8)) rfl w_178 d_TM_compile_96 ?_
        obtain ⟨x32, e_x32, hj27⟩ := lt_some hj27
        rw [← e_x32]
        refine lv_istore_n F.1 F.2.1 d_TM_compile_99 rfl hl (by decide) rfl (fun ls hl => ?_)
        have hl : lv_has ls 4 [(3, .int x32), (2, .int x22), (1, .int x19), (0, .ref (xL X 0 0))] := hl
        refine lv_aload_n F.1 F.2.1 d_TM_compile_100 rfl (lv_at hl 3 rfl) ?_
        refine lv_iconst (v := 1) F.1 F.2.1 d_TM_compile_101 (by decide) ?_
        obtain ⟨σ33, hk34, hj27⟩ := bnd_some hj27
        refine g_callV (As := [.int 1]) (rest := []) F hP 0 0 (by decide) Nat.zero_lt_one (c_TM_asksAll l X n  hk34) rfl q_TM_asksAll w_838 w_1 w_835 w_837 wp_30 ⟨rfl, rfl⟩ ⟨by decide, by decide⟩ hl.1 (Nat.le_of_ble_eq_true rfl) ⟨Nat.zero_le _, Nat.zero_le _⟩ d_TM_compile_102 rfl (fun H locs hP => ?_)
        refine W.eq (g2 := F0 m 105 ls []) rfl ?_
        refine lv_aload_n F.1 F.2.1 d_TM_compile_105 rfl (lv_at hl 3 rfl) ?_
        refine g_get F hP 0 21 0 (by decide) Nat.zero_lt_one (by decide) (v := .int (gi σ33 0 0 21)) rfl w_191 d_TM_compile_106 ?_
        obtain ⟨σ35, hj37, hj27⟩ := bnd_some hj27
        have KJ36 : ∀ (ls : Array Slot) (H : Heap) (locs : List Loc), lv_has ls 4 [(0, .ref (xL X 0 0)), (1, .int x19), (2, .int x22), (3, .int x32)] → St X n σ35 s.heap H locs → WX l X n rm_TM_compile σ' (rI r) p e s m args below meth c H locs (F0 m 139 ls []) := by
          intro ls H locs hl hP
          refine lv_aload_n F.1 F.2.1 d_TM_compile_139 rfl (lv_at hl 0 rfl) ?_
          obtain ⟨σ45, hk46, hj27⟩ := bnd_some hj27
          refine g_callV (As := []) (rest := []) F hP 0 0 (by decide) Nat.zero_lt_one (c_TM_tells l X n  hk46) rfl q_TM_tells w_858 w_1 w_855 w_857 wp_33 ⟨rfl, rfl⟩ ⟨by decide, by decide⟩ hl.1 (Nat.le_of_ble_eq_true rfl) ⟨Nat.zero_le _, Nat.zero_le _⟩ d_TM_compile_140 rfl (fun H locs hP => ?_)
          refine W.eq (g2 := F0 m 143 ls []) rfl ?_
          refine lv_aload_n F.1 F.2.1 d_TM_compile_143 rfl (lv_at hl 0 rfl) ?_
          refine lv_iload_n F.1 F.2.1 d_TM_compile_144 rfl (lv_at hl 3 rfl) ?_
          obtain ⟨σ47, hk48, hj27⟩ := bnd_some hj27
          refine g_callV (As := [.int x32]) (rest := []) F hP 0 0 (by decide) Nat.zero_lt_one (c_TM_settle l X n  hk48) rfl q_TM_settle w_862 w_1 w_859 w_861 wp_34 ⟨rfl, rfl⟩ ⟨by decide, by decide⟩ hl.1 (Nat.le_of_ble_eq_true rfl) ⟨Nat.zero_le _, Nat.zero_le _⟩ d_TM_compile_145 rfl (fun H locs hP => ?_)
          refine W.eq (g2 := F0 m 148 ls []) rfl ?_
          refine lv_aload_n F.1 F.2.1 d_TM_compile_148 rfl (lv_at hl 0 rfl) ?_
          refine g_enum F hP 3 (by decide) w_863 d_TM_compile_149 ?_
          refine lv_iconst (v := 1) F.1 F.2.1 d_TM_compile_152 (by decide) ?_
          refine lv_iload_n F.1 F.2.1 d_TM_compile_153 rfl (lv_at hl 3 rfl) ?_
          refine lv_iconst (v := 0) F.1 F.2.1 d_TM_compile_154 (by decide) ?_
          obtain ⟨σ49, hk50, hj27⟩ := bnd_some hj27
          refine g_callV (As := [.ref (xad X 3), .int 1, .int x32, .int 0]) (rest := []) F hP 0 0 (by decide) Nat.zero_lt_one (c_TM_emit l X n (by decide) hk50) rfl q_TM_emit w_696 w_1 w_693 w_695 wp_21 ⟨rfl, rfl⟩ ⟨by decide, by decide⟩ hl.1 (Nat.le_of_ble_eq_true rfl) ⟨Nat.zero_le _, Nat.zero_le _⟩ d_TM_compile_155 rfl (fun H locs hP => ?_)
          refine W.eq (g2 := F0 m 158 ls []) rfl ?_
          refine lv_goto F.1 F.2.1 d_TM_compile_158 rfl ?_
          cases hj27
          exact KJ26 _ _ _ (lv_sub hl [0, 1, 2] rfl) hP
        refine lv_if_eq F.1 F.2.1 d_TM_compile_109 rfl (fun hb44 => ?_) (fun hb44 => ?_)
        · rw [if_pos hb44] at hj37
          cases hj37
          exact KJ36 _ _ _ (lv_sub hl [3, 2, 1, 0] rfl) hP
        · rw [if_neg hb44] at hj37
          refine lv_aload_n F.1 F.2.1 d_TM_compile_112 rfl (lv_at hl 3 rfl) ?_
          refine lv_iconst (v := 0) F.1 F.2.1 d_TM_compile_113 (by decide) ?_
          refine lv_aload_n F.1 F.2.1 d_TM_compile_114 rfl (lv_at hl 3 rfl) ?_
          refine g_get F hP 0 22 0 (by decide) Nat.zero_lt_one (by decide) (v := .int (gi σ33 0 0 22)) rfl w_192 d_TM_compile_115 ?_
          refine lv_iconst (v := 0) F.1 F.2.1 d_TM_compile_118 (by decide) ?_
          obtain ⟨σ38, hk39, hj37⟩ := bnd_some hj37
          refine g_callV (As := [.int 0, .int (gi σ33 0 0 22), .int 0]) (rest := []) F hP 0 0 (by decide) Nat.zero_lt_one (c_TM_fetch l X n  hk39) rfl q_TM_fetch w_842 w_1 w_839 w_841 wp_31 ⟨rfl, rfl⟩ ⟨by decide, by decide⟩ hl.1 (Nat.le_of_ble_eq_true rfl) ⟨Nat.zero_le _, Nat.zero_le _⟩ d_TM_compile_119 rfl (fun H locs hP => ?_)
          refine W.eq (g2 := F0 m 122 ls []) rfl ?_
          refine lv_aload_n F.1 F.2.1 d_TM_compile_122 rfl (lv_at hl 3 rfl) ?_
          refine lv_iconst (v := 1) F.1 F.2.1 d_TM_compile_123 (by decide) ?_
          refine lv_aload_n F.1 F.2.1 d_TM_compile_124 rfl (lv_at hl 3 rfl) ?_
          refine g_get F hP 0 23 0 (by decide) Nat.zero_lt_one (by decide) (v := .int (gi σ38 0 0 23)) rfl w_193 d_TM_compile_125 ?_
          refine lv_iconst (v := 1) F.1 F.2.1 d_TM_compile_128 (by decide) ?_
          obtain ⟨σ40, hk41, hj37⟩ := bnd_some hj37
          refine g_callV (As := [.int 1, .int (gi σ38 0 0 23), .int 1]) (rest := []) F hP 0 0 (by decide) Nat.zero_lt_one (c_TM_fetch l X n  hk41) rfl q_TM_fetch w_842 w_1 w_839 w_841 wp_31 ⟨rfl, rfl⟩ ⟨by decide, by decide⟩ hl.1 (Nat.le_of_ble_eq_true rfl) ⟨Nat.zero_le _, Nat.zero_le _⟩ d_TM_compile_129 rfl (fun H locs hP => ?_)
          refine W.eq (g2 := F0 m 132 ls []) rfl ?_
          refine lv_aload_n F.1 F.2.1 d_TM_compile_132 rfl (lv_at hl 3 rfl) ?_
          refine g_enum F hP 9 (by decide) w_847 d_TM_compile_133 ?_
          obtain ⟨σ42, hk43, hj37⟩ := bnd_some hj37
          refine g_callV (As := [.ref (xad X 9)]) (rest := []) F hP 0 0 (by decide) Nat.zero_lt_one (c_TM_orElse l X n (by decide) hk43) rfl q_TM_orElse w_852 w_1 w_849 w_851 wp_32 ⟨rfl, rfl⟩ ⟨by decide, by decide⟩ hl.1 (Nat.le_of_ble_eq_true rfl) ⟨Nat.zero_le _, Nat.zero_le _⟩ d_TM_compile_136 rfl (fun H locs hP => ?_)
          refine W.eq (g2 := F0 m 139 ls []) rfl ?_
          cases hj37
          exact KJ36 _ _ _ (lv_sub hl [3, 2, 1, 0] rfl) hP
    refine lv_icmp_eq F.1 F.2.1 d_TM_compile_46 rfl (fun hb18 => ?_) (fun hb18 => ?_)
    · rw [if_pos hb18] at hj15
      cases hj15
      exact KJ14 _ _ _ (lv_sub hl [0] rfl) hP
    · rw [if_neg hb18] at hj15
      refine lv_aload_n F.1 F.2.1 d_TM_compile_49 rfl (lv_at hl 0 rfl) ?_
      refine g_enum F hP 1 (by decide) w_745 d_TM_compile_50 ?_
      refine lv_iconst (v := 1) F.1 F.2.1 d_TM_compile_53 (by decide) ?_
      refine lv_aload_n F.1 F.2.1 d_TM_compile_54 rfl (lv_at hl 0 rfl) ?_
      refine g_get F hP 0 16 0 (by decide) Nat.zero_lt_one (by decide) (v := .int (gi σ11 0 0 16)) rfl w_186 d_TM_compile_55 ?_
      refine lv_iconst (v := 0) F.1 F.2.1 d_TM_compile_58 (by decide) ?_
      obtain ⟨σ16, hk17, hj15⟩ := bnd_some hj15
      refine g_callV (As := [.ref (xad X 1), .int 1, .int (gi σ11 0 0 16), .int 0]) (rest := []) F hP 0 0 (by decide) Nat.zero_lt_one (c_TM_emit l X n (by decide) hk17) rfl q_TM_emit w_696 w_1 w_693 w_695 wp_21 ⟨rfl, rfl⟩ ⟨by decide, by decide⟩ hl.1 (Nat.le_of_ble_eq_true rfl) ⟨Nat.zero_le _, Nat.zero_le _⟩ d_TM_compile_59 rfl (fun H locs hP => ?_)
      refine W.eq (g2 := F0 m 62 ls []) rfl ?_
      cases hj15
      exact KJ14 _ _ _ (lv_sub hl [0] rfl) hP
  refine lv_icmp_eq F.1 F.2.1 d_TM_compile_5 rfl (fun hb5 => ?_) (fun hb5 => ?_)
  · rw [if_pos hb5] at hj3
    refine lv_iconst (v := 0) F.1 F.2.1 d_TM_compile_19 (by decide) ?_
    subst hj3
    exact KJ2 _ _ _ (lv_sub hl [0] rfl) hP
  · rw [if_neg hb5] at hj3
    refine lv_aload_n F.1 F.2.1 d_TM_compile_8 rfl (lv_at hl 0 rfl) ?_
    refine g_get F hP 0 20 0 (by decide) Nat.zero_lt_one (by decide) (v := .int (gi σ 0 0 20)) rfl w_190 d_TM_compile_9 ?_
    refine lv_if_le F.1 F.2.1 d_TM_compile_12 rfl (fun hb4 => ?_) (fun hb4 => ?_)
    · rw [if_pos hb4] at hj3
      refine lv_iconst (v := 0) F.1 F.2.1 d_TM_compile_19 (by decide) ?_
      subst hj3
      exact KJ2 _ _ _ (lv_sub hl [0] rfl) hP
    · rw [if_neg hb4] at hj3
      refine lv_iconst (v := 1) F.1 F.2.1 d_TM_compile_15 (by decide) ?_
      refine lv_goto F.1 F.2.1 d_TM_compile_16 rfl ?_
      subst hj3
      exact KJ2 _ _ _ (lv_sub hl [0] rfl) hP
