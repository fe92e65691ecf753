/-! printed by wip/gen: 15.model -/
theorem d_Md_thrown_0 : decode b_Md_thrown 0 = .ok (.aload_n 0, 1) := by decide +kernel
theorem d_Md_thrown_1 : decode b_Md_thrown 1 = .ok (.getfield 73, 3) := by decide +kernel
theorem d_Md_thrown_4 : decode b_Md_thrown 4 = .ok (.ireturn, 1) := by decide +kernel
noncomputable def f_Md_thrown  (σ : Sg) : Option (Int32 × Sg) :=
  some (gi σ 9 0 0, σ)
abbrev rm_Md_thrown : Room := { frames := 0, cells := 0, slots := 0, locals := 0 }
set_option maxHeartbeats 4000000 in
set_option maxRecDepth 100000 in
theorem c_Md_thrown (l : Launch) (X : GX) (n : Nat) {σ σ' : Sg} {r : Int32}   (hf : f_Md_thrown  σ = some (r, σ')) : Met l y_Md_thrown (cw y_Md_thrown b_Md_thrown 1 (some .int)) rm_Md_thrown (PcG X n σ [.ref (xL X 9 0)]) (QcG X n σ' (some (.int r))) 0 0 (fr X n) := by
  refine g_head (own := "TableMachineModel") (by decide) rfl (Nat.le_of_ble_eq_true rfl) ?_
  intro p e s m args below meth c ls F hr hlk hP hl
  have hl : lv_has ls 1 [(0, .ref (xL X 9 0))] := hl
  show WG l X n rm_Md_thrown σ' (some (.int r)) p e s m args below meth c s.heap [] (F0 m 0 ls [])
  unfold f_Md_thrown at hf
  refine lv_aload_n F.1 F.2.1 d_Md_thrown_0 rfl (lv_at hl 0 rfl) ?_
  refine g_get F hP 9 0 0 (by decide) Nat.zero_lt_one (by decide) (v := .int (gi σ 9 0 0)) rfl w_873 d_Md_thrown_1 ?_
  cases hf
  exact g_iret F hP hr hlk d_Md_thrown_4

theorem d_Md_isTable_0 : decode b_Md_isTable 0 = .ok (.iload_n 1, 1) := by decide +kernel
theorem d_Md_isTable_1 : decode b_Md_isTable 1 = .ok (.ifCond .lt 15, 3) := by decide +kernel
theorem d_Md_isTable_4 : decode b_Md_isTable 4 = .ok (.iload_n 1, 1) := by decide +kernel
theorem d_Md_isTable_5 : decode b_Md_isTable 5 = .ok (.aload_n 0, 1) := by decide +kernel
theorem d_Md_isTable_6 : decode b_Md_isTable 6 = .ok (.getfield 76, 3) := by decide +kernel
theorem d_Md_isTable_9 : decode b_Md_isTable 9 = .ok (.if_icmp .ge 7, 3) := by decide +kernel
theorem d_Md_isTable_12 : decode b_Md_isTable 12 = .ok (.iconst 1, 1) := by decide +kernel
theorem d_Md_isTable_13 : decode b_Md_isTable 13 = .ok (.goto 4, 3) := by decide +kernel
theorem d_Md_isTable_16 : decode b_Md_isTable 16 = .ok (.iconst 0, 1) := by decide +kernel
theorem d_Md_isTable_17 : decode b_Md_isTable 17 = .ok (.ireturn, 1) := by decide +kernel
noncomputable def f_Md_isTable (a1 : Int32) (σ : Sg) : Option (Int32 × Sg) :=
  lt_ ((if a1 < 0 then 0 else (if (gi σ 9 0 1) ≤ a1 then 0 else 1)) : Int32) (fun (x1 : Int32) => chk (zb x1) (some (x1, σ)))
abbrev rm_Md_isTable : Room := { frames := 0, cells := 0, slots := 0, locals := 0 }
set_option maxHeartbeats 4000000 in
set_option maxRecDepth 100000 in
theorem c_Md_isTable (l : Launch) (X : GX) (n : Nat) {σ σ' : Sg} {r : Int32} {a1 : Int32}  (hf : f_Md_isTable a1 σ = some (r, σ')) : Met l y_Md_isTable (cw y_Md_isTable b_Md_isTable 2 (some .boolean)) rm_Md_isTable (PcG X n σ [.ref (xL X 9 0), .int a1]) (QcG X n σ' (some (.int r))) 0 0 (fr X n) := by
  refine g_head (own := "TableMachineModel") (by decide) rfl (Nat.le_of_ble_eq_true rfl) ?_
  intro p e s m args below meth c ls F hr hlk hP hl
  have hl : lv_has ls 2 [(0, .ref (xL X 9 0)), (1, .int a1)] := hl
  show WG l X n rm_Md_isTable σ' (some (.int r)) p e s m args below meth c s.heap [] (F0 m 0 ls [])
  unfold f_Md_isTable at hf
  refine lv_iload_n F.1 F.2.1 d_Md_isTable_0 rfl (lv_at hl 1 rfl) ?_
  obtain ⟨x1, hj3, hf⟩ := lt_some2 hf
  have KJ2 : ∀ (ls : Array Slot) (H : Heap) (locs : List Loc), lv_has ls 2 [] → St X n σ s.heap H locs → WG l X n rm_Md_isTable σ' (some (.int r)) p e s m args below meth c H locs (F0 m 17 ls [.int x1]) := by
    intro ls H locs hl hP
    obtain ⟨hz6, hf⟩ := chk_some hf
    cases hf
    exact g_zret F hP hr hlk hz6 d_Md_isTable_17
  refine lv_if_lt F.1 F.2.1 d_Md_isTable_1 rfl (fun hb5 => ?_) (fun hb5 => ?_)
  · rw [if_pos hb5] at hj3
    refine lv_iconst (v := 0) F.1 F.2.1 d_Md_isTable_16 (by decide) ?_
    subst hj3
    exact KJ2 _ _ _ (lv_sub hl [] rfl) hP
  · rw [if_neg hb5] at hj3
    refine lv_iload_n F.1 F.2.1 d_Md_isTable_4 rfl (lv_at hl 1 rfl) ?_
    refine lv_aload_n F.1 F.2.1 d_Md_isTable_5 rfl (lv_at hl 0 rfl) ?_
    refine g_get F hP 9 1 0 (by decide) Nat.zero_lt_one (by decide) (v := .int (gi σ 9 0 1)) rfl w_874 d_Md_isTable_6 ?_
    refine lv_icmp_ge F.1 F.2.1 d_Md_isTable_9 rfl (fun hb4 => ?_) (fun hb4 => ?_)
    · rw [if_pos hb4] at hj3
      refine lv_iconst (v := 0) F.1 F.2.1 d_Md_isTable_16 (by decide) ?_
      subst hj3
      exact KJ2 _ _ _ (lv_sub hl [] rfl) hP
    · rw [if_neg hb4] at hj3
      refine lv_iconst (v := 1) F.1 F.2.1 d_Md_isTable_12 (by decide) ?_
      refine lv_goto F.1 F.2.1 d_Md_isTable_13 rfl ?_
      subst hj3
      exact KJ2 _ _ _ (lv_sub hl [] rfl) hP

theorem d_Md_table_0 : decode b_Md_table 0 = .ok (.aload_n 0, 1) := by decide +kernel
theorem d_Md_table_1 : decode b_Md_table 1 = .ok (.iload_n 1, 1) := by decide +kernel
theorem d_Md_table_2 : decode b_Md_table 2 = .ok (.iconst 1, 1) := by decide +kernel
theorem d_Md_table_3 : decode b_Md_table 3 = .ok (.if_icmp .lt 8, 3) := by decide +kernel
theorem d_Md_table_6 : decode b_Md_table 6 = .ok (.iload_n 1, 1) := by decide +kernel
theorem d_Md_table_7 : decode b_Md_table 7 = .ok (.iconst 4, 1) := by decide +kernel
theorem d_Md_table_8 : decode b_Md_table 8 = .ok (.if_icmp .le 7, 3) := by decide +kernel
theorem d_Md_table_11 : decode b_Md_table 11 = .ok (.iconst 1, 1) := by decide +kernel
theorem d_Md_table_12 : decode b_Md_table 12 = .ok (.goto 16, 3) := by decide +kernel
theorem d_Md_table_15 : decode b_Md_table 15 = .ok (.aload_n 0, 1) := by decide +kernel
theorem d_Md_table_16 : decode b_Md_table 16 = .ok (.getfield 76, 3) := by decide +kernel
theorem d_Md_table_19 : decode b_Md_table 19 = .ok (.iconst 3, 1) := by decide +kernel
theorem d_Md_table_20 : decode b_Md_table 20 = .ok (.if_icmp .ne 7, 3) := by decide +kernel
theorem d_Md_table_23 : decode b_Md_table 23 = .ok (.iconst 2, 1) := by decide +kernel
theorem d_Md_table_24 : decode b_Md_table 24 = .ok (.goto 4, 3) := by decide +kernel
theorem d_Md_table_27 : decode b_Md_table 27 = .ok (.iconst 0, 1) := by decide +kernel
theorem d_Md_table_28 : decode b_Md_table 28 = .ok (.putfield 73, 3) := by decide +kernel
theorem d_Md_table_31 : decode b_Md_table 31 = .ok (.aload_n 0, 1) := by decide +kernel
theorem d_Md_table_32 : decode b_Md_table 32 = .ok (.getfield 73, 3) := by decide +kernel
theorem d_Md_table_35 : decode b_Md_table 35 = .ok (.ifCond .le 5, 3) := by decide +kernel
theorem d_Md_table_38 : decode b_Md_table 38 = .ok (.iconst 0, 1) := by decide +kernel
theorem d_Md_table_39 : decode b_Md_table 39 = .ok (.ireturn, 1) := by decide +kernel
theorem d_Md_table_40 : decode b_Md_table 40 = .ok (.aload_n 0, 1) := by decide +kernel
theorem d_Md_table_41 : decode b_Md_table 41 = .ok (.getfield 7, 3) := by decide +kernel
theorem d_Md_table_44 : decode b_Md_table 44 = .ok (.aload_n 0, 1) := by decide +kernel
theorem d_Md_table_45 : decode b_Md_table 45 = .ok (.getfield 76, 3) := by decide +kernel
theorem d_Md_table_48 : decode b_Md_table 48 = .ok (.iload_n 1, 1) := by decide +kernel
theorem d_Md_table_49 : decode b_Md_table 49 = .ok (.iastore, 1) := by decide +kernel
theorem d_Md_table_50 : decode b_Md_table 50 = .ok (.aload_n 0, 1) := by decide +kernel
theorem d_Md_table_51 : decode b_Md_table 51 = .ok (.dup, 1) := by decide +kernel
theorem d_Md_table_52 : decode b_Md_table 52 = .ok (.getfield 76, 3) := by decide +kernel
theorem d_Md_table_55 : decode b_Md_table 55 = .ok (.iconst 1, 1) := by decide +kernel
theorem d_Md_table_56 : decode b_Md_table 56 = .ok (.iadd, 1) := by decide +kernel
theorem d_Md_table_57 : decode b_Md_table 57 = .ok (.putfield 76, 3) := by decide +kernel
theorem d_Md_table_60 : decode b_Md_table 60 = .ok (.aload_n 0, 1) := by decide +kernel
theorem d_Md_table_61 : decode b_Md_table 61 = .ok (.getfield 76, 3) := by decide +kernel
theorem d_Md_table_64 : decode b_Md_table 64 = .ok (.iconst 1, 1) := by decide +kernel
theorem d_Md_table_65 : decode b_Md_table 65 = .ok (.isub, 1) := by decide +kernel
theorem d_Md_table_66 : decode b_Md_table 66 = .ok (.ireturn, 1) := by decide +kernel
noncomputable def f_Md_table (a1 : Int32) (σ : Sg) : Option (Int32 × Sg) :=
  lt_ ((if a1 < 1 then 1 else (if a1 ≤ 4 then (if (gi σ 9 0 1) = 3 then 2 else 0) else 1)) : Int32) (fun (x1 : Int32) => lt_ (si σ 9 0 0 x1) (fun σ7 => (if (gi σ7 9 0 0) ≤ 0 then (chk (vp_in (gi σ7 9 0 1) 3) (lt_ (si σ7 26 0 ((gi σ7 9 0 1).toNatClampNeg) a1) (fun σ9 => lt_ (si σ9 9 0 1 ((gi σ9 9 0 1) + 1)) (fun σ10 => some ((gi σ10 9 0 1) - 1, σ10))))) else (some (0, σ7)))))
abbrev rm_Md_table : Room := { frames := 0, cells := 0, slots := 0, locals := 0 }
set_option maxHeartbeats 4000000 in
set_option maxRecDepth 100000 in
theorem c_Md_table (l : Launch) (X : GX) (n : Nat) {σ σ' : Sg} {r : Int32} {a1 : Int32}  (hf : f_Md_table a1 σ = some (r, σ')) : Met l y_Md_table (cw y_Md_table b_Md_table 2 (some .int)) rm_Md_table (PcG X n σ [.ref (xL X 9 0), .int a1]) (QcG X n σ' (some (.int r))) 0 0 (fr X n) := by
  refine g_head (own := "TableMachineModel") (by decide) rfl (Nat.le_of_ble_eq_true rfl) ?_
  intro p e s m args below meth c ls F hr hlk hP hl
  have hl : lv_has ls 2 [(0, .ref (xL X 9 0)), (1, .int a1)] := hl
  show WG l X n rm_Md_table σ' (some (.int r)) p e s m args below meth c s.heap [] (F0 m 0 ls [])
  unfold f_Md_table at hf
  refine lv_aload_n F.1 F.2.1 d_Md_table_0 rfl (lv_at hl 0 rfl) ?_
  refine lv_iload_n F.1 F.2.1 d_Md_table_1 rfl (lv_at hl 1 rfl) ?_
  refine lv_iconst (v := 1) F.1 F.2.1 d_Md_table_2 (by decide) ?_
  obtain ⟨x1, hj3, hf⟩ := lt_some2 hf
  have KJ2 : ∀ (ls : Array Slot) (H : Heap) (locs : List Loc), lv_has ls 2 [(0, .ref (xL X 9 0)), (1, .int a1)] → St X n σ s.heap H locs → WG l X n rm_Md_table σ' (some (.int r)) p e s m args below meth c H locs (F0 m 28 ls [.int x1, .ref (xL X 9 0)]) := by
    intro ls H locs hl hP
    obtain ⟨σ7, e_σ7, hf⟩ := lt_some hf
    refine g_puti F hP 9 0 0 (by decide) Nat.zero_lt_one (by decide) rfl rfl rfl rfl (Or.inl w_873) d_Md_table_28 e_σ7 (fun H locs hP => ?_)
    refine lv_aload_n F.1 F.2.1 d_Md_table_31 rfl (lv_at hl 0 rfl) ?_
    refine g_get F hP 9 0 0 (by decide) Nat.zero_lt_one (by decide) (v := .int (gi σ7 9 0 0)) rfl w_873 d_Md_table_32 ?_
    refine lv_if_le F.1 F.2.1 d_Md_table_35 rfl (fun hb11 => ?_) (fun hb11 => ?_)
    · rw [if_pos hb11] at hf
      refine lv_aload_n F.1 F.2.1 d_Md_table_40 rfl (lv_at hl 0 rfl) ?_
      refine g_get F hP 9 2 0 (by decide) Nat.zero_lt_one (by decide) (v := .ref (xL X 26 0)) rfl w_875 d_Md_table_41 ?_
      refine lv_aload_n F.1 F.2.1 d_Md_table_44 rfl (lv_at hl 0 rfl) ?_
      refine g_get F hP 9 1 0 (by decide) Nat.zero_lt_one (by decide) (v := .int (gi σ7 9 0 1)) rfl w_874 d_Md_table_45 ?_
      refine lv_iload_n F.1 F.2.1 d_Md_table_48 rfl (lv_at hl 1 rfl) ?_
      obtain ⟨hc8, hf⟩ := chk_some hf
      obtain ⟨σ9, e_σ9, hf⟩ := lt_some hf
      refine g_ast F hP 26 (by decide) (by decide) Nat.zero_lt_one rfl rfl hc8 d_Md_table_49 e_σ9 (fun H locs hP => ?_)
      refine lv_aload_n F.1 F.2.1 d_Md_table_50 rfl (lv_at hl 0 rfl) ?_
      refine lv_dup F.1 F.2.1 d_Md_table_51 rfl ?_
      refine g_get F hP 9 1 0 (by decide) Nat.zero_lt_one (by decide) (v := .int (gi σ9 9 0 1)) rfl w_874 d_Md_table_52 ?_
      refine lv_iconst (v := 1) F.1 F.2.1 d_Md_table_55 (by decide) ?_
      refine lv_iadd F.1 F.2.1 d_Md_table_56 ?_
      obtain ⟨σ10, e_σ10, hf⟩ := lt_some hf
      refine g_puti F hP 9 1 0 (by decide) Nat.zero_lt_one (by decide) rfl rfl rfl rfl (Or.inl w_874) d_Md_table_57 e_σ10 (fun H locs hP => ?_)
      refine lv_aload_n F.1 F.2.1 d_Md_table_60 rfl (lv_at hl 0 rfl) ?_
      refine g_get F hP 9 1 0 (by decide) Nat.zero_lt_one (by decide) (v := .int (gi σ10 9 0 1)) rfl w_874 d_Md_table_61 ?_
      refine lv_iconst (v := 1) F.1 F.2.1 d_Md_table_64 (by decide) ?_
      refine lv_isub F.1 F.2.1 d_Md_table_65 ?_
      cases hf
      exact g_iret F hP hr hlk d_Md_table_66
    · rw [if_neg hb11] at hf
      refine lv_iconst (v := 0) F.1 F.2.1 d_Md_table_38 (by decide) ?_
      cases hf
      exact g_iret F hP hr hlk d_Md_table_39
  refine lv_icmp_lt F.1 F.2.1 d_Md_table_3 rfl (fun hb6 => ?_) (fun hb6 => ?_)
  · rw [if_pos hb6] at hj3
    refine lv_iconst (v := 1) F.1 F.2.1 d_Md_table_11 (by decide) ?_
    refine lv_goto F.1 F.2.1 d_Md_table_12 rfl ?_
    subst hj3
    exact KJ2 _ _ _ (lv_sub hl [0, 1] rfl) hP
  · rw [if_neg hb6] at hj3
    refine lv_iload_n F.1 F.2.1 d_Md_table_6 rfl (lv_at hl 1 rfl) ?_
    refine lv_iconst (v := 4) F.1 F.2.1 d_Md_table_7 (by decide) ?_
    refine lv_icmp_le F.1 F.2.1 d_Md_table_8 rfl (fun hb5 => ?_) (fun hb5 => ?_)
    · rw [if_pos hb5] at hj3
      refine lv_aload_n F.1 F.2.1 d_Md_table_15 rfl (lv_at hl 0 rfl) ?_
      refine g_get F hP 9 1 0 (by decide) Nat.zero_lt_one (by decide) (v := .int (gi σ 9 0 1)) rfl w_874 d_Md_table_16 ?_
      refine lv_iconst (v := 3) F.1 F.2.1 d_Md_table_19 (by decide) ?_
      refine lv_icmp_ne F.1 F.2.1 d_Md_table_20 rfl (fun hb4 => ?_) (fun hb4 => ?_)
      · rw [if_neg hb4] at hj3
        refine lv_iconst (v := 0) F.1 F.2.1 d_Md_table_27 (by decide) ?_
        subst hj3
        exact KJ2 _ _ _ (lv_sub hl [0, 1] rfl) hP
      · rw [if_pos hb4] at hj3
        refine lv_iconst (v := 2) F.1 F.2.1 d_Md_table_23 (by decide) ?_
        refine lv_goto F.1 F.2.1 d_Md_table_24 rfl ?_
        subst hj3
        exact KJ2 _ _ _ (lv_sub hl [0, 1] rfl) hP
    · rw [if_neg hb5] at hj3
      refine lv_iconst (v := 1) F.1 F.2.1 d_Md_table_11 (by decide) ?_
      refine lv_goto F.1 F.2.1 d_Md_table_12 rfl ?_
      subst hj3
      exact KJ2 _ _ _ (lv_sub hl [0, 1] rfl) hP

theorem d_Md_set_0 : decode b_Md_set 0 = .ok (.aload_n 0, 1) := by decide +kernel
theorem d_Md_set_1 : decode b_Md_set 1 = .ok (.iconst 0, 1) := by decide +kernel
theorem d_Md_set_2 : decode b_Md_set 2 = .ok (.putfield 73, 3) := by decide +kernel
theorem d_Md_set_5 : decode b_Md_set 5 = .ok (.iload_n 1, 1) := by decide +kernel
theorem d_Md_set_6 : decode b_Md_set 6 = .ok (.ifCond .lt 8, 3) := by decide +kernel
theorem d_Md_set_9 : decode b_Md_set 9 = .ok (.iload_n 1, 1) := by decide +kernel
theorem d_Md_set_10 : decode b_Md_set 10 = .ok (.iconst 3, 1) := by decide +kernel
theorem d_Md_set_11 : decode b_Md_set 11 = .ok (.if_icmp .le 5, 3) := by decide +kernel
theorem d_Md_set_14 : decode b_Md_set 14 = .ok (.iconst 0, 1) := by decide +kernel
theorem d_Md_set_15 : decode b_Md_set 15 = .ok (.ireturn, 1) := by decide +kernel
theorem d_Md_set_16 : decode b_Md_set 16 = .ok (.aload_n 0, 1) := by decide +kernel
theorem d_Md_set_17 : decode b_Md_set 17 = .ok (.getfield 30, 3) := by decide +kernel
theorem d_Md_set_20 : decode b_Md_set 20 = .ok (.iload_n 1, 1) := by decide +kernel
theorem d_Md_set_21 : decode b_Md_set 21 = .ok (.iload_n 2, 1) := by decide +kernel
theorem d_Md_set_22 : decode b_Md_set 22 = .ok (.bastore, 1) := by decide +kernel
theorem d_Md_set_23 : decode b_Md_set 23 = .ok (.aload_n 0, 1) := by decide +kernel
theorem d_Md_set_24 : decode b_Md_set 24 = .ok (.getfield 27, 3) := by decide +kernel
theorem d_Md_set_27 : decode b_Md_set 27 = .ok (.iload_n 1, 1) := by decide +kernel
theorem d_Md_set_28 : decode b_Md_set 28 = .ok (.iload_n 2, 1) := by decide +kernel
theorem d_Md_set_29 : decode b_Md_set 29 = .ok (.ifCond .eq 7, 3) := by decide +kernel
theorem d_Md_set_32 : decode b_Md_set 32 = .ok (.lload_n 3, 1) := by decide +kernel
theorem d_Md_set_33 : decode b_Md_set 33 = .ok (.goto 4, 3) := by decide +kernel
theorem d_Md_set_36 : decode b_Md_set 36 = .ok (.lconst 0, 1) := by decide +kernel
theorem d_Md_set_37 : decode b_Md_set 37 = .ok (.lastore, 1) := by decide +kernel
theorem d_Md_set_38 : decode b_Md_set 38 = .ok (.iconst 1, 1) := by decide +kernel
theorem d_Md_set_39 : decode b_Md_set 39 = .ok (.ireturn, 1) := by decide +kernel
noncomputable def f_Md_set (a1 : Int32) (a2 : Int32) (a3 : Int64) (σ : Sg) : Option (Int32 × Sg) :=
  lt_ (si σ 9 0 0 0) (fun σ1 => (if a1 < 0 then (some (0, σ1)) else (if a1 ≤ 3 then (chk (vp_in a1 4) (lt_ (si σ1 32 0 a1.toNatClampNeg (vp_nar .boolean a2)) (fun σ3 => lt_ ((if a2 = 0 then 0 else a3) : Int64) (fun (x4 : Int64) => chk (vp_in a1 4) (lt_ (sj σ3 31 0 a1.toNatClampNeg x4) (fun σ9 => some (1, σ9))))))) else (some (0, σ1)))))
abbrev rm_Md_set : Room := { frames := 0, cells := 0, slots := 0, locals := 0 }
set_option maxHeartbeats 4000000 in
set_option maxRecDepth 100000 in
theorem c_Md_set (l : Launch) (X : GX) (n : Nat) {σ σ' : Sg} {r : Int32} {a1 : Int32} {a2 : Int32} {a3 : Int64}  (hf : f_Md_set a1 a2 a3 σ = some (r, σ')) : Met l y_Md_set (cw y_Md_set b_Md_set 5 (some .boolean)) rm_Md_set (PcG X n σ [.ref (xL X 9 0), .int a1, .int a2, .long a3]) (QcG X n σ' (some (.int r))) 0 0 (fr X n) := by
  refine g_head (own := "TableMachineModel") (by decide) rfl (Nat.le_of_ble_eq_true rfl) ?_
  intro p e s m args below meth c ls F hr hlk hP hl
  have hl : lv_has ls 5 [(0, .ref (xL X 9 0)), (1, .int a1), (2, .int a2), (3, .long a3)] := hl
  show WG l X n rm_Md_set σ' (some (.int r)) p e s m args below meth c s.heap [] (F0 m 0 ls [])
  unfold f_Md_set at hf
  refine lv_aload_n F.1 F.2.1 d_Md_set_0 rfl (lv_at hl 0 rfl) ?_
  refine lv_iconst (v := 0) F.1 F.2.1 d_Md_set_1 (by decide) ?_
  obtain ⟨σ1, e_σ1, hf⟩ := lt_some hf
  refine g_puti F hP 9 0 0 (by decide) Nat.zero_lt_one (by decide) rfl rfl rfl rfl (Or.inl w_873) d_Md_set_2 e_σ1 (fun H locs hP => ?_)
  refine lv_iload_n F.1 F.2.1 d_Md_set_5 rfl (lv_at hl 1 rfl) ?_
  refine lv_if_lt F.1 F.2.1 d_Md_set_6 rfl (fun hb11 => ?_) (fun hb11 => ?_)
  · rw [if_pos hb11] at hf
    refine lv_iconst (v := 0) F.1 F.2.1 d_Md_set_14 (by decide) ?_
    cases hf
    exact g_zret F hP hr hlk zb0 d_Md_set_15
  · rw [if_neg hb11] at hf
    refine lv_iload_n F.1 F.2.1 d_Md_set_9 rfl (lv_at hl 1 rfl) ?_
    refine lv_iconst (v := 3) F.1 F.2.1 d_Md_set_10 (by decide) ?_
    refine lv_icmp_le F.1 F.2.1 d_Md_set_11 rfl (fun hb10 => ?_) (fun hb10 => ?_)
    · rw [if_pos hb10] at hf
      refine lv_aload_n F.1 F.2.1 d_Md_set_16 rfl (lv_at hl 0 rfl) ?_
      refine g_get F hP 9 9 0 (by decide) Nat.zero_lt_one (by decide) (v := .ref (xL X 32 0)) rfl w_882 d_Md_set_17 ?_
      refine lv_iload_n F.1 F.2.1 d_Md_set_20 rfl (lv_at hl 1 rfl) ?_
      refine lv_iload_n F.1 F.2.1 d_Md_set_21 rfl (lv_at hl 2 rfl) ?_
      obtain ⟨hc2, hf⟩ := chk_some hf
      obtain ⟨σ3, e_σ3, hf⟩ := lt_some hf
      refine g_zst F hP 32 (by decide) (by decide) Nat.zero_lt_one rfl rfl hc2 d_Md_set_22 e_σ3 (fun H locs hP => ?_)
      refine lv_aload_n F.1 F.2.1 d_Md_set_23 rfl (lv_at hl 0 rfl) ?_
      refine g_get F hP 9 8 0 (by decide) Nat.zero_lt_one (by decide) (v := .ref (xL X 31 0)) rfl w_881 d_Md_set_24 ?_
      refine lv_iload_n F.1 F.2.1 d_Md_set_27 rfl (lv_at hl 1 rfl) ?_
      refine lv_iload_n F.1 F.2.1 d_Md_set_28 rfl (lv_at hl 2 rfl) ?_
      obtain ⟨x4, hj6, hf⟩ := lt_some2 hf
      have KJ5 : ∀ (ls : Array Slot) (H : Heap) (locs : List Loc), lv_has ls 5 [] → St X n σ3 s.heap H locs → WG l X n rm_Md_set σ' (some (.int r)) p e s m args below meth c H locs (F0 m 37 ls [.long x4, .int a1, .ref (xL X 31 0)]) := by
        intro ls H locs hl hP
        obtain ⟨hc8, hf⟩ := chk_some hf
        obtain ⟨σ9, e_σ9, hf⟩ := lt_some hf
        refine g_lst F hP 31 (by decide) (by decide) Nat.zero_lt_one rfl rfl hc8 d_Md_set_37 e_σ9 (fun H locs hP => ?_)
        refine lv_iconst (v := 1) F.1 F.2.1 d_Md_set_38 (by decide) ?_
        cases hf
        exact g_zret F hP hr hlk zb1 d_Md_set_39
      refine lv_if_eq F.1 F.2.1 d_Md_set_29 rfl (fun hb7 => ?_) (fun hb7 => ?_)
      · rw [if_pos hb7] at hj6
        refine lv_lconst (v := 0) F.1 F.2.1 d_Md_set_36 (by decide) ?_
        subst hj6
        exact KJ5 _ _ _ (lv_sub hl [] rfl) hP
      · rw [if_neg hb7] at hj6
        refine lv_lload_n F.1 F.2.1 d_Md_set_32 rfl (lv_at hl 3 rfl) ?_
        refine lv_goto F.1 F.2.1 d_Md_set_33 rfl ?_
        subst hj6
        exact KJ5 _ _ _ (lv_sub hl [] rfl) hP
    · rw [if_neg hb10] at hf
      refine lv_iconst (v := 0) F.1 F.2.1 d_Md_set_14 (by decide) ?_
      cases hf
      exact g_zret F hP hr hlk zb0 d_Md_set_15

theorem d_Md_rowOf_0 : decode b_Md_rowOf 0 = .ok (.iconst (-1), 1) := by decide +kernel
theorem d_Md_rowOf_1 : decode b_Md_rowOf 1 = .ok (.istore 4, 2) := by decide +kernel
theorem d_Md_rowOf_3 : decode b_Md_rowOf 3 = .ok (.iconst 0, 1) := by decide +kernel
theorem d_Md_rowOf_4 : decode b_Md_rowOf 4 = .ok (.istore 5, 2) := by decide +kernel
theorem d_Md_rowOf_6 : decode b_Md_rowOf 6 = .ok (.iload 5, 2) := by decide +kernel
theorem d_Md_rowOf_8 : decode b_Md_rowOf 8 = .ok (.aload_n 0, 1) := by decide +kernel
theorem d_Md_rowOf_9 : decode b_Md_rowOf 9 = .ok (.getfield 79, 3) := by decide +kernel
theorem d_Md_rowOf_12 : decode b_Md_rowOf 12 = .ok (.if_icmp .ge 41, 3) := by decide +kernel
theorem d_Md_rowOf_15 : decode b_Md_rowOf 15 = .ok (.aload_n 0, 1) := by decide +kernel
theorem d_Md_rowOf_16 : decode b_Md_rowOf 16 = .ok (.getfield 13, 3) := by decide +kernel
theorem d_Md_rowOf_19 : decode b_Md_rowOf 19 = .ok (.iload 5, 2) := by decide +kernel
theorem d_Md_rowOf_21 : decode b_Md_rowOf 21 = .ok (.iaload, 1) := by decide +kernel
theorem d_Md_rowOf_22 : decode b_Md_rowOf 22 = .ok (.iload_n 1, 1) := by decide +kernel
theorem d_Md_rowOf_23 : decode b_Md_rowOf 23 = .ok (.if_icmp .ne 20, 3) := by decide +kernel
theorem d_Md_rowOf_26 : decode b_Md_rowOf 26 = .ok (.aload_n 0, 1) := by decide +kernel
theorem d_Md_rowOf_27 : decode b_Md_rowOf 27 = .ok (.getfield 16, 3) := by decide +kernel
theorem d_Md_rowOf_30 : decode b_Md_rowOf 30 = .ok (.iload 5, 2) := by decide +kernel
theorem d_Md_rowOf_32 : decode b_Md_rowOf 32 = .ok (.laload, 1) := by decide +kernel
theorem d_Md_rowOf_33 : decode b_Md_rowOf 33 = .ok (.lload_n 2, 1) := by decide +kernel
theorem d_Md_rowOf_34 : decode b_Md_rowOf 34 = .ok (.lcmp, 1) := by decide +kernel
theorem d_Md_rowOf_35 : decode b_Md_rowOf 35 = .ok (.ifCond .ne 8, 3) := by decide +kernel
theorem d_Md_rowOf_38 : decode b_Md_rowOf 38 = .ok (.iload 5, 2) := by decide +kernel
theorem d_Md_rowOf_40 : decode b_Md_rowOf 40 = .ok (.goto 5, 3) := by decide +kernel
theorem d_Md_rowOf_43 : decode b_Md_rowOf 43 = .ok (.iload 4, 2) := by decide +kernel
theorem d_Md_rowOf_45 : decode b_Md_rowOf 45 = .ok (.istore 4, 2) := by decide +kernel
theorem d_Md_rowOf_47 : decode b_Md_rowOf 47 = .ok (.iinc 5 1, 3) := by decide +kernel
theorem d_Md_rowOf_50 : decode b_Md_rowOf 50 = .ok (.goto (-44), 3) := by decide +kernel
theorem d_Md_rowOf_53 : decode b_Md_rowOf 53 = .ok (.iload 4, 2) := by decide +kernel
theorem d_Md_rowOf_55 : decode b_Md_rowOf 55 = .ok (.ireturn, 1) := by decide +kernel
noncomputable def b_Md_rowOf_6 (a1 : Int32) (a2 : Int64) (x2 : Int32) (x3 : Int32) (σ4 : Sg) : Option ((Int32 × Int32 × Sg) ⊕ (Int32 × Sg)) :=
  (if (gi σ4 9 0 3) ≤ x3 then (some (.inr (x2, σ4))) else (chk (vp_in x3 90) (Option.bind (if (gi σ4 27 0 x3.toNatClampNeg) = a1 then (chk (vp_in x3 90) ((if (gj σ4 28 0 x3.toNatClampNeg) = a2 then (some (x3)) else (some (x2))))) else (some (x2))) (fun (x9 : Int32) => lt_ (x3 + 1 : Int32) (fun (x15 : Int32) => some (.inl (x9, x15, σ4)))))))
noncomputable def l_Md_rowOf_6 (a1 : Int32) (a2 : Int64) (x2 : Int32) (x3 : Int32) (σ4 : Sg) : Option (Int32 × Sg) := lp (fun q => b_Md_rowOf_6 a1 a2 q.1 q.2.1 q.2.2) FU (x2, x3, σ4)
noncomputable def f_Md_rowOf (a1 : Int32) (a2 : Int64) (σ : Sg) : Option (Int32 × Sg) :=
  lt_ ((-1) : Int32) (fun (x1 : Int32) => bn2 (l_Md_rowOf_6 a1 a2 x1 0 σ) (fun x17 σ18 => some (x17, σ18)))
abbrev rm_Md_rowOf : Room := { frames := 0, cells := 0, slots := 0, locals := 0 }
set_option maxHeartbeats 4000000 in
set_option maxRecDepth 100000 in
theorem c_Md_rowOf (l : Launch) (X : GX) (n : Nat) {σ σ' : Sg} {r : Int32} {a1 : Int32} {a2 : Int64}  (hf : f_Md_rowOf a1 a2 σ = some (r, σ')) : Met l y_Md_rowOf (cw y_Md_rowOf b_Md_rowOf 6 (some .int)) rm_Md_rowOf (PcG X n σ [.ref (xL X 9 0), .int a1, .long a2]) (QcG X n σ' (some (.int r))) 0 0 (fr X n) := by
  refine g_head (own := "TableMachineModel") (by decide) rfl (Nat.le_of_ble_eq_true rfl) ?_
  intro p e s m args below meth c ls F hr hlk hP hl
  have hl : lv_has ls 6 [(0, .ref (xL X 9 0)), (1, .int a1), (2, .long a2)] := hl
  show WG l X n rm_Md_rowOf σ' (some (.int r)) p e s m args below meth c s.heap [] (F0 m 0 ls [])
  unfold f_Md_rowOf at hf
  refine lv_iconst (v := (-1)) F.1 F.2.1 d_Md_rowOf_0 (by decide) ?_
  obtain ⟨x1, e_x1, hf⟩ := lt_some hf
  rw [← e_x1]
  refine lv_istore F.1 F.2.1 d_Md_rowOf_1 hl (by decide) rfl (fun ls hl => ?_)
  have hl : lv_has ls 6 [(4, .int x1), (0, .ref (xL X 9 0)), (1, .int a1), (2, .long a2)] := hl
  refine lv_iconst (v := 0) F.1 F.2.1 d_Md_rowOf_3 (by decide) ?_
  refine lv_istore F.1 F.2.1 d_Md_rowOf_4 hl (by decide) rfl (fun ls hl => ?_)
  have hl : lv_has ls 6 [(5, .int 0), (4, .int x1), (0, .ref (xL X 9 0)), (1, .int a1), (2, .long a2)] := hl
  obtain ⟨x17, σ18, hlp19, hf⟩ := bn2_some hf
  have KX20 : ∀ (ls : Array Slot) (H : Heap) (locs : List Loc), lv_has ls 6 [(4, .int x17)] → St X n σ18 s.heap H locs → WG l X n rm_Md_rowOf σ' (some (.int r)) p e s m args below meth c H locs (F0 m 53 ls []) := by
    intro ls H locs hl hP
    refine lv_iload F.1 F.2.1 d_Md_rowOf_53 (lv_at hl 0 rfl) ?_
    cases hf
    exact g_iret F hP hr hlk d_Md_rowOf_55
  unfold l_Md_rowOf_6 at hlp19
  refine lp_W (PW := fun q => ∀ (ls : Array Slot) (H : Heap) (locs : List Loc), lv_has ls 6 [(0, .ref (xL X 9 0)), (1, .int a1), (2, .long a2), (4, .int q.1), (5, .int q.2.1)] → St X n q.2.2 s.heap H locs → WG l X n rm_Md_rowOf σ' (some (.int r)) p e s m args below meth c H locs (F0 m 6 ls [])) (PE := fun q => ∀ (ls : Array Slot) (H : Heap) (locs : List Loc), lv_has ls 6 [(4, .int q.1)] → St X n q.2 s.heap H locs → WG l X n rm_Md_rowOf σ' (some (.int r)) p e s m args below meth c H locs (F0 m 53 ls [])) ?_ _ _ _ hlp19 KX20 _ _ _ (lv_sub hl [2, 3, 4, 1, 0] rfl) hP
  rintro ⟨x2, x3, σ4⟩ rr5 hb_6 hI6 hE7 ls H locs hl hP
  replace hb_6 : b_Md_rowOf_6 a1 a2 x2 x3 σ4 = some rr5 := hb_6
  unfold b_Md_rowOf_6 at hb_6
  refine lv_iload F.1 F.2.1 d_Md_rowOf_6 (lv_at hl 4 rfl) ?_
  refine lv_aload_n F.1 F.2.1 d_Md_rowOf_8 rfl (lv_at hl 0 rfl) ?_
  refine g_get F hP 9 3 0 (by decide) Nat.zero_lt_one (by decide) (v := .int (gi σ4 9 0 3)) rfl w_876 d_Md_rowOf_9 ?_
  refine lv_icmp_ge F.1 F.2.1 d_Md_rowOf_12 rfl (fun hb16 => ?_) (fun hb16 => ?_)
  · rw [if_pos hb16] at hb_6
    cases hb_6
    exact hE7 _ rfl _ _ _ (lv_sub hl [3] rfl) hP
  · rw [if_neg hb16] at hb_6
    refine lv_aload_n F.1 F.2.1 d_Md_rowOf_15 rfl (lv_at hl 0 rfl) ?_
    refine g_get F hP 9 4 0 (by decide) Nat.zero_lt_one (by decide) (v := .ref (xL X 27 0)) rfl w_877 d_Md_rowOf_16 ?_
    refine lv_iload F.1 F.2.1 d_Md_rowOf_19 (lv_at hl 4 rfl) ?_
    obtain ⟨hc8, hb_6⟩ := chk_some hb_6
    refine g_ald F hP 27 (by decide) (by decide) Nat.zero_lt_one rfl rfl hc8 d_Md_rowOf_21 ?_
    refine lv_iload_n F.1 F.2.1 d_Md_rowOf_22 rfl (lv_at hl 1 rfl) ?_
    obtain ⟨x9, hj11, hb_6⟩ := bnd_some hb_6
    have KJ10 : ∀ (ls : Array Slot) (H : Heap) (locs : List Loc), lv_has ls 6 [(0, .ref (xL X 9 0)), (1, .int a1), (2, .long a2), (5, .int x3)] → St X n σ4 s.heap H locs → WG l X n rm_Md_rowOf σ' (some (.int r)) p e s m args below meth c H locs (F0 m 45 ls [.int x9]) := by
      intro ls H locs hl hP
      refine lv_istore F.1 F.2.1 d_Md_rowOf_45 hl (by decide) rfl (fun ls hl => ?_)
      have hl : lv_has ls 6 [(4, .int x9), (0, .ref (xL X 9 0)), (1, .int a1), (2, .long a2), (5, .int x3)] := hl
      obtain ⟨x15, e_x15, hb_6⟩ := lt_some hb_6
      refine lv_iinc (k := 4) (v := x15) F.1 F.2.1 d_Md_rowOf_47 hl rfl (by rw [e_x15]; rfl) (by decide) rfl (fun ls hl => ?_)
      have hl : lv_has ls 6 [(5, .int x15), (4, .int x9), (0, .ref (xL X 9 0)), (1, .int a1), (2, .long a2)] := hl
      refine lv_goto F.1 F.2.1 d_Md_rowOf_50 rfl ?_
      cases hb_6
      exact hI6 _ rfl _ _ _ (lv_sub hl [2, 3, 4, 1, 0] rfl) hP
    refine lv_icmp_ne F.1 F.2.1 d_Md_rowOf_23 rfl (fun hb14 => ?_) (fun hb14 => ?_)
    · rw [if_neg hb14] at hj11
      refine lv_iload F.1 F.2.1 d_Md_rowOf_43 (lv_at hl 3 rfl) ?_
      cases hj11
      exact KJ10 _ _ _ (lv_sub hl [0, 1, 2, 4] rfl) hP
    · rw [if_pos hb14] at hj11
      refine lv_aload_n F.1 F.2.1 d_Md_rowOf_26 rfl (lv_at hl 0 rfl) ?_
      refine g_get F hP 9 5 0 (by decide) Nat.zero_lt_one (by decide) (v := .ref (xL X 28 0)) rfl w_878 d_Md_rowOf_27 ?_
      refine lv_iload F.1 F.2.1 d_Md_rowOf_30 (lv_at hl 4 rfl) ?_
      obtain ⟨hc12, hj11⟩ := chk_some hj11
      refine g_lld F hP 28 (by decide) (by decide) Nat.zero_lt_one rfl rfl hc12 d_Md_rowOf_32 ?_
      refine lv_lload_n F.1 F.2.1 d_Md_rowOf_33 rfl (lv_at hl 2 rfl) ?_
      refine g_lc_ne F d_Md_rowOf_34 d_Md_rowOf_35 rfl (fun hb13 => ?_) (fun hb13 => ?_)
      · rw [if_neg hb13] at hj11
        refine lv_iload F.1 F.2.1 d_Md_rowOf_43 (lv_at hl 3 rfl) ?_
        cases hj11
        exact KJ10 _ _ _ (lv_sub hl [0, 1, 2, 4] rfl) hP
      · rw [if_pos hb13] at hj11
        refine lv_iload F.1 F.2.1 d_Md_rowOf_38 (lv_at hl 4 rfl) ?_
        refine lv_goto F.1 F.2.1 d_Md_rowOf_40 rfl ?_
        cases hj11
        exact KJ10 _ _ _ (lv_sub hl [0, 1, 2, 4] rfl) hP

theorem d_Md_rowFrom_0 : decode b_Md_rowFrom 0 = .ok (.iconst (-1), 1) := by decide +kernel
theorem d_Md_rowFrom_1 : decode b_Md_rowFrom 1 = .ok (.istore 5, 2) := by decide +kernel
theorem d_Md_rowFrom_3 : decode b_Md_rowFrom 3 = .ok (.iconst 0, 1) := by decide +kernel
theorem d_Md_rowFrom_4 : decode b_Md_rowFrom 4 = .ok (.istore 6, 2) := by decide +kernel
theorem d_Md_rowFrom_6 : decode b_Md_rowFrom 6 = .ok (.iload 6, 2) := by decide +kernel
theorem d_Md_rowFrom_8 : decode b_Md_rowFrom 8 = .ok (.aload_n 0, 1) := by decide +kernel
theorem d_Md_rowFrom_9 : decode b_Md_rowFrom 9 = .ok (.getfield 79, 3) := by decide +kernel
theorem d_Md_rowFrom_12 : decode b_Md_rowFrom 12 = .ok (.if_icmp .ge 102, 3) := by decide +kernel
theorem d_Md_rowFrom_15 : decode b_Md_rowFrom 15 = .ok (.aload_n 0, 1) := by decide +kernel
theorem d_Md_rowFrom_16 : decode b_Md_rowFrom 16 = .ok (.getfield 13, 3) := by decide +kernel
theorem d_Md_rowFrom_19 : decode b_Md_rowFrom 19 = .ok (.iload 6, 2) := by decide +kernel
theorem d_Md_rowFrom_21 : decode b_Md_rowFrom 21 = .ok (.iaload, 1) := by decide +kernel
theorem d_Md_rowFrom_22 : decode b_Md_rowFrom 22 = .ok (.iload_n 1, 1) := by decide +kernel
theorem d_Md_rowFrom_23 : decode b_Md_rowFrom 23 = .ok (.if_icmp .ne 36, 3) := by decide +kernel
theorem d_Md_rowFrom_26 : decode b_Md_rowFrom 26 = .ok (.aload_n 0, 1) := by decide +kernel
theorem d_Md_rowFrom_27 : decode b_Md_rowFrom 27 = .ok (.getfield 16, 3) := by decide +kernel
theorem d_Md_rowFrom_30 : decode b_Md_rowFrom 30 = .ok (.iload 6, 2) := by decide +kernel
theorem d_Md_rowFrom_32 : decode b_Md_rowFrom 32 = .ok (.laload, 1) := by decide +kernel
theorem d_Md_rowFrom_33 : decode b_Md_rowFrom 33 = .ok (.lload_n 2, 1) := by decide +kernel
theorem d_Md_rowFrom_34 : decode b_Md_rowFrom 34 = .ok (.lcmp, 1) := by decide +kernel
theorem d_Md_rowFrom_35 : decode b_Md_rowFrom 35 = .ok (.ifCond .gt 20, 3) := by decide +kernel
theorem d_Md_rowFrom_38 : decode b_Md_rowFrom 38 = .ok (.aload_n 0, 1) := by decide +kernel
theorem d_Md_rowFrom_39 : decode b_Md_rowFrom 39 = .ok (.getfield 16, 3) := by decide +kernel
theorem d_Md_rowFrom_42 : decode b_Md_rowFrom 42 = .ok (.iload 6, 2) := by decide +kernel
theorem d_Md_rowFrom_44 : decode b_Md_rowFrom 44 = .ok (.laload, 1) := by decide +kernel
theorem d_Md_rowFrom_45 : decode b_Md_rowFrom 45 = .ok (.lload_n 2, 1) := by decide +kernel
theorem d_Md_rowFrom_46 : decode b_Md_rowFrom 46 = .ok (.lcmp, 1) := by decide +kernel
theorem d_Md_rowFrom_47 : decode b_Md_rowFrom 47 = .ok (.ifCond .ne 12, 3) := by decide +kernel
theorem d_Md_rowFrom_50 : decode b_Md_rowFrom 50 = .ok (.iload 4, 2) := by decide +kernel
theorem d_Md_rowFrom_52 : decode b_Md_rowFrom 52 = .ok (.ifCond .ne 7, 3) := by decide +kernel
theorem d_Md_rowFrom_55 : decode b_Md_rowFrom 55 = .ok (.iconst 1, 1) := by decide +kernel
theorem d_Md_rowFrom_56 : decode b_Md_rowFrom 56 = .ok (.goto 4, 3) := by decide +kernel
theorem d_Md_rowFrom_59 : decode b_Md_rowFrom 59 = .ok (.iconst 0, 1) := by decide +kernel
theorem d_Md_rowFrom_60 : decode b_Md_rowFrom 60 = .ok (.istore 7, 2) := by decide +kernel
theorem d_Md_rowFrom_62 : decode b_Md_rowFrom 62 = .ok (.iload 7, 2) := by decide +kernel
theorem d_Md_rowFrom_64 : decode b_Md_rowFrom 64 = .ok (.ifCond .eq 40, 3) := by decide +kernel
theorem d_Md_rowFrom_67 : decode b_Md_rowFrom 67 = .ok (.iload 5, 2) := by decide +kernel
theorem d_Md_rowFrom_69 : decode b_Md_rowFrom 69 = .ok (.ifCond .lt 30, 3) := by decide +kernel
theorem d_Md_rowFrom_72 : decode b_Md_rowFrom 72 = .ok (.aload_n 0, 1) := by decide +kernel
theorem d_Md_rowFrom_73 : decode b_Md_rowFrom 73 = .ok (.getfield 16, 3) := by decide +kernel
theorem d_Md_rowFrom_76 : decode b_Md_rowFrom 76 = .ok (.iload 6, 2) := by decide +kernel
theorem d_Md_rowFrom_78 : decode b_Md_rowFrom 78 = .ok (.laload, 1) := by decide +kernel
theorem d_Md_rowFrom_79 : decode b_Md_rowFrom 79 = .ok (.aload_n 0, 1) := by decide +kernel
theorem d_Md_rowFrom_80 : decode b_Md_rowFrom 80 = .ok (.getfield 16, 3) := by decide +kernel
theorem d_Md_rowFrom_83 : decode b_Md_rowFrom 83 = .ok (.iload 5, 2) := by decide +kernel
theorem d_Md_rowFrom_85 : decode b_Md_rowFrom 85 = .ok (.ifCond .ge 7, 3) := by decide +kernel
theorem d_Md_rowFrom_88 : decode b_Md_rowFrom 88 = .ok (.iconst 0, 1) := by decide +kernel
theorem d_Md_rowFrom_89 : decode b_Md_rowFrom 89 = .ok (.goto 5, 3) := by decide +kernel
theorem d_Md_rowFrom_92 : decode b_Md_rowFrom 92 = .ok (.iload 5, 2) := by decide +kernel
theorem d_Md_rowFrom_94 : decode b_Md_rowFrom 94 = .ok (.laload, 1) := by decide +kernel
theorem d_Md_rowFrom_95 : decode b_Md_rowFrom 95 = .ok (.lcmp, 1) := by decide +kernel
theorem d_Md_rowFrom_96 : decode b_Md_rowFrom 96 = .ok (.ifCond .ge 8, 3) := by decide +kernel
theorem d_Md_rowFrom_99 : decode b_Md_rowFrom 99 = .ok (.iload 6, 2) := by decide +kernel
theorem d_Md_rowFrom_101 : decode b_Md_rowFrom 101 = .ok (.goto 5, 3) := by decide +kernel
theorem d_Md_rowFrom_104 : decode b_Md_rowFrom 104 = .ok (.iload 5, 2) := by decide +kernel
theorem d_Md_rowFrom_106 : decode b_Md_rowFrom 106 = .ok (.istore 5, 2) := by decide +kernel
theorem d_Md_rowFrom_108 : decode b_Md_rowFrom 108 = .ok (.iinc 6 1, 3) := by decide +kernel
theorem d_Md_rowFrom_111 : decode b_Md_rowFrom 111 = .ok (.goto (-105), 3) := by decide +kernel
theorem d_Md_rowFrom_114 : decode b_Md_rowFrom 114 = .ok (.iload 5, 2) := by decide +kernel
theorem d_Md_rowFrom_116 : decode b_Md_rowFrom 116 = .ok (.ireturn, 1) := by decide +kernel
noncomputable def b_Md_rowFrom_6 (a1 : Int32) (a2 : Int64) (a4 : Int32) (x2 : Int32) (x3 : Int32) (σ4 : Sg) : Option ((Int32 × Int32 × Sg) ⊕ (Int32 × Sg)) :=
  (if (gi σ4 9 0 3) ≤ x3 then (some (.inr (x2, σ4))) else (chk (vp_in x3 90) (Option.bind (if (gi σ4 27 0 x3.toNatClampNeg) = a1 then (chk (vp_in x3 90) ((if a2 < (gj σ4 28 0 x3.toNatClampNeg) then (some (1)) else (chk (vp_in x3 90) ((if (gj σ4 28 0 x3.toNatClampNeg) = a2 then (if a4 = 0 then (some (1)) else (some (0))) else (some (0)))))))) else (some (0))) (fun (x9 : Int32) => Option.bind (if x9 = 0 then (some (x2)) else (if x2 < 0 then (some (x3)) else (chk (vp_in x3 90) (lt_ ((if 0 ≤ x2 then x2 else 0) : Int32) (fun (x22 : Int32) => chk (vp_in x22 90) ((if (gj σ4 28 0 x22.toNatClampNeg) ≤ (gj σ4 28 0 x3.toNatClampNeg) then (some (x2)) else (some (x3))))))))) (fun (x18 : Int32) => lt_ (x3 + 1 : Int32) (fun (x30 : Int32) => some (.inl (x18, x30, σ4))))))))
noncomputable def l_Md_rowFrom_6 (a1 : Int32) (a2 : Int64) (a4 : Int32) (x2 : Int32) (x3 : Int32) (σ4 : Sg) : Option (Int32 × Sg) := lp (fun q => b_Md_rowFrom_6 a1 a2 a4 q.1 q.2.1 q.2.2) FU (x2, x3, σ4)
noncomputable def f_Md_rowFrom (a1 : Int32) (a2 : Int64) (a4 : Int32) (σ : Sg) : Option (Int32 × Sg) :=
  lt_ ((-1) : Int32) (fun (x1 : Int32) => bn2 (l_Md_rowFrom_6 a1 a2 a4 x1 0 σ) (fun x32 σ33 => some (x32, σ33)))
abbrev rm_Md_rowFrom : Room := { frames := 0, cells := 0, slots := 0, locals := 0 }
set_option maxHeartbeats 4000000 in
set_option maxRecDepth 100000 in
theorem c_Md_rowFrom (l : Launch) (X : GX) (n : Nat) {σ σ' : Sg} {r : Int32} {a1 : Int32} {a2 : Int64} {a4 : Int32}  (hf : f_Md_rowFrom a1 a2 a4 σ = some (r, σ')) : Met l y_Md_rowFrom (cw y_Md_rowFrom b_Md_rowFrom 8 (some .int)) rm_Md_rowFrom (PcG X n σ [.ref (xL X 9 0), .int a1, .long a2, .int a4]) (QcG X n σ' (some (.int r))) 0 0 (fr X n) := by
  refine g_head (own := "TableMachineModel") (by decide) rfl (Nat.le_of_ble_eq_true rfl) ?_
  intro p e s m args below meth c ls F hr hlk hP hl
  have hl : lv_has ls 8 [(0, .ref (xL X 9 0)), (1, .int a1), (2, .long a2), (4, .int a4)] := hl
  show WG l X n rm_Md_rowFrom σ' (some (.int r)) p e s m args below meth c s.heap [] (F0 m 0 ls [])
  unfold f_Md_rowFrom at hf
  refine lv_iconst (v := (-1)) F.1 F.2.1 d_Md_rowFrom_0 (by decide) ?_
  obtain ⟨x1, e_x1, hf⟩ := lt_some hf
  rw [← e_x1]
  refine lv_istore F.1 F.2.1 d_Md_rowFrom_1 hl (by decide) rfl (fun ls hl => ?_)
  have hl : lv_has ls 8 [(5, .int x1), (0, .ref (xL X 9 0)), (1, .int a1), (2, .long a2), (4, .int a4)] := hl
  refine lv_iconst (v := 0) F.1 F.2.1 d_Md_rowFrom_3 (by decide) ?_
  refine lv_istore F.1 F.2.1 d_Md_rowFrom_4 hl (by decide) rfl (fun ls hl => ?_)
  have hl : lv_has ls 8 [(6, .int 0), (5, .int x1), (0, .ref (xL X 9 0)), (1, .int a1), (2, .long a2), (4, .int a4)] := hl
  obtain ⟨x32, σ33, hlp34, hf⟩ := bn2_some hf
  have KX35 : ∀ (ls : Array Slot) (H : Heap) (locs : List Loc), lv_has ls 8 [(5, .int x32)] → St X n σ33 s.heap H locs → WG l X n rm_Md_rowFrom σ' (some (.int r)) p e s m args below meth c H locs (F0 m 114 ls []) := by
    intro ls H locs hl hP
    refine lv_iload F.1 F.2.1 d_Md_rowFrom_114 (lv_at hl 0 rfl) ?_
    cases hf
    exact g_iret F hP hr hlk d_Md_rowFrom_116
  unfold l_Md_rowFrom_6 at hlp34
  refine lp_W (PW := fun q => ∀ (ls : Array Slot) (H : Heap) (locs : List Loc), lv_has ls 8 [(0, .ref (xL X 9 0)), (1, .int a1), (2, .long a2), (4, .int a4), (5, .int q.1), (6, .int q.2.1)] → St X n q.2.2 s.heap H locs → WG l X n rm_Md_rowFrom σ' (some (.int r)) p e s m args below meth c H locs (F0 m 6 ls [])) (PE := fun q => ∀ (ls : Array Slot) (H : Heap) (locs : List Loc), lv_has ls 8 [(5, .int q.1)] → St X n q.2 s.heap H locs → WG l X n rm_Md_rowFrom σ' (some (.int r)) p e s m args below meth c H locs (F0 m 114 ls [])) ?_ _ _ _ hlp34 KX35 _ _ _ (lv_sub hl [2, 3, 4, 5, 1, 0] rfl) hP
  rintro ⟨x2, x3, σ4⟩ rr5 hb_6 hI6 hE7 ls H locs hl hP
  replace hb_6 : b_Md_rowFrom_6 a1 a2 a4 x2 x3 σ4 = some rr5 := hb_6
  unfold b_Md_rowFrom_6 at hb_6
  refine lv_iload F.1 F.2.1 d_Md_rowFrom_6 (lv_at hl 5 rfl) ?_
  refine lv_aload_n F.1 F.2.1 d_Md_rowFrom_8 rfl (lv_at hl 0 rfl) ?_
  refine g_get F hP 9 3 0 (by decide) Nat.zero_lt_one (by decide) (v := .int (gi σ4 9 0 3)) rfl w_876 d_Md_rowFrom_9 ?_
  refine lv_icmp_ge F.1 F.2.1 d_Md_rowFrom_12 rfl (fun hb31 => ?_) (fun hb31 => ?_)
  · rw [if_pos hb31] at hb_6
    cases hb_6
    exact hE7 _ rfl _ _ _ (lv_sub hl [4] rfl) hP
  · rw [if_neg hb31] at hb_6
    refine lv_aload_n F.1 F.2.1 d_Md_rowFrom_15 rfl (lv_at hl 0 rfl) ?_
    refine g_get F hP 9 4 0 (by decide) Nat.zero_lt_one (by decide) (v := .ref (xL X 27 0)) rfl w_877 d_Md_rowFrom_16 ?_
    refine lv_iload F.1 F.2.1 d_Md_rowFrom_19 (lv_at hl 5 rfl) ?_
    obtain ⟨hc8, hb_6⟩ := chk_some hb_6
    refine g_ald F hP 27 (by decide) (by decide) Nat.zero_lt_one rfl rfl hc8 d_Md_rowFrom_21 ?_
    refine lv_iload_n F.1 F.2.1 d_Md_rowFrom_22 rfl (lv_at hl 1 rfl) ?_
    obtain ⟨x9, hj11, hb_6⟩ := bnd_some hb_6
    have KJ10 : ∀ (ls : Array Slot) (H : Heap) (locs : List Loc), lv_has ls 8 [(0, .ref (xL X 9 0)), (1, .int a1), (2, .long a2), (4, .int a4), (5, .int x2), (6, .int x3)] → St X n σ4 s.heap H locs → WG l X n rm_Md_rowFrom σ' (some (.int r)) p e s m args below meth c H locs (F0 m 60 ls [.int x9]) := by
      intro ls H locs hl hP
      refine lv_istore F.1 F.2.1 d_Md_rowFrom_60 hl (by decide) rfl (fun ls hl => ?_)
      have hl : lv_has ls 8 [(7, .int x9), (0, .ref (xL X 9 0)), (1, .int a1), (2, .long a2), (4, .int a4), (5, .int x2), (6, .int x3)] := hl
      refine lv_iload F.1 F.2.1 d_Md_rowFrom_62 (lv_at hl 0 rfl) ?_
      obtain ⟨x18, hj20, hb_6⟩ := bnd_some hb_6
      have KJ19 : ∀ (ls : Array Slot) (H : Heap) (locs : List Loc), lv_has ls 8 [(0, .ref (xL X 9 0)), (1, .int a1), (2, .long a2), (4, .int a4), (6, .int x3)] → St X n σ4 s.heap H locs → WG l X n rm_Md_rowFrom σ' (some (.int r)) p e s m args below meth c H locs (F0 m 106 ls [.int x18]) := by
        intro ls H locs hl hP
        refine lv_istore F.1 F.2.1 d_Md_rowFrom_106 hl (by decide) rfl (fun ls hl => ?_)
        have hl : lv_has ls 8 [(5, .int x18), (0, .ref (xL X 9 0)), (1, .int a1), (2, .long a2), (4, .int a4), (6, .int x3)] := hl
        obtain ⟨x30, e_x30, hb_6⟩ := lt_some hb_6
        refine lv_iinc (k := 5) (v := x30) F.1 F.2.1 d_Md_rowFrom_108 hl rfl (by rw [e_x30]; rfl) (by decide) rfl (fun ls hl => ?_)
        have hl : lv_has ls 8 [(6, .int x30), (5, .int x18), (0, .ref (xL X 9 0)), (1, .int a1), (2, .long a2), (4, .int a4)] := hl
        refine lv_goto F.1 F.2.1 d_Md_rowFrom_111 rfl ?_
        cases hb_6
        exact hI6 _ rfl _ _ _ (lv_sub hl [2, 3, 4, 5, 1, 0] rfl) hP
      refine lv_if_eq F.1 F.2.1 d_Md_rowFrom_64 rfl (fun hb29 => ?_) (fun hb29 => ?_)
      · rw [if_pos hb29] at hj20
        refine lv_iload F.1 F.2.1 d_Md_rowFrom_104 (lv_at hl 5 rfl) ?_
        cases hj20
        exact KJ19 _ _ _ (lv_sub hl [1, 2, 3, 4, 6] rfl) hP
      · rw [if_neg hb29] at hj20
        refine lv_iload F.1 F.2.1 d_Md_rowFrom_67 (lv_at hl 5 rfl) ?_
        refine lv_if_lt F.1 F.2.1 d_Md_rowFrom_69 rfl (fun hb28 => ?_) (fun hb28 => ?_)
        · rw [if_pos hb28] at hj20
          refine lv_iload F.1 F.2.1 d_Md_rowFrom_99 (lv_at hl 6 rfl) ?_
          refine lv_goto F.1 F.2.1 d_Md_rowFrom_101 rfl ?_
          cases hj20
          exact KJ19 _ _ _ (lv_sub hl [1, 2, 3, 4, 6] rfl) hP
        · rw [if_neg hb28] at hj20
          refine lv_aload_n F.1 F.2.1 d_Md_rowFrom_72 rfl (lv_at hl 1 rfl) ?_
          refine g_get F hP 9 5 0 (by decide) Nat.zero_lt_one (by decide) (v := .ref (xL X 28 0)) rfl w_878 d_Md_rowFrom_73 ?_
          refine lv_iload F.1 F.2.1 d_Md_rowFrom_76 (lv_at hl 6 rfl) ?_
          obtain ⟨hc21, hj20⟩ := chk_some hj20
          refine g_lld F hP 28 (by decide) (by decide) Nat.zero_lt_one rfl rfl hc21 d_Md_rowFrom_78 ?_
          refine lv_aload_n F.1 F.2.1 d_Md_rowFrom_79 rfl (lv_at hl 1 rfl) ?_
          refine g_get F hP 9 5 0 (by decide) Nat.zero_lt_one (by decide) (v := .ref (xL X 28 0)) rfl w_878 d_Md_rowFrom_80 ?_
          refine lv_iload F.1 F.2.1 d_Md_rowFrom_83 (lv_at hl 5 rfl) ?_
          obtain ⟨x22, hj24, hj20⟩ := lt_some2 hj20
          have KJ23 : ∀ (ls : Array Slot) (H : Heap) (locs : List Loc), lv_has ls 8 [(0, .ref (xL X 9 0)), (1, .int a1), (2, .long a2), (4, .int a4), (5, .int x2), (6, .int x3)] → St X n σ4 s.heap H locs → WG l X n rm_Md_rowFrom σ' (some (.int r)) p e s m args below meth c H locs (F0 m 94 ls [.int x22, .ref (xL X 28 0), .long (gj σ4 28 0 x3.toNatClampNeg)]) := by
            intro ls H locs hl hP
            obtain ⟨hc26, hj20⟩ := chk_some hj20
            refine g_lld F hP 28 (by decide) (by decide) Nat.zero_lt_one rfl rfl hc26 d_Md_rowFrom_94 ?_
            refine g_lc_ge F d_Md_rowFrom_95 d_Md_rowFrom_96 rfl (fun hb27 => ?_) (fun hb27 => ?_)
            · rw [if_pos hb27] at hj20
              refine lv_iload F.1 F.2.1 d_Md_rowFrom_104 (lv_at hl 4 rfl) ?_
              cases hj20
              exact KJ19 _ _ _ (lv_sub hl [0, 1, 2, 3, 5] rfl) hP
            · rw [if_neg hb27] at hj20
              refine lv_iload F.1 F.2.1 d_Md_rowFrom_99 (lv_at hl 5 rfl) ?_
              refine lv_goto F.1 F.2.1 d_Md_rowFrom_101 rfl ?_
              cases hj20
              exact KJ19 _ _ _ (lv_sub hl [0, 1, 2, 3, 5] rfl) hP
          refine lv_if_ge F.1 F.2.1 d_Md_rowFrom_85 rfl (fun hb25 => ?_) (fun hb25 => ?_)
          · rw [if_pos hb25] at hj24
            refine lv_iload F.1 F.2.1 d_Md_rowFrom_92 (lv_at hl 5 rfl) ?_
            subst hj24
            exact KJ23 _ _ _ (lv_sub hl [1, 2, 3, 4, 5, 6] rfl) hP
          · rw [if_neg hb25] at hj24
            refine lv_iconst (v := 0) F.1 F.2.1 d_Md_rowFrom_88 (by decide) ?_
            refine lv_goto F.1 F.2.1 d_Md_rowFrom_89 rfl ?_
            subst hj24
            exact KJ23 _ _ _ (lv_sub hl [1, 2, 3, 4, 5, 6] rfl) hP
    refine lv_icmp_ne F.1 F.2.1 d_Md_rowFrom_23 rfl (fun hb17 => ?_) (fun hb17 => ?_)
    · rw [if_neg hb17] at hj11
      refine lv_iconst (v := 0) F.1 F.2.1 d_Md_rowFrom_59 (by decide) ?_
      cases hj11
      exact KJ10 _ _ _ (lv_sub hl [0, 1, 2, 3, 4, 5] rfl) hP
    · rw [if_pos hb17] at hj11
      refine lv_aload_n F.1 F.2.1 d_Md_rowFrom_26 rfl (lv_at hl 0 rfl) ?_
      refine g_get F hP 9 5 0 (by decide) Nat.zero_lt_one (by decide) (v := .ref (xL X 28 0)) rfl w_878 d_Md_rowFrom_27 ?_
      refine lv_iload F.1 F.2.1 d_Md_rowFrom_30 (lv_at hl 5 rfl) ?_
      obtain ⟨hc12, hj11⟩ := chk_some hj11
      refine g_lld F hP 28 (by decide) (by decide) Nat.zero_lt_one rfl rfl hc12 d_Md_rowFrom_32 ?_
      refine lv_lload_n F.1 F.2.1 d_Md_rowFrom_33 rfl (lv_at hl 2 rfl) ?_
      refine g_lc_gt F d_Md_rowFrom_34 d_Md_rowFrom_35 rfl (fun hb16 => ?_) (fun hb16 => ?_)
      · rw [if_pos hb16] at hj11
        refine lv_iconst (v := 1) F.1 F.2.1 d_Md_rowFrom_55 (by decide) ?_
        refine lv_goto F.1 F.2.1 d_Md_rowFrom_56 rfl ?_
        cases hj11
        exact KJ10 _ _ _ (lv_sub hl [0, 1, 2, 3, 4, 5] rfl) hP
      · rw [if_neg hb16] at hj11
        refine lv_aload_n F.1 F.2.1 d_Md_rowFrom_38 rfl (lv_at hl 0 rfl) ?_
        refine g_get F hP 9 5 0 (by decide) Nat.zero_lt_one (by decide) (v := .ref (xL X 28 0)) rfl w_878 d_Md_rowFrom_39 ?_
        refine lv_iload F.1 F.2.1 d_Md_rowFrom_42 (lv_at hl 5 rfl) ?_
        obtain ⟨hc13, hj11⟩ := chk_some hj11
        refine g_lld F hP 28 (by decide) (by decide) Nat.zero_lt_one rfl rfl hc13 d_Md_rowFrom_44 ?_
        refine lv_lload_n F.1 F.2.1 d_Md_rowFrom_45 rfl (lv_at hl 2 rfl) ?_
        refine g_lc_ne F d_Md_rowFrom_46 d_Md_rowFrom_47 rfl (fun hb15 => ?_) (fun hb15 => ?_)
        · rw [if_neg hb15] at hj11
          refine lv_iconst (v := 0) F.1 F.2.1 d_Md_rowFrom_59 (by decide) ?_
          cases hj11
          exact KJ10 _ _ _ (lv_sub hl [0, 1, 2, 3, 4, 5] rfl) hP
        · rw [if_pos hb15] at hj11
          refine lv_iload F.1 F.2.1 d_Md_rowFrom_50 (lv_at hl 3 rfl) ?_
          refine lv_if_ne F.1 F.2.1 d_Md_rowFrom_52 rfl (fun hb14 => ?_) (fun hb14 => ?_)
          · rw [if_neg hb14] at hj11
            refine lv_iconst (v := 0) F.1 F.2.1 d_Md_rowFrom_59 (by decide) ?_
            cases hj11
            exact KJ10 _ _ _ (lv_sub hl [0, 1, 2, 3, 4, 5] rfl) hP
          · rw [if_pos hb14] at hj11
            refine lv_iconst (v := 1) F.1 F.2.1 d_Md_rowFrom_55 (by decide) ?_
            refine lv_goto F.1 F.2.1 d_Md_rowFrom_56 rfl ?_
            cases hj11
            exact KJ10 _ _ _ (lv_sub hl [0, 1, 2, 3, 4, 5] rfl) hP

theorem d_Md_firstRow_0 : decode b_Md_firstRow 0 = .ok (.iconst (-1), 1) := by decide +kernel
theorem d_Md_firstRow_1 : decode b_Md_firstRow 1 = .ok (.istore_n 2, 1) := by decide +kernel
theorem d_Md_firstRow_2 : decode b_Md_firstRow 2 = .ok (.iconst 0, 1) := by decide +kernel
theorem d_Md_firstRow_3 : decode b_Md_firstRow 3 = .ok (.istore_n 3, 1) := by decide +kernel
theorem d_Md_firstRow_4 : decode b_Md_firstRow 4 = .ok (.iload_n 3, 1) := by decide +kernel
theorem d_Md_firstRow_5 : decode b_Md_firstRow 5 = .ok (.aload_n 0, 1) := by decide +kernel
theorem d_Md_firstRow_6 : decode b_Md_firstRow 6 = .ok (.getfield 79, 3) := by decide +kernel
theorem d_Md_firstRow_9 : decode b_Md_firstRow 9 = .ok (.if_icmp .ge 53, 3) := by decide +kernel
theorem d_Md_firstRow_12 : decode b_Md_firstRow 12 = .ok (.aload_n 0, 1) := by decide +kernel
theorem d_Md_firstRow_13 : decode b_Md_firstRow 13 = .ok (.getfield 13, 3) := by decide +kernel
theorem d_Md_firstRow_16 : decode b_Md_firstRow 16 = .ok (.iload_n 3, 1) := by decide +kernel
theorem d_Md_firstRow_17 : decode b_Md_firstRow 17 = .ok (.iaload, 1) := by decide +kernel
theorem d_Md_firstRow_18 : decode b_Md_firstRow 18 = .ok (.iload_n 1, 1) := by decide +kernel
theorem d_Md_firstRow_19 : decode b_Md_firstRow 19 = .ok (.if_icmp .ne 35, 3) := by decide +kernel
theorem d_Md_firstRow_22 : decode b_Md_firstRow 22 = .ok (.iload_n 2, 1) := by decide +kernel
theorem d_Md_firstRow_23 : decode b_Md_firstRow 23 = .ok (.ifCond .lt 27, 3) := by decide +kernel
theorem d_Md_firstRow_26 : decode b_Md_firstRow 26 = .ok (.aload_n 0, 1) := by decide +kernel
theorem d_Md_firstRow_27 : decode b_Md_firstRow 27 = .ok (.getfield 16, 3) := by decide +kernel
theorem d_Md_firstRow_30 : decode b_Md_firstRow 30 = .ok (.iload_n 3, 1) := by decide +kernel
theorem d_Md_firstRow_31 : decode b_Md_firstRow 31 = .ok (.laload, 1) := by decide +kernel
theorem d_Md_firstRow_32 : decode b_Md_firstRow 32 = .ok (.aload_n 0, 1) := by decide +kernel
theorem d_Md_firstRow_33 : decode b_Md_firstRow 33 = .ok (.getfield 16, 3) := by decide +kernel
theorem d_Md_firstRow_36 : decode b_Md_firstRow 36 = .ok (.iload_n 2, 1) := by decide +kernel
theorem d_Md_firstRow_37 : decode b_Md_firstRow 37 = .ok (.ifCond .ge 7, 3) := by decide +kernel
theorem d_Md_firstRow_40 : decode b_Md_firstRow 40 = .ok (.iconst 0, 1) := by decide +kernel
theorem d_Md_firstRow_41 : decode b_Md_firstRow 41 = .ok (.goto 4, 3) := by decide +kernel
theorem d_Md_firstRow_44 : decode b_Md_firstRow 44 = .ok (.iload_n 2, 1) := by decide +kernel
theorem d_Md_firstRow_45 : decode b_Md_firstRow 45 = .ok (.laload, 1) := by decide +kernel
theorem d_Md_firstRow_46 : decode b_Md_firstRow 46 = .ok (.lcmp, 1) := by decide +kernel
theorem d_Md_firstRow_47 : decode b_Md_firstRow 47 = .ok (.ifCond .ge 7, 3) := by decide +kernel
theorem d_Md_firstRow_50 : decode b_Md_firstRow 50 = .ok (.iload_n 3, 1) := by decide +kernel
theorem d_Md_firstRow_51 : decode b_Md_firstRow 51 = .ok (.goto 4, 3) := by decide +kernel
theorem d_Md_firstRow_54 : decode b_Md_firstRow 54 = .ok (.iload_n 2, 1) := by decide +kernel
theorem d_Md_firstRow_55 : decode b_Md_firstRow 55 = .ok (.istore_n 2, 1) := by decide +kernel
theorem d_Md_firstRow_56 : decode b_Md_firstRow 56 = .ok (.iinc 3 1, 3) := by decide +kernel
theorem d_Md_firstRow_59 : decode b_Md_firstRow 59 = .ok (.goto (-55), 3) := by decide +kernel
theorem d_Md_firstRow_62 : decode b_Md_firstRow 62 = .ok (.iload_n 2, 1) := by decide +kernel
theorem d_Md_firstRow_63 : decode b_Md_firstRow 63 = .ok (.ireturn, 1) := by decide +kernel
noncomputable def b_Md_firstRow_4 (a1 : Int32) (x2 : Int32) (x3 : Int32) (σ4 : Sg) : Option ((Int32 × Int32 × Sg) ⊕ (Int32 × Sg)) :=
  (if (gi σ4 9 0 3) ≤ x3 then (some (.inr (x2, σ4))) else (chk (vp_in x3 90) (Option.bind (if (gi σ4 27 0 x3.toNatClampNeg) = a1 then (if x2 < 0 then (some (x3)) else (chk (vp_in x3 90) (lt_ ((if 0 ≤ x2 then x2 else 0) : Int32) (fun (x13 : Int32) => chk (vp_in x13 90) ((if (gj σ4 28 0 x13.toNatClampNeg) ≤ (gj σ4 28 0 x3.toNatClampNeg) then (some (x2)) else (some (x3)))))))) else (some (x2))) (fun (x9 : Int32) => lt_ (x3 + 1 : Int32) (fun (x21 : Int32) => some (.inl (x9, x21, σ4)))))))
noncomputable def l_Md_firstRow_4 (a1 : Int32) (x2 : Int32) (x3 : Int32) (σ4 : Sg) : Option (Int32 × Sg) := lp (fun q => b_Md_firstRow_4 a1 q.1 q.2.1 q.2.2) FU (x2, x3, σ4)
noncomputable def f_Md_firstRow (a1 : Int32) (σ : Sg) : Option (Int32 × Sg) :=
  lt_ ((-1) : Int32) (fun (x1 : Int32) => bn2 (l_Md_firstRow_4 a1 x1 0 σ) (fun x23 σ24 => some (x23, σ24)))
abbrev rm_Md_firstRow : Room := { frames := 0, cells := 0, slots := 0, locals := 0 }
set_option maxHeartbeats 4000000 in
set_option maxRecDepth 100000 in
theorem c_Md_firstRow (l : Launch) (X : GX) (n : Nat) {σ σ' : Sg} {r : Int32} {a1 : Int32}  (hf : f_Md_firstRow a1 σ = some (r, σ')) : Met l y_Md_firstRow (cw y_Md_firstRow b_Md_firstRow 4 (some .int)) rm_Md_firstRow (PcG X n σ [.ref (xL X 9 0), .int a1]) (QcG X n σ' (some (.int r))) 0 0 (fr X n) := by
  refine g_head (own := "TableMachineModel") (by decide) rfl (Nat.le_of_ble_eq_true rfl) ?_
  intro p e s m args below meth c ls F hr hlk hP hl
  have hl : lv_has ls 4 [(0, .ref (xL X 9 0)), (1, .int a1)] := hl
  show WG l X n rm_Md_firstRow σ' (some (.int r)) p e s m args below meth c s.heap [] (F0 m 0 ls [])
  unfold f_Md_firstRow at hf
  refine lv_iconst (v := (-1)) F.1 F.2.1 d_Md_firstRow_0 (by decide) ?_
  obtain ⟨x1, e_x1, hf⟩ := lt_some hf
  rw [← e_x1]
  refine lv_istore_n F.1 F.2.1 d_Md_firstRow_1 rfl hl (by decide) rfl (fun ls hl => ?_)
  have hl : lv_has ls 4 [(2, .int x1), (0, .ref (xL X 9 0)), (1, .int a1)] := hl
  refine lv_iconst (v := 0) F.1 F.2.1 d_Md_firstRow_2 (by decide) ?_
  refine lv_istore_n F.1 F.2.1 d_Md_firstRow_3 rfl hl (by decide) rfl (fun ls hl => ?_)
  have hl : lv_has ls 4 [(3, .int 0), (2, .int x1), (0, .ref (xL X 9 0)), (1, .int a1)] := hl
  obtain ⟨x23, σ24, hlp25, hf⟩ := bn2_some hf
  have KX26 : ∀ (ls : Array Slot) (H : Heap) (locs : List Loc), lv_has ls 4 [(2, .int x23)] → St X n σ24 s.heap H locs → WG l X n rm_Md_firstRow σ' (some (.int r)) p e s m args below meth c H locs (F0 m 62 ls []) := by
    intro ls H locs hl hP
    refine lv_iload_n F.1 F.2.1 d_Md_firstRow_62 rfl (lv_at hl 0 rfl) ?_
    cases hf
    exact g_iret F hP hr hlk d_Md_firstRow_63
  unfold l_Md_firstRow_4 at hlp25
  refine lp_W (PW := fun q => ∀ (ls : Array Slot) (H : Heap) (locs : List Loc), lv_has ls 4 [(0, .ref (xL X 9 0)), (1, .int a1), (2, .int q.1), (3, .int q.2.1)] → St X n q.2.2 s.heap H locs → WG l X n rm_Md_firstRow σ' (some (.int r)) p e s m args below meth c H locs (F0 m 4 ls [])) (PE := fun q => ∀ (ls : Array Slot) (H : Heap) (locs : List Loc), lv_has ls 4 [(2, .int q.1)] → St X n q.2 s.heap H locs → WG l X n rm_Md_firstRow σ' (some (.int r)) p e s m args below meth c H locs (F0 m 62 ls [])) ?_ _ _ _ hlp25 KX26 _ _ _ (lv_sub hl [2, 3, 1, 0] rfl) hP
  rintro ⟨x2, x3, σ4⟩ rr5 hb_4 hI6 hE7 ls H locs hl hP
  replace hb_4 : b_Md_firstRow_4 a1 x2 x3 σ4 = some rr5 := hb_4
  unfold b_Md_firstRow_4 at hb_4
  refine lv_iload_n F.1 F.2.1 d_Md_firstRow_4 rfl (lv_at hl 3 rfl) ?_
  refine lv_aload_n F.1 F.2.1 d_Md_firstRow_5 rfl (lv_at hl 0 rfl) ?_
  refine g_get F hP 9 3 0 (by decide) Nat.zero_lt_one (by decide) (v := .int (gi σ4 9 0 3)) rfl w_876 d_Md_firstRow_6 ?_
  refine lv_icmp_ge F.1 F.2.1 d_Md_firstRow_9 rfl (fun hb22 => ?_) (fun hb22 => ?_)
  · rw [if_pos hb22] at hb_4
    cases hb_4
    exact hE7 _ rfl _ _ _ (lv_sub hl [2] rfl) hP
  · rw [if_neg hb22] at hb_4
    refine lv_aload_n F.1 F.2.1 d_Md_firstRow_12 rfl (lv_at hl 0 rfl) ?_
    refine g_get F hP 9 4 0 (by decide) Nat.zero_lt_one (by decide) (v := .ref (xL X 27 0)) rfl w_877 d_Md_firstRow_13 ?_
    refine lv_iload_n F.1 F.2.1 d_Md_firstRow_16 rfl (lv_at hl 3 rfl) ?_
    obtain ⟨hc8, hb_4⟩ := chk_some hb_4
    refine g_ald F hP 27 (by decide) (by decide) Nat.zero_lt_one rfl rfl hc8 d_Md_firstRow_17 ?_
    refine lv_iload_n F.1 F.2.1 d_Md_firstRow_18 rfl (lv_at hl 1 rfl) ?_
    obtain ⟨x9, hj11, hb_4⟩ := bnd_some hb_4
    have KJ10 : ∀ (ls : Array Slot) (H : Heap) (locs : List Loc), lv_has ls 4 [(0, .ref (xL X 9 0)), (1, .int a1), (3, .int x3)] → St X n σ4 s.heap H locs → WG l X n rm_Md_firstRow σ' (some (.int r)) p e s m args below meth c H locs (F0 m 55 ls [.int x9]) := by
      intro ls H locs hl hP
      refine lv_istore_n F.1 F.2.1 d_Md_firstRow_55 rfl hl (by decide) rfl (fun ls hl => ?_)
      have hl : lv_has ls 4 [(2, .int x9), (0, .ref (xL X 9 0)), (1, .int a1), (3, .int x3)] := hl
      obtain ⟨x21, e_x21, hb_4⟩ := lt_some hb_4
      refine lv_iinc (k := 3) (v := x21) F.1 F.2.1 d_Md_firstRow_56 hl rfl (by rw [e_x21]; rfl) (by decide) rfl (fun ls hl => ?_)
      have hl : lv_has ls 4 [(3, .int x21), (2, .int x9), (0, .ref (xL X 9 0)), (1, .int a1)] := hl
      refine lv_goto F.1 F.2.1 d_Md_firstRow_59 rfl ?_
      cases hb_4
      exact hI6 _ rfl _ _ _ (lv_sub hl [2, 3, 1, 0] rfl) hP
    refine lv_icmp_ne F.1 F.2.1 d_Md_firstRow_19 rfl (fun hb20 => ?_) (fun hb20 => ?_)
    · rw [if_neg hb20] at hj11
      refine lv_iload_n F.1 F.2.1 d_Md_firstRow_54 rfl (lv_at hl 2 rfl) ?_
      cases hj11
      exact KJ10 _ _ _ (lv_sub hl [0, 1, 3] rfl) hP
    · rw [if_pos hb20] at hj11
      refine lv_iload_n F.1 F.2.1 d_Md_firstRow_22 rfl (lv_at hl 2 rfl) ?_
      refine lv_if_lt F.1 F.2.1 d_Md_firstRow_23 rfl (fun hb19 => ?_) (fun hb19 => ?_)
      · rw [if_pos hb19] at hj11
        refine lv_iload_n F.1 F.2.1 d_Md_firstRow_50 rfl (lv_at hl 3 rfl) ?_
        refine lv_goto F.1 F.2.1 d_Md_firstRow_51 rfl ?_
        cases hj11
        exact KJ10 _ _ _ (lv_sub hl [0, 1, 3] rfl) hP
      · rw [if_neg hb19] at hj11
        refine lv_aload_n F.1 F.2.1 d_Md_firstRow_26 rfl (lv_at hl 0 rfl) ?_
        refine g_get F hP 9 5 0 (by decide) Nat.zero_lt_one (by decide) (v := .ref (xL X 28 0)) rfl w_878 d_Md_firstRow_27 ?_
        refine lv_iload_n F.1 F.2.1 d_Md_firstRow_30 rfl (lv_at hl 3 rfl) ?_
        obtain ⟨hc12, hj11⟩ := chk_some hj11
        refine g_lld F hP 28 (by decide) (by decide) Nat.zero_lt_one rfl rfl hc12 d_Md_firstRow_31 ?_
        refine lv_aload_n F.1 F.2.1 d_Md_firstRow_32 rfl (lv_at hl 0 rfl) ?_
        refine g_get F hP 9 5 0 (by decide) Nat.zero_lt_one (by decide) (v := .ref (xL X 28 0)) rfl w_878 d_Md_firstRow_33 ?_
        refine lv_iload_n F.1 F.2.1 d_Md_firstRow_36 rfl (lv_at hl 2 rfl) ?_
        obtain ⟨x13, hj15, hj11⟩ := lt_some2 hj11
        have KJ14 : ∀ (ls : Array Slot) (H : Heap) (locs : List Loc), lv_has ls 4 [(0, .ref (xL X 9 0)), (1, .int a1), (2, .int x2), (3, .int x3)] → St X n σ4 s.heap H locs → WG l X n rm_Md_firstRow σ' (some (.int r)) p e s m args below meth c H locs (F0 m 45 ls [.int x13, .ref (xL X 28 0), .long (gj σ4 28 0 x3.toNatClampNeg)]) := by
          intro ls H locs hl hP
          obtain ⟨hc17, hj11⟩ := chk_some hj11
          refine g_lld F hP 28 (by decide) (by decide) Nat.zero_lt_one rfl rfl hc17 d_Md_firstRow_45 ?_
          refine g_lc_ge F d_Md_firstRow_46 d_Md_firstRow_47 rfl (fun hb18 => ?_) (fun hb18 => ?_)
          · rw [if_pos hb18] at hj11
            refine lv_iload_n F.1 F.2.1 d_Md_firstRow_54 rfl (lv_at hl 2 rfl) ?_
            cases hj11
            exact KJ10 _ _ _ (lv_sub hl [0, 1, 3] rfl) hP
          · rw [if_neg hb18] at hj11
            refine lv_iload_n F.1 F.2.1 d_Md_firstRow_50 rfl (lv_at hl 3 rfl) ?_
            refine lv_goto F.1 F.2.1 d_Md_firstRow_51 rfl ?_
            cases hj11
            exact KJ10 _ _ _ (lv_sub hl [0, 1, 3] rfl) hP
        refine lv_if_ge F.1 F.2.1 d_Md_firstRow_37 rfl (fun hb16 => ?_) (fun hb16 => ?_)
        · rw [if_pos hb16] at hj15
          refine lv_iload_n F.1 F.2.1 d_Md_firstRow_44 rfl (lv_at hl 2 rfl) ?_
          subst hj15
          exact KJ14 _ _ _ (lv_sub hl [0, 1, 2, 3] rfl) hP
        · rw [if_neg hb16] at hj15
          refine lv_iconst (v := 0) F.1 F.2.1 d_Md_firstRow_40 (by decide) ?_
          refine lv_goto F.1 F.2.1 d_Md_firstRow_41 rfl ?_
          subst hj15
          exact KJ14 _ _ _ (lv_sub hl [0, 1, 2, 3] rfl) hP

theorem d_Md_lay_0 : decode b_Md_lay 0 = .ok (.aload_n 0, 1) := by decide +kernel
theorem d_Md_lay_1 : decode b_Md_lay 1 = .ok (.getfield 13, 3) := by decide +kernel
theorem d_Md_lay_4 : decode b_Md_lay 4 = .ok (.aload_n 0, 1) := by decide +kernel
theorem d_Md_lay_5 : decode b_Md_lay 5 = .ok (.getfield 79, 3) := by decide +kernel
theorem d_Md_lay_8 : decode b_Md_lay 8 = .ok (.iload_n 1, 1) := by decide +kernel
theorem d_Md_lay_9 : decode b_Md_lay 9 = .ok (.iastore, 1) := by decide +kernel
theorem d_Md_lay_10 : decode b_Md_lay 10 = .ok (.aload_n 0, 1) := by decide +kernel
theorem d_Md_lay_11 : decode b_Md_lay 11 = .ok (.getfield 16, 3) := by decide +kernel
theorem d_Md_lay_14 : decode b_Md_lay 14 = .ok (.aload_n 0, 1) := by decide +kernel
theorem d_Md_lay_15 : decode b_Md_lay 15 = .ok (.getfield 79, 3) := by decide +kernel
theorem d_Md_lay_18 : decode b_Md_lay 18 = .ok (.lload_n 2, 1) := by decide +kernel
theorem d_Md_lay_19 : decode b_Md_lay 19 = .ok (.lastore, 1) := by decide +kernel
theorem d_Md_lay_20 : decode b_Md_lay 20 = .ok (.aload_n 0, 1) := by decide +kernel
theorem d_Md_lay_21 : decode b_Md_lay 21 = .ok (.getfield 23, 3) := by decide +kernel
theorem d_Md_lay_24 : decode b_Md_lay 24 = .ok (.iconst 4, 1) := by decide +kernel
theorem d_Md_lay_25 : decode b_Md_lay 25 = .ok (.aload_n 0, 1) := by decide +kernel
theorem d_Md_lay_26 : decode b_Md_lay 26 = .ok (.getfield 79, 3) := by decide +kernel
theorem d_Md_lay_29 : decode b_Md_lay 29 = .ok (.imul, 1) := by decide +kernel
theorem d_Md_lay_30 : decode b_Md_lay 30 = .ok (.iload 4, 2) := by decide +kernel
theorem d_Md_lay_32 : decode b_Md_lay 32 = .ok (.iadd, 1) := by decide +kernel
theorem d_Md_lay_33 : decode b_Md_lay 33 = .ok (.iload 5, 2) := by decide +kernel
theorem d_Md_lay_35 : decode b_Md_lay 35 = .ok (.bastore, 1) := by decide +kernel
theorem d_Md_lay_36 : decode b_Md_lay 36 = .ok (.aload_n 0, 1) := by decide +kernel
theorem d_Md_lay_37 : decode b_Md_lay 37 = .ok (.getfield 20, 3) := by decide +kernel
theorem d_Md_lay_40 : decode b_Md_lay 40 = .ok (.iconst 4, 1) := by decide +kernel
theorem d_Md_lay_41 : decode b_Md_lay 41 = .ok (.aload_n 0, 1) := by decide +kernel
theorem d_Md_lay_42 : decode b_Md_lay 42 = .ok (.getfield 79, 3) := by decide +kernel
theorem d_Md_lay_45 : decode b_Md_lay 45 = .ok (.imul, 1) := by decide +kernel
theorem d_Md_lay_46 : decode b_Md_lay 46 = .ok (.iload 4, 2) := by decide +kernel
theorem d_Md_lay_48 : decode b_Md_lay 48 = .ok (.iadd, 1) := by decide +kernel
theorem d_Md_lay_49 : decode b_Md_lay 49 = .ok (.iload 5, 2) := by decide +kernel
theorem d_Md_lay_51 : decode b_Md_lay 51 = .ok (.ifCond .eq 8, 3) := by decide +kernel
theorem d_Md_lay_54 : decode b_Md_lay 54 = .ok (.lload 6, 2) := by decide +kernel
theorem d_Md_lay_56 : decode b_Md_lay 56 = .ok (.goto 4, 3) := by decide +kernel
theorem d_Md_lay_59 : decode b_Md_lay 59 = .ok (.lconst 0, 1) := by decide +kernel
theorem d_Md_lay_60 : decode b_Md_lay 60 = .ok (.lastore, 1) := by decide +kernel
theorem d_Md_lay_61 : decode b_Md_lay 61 = .ok (.return_, 1) := by decide +kernel
noncomputable def f_Md_lay (a1 : Int32) (a2 : Int64) (a4 : Int32) (a5 : Int32) (a6 : Int64) (σ : Sg) : Option (Sg) :=
  chk (vp_in (gi σ 9 0 3) 90) (lt_ (si σ 27 0 ((gi σ 9 0 3).toNatClampNeg) a1) (fun σ2 => chk (vp_in (gi σ2 9 0 3) 90) (lt_ (sj σ2 28 0 ((gi σ2 9 0 3).toNatClampNeg) a2) (fun σ4 => chk (vp_in ((4 * (gi σ4 9 0 3)) + a4) 360) (lt_ (si σ4 30 0 (((4 * (gi σ4 9 0 3)) + a4).toNatClampNeg) (vp_nar .boolean a5)) (fun σ6 => lt_ ((if a5 = 0 then 0 else a6) : Int64) (fun (x7 : Int64) => chk (vp_in ((4 * (gi σ6 9 0 3)) + a4) 360) (lt_ (sj σ6 29 0 (((4 * (gi σ6 9 0 3)) + a4).toNatClampNeg) x7) (fun σ12 => some σ12)))))))))
abbrev rm_Md_lay : Room := { frames := 0, cells := 0, slots := 0, locals := 0 }
set_option maxHeartbeats 4000000 in
set_option maxRecDepth 100000 in
theorem c_Md_lay (l : Launch) (X : GX) (n : Nat) {σ σ' : Sg} {a1 : Int32} {a2 : Int64} {a4 : Int32} {a5 : Int32} {a6 : Int64}  (hf : f_Md_lay a1 a2 a4 a5 a6 σ = some σ') : Met l y_Md_lay (cw y_Md_lay b_Md_lay 8 none) rm_Md_lay (PcG X n σ [.ref (xL X 9 0), .int a1, .long a2, .int a4, .int a5, .long a6]) (QcG X n σ' none) 0 0 (fr X n) := by
  refine g_head (own := "TableMachineModel") (by decide) rfl (Nat.le_of_ble_eq_true rfl) ?_
  intro p e s m args below meth c ls F hr hlk hP hl
  have hl : lv_has ls 8 [(0, .ref (xL X 9 0)), (1, .int a1), (2, .long a2), (4, .int a4), (5, .int a5), (6, .long a6)] := hl
  show WG l X n rm_Md_lay σ' none p e s m args below meth c s.heap [] (F0 m 0 ls [])
  unfold f_Md_lay at hf
  refine lv_aload_n F.1 F.2.1 d_Md_lay_0 rfl (lv_at hl 0 rfl) ?_
  refine g_get F hP 9 4 0 (by decide) Nat.zero_lt_one (by decide) (v := .ref (xL X 27 0)) rfl w_877 d_Md_lay_1 ?_
  refine lv_aload_n F.1 F.2.1 d_Md_lay_4 rfl (lv_at hl 0 rfl) ?_
  refine g_get F hP 9 3 0 (by decide) Nat.zero_lt_one (by decide) (v := .int (gi σ 9 0 3)) rfl w_876 d_Md_lay_5 ?_
  refine lv_iload_n F.1 F.2.1 d_Md_lay_8 rfl (lv_at hl 1 rfl) ?_
  obtain ⟨hc1, hf⟩ := chk_some hf
  obtain ⟨σ2, e_σ2, hf⟩ := lt_some hf
  refine g_ast F hP 27 (by decide) (by decide) Nat.zero_lt_one rfl rfl hc1 d_Md_lay_9 e_σ2 (fun H locs hP => ?_)
  refine lv_aload_n F.1 F.2.1 d_Md_lay_10 rfl (lv_at hl 0 rfl) ?_
  refine g_get F hP 9 5 0 (by decide) Nat.zero_lt_one (by decide) (v := .ref (xL X 28 0)) rfl w_878 d_Md_lay_11 ?_
  refine lv_aload_n F.1 F.2.1 d_Md_lay_14 rfl (lv_at hl 0 rfl) ?_
  refine g_get F hP 9 3 0 (by decide) Nat.zero_lt_one (by decide) (v := .int (gi σ2 9 0 3)) rfl w_876 d_Md_lay_15 ?_
  refine lv_lload_n F.1 F.2.1 d_Md_lay_18 rfl (lv_at hl 2 rfl) ?_
  obtain ⟨hc3, hf⟩ := chk_some hf
  obtain ⟨σ4, e_σ4, hf⟩ := lt_some hf
  refine g_lst F hP 28 (by decide) (by decide) Nat.zero_lt_one rfl rfl hc3 d_Md_lay_19 e_σ4 (fun H locs hP => ?_)
  refine lv_aload_n F.1 F.2.1 d_Md_lay_20 rfl (lv_at hl 0 rfl) ?_
  refine g_get F hP 9 7 0 (by decide) Nat.zero_lt_one (by decide) (v := .ref (xL X 30 0)) rfl w_880 d_Md_lay_21 ?_
  refine lv_iconst (v := 4) F.1 F.2.1 d_Md_lay_24 (by decide) ?_
  refine lv_aload_n F.1 F.2.1 d_Md_lay_25 rfl (lv_at hl 0 rfl) ?_
  refine g_get F hP 9 3 0 (by decide) Nat.zero_lt_one (by decide) (v := .int (gi σ4 9 0 3)) rfl w_876 d_Md_lay_26 ?_
  refine lv_imul F.1 F.2.1 d_Md_lay_29 ?_
  refine lv_iload F.1 F.2.1 d_Md_lay_30 (lv_at hl 3 rfl) ?_
  refine lv_iadd F.1 F.2.1 d_Md_lay_32 ?_
  refine lv_iload F.1 F.2.1 d_Md_lay_33 (lv_at hl 4 rfl) ?_
  obtain ⟨hc5, hf⟩ := chk_some hf
  obtain ⟨σ6, e_σ6, hf⟩ := lt_some hf
  refine g_zst F hP 30 (by decide) (by decide) Nat.zero_lt_one rfl rfl hc5 d_Md_lay_35 e_σ6 (fun H locs hP => ?_)
  refine lv_aload_n F.1 F.2.1 d_Md_lay_36 rfl (lv_at hl 0 rfl) ?_
  refine g_get F hP 9 6 0 (by decide) Nat.zero_lt_one (by decide) (v := .ref (xL X 29 0)) rfl w_879 d_Md_lay_37 ?_
  refine lv_iconst (v := 4) F.1 F.2.1 d_Md_lay_40 (by decide) ?_
  refine lv_aload_n F.1 F.2.1 d_Md_lay_41 rfl (lv_at hl 0 rfl) ?_
  refine g_get F hP 9 3 0 (by decide) Nat.zero_lt_one (by decide) (v := .int (gi σ6 9 0 3)) rfl w_876 d_Md_lay_42 ?_
  refine lv_imul F.1 F.2.1 d_Md_lay_45 ?_
  refine lv_iload F.1 F.2.1 d_Md_lay_46 (lv_at hl 3 rfl) ?_
  refine lv_iadd F.1 F.2.1 d_Md_lay_48 ?_
  refine lv_iload F.1 F.2.1 d_Md_lay_49 (lv_at hl 4 rfl) ?_
  obtain ⟨x7, hj9, hf⟩ := lt_some2 hf
  have KJ8 : ∀ (ls : Array Slot) (H : Heap) (locs : List Loc), lv_has ls 8 [] → St X n σ6 s.heap H locs → WG l X n rm_Md_lay σ' none p e s m args below meth c H locs (F0 m 60 ls [.long x7, .int ((4 * (gi σ6 9 0 3)) + a4), .ref (xL X 29 0)]) := by
    intro ls H locs hl hP
    obtain ⟨hc11, hf⟩ := chk_some hf
    obtain ⟨σ12, e_σ12, hf⟩ := lt_some hf
    refine g_lst F hP 29 (by decide) (by decide) Nat.zero_lt_one rfl rfl hc11 d_Md_lay_60 e_σ12 (fun H locs hP => ?_)
    cases hf
    exact g_vret F hP hr hlk d_Md_lay_61
  refine lv_if_eq F.1 F.2.1 d_Md_lay_51 rfl (fun hb10 => ?_) (fun hb10 => ?_)
  · rw [if_pos hb10] at hj9
    refine lv_lconst (v := 0) F.1 F.2.1 d_Md_lay_59 (by decide) ?_
    subst hj9
    exact KJ8 _ _ _ (lv_sub hl [] rfl) hP
  · rw [if_neg hb10] at hj9
    refine lv_lload F.1 F.2.1 d_Md_lay_54 (lv_at hl 5 rfl) ?_
    refine lv_goto F.1 F.2.1 d_Md_lay_56 rfl ?_
    subst hj9
    exact KJ8 _ _ _ (lv_sub hl [] rfl) hP

theorem d_Md_take_0 : decode b_Md_take 0 = .ok (.aload_n 0, 1) := by decide +kernel
theorem d_Md_take_1 : decode b_Md_take 1 = .ok (.dup, 1) := by decide +kernel
theorem d_Md_take_2 : decode b_Md_take 2 = .ok (.getfield 79, 3) := by decide +kernel
theorem d_Md_take_5 : decode b_Md_take 5 = .ok (.iconst 1, 1) := by decide +kernel
theorem d_Md_take_6 : decode b_Md_take 6 = .ok (.isub, 1) := by decide +kernel
theorem d_Md_take_7 : decode b_Md_take 7 = .ok (.putfield 79, 3) := by decide +kernel
theorem d_Md_take_10 : decode b_Md_take 10 = .ok (.aload_n 0, 1) := by decide +kernel
theorem d_Md_take_11 : decode b_Md_take 11 = .ok (.getfield 13, 3) := by decide +kernel
theorem d_Md_take_14 : decode b_Md_take 14 = .ok (.iload_n 1, 1) := by decide +kernel
theorem d_Md_take_15 : decode b_Md_take 15 = .ok (.aload_n 0, 1) := by decide +kernel
theorem d_Md_take_16 : decode b_Md_take 16 = .ok (.getfield 13, 3) := by decide +kernel
theorem d_Md_take_19 : decode b_Md_take 19 = .ok (.aload_n 0, 1) := by decide +kernel
theorem d_Md_take_20 : decode b_Md_take 20 = .ok (.getfield 79, 3) := by decide +kernel
theorem d_Md_take_23 : decode b_Md_take 23 = .ok (.iaload, 1) := by decide +kernel
theorem d_Md_take_24 : decode b_Md_take 24 = .ok (.iastore, 1) := by decide +kernel
theorem d_Md_take_25 : decode b_Md_take 25 = .ok (.aload_n 0, 1) := by decide +kernel
theorem d_Md_take_26 : decode b_Md_take 26 = .ok (.getfield 16, 3) := by decide +kernel
theorem d_Md_take_29 : decode b_Md_take 29 = .ok (.iload_n 1, 1) := by decide +kernel
theorem d_Md_take_30 : decode b_Md_take 30 = .ok (.aload_n 0, 1) := by decide +kernel
theorem d_Md_take_31 : decode b_Md_take 31 = .ok (.getfield 16, 3) := by decide +kernel
theorem d_Md_take_34 : decode b_Md_take 34 = .ok (.aload_n 0, 1) := by decide +kernel
theorem d_Md_take_35 : decode b_Md_take 35 = .ok (.getfield 79, 3) := by decide +kernel
theorem d_Md_take_38 : decode b_Md_take 38 = .ok (.laload, 1) := by decide +kernel
theorem d_Md_take_39 : decode b_Md_take 39 = .ok (.lastore, 1) := by decide +kernel
theorem d_Md_take_40 : decode b_Md_take 40 = .ok (.iconst 0, 1) := by decide +kernel
theorem d_Md_take_41 : decode b_Md_take 41 = .ok (.istore_n 2, 1) := by decide +kernel
theorem d_Md_take_42 : decode b_Md_take 42 = .ok (.iload_n 2, 1) := by decide +kernel
theorem d_Md_take_43 : decode b_Md_take 43 = .ok (.iconst 4, 1) := by decide +kernel
theorem d_Md_take_44 : decode b_Md_take 44 = .ok (.if_icmp .ge 55, 3) := by decide +kernel
theorem d_Md_take_47 : decode b_Md_take 47 = .ok (.aload_n 0, 1) := by decide +kernel
theorem d_Md_take_48 : decode b_Md_take 48 = .ok (.getfield 23, 3) := by decide +kernel
theorem d_Md_take_51 : decode b_Md_take 51 = .ok (.iconst 4, 1) := by decide +kernel
theorem d_Md_take_52 : decode b_Md_take 52 = .ok (.iload_n 1, 1) := by decide +kernel
theorem d_Md_take_53 : decode b_Md_take 53 = .ok (.imul, 1) := by decide +kernel
theorem d_Md_take_54 : decode b_Md_take 54 = .ok (.iload_n 2, 1) := by decide +kernel
theorem d_Md_take_55 : decode b_Md_take 55 = .ok (.iadd, 1) := by decide +kernel
theorem d_Md_take_56 : decode b_Md_take 56 = .ok (.aload_n 0, 1) := by decide +kernel
theorem d_Md_take_57 : decode b_Md_take 57 = .ok (.getfield 23, 3) := by decide +kernel
theorem d_Md_take_60 : decode b_Md_take 60 = .ok (.iconst 4, 1) := by decide +kernel
theorem d_Md_take_61 : decode b_Md_take 61 = .ok (.aload_n 0, 1) := by decide +kernel
theorem d_Md_take_62 : decode b_Md_take 62 = .ok (.getfield 79, 3) := by decide +kernel
theorem d_Md_take_65 : decode b_Md_take 65 = .ok (.imul, 1) := by decide +kernel
theorem d_Md_take_66 : decode b_Md_take 66 = .ok (.iload_n 2, 1) := by decide +kernel
theorem d_Md_take_67 : decode b_Md_take 67 = .ok (.iadd, 1) := by decide +kernel
theorem d_Md_take_68 : decode b_Md_take 68 = .ok (.baload, 1) := by decide +kernel
theorem d_Md_take_69 : decode b_Md_take 69 = .ok (.bastore, 1) := by decide +kernel
theorem d_Md_take_70 : decode b_Md_take 70 = .ok (.aload_n 0, 1) := by decide +kernel
theorem d_Md_take_71 : decode b_Md_take 71 = .ok (.getfield 20, 3) := by decide +kernel
theorem d_Md_take_74 : decode b_Md_take 74 = .ok (.iconst 4, 1) := by decide +kernel
theorem d_Md_take_75 : decode b_Md_take 75 = .ok (.iload_n 1, 1) := by decide +kernel
theorem d_Md_take_76 : decode b_Md_take 76 = .ok (.imul, 1) := by decide +kernel
theorem d_Md_take_77 : decode b_Md_take 77 = .ok (.iload_n 2, 1) := by decide +kernel
theorem d_Md_take_78 : decode b_Md_take 78 = .ok (.iadd, 1) := by decide +kernel
theorem d_Md_take_79 : decode b_Md_take 79 = .ok (.aload_n 0, 1) := by decide +kernel
theorem d_Md_take_80 : decode b_Md_take 80 = .ok (.getfield 20, 3) := by decide +kernel
theorem d_Md_take_83 : decode b_Md_take 83 = .ok (.iconst 4, 1) := by decide +kernel
theorem d_Md_take_84 : decode b_Md_take 84 = .ok (.aload_n 0, 1) := by decide +kernel
theorem d_Md_take_85 : decode b_Md_take 85 = .ok (.getfield 79, 3) := by decide +kernel
theorem d_Md_take_88 : decode b_Md_take 88 = .ok (.imul, 1) := by decide +kernel
theorem d_Md_take_89 : decode b_Md_take 89 = .ok (.iload_n 2, 1) := by decide +kernel
theorem d_Md_take_90 : decode b_Md_take 90 = .ok (.iadd, 1) := by decide +kernel
theorem d_Md_take_91 : decode b_Md_take 91 = .ok (.laload, 1) := by decide +kernel
theorem d_Md_take_92 : decode b_Md_take 92 = .ok (.lastore, 1) := by decide +kernel
theorem d_Md_take_93 : decode b_Md_take 93 = .ok (.iinc 2 1, 3) := by decide +kernel
theorem d_Md_take_96 : decode b_Md_take 96 = .ok (.goto (-54), 3) := by decide +kernel
theorem d_Md_take_99 : decode b_Md_take 99 = .ok (.return_, 1) := by decide +kernel
noncomputable def b_Md_take_42 (a1 : Int32) (x8 : Int32) (σ9 : Sg) : Option ((Int32 × Sg) ⊕ (Sg)) :=
  (if 4 ≤ x8 then (some (.inr σ9)) else (chk (vp_in ((4 * (gi σ9 9 0 3)) + x8) 360) (chk (vp_in ((4 * a1) + x8) 360) (lt_ (si σ9 30 0 (((4 * a1) + x8).toNatClampNeg) (vp_nar .boolean (gi σ9 30 0 (((4 * (gi σ9 9 0 3)) + x8).toNatClampNeg)))) (fun σ15 => chk (vp_in ((4 * (gi σ15 9 0 3)) + x8) 360) (chk (vp_in ((4 * a1) + x8) 360) (lt_ (sj σ15 29 0 (((4 * a1) + x8).toNatClampNeg) (gj σ15 29 0 (((4 * (gi σ15 9 0 3)) + x8).toNatClampNeg))) (fun σ18 => lt_ (x8 + 1 : Int32) (fun (x19 : Int32) => some (.inl (x19, σ18)))))))))))
noncomputable def l_Md_take_42 (a1 : Int32) (x8 : Int32) (σ9 : Sg) : Option (Sg) := lp (fun q => b_Md_take_42 a1 q.1 q.2) FU (x8, σ9)
noncomputable def f_Md_take (a1 : Int32) (σ : Sg) : Option (Sg) :=
  lt_ (si σ 9 0 3 ((gi σ 9 0 3) - 1)) (fun σ1 => chk (vp_in (gi σ1 9 0 3) 90) (chk (vp_in a1 90) (lt_ (si σ1 27 0 a1.toNatClampNeg (gi σ1 27 0 ((gi σ1 9 0 3).toNatClampNeg))) (fun σ4 => chk (vp_in (gi σ4 9 0 3) 90) (chk (vp_in a1 90) (lt_ (sj σ4 28 0 a1.toNatClampNeg (gj σ4 28 0 ((gi σ4 9 0 3).toNatClampNeg))) (fun σ7 => (l_Md_take_42 a1 0 σ7).bind (fun σ21 => some σ21))))))))
abbrev rm_Md_take : Room := { frames := 0, cells := 0, slots := 0, locals := 0 }
set_option maxHeartbeats 4000000 in
set_option maxRecDepth 100000 in
theorem c_Md_take (l : Launch) (X : GX) (n : Nat) {σ σ' : Sg} {a1 : Int32}  (hf : f_Md_take a1 σ = some σ') : Met l y_Md_take (cw y_Md_take b_Md_take 3 none) rm_Md_take (PcG X n σ [.ref (xL X 9 0), .int a1]) (QcG X n σ' none) 0 0 (fr X n) := by
  refine g_head (own := "TableMachineModel") (by decide) rfl (Nat.le_of_ble_eq_true rfl) ?_
  intro p e s m args below meth c ls F hr hlk hP hl
  have hl : lv_has ls 3 [(0, .ref (xL X 9 0)), (1, .int a1)] := hl
  show WG l X n rm_Md_take σ' none p e s m args below meth c s.heap [] (F0 m 0 ls [])
  unfold f_Md_take at hf
  refine lv_aload_n F.1 F.2.1 d_Md_take_0 rfl (lv_at hl 0 rfl) ?_
  refine lv_dup F.1 F.2.1 d_Md_take_1 rfl ?_
  refine g_get F hP 9 3 0 (by decide) Nat.zero_lt_one (by decide) (v := .int (gi σ 9 0 3)) rfl w_876 d_Md_take_2 ?_
  refine lv_iconst (v := 1) F.1 F.2.1 d_Md_take_5 (by decide) ?_
  refine lv_isub F.1 F.2.1 d_Md_take_6 ?_
  obtain ⟨σ1, e_σ1, hf⟩ := lt_some hf
  refine g_puti F hP 9 3 0 (by decide) Nat.zero_lt_one (by decide) rfl rfl rfl rfl (Or.inl w_876) d_Md_take_7 e_σ1 (fun H locs hP => ?_)
  refine lv_aload_n F.1 F.2.1 d_Md_take_10 rfl (lv_at hl 0 rfl) ?_
  refine g_get F hP 9 4 0 (by decide) Nat.zero_lt_one (by decide) (v := .ref (xL X 27 0)) rfl w_877 d_Md_take_11 ?_
  refine lv_iload_n F.1 F.2.1 d_Md_take_14 rfl (lv_at hl 1 rfl) ?_
  refine lv_aload_n F.1 F.2.1 d_Md_take_15 rfl (lv_at hl 0 rfl) ?_
  refine g_get F hP 9 4 0 (by decide) Nat.zero_lt_one (by decide) (v := .ref (xL X 27 0)) rfl w_877 d_Md_take_16 ?_
  refine lv_aload_n F.1 F.2.1 d_Md_take_19 rfl (lv_at hl 0 rfl) ?_
  refine g_get F hP 9 3 0 (by decide) Nat.zero_lt_one (by decide) (v := .int (gi σ1 9 0 3)) rfl w_876 d_Md_take_20 ?_
  obtain ⟨hc2, hf⟩ := chk_some hf
  refine g_ald F hP 27 (by decide) (by decide) Nat.zero_lt_one rfl rfl hc2 d_Md_take_23 ?_
  obtain ⟨hc3, hf⟩ := chk_some hf
  obtain ⟨σ4, e_σ4, hf⟩ := lt_some hf
  refine g_ast F hP 27 (by decide) (by decide) Nat.zero_lt_one rfl rfl hc3 d_Md_take_24 e_σ4 (fun H locs hP => ?_)
  refine lv_aload_n F.1 F.2.1 d_Md_take_25 rfl (lv_at hl 0 rfl) ?_
  refine g_get F hP 9 5 0 (by decide) Nat.zero_lt_one (by decide) (v := .ref (xL X 28 0)) rfl w_878 d_Md_take_26 ?_
  refine lv_iload_n F.1 F.2.1 d_Md_take_29 rfl (lv_at hl 1 rfl) ?_
  refine lv_aload_n F.1 F.2.1 d_Md_take_30 rfl (lv_at hl 0 rfl) ?_
  refine g_get F hP 9 5 0 (by decide) Nat.zero_lt_one (by decide) (v := .ref (xL X 28 0)) rfl w_878 d_Md_take_31 ?_
  refine lv_aload_n F.1 F.2.1 d_Md_take_34 rfl (lv_at hl 0 rfl) ?_
  refine g_get F hP 9 3 0 (by decide) Nat.zero_lt_one (by decide) (v := .int (gi σ4 9 0 3)) rfl w_876 d_Md_take_35 ?_
  obtain ⟨hc5, hf⟩ := chk_some hf
  refine g_lld F hP 28 (by decide) (by decide) Nat.zero_lt_one rfl rfl hc5 d_Md_take_38 ?_
  obtain ⟨hc6, hf⟩ := chk_some hf
  obtain ⟨σ7, e_σ7, hf⟩ := lt_some hf
  refine g_lst F hP 28 (by decide) (by decide) Nat.zero_lt_one rfl rfl hc6 d_Md_take_39 e_σ7 (fun H locs hP => ?_)
  refine lv_iconst (v := 0) F.1 F.2.1 d_Md_take_40 (by decide) ?_
  refine lv_istore_n F.1 F.2.1 d_Md_take_41 rfl hl (by decide) rfl (fun ls hl => ?_)
  have hl : lv_has ls 3 [(2, .int 0), (0, .ref (xL X 9 0)), (1, .int a1)] := hl
  obtain ⟨σ21, hlp22, hf⟩ := bnd_some hf
  have KX23 : ∀ (ls : Array Slot) (H : Heap) (locs : List Loc), lv_has ls 3 [] → St X n σ21 s.heap H locs → WG l X n rm_Md_take σ' none p e s m args below meth c H locs (F0 m 99 ls []) := by
    intro ls H locs hl hP
    cases hf
    exact g_vret F hP hr hlk d_Md_take_99
  unfold l_Md_take_42 at hlp22
  refine lp_W (PW := fun q => ∀ (ls : Array Slot) (H : Heap) (locs : List Loc), lv_has ls 3 [(0, .ref (xL X 9 0)), (1, .int a1), (2, .int q.1)] → St X n q.2 s.heap H locs → WG l X n rm_Md_take σ' none p e s m args below meth c H locs (F0 m 42 ls [])) (PE := fun q => ∀ (ls : Array Slot) (H : Heap) (locs : List Loc), lv_has ls 3 [] → St X n q s.heap H locs → WG l X n rm_Md_take σ' none p e s m args below meth c H locs (F0 m 99 ls [])) ?_ _ _ _ hlp22 KX23 _ _ _ (lv_sub hl [1, 2, 0] rfl) hP
  rintro ⟨x8, σ9⟩ rr10 hb_42 hI11 hE12 ls H locs hl hP
  replace hb_42 : b_Md_take_42 a1 x8 σ9 = some rr10 := hb_42
  unfold b_Md_take_42 at hb_42
  refine lv_iload_n F.1 F.2.1 d_Md_take_42 rfl (lv_at hl 2 rfl) ?_
  refine lv_iconst (v := 4) F.1 F.2.1 d_Md_take_43 (by decide) ?_
  refine lv_icmp_ge F.1 F.2.1 d_Md_take_44 rfl (fun hb20 => ?_) (fun hb20 => ?_)
  · rw [if_pos hb20] at hb_42
    cases hb_42
    exact hE12 _ rfl _ _ _ (lv_sub hl [] rfl) hP
  · rw [if_neg hb20] at hb_42
    refine lv_aload_n F.1 F.2.1 d_Md_take_47 rfl (lv_at hl 0 rfl) ?_
    refine g_get F hP 9 7 0 (by decide) Nat.zero_lt_one (by decide) (v := .ref (xL X 30 0)) rfl w_880 d_Md_take_48 ?_
    refine lv_iconst (v := 4) F.1 F.2.1 d_Md_take_51 (by decide) ?_
    refine lv_iload_n F.1 F.2.1 d_Md_take_52 rfl (lv_at hl 1 rfl) ?_
    refine lv_imul F.1 F.2.1 d_Md_take_53 ?_
    refine lv_iload_n F.1 F.2.1 d_Md_take_54 rfl (lv_at hl 2 rfl) ?_
    refine lv_iadd F.1 F.2.1 d_Md_take_55 ?_
    refine lv_aload_n F.1 F.2.1 d_Md_take_56 rfl (lv_at hl 0 rfl) ?_
    refine g_get F hP 9 7 0 (by decide) Nat.zero_lt_one (by decide) (v := .ref (xL X 30 0)) rfl w_880 d_Md_take_57 ?_
    refine lv_iconst (v := 4) F.1 F.2.1 d_Md_take_60 (by decide) ?_
    refine lv_aload_n F.1 F.2.1 d_Md_take_61 rfl (lv_at hl 0 rfl) ?_
    refine g_get F hP 9 3 0 (by decide) Nat.zero_lt_one (by decide) (v := .int (gi σ9 9 0 3)) rfl w_876 d_Md_take_62 ?_
    refine lv_imul F.1 F.2.1 d_Md_take_65 ?_
    refine lv_iload_n F.1 F.2.1 d_Md_take_66 rfl (lv_at hl 2 rfl) ?_
    refine lv_iadd F.1 F.2.1 d_Md_take_67 ?_
    obtain ⟨hc13, hb_42⟩ := chk_some hb_42
    refine g_zld F hP 30 (by decide) (by decide) Nat.zero_lt_one rfl rfl hc13 d_Md_take_68 ?_
    obtain ⟨hc14, hb_42⟩ := chk_some hb_42
    obtain ⟨σ15, e_σ15, hb_42⟩ := lt_some hb_42
    refine g_zst F hP 30 (by decide) (by decide) Nat.zero_lt_one rfl rfl hc14 d_Md_take_69 e_σ15 (fun H locs hP => ?_)
    refine lv_aload_n F.1 F.2.1 d_Md_take_70 rfl (lv_at hl 0 rfl) ?_
    refine g_get F hP 9 6 0 (by decide) Nat.zero_lt_one (by decide) (v := .ref (xL X 29 0)) rfl w_879 d_Md_take_71 ?_
    refine lv_iconst (v := 4) F.1 F.2.1 d_Md_take_74 (by decide) ?_
    refine lv_iload_n F.1 F.2.1 d_Md_take_75 rfl (lv_at hl 1 rfl) ?_
    refine lv_imul F.1 F.2.1 d_Md_take_76 ?_
    refine lv_iload_n F.1 F.2.1 d_Md_take_77 rfl (lv_at hl 2 rfl) ?_
    refine lv_iadd F.1 F.2.1 d_Md_take_78 ?_
    refine lv_aload_n F.1 F.2.1 d_Md_take_79 rfl (lv_at hl 0 rfl) ?_
    refine g_get F hP 9 6 0 (by decide) Nat.zero_lt_one (by decide) (v := .ref (xL X 29 0)) rfl w_879 d_Md_take_80 ?_
    refine lv_iconst (v := 4) F.1 F.2.1 d_Md_take_83 (by decide) ?_
    refine lv_aload_n F.1 F.2.1 d_Md_take_84 rfl (lv_at hl 0 rfl) ?_
    refine g_get F hP 9 3 0 (by decide) Nat.zero_lt_one (by decide) (v := .int (gi σ15 9 0 3)) rfl w_876 d_Md_take_85 ?_
    refine lv_imul F.1 F.2.1 d_Md_take_88 ?_
    refine lv_iload_n F.1 F.2.1 d_Md_take_89 rfl (lv_at hl 2 rfl) ?_
    refine lv_iadd F.1 F.2.1 d_Md_take_90 ?_
    obtain ⟨hc16, hb_42⟩ := chk_some hb_42
    refine g_lld F hP 29 (by decide) (by decide) Nat.zero_lt_one rfl rfl hc16 d_Md_take_91 ?_
    obtain ⟨hc17, hb_42⟩ := chk_some hb_42
    obtain ⟨σ18, e_σ18, hb_42⟩ := lt_some hb_42
    refine g_lst F hP 29 (by decide) (by decide) Nat.zero_lt_one rfl rfl hc17 d_Md_take_92 e_σ18 (fun H locs hP => ?_)
    obtain ⟨x19, e_x19, hb_42⟩ := lt_some hb_42
    refine lv_iinc (k := 2) (v := x19) F.1 F.2.1 d_Md_take_93 hl rfl (by rw [e_x19]; rfl) (by decide) rfl (fun ls hl => ?_)
    have hl : lv_has ls 3 [(2, .int x19), (0, .ref (xL X 9 0)), (1, .int a1)] := hl
    refine lv_goto F.1 F.2.1 d_Md_take_96 rfl ?_
    cases hb_42
    exact hI11 _ rfl _ _ _ (lv_sub hl [1, 2, 0] rfl) hP

theorem d_Md_insert_0 : decode b_Md_insert 0 = .ok (.aload_n 0, 1) := by decide +kernel
theorem d_Md_insert_1 : decode b_Md_insert 1 = .ok (.aload_n 0, 1) := by decide +kernel
theorem d_Md_insert_2 : decode b_Md_insert 2 = .ok (.iload_n 1, 1) := by decide +kernel
theorem d_Md_insert_3 : decode b_Md_insert 3 = .ok (.invokevirtual 82, 3) := by decide +kernel
theorem d_Md_insert_6 : decode b_Md_insert 6 = .ok (.ifCond .ne 7, 3) := by decide +kernel
theorem d_Md_insert_9 : decode b_Md_insert 9 = .ok (.iconst 1, 1) := by decide +kernel
theorem d_Md_insert_10 : decode b_Md_insert 10 = .ok (.goto 17, 3) := by decide +kernel
theorem d_Md_insert_13 : decode b_Md_insert 13 = .ok (.aload_n 0, 1) := by decide +kernel
theorem d_Md_insert_14 : decode b_Md_insert 14 = .ok (.getfield 79, 3) := by decide +kernel
theorem d_Md_insert_17 : decode b_Md_insert 17 = .ok (.bipush 90, 2) := by decide +kernel
theorem d_Md_insert_19 : decode b_Md_insert 19 = .ok (.if_icmp .ne 7, 3) := by decide +kernel
theorem d_Md_insert_22 : decode b_Md_insert 22 = .ok (.iconst 2, 1) := by decide +kernel
theorem d_Md_insert_23 : decode b_Md_insert 23 = .ok (.goto 4, 3) := by decide +kernel
theorem d_Md_insert_26 : decode b_Md_insert 26 = .ok (.iconst 0, 1) := by decide +kernel
theorem d_Md_insert_27 : decode b_Md_insert 27 = .ok (.putfield 73, 3) := by decide +kernel
theorem d_Md_insert_30 : decode b_Md_insert 30 = .ok (.aload_n 0, 1) := by decide +kernel
theorem d_Md_insert_31 : decode b_Md_insert 31 = .ok (.getfield 73, 3) := by decide +kernel
theorem d_Md_insert_34 : decode b_Md_insert 34 = .ok (.ifCond .gt 12, 3) := by decide +kernel
theorem d_Md_insert_37 : decode b_Md_insert 37 = .ok (.aload_n 0, 1) := by decide +kernel
theorem d_Md_insert_38 : decode b_Md_insert 38 = .ok (.iload_n 1, 1) := by decide +kernel
theorem d_Md_insert_39 : decode b_Md_insert 39 = .ok (.lload_n 2, 1) := by decide +kernel
theorem d_Md_insert_40 : decode b_Md_insert 40 = .ok (.invokevirtual 86, 3) := by decide +kernel
theorem d_Md_insert_43 : decode b_Md_insert 43 = .ok (.ifCond .lt 5, 3) := by decide +kernel
theorem d_Md_insert_46 : decode b_Md_insert 46 = .ok (.iconst 0, 1) := by decide +kernel
theorem d_Md_insert_47 : decode b_Md_insert 47 = .ok (.ireturn, 1) := by decide +kernel
theorem d_Md_insert_48 : decode b_Md_insert 48 = .ok (.iconst 0, 1) := by decide +kernel
theorem d_Md_insert_49 : decode b_Md_insert 49 = .ok (.istore 4, 2) := by decide +kernel
theorem d_Md_insert_51 : decode b_Md_insert 51 = .ok (.iload 4, 2) := by decide +kernel
theorem d_Md_insert_53 : decode b_Md_insert 53 = .ok (.aload_n 0, 1) := by decide +kernel
theorem d_Md_insert_54 : decode b_Md_insert 54 = .ok (.getfield 7, 3) := by decide +kernel
theorem d_Md_insert_57 : decode b_Md_insert 57 = .ok (.iload_n 1, 1) := by decide +kernel
theorem d_Md_insert_58 : decode b_Md_insert 58 = .ok (.iaload, 1) := by decide +kernel
theorem d_Md_insert_59 : decode b_Md_insert 59 = .ok (.if_icmp .ge 31, 3) := by decide +kernel
theorem d_Md_insert_62 : decode b_Md_insert 62 = .ok (.aload_n 0, 1) := by decide +kernel
theorem d_Md_insert_63 : decode b_Md_insert 63 = .ok (.iload_n 1, 1) := by decide +kernel
theorem d_Md_insert_64 : decode b_Md_insert 64 = .ok (.lload_n 2, 1) := by decide +kernel
theorem d_Md_insert_65 : decode b_Md_insert 65 = .ok (.iload 4, 2) := by decide +kernel
theorem d_Md_insert_67 : decode b_Md_insert 67 = .ok (.aload_n 0, 1) := by decide +kernel
theorem d_Md_insert_68 : decode b_Md_insert 68 = .ok (.getfield 30, 3) := by decide +kernel
theorem d_Md_insert_71 : decode b_Md_insert 71 = .ok (.iload 4, 2) := by decide +kernel
theorem d_Md_insert_73 : decode b_Md_insert 73 = .ok (.baload, 1) := by decide +kernel
theorem d_Md_insert_74 : decode b_Md_insert 74 = .ok (.aload_n 0, 1) := by decide +kernel
theorem d_Md_insert_75 : decode b_Md_insert 75 = .ok (.getfield 27, 3) := by decide +kernel
theorem d_Md_insert_78 : decode b_Md_insert 78 = .ok (.iload 4, 2) := by decide +kernel
theorem d_Md_insert_80 : decode b_Md_insert 80 = .ok (.laload, 1) := by decide +kernel
theorem d_Md_insert_81 : decode b_Md_insert 81 = .ok (.invokevirtual 90, 3) := by decide +kernel
theorem d_Md_insert_84 : decode b_Md_insert 84 = .ok (.iinc 4 1, 3) := by decide +kernel
theorem d_Md_insert_87 : decode b_Md_insert 87 = .ok (.goto (-36), 3) := by decide +kernel
theorem d_Md_insert_90 : decode b_Md_insert 90 = .ok (.aload_n 0, 1) := by decide +kernel
theorem d_Md_insert_91 : decode b_Md_insert 91 = .ok (.dup, 1) := by decide +kernel
theorem d_Md_insert_92 : decode b_Md_insert 92 = .ok (.getfield 79, 3) := by decide +kernel
theorem d_Md_insert_95 : decode b_Md_insert 95 = .ok (.iconst 1, 1) := by decide +kernel
theorem d_Md_insert_96 : decode b_Md_insert 96 = .ok (.iadd, 1) := by decide +kernel
theorem d_Md_insert_97 : decode b_Md_insert 97 = .ok (.putfield 79, 3) := by decide +kernel
theorem d_Md_insert_100 : decode b_Md_insert 100 = .ok (.iconst 1, 1) := by decide +kernel
theorem d_Md_insert_101 : decode b_Md_insert 101 = .ok (.ireturn, 1) := by decide +kernel
noncomputable def b_Md_insert_51 (a1 : Int32) (a2 : Int64) (x13 : Int32) (σ14 : Sg) : Option ((Int32 × Sg) ⊕ (Sg)) :=
  chk (vp_in a1 3) ((if (gi σ14 26 0 a1.toNatClampNeg) ≤ x13 then (some (.inr σ14)) else (chk (vp_in x13 4) (chk (vp_in x13 4) ((f_Md_lay a1 a2 x13 (gi σ14 32 0 x13.toNatClampNeg) (gj σ14 31 0 x13.toNatClampNeg) σ14).bind (fun σ21 => lt_ (x13 + 1 : Int32) (fun (x23 : Int32) => some (.inl (x23, σ21)))))))))
noncomputable def l_Md_insert_51 (a1 : Int32) (a2 : Int64) (x13 : Int32) (σ14 : Sg) : Option (Sg) := lp (fun q => b_Md_insert_51 a1 a2 q.1 q.2) FU (x13, σ14)
noncomputable def f_Md_insert (a1 : Int32) (a2 : Int64) (σ : Sg) : Option (Int32 × Sg) :=
  bn2 (f_Md_isTable a1 σ) (fun r3 σ1 => lt_ ((if r3 = 0 then 1 else (if (gi σ1 9 0 3) = 90 then 2 else 0)) : Int32) (fun (x4 : Int32) => lt_ (si σ1 9 0 0 x4) (fun σ9 => (if 0 < (gi σ9 9 0 0) then (some (0, σ9)) else (bn2 (f_Md_rowOf a1 a2 σ9) (fun r12 σ10 => (if r12 < 0 then ((l_Md_insert_51 a1 a2 0 σ10).bind (fun σ25 => lt_ (si σ25 9 0 3 ((gi σ25 9 0 3) + 1)) (fun σ28 => some (1, σ28)))) else (some (0, σ10)))))))))
abbrev rm_Md_insert : Room := { frames := 1, cells := 0, slots := 0, locals := 27 }
set_option maxHeartbeats 4000000 in
set_option maxRecDepth 100000 in
theorem c_Md_insert (l : Launch) (X : GX) (n : Nat) {σ σ' : Sg} {r : Int32} {a1 : Int32} {a2 : Int64}  (hf : f_Md_insert a1 a2 σ = some (r, σ')) : Met l y_Md_insert (cw y_Md_insert b_Md_insert 5 (some .boolean)) rm_Md_insert (PcG X n σ [.ref (xL X 9 0), .int a1, .long a2]) (QcG X n σ' (some (.int r))) 0 0 (fr X n) := by
  refine g_head (own := "TableMachineModel") (by decide) rfl (Nat.le_of_ble_eq_true rfl) ?_
  intro p e s m args below meth c ls F hr hlk hP hl
  have hl : lv_has ls 5 [(0, .ref (xL X 9 0)), (1, .int a1), (2, .long a2)] := hl
  show WG l X n rm_Md_insert σ' (some (.int r)) p e s m args below meth c s.heap [] (F0 m 0 ls [])
  unfold f_Md_insert at hf
  refine lv_aload_n F.1 F.2.1 d_Md_insert_0 rfl (lv_at hl 0 rfl) ?_
  refine lv_aload_n F.1 F.2.1 d_Md_insert_1 rfl (lv_at hl 0 rfl) ?_
  refine lv_iload_n F.1 F.2.1 d_Md_insert_2 rfl (lv_at hl 1 rfl) ?_
  obtain ⟨r3, σ1, hk2, hf⟩ := bn2_some hf
  refine g_callV (As := [.int a1]) (rest := [.ref (xL X 9 0)]) F hP 9 0 (by decide) Nat.zero_lt_one (c_Md_isTable l X n  hk2) rfl q_Md_isTable w_991 w_11 w_988 w_990 wp_35 ⟨rfl, rfl⟩ ⟨by decide, by decide⟩ hl.1 (Nat.le_of_ble_eq_true rfl) ⟨Nat.zero_le _, Nat.zero_le _⟩ d_Md_insert_3 rfl (fun H locs hP => ?_)
  refine W.eq (g2 := F0 m 6 ls [.int r3, .ref (xL X 9 0)]) rfl ?_
  obtain ⟨x4, hj6, hf⟩ := lt_some2 hf
  have KJ5 : ∀ (ls : Array Slot) (H : Heap) (locs : List Loc), lv_has ls 5 [(0, .ref (xL X 9 0)), (1, .int a1), (2, .long a2)] → St X n σ1 s.heap H locs → WG l X n rm_Md_insert σ' (some (.int r)) p e s m args below meth c H locs (F0 m 27 ls [.int x4, .ref (xL X 9 0)]) := by
    intro ls H locs hl hP
    obtain ⟨σ9, e_σ9, hf⟩ := lt_some hf
    refine g_puti F hP 9 0 0 (by decide) Nat.zero_lt_one (by decide) rfl rfl rfl rfl (Or.inl w_873) d_Md_insert_27 e_σ9 (fun H locs hP => ?_)
    refine lv_aload_n F.1 F.2.1 d_Md_insert_30 rfl (lv_at hl 0 rfl) ?_
    refine g_get F hP 9 0 0 (by decide) Nat.zero_lt_one (by decide) (v := .int (gi σ9 9 0 0)) rfl w_873 d_Md_insert_31 ?_
    refine lv_if_gt F.1 F.2.1 d_Md_insert_34 rfl (fun hb30 => ?_) (fun hb30 => ?_)
    · rw [if_pos hb30] at hf
      refine lv_iconst (v := 0) F.1 F.2.1 d_Md_insert_46 (by decide) ?_
      cases hf
      exact g_zret F hP hr hlk zb0 d_Md_insert_47
    · rw [if_neg hb30] at hf
      refine lv_aload_n F.1 F.2.1 d_Md_insert_37 rfl (lv_at hl 0 rfl) ?_
      refine lv_iload_n F.1 F.2.1 d_Md_insert_38 rfl (lv_at hl 1 rfl) ?_
      refine lv_lload_n F.1 F.2.1 d_Md_insert_39 rfl (lv_at hl 2 rfl) ?_
      obtain ⟨r12, σ10, hk11, hf⟩ := bn2_some hf
      refine g_callV (As := [.int a1, .long a2]) (rest := []) F hP 9 0 (by decide) Nat.zero_lt_one (c_Md_rowOf l X n  hk11) rfl q_Md_rowOf w_995 w_11 w_992 w_994 wp_36 ⟨rfl, rfl⟩ ⟨by decide, by decide⟩ hl.1 (Nat.le_of_ble_eq_true rfl) ⟨Nat.zero_le _, Nat.zero_le _⟩ d_Md_insert_40 rfl (fun H locs hP => ?_)
      refine W.eq (g2 := F0 m 43 ls [.int r12]) rfl ?_
      refine lv_if_lt F.1 F.2.1 d_Md_insert_43 rfl (fun hb29 => ?_) (fun hb29 => ?_)
      · rw [if_pos hb29] at hf
        refine lv_iconst (v := 0) F.1 F.2.1 d_Md_insert_48 (by decide) ?_
        refine lv_istore F.1 F.2.1 d_Md_insert_49 hl (by decide) rfl (fun ls hl => ?_)
        have hl : lv_has ls 5 [(4, .int 0), (0, .ref (xL X 9 0)), (1, .int a1), (2, .long a2)] := hl
        obtain ⟨σ25, hlp26, hf⟩ := bnd_some hf
        have KX27 : ∀ (ls : Array Slot) (H : Heap) (locs : List Loc), lv_has ls 5 [(0, .ref (xL X 9 0))] → St X n σ25 s.heap H locs → WG l X n rm_Md_insert σ' (some (.int r)) p e s m args below meth c H locs (F0 m 90 ls []) := by
          intro ls H locs hl hP
          refine lv_aload_n F.1 F.2.1 d_Md_insert_90 rfl (lv_at hl 0 rfl) ?_
          refine lv_dup F.1 F.2.1 d_Md_insert_91 rfl ?_
          refine g_get F hP 9 3 0 (by decide) Nat.zero_lt_one (by decide) (v := .int (gi σ25 9 0 3)) rfl w_876 d_Md_insert_92 ?_
          refine lv_iconst (v := 1) F.1 F.2.1 d_Md_insert_95 (by decide) ?_
          refine lv_iadd F.1 F.2.1 d_Md_insert_96 ?_
          obtain ⟨σ28, e_σ28, hf⟩ := lt_some hf
          refine g_puti F hP 9 3 0 (by decide) Nat.zero_lt_one (by decide) rfl rfl rfl rfl (Or.inl w_876) d_Md_insert_97 e_σ28 (fun H locs hP => ?_)
          refine lv_iconst (v := 1) F.1 F.2.1 d_Md_insert_100 (by decide) ?_
          cases hf
          exact g_zret F hP hr hlk zb1 d_Md_insert_101
        unfold l_Md_insert_51 at hlp26
        refine lp_W (PW := fun q => ∀ (ls : Array Slot) (H : Heap) (locs : List Loc), lv_has ls 5 [(0, .ref (xL X 9 0)), (1, .int a1), (2, .long a2), (4, .int q.1)] → St X n q.2 s.heap H locs → WG l X n rm_Md_insert σ' (some (.int r)) p e s m args below meth c H locs (F0 m 51 ls [])) (PE := fun q => ∀ (ls : Array Slot) (H : Heap) (locs : List Loc), lv_has ls 5 [(0, .ref (xL X 9 0))] → St X n q s.heap H locs → WG l X n rm_Md_insert σ' (some (.int r)) p e s m args below meth c H locs (F0 m 90 ls [])) ?_ _ _ _ hlp26 KX27 _ _ _ (lv_sub hl [1, 2, 3, 0] rfl) hP
        rintro ⟨x13, σ14⟩ rr15 hb_51 hI16 hE17 ls H locs hl hP
        replace hb_51 : b_Md_insert_51 a1 a2 x13 σ14 = some rr15 := hb_51
        unfold b_Md_insert_51 at hb_51
        refine lv_iload F.1 F.2.1 d_Md_insert_51 (lv_at hl 3 rfl) ?_
        refine lv_aload_n F.1 F.2.1 d_Md_insert_53 rfl (lv_at hl 0 rfl) ?_
        refine g_get F hP 9 2 0 (by decide) Nat.zero_lt_one (by decide) (v := .ref (xL X 26 0)) rfl w_875 d_Md_insert_54 ?_
        refine lv_iload_n F.1 F.2.1 d_Md_insert_57 rfl (lv_at hl 1 rfl) ?_
        obtain ⟨hc18, hb_51⟩ := chk_some hb_51
        refine g_ald F hP 26 (by decide) (by decide) Nat.zero_lt_one rfl rfl hc18 d_Md_insert_58 ?_
        refine lv_icmp_ge F.1 F.2.1 d_Md_insert_59 rfl (fun hb24 => ?_) (fun hb24 => ?_)
        · rw [if_pos hb24] at hb_51
          cases hb_51
          exact hE17 _ rfl _ _ _ (lv_sub hl [0] rfl) hP
        · rw [if_neg hb24] at hb_51
          refine lv_aload_n F.1 F.2.1 d_Md_insert_62 rfl (lv_at hl 0 rfl) ?_
          refine lv_iload_n F.1 F.2.1 d_Md_insert_63 rfl (lv_at hl 1 rfl) ?_
          refine lv_lload_n F.1 F.2.1 d_Md_insert_64 rfl (lv_at hl 2 rfl) ?_
          refine lv_iload F.1 F.2.1 d_Md_insert_65 (lv_at hl 3 rfl) ?_
          refine lv_aload_n F.1 F.2.1 d_Md_insert_67 rfl (lv_at hl 0 rfl) ?_
          refine g_get F hP 9 9 0 (by decide) Nat.zero_lt_one (by decide) (v := .ref (xL X 32 0)) rfl w_882 d_Md_insert_68 ?_
          refine lv_iload F.1 F.2.1 d_Md_insert_71 (lv_at hl 3 rfl) ?_
          obtain ⟨hc19, hb_51⟩ := chk_some hb_51
          refine g_zld F hP 32 (by decide) (by decide) Nat.zero_lt_one rfl rfl hc19 d_Md_insert_73 ?_
          refine lv_aload_n F.1 F.2.1 d_Md_insert_74 rfl (lv_at hl 0 rfl) ?_
          refine g_get F hP 9 8 0 (by decide) Nat.zero_lt_one (by decide) (v := .ref (xL X 31 0)) rfl w_881 d_Md_insert_75 ?_
          refine lv_iload F.1 F.2.1 d_Md_insert_78 (lv_at hl 3 rfl) ?_
          obtain ⟨hc20, hb_51⟩ := chk_some hb_51
          refine g_lld F hP 31 (by decide) (by decide) Nat.zero_lt_one rfl rfl hc20 d_Md_insert_80 ?_
          obtain ⟨σ21, hk22, hb_51⟩ := bnd_some hb_51
          refine g_callV (As := [.int a1, .long a2, .int x13, .int (gi σ14 32 0 x13.toNatClampNeg), .long (gj σ14 31 0 x13.toNatClampNeg)]) (rest := []) F hP 9 0 (by decide) Nat.zero_lt_one (c_Md_lay l X n  hk22) rfl q_Md_lay w_999 w_11 w_996 w_998 wp_37 ⟨rfl, rfl⟩ ⟨by decide, by decide⟩ hl.1 (Nat.le_of_ble_eq_true rfl) ⟨Nat.zero_le _, Nat.zero_le _⟩ d_Md_insert_81 rfl (fun H locs hP => ?_)
          refine W.eq (g2 := F0 m 84 ls []) rfl ?_
          obtain ⟨x23, e_x23, hb_51⟩ := lt_some hb_51
          refine lv_iinc (k := 3) (v := x23) F.1 F.2.1 d_Md_insert_84 hl rfl (by rw [e_x23]; rfl) (by decide) rfl (fun ls hl => ?_)
          have hl : lv_has ls 5 [(4, .int x23), (0, .ref (xL X 9 0)), (1, .int a1), (2, .long a2)] := hl
          refine lv_goto F.1 F.2.1 d_Md_insert_87 rfl ?_
          cases hb_51
          exact hI16 _ rfl _ _ _ (lv_sub hl [1, 2, 3, 0] rfl) hP
      · rw [if_neg hb29] at hf
        refine lv_iconst (v := 0) F.1 F.2.1 d_Md_insert_46 (by decide) ?_
        cases hf
        exact g_zret F hP hr hlk zb0 d_Md_insert_47
  refine lv_if_ne F.1 F.2.1 d_Md_insert_6 rfl (fun hb8 => ?_) (fun hb8 => ?_)
  · rw [if_neg hb8] at hj6
    refine lv_aload_n F.1 F.2.1 d_Md_insert_13 rfl (lv_at hl 0 rfl) ?_
    refine g_get F hP 9 3 0 (by decide) Nat.zero_lt_one (by decide) (v := .int (gi σ1 9 0 3)) rfl w_876 d_Md_insert_14 ?_
    refine lv_bipush (v := 90) F.1 F.2.1 d_Md_insert_17 (by decide) ?_
    refine lv_icmp_ne F.1 F.2.1 d_Md_insert_19 rfl (fun hb7 => ?_) (fun hb7 => ?_)
    · rw [if_neg hb7] at hj6
      refine lv_iconst (v := 0) F.1 F.2.1 d_Md_insert_26 (by decide) ?_
      subst hj6
      exact KJ5 _ _ _ (lv_sub hl [0, 1, 2] rfl) hP
    · rw [if_pos hb7] at hj6
      refine lv_iconst (v := 2) F.1 F.2.1 d_Md_insert_22 (by decide) ?_
      refine lv_goto F.1 F.2.1 d_Md_insert_23 rfl ?_
      subst hj6
      exact KJ5 _ _ _ (lv_sub hl [0, 1, 2] rfl) hP
  · rw [if_pos hb8] at hj6
    refine lv_iconst (v := 1) F.1 F.2.1 d_Md_insert_9 (by decide) ?_
    refine lv_goto F.1 F.2.1 d_Md_insert_10 rfl ?_
    subst hj6
    exact KJ5 _ _ _ (lv_sub hl [0, 1, 2] rfl) hP

theorem d_Md_delete_0 : decode b_Md_delete 0 = .ok (.aload_n 0, 1) := by decide +kernel
theorem d_Md_delete_1 : decode b_Md_delete 1 = .ok (.aload_n 0, 1) := by decide +kernel
theorem d_Md_delete_2 : decode b_Md_delete 2 = .ok (.iload_n 1, 1) := by decide +kernel
theorem d_Md_delete_3 : decode b_Md_delete 3 = .ok (.invokevirtual 82, 3) := by decide +kernel
theorem d_Md_delete_6 : decode b_Md_delete 6 = .ok (.ifCond .eq 7, 3) := by decide +kernel
theorem d_Md_delete_9 : decode b_Md_delete 9 = .ok (.iconst 0, 1) := by decide +kernel
theorem d_Md_delete_10 : decode b_Md_delete 10 = .ok (.goto 4, 3) := by decide +kernel
theorem d_Md_delete_13 : decode b_Md_delete 13 = .ok (.iconst 1, 1) := by decide +kernel
theorem d_Md_delete_14 : decode b_Md_delete 14 = .ok (.putfield 73, 3) := by decide +kernel
theorem d_Md_delete_17 : decode b_Md_delete 17 = .ok (.aload_n 0, 1) := by decide +kernel
theorem d_Md_delete_18 : decode b_Md_delete 18 = .ok (.getfield 73, 3) := by decide +kernel
theorem d_Md_delete_21 : decode b_Md_delete 21 = .ok (.ifCond .le 5, 3) := by decide +kernel
theorem d_Md_delete_24 : decode b_Md_delete 24 = .ok (.iconst 0, 1) := by decide +kernel
theorem d_Md_delete_25 : decode b_Md_delete 25 = .ok (.ireturn, 1) := by decide +kernel
theorem d_Md_delete_26 : decode b_Md_delete 26 = .ok (.aload_n 0, 1) := by decide +kernel
theorem d_Md_delete_27 : decode b_Md_delete 27 = .ok (.iload_n 1, 1) := by decide +kernel
theorem d_Md_delete_28 : decode b_Md_delete 28 = .ok (.lload_n 2, 1) := by decide +kernel
theorem d_Md_delete_29 : decode b_Md_delete 29 = .ok (.invokevirtual 86, 3) := by decide +kernel
theorem d_Md_delete_32 : decode b_Md_delete 32 = .ok (.istore 4, 2) := by decide +kernel
theorem d_Md_delete_34 : decode b_Md_delete 34 = .ok (.iload 4, 2) := by decide +kernel
theorem d_Md_delete_36 : decode b_Md_delete 36 = .ok (.ifCond .lt 9, 3) := by decide +kernel
theorem d_Md_delete_39 : decode b_Md_delete 39 = .ok (.aload_n 0, 1) := by decide +kernel
theorem d_Md_delete_40 : decode b_Md_delete 40 = .ok (.iload 4, 2) := by decide +kernel
theorem d_Md_delete_42 : decode b_Md_delete 42 = .ok (.invokevirtual 94, 3) := by decide +kernel
theorem d_Md_delete_45 : decode b_Md_delete 45 = .ok (.iload 4, 2) := by decide +kernel
theorem d_Md_delete_47 : decode b_Md_delete 47 = .ok (.ifCond .lt 7, 3) := by decide +kernel
theorem d_Md_delete_50 : decode b_Md_delete 50 = .ok (.iconst 1, 1) := by decide +kernel
theorem d_Md_delete_51 : decode b_Md_delete 51 = .ok (.goto 4, 3) := by decide +kernel
theorem d_Md_delete_54 : decode b_Md_delete 54 = .ok (.iconst 0, 1) := by decide +kernel
theorem d_Md_delete_55 : decode b_Md_delete 55 = .ok (.ireturn, 1) := by decide +kernel
noncomputable def f_Md_delete (a1 : Int32) (a2 : Int64) (σ : Sg) : Option (Int32 × Sg) :=
  bn2 (f_Md_isTable a1 σ) (fun r3 σ1 => lt_ ((if r3 = 0 then 1 else 0) : Int32) (fun (x4 : Int32) => lt_ (si σ1 9 0 0 x4) (fun σ8 => (if (gi σ8 9 0 0) ≤ 0 then (bn2 (f_Md_rowOf a1 a2 σ8) (fun r11 σ9 => Option.bind (if r11 < 0 then (some (σ9)) else ((f_Md_take r11 σ9).bind (fun σ15 => some (σ15)))) (fun (σ12 : Sg) => lt_ ((if r11 < 0 then 0 else 1) : Int32) (fun (x18 : Int32) => chk (zb x18) (some (x18, σ12)))))) else (some (0, σ8))))))
abbrev rm_Md_delete : Room := { frames := 1, cells := 0, slots := 0, locals := 25 }
set_option maxHeartbeats 4000000 in
set_option maxRecDepth 100000 in
theorem c_Md_delete (l : Launch) (X : GX) (n : Nat) {σ σ' : Sg} {r : Int32} {a1 : Int32} {a2 : Int64}  (hf : f_Md_delete a1 a2 σ = some (r, σ')) : Met l y_Md_delete (cw y_Md_delete b_Md_delete 5 (some .boolean)) rm_Md_delete (PcG X n σ [.ref (xL X 9 0), .int a1, .long a2]) (QcG X n σ' (some (.int r))) 0 0 (fr X n) := by
  refine g_head (own := "TableMachineModel") (by decide) rfl (Nat.le_of_ble_eq_true rfl) ?_
  intro p e s m args below meth c ls F hr hlk hP hl
  have hl : lv_has ls 5 [(0, .ref (xL X 9 0)), (1, .int a1), (2, .long a2)] := hl
  show WG l X n rm_Md_delete σ' (some (.int r)) p e s m args below meth c s.heap [] (F0 m 0 ls [])
  unfold f_Md_delete at hf
  refine lv_aload_n F.1 F.2.1 d_Md_delete_0 rfl (lv_at hl 0 rfl) ?_
  refine lv_aload_n F.1 F.2.1 d_Md_delete_1 rfl (lv_at hl 0 rfl) ?_
  refine lv_iload_n F.1 F.2.1 d_Md_delete_2 rfl (lv_at hl 1 rfl) ?_
  obtain ⟨r3, σ1, hk2, hf⟩ := bn2_some hf
  refine g_callV (As := [.int a1]) (rest := [.ref (xL X 9 0)]) F hP 9 0 (by decide) Nat.zero_lt_one (c_Md_isTable l X n  hk2) rfl q_Md_isTable w_991 w_11 w_988 w_990 wp_35 ⟨rfl, rfl⟩ ⟨by decide, by decide⟩ hl.1 (Nat.le_of_ble_eq_true rfl) ⟨Nat.zero_le _, Nat.zero_le _⟩ d_Md_delete_3 rfl (fun H locs hP => ?_)
  refine W.eq (g2 := F0 m 6 ls [.int r3, .ref (xL X 9 0)]) rfl ?_
  obtain ⟨x4, hj6, hf⟩ := lt_some2 hf
  have KJ5 : ∀ (ls : Array Slot) (H : Heap) (locs : List Loc), lv_has ls 5 [(0, .ref (xL X 9 0)), (1, .int a1), (2, .long a2)] → St X n σ1 s.heap H locs → WG l X n rm_Md_delete σ' (some (.int r)) p e s m args below meth c H locs (F0 m 14 ls [.int x4, .ref (xL X 9 0)]) := by
    intro ls H locs hl hP
    obtain ⟨σ8, e_σ8, hf⟩ := lt_some hf
    refine g_puti F hP 9 0 0 (by decide) Nat.zero_lt_one (by decide) rfl rfl rfl rfl (Or.inl w_873) d_Md_delete_14 e_σ8 (fun H locs hP => ?_)
    refine lv_aload_n F.1 F.2.1 d_Md_delete_17 rfl (lv_at hl 0 rfl) ?_
    refine g_get F hP 9 0 0 (by decide) Nat.zero_lt_one (by decide) (v := .int (gi σ8 9 0 0)) rfl w_873 d_Md_delete_18 ?_
    refine lv_if_le F.1 F.2.1 d_Md_delete_21 rfl (fun hb23 => ?_) (fun hb23 => ?_)
    · rw [if_pos hb23] at hf
      refine lv_aload_n F.1 F.2.1 d_Md_delete_26 rfl (lv_at hl 0 rfl) ?_
      refine lv_iload_n F.1 F.2.1 d_Md_delete_27 rfl (lv_at hl 1 rfl) ?_
      refine lv_lload_n F.1 F.2.1 d_Md_delete_28 rfl (lv_at hl 2 rfl) ?_
      obtain ⟨r11, σ9, hk10, hf⟩ := bn2_some hf
      refine g_callV (As := [.int a1, .long a2]) (rest := []) F hP 9 0 (by decide) Nat.zero_lt_one (c_Md_rowOf l X n  hk10) rfl q_Md_rowOf w_995 w_11 w_992 w_994 wp_36 ⟨rfl, rfl⟩ ⟨by decide, by decide⟩ hl.1 (Nat.le_of_ble_eq_true rfl) ⟨Nat.zero_le _, Nat.zero_le _⟩ d_Md_delete_29 rfl (fun H locs hP => ?_)
      refine W.eq (g2 := F0 m 32 ls [.int r11]) rfl ?_
      refine lv_istore F.1 F.2.1 d_Md_delete_32 hl (by decide) rfl (fun ls hl => ?_)
      have hl : lv_has ls 5 [(4, .int r11), (0, .ref (xL X 9 0)), (1, .int a1), (2, .long a2)] := hl
      refine lv_iload F.1 F.2.1 d_Md_delete_34 (lv_at hl 0 rfl) ?_
      obtain ⟨σ12, hj14, hf⟩ := bnd_some hf
      have KJ13 : ∀ (ls : Array Slot) (H : Heap) (locs : List Loc), lv_has ls 5 [(4, .int r11)] → St X n σ12 s.heap H locs → WG l X n rm_Md_delete σ' (some (.int r)) p e s m args below meth c H locs (F0 m 45 ls []) := by
        intro ls H locs hl hP
        refine lv_iload F.1 F.2.1 d_Md_delete_45 (lv_at hl 0 rfl) ?_
        obtain ⟨x18, hj20, hf⟩ := lt_some2 hf
        have KJ19 : ∀ (ls : Array Slot) (H : Heap) (locs : List Loc), lv_has ls 5 [] → St X n σ12 s.heap H locs → WG l X n rm_Md_delete σ' (some (.int r)) p e s m args below meth c H locs (F0 m 55 ls [.int x18]) := by
          intro ls H locs hl hP
          obtain ⟨hz22, hf⟩ := chk_some hf
          cases hf
          exact g_zret F hP hr hlk hz22 d_Md_delete_55
        refine lv_if_lt F.1 F.2.1 d_Md_delete_47 rfl (fun hb21 => ?_) (fun hb21 => ?_)
        · rw [if_pos hb21] at hj20
          refine lv_iconst (v := 0) F.1 F.2.1 d_Md_delete_54 (by decide) ?_
          subst hj20
          exact KJ19 _ _ _ (lv_sub hl [] rfl) hP
        · rw [if_neg hb21] at hj20
          refine lv_iconst (v := 1) F.1 F.2.1 d_Md_delete_50 (by decide) ?_
          refine lv_goto F.1 F.2.1 d_Md_delete_51 rfl ?_
          subst hj20
          exact KJ19 _ _ _ (lv_sub hl [] rfl) hP
      refine lv_if_lt F.1 F.2.1 d_Md_delete_36 rfl (fun hb17 => ?_) (fun hb17 => ?_)
      · rw [if_pos hb17] at hj14
        cases hj14
        exact KJ13 _ _ _ (lv_sub hl [0] rfl) hP
      · rw [if_neg hb17] at hj14
        refine lv_aload_n F.1 F.2.1 d_Md_delete_39 rfl (lv_at hl 1 rfl) ?_
        refine lv_iload F.1 F.2.1 d_Md_delete_40 (lv_at hl 0 rfl) ?_
        obtain ⟨σ15, hk16, hj14⟩ := bnd_some hj14
        refine g_callV (As := [.int r11]) (rest := []) F hP 9 0 (by decide) Nat.zero_lt_one (c_Md_take l X n  hk16) rfl q_Md_take w_1007 w_11 w_1004 w_1006 wp_38 ⟨rfl, rfl⟩ ⟨by decide, by decide⟩ hl.1 (Nat.le_of_ble_eq_true rfl) ⟨Nat.zero_le _, Nat.zero_le _⟩ d_Md_delete_42 rfl (fun H locs hP => ?_)
        refine W.eq (g2 := F0 m 45 ls []) rfl ?_
        cases hj14
        exact KJ13 _ _ _ (lv_sub hl [0] rfl) hP
    · rw [if_neg hb23] at hf
      refine lv_iconst (v := 0) F.1 F.2.1 d_Md_delete_24 (by decide) ?_
      cases hf
      exact g_zret F hP hr hlk zb0 d_Md_delete_25
  refine lv_if_eq F.1 F.2.1 d_Md_delete_6 rfl (fun hb7 => ?_) (fun hb7 => ?_)
  · rw [if_pos hb7] at hj6
    refine lv_iconst (v := 1) F.1 F.2.1 d_Md_delete_13 (by decide) ?_
    subst hj6
    exact KJ5 _ _ _ (lv_sub hl [0, 1, 2] rfl) hP
  · rw [if_neg hb7] at hj6
    refine lv_iconst (v := 0) F.1 F.2.1 d_Md_delete_9 (by decide) ?_
    refine lv_goto F.1 F.2.1 d_Md_delete_10 rfl ?_
    subst hj6
    exact KJ5 _ _ _ (lv_sub hl [0, 1, 2] rfl) hP

theorem d_Md_count_0 : decode b_Md_count 0 = .ok (.aload_n 0, 1) := by decide +kernel
theorem d_Md_count_1 : decode b_Md_count 1 = .ok (.iconst 0, 1) := by decide +kernel
theorem d_Md_count_2 : decode b_Md_count 2 = .ok (.putfield 73, 3) := by decide +kernel
theorem d_Md_count_5 : decode b_Md_count 5 = .ok (.iconst 0, 1) := by decide +kernel
theorem d_Md_count_6 : decode b_Md_count 6 = .ok (.istore_n 2, 1) := by decide +kernel
theorem d_Md_count_7 : decode b_Md_count 7 = .ok (.iconst 0, 1) := by decide +kernel
theorem d_Md_count_8 : decode b_Md_count 8 = .ok (.istore_n 3, 1) := by decide +kernel
theorem d_Md_count_9 : decode b_Md_count 9 = .ok (.iload_n 3, 1) := by decide +kernel
theorem d_Md_count_10 : decode b_Md_count 10 = .ok (.aload_n 0, 1) := by decide +kernel
theorem d_Md_count_11 : decode b_Md_count 11 = .ok (.getfield 79, 3) := by decide +kernel
theorem d_Md_count_14 : decode b_Md_count 14 = .ok (.if_icmp .ge 27, 3) := by decide +kernel
theorem d_Md_count_17 : decode b_Md_count 17 = .ok (.iload_n 2, 1) := by decide +kernel
theorem d_Md_count_18 : decode b_Md_count 18 = .ok (.aload_n 0, 1) := by decide +kernel
theorem d_Md_count_19 : decode b_Md_count 19 = .ok (.getfield 13, 3) := by decide +kernel
theorem d_Md_count_22 : decode b_Md_count 22 = .ok (.iload_n 3, 1) := by decide +kernel
theorem d_Md_count_23 : decode b_Md_count 23 = .ok (.iaload, 1) := by decide +kernel
theorem d_Md_count_24 : decode b_Md_count 24 = .ok (.iload_n 1, 1) := by decide +kernel
theorem d_Md_count_25 : decode b_Md_count 25 = .ok (.if_icmp .ne 7, 3) := by decide +kernel
theorem d_Md_count_28 : decode b_Md_count 28 = .ok (.iconst 1, 1) := by decide +kernel
theorem d_Md_count_29 : decode b_Md_count 29 = .ok (.goto 4, 3) := by decide +kernel
theorem d_Md_count_32 : decode b_Md_count 32 = .ok (.iconst 0, 1) := by decide +kernel
theorem d_Md_count_33 : decode b_Md_count 33 = .ok (.iadd, 1) := by decide +kernel
theorem d_Md_count_34 : decode b_Md_count 34 = .ok (.istore_n 2, 1) := by decide +kernel
theorem d_Md_count_35 : decode b_Md_count 35 = .ok (.iinc 3 1, 3) := by decide +kernel
theorem d_Md_count_38 : decode b_Md_count 38 = .ok (.goto (-29), 3) := by decide +kernel
theorem d_Md_count_41 : decode b_Md_count 41 = .ok (.aload_n 0, 1) := by decide +kernel
theorem d_Md_count_42 : decode b_Md_count 42 = .ok (.iload_n 1, 1) := by decide +kernel
theorem d_Md_count_43 : decode b_Md_count 43 = .ok (.invokevirtual 82, 3) := by decide +kernel
theorem d_Md_count_46 : decode b_Md_count 46 = .ok (.ifCond .eq 7, 3) := by decide +kernel
theorem d_Md_count_49 : decode b_Md_count 49 = .ok (.iload_n 2, 1) := by decide +kernel
theorem d_Md_count_50 : decode b_Md_count 50 = .ok (.goto 4, 3) := by decide +kernel
theorem d_Md_count_53 : decode b_Md_count 53 = .ok (.iconst (-1), 1) := by decide +kernel
theorem d_Md_count_54 : decode b_Md_count 54 = .ok (.ireturn, 1) := by decide +kernel
noncomputable def b_Md_count_9 (a1 : Int32) (x2 : Int32) (x3 : Int32) (σ4 : Sg) : Option ((Int32 × Int32 × Sg) ⊕ (Int32 × Sg)) :=
  (if (gi σ4 9 0 3) ≤ x3 then (some (.inr (x2, σ4))) else (chk (vp_in x3 90) (lt_ ((if (gi σ4 27 0 x3.toNatClampNeg) = a1 then 1 else 0) : Int32) (fun (x9 : Int32) => lt_ (x2 + x9 : Int32) (fun (x13 : Int32) => lt_ (x3 + 1 : Int32) (fun (x14 : Int32) => some (.inl (x13, x14, σ4))))))))
noncomputable def l_Md_count_9 (a1 : Int32) (x2 : Int32) (x3 : Int32) (σ4 : Sg) : Option (Int32 × Sg) := lp (fun q => b_Md_count_9 a1 q.1 q.2.1 q.2.2) FU (x2, x3, σ4)
noncomputable def f_Md_count (a1 : Int32) (σ : Sg) : Option (Int32 × Sg) :=
  lt_ (si σ 9 0 0 0) (fun σ1 => bn2 (l_Md_count_9 a1 0 0 σ1) (fun x16 σ17 => bn2 (f_Md_isTable a1 σ17) (fun r22 σ20 => lt_ ((if r22 = 0 then (-1) else x16) : Int32) (fun (x23 : Int32) => some (x23, σ20)))))
abbrev rm_Md_count : Room := { frames := 1, cells := 0, slots := 0, locals := 21 }
set_option maxHeartbeats 4000000 in
set_option maxRecDepth 100000 in
theorem c_Md_count (l : Launch) (X : GX) (n : Nat) {σ σ' : Sg} {r : Int32} {a1 : Int32}  (hf : f_Md_count a1 σ = some (r, σ')) : Met l y_Md_count (cw y_Md_count b_Md_count 4 (some .int)) rm_Md_count (PcG X n σ [.ref (xL X 9 0), .int a1]) (QcG X n σ' (some (.int r))) 0 0 (fr X n) := by
  refine g_head (own := "TableMachineModel") (by decide) rfl (Nat.le_of_ble_eq_true rfl) ?_
  intro p e s m args below meth c ls F hr hlk hP hl
  have hl : lv_has ls 4 [(0, .ref (xL X 9 0)), (1, .int a1)] := hl
  show WG l X n rm_Md_count σ' (some (.int r)) p e s m args below meth c s.heap [] (F0 m 0 ls [])
  unfold f_Md_count at hf
  refine lv_aload_n F.1 F.2.1 d_Md_count_0 rfl (lv_at hl 0 rfl) ?_
  refine lv_iconst (v := 0) F.1 F.2.1 d_Md_count_1 (by decide) ?_
  obtain ⟨σ1, e_σ1, hf⟩ := lt_some hf
  refine g_puti F hP 9 0 0 (by decide) Nat.zero_lt_one (by decide) rfl rfl rfl rfl (Or.inl w_873) d_Md_count_2 e_σ1 (fun H locs hP => ?_)
  refine lv_iconst (v := 0) F.1 F.2.1 d_Md_count_5 (by decide) ?_
  refine lv_istore_n F.1 F.2.1 d_Md_count_6 rfl hl (by decide) rfl (fun ls hl => ?_)
  have hl : lv_has ls 4 [(2, .int 0), (0, .ref (xL X 9 0)), (1, .int a1)] := hl
  refine lv_iconst (v := 0) F.1 F.2.1 d_Md_count_7 (by decide) ?_
  refine lv_istore_n F.1 F.2.1 d_Md_count_8 rfl hl (by decide) rfl (fun ls hl => ?_)
  have hl : lv_has ls 4 [(3, .int 0), (2, .int 0), (0, .ref (xL X 9 0)), (1, .int a1)] := hl
  obtain ⟨x16, σ17, hlp18, hf⟩ := bn2_some hf
  have KX19 : ∀ (ls : Array Slot) (H : Heap) (locs : List Loc), lv_has ls 4 [(0, .ref (xL X 9 0)), (1, .int a1), (2, .int x16)] → St X n σ17 s.heap H locs → WG l X n rm_Md_count σ' (some (.int r)) p e s m args below meth c H locs (F0 m 41 ls []) := by
    intro ls H locs hl hP
    refine lv_aload_n F.1 F.2.1 d_Md_count_41 rfl (lv_at hl 0 rfl) ?_
    refine lv_iload_n F.1 F.2.1 d_Md_count_42 rfl (lv_at hl 1 rfl) ?_
    obtain ⟨r22, σ20, hk21, hf⟩ := bn2_some hf
    refine g_callV (As := [.int a1]) (rest := []) F hP 9 0 (by decide) Nat.zero_lt_one (c_Md_isTable l X n  hk21) rfl q_Md_isTable w_991 w_11 w_988 w_990 wp_35 ⟨rfl, rfl⟩ ⟨by decide, by decide⟩ hl.1 (Nat.le_of_ble_eq_true rfl) ⟨Nat.zero_le _, Nat.zero_le _⟩ d_Md_count_43 rfl (fun H locs hP => ?_)
    refine W.eq (g2 := F0 m 46 ls [.int r22]) rfl ?_
    obtain ⟨x23, hj25, hf⟩ := lt_some2 hf
    have KJ24 : ∀ (ls : Array Slot) (H : Heap) (locs : List Loc), lv_has ls 4 [] → St X n σ20 s.heap H locs → WG l X n rm_Md_count σ' (some (.int r)) p e s m args below meth c H locs (F0 m 54 ls [.int x23]) := by
      intro ls H locs hl hP
      cases hf
      exact g_iret F hP hr hlk d_Md_count_54
    refine lv_if_eq F.1 F.2.1 d_Md_count_46 rfl (fun hb26 => ?_) (fun hb26 => ?_)
    · rw [if_pos hb26] at hj25
      refine lv_iconst (v := (-1)) F.1 F.2.1 d_Md_count_53 (by decide) ?_
      subst hj25
      exact KJ24 _ _ _ (lv_sub hl [] rfl) hP
    · rw [if_neg hb26] at hj25
      refine lv_iload_n F.1 F.2.1 d_Md_count_49 rfl (lv_at hl 2 rfl) ?_
      refine lv_goto F.1 F.2.1 d_Md_count_50 rfl ?_
      subst hj25
      exact KJ24 _ _ _ (lv_sub hl [] rfl) hP
  unfold l_Md_count_9 at hlp18
  refine lp_W (PW := fun q => ∀ (ls : Array Slot) (H : Heap) (locs : List Loc), lv_has ls 4 [(0, .ref (xL X 9 0)), (1, .int a1), (2, .int q.1), (3, .int q.2.1)] → St X n q.2.2 s.heap H locs → WG l X n rm_Md_count σ' (some (.int r)) p e s m args below meth c H locs (F0 m 9 ls [])) (PE := fun q => ∀ (ls : Array Slot) (H : Heap) (locs : List Loc), lv_has ls 4 [(0, .ref (xL X 9 0)), (1, .int a1), (2, .int q.1)] → St X n q.2 s.heap H locs → WG l X n rm_Md_count σ' (some (.int r)) p e s m args below meth c H locs (F0 m 41 ls [])) ?_ _ _ _ hlp18 KX19 _ _ _ (lv_sub hl [2, 3, 1, 0] rfl) hP
  rintro ⟨x2, x3, σ4⟩ rr5 hb_9 hI6 hE7 ls H locs hl hP
  replace hb_9 : b_Md_count_9 a1 x2 x3 σ4 = some rr5 := hb_9
  unfold b_Md_count_9 at hb_9
  refine lv_iload_n F.1 F.2.1 d_Md_count_9 rfl (lv_at hl 3 rfl) ?_
  refine lv_aload_n F.1 F.2.1 d_Md_count_10 rfl (lv_at hl 0 rfl) ?_
  refine g_get F hP 9 3 0 (by decide) Nat.zero_lt_one (by decide) (v := .int (gi σ4 9 0 3)) rfl w_876 d_Md_count_11 ?_
  refine lv_icmp_ge F.1 F.2.1 d_Md_count_14 rfl (fun hb15 => ?_) (fun hb15 => ?_)
  · rw [if_pos hb15] at hb_9
    cases hb_9
    exact hE7 _ rfl _ _ _ (lv_sub hl [0, 1, 2] rfl) hP
  · rw [if_neg hb15] at hb_9
    refine lv_iload_n F.1 F.2.1 d_Md_count_17 rfl (lv_at hl 2 rfl) ?_
    refine lv_aload_n F.1 F.2.1 d_Md_count_18 rfl (lv_at hl 0 rfl) ?_
    refine g_get F hP 9 4 0 (by decide) Nat.zero_lt_one (by decide) (v := .ref (xL X 27 0)) rfl w_877 d_Md_count_19 ?_
    refine lv_iload_n F.1 F.2.1 d_Md_count_22 rfl (lv_at hl 3 rfl) ?_
    obtain ⟨hc8, hb_9⟩ := chk_some hb_9
    refine g_ald F hP 27 (by decide) (by decide) Nat.zero_lt_one rfl rfl hc8 d_Md_count_23 ?_
    refine lv_iload_n F.1 F.2.1 d_Md_count_24 rfl (lv_at hl 1 rfl) ?_
    obtain ⟨x9, hj11, hb_9⟩ := lt_some2 hb_9
    have KJ10 : ∀ (ls : Array Slot) (H : Heap) (locs : List Loc), lv_has ls 4 [(0, .ref (xL X 9 0)), (1, .int a1), (3, .int x3)] → St X n σ4 s.heap H locs → WG l X n rm_Md_count σ' (some (.int r)) p e s m args below meth c H locs (F0 m 33 ls [.int x9, .int x2]) := by
      intro ls H locs hl hP
      refine lv_iadd F.1 F.2.1 d_Md_count_33 ?_
      obtain ⟨x13, e_x13, hb_9⟩ := lt_some hb_9
      rw [← e_x13]
      refine lv_istore_n F.1 F.2.1 d_Md_count_34 rfl hl (by decide) rfl (fun ls hl => ?_)
      have hl : lv_has ls 4 [(2, .int x13), (0, .ref (xL X 9 0)), (1, .int a1), (3, .int x3)] := hl
      obtain ⟨x14, e_x14, hb_9⟩ := lt_some hb_9
      refine lv_iinc (k := 3) (v := x14) F.1 F.2.1 d_Md_count_35 hl rfl (by rw [e_x14]; rfl) (by decide) rfl (fun ls hl => ?_)
      have hl : lv_has ls 4 [(3, .int x14), (2, .int x13), (0, .ref (xL X 9 0)), (1, .int a1)] := hl
      refine lv_goto F.1 F.2.1 d_Md_count_38 rfl ?_
      cases hb_9
      exact hI6 _ rfl _ _ _ (lv_sub hl [2, 3, 1, 0] rfl) hP
    refine lv_icmp_ne F.1 F.2.1 d_Md_count_25 rfl (fun hb12 => ?_) (fun hb12 => ?_)
    · rw [if_neg hb12] at hj11
      refine lv_iconst (v := 0) F.1 F.2.1 d_Md_count_32 (by decide) ?_
      subst hj11
      exact KJ10 _ _ _ (lv_sub hl [0, 1, 3] rfl) hP
    · rw [if_pos hb12] at hj11
      refine lv_iconst (v := 1) F.1 F.2.1 d_Md_count_28 (by decide) ?_
      refine lv_goto F.1 F.2.1 d_Md_count_29 rfl ?_
      subst hj11
      exact KJ10 _ _ _ (lv_sub hl [0, 1, 3] rfl) hP

theorem d_Md_next_0 : decode b_Md_next 0 = .ok (.aload_n 0, 1) := by decide +kernel
theorem d_Md_next_1 : decode b_Md_next 1 = .ok (.aload_n 0, 1) := by decide +kernel
theorem d_Md_next_2 : decode b_Md_next 2 = .ok (.iload_n 1, 1) := by decide +kernel
theorem d_Md_next_3 : decode b_Md_next 3 = .ok (.invokevirtual 82, 3) := by decide +kernel
theorem d_Md_next_6 : decode b_Md_next 6 = .ok (.ifCond .eq 7, 3) := by decide +kernel
theorem d_Md_next_9 : decode b_Md_next 9 = .ok (.iconst 0, 1) := by decide +kernel
theorem d_Md_next_10 : decode b_Md_next 10 = .ok (.goto 4, 3) := by decide +kernel
theorem d_Md_next_13 : decode b_Md_next 13 = .ok (.iconst 1, 1) := by decide +kernel
theorem d_Md_next_14 : decode b_Md_next 14 = .ok (.putfield 73, 3) := by decide +kernel
theorem d_Md_next_17 : decode b_Md_next 17 = .ok (.aload_n 0, 1) := by decide +kernel
theorem d_Md_next_18 : decode b_Md_next 18 = .ok (.getfield 73, 3) := by decide +kernel
theorem d_Md_next_21 : decode b_Md_next 21 = .ok (.ifCond .le 5, 3) := by decide +kernel
theorem d_Md_next_24 : decode b_Md_next 24 = .ok (.lconst 0, 1) := by decide +kernel
theorem d_Md_next_25 : decode b_Md_next 25 = .ok (.lreturn, 1) := by decide +kernel
theorem d_Md_next_26 : decode b_Md_next 26 = .ok (.aload_n 0, 1) := by decide +kernel
theorem d_Md_next_27 : decode b_Md_next 27 = .ok (.iload_n 1, 1) := by decide +kernel
theorem d_Md_next_28 : decode b_Md_next 28 = .ok (.lload_n 2, 1) := by decide +kernel
theorem d_Md_next_29 : decode b_Md_next 29 = .ok (.iload 4, 2) := by decide +kernel
theorem d_Md_next_31 : decode b_Md_next 31 = .ok (.invokevirtual 98, 3) := by decide +kernel
theorem d_Md_next_34 : decode b_Md_next 34 = .ok (.istore 5, 2) := by decide +kernel
theorem d_Md_next_36 : decode b_Md_next 36 = .ok (.aload_n 0, 1) := by decide +kernel
theorem d_Md_next_37 : decode b_Md_next 37 = .ok (.iload 5, 2) := by decide +kernel
theorem d_Md_next_39 : decode b_Md_next 39 = .ok (.ifCond .ge 7, 3) := by decide +kernel
theorem d_Md_next_42 : decode b_Md_next 42 = .ok (.iconst 2, 1) := by decide +kernel
theorem d_Md_next_43 : decode b_Md_next 43 = .ok (.goto 4, 3) := by decide +kernel
theorem d_Md_next_46 : decode b_Md_next 46 = .ok (.iconst 0, 1) := by decide +kernel
theorem d_Md_next_47 : decode b_Md_next 47 = .ok (.putfield 73, 3) := by decide +kernel
theorem d_Md_next_50 : decode b_Md_next 50 = .ok (.iload 5, 2) := by decide +kernel
theorem d_Md_next_52 : decode b_Md_next 52 = .ok (.ifCond .ge 7, 3) := by decide +kernel
theorem d_Md_next_55 : decode b_Md_next 55 = .ok (.lconst 0, 1) := by decide +kernel
theorem d_Md_next_56 : decode b_Md_next 56 = .ok (.goto 10, 3) := by decide +kernel
theorem d_Md_next_59 : decode b_Md_next 59 = .ok (.aload_n 0, 1) := by decide +kernel
theorem d_Md_next_60 : decode b_Md_next 60 = .ok (.getfield 16, 3) := by decide +kernel
theorem d_Md_next_63 : decode b_Md_next 63 = .ok (.iload 5, 2) := by decide +kernel
theorem d_Md_next_65 : decode b_Md_next 65 = .ok (.laload, 1) := by decide +kernel
theorem d_Md_next_66 : decode b_Md_next 66 = .ok (.lreturn, 1) := by decide +kernel
noncomputable def f_Md_next (a1 : Int32) (a2 : Int64) (a4 : Int32) (σ : Sg) : Option (Int64 × Sg) :=
  bn2 (f_Md_isTable a1 σ) (fun r3 σ1 => lt_ ((if r3 = 0 then 1 else 0) : Int32) (fun (x4 : Int32) => lt_ (si σ1 9 0 0 x4) (fun σ8 => (if (gi σ8 9 0 0) ≤ 0 then (bn2 (f_Md_rowFrom a1 a2 a4 σ8) (fun r11 σ9 => lt_ ((if 0 ≤ r11 then 0 else 2) : Int32) (fun (x12 : Int32) => lt_ (si σ9 9 0 0 x12) (fun σ16 => Option.bind (if 0 ≤ r11 then (chk (vp_in r11 90) (some (gj σ16 28 0 r11.toNatClampNeg))) else (some (0))) (fun (x17 : Int64) => some (x17, σ16)))))) else (some (0, σ8))))))
abbrev rm_Md_next : Room := { frames := 1, cells := 0, slots := 0, locals := 27 }
set_option maxHeartbeats 4000000 in
set_option maxRecDepth 100000 in
theorem c_Md_next (l : Launch) (X : GX) (n : Nat) {σ σ' : Sg} {r : Int64} {a1 : Int32} {a2 : Int64} {a4 : Int32}  (hf : f_Md_next a1 a2 a4 σ = some (r, σ')) : Met l y_Md_next (cw y_Md_next b_Md_next 6 (some .long)) rm_Md_next (PcG X n σ [.ref (xL X 9 0), .int a1, .long a2, .int a4]) (QcG X n σ' (some (.long r))) 0 0 (fr X n) := by
  refine g_head (own := "TableMachineModel") (by decide) rfl (Nat.le_of_ble_eq_true rfl) ?_
  intro p e s m args below meth c ls F hr hlk hP hl
  have hl : lv_has ls 6 [(0, .ref (xL X 9 0)), (1, .int a1), (2, .long a2), (4, .int a4)] := hl
  show WG l X n rm_Md_next σ' (some (.long r)) p e s m args below meth c s.heap [] (F0 m 0 ls [])
  unfold f_Md_next at hf
  refine lv_aload_n F.1 F.2.1 d_Md_next_0 rfl (lv_at hl 0 rfl) ?_
  refine lv_aload_n F.1 F.2.1 d_Md_next_1 rfl (lv_at hl 0 rfl) ?_
  refine lv_iload_n F.1 F.2.1 d_Md_next_2 rfl (lv_at hl 1 rfl) ?_
  obtain ⟨r3, σ1, hk2, hf⟩ := bn2_some hf
  refine g_callV (As := [.int a1]) (rest := [.ref (xL X 9 0)]) F hP 9 0 (by decide) Nat.zero_lt_one (c_Md_isTable l X n  hk2) rfl q_Md_isTable w_991 w_11 w_988 w_990 wp_35 ⟨rfl, rfl⟩ ⟨by decide, by decide⟩ hl.1 (Nat.le_of_ble_eq_true rfl) ⟨Nat.zero_le _, Nat.zero_le _⟩ d_Md_next_3 rfl (fun H locs hP => ?_)
  refine W.eq (g2 := F0 m 6 ls [.int r3, .ref (xL X 9 0)]) rfl ?_
  obtain ⟨x4, hj6, hf⟩ := lt_some2 hf
  have KJ5 : ∀ (ls : Array Slot) (H : Heap) (locs : List Loc), lv_has ls 6 [(0, .ref (xL X 9 0)), (1, .int a1), (2, .long a2), (4, .int a4)] → St X n σ1 s.heap H locs → WG l X n rm_Md_next σ' (some (.long r)) p e s m args below meth c H locs (F0 m 14 ls [.int x4, .ref (xL X 9 0)]) := by
    intro ls H locs hl hP
    obtain ⟨σ8, e_σ8, hf⟩ := lt_some hf
    refine g_puti F hP 9 0 0 (by decide) Nat.zero_lt_one (by decide) rfl rfl rfl rfl (Or.inl w_873) d_Md_next_14 e_σ8 (fun H locs hP => ?_)
    refine lv_aload_n F.1 F.2.1 d_Md_next_17 rfl (lv_at hl 0 rfl) ?_
    refine g_get F hP 9 0 0 (by decide) Nat.zero_lt_one (by decide) (v := .int (gi σ8 9 0 0)) rfl w_873 d_Md_next_18 ?_
    refine lv_if_le F.1 F.2.1 d_Md_next_21 rfl (fun hb22 => ?_) (fun hb22 => ?_)
    · rw [if_pos hb22] at hf
      refine lv_aload_n F.1 F.2.1 d_Md_next_26 rfl (lv_at hl 0 rfl) ?_
      refine lv_iload_n F.1 F.2.1 d_Md_next_27 rfl (lv_at hl 1 rfl) ?_
      refine lv_lload_n F.1 F.2.1 d_Md_next_28 rfl (lv_at hl 2 rfl) ?_
      refine lv_iload F.1 F.2.1 d_Md_next_29 (lv_at hl 3 rfl) ?_
      obtain ⟨r11, σ9, hk10, hf⟩ := bn2_some hf
      refine g_callV (As := [.int a1, .long a2, .int a4]) (rest := []) F hP 9 0 (by decide) Nat.zero_lt_one (c_Md_rowFrom l X n  hk10) rfl q_Md_rowFrom w_1019 w_11 w_1016 w_1018 wp_39 ⟨rfl, rfl⟩ ⟨by decide, by decide⟩ hl.1 (Nat.le_of_ble_eq_true rfl) ⟨Nat.zero_le _, Nat.zero_le _⟩ d_Md_next_31 rfl (fun H locs hP => ?_)
      refine W.eq (g2 := F0 m 34 ls [.int r11]) rfl ?_
      refine lv_istore F.1 F.2.1 d_Md_next_34 hl (by decide) rfl (fun ls hl => ?_)
      have hl : lv_has ls 6 [(5, .int r11), (0, .ref (xL X 9 0)), (1, .int a1), (2, .long a2), (4, .int a4)] := hl
      refine lv_aload_n F.1 F.2.1 d_Md_next_36 rfl (lv_at hl 1 rfl) ?_
      refine lv_iload F.1 F.2.1 d_Md_next_37 (lv_at hl 0 rfl) ?_
      obtain ⟨x12, hj14, hf⟩ := lt_some2 hf
      have KJ13 : ∀ (ls : Array Slot) (H : Heap) (locs : List Loc), lv_has ls 6 [(0, .ref (xL X 9 0)), (5, .int r11)] → St X n σ9 s.heap H locs → WG l X n rm_Md_next σ' (some (.long r)) p e s m args below meth c H locs (F0 m 47 ls [.int x12, .ref (xL X 9 0)]) := by
        intro ls H locs hl hP
        obtain ⟨σ16, e_σ16, hf⟩ := lt_some hf
        refine g_puti F hP 9 0 0 (by decide) Nat.zero_lt_one (by decide) rfl rfl rfl rfl (Or.inl w_873) d_Md_next_47 e_σ16 (fun H locs hP => ?_)
        refine lv_iload F.1 F.2.1 d_Md_next_50 (lv_at hl 1 rfl) ?_
        obtain ⟨x17, hj19, hf⟩ := bnd_some hf
        have KJ18 : ∀ (ls : Array Slot) (H : Heap) (locs : List Loc), lv_has ls 6 [] → St X n σ16 s.heap H locs → WG l X n rm_Md_next σ' (some (.long r)) p e s m args below meth c H locs (F0 m 66 ls [.long x17]) := by
          intro ls H locs hl hP
          cases hf
          exact g_lret F hP hr hlk d_Md_next_66
        refine lv_if_ge F.1 F.2.1 d_Md_next_52 rfl (fun hb21 => ?_) (fun hb21 => ?_)
        · rw [if_pos hb21] at hj19
          refine lv_aload_n F.1 F.2.1 d_Md_next_59 rfl (lv_at hl 0 rfl) ?_
          refine g_get F hP 9 5 0 (by decide) Nat.zero_lt_one (by decide) (v := .ref (xL X 28 0)) rfl w_878 d_Md_next_60 ?_
          refine lv_iload F.1 F.2.1 d_Md_next_63 (lv_at hl 1 rfl) ?_
          obtain ⟨hc20, hj19⟩ := chk_some hj19
          refine g_lld F hP 28 (by decide) (by decide) Nat.zero_lt_one rfl rfl hc20 d_Md_next_65 ?_
          cases hj19
          exact KJ18 _ _ _ (lv_sub hl [] rfl) hP
        · rw [if_neg hb21] at hj19
          refine lv_lconst (v := 0) F.1 F.2.1 d_Md_next_55 (by decide) ?_
          refine lv_goto F.1 F.2.1 d_Md_next_56 rfl ?_
          cases hj19
          exact KJ18 _ _ _ (lv_sub hl [] rfl) hP
      refine lv_if_ge F.1 F.2.1 d_Md_next_39 rfl (fun hb15 => ?_) (fun hb15 => ?_)
      · rw [if_pos hb15] at hj14
        refine lv_iconst (v := 0) F.1 F.2.1 d_Md_next_46 (by decide) ?_
        subst hj14
        exact KJ13 _ _ _ (lv_sub hl [1, 0] rfl) hP
      · rw [if_neg hb15] at hj14
        refine lv_iconst (v := 2) F.1 F.2.1 d_Md_next_42 (by decide) ?_
        refine lv_goto F.1 F.2.1 d_Md_next_43 rfl ?_
        subst hj14
        exact KJ13 _ _ _ (lv_sub hl [1, 0] rfl) hP
    · rw [if_neg hb22] at hf
      refine lv_lconst (v := 0) F.1 F.2.1 d_Md_next_24 (by decide) ?_
      cases hf
      exact g_lret F hP hr hlk d_Md_next_25
  refine lv_if_eq F.1 F.2.1 d_Md_next_6 rfl (fun hb7 => ?_) (fun hb7 => ?_)
  · rw [if_pos hb7] at hj6
    refine lv_iconst (v := 1) F.1 F.2.1 d_Md_next_13 (by decide) ?_
    subst hj6
    exact KJ5 _ _ _ (lv_sub hl [0, 1, 2, 3] rfl) hP
  · rw [if_neg hb7] at hj6
    refine lv_iconst (v := 0) F.1 F.2.1 d_Md_next_9 (by decide) ?_
    refine lv_goto F.1 F.2.1 d_Md_next_10 rfl ?_
    subst hj6
    exact KJ5 _ _ _ (lv_sub hl [0, 1, 2, 3] rfl) hP

theorem d_Md_asked_0 : decode b_Md_asked 0 = .ok (.aload_n 0, 1) := by decide +kernel
theorem d_Md_asked_1 : decode b_Md_asked 1 = .ok (.aload_n 0, 1) := by decide +kernel
theorem d_Md_asked_2 : decode b_Md_asked 2 = .ok (.iload_n 1, 1) := by decide +kernel
theorem d_Md_asked_3 : decode b_Md_asked 3 = .ok (.invokevirtual 82, 3) := by decide +kernel
theorem d_Md_asked_6 : decode b_Md_asked 6 = .ok (.ifCond .eq 7, 3) := by decide +kernel
theorem d_Md_asked_9 : decode b_Md_asked 9 = .ok (.iconst 0, 1) := by decide +kernel
theorem d_Md_asked_10 : decode b_Md_asked 10 = .ok (.goto 4, 3) := by decide +kernel
theorem d_Md_asked_13 : decode b_Md_asked 13 = .ok (.iconst 1, 1) := by decide +kernel
theorem d_Md_asked_14 : decode b_Md_asked 14 = .ok (.putfield 73, 3) := by decide +kernel
theorem d_Md_asked_17 : decode b_Md_asked 17 = .ok (.aload_n 0, 1) := by decide +kernel
theorem d_Md_asked_18 : decode b_Md_asked 18 = .ok (.getfield 73, 3) := by decide +kernel
theorem d_Md_asked_21 : decode b_Md_asked 21 = .ok (.ifCond .le 5, 3) := by decide +kernel
theorem d_Md_asked_24 : decode b_Md_asked 24 = .ok (.iconst (-1), 1) := by decide +kernel
theorem d_Md_asked_25 : decode b_Md_asked 25 = .ok (.ireturn, 1) := by decide +kernel
theorem d_Md_asked_26 : decode b_Md_asked 26 = .ok (.aload_n 0, 1) := by decide +kernel
theorem d_Md_asked_27 : decode b_Md_asked 27 = .ok (.iload_n 1, 1) := by decide +kernel
theorem d_Md_asked_28 : decode b_Md_asked 28 = .ok (.lload_n 2, 1) := by decide +kernel
theorem d_Md_asked_29 : decode b_Md_asked 29 = .ok (.invokevirtual 86, 3) := by decide +kernel
theorem d_Md_asked_32 : decode b_Md_asked 32 = .ok (.istore 5, 2) := by decide +kernel
theorem d_Md_asked_34 : decode b_Md_asked 34 = .ok (.aload_n 0, 1) := by decide +kernel
theorem d_Md_asked_35 : decode b_Md_asked 35 = .ok (.iload 4, 2) := by decide +kernel
theorem d_Md_asked_37 : decode b_Md_asked 37 = .ok (.ifCond .lt 14, 3) := by decide +kernel
theorem d_Md_asked_40 : decode b_Md_asked 40 = .ok (.iload 4, 2) := by decide +kernel
theorem d_Md_asked_42 : decode b_Md_asked 42 = .ok (.aload_n 0, 1) := by decide +kernel
theorem d_Md_asked_43 : decode b_Md_asked 43 = .ok (.getfield 7, 3) := by decide +kernel
theorem d_Md_asked_46 : decode b_Md_asked 46 = .ok (.iload_n 1, 1) := by decide +kernel
theorem d_Md_asked_47 : decode b_Md_asked 47 = .ok (.iaload, 1) := by decide +kernel
theorem d_Md_asked_48 : decode b_Md_asked 48 = .ok (.if_icmp .lt 7, 3) := by decide +kernel
theorem d_Md_asked_51 : decode b_Md_asked 51 = .ok (.iconst 1, 1) := by decide +kernel
theorem d_Md_asked_52 : decode b_Md_asked 52 = .ok (.goto 13, 3) := by decide +kernel
theorem d_Md_asked_55 : decode b_Md_asked 55 = .ok (.iload 5, 2) := by decide +kernel
theorem d_Md_asked_57 : decode b_Md_asked 57 = .ok (.ifCond .ge 7, 3) := by decide +kernel
theorem d_Md_asked_60 : decode b_Md_asked 60 = .ok (.iconst 2, 1) := by decide +kernel
theorem d_Md_asked_61 : decode b_Md_asked 61 = .ok (.goto 4, 3) := by decide +kernel
theorem d_Md_asked_64 : decode b_Md_asked 64 = .ok (.iconst 0, 1) := by decide +kernel
theorem d_Md_asked_65 : decode b_Md_asked 65 = .ok (.putfield 73, 3) := by decide +kernel
theorem d_Md_asked_68 : decode b_Md_asked 68 = .ok (.aload_n 0, 1) := by decide +kernel
theorem d_Md_asked_69 : decode b_Md_asked 69 = .ok (.getfield 73, 3) := by decide +kernel
theorem d_Md_asked_72 : decode b_Md_asked 72 = .ok (.ifCond .le 7, 3) := by decide +kernel
theorem d_Md_asked_75 : decode b_Md_asked 75 = .ok (.iconst (-1), 1) := by decide +kernel
theorem d_Md_asked_76 : decode b_Md_asked 76 = .ok (.goto 5, 3) := by decide +kernel
theorem d_Md_asked_79 : decode b_Md_asked 79 = .ok (.iload 5, 2) := by decide +kernel
theorem d_Md_asked_81 : decode b_Md_asked 81 = .ok (.ireturn, 1) := by decide +kernel
noncomputable def f_Md_asked (a1 : Int32) (a2 : Int64) (a4 : Int32) (σ : Sg) : Option (Int32 × Sg) :=
  bn2 (f_Md_isTable a1 σ) (fun r3 σ1 => lt_ ((if r3 = 0 then 1 else 0) : Int32) (fun (x4 : Int32) => lt_ (si σ1 9 0 0 x4) (fun σ8 => (if (gi σ8 9 0 0) ≤ 0 then (bn2 (f_Md_rowOf a1 a2 σ8) (fun r11 σ9 => Option.bind (if a4 < 0 then (some (1)) else (chk (vp_in a1 3) ((if a4 < (gi σ9 26 0 a1.toNatClampNeg) then (if 0 ≤ r11 then (some (0)) else (some (2))) else (some (1)))))) (fun (x12 : Int32) => lt_ (si σ9 9 0 0 x12) (fun σ19 => lt_ ((if (gi σ19 9 0 0) ≤ 0 then r11 else (-1)) : Int32) (fun (x20 : Int32) => some (x20, σ19)))))) else (some ((-1), σ8))))))
abbrev rm_Md_asked : Room := { frames := 1, cells := 0, slots := 0, locals := 25 }
set_option maxHeartbeats 4000000 in
set_option maxRecDepth 100000 in
theorem c_Md_asked (l : Launch) (X : GX) (n : Nat) {σ σ' : Sg} {r : Int32} {a1 : Int32} {a2 : Int64} {a4 : Int32}  (hf : f_Md_asked a1 a2 a4 σ = some (r, σ')) : Met l y_Md_asked (cw y_Md_asked b_Md_asked 6 (some .int)) rm_Md_asked (PcG X n σ [.ref (xL X 9 0), .int a1, .long a2, .int a4]) (QcG X n σ' (some (.int r))) 0 0 (fr X n) := by
  refine g_head (own := "TableMachineModel") (by decide) rfl (Nat.le_of_ble_eq_true rfl) ?_
  intro p e s m args below meth c ls F hr hlk hP hl
  have hl : lv_has ls 6 [(0, .ref (xL X 9 0)), (1, .int a1), (2, .long a2), (4, .int a4)] := hl
  show WG l X n rm_Md_asked σ' (some (.int r)) p e s m args below meth c s.heap [] (F0 m 0 ls [])
  unfold f_Md_asked at hf
  refine lv_aload_n F.1 F.2.1 d_Md_asked_0 rfl (lv_at hl 0 rfl) ?_
  refine lv_aload_n F.1 F.2.1 d_Md_asked_1 rfl (lv_at hl 0 rfl) ?_
  refine lv_iload_n F.1 F.2.1 d_Md_asked_2 rfl (lv_at hl 1 rfl) ?_
  obtain ⟨r3, σ1, hk2, hf⟩ := bn2_some hf
  refine g_callV (As := [.int a1]) (rest := [.ref (xL X 9 0)]) F hP 9 0 (by decide) Nat.zero_lt_one (c_Md_isTable l X n  hk2) rfl q_Md_isTable w_991 w_11 w_988 w_990 wp_35 ⟨rfl, rfl⟩ ⟨by decide, by decide⟩ hl.1 (Nat.le_of_ble_eq_true rfl) ⟨Nat.zero_le _, Nat.zero_le _⟩ d_Md_asked_3 rfl (fun H locs hP => ?_)
  refine W.eq (g2 := F0 m 6 ls [.int r3, .ref (xL X 9 0)]) rfl ?_
  obtain ⟨x4, hj6, hf⟩ := lt_some2 hf
  have KJ5 : ∀ (ls : Array Slot) (H : Heap) (locs : List Loc), lv_has ls 6 [(0, .ref (xL X 9 0)), (1, .int a1), (2, .long a2), (4, .int a4)] → St X n σ1 s.heap H locs → WG l X n rm_Md_asked σ' (some (.int r)) p e s m args below meth c H locs (F0 m 14 ls [.int x4, .ref (xL X 9 0)]) := by
    intro ls H locs hl hP
    obtain ⟨σ8, e_σ8, hf⟩ := lt_some hf
    refine g_puti F hP 9 0 0 (by decide) Nat.zero_lt_one (by decide) rfl rfl rfl rfl (Or.inl w_873) d_Md_asked_14 e_σ8 (fun H locs hP => ?_)
    refine lv_aload_n F.1 F.2.1 d_Md_asked_17 rfl (lv_at hl 0 rfl) ?_
    refine g_get F hP 9 0 0 (by decide) Nat.zero_lt_one (by decide) (v := .int (gi σ8 9 0 0)) rfl w_873 d_Md_asked_18 ?_
    refine lv_if_le F.1 F.2.1 d_Md_asked_21 rfl (fun hb24 => ?_) (fun hb24 => ?_)
    · rw [if_pos hb24] at hf
      refine lv_aload_n F.1 F.2.1 d_Md_asked_26 rfl (lv_at hl 0 rfl) ?_
      refine lv_iload_n F.1 F.2.1 d_Md_asked_27 rfl (lv_at hl 1 rfl) ?_
      refine lv_lload_n F.1 F.2.1 d_Md_asked_28 rfl (lv_at hl 2 rfl) ?_
      obtain ⟨r11, σ9, hk10, hf⟩ := bn2_some hf
      refine g_callV (As := [.int a1, .long a2]) (rest := []) F hP 9 0 (by decide) Nat.zero_lt_one (c_Md_rowOf l X n  hk10) rfl q_Md_rowOf w_995 w_11 w_992 w_994 wp_36 ⟨rfl, rfl⟩ ⟨by decide, by decide⟩ hl.1 (Nat.le_of_ble_eq_true rfl) ⟨Nat.zero_le _, Nat.zero_le _⟩ d_Md_asked_29 rfl (fun H locs hP => ?_)
      refine W.eq (g2 := F0 m 32 ls [.int r11]) rfl ?_
      refine lv_istore F.1 F.2.1 d_Md_asked_32 hl (by decide) rfl (fun ls hl => ?_)
      have hl : lv_has ls 6 [(5, .int r11), (0, .ref (xL X 9 0)), (1, .int a1), (2, .long a2), (4, .int a4)] := hl
      refine lv_aload_n F.1 F.2.1 d_Md_asked_34 rfl (lv_at hl 1 rfl) ?_
      refine lv_iload F.1 F.2.1 d_Md_asked_35 (lv_at hl 4 rfl) ?_
      obtain ⟨x12, hj14, hf⟩ := bnd_some hf
      have KJ13 : ∀ (ls : Array Slot) (H : Heap) (locs : List Loc), lv_has ls 6 [(0, .ref (xL X 9 0)), (5, .int r11)] → St X n σ9 s.heap H locs → WG l X n rm_Md_asked σ' (some (.int r)) p e s m args below meth c H locs (F0 m 65 ls [.int x12, .ref (xL X 9 0)]) := by
        intro ls H locs hl hP
        obtain ⟨σ19, e_σ19, hf⟩ := lt_some hf
        refine g_puti F hP 9 0 0 (by decide) Nat.zero_lt_one (by decide) rfl rfl rfl rfl (Or.inl w_873) d_Md_asked_65 e_σ19 (fun H locs hP => ?_)
        refine lv_aload_n F.1 F.2.1 d_Md_asked_68 rfl (lv_at hl 0 rfl) ?_
        refine g_get F hP 9 0 0 (by decide) Nat.zero_lt_one (by decide) (v := .int (gi σ19 9 0 0)) rfl w_873 d_Md_asked_69 ?_
        obtain ⟨x20, hj22, hf⟩ := lt_some2 hf
        have KJ21 : ∀ (ls : Array Slot) (H : Heap) (locs : List Loc), lv_has ls 6 [] → St X n σ19 s.heap H locs → WG l X n rm_Md_asked σ' (some (.int r)) p e s m args below meth c H locs (F0 m 81 ls [.int x20]) := by
          intro ls H locs hl hP
          cases hf
          exact g_iret F hP hr hlk d_Md_asked_81
        refine lv_if_le F.1 F.2.1 d_Md_asked_72 rfl (fun hb23 => ?_) (fun hb23 => ?_)
        · rw [if_pos hb23] at hj22
          refine lv_iload F.1 F.2.1 d_Md_asked_79 (lv_at hl 1 rfl) ?_
          subst hj22
          exact KJ21 _ _ _ (lv_sub hl [] rfl) hP
        · rw [if_neg hb23] at hj22
          refine lv_iconst (v := (-1)) F.1 F.2.1 d_Md_asked_75 (by decide) ?_
          refine lv_goto F.1 F.2.1 d_Md_asked_76 rfl ?_
          subst hj22
          exact KJ21 _ _ _ (lv_sub hl [] rfl) hP
      refine lv_if_lt F.1 F.2.1 d_Md_asked_37 rfl (fun hb18 => ?_) (fun hb18 => ?_)
      · rw [if_pos hb18] at hj14
        refine lv_iconst (v := 1) F.1 F.2.1 d_Md_asked_51 (by decide) ?_
        refine lv_goto F.1 F.2.1 d_Md_asked_52 rfl ?_
        cases hj14
        exact KJ13 _ _ _ (lv_sub hl [1, 0] rfl) hP
      · rw [if_neg hb18] at hj14
        refine lv_iload F.1 F.2.1 d_Md_asked_40 (lv_at hl 4 rfl) ?_
        refine lv_aload_n F.1 F.2.1 d_Md_asked_42 rfl (lv_at hl 1 rfl) ?_
        refine g_get F hP 9 2 0 (by decide) Nat.zero_lt_one (by decide) (v := .ref (xL X 26 0)) rfl w_875 d_Md_asked_43 ?_
        refine lv_iload_n F.1 F.2.1 d_Md_asked_46 rfl (lv_at hl 2 rfl) ?_
        obtain ⟨hc15, hj14⟩ := chk_some hj14
        refine g_ald F hP 26 (by decide) (by decide) Nat.zero_lt_one rfl rfl hc15 d_Md_asked_47 ?_
        refine lv_icmp_lt F.1 F.2.1 d_Md_asked_48 rfl (fun hb17 => ?_) (fun hb17 => ?_)
        · rw [if_pos hb17] at hj14
          refine lv_iload F.1 F.2.1 d_Md_asked_55 (lv_at hl 0 rfl) ?_
          refine lv_if_ge F.1 F.2.1 d_Md_asked_57 rfl (fun hb16 => ?_) (fun hb16 => ?_)
          · rw [if_pos hb16] at hj14
            refine lv_iconst (v := 0) F.1 F.2.1 d_Md_asked_64 (by decide) ?_
            cases hj14
            exact KJ13 _ _ _ (lv_sub hl [1, 0] rfl) hP
          · rw [if_neg hb16] at hj14
            refine lv_iconst (v := 2) F.1 F.2.1 d_Md_asked_60 (by decide) ?_
            refine lv_goto F.1 F.2.1 d_Md_asked_61 rfl ?_
            cases hj14
            exact KJ13 _ _ _ (lv_sub hl [1, 0] rfl) hP
        · rw [if_neg hb17] at hj14
          refine lv_iconst (v := 1) F.1 F.2.1 d_Md_asked_51 (by decide) ?_
          refine lv_goto F.1 F.2.1 d_Md_asked_52 rfl ?_
          cases hj14
          exact KJ13 _ _ _ (lv_sub hl [1, 0] rfl) hP
    · rw [if_neg hb24] at hf
      refine lv_iconst (v := (-1)) F.1 F.2.1 d_Md_asked_24 (by decide) ?_
      cases hf
      exact g_iret F hP hr hlk d_Md_asked_25
  refine lv_if_eq F.1 F.2.1 d_Md_asked_6 rfl (fun hb7 => ?_) (fun hb7 => ?_)
  · rw [if_pos hb7] at hj6
    refine lv_iconst (v := 1) F.1 F.2.1 d_Md_asked_13 (by decide) ?_
    subst hj6
    exact KJ5 _ _ _ (lv_sub hl [0, 1, 2, 3] rfl) hP
  · rw [if_neg hb7] at hj6
    refine lv_iconst (v := 0) F.1 F.2.1 d_Md_asked_9 (by decide) ?_
    refine lv_goto F.1 F.2.1 d_Md_asked_10 rfl ?_
    subst hj6
    exact KJ5 _ _ _ (lv_sub hl [0, 1, 2, 3] rfl) hP

theorem d_Md_value_0 : decode b_Md_value 0 = .ok (.aload_n 0, 1) := by decide +kernel
theorem d_Md_value_1 : decode b_Md_value 1 = .ok (.iload_n 1, 1) := by decide +kernel
theorem d_Md_value_2 : decode b_Md_value 2 = .ok (.lload_n 2, 1) := by decide +kernel
theorem d_Md_value_3 : decode b_Md_value 3 = .ok (.iload 4, 2) := by decide +kernel
theorem d_Md_value_5 : decode b_Md_value 5 = .ok (.invokevirtual 102, 3) := by decide +kernel
theorem d_Md_value_8 : decode b_Md_value 8 = .ok (.istore 5, 2) := by decide +kernel
theorem d_Md_value_10 : decode b_Md_value 10 = .ok (.iload 5, 2) := by decide +kernel
theorem d_Md_value_12 : decode b_Md_value 12 = .ok (.ifCond .ge 7, 3) := by decide +kernel
theorem d_Md_value_15 : decode b_Md_value 15 = .ok (.lconst 0, 1) := by decide +kernel
theorem d_Md_value_16 : decode b_Md_value 16 = .ok (.goto 15, 3) := by decide +kernel
theorem d_Md_value_19 : decode b_Md_value 19 = .ok (.aload_n 0, 1) := by decide +kernel
theorem d_Md_value_20 : decode b_Md_value 20 = .ok (.getfield 20, 3) := by decide +kernel
theorem d_Md_value_23 : decode b_Md_value 23 = .ok (.iconst 4, 1) := by decide +kernel
theorem d_Md_value_24 : decode b_Md_value 24 = .ok (.iload 5, 2) := by decide +kernel
theorem d_Md_value_26 : decode b_Md_value 26 = .ok (.imul, 1) := by decide +kernel
theorem d_Md_value_27 : decode b_Md_value 27 = .ok (.iload 4, 2) := by decide +kernel
theorem d_Md_value_29 : decode b_Md_value 29 = .ok (.iadd, 1) := by decide +kernel
theorem d_Md_value_30 : decode b_Md_value 30 = .ok (.laload, 1) := by decide +kernel
theorem d_Md_value_31 : decode b_Md_value 31 = .ok (.lreturn, 1) := by decide +kernel
noncomputable def f_Md_value (a1 : Int32) (a2 : Int64) (a4 : Int32) (σ : Sg) : Option (Int64 × Sg) :=
  bn2 (f_Md_asked a1 a2 a4 σ) (fun r3 σ1 => Option.bind (if 0 ≤ r3 then (chk (vp_in ((4 * r3) + a4) 360) (some (gj σ1 29 0 (((4 * r3) + a4).toNatClampNeg)))) else (some (0))) (fun (x4 : Int64) => some (x4, σ1)))
abbrev rm_Md_value : Room := { frames := 2, cells := 0, slots := 0, locals := 50 }
set_option maxHeartbeats 4000000 in
set_option maxRecDepth 100000 in
theorem c_Md_value (l : Launch) (X : GX) (n : Nat) {σ σ' : Sg} {r : Int64} {a1 : Int32} {a2 : Int64} {a4 : Int32}  (hf : f_Md_value a1 a2 a4 σ = some (r, σ')) : Met l y_Md_value (cw y_Md_value b_Md_value 6 (some .long)) rm_Md_value (PcG X n σ [.ref (xL X 9 0), .int a1, .long a2, .int a4]) (QcG X n σ' (some (.long r))) 0 0 (fr X n) := by
  refine g_head (own := "TableMachineModel") (by decide) rfl (Nat.le_of_ble_eq_true rfl) ?_
  intro p e s m args below meth c ls F hr hlk hP hl
  have hl : lv_has ls 6 [(0, .ref (xL X 9 0)), (1, .int a1), (2, .long a2), (4, .int a4)] := hl
  show WG l X n rm_Md_value σ' (some (.long r)) p e s m args below meth c s.heap [] (F0 m 0 ls [])
  unfold f_Md_value at hf
  refine lv_aload_n F.1 F.2.1 d_Md_value_0 rfl (lv_at hl 0 rfl) ?_
  refine lv_iload_n F.1 F.2.1 d_Md_value_1 rfl (lv_at hl 1 rfl) ?_
  refine lv_lload_n F.1 F.2.1 d_Md_value_2 rfl (lv_at hl 2 rfl) ?_
  refine lv_iload F.1 F.2.1 d_Md_value_3 (lv_at hl 3 rfl) ?_
  obtain ⟨r3, σ1, hk2, hf⟩ := bn2_some hf
  refine g_callV (As := [.int a1, .long a2, .int a4]) (rest := []) F hP 9 0 (by decide) Nat.zero_lt_one (c_Md_asked l X n  hk2) rfl q_Md_asked w_1027 w_11 w_1024 w_1026 wp_40 ⟨rfl, rfl⟩ ⟨by decide, by decide⟩ hl.1 (Nat.le_of_ble_eq_true rfl) ⟨Nat.zero_le _, Nat.zero_le _⟩ d_Md_value_5 rfl (fun H locs hP => ?_)
  refine W.eq (g2 := F0 m 8 ls [.int r3]) rfl ?_
  refine lv_istore F.1 F.2.1 d_Md_value_8 hl (by decide) rfl (fun ls hl => ?_)
  have hl : lv_has ls 6 [(5, .int r3), (0, .ref (xL X 9 0)), (1, .int a1), (2, .long a2), (4, .int a4)] := hl
  refine lv_iload F.1 F.2.1 d_Md_value_10 (lv_at hl 0 rfl) ?_
  obtain ⟨x4, hj6, hf⟩ := bnd_some hf
  have KJ5 : ∀ (ls : Array Slot) (H : Heap) (locs : List Loc), lv_has ls 6 [] → St X n σ1 s.heap H locs → WG l X n rm_Md_value σ' (some (.long r)) p e s m args below meth c H locs (F0 m 31 ls [.long x4]) := by
    intro ls H locs hl hP
    cases hf
    exact g_lret F hP hr hlk d_Md_value_31
  refine lv_if_ge F.1 F.2.1 d_Md_value_12 rfl (fun hb8 => ?_) (fun hb8 => ?_)
  · rw [if_pos hb8] at hj6
    refine lv_aload_n F.1 F.2.1 d_Md_value_19 rfl (lv_at hl 1 rfl) ?_
    refine g_get F hP 9 6 0 (by decide) Nat.zero_lt_one (by decide) (v := .ref (xL X 29 0)) rfl w_879 d_Md_value_20 ?_
    refine lv_iconst (v := 4) F.1 F.2.1 d_Md_value_23 (by decide) ?_
    refine lv_iload F.1 F.2.1 d_Md_value_24 (lv_at hl 0 rfl) ?_
    refine lv_imul F.1 F.2.1 d_Md_value_26 ?_
    refine lv_iload F.1 F.2.1 d_Md_value_27 (lv_at hl 4 rfl) ?_
    refine lv_iadd F.1 F.2.1 d_Md_value_29 ?_
    obtain ⟨hc7, hj6⟩ := chk_some hj6
    refine g_lld F hP 29 (by decide) (by decide) Nat.zero_lt_one rfl rfl hc7 d_Md_value_30 ?_
    cases hj6
    exact KJ5 _ _ _ (lv_sub hl [] rfl) hP
  · rw [if_neg hb8] at hj6
    refine lv_lconst (v := 0) F.1 F.2.1 d_Md_value_15 (by decide) ?_
    refine lv_goto F.1 F.2.1 d_Md_value_16 rfl ?_
    cases hj6
    exact KJ5 _ _ _ (lv_sub hl [] rfl) hP

theorem d_Md_isNull_0 : decode b_Md_isNull 0 = .ok (.aload_n 0, 1) := by decide +kernel
theorem d_Md_isNull_1 : decode b_Md_isNull 1 = .ok (.iload_n 1, 1) := by decide +kernel
theorem d_Md_isNull_2 : decode b_Md_isNull 2 = .ok (.lload_n 2, 1) := by decide +kernel
theorem d_Md_isNull_3 : decode b_Md_isNull 3 = .ok (.iload 4, 2) := by decide +kernel
theorem d_Md_isNull_5 : decode b_Md_isNull 5 = .ok (.invokevirtual 102, 3) := by decide +kernel
theorem d_Md_isNull_8 : decode b_Md_isNull 8 = .ok (.istore 5, 2) := by decide +kernel
theorem d_Md_isNull_10 : decode b_Md_isNull 10 = .ok (.iload 5, 2) := by decide +kernel
theorem d_Md_isNull_12 : decode b_Md_isNull 12 = .ok (.ifCond .lt 22, 3) := by decide +kernel
theorem d_Md_isNull_15 : decode b_Md_isNull 15 = .ok (.aload_n 0, 1) := by decide +kernel
theorem d_Md_isNull_16 : decode b_Md_isNull 16 = .ok (.getfield 23, 3) := by decide +kernel
theorem d_Md_isNull_19 : decode b_Md_isNull 19 = .ok (.iconst 4, 1) := by decide +kernel
theorem d_Md_isNull_20 : decode b_Md_isNull 20 = .ok (.iload 5, 2) := by decide +kernel
theorem d_Md_isNull_22 : decode b_Md_isNull 22 = .ok (.imul, 1) := by decide +kernel
theorem d_Md_isNull_23 : decode b_Md_isNull 23 = .ok (.iload 4, 2) := by decide +kernel
theorem d_Md_isNull_25 : decode b_Md_isNull 25 = .ok (.iadd, 1) := by decide +kernel
theorem d_Md_isNull_26 : decode b_Md_isNull 26 = .ok (.baload, 1) := by decide +kernel
theorem d_Md_isNull_27 : decode b_Md_isNull 27 = .ok (.ifCond .ne 7, 3) := by decide +kernel
theorem d_Md_isNull_30 : decode b_Md_isNull 30 = .ok (.iconst 1, 1) := by decide +kernel
theorem d_Md_isNull_31 : decode b_Md_isNull 31 = .ok (.goto 4, 3) := by decide +kernel
theorem d_Md_isNull_34 : decode b_Md_isNull 34 = .ok (.iconst 0, 1) := by decide +kernel
theorem d_Md_isNull_35 : decode b_Md_isNull 35 = .ok (.ireturn, 1) := by decide +kernel
noncomputable def f_Md_isNull (a1 : Int32) (a2 : Int64) (a4 : Int32) (σ : Sg) : Option (Int32 × Sg) :=
  bn2 (f_Md_asked a1 a2 a4 σ) (fun r3 σ1 => Option.bind (if r3 < 0 then (some (0)) else (chk (vp_in ((4 * r3) + a4) 360) ((if (gi σ1 30 0 (((4 * r3) + a4).toNatClampNeg)) = 0 then (some (1)) else (some (0)))))) (fun (x4 : Int32) => chk (zb x4) (some (x4, σ1))))
abbrev rm_Md_isNull : Room := { frames := 2, cells := 0, slots := 0, locals := 50 }
set_option maxHeartbeats 4000000 in
set_option maxRecDepth 100000 in
theorem c_Md_isNull (l : Launch) (X : GX) (n : Nat) {σ σ' : Sg} {r : Int32} {a1 : Int32} {a2 : Int64} {a4 : Int32}  (hf : f_Md_isNull a1 a2 a4 σ = some (r, σ')) : Met l y_Md_isNull (cw y_Md_isNull b_Md_isNull 6 (some .boolean)) rm_Md_isNull (PcG X n σ [.ref (xL X 9 0), .int a1, .long a2, .int a4]) (QcG X n σ' (some (.int r))) 0 0 (fr X n) := by
  refine g_head (own := "TableMachineModel") (by decide) rfl (Nat.le_of_ble_eq_true rfl) ?_
  intro p e s m args below meth c ls F hr hlk hP hl
  have hl : lv_has ls 6 [(0, .ref (xL X 9 0)), (1, .int a1), (2, .long a2), (4, .int a4)] := hl
  show WG l X n rm_Md_isNull σ' (some (.int r)) p e s m args below meth c s.heap [] (F0 m 0 ls [])
  unfold f_Md_isNull at hf
  refine lv_aload_n F.1 F.2.1 d_Md_isNull_0 rfl (lv_at hl 0 rfl) ?_
  refine lv_iload_n F.1 F.2.1 d_Md_isNull_1 rfl (lv_at hl 1 rfl) ?_
  refine lv_lload_n F.1 F.2.1 d_Md_isNull_2 rfl (lv_at hl 2 rfl) ?_
  refine lv_iload F.1 F.2.1 d_Md_isNull_3 (lv_at hl 3 rfl) ?_
  obtain ⟨r3, σ1, hk2, hf⟩ := bn2_some hf
  refine g_callV (As := [.int a1, .long a2, .int a4]) (rest := []) F hP 9 0 (by decide) Nat.zero_lt_one (c_Md_asked l X n  hk2) rfl q_Md_asked w_1027 w_11 w_1024 w_1026 wp_40 ⟨rfl, rfl⟩ ⟨by decide, by decide⟩ hl.1 (Nat.le_of_ble_eq_true rfl) ⟨Nat.zero_le _, Nat.zero_le _⟩ d_Md_isNull_5 rfl (fun H locs hP => ?_)
  refine W.eq (g2 := F0 m 8 ls [.int r3]) rfl ?_
  refine lv_istore F.1 F.2.1 d_Md_isNull_8 hl (by decide) rfl (fun ls hl => ?_)
  have hl : lv_has ls 6 [(5, .int r3), (0, .ref (xL X 9 0)), (1, .int a1), (2, .long a2), (4, .int a4)] := hl
  refine lv_iload F.1 F.2.1 d_Md_isNull_10 (lv_at hl 0 rfl) ?_
  obtain ⟨x4, hj6, hf⟩ := bnd_some hf
  have KJ5 : ∀ (ls : Array Slot) (H : Heap) (locs : List Loc), lv_has ls 6 [] → St X n σ1 s.heap H locs → WG l X n rm_Md_isNull σ' (some (.int r)) p e s m args below meth c H locs (F0 m 35 ls [.int x4]) := by
    intro ls H locs hl hP
    obtain ⟨hz10, hf⟩ := chk_some hf
    cases hf
    exact g_zret F hP hr hlk hz10 d_Md_isNull_35
  refine lv_if_lt F.1 F.2.1 d_Md_isNull_12 rfl (fun hb9 => ?_) (fun hb9 => ?_)
  · rw [if_pos hb9] at hj6
    refine lv_iconst (v := 0) F.1 F.2.1 d_Md_isNull_34 (by decide) ?_
    cases hj6
    exact KJ5 _ _ _ (lv_sub hl [] rfl) hP
  · rw [if_neg hb9] at hj6
    refine lv_aload_n F.1 F.2.1 d_Md_isNull_15 rfl (lv_at hl 1 rfl) ?_
    refine g_get F hP 9 7 0 (by decide) Nat.zero_lt_one (by decide) (v := .ref (xL X 30 0)) rfl w_880 d_Md_isNull_16 ?_
    refine lv_iconst (v := 4) F.1 F.2.1 d_Md_isNull_19 (by decide) ?_
    refine lv_iload F.1 F.2.1 d_Md_isNull_20 (lv_at hl 0 rfl) ?_
    refine lv_imul F.1 F.2.1 d_Md_isNull_22 ?_
    refine lv_iload F.1 F.2.1 d_Md_isNull_23 (lv_at hl 4 rfl) ?_
    refine lv_iadd F.1 F.2.1 d_Md_isNull_25 ?_
    obtain ⟨hc7, hj6⟩ := chk_some hj6
    refine g_zld F hP 30 (by decide) (by decide) Nat.zero_lt_one rfl rfl hc7 d_Md_isNull_26 ?_
    refine lv_if_ne F.1 F.2.1 d_Md_isNull_27 rfl (fun hb8 => ?_) (fun hb8 => ?_)
    · rw [if_neg hb8] at hj6
      refine lv_iconst (v := 0) F.1 F.2.1 d_Md_isNull_34 (by decide) ?_
      cases hj6
      exact KJ5 _ _ _ (lv_sub hl [] rfl) hP
    · rw [if_pos hb8] at hj6
      refine lv_iconst (v := 1) F.1 F.2.1 d_Md_isNull_30 (by decide) ?_
      refine lv_goto F.1 F.2.1 d_Md_isNull_31 rfl ?_
      cases hj6
      exact KJ5 _ _ _ (lv_sub hl [] rfl) hP

theorem d_Md_in_0 : decode b_Md_in 0 = .ok (.iload_n 0, 1) := by decide +kernel
theorem d_Md_in_1 : decode b_Md_in 1 = .ok (.ifCond .lt 12, 3) := by decide +kernel
theorem d_Md_in_4 : decode b_Md_in 4 = .ok (.iload_n 0, 1) := by decide +kernel
theorem d_Md_in_5 : decode b_Md_in 5 = .ok (.iload_n 1, 1) := by decide +kernel
theorem d_Md_in_6 : decode b_Md_in 6 = .ok (.if_icmp .gt 7, 3) := by decide +kernel
theorem d_Md_in_9 : decode b_Md_in 9 = .ok (.iconst 1, 1) := by decide +kernel
theorem d_Md_in_10 : decode b_Md_in 10 = .ok (.goto 4, 3) := by decide +kernel
theorem d_Md_in_13 : decode b_Md_in 13 = .ok (.iconst 0, 1) := by decide +kernel
theorem d_Md_in_14 : decode b_Md_in 14 = .ok (.ireturn, 1) := by decide +kernel
noncomputable def f_Md_in (a0 : Int32) (a1 : Int32) (σ : Sg) : Option (Int32 × Sg) :=
  lt_ ((if a0 < 0 then 0 else (if a1 < a0 then 0 else 1)) : Int32) (fun (x1 : Int32) => chk (zb x1) (some (x1, σ)))
abbrev rm_Md_in : Room := { frames := 0, cells := 0, slots := 0, locals := 0 }
set_option maxHeartbeats 4000000 in
set_option maxRecDepth 100000 in
theorem c_Md_in (l : Launch) (X : GX) (n : Nat) {σ σ' : Sg} {r : Int32} {a0 : Int32} {a1 : Int32}  (hf : f_Md_in a0 a1 σ = some (r, σ')) : Met l y_Md_in (cw y_Md_in b_Md_in 2 (some .boolean)) rm_Md_in (PcG X n σ [.int a0, .int a1]) (QcG X n σ' (some (.int r))) 0 0 (fr X n) := by
  refine g_head (own := "TableMachineModel") (by decide) rfl (Nat.le_of_ble_eq_true rfl) ?_
  intro p e s m args below meth c ls F hr hlk hP hl
  have hl : lv_has ls 2 [(0, .int a0), (1, .int a1)] := hl
  show WG l X n rm_Md_in σ' (some (.int r)) p e s m args below meth c s.heap [] (F0 m 0 ls [])
  unfold f_Md_in at hf
  refine lv_iload_n F.1 F.2.1 d_Md_in_0 rfl (lv_at hl 0 rfl) ?_
  obtain ⟨x1, hj3, hf⟩ := lt_some2 hf
  have KJ2 : ∀ (ls : Array Slot) (H : Heap) (locs : List Loc), lv_has ls 2 [] → St X n σ s.heap H locs → WG l X n rm_Md_in σ' (some (.int r)) p e s m args below meth c H locs (F0 m 14 ls [.int x1]) := by
    intro ls H locs hl hP
    obtain ⟨hz6, hf⟩ := chk_some hf
    cases hf
    exact g_zret F hP hr hlk hz6 d_Md_in_14
  refine lv_if_lt F.1 F.2.1 d_Md_in_1 rfl (fun hb5 => ?_) (fun hb5 => ?_)
  · rw [if_pos hb5] at hj3
    refine lv_iconst (v := 0) F.1 F.2.1 d_Md_in_13 (by decide) ?_
    subst hj3
    exact KJ2 _ _ _ (lv_sub hl [] rfl) hP
  · rw [if_neg hb5] at hj3
    refine lv_iload_n F.1 F.2.1 d_Md_in_4 rfl (lv_at hl 0 rfl) ?_
    refine lv_iload_n F.1 F.2.1 d_Md_in_5 rfl (lv_at hl 1 rfl) ?_
    refine lv_icmp_gt F.1 F.2.1 d_Md_in_6 rfl (fun hb4 => ?_) (fun hb4 => ?_)
    · rw [if_pos hb4] at hj3
      refine lv_iconst (v := 0) F.1 F.2.1 d_Md_in_13 (by decide) ?_
      subst hj3
      exact KJ2 _ _ _ (lv_sub hl [] rfl) hP
    · rw [if_neg hb4] at hj3
      refine lv_iconst (v := 1) F.1 F.2.1 d_Md_in_9 (by decide) ?_
      refine lv_goto F.1 F.2.1 d_Md_in_10 rfl ?_
      subst hj3
      exact KJ2 _ _ _ (lv_sub hl [] rfl) hP

theorem d_Md_fits_0 : decode b_Md_fits 0 = .ok (.iload_n 0, 1) := by decide +kernel
theorem d_Md_fits_1 : decode b_Md_fits 1 = .ok (.tableswitch 385 0 21 #[103, 105, 127, 127, 150, 181, 204, 211, 218, 385, 385, 385, 385, 385, 385, 250, 250, 274, 307, 340, 347, 379], 103) := by decide +kernel
theorem d_Md_fits_104 : decode b_Md_fits 104 = .ok (.iconst 1, 1) := by decide +kernel
theorem d_Md_fits_105 : decode b_Md_fits 105 = .ok (.ireturn, 1) := by decide +kernel
theorem d_Md_fits_106 : decode b_Md_fits 106 = .ok (.iload_n 1, 1) := by decide +kernel
theorem d_Md_fits_107 : decode b_Md_fits 107 = .ok (.iconst 2, 1) := by decide +kernel
theorem d_Md_fits_108 : decode b_Md_fits 108 = .ok (.invokestatic 106, 3) := by decide +kernel
theorem d_Md_fits_111 : decode b_Md_fits 111 = .ok (.ifCond .eq 15, 3) := by decide +kernel
theorem d_Md_fits_114 : decode b_Md_fits 114 = .ok (.iload_n 2, 1) := by decide +kernel
theorem d_Md_fits_115 : decode b_Md_fits 115 = .ok (.iconst 2, 1) := by decide +kernel
theorem d_Md_fits_116 : decode b_Md_fits 116 = .ok (.invokestatic 106, 3) := by decide +kernel
theorem d_Md_fits_119 : decode b_Md_fits 119 = .ok (.ifCond .eq 7, 3) := by decide +kernel
theorem d_Md_fits_122 : decode b_Md_fits 122 = .ok (.iconst 1, 1) := by decide +kernel
theorem d_Md_fits_123 : decode b_Md_fits 123 = .ok (.goto 4, 3) := by decide +kernel
theorem d_Md_fits_126 : decode b_Md_fits 126 = .ok (.iconst 0, 1) := by decide +kernel
theorem d_Md_fits_127 : decode b_Md_fits 127 = .ok (.ireturn, 1) := by decide +kernel
theorem d_Md_fits_128 : decode b_Md_fits 128 = .ok (.iload_n 1, 1) := by decide +kernel
theorem d_Md_fits_129 : decode b_Md_fits 129 = .ok (.iconst 2, 1) := by decide +kernel
theorem d_Md_fits_130 : decode b_Md_fits 130 = .ok (.invokestatic 106, 3) := by decide +kernel
theorem d_Md_fits_133 : decode b_Md_fits 133 = .ok (.ifCond .eq 16, 3) := by decide +kernel
theorem d_Md_fits_136 : decode b_Md_fits 136 = .ok (.iload_n 2, 1) := by decide +kernel
theorem d_Md_fits_137 : decode b_Md_fits 137 = .ok (.bipush 60, 2) := by decide +kernel
theorem d_Md_fits_139 : decode b_Md_fits 139 = .ok (.invokestatic 106, 3) := by decide +kernel
theorem d_Md_fits_142 : decode b_Md_fits 142 = .ok (.ifCond .eq 7, 3) := by decide +kernel
theorem d_Md_fits_145 : decode b_Md_fits 145 = .ok (.iconst 1, 1) := by decide +kernel
theorem d_Md_fits_146 : decode b_Md_fits 146 = .ok (.goto 4, 3) := by decide +kernel
theorem d_Md_fits_149 : decode b_Md_fits 149 = .ok (.iconst 0, 1) := by decide +kernel
theorem d_Md_fits_150 : decode b_Md_fits 150 = .ok (.ireturn, 1) := by decide +kernel
theorem d_Md_fits_151 : decode b_Md_fits 151 = .ok (.iload_n 1, 1) := by decide +kernel
theorem d_Md_fits_152 : decode b_Md_fits 152 = .ok (.iconst 2, 1) := by decide +kernel
theorem d_Md_fits_153 : decode b_Md_fits 153 = .ok (.invokestatic 106, 3) := by decide +kernel
theorem d_Md_fits_156 : decode b_Md_fits 156 = .ok (.ifCond .eq 24, 3) := by decide +kernel
theorem d_Md_fits_159 : decode b_Md_fits 159 = .ok (.iload_n 2, 1) := by decide +kernel
theorem d_Md_fits_160 : decode b_Md_fits 160 = .ok (.iconst 3, 1) := by decide +kernel
theorem d_Md_fits_161 : decode b_Md_fits 161 = .ok (.invokestatic 106, 3) := by decide +kernel
theorem d_Md_fits_164 : decode b_Md_fits 164 = .ok (.ifCond .eq 16, 3) := by decide +kernel
theorem d_Md_fits_167 : decode b_Md_fits 167 = .ok (.iload_n 3, 1) := by decide +kernel
theorem d_Md_fits_168 : decode b_Md_fits 168 = .ok (.bipush 15, 2) := by decide +kernel
theorem d_Md_fits_170 : decode b_Md_fits 170 = .ok (.invokestatic 106, 3) := by decide +kernel
theorem d_Md_fits_173 : decode b_Md_fits 173 = .ok (.ifCond .eq 7, 3) := by decide +kernel
theorem d_Md_fits_176 : decode b_Md_fits 176 = .ok (.iconst 1, 1) := by decide +kernel
theorem d_Md_fits_177 : decode b_Md_fits 177 = .ok (.goto 4, 3) := by decide +kernel
theorem d_Md_fits_180 : decode b_Md_fits 180 = .ok (.iconst 0, 1) := by decide +kernel
theorem d_Md_fits_181 : decode b_Md_fits 181 = .ok (.ireturn, 1) := by decide +kernel
theorem d_Md_fits_182 : decode b_Md_fits 182 = .ok (.iload_n 1, 1) := by decide +kernel
theorem d_Md_fits_183 : decode b_Md_fits 183 = .ok (.iconst 2, 1) := by decide +kernel
theorem d_Md_fits_184 : decode b_Md_fits 184 = .ok (.invokestatic 106, 3) := by decide +kernel
theorem d_Md_fits_187 : decode b_Md_fits 187 = .ok (.ifCond .eq 16, 3) := by decide +kernel
theorem d_Md_fits_190 : decode b_Md_fits 190 = .ok (.iload_n 2, 1) := by decide +kernel
theorem d_Md_fits_191 : decode b_Md_fits 191 = .ok (.bipush 15, 2) := by decide +kernel
theorem d_Md_fits_193 : decode b_Md_fits 193 = .ok (.invokestatic 106, 3) := by decide +kernel
theorem d_Md_fits_196 : decode b_Md_fits 196 = .ok (.ifCond .eq 7, 3) := by decide +kernel
theorem d_Md_fits_199 : decode b_Md_fits 199 = .ok (.iconst 1, 1) := by decide +kernel
theorem d_Md_fits_200 : decode b_Md_fits 200 = .ok (.goto 4, 3) := by decide +kernel
theorem d_Md_fits_203 : decode b_Md_fits 203 = .ok (.iconst 0, 1) := by decide +kernel
theorem d_Md_fits_204 : decode b_Md_fits 204 = .ok (.ireturn, 1) := by decide +kernel
theorem d_Md_fits_205 : decode b_Md_fits 205 = .ok (.iload_n 2, 1) := by decide +kernel
theorem d_Md_fits_206 : decode b_Md_fits 206 = .ok (.bipush 15, 2) := by decide +kernel
theorem d_Md_fits_208 : decode b_Md_fits 208 = .ok (.invokestatic 106, 3) := by decide +kernel
theorem d_Md_fits_211 : decode b_Md_fits 211 = .ok (.ireturn, 1) := by decide +kernel
theorem d_Md_fits_212 : decode b_Md_fits 212 = .ok (.iload_n 1, 1) := by decide +kernel
theorem d_Md_fits_213 : decode b_Md_fits 213 = .ok (.bipush 15, 2) := by decide +kernel
theorem d_Md_fits_215 : decode b_Md_fits 215 = .ok (.invokestatic 106, 3) := by decide +kernel
theorem d_Md_fits_218 : decode b_Md_fits 218 = .ok (.ireturn, 1) := by decide +kernel
theorem d_Md_fits_219 : decode b_Md_fits 219 = .ok (.iload_n 1, 1) := by decide +kernel
theorem d_Md_fits_220 : decode b_Md_fits 220 = .ok (.iconst 2, 1) := by decide +kernel
theorem d_Md_fits_221 : decode b_Md_fits 221 = .ok (.invokestatic 106, 3) := by decide +kernel
theorem d_Md_fits_224 : decode b_Md_fits 224 = .ok (.ifCond .eq 25, 3) := by decide +kernel
theorem d_Md_fits_227 : decode b_Md_fits 227 = .ok (.iload_n 2, 1) := by decide +kernel
theorem d_Md_fits_228 : decode b_Md_fits 228 = .ok (.bipush 60, 2) := by decide +kernel
theorem d_Md_fits_230 : decode b_Md_fits 230 = .ok (.invokestatic 106, 3) := by decide +kernel
theorem d_Md_fits_233 : decode b_Md_fits 233 = .ok (.ifCond .eq 16, 3) := by decide +kernel
theorem d_Md_fits_236 : decode b_Md_fits 236 = .ok (.iload_n 3, 1) := by decide +kernel
theorem d_Md_fits_237 : decode b_Md_fits 237 = .ok (.bipush 15, 2) := by decide +kernel
theorem d_Md_fits_239 : decode b_Md_fits 239 = .ok (.invokestatic 106, 3) := by decide +kernel
theorem d_Md_fits_242 : decode b_Md_fits 242 = .ok (.ifCond .eq 7, 3) := by decide +kernel
theorem d_Md_fits_245 : decode b_Md_fits 245 = .ok (.iconst 1, 1) := by decide +kernel
theorem d_Md_fits_246 : decode b_Md_fits 246 = .ok (.goto 4, 3) := by decide +kernel
theorem d_Md_fits_249 : decode b_Md_fits 249 = .ok (.iconst 0, 1) := by decide +kernel
theorem d_Md_fits_250 : decode b_Md_fits 250 = .ok (.ireturn, 1) := by decide +kernel
theorem d_Md_fits_251 : decode b_Md_fits 251 = .ok (.iload_n 1, 1) := by decide +kernel
theorem d_Md_fits_252 : decode b_Md_fits 252 = .ok (.bipush 15, 2) := by decide +kernel
theorem d_Md_fits_254 : decode b_Md_fits 254 = .ok (.invokestatic 106, 3) := by decide +kernel
theorem d_Md_fits_257 : decode b_Md_fits 257 = .ok (.ifCond .eq 16, 3) := by decide +kernel
theorem d_Md_fits_260 : decode b_Md_fits 260 = .ok (.iload_n 2, 1) := by decide +kernel
theorem d_Md_fits_261 : decode b_Md_fits 261 = .ok (.bipush 60, 2) := by decide +kernel
theorem d_Md_fits_263 : decode b_Md_fits 263 = .ok (.invokestatic 106, 3) := by decide +kernel
theorem d_Md_fits_266 : decode b_Md_fits 266 = .ok (.ifCond .eq 7, 3) := by decide +kernel
theorem d_Md_fits_269 : decode b_Md_fits 269 = .ok (.iconst 1, 1) := by decide +kernel
theorem d_Md_fits_270 : decode b_Md_fits 270 = .ok (.goto 4, 3) := by decide +kernel
theorem d_Md_fits_273 : decode b_Md_fits 273 = .ok (.iconst 0, 1) := by decide +kernel
theorem d_Md_fits_274 : decode b_Md_fits 274 = .ok (.ireturn, 1) := by decide +kernel
theorem d_Md_fits_275 : decode b_Md_fits 275 = .ok (.iload_n 1, 1) := by decide +kernel
theorem d_Md_fits_276 : decode b_Md_fits 276 = .ok (.bipush 15, 2) := by decide +kernel
theorem d_Md_fits_278 : decode b_Md_fits 278 = .ok (.invokestatic 106, 3) := by decide +kernel
theorem d_Md_fits_281 : decode b_Md_fits 281 = .ok (.ifCond .eq 25, 3) := by decide +kernel
theorem d_Md_fits_284 : decode b_Md_fits 284 = .ok (.iload_n 2, 1) := by decide +kernel
theorem d_Md_fits_285 : decode b_Md_fits 285 = .ok (.bipush 15, 2) := by decide +kernel
theorem d_Md_fits_287 : decode b_Md_fits 287 = .ok (.invokestatic 106, 3) := by decide +kernel
theorem d_Md_fits_290 : decode b_Md_fits 290 = .ok (.ifCond .eq 16, 3) := by decide +kernel
theorem d_Md_fits_293 : decode b_Md_fits 293 = .ok (.iload_n 3, 1) := by decide +kernel
theorem d_Md_fits_294 : decode b_Md_fits 294 = .ok (.bipush 15, 2) := by decide +kernel
theorem d_Md_fits_296 : decode b_Md_fits 296 = .ok (.invokestatic 106, 3) := by decide +kernel
theorem d_Md_fits_299 : decode b_Md_fits 299 = .ok (.ifCond .eq 7, 3) := by decide +kernel
theorem d_Md_fits_302 : decode b_Md_fits 302 = .ok (.iconst 1, 1) := by decide +kernel
theorem d_Md_fits_303 : decode b_Md_fits 303 = .ok (.goto 4, 3) := by decide +kernel
theorem d_Md_fits_306 : decode b_Md_fits 306 = .ok (.iconst 0, 1) := by decide +kernel
theorem d_Md_fits_307 : decode b_Md_fits 307 = .ok (.ireturn, 1) := by decide +kernel
theorem d_Md_fits_308 : decode b_Md_fits 308 = .ok (.iload_n 1, 1) := by decide +kernel
theorem d_Md_fits_309 : decode b_Md_fits 309 = .ok (.bipush 15, 2) := by decide +kernel
theorem d_Md_fits_311 : decode b_Md_fits 311 = .ok (.invokestatic 106, 3) := by decide +kernel
theorem d_Md_fits_314 : decode b_Md_fits 314 = .ok (.ifCond .eq 25, 3) := by decide +kernel
theorem d_Md_fits_317 : decode b_Md_fits 317 = .ok (.iload_n 2, 1) := by decide +kernel
theorem d_Md_fits_318 : decode b_Md_fits 318 = .ok (.iconst 1, 1) := by decide +kernel
theorem d_Md_fits_319 : decode b_Md_fits 319 = .ok (.if_icmp .lt 20, 3) := by decide +kernel
theorem d_Md_fits_322 : decode b_Md_fits 322 = .ok (.iload_n 2, 1) := by decide +kernel
theorem d_Md_fits_323 : decode b_Md_fits 323 = .ok (.iconst 4, 1) := by decide +kernel
theorem d_Md_fits_324 : decode b_Md_fits 324 = .ok (.if_icmp .gt 15, 3) := by decide +kernel
theorem d_Md_fits_327 : decode b_Md_fits 327 = .ok (.iload_n 1, 1) := by decide +kernel
theorem d_Md_fits_328 : decode b_Md_fits 328 = .ok (.iload_n 2, 1) := by decide +kernel
theorem d_Md_fits_329 : decode b_Md_fits 329 = .ok (.iadd, 1) := by decide +kernel
theorem d_Md_fits_330 : decode b_Md_fits 330 = .ok (.bipush 16, 2) := by decide +kernel
theorem d_Md_fits_332 : decode b_Md_fits 332 = .ok (.if_icmp .gt 7, 3) := by decide +kernel
theorem d_Md_fits_335 : decode b_Md_fits 335 = .ok (.iconst 1, 1) := by decide +kernel
theorem d_Md_fits_336 : decode b_Md_fits 336 = .ok (.goto 4, 3) := by decide +kernel
theorem d_Md_fits_339 : decode b_Md_fits 339 = .ok (.iconst 0, 1) := by decide +kernel
theorem d_Md_fits_340 : decode b_Md_fits 340 = .ok (.ireturn, 1) := by decide +kernel
theorem d_Md_fits_341 : decode b_Md_fits 341 = .ok (.iload_n 1, 1) := by decide +kernel
theorem d_Md_fits_342 : decode b_Md_fits 342 = .ok (.bipush 60, 2) := by decide +kernel
theorem d_Md_fits_344 : decode b_Md_fits 344 = .ok (.invokestatic 106, 3) := by decide +kernel
theorem d_Md_fits_347 : decode b_Md_fits 347 = .ok (.ireturn, 1) := by decide +kernel
theorem d_Md_fits_348 : decode b_Md_fits 348 = .ok (.iload_n 1, 1) := by decide +kernel
theorem d_Md_fits_349 : decode b_Md_fits 349 = .ok (.iconst 2, 1) := by decide +kernel
theorem d_Md_fits_350 : decode b_Md_fits 350 = .ok (.invokestatic 106, 3) := by decide +kernel
theorem d_Md_fits_353 : decode b_Md_fits 353 = .ok (.ifCond .eq 25, 3) := by decide +kernel
theorem d_Md_fits_356 : decode b_Md_fits 356 = .ok (.iload_n 2, 1) := by decide +kernel
theorem d_Md_fits_357 : decode b_Md_fits 357 = .ok (.bipush 60, 2) := by decide +kernel
theorem d_Md_fits_359 : decode b_Md_fits 359 = .ok (.invokestatic 106, 3) := by decide +kernel
theorem d_Md_fits_362 : decode b_Md_fits 362 = .ok (.ifCond .eq 16, 3) := by decide +kernel
theorem d_Md_fits_365 : decode b_Md_fits 365 = .ok (.iload_n 3, 1) := by decide +kernel
theorem d_Md_fits_366 : decode b_Md_fits 366 = .ok (.bipush 11, 2) := by decide +kernel
theorem d_Md_fits_368 : decode b_Md_fits 368 = .ok (.invokestatic 106, 3) := by decide +kernel
theorem d_Md_fits_371 : decode b_Md_fits 371 = .ok (.ifCond .eq 7, 3) := by decide +kernel
theorem d_Md_fits_374 : decode b_Md_fits 374 = .ok (.iconst 1, 1) := by decide +kernel
theorem d_Md_fits_375 : decode b_Md_fits 375 = .ok (.goto 4, 3) := by decide +kernel
theorem d_Md_fits_378 : decode b_Md_fits 378 = .ok (.iconst 0, 1) := by decide +kernel
theorem d_Md_fits_379 : decode b_Md_fits 379 = .ok (.ireturn, 1) := by decide +kernel
theorem d_Md_fits_380 : decode b_Md_fits 380 = .ok (.iload_n 1, 1) := by decide +kernel
theorem d_Md_fits_381 : decode b_Md_fits 381 = .ok (.iconst 2, 1) := by decide +kernel
theorem d_Md_fits_382 : decode b_Md_fits 382 = .ok (.invokestatic 106, 3) := by decide +kernel
theorem d_Md_fits_385 : decode b_Md_fits 385 = .ok (.ireturn, 1) := by decide +kernel
theorem d_Md_fits_386 : decode b_Md_fits 386 = .ok (.iload_n 0, 1) := by decide +kernel
theorem d_Md_fits_387 : decode b_Md_fits 387 = .ok (.bipush 8, 2) := by decide +kernel
theorem d_Md_fits_389 : decode b_Md_fits 389 = .ok (.if_icmp .le 40, 3) := by decide +kernel
theorem d_Md_fits_392 : decode b_Md_fits 392 = .ok (.iload_n 0, 1) := by decide +kernel
theorem d_Md_fits_393 : decode b_Md_fits 393 = .ok (.bipush 15, 2) := by decide +kernel
theorem d_Md_fits_395 : decode b_Md_fits 395 = .ok (.if_icmp .ge 34, 3) := by decide +kernel
theorem d_Md_fits_398 : decode b_Md_fits 398 = .ok (.iload_n 1, 1) := by decide +kernel
theorem d_Md_fits_399 : decode b_Md_fits 399 = .ok (.bipush 15, 2) := by decide +kernel
theorem d_Md_fits_401 : decode b_Md_fits 401 = .ok (.invokestatic 106, 3) := by decide +kernel
theorem d_Md_fits_404 : decode b_Md_fits 404 = .ok (.ifCond .eq 25, 3) := by decide +kernel
theorem d_Md_fits_407 : decode b_Md_fits 407 = .ok (.iload_n 2, 1) := by decide +kernel
theorem d_Md_fits_408 : decode b_Md_fits 408 = .ok (.bipush 60, 2) := by decide +kernel
theorem d_Md_fits_410 : decode b_Md_fits 410 = .ok (.invokestatic 106, 3) := by decide +kernel
theorem d_Md_fits_413 : decode b_Md_fits 413 = .ok (.ifCond .eq 16, 3) := by decide +kernel
theorem d_Md_fits_416 : decode b_Md_fits 416 = .ok (.iload_n 3, 1) := by decide +kernel
theorem d_Md_fits_417 : decode b_Md_fits 417 = .ok (.bipush 15, 2) := by decide +kernel
theorem d_Md_fits_419 : decode b_Md_fits 419 = .ok (.invokestatic 106, 3) := by decide +kernel
theorem d_Md_fits_422 : decode b_Md_fits 422 = .ok (.ifCond .eq 7, 3) := by decide +kernel
theorem d_Md_fits_425 : decode b_Md_fits 425 = .ok (.iconst 1, 1) := by decide +kernel
theorem d_Md_fits_426 : decode b_Md_fits 426 = .ok (.goto 4, 3) := by decide +kernel
theorem d_Md_fits_429 : decode b_Md_fits 429 = .ok (.iconst 0, 1) := by decide +kernel
theorem d_Md_fits_430 : decode b_Md_fits 430 = .ok (.ireturn, 1) := by decide +kernel
noncomputable def f_Md_fits (a0 : Int32) (a1 : Int32) (a2 : Int32) (a3 : Int32) (σ : Sg) : Option (Int32 × Sg) :=
  (if a0 = 0 then (some (1, σ)) else (if a0 = 1 then (bn2 (f_Md_in a1 2 σ) (fun r4 σ2 => bn2 (if r4 = 0 then (some (0, σ2)) else (bn2 (f_Md_in a2 2 σ2) (fun r11 σ9 => (if r11 = 0 then (some (0, σ9)) else (some (1, σ9)))))) (fun (x5 : Int32) (σ6 : Sg) => chk (zb x5) (some (x5, σ6))))) else (if a0 = 2 then (bn2 (f_Md_in a1 2 σ) (fun r17 σ15 => bn2 (if r17 = 0 then (some (0, σ15)) else (bn2 (f_Md_in a2 60 σ15) (fun r24 σ22 => (if r24 = 0 then (some (0, σ22)) else (some (1, σ22)))))) (fun (x18 : Int32) (σ19 : Sg) => chk (zb x18) (some (x18, σ19))))) else (if a0 = 3 then (bn2 (f_Md_in a1 2 σ) (fun r30 σ28 => bn2 (if r30 = 0 then (some (0, σ28)) else (bn2 (f_Md_in a2 60 σ28) (fun r37 σ35 => (if r37 = 0 then (some (0, σ35)) else (some (1, σ35)))))) (fun (x31 : Int32) (σ32 : Sg) => chk (zb x31) (some (x31, σ32))))) else (if a0 = 4 then (bn2 (f_Md_in a1 2 σ) (fun r43 σ41 => bn2 (if r43 = 0 then (some (0, σ41)) else (bn2 (f_Md_in a2 3 σ41) (fun r50 σ48 => (if r50 = 0 then (some (0, σ48)) else (bn2 (f_Md_in a3 15 σ48) (fun r53 σ51 => (if r53 = 0 then (some (0, σ51)) else (some (1, σ51))))))))) (fun (x44 : Int32) (σ45 : Sg) => chk (zb x44) (some (x44, σ45))))) else (if a0 = 5 then (bn2 (f_Md_in a1 2 σ) (fun r60 σ58 => bn2 (if r60 = 0 then (some (0, σ58)) else (bn2 (f_Md_in a2 15 σ58) (fun r67 σ65 => (if r67 = 0 then (some (0, σ65)) else (some (1, σ65)))))) (fun (x61 : Int32) (σ62 : Sg) => chk (zb x61) (some (x61, σ62))))) else (if a0 = 6 then (bn2 (f_Md_in a2 15 σ) (fun r73 σ71 => chk (zb r73) (some (r73, σ71)))) else (if a0 = 7 then (bn2 (f_Md_in a1 15 σ) (fun r77 σ75 => chk (zb r77) (some (r77, σ75)))) else (if a0 = 8 then (bn2 (f_Md_in a1 2 σ) (fun r81 σ79 => bn2 (if r81 = 0 then (some (0, σ79)) else (bn2 (f_Md_in a2 60 σ79) (fun r88 σ86 => (if r88 = 0 then (some (0, σ86)) else (bn2 (f_Md_in a3 15 σ86) (fun r91 σ89 => (if r91 = 0 then (some (0, σ89)) else (some (1, σ89))))))))) (fun (x82 : Int32) (σ83 : Sg) => chk (zb x82) (some (x82, σ83))))) else (if a0 = 15 then (bn2 (f_Md_in a1 15 σ) (fun r98 σ96 => bn2 (if r98 = 0 then (some (0, σ96)) else (bn2 (f_Md_in a2 60 σ96) (fun r105 σ103 => (if r105 = 0 then (some (0, σ103)) else (some (1, σ103)))))) (fun (x99 : Int32) (σ100 : Sg) => chk (zb x99) (some (x99, σ100))))) else (if a0 = 16 then (bn2 (f_Md_in a1 15 σ) (fun r111 σ109 => bn2 (if r111 = 0 then (some (0, σ109)) else (bn2 (f_Md_in a2 60 σ109) (fun r118 σ116 => (if r118 = 0 then (some (0, σ116)) else (some (1, σ116)))))) (fun (x112 : Int32) (σ113 : Sg) => chk (zb x112) (some (x112, σ113))))) else (if a0 = 17 then (bn2 (f_Md_in a1 15 σ) (fun r124 σ122 => bn2 (if r124 = 0 then (some (0, σ122)) else (bn2 (f_Md_in a2 15 σ122) (fun r131 σ129 => (if r131 = 0 then (some (0, σ129)) else (bn2 (f_Md_in a3 15 σ129) (fun r134 σ132 => (if r134 = 0 then (some (0, σ132)) else (some (1, σ132))))))))) (fun (x125 : Int32) (σ126 : Sg) => chk (zb x125) (some (x125, σ126))))) else (if a0 = 18 then (bn2 (f_Md_in a1 15 σ) (fun r141 σ139 => lt_ ((if r141 = 0 then 0 else (if a2 < 1 then 0 else (if 4 < a2 then 0 else (if 16 < (a1 + a2) then 0 else 1)))) : Int32) (fun (x142 : Int32) => chk (zb x142) (some (x142, σ139))))) else (if a0 = 19 then (bn2 (f_Md_in a1 60 σ) (fun r152 σ150 => chk (zb r152) (some (r152, σ150)))) else (if a0 = 20 then (bn2 (f_Md_in a1 2 σ) (fun r156 σ154 => bn2 (if r156 = 0 then (some (0, σ154)) else (bn2 (f_Md_in a2 60 σ154) (fun r163 σ161 => (if r163 = 0 then (some (0, σ161)) else (bn2 (f_Md_in a3 11 σ161) (fun r166 σ164 => (if r166 = 0 then (some (0, σ164)) else (some (1, σ164))))))))) (fun (x157 : Int32) (σ158 : Sg) => chk (zb x157) (some (x157, σ158))))) else (if a0 = 21 then (bn2 (f_Md_in a1 2 σ) (fun r173 σ171 => chk (zb r173) (some (r173, σ171)))) else (bn2 (if a0 ≤ 8 then (some (0, σ)) else (if 15 ≤ a0 then (some (0, σ)) else (bn2 (f_Md_in a1 15 σ) (fun r181 σ179 => (if r181 = 0 then (some (0, σ179)) else (bn2 (f_Md_in a2 60 σ179) (fun r184 σ182 => (if r184 = 0 then (some (0, σ182)) else (bn2 (f_Md_in a3 15 σ182) (fun r187 σ185 => (if r187 = 0 then (some (0, σ185)) else (some (1, σ185))))))))))))) (fun (x175 : Int32) (σ176 : Sg) => chk (zb x175) (some (x175, σ176))))))))))))))))))))
abbrev rm_Md_fits : Room := { frames := 1, cells := 0, slots := 0, locals := 21 }
set_option maxHeartbeats 4000000 in
set_option maxRecDepth 100000 in
theorem c_Md_fits (l : Launch) (X : GX) (n : Nat) {σ σ' : Sg} {r : Int32} {a0 : Int32} {a1 : Int32} {a2 : Int32} {a3 : Int32}  (hf : f_Md_fits a0 a1 a2 a3 σ = some (r, σ')) : Met l y_Md_fits (cw y_Md_fits b_Md_fits 4 (some .boolean)) rm_Md_fits (PcG X n σ [.int a0, .int a1, .int a2, .int a3]) (QcG X n σ' (some (.int r))) 0 0 (fr X n) := by
  refine g_head (own := "TableMachineModel") (by decide) rfl (Nat.le_of_ble_eq_true rfl) ?_
  intro p e s m args below meth c ls F hr hlk hP hl
  have hl : lv_has ls 4 [(0, .int a0), (1, .int a1), (2, .int a2), (3, .int a3)] := hl
  show WG l X n rm_Md_fits σ' (some (.int r)) p e s m args below meth c s.heap [] (F0 m 0 ls [])
  unfold f_Md_fits at hf
  refine lv_iload_n F.1 F.2.1 d_Md_fits_0 rfl (lv_at hl 0 rfl) ?_
  by_cases hs1_0 : a0 = 0
  · rw [if_pos hs1_0] at hf
    refine lv_tableIn F.1 F.2.1 d_Md_fits_1 (by rw [hs1_0]; decide) (by rw [hs1_0]; decide) (off := 103) (by rw [hs1_0]; decide) rfl ?_
    refine lv_iconst (v := 1) F.1 F.2.1 d_Md_fits_104 (by decide) ?_
    cases hf
    exact g_zret F hP hr hlk zb1 d_Md_fits_105
  rw [if_neg hs1_0] at hf
  by_cases hs1_1 : a0 = 1
  · rw [if_pos hs1_1] at hf
    refine lv_tableIn F.1 F.2.1 d_Md_fits_1 (by rw [hs1_1]; decide) (by rw [hs1_1]; decide) (off := 105) (by rw [hs1_1]; decide) rfl ?_
    refine lv_iload_n F.1 F.2.1 d_Md_fits_106 rfl (lv_at hl 1 rfl) ?_
    refine lv_iconst (v := 2) F.1 F.2.1 d_Md_fits_107 (by decide) ?_
    obtain ⟨r4, σ2, hk3, hf⟩ := bn2_some hf
    refine g_callS (As := [.int a1, .int 2]) (rest := []) F hP (c_Md_in l X n  hk3) ⟨by decide, by decide, q_Md_in⟩ w_1041 w_11 w_1039 w_1040 ⟨rfl, rfl⟩ ⟨by decide, by decide⟩ hl.1 (Nat.le_of_ble_eq_true rfl) ⟨Nat.zero_le _, Nat.zero_le _⟩ d_Md_fits_108 rfl (fun H locs hP => ?_)
    refine W.eq (g2 := F0 m 111 ls [.int r4]) rfl ?_
    obtain ⟨x5, σ6, hj8, hf⟩ := bn2_some hf
    have KJ7 : ∀ (ls : Array Slot) (H : Heap) (locs : List Loc), lv_has ls 4 [] → St X n σ6 s.heap H locs → WG l X n rm_Md_fits σ' (some (.int r)) p e s m args below meth c H locs (F0 m 127 ls [.int x5]) := by
      intro ls H locs hl hP
      obtain ⟨hz14, hf⟩ := chk_some hf
      cases hf
      exact g_zret F hP hr hlk hz14 d_Md_fits_127
    refine lv_if_eq F.1 F.2.1 d_Md_fits_111 rfl (fun hb13 => ?_) (fun hb13 => ?_)
    · rw [if_pos hb13] at hj8
      refine lv_iconst (v := 0) F.1 F.2.1 d_Md_fits_126 (by decide) ?_
      cases hj8
      exact KJ7 _ _ _ (lv_sub hl [] rfl) hP
    · rw [if_neg hb13] at hj8
      refine lv_iload_n F.1 F.2.1 d_Md_fits_114 rfl (lv_at hl 2 rfl) ?_
      refine lv_iconst (v := 2) F.1 F.2.1 d_Md_fits_115 (by decide) ?_
      obtain ⟨r11, σ9, hk10, hj8⟩ := bn2_some hj8
      refine g_callS (As := [.int a2, .int 2]) (rest := []) F hP (c_Md_in l X n  hk10) ⟨by decide, by decide, q_Md_in⟩ w_1041 w_11 w_1039 w_1040 ⟨rfl, rfl⟩ ⟨by decide, by decide⟩ hl.1 (Nat.le_of_ble_eq_true rfl) ⟨Nat.zero_le _, Nat.zero_le _⟩ d_Md_fits_116 rfl (fun H locs hP => ?_)
      refine W.eq (g2 := F0 m 119 ls [.int r11]) rfl ?_
      refine lv_if_eq F.1 F.2.1 d_Md_fits_119 rfl (fun hb12 => ?_) (fun hb12 => ?_)
      · rw [if_pos hb12] at hj8
        refine lv_iconst (v := 0) F.1 F.2.1 d_Md_fits_126 (by decide) ?_
        cases hj8
        exact KJ7 _ _ _ (lv_sub hl [] rfl) hP
      · rw [if_neg hb12] at hj8
        refine lv_iconst (v := 1) F.1 F.2.1 d_Md_fits_122 (by decide) ?_
        refine lv_goto F.1 F.2.1 d_Md_fits_123 rfl ?_
        cases hj8
        exact KJ7 _ _ _ (lv_sub hl [] rfl) hP
  rw [if_neg hs1_1] at hf
  by_cases hs1_2 : a0 = 2
  · rw [if_pos hs1_2] at hf
    refine lv_tableIn F.1 F.2.1 d_Md_fits_1 (by rw [hs1_2]; decide) (by rw [hs1_2]; decide) (off := 127) (by rw [hs1_2]; decide) rfl ?_
    refine lv_iload_n F.1 F.2.1 d_Md_fits_128 rfl (lv_at hl 1 rfl) ?_
    refine lv_iconst (v := 2) F.1 F.2.1 d_Md_fits_129 (by decide) ?_
    obtain ⟨r17, σ15, hk16, hf⟩ := bn2_some hf
    refine g_callS (As := [.int a1, .int 2]) (rest := []) F hP (c_Md_in l X n  hk16) ⟨by decide, by decide, q_Md_in⟩ w_1041 w_11 w_1039 w_1040 ⟨rfl, rfl⟩ ⟨by decide, by decide⟩ hl.1 (Nat.le_of_ble_eq_true rfl) ⟨Nat.zero_le _, Nat.zero_le _⟩ d_Md_fits_130 rfl (fun H locs hP => ?_)
    refine W.eq (g2 := F0 m 133 ls [.int r17]) rfl ?_
    obtain ⟨x18, σ19, hj21, hf⟩ := bn2_some hf
    have KJ20 : ∀ (ls : Array Slot) (H : Heap) (locs : List Loc), lv_has ls 4 [] → St X n σ19 s.heap H locs → WG l X n rm_Md_fits σ' (some (.int r)) p e s m args below meth c H locs (F0 m 150 ls [.int x18]) := by
      intro ls H locs hl hP
      obtain ⟨hz27, hf⟩ := chk_some hf
      cases hf
      exact g_zret F hP hr hlk hz27 d_Md_fits_150
    refine lv_if_eq F.1 F.2.1 d_Md_fits_133 rfl (fun hb26 => ?_) (fun hb26 => ?_)
    · rw [if_pos hb26] at hj21
      refine lv_iconst (v := 0) F.1 F.2.1 d_Md_fits_149 (by decide) ?_
      cases hj21
      exact KJ20 _ _ _ (lv_sub hl [] rfl) hP
    · rw [if_neg hb26] at hj21
      refine lv_iload_n F.1 F.2.1 d_Md_fits_136 rfl (lv_at hl 2 rfl) ?_
      refine lv_bipush (v := 60) F.1 F.2.1 d_Md_fits_137 (by decide) ?_
      obtain ⟨r24, σ22, hk23, hj21⟩ := bn2_some hj21
      refine g_callS (As := [.int a2, .int 60]) (rest := []) F hP (c_Md_in l X n  hk23) ⟨by decide, by decide, q_Md_in⟩ w_1041 w_11 w_1039 w_1040 ⟨rfl, rfl⟩ ⟨by decide, by decide⟩ hl.1 (Nat.le_of_ble_eq_true rfl) ⟨Nat.zero_le _, Nat.zero_le _⟩ d_Md_fits_139 rfl (fun H locs hP => ?_)
      refine W.eq (g2 := F0 m 142 ls [.int r24]) rfl ?_
      refine lv_if_eq F.1 F.2.1 d_Md_fits_142 rfl (fun hb25 => ?_) (fun hb25 => ?_)
      · rw [if_pos hb25] at hj21
        refine lv_iconst (v := 0) F.1 F.2.1 d_Md_fits_149 (by decide) ?_
        cases hj21
        exact KJ20 _ _ _ (lv_sub hl [] rfl) hP
      · rw [if_neg hb25] at hj21
        refine lv_iconst (v := 1) F.1 F.2.1 d_Md_fits_145 (by decide) ?_
        refine lv_goto F.1 F.2.1 d_Md_fits_146 rfl ?_
        cases hj21
        exact KJ20 _ _ _ (lv_sub hl [] rfl) hP
  rw [if_neg hs1_2] at hf
  by_cases hs1_3 : a0 = 3
  · rw [if_pos hs1_3] at hf
    refine lv_tableIn F.1 F.2.1 d_Md_fits_1 (by rw [hs1_3]; decide) (by rw [hs1_3]; decide) (off := 127) (by rw [hs1_3]; decide) rfl ?_
    refine lv_iload_n F.1 F.2.1 d_Md_fits_128 rfl (lv_at hl 1 rfl) ?_
    refine lv_iconst (v := 2) F.1 F.2.1 d_Md_fits_129 (by decide) ?_
    obtain ⟨r30, σ28, hk29, hf⟩ := bn2_some hf
    refine g_callS (As := [.int a1, .int 2]) (rest := []) F hP (c_Md_in l X n  hk29) ⟨by decide, by decide, q_Md_in⟩ w_1041 w_11 w_1039 w_1040 ⟨rfl, rfl⟩ ⟨by decide, by decide⟩ hl.1 (Nat.le_of_ble_eq_true rfl) ⟨Nat.zero_le _, Nat.zero_le _⟩ d_Md_fits_130 rfl (fun H locs hP => ?_)
    refine W.eq (g2 := F0 m 133 ls [.int r30]) rfl ?_
    obtain ⟨x31, σ32, hj34, hf⟩ := bn2_some hf
    have KJ33 : ∀ (ls : Array Slot) (H : Heap) (locs : List Loc), lv_has ls 4 [] → St X n σ32 s.heap H locs → WG l X n rm_Md_fits σ' (some (.int r)) p e s m args below meth c H locs (F0 m 150 ls [.int x31]) := by
      intro ls H locs hl hP
      obtain ⟨hz40, hf⟩ := chk_some hf
      cases hf
      exact g_zret F hP hr hlk hz40 d_Md_fits_150
    refine lv_if_eq F.1 F.2.1 d_Md_fits_133 rfl (fun hb39 => ?_) (fun hb39 => ?_)
    · rw [if_pos hb39] at hj34
      refine lv_iconst (v := 0) F.1 F.2.1 d_Md_fits_149 (by decide) ?_
      cases hj34
      exact KJ33 _ _ _ (lv_sub hl [] rfl) hP
    · rw [if_neg hb39] at hj34
      refine lv_iload_n F.1 F.2.1 d_Md_fits_136 rfl (lv_at hl 2 rfl) ?_
      refine lv_bipush (v := 60) F.1 F.2.1 d_Md_fits_137 (by decide) ?_
      obtain ⟨r37, σ35, hk36, hj34⟩ := bn2_some hj34
      refine g_callS (As := [.int a2, .int 60]) (rest := []) F hP (c_Md_in l X n  hk36) ⟨by decide, by decide, q_Md_in⟩ w_1041 w_11 w_1039 w_1040 ⟨rfl, rfl⟩ ⟨by decide, by decide⟩ hl.1 (Nat.le_of_ble_eq_true rfl) ⟨Nat.zero_le _, Nat.zero_le _⟩ d_Md_fits_139 rfl (fun H locs hP => ?_)
      refine W.eq (g2 := F0 m 142 ls [.int r37]) rfl ?_
      refine lv_if_eq F.1 F.2.1 d_Md_fits_142 rfl (fun hb38 => ?_) (fun hb38 => ?_)
      · rw [if_pos hb38] at hj34
        refine lv_iconst (v := 0) F.1 F.2.1 d_Md_fits_149 (by decide) ?_
        cases hj34
        exact KJ33 _ _ _ (lv_sub hl [] rfl) hP
      · rw [if_neg hb38] at hj34
        refine lv_iconst (v := 1) F.1 F.2.1 d_Md_fits_145 (by decide) ?_
        refine lv_goto F.1 F.2.1 d_Md_fits_146 rfl ?_
        cases hj34
        exact KJ33 _ _ _ (lv_sub hl [] rfl) hP
  rw [if_neg hs1_3] at hf
  by_cases hs1_4 : a0 = 4
  · rw [if_pos hs1_4] at hf
    refine lv_tableIn F.1 F.2.1 d_Md_fits_1 (by rw [hs1_4]; decide) (by rw [hs1_4]; decide) (off := 150) (by rw [hs1_4]; decide) rfl ?_
    refine lv_iload_n F.1 F.2.1 d_Md_fits_151 rfl (lv_at hl 1 rfl) ?_
    refine lv_iconst (v := 2) F.1 F.2.1 d_Md_fits_152 (by decide) ?_
    obtain ⟨r43, σ41, hk42, hf⟩ := bn2_some hf
    refine g_callS (As := [.int a1, .int 2]) (rest := []) F hP (c_Md_in l X n  hk42) ⟨by decide, by decide, q_Md_in⟩ w_1041 w_11 w_1039 w_1040 ⟨rfl, rfl⟩ ⟨by decide, by decide⟩ hl.1 (Nat.le_of_ble_eq_true rfl) ⟨Nat.zero_le _, Nat.zero_le _⟩ d_Md_fits_153 rfl (fun H locs hP => ?_)
    refine W.eq (g2 := F0 m 156 ls [.int r43]) rfl ?_
    obtain ⟨x44, σ45, hj47, hf⟩ := bn2_some hf
    have KJ46 : ∀ (ls : Array Slot) (H : Heap) (locs : List Loc), lv_has ls 4 [] → St X n σ45 s.heap H locs → WG l X n rm_Md_fits σ' (some (.int r)) p e s m args below meth c H locs (F0 m 181 ls [.int x44]) := by
      intro ls H locs hl hP
      obtain ⟨hz57, hf⟩ := chk_some hf
      cases hf
      exact g_zret F hP hr hlk hz57 d_Md_fits_181
    refine lv_if_eq F.1 F.2.1 d_Md_fits_156 rfl (fun hb56 => ?_) (fun hb56 => ?_)
    · rw [if_pos hb56] at hj47
      refine lv_iconst (v := 0) F.1 F.2.1 d_Md_fits_180 (by decide) ?_
      cases hj47
      exact KJ46 _ _ _ (lv_sub hl [] rfl) hP
    · rw [if_neg hb56] at hj47
      refine lv_iload_n F.1 F.2.1 d_Md_fits_159 rfl (lv_at hl 2 rfl) ?_
      refine lv_iconst (v := 3) F.1 F.2.1 d_Md_fits_160 (by decide) ?_
      obtain ⟨r50, σ48, hk49, hj47⟩ := bn2_some hj47
      refine g_callS (As := [.int a2, .int 3]) (rest := []) F hP (c_Md_in l X n  hk49) ⟨by decide, by decide, q_Md_in⟩ w_1041 w_11 w_1039 w_1040 ⟨rfl, rfl⟩ ⟨by decide, by decide⟩ hl.1 (Nat.le_of_ble_eq_true rfl) ⟨Nat.zero_le _, Nat.zero_le _⟩ d_Md_fits_161 rfl (fun H locs hP => ?_)
      refine W.eq (g2 := F0 m 164 ls [.int r50]) rfl ?_
      refine lv_if_eq F.1 F.2.1 d_Md_fits_164 rfl (fun hb55 => ?_) (fun hb55 => ?_)
      · rw [if_pos hb55] at hj47
        refine lv_iconst (v := 0) F.1 F.2.1 d_Md_fits_180 (by decide) ?_
        cases hj47
        exact KJ46 _ _ _ (lv_sub hl [] rfl) hP
      · rw [if_neg hb55] at hj47
        refine lv_iload_n F.1 F.2.1 d_Md_fits_167 rfl (lv_at hl 3 rfl) ?_
        refine lv_bipush (v := 15) F.1 F.2.1 d_Md_fits_168 (by decide) ?_
        obtain ⟨r53, σ51, hk52, hj47⟩ := bn2_some hj47
        refine g_callS (As := [.int a3, .int 15]) (rest := []) F hP (c_Md_in l X n  hk52) ⟨by decide, by decide, q_Md_in⟩ w_1041 w_11 w_1039 w_1040 ⟨rfl, rfl⟩ ⟨by decide, by decide⟩ hl.1 (Nat.le_of_ble_eq_true rfl) ⟨Nat.zero_le _, Nat.zero_le _⟩ d_Md_fits_170 rfl (fun H locs hP => ?_)
        refine W.eq (g2 := F0 m 173 ls [.int r53]) rfl ?_
        refine lv_if_eq F.1 F.2.1 d_Md_fits_173 rfl (fun hb54 => ?_) (fun hb54 => ?_)
        · rw [if_pos hb54] at hj47
          refine lv_iconst (v := 0) F.1 F.2.1 d_Md_fits_180 (by decide) ?_
          cases hj47
          exact KJ46 _ _ _ (lv_sub hl [] rfl) hP
        · rw [if_neg hb54] at hj47
          refine lv_iconst (v := 1) F.1 F.2.1 d_Md_fits_176 (by decide) ?_
          refine lv_goto F.1 F.2.1 d_Md_fits_177 rfl ?_
          cases hj47
          exact KJ46 _ _ _ (lv_sub hl [] rfl) hP
  rw [if_neg hs1_4] at hf
  by_cases hs1_5 : a0 = 5
  · rw [if_pos hs1_5] at hf
    refine lv_tableIn F.1 F.2.1 d_Md_fits_1 (by rw [hs1_5]; decide) (by rw [hs1_5]; decide) (off := 181) (by rw [hs1_5]; decide) rfl ?_
    refine lv_iload_n F.1 F.2.1 d_Md_fits_182 rfl (lv_at hl 1 rfl) ?_
    refine lv_iconst (v := 2) F.1 F.2.1 d_Md_fits_183 (by decide) ?_
    obtain ⟨r60, σ58, hk59, hf⟩ := bn2_some hf
    refine g_callS (As := [.int a1, .int 2]) (rest := []) F hP (c_Md_in l X n  hk59) ⟨by decide, by decide, q_Md_in⟩ w_1041 w_11 w_1039 w_1040 ⟨rfl, rfl⟩ ⟨by decide, by decide⟩ hl.1 (Nat.le_of_ble_eq_true rfl) ⟨Nat.zero_le _, Nat.zero_le _⟩ d_Md_fits_184 rfl (fun H locs hP => ?_)
    refine W.eq (g2 := F0 m 187 ls [.int r60]) rfl ?_
    obtain ⟨x61, σ62, hj64, hf⟩ := bn2_some hf
    have KJ63 : ∀ (ls : Array Slot) (H : Heap) (locs : List Loc), lv_has ls 4 [] → St X n σ62 s.heap H locs → WG l X n rm_Md_fits σ' (some (.int r)) p e s m args below meth c H locs (F0 m 204 ls [.int x61]) := by
      intro ls H locs hl hP
      obtain ⟨hz70, hf⟩ := chk_some hf
      cases hf
      exact g_zret F hP hr hlk hz70 d_Md_fits_204
    refine lv_if_eq F.1 F.2.1 d_Md_fits_187 rfl (fun hb69 => ?_) (fun hb69 => ?_)
    · rw [if_pos hb69] at hj64
      refine lv_iconst (v := 0) F.1 F.2.1 d_Md_fits_203 (by decide) ?_
      cases hj64
      exact KJ63 _ _ _ (lv_sub hl [] rfl) hP
    · rw [if_neg hb69] at hj64
      refine lv_iload_n F.1 F.2.1 d_Md_fits_190 rfl (lv_at hl 2 rfl) ?_
      refine lv_bipush (v := 15) F.1 F.2.1 d_Md_fits_191 (by decide) ?_
      obtain ⟨r67, σ65, hk66, hj64⟩ := bn2_some hj64
      refine g_callS (As := [.int a2, .int 15]) (rest := []) F hP (c_Md_in l X n  hk66) ⟨by decide, by decide, q_Md_in⟩ w_1041 w_11 w_1039 w_1040 ⟨rfl, rfl⟩ ⟨by decide, by decide⟩ hl.1 (Nat.le_of_ble_eq_true rfl) ⟨Nat.zero_le _, Nat.zero_le _⟩ d_Md_fits_193 rfl (fun H locs hP => ?_)
      refine W.eq (g2 := F0 m 196 ls [.int r67]) rfl ?_
      refine lv_if_eq F.1 F.2.1 d_Md_fits_196 rfl (fun hb68 => ?_) (fun hb68 => ?_)
      · rw [if_pos hb68] at hj64
        refine lv_iconst (v := 0) F.1 F.2.1 d_Md_fits_203 (by decide) ?_
        cases hj64
        exact KJ63 _ _ _ (lv_sub hl [] rfl) hP
      · rw [if_neg hb68] at hj64
        refine lv_iconst (v := 1) F.1 F.2.1 d_Md_fits_199 (by decide) ?_
        refine lv_goto F.1 F.2.1 d_Md_fits_200 rfl ?_
        cases hj64
        exact KJ63 _ _ _ (lv_sub hl [] rfl) hP
  rw [if_neg hs1_5] at hf
  by_cases hs1_6 : a0 = 6
  · rw [if_pos hs1_6] at hf
    refine lv_tableIn F.1 F.2.1 d_Md_fits_1 (by rw [hs1_6]; decide) (by rw [hs1_6]; decide) (off := 204) (by rw [hs1_6]; decide) rfl ?_
    refine lv_iload_n F.1 F.2.1 d_Md_fits_205 rfl (lv_at hl 2 rfl) ?_
    refine lv_bipush (v := 15) F.1 F.2.1 d_Md_fits_206 (by decide) ?_
    obtain ⟨r73, σ71, hk72, hf⟩ := bn2_some hf
    refine g_callS (As := [.int a2, .int 15]) (rest := []) F hP (c_Md_in l X n  hk72) ⟨by decide, by decide, q_Md_in⟩ w_1041 w_11 w_1039 w_1040 ⟨rfl, rfl⟩ ⟨by decide, by decide⟩ hl.1 (Nat.le_of_ble_eq_true rfl) ⟨Nat.zero_le _, Nat.zero_le _⟩ d_Md_fits_208 rfl (fun H locs hP => ?_)
    refine W.eq (g2 := F0 m 211 ls [.int r73]) rfl ?_
    obtain ⟨hz74, hf⟩ := chk_some hf
    cases hf
    exact g_zret F hP hr hlk hz74 d_Md_fits_211
  rw [if_neg hs1_6] at hf
  by_cases hs1_7 : a0 = 7
  · rw [if_pos hs1_7] at hf
    refine lv_tableIn F.1 F.2.1 d_Md_fits_1 (by rw [hs1_7]; decide) (by rw [hs1_7]; decide) (off := 211) (by rw [hs1_7]; decide) rfl ?_
    refine lv_iload_n F.1 F.2.1 d_Md_fits_212 rfl (lv_at hl 1 rfl) ?_
    refine lv_bipush (v := 15) F.1 F.2.1 d_Md_fits_213 (by decide) ?_
    obtain ⟨r77, σ75, hk76, hf⟩ := bn2_some hf
    refine g_callS (As := [.int a1, .int 15]) (rest := []) F hP (c_Md_in l X n  hk76) ⟨by decide, by decide, q_Md_in⟩ w_1041 w_11 w_1039 w_1040 ⟨rfl, rfl⟩ ⟨by decide, by decide⟩ hl.1 (Nat.le_of_ble_eq_true rfl) ⟨Nat.zero_le _, Nat.zero_le _⟩ d_Md_fits_215 rfl (fun H locs hP => ?_)
    refine W.eq (g2 := F0 m 218 ls [.int r77]) rfl ?_
    obtain ⟨hz78, hf⟩ := chk_some hf
    cases hf
    exact g_zret F hP hr hlk hz78 d_Md_fits_218
  rw [if_neg hs1_7] at hf
  by_cases hs1_8 : a0 = 8
  · rw [if_pos hs1_8] at hf
    refine lv_tableIn F.1 F.2.1 d_Md_fits_1 (by rw [hs1_8]; decide) (by rw [hs1_8]; decide) (off := 218) (by rw [hs1_8]; decide) rfl ?_
    refine lv_iload_n F.1 F.2.1 d_Md_fits_219 rfl (lv_at hl 1 rfl) ?_
    refine lv_iconst (v := 2) F.1 F.2.1 d_Md_fits_220 (by decide) ?_
    obtain ⟨r81, σ79, hk80, hf⟩ := bn2_some hf
    refine g_callS (As := [.int a1, .int 2]) (rest := []) F hP (c_Md_in l X n  hk80) ⟨by decide, by decide, q_Md_in⟩ w_1041 w_11 w_1039 w_1040 ⟨rfl, rfl⟩ ⟨by decide, by decide⟩ hl.1 (Nat.le_of_ble_eq_true rfl) ⟨Nat.zero_le _, Nat.zero_le _⟩ d_Md_fits_221 rfl (fun H locs hP => ?_)
    refine W.eq (g2 := F0 m 224 ls [.int r81]) rfl ?_
    obtain ⟨x82, σ83, hj85, hf⟩ := bn2_some hf
    have KJ84 : ∀ (ls : Array Slot) (H : Heap) (locs : List Loc), lv_has ls 4 [] → St X n σ83 s.heap H locs → WG l X n rm_Md_fits σ' (some (.int r)) p e s m args below meth c H locs (F0 m 250 ls [.int x82]) := by
      intro ls H locs hl hP
      obtain ⟨hz95, hf⟩ := chk_some hf
      cases hf
      exact g_zret F hP hr hlk hz95 d_Md_fits_250
    refine lv_if_eq F.1 F.2.1 d_Md_fits_224 rfl (fun hb94 => ?_) (fun hb94 => ?_)
    · rw [if_pos hb94] at hj85
      refine lv_iconst (v := 0) F.1 F.2.1 d_Md_fits_249 (by decide) ?_
      cases hj85
      exact KJ84 _ _ _ (lv_sub hl [] rfl) hP
    · rw [if_neg hb94] at hj85
      refine lv_iload_n F.1 F.2.1 d_Md_fits_227 rfl (lv_at hl 2 rfl) ?_
      refine lv_bipush (v := 60) F.1 F.2.1 d_Md_fits_228 (by decide) ?_
      obtain ⟨r88, σ86, hk87, hj85⟩ := bn2_some hj85
      refine g_callS (As := [.int a2, .int 60]) (rest := []) F hP (c_Md_in l X n  hk87) ⟨by decide, by decide, q_Md_in⟩ w_1041 w_11 w_1039 w_1040 ⟨rfl, rfl⟩ ⟨by decide, by decide⟩ hl.1 (Nat.le_of_ble_eq_true rfl) ⟨Nat.zero_le _, Nat.zero_le _⟩ d_Md_fits_230 rfl (fun H locs hP => ?_)
      refine W.eq (g2 := F0 m 233 ls [.int r88]) rfl ?_
      refine lv_if_eq F.1 F.2.1 d_Md_fits_233 rfl (fun hb93 => ?_) (fun hb93 => ?_)
      · rw [if_pos hb93] at hj85
        refine lv_iconst (v := 0) F.1 F.2.1 d_Md_fits_249 (by decide) ?_
        cases hj85
        exact KJ84 _ _ _ (lv_sub hl [] rfl) hP
      · rw [if_neg hb93] at hj85
        refine lv_iload_n F.1 F.2.1 d_Md_fits_236 rfl (lv_at hl 3 rfl) ?_
        refine lv_bipush (v := 15) F.1 F.2.1 d_Md_fits_237 (by decide) ?_
        obtain ⟨r91, σ89, hk90, hj85⟩ := bn2_some hj85
        refine g_callS (As := [.int a3, .int 15]) (rest := []) F hP (c_Md_in l X n  hk90) ⟨by decide, by decide, q_Md_in⟩ w_1041 w_11 w_1039 w_1040 ⟨rfl, rfl⟩ ⟨by decide, by decide⟩ hl.1 (Nat.le_of_ble_eq_true rfl) ⟨Nat.zero_le _, Nat.zero_le _⟩ d_Md_fits_239 rfl (fun H locs hP => ?_)
        refine W.eq (g2 := F0 m 242 ls [.int r91]) rfl ?_
        refine lv_if_eq F.1 F.2.1 d_Md_fits_242 rfl (fun hb92 => ?_) (fun hb92 => ?_)
        · rw [if_pos hb92] at hj85
          refine lv_iconst (v := 0) F.1 F.2.1 d_Md_fits_249 (by decide) ?_
          cases hj85
          exact KJ84 _ _ _ (lv_sub hl [] rfl) hP
        · rw [if_neg hb92] at hj85
          refine lv_iconst (v := 1) F.1 F.2.1 d_Md_fits_245 (by decide) ?_
          refine lv_goto F.1 F.2.1 d_Md_fits_246 rfl ?_
          cases hj85
          exact KJ84 _ _ _ (lv_sub hl [] rfl) hP
  rw [if_neg hs1_8] at hf
  by_cases hs1_15 : a0 = 15
  · rw [if_pos hs1_15] at hf
    refine lv_tableIn F.1 F.2.1 d_Md_fits_1 (by rw [hs1_15]; decide) (by rw [hs1_15]; decide) (off := 250) (by rw [hs1_15]; decide) rfl ?_
    refine lv_iload_n F.1 F.2.1 d_Md_fits_251 rfl (lv_at hl 1 rfl) ?_
    refine lv_bipush (v := 15) F.1 F.2.1 d_Md_fits_252 (by decide) ?_
    obtain ⟨r98, σ96, hk97, hf⟩ := bn2_some hf
    refine g_callS (As := [.int a1, .int 15]) (rest := []) F hP (c_Md_in l X n  hk97) ⟨by decide, by decide, q_Md_in⟩ w_1041 w_11 w_1039 w_1040 ⟨rfl, rfl⟩ ⟨by decide, by decide⟩ hl.1 (Nat.le_of_ble_eq_true rfl) ⟨Nat.zero_le _, Nat.zero_le _⟩ d_Md_fits_254 rfl (fun H locs hP => ?_)
    refine W.eq (g2 := F0 m 257 ls [.int r98]) rfl ?_
    obtain ⟨x99, σ100, hj102, hf⟩ := bn2_some hf
    have KJ101 : ∀ (ls : Array Slot) (H : Heap) (locs : List Loc), lv_has ls 4 [] → St X n σ100 s.heap H locs → WG l X n rm_Md_fits σ' (some (.int r)) p e s m args below meth c H locs (F0 m 274 ls [.int x99]) := by
      intro ls H locs hl hP
      obtain ⟨hz108, hf⟩ := chk_some hf
      cases hf
      exact g_zret F hP hr hlk hz108 d_Md_fits_274
    refine lv_if_eq F.1 F.2.1 d_Md_fits_257 rfl (fun hb107 => ?_) (fun hb107 => ?_)
    · rw [if_pos hb107] at hj102
      refine lv_iconst (v := 0) F.1 F.2.1 d_Md_fits_273 (by decide) ?_
      cases hj102
      exact KJ101 _ _ _ (lv_sub hl [] rfl) hP
    · rw [if_neg hb107] at hj102
      refine lv_iload_n F.1 F.2.1 d_Md_fits_260 rfl (lv_at hl 2 rfl) ?_
      refine lv_bipush (v := 60) F.1 F.2.1 d_Md_fits_261 (by decide) ?_
      obtain ⟨r105, σ103, hk104, hj102⟩ := bn2_some hj102
      refine g_callS (As := [.int a2, .int 60]) (rest := []) F hP (c_Md_in l X n  hk104) ⟨by decide, by decide, q_Md_in⟩ w_1041 w_11 w_1039 w_1040 ⟨rfl, rfl⟩ ⟨by decide, by decide⟩ hl.1 (Nat.le_of_ble_eq_true rfl) ⟨Nat.zero_le _, Nat.zero_le _⟩ d_Md_fits_263 rfl (fun H locs hP => ?_)
      refine W.eq (g2 := F0 m 266 ls [.int r105]) rfl ?_
      refine lv_if_eq F.1 F.2.1 d_Md_fits_266 rfl (fun hb106 => ?_) (fun hb106 => ?_)
      · rw [if_pos hb106] at hj102
        refine lv_iconst (v := 0) F.1 F.2.1 d_Md_fits_273 (by decide) ?_
        cases hj102
        exact KJ101 _ _ _ (lv_sub hl [] rfl) hP
      · rw [if_neg hb106] at hj102
        refine lv_iconst (v := 1) F.1 F.2.1 d_Md_fits_269 (by decide) ?_
        refine lv_goto F.1 F.2.1 d_Md_fits_270 rfl ?_
        cases hj102
        exact KJ101 _ _ _ (lv_sub hl [] rfl) hP
  rw [if_neg hs1_15] at hf
  by_cases hs1_16 : a0 = 16
  · rw [if_pos hs1_16] at hf
    refine lv_tableIn F.1 F.2.1 d_Md_fits_1 (by rw [hs1_16]; decide) (by rw [hs1_16]; decide) (off := 250) (by rw [hs1_16]; decide) rfl ?_
    refine lv_iload_n F.1 F.2.1 d_Md_fits_251 rfl (lv_at hl 1 rfl) ?_
    refine lv_bipush (v := 15) F.1 F.2.1 d_Md_fits_252 (by decide) ?_
    obtain ⟨r111, σ109, hk110, hf⟩ := bn2_some hf
    refine g_callS (As := [.int a1, .int 15]) (rest := []) F hP (c_Md_in l X n  hk110) ⟨by decide, by decide, q_Md_in⟩ w_1041 w_11 w_1039 w_1040 ⟨rfl, rfl⟩ ⟨by decide, by decide⟩ hl.1 (Nat.le_of_ble_eq_true rfl) ⟨Nat.zero_le _, Nat.zero_le _⟩ d_Md_fits_254 rfl (fun H locs hP => ?_)
    refine W.eq (g2 := F0 m 257 ls [.int r111]) rfl ?_
    obtain ⟨x112, σ113, hj115, hf⟩ := bn2_some hf
    have KJ114 : ∀ (ls : Array Slot) (H : Heap) (locs : List Loc), lv_has ls 4 [] → St X n σ113 s.heap H locs → WG l X n rm_Md_fits σ' (some (.int r)) p e s m args below meth c H locs (F0 m 274 ls [.int x112]) := by
      intro ls H locs hl hP
      obtain ⟨hz121, hf⟩ := chk_some hf
      cases hf
      exact g_zret F hP hr hlk hz121 d_Md_fits_274
    refine lv_if_eq F.1 F.2.1 d_Md_fits_257 rfl (fun hb120 => ?_) (fun hb120 => ?_)
    · rw [if_pos hb120] at hj115
      refine lv_iconst (v := 0) F.1 F.2.1 d_Md_fits_273 (by decide) ?_
      cases hj115
      exact KJ114 _ _ _ (lv_sub hl [] rfl) hP
    · rw [if_neg hb120] at hj115
      refine lv_iload_n F.1 F.2.1 d_Md_fits_260 rfl (lv_at hl 2 rfl) ?_
      refine lv_bipush (v := 60) F.1 F.2.1 d_Md_fits_261 (by decide) ?_
      obtain ⟨r118, σ116, hk117, hj115⟩ := bn2_some hj115
      refine g_callS (As := [.int a2, .int 60]) (rest := []) F hP (c_Md_in l X n  hk117) ⟨by decide, by decide, q_Md_in⟩ w_1041 w_11 w_1039 w_1040 ⟨rfl, rfl⟩ ⟨by decide, by decide⟩ hl.1 (Nat.le_of_ble_eq_true rfl) ⟨Nat.zero_le _, Nat.zero_le _⟩ d_Md_fits_263 rfl (fun H locs hP => ?_)
      refine W.eq (g2 := F0 m 266 ls [.int r118]) rfl ?_
      refine lv_if_eq F.1 F.2.1 d_Md_fits_266 rfl (fun hb119 => ?_) (fun hb119 => ?_)
      · rw [if_pos hb119] at hj115
        refine lv_iconst (v := 0) F.1 F.2.1 d_Md_fits_273 (by decide) ?_
        cases hj115
        exact KJ114 _ _ _ (lv_sub hl [] rfl) hP
      · rw [if_neg hb119] at hj115
        refine lv_iconst (v := 1) F.1 F.2.1 d_Md_fits_269 (by decide) ?_
        refine lv_goto F.1 F.2.1 d_Md_fits_270 rfl ?_
        cases hj115
        exact KJ114 _ _ _ (lv_sub hl [] rfl) hP
  rw [if_neg hs1_16] at hf
  by_cases hs1_17 : a0 = 17
  · rw [if_pos hs1_17] at hf
    refine lv_tableIn F.1 F.2.1 d_Md_fits_1 (by rw [hs1_17]; decide) (by rw [hs1_17]; decide) (off := 274) (by rw [hs1_17]; decide) rfl ?_
    refine lv_iload_n F.1 F.2.1 d_Md_fits_275 rfl (lv_at hl 1 rfl) ?_
    refine lv_bipush (v := 15) F.1 F.2.1 d_Md_fits_276 (by decide) ?_
    obtain ⟨r124, σ122, hk123, hf⟩ := bn2_some hf
    refine g_callS (As := [.int a1, .int 15]) (rest := []) F hP (c_Md_in l X n  hk123) ⟨by decide, by decide, q_Md_in⟩ w_1041 w_11 w_1039 w_1040 ⟨rfl, rfl⟩ ⟨by decide, by decide⟩ hl.1 (Nat.le_of_ble_eq_true rfl) ⟨Nat.zero_le _, Nat.zero_le _⟩ d_Md_fits_278 rfl (fun H locs hP => ?_)
    refine W.eq (g2 := F0 m 281 ls [.int r124]) rfl ?_
    obtain ⟨x125, σ126, hj128, hf⟩ := bn2_some hf
    have KJ127 : ∀ (ls : Array Slot) (H : Heap) (locs : List Loc), lv_has ls 4 [] → St X n σ126 s.heap H locs → WG l X n rm_Md_fits σ' (some (.int r)) p e s m args below meth c H locs (F0 m 307 ls [.int x125]) := by
      intro ls H locs hl hP
      obtain ⟨hz138, hf⟩ := chk_some hf
      cases hf
      exact g_zret F hP hr hlk hz138 d_Md_fits_307
    refine lv_if_eq F.1 F.2.1 d_Md_fits_281 rfl (fun hb137 => ?_) (fun hb137 => ?_)
    · rw [if_pos hb137] at hj128
      refine lv_iconst (v := 0) F.1 F.2.1 d_Md_fits_306 (by decide) ?_
      cases hj128
      exact KJ127 _ _ _ (lv_sub hl [] rfl) hP
    · rw [if_neg hb137] at hj128
      refine lv_iload_n F.1 F.2.1 d_Md_fits_284 rfl (lv_at hl 2 rfl) ?_
      refine lv_bipush (v := 15) F.1 F.2.1 d_Md_fits_285 (by decide) ?_
      obtain ⟨r131, σ129, hk130, hj128⟩ := bn2_some hj128
      refine g_callS (As := [.int a2, .int 15]) (rest := []) F hP (c_Md_in l X n  hk130) ⟨by decide, by decide, q_Md_in⟩ w_1041 w_11 w_1039 w_1040 ⟨rfl, rfl⟩ ⟨by decide, by decide⟩ hl.1 (Nat.le_of_ble_eq_true rfl) ⟨Nat.zero_le _, Nat.zero_le _⟩ d_Md_fits_287 rfl (fun H locs hP => ?_)
      refine W.eq (g2 := F0 m 290 ls [.int r131]) rfl ?_
      refine lv_if_eq F.1 F.2.1 d_Md_fits_290 rfl (fun hb136 => ?_) (fun hb136 => ?_)
      · rw [if_pos hb136] at hj128
        refine lv_iconst (v := 0) F.1 F.2.1 d_Md_fits_306 (by decide) ?_
        cases hj128
        exact KJ127 _ _ _ (lv_sub hl [] rfl) hP
      · rw [if_neg hb136] at hj128
        refine lv_iload_n F.1 F.2.1 d_Md_fits_293 rfl (lv_at hl 3 rfl) ?_
        refine lv_bipush (v := 15) F.1 F.2.1 d_Md_fits_294 (by decide) ?_
        obtain ⟨r134, σ132, hk133, hj128⟩ := bn2_some hj128
        refine g_callS (As := [.int a3, .int 15]) (rest := []) F hP (c_Md_in l X n  hk133) ⟨by decide, by decide, q_Md_in⟩ w_1041 w_11 w_1039 w_1040 ⟨rfl, rfl⟩ ⟨by decide, by decide⟩ hl.1 (Nat.le_of_ble_eq_true rfl) ⟨Nat.zero_le _, Nat.zero_le _⟩ d_Md_fits_296 rfl (fun H locs hP => ?_)
        refine W.eq (g2 := F0 m 299 ls [.int r134]) rfl ?_
        refine lv_if_eq F.1 F.2.1 d_Md_fits_299 rfl (fun hb135 => ?_) (fun hb135 => ?_)
        · rw [if_pos hb135] at hj128
          refine lv_iconst (v := 0) F.1 F.2.1 d_Md_fits_306 (by decide) ?_
          cases hj128
          exact KJ127 _ _ _ (lv_sub hl [] rfl) hP
        · rw [if_neg hb135] at hj128
          refine lv_iconst (v := 1) F.1 F.2.1 d_Md_fits_302 (by decide) ?_
          refine lv_goto F.1 F.2.1 d_Md_fits_303 rfl ?_
          cases hj128
          exact KJ127 _ _ _ (lv_sub hl [] rfl) hP
  rw [if_neg hs1_17] at hf
  by_cases hs1_18 : a0 = 18
  · rw [if_pos hs1_18] at hf
    refine lv_tableIn F.1 F.2.1 d_Md_fits_1 (by rw [hs1_18]; decide) (by rw [hs1_18]; decide) (off := 307) (by rw [hs1_18]; decide) rfl ?_
    refine lv_iload_n F.1 F.2.1 d_Md_fits_308 rfl (lv_at hl 1 rfl) ?_
    refine lv_bipush (v := 15) F.1 F.2.1 d_Md_fits_309 (by decide) ?_
    obtain ⟨r141, σ139, hk140, hf⟩ := bn2_some hf
    refine g_callS (As := [.int a1, .int 15]) (rest := []) F hP (c_Md_in l X n  hk140) ⟨by decide, by decide, q_Md_in⟩ w_1041 w_11 w_1039 w_1040 ⟨rfl, rfl⟩ ⟨by decide, by decide⟩ hl.1 (Nat.le_of_ble_eq_true rfl) ⟨Nat.zero_le _, Nat.zero_le _⟩ d_Md_fits_311 rfl (fun H locs hP => ?_)
    refine W.eq (g2 := F0 m 314 ls [.int r141]) rfl ?_
    obtain ⟨x142, hj144, hf⟩ := lt_some2 hf
    have KJ143 : ∀ (ls : Array Slot) (H : Heap) (locs : List Loc), lv_has ls 4 [] → St X n σ139 s.heap H locs → WG l X n rm_Md_fits σ' (some (.int r)) p e s m args below meth c H locs (F0 m 340 ls [.int x142]) := by
      intro ls H locs hl hP
      obtain ⟨hz149, hf⟩ := chk_some hf
      cases hf
      exact g_zret F hP hr hlk hz149 d_Md_fits_340
    refine lv_if_eq F.1 F.2.1 d_Md_fits_314 rfl (fun hb148 => ?_) (fun hb148 => ?_)
    · rw [if_pos hb148] at hj144
      refine lv_iconst (v := 0) F.1 F.2.1 d_Md_fits_339 (by decide) ?_
      subst hj144
      exact KJ143 _ _ _ (lv_sub hl [] rfl) hP
    · rw [if_neg hb148] at hj144
      refine lv_iload_n F.1 F.2.1 d_Md_fits_317 rfl (lv_at hl 2 rfl) ?_
      refine lv_iconst (v := 1) F.1 F.2.1 d_Md_fits_318 (by decide) ?_
      refine lv_icmp_lt F.1 F.2.1 d_Md_fits_319 rfl (fun hb147 => ?_) (fun hb147 => ?_)
      · rw [if_pos hb147] at hj144
        refine lv_iconst (v := 0) F.1 F.2.1 d_Md_fits_339 (by decide) ?_
        subst hj144
        exact KJ143 _ _ _ (lv_sub hl [] rfl) hP
      · rw [if_neg hb147] at hj144
        refine lv_iload_n F.1 F.2.1 d_Md_fits_322 rfl (lv_at hl 2 rfl) ?_
        refine lv_iconst (v := 4) F.1 F.2.1 d_Md_fits_323 (by decide) ?_
        refine lv_icmp_gt F.1 F.2.1 d_Md_fits_324 rfl (fun hb146 => ?_) (fun hb146 => ?_)
        · rw [if_pos hb146] at hj144
          refine lv_iconst (v := 0) F.1 F.2.1 d_Md_fits_339 (by decide) ?_
          subst hj144
          exact KJ143 _ _ _ (lv_sub hl [] rfl) hP
        · rw [if_neg hb146] at hj144
          refine lv_iload_n F.1 F.2.1 d_Md_fits_327 rfl (lv_at hl 1 rfl) ?_
          refine lv_iload_n F.1 F.2.1 d_Md_fits_328 rfl (lv_at hl 2 rfl) ?_
          refine lv_iadd F.1 F.2.1 d_Md_fits_329 ?_
          refine lv_bipush (v := 16) F.1 F.2.1 d_Md_fits_330 (by decide) ?_
          refine lv_icmp_gt F.1 F.2.1 d_Md_fits_332 rfl (fun hb145 => ?_) (fun hb145 => ?_)
          · rw [if_pos hb145] at hj144
            refine lv_iconst (v := 0) F.1 F.2.1 d_Md_fits_339 (by decide) ?_
            subst hj144
            exact KJ143 _ _ _ (lv_sub hl [] rfl) hP
          · rw [if_neg hb145] at hj144
            refine lv_iconst (v := 1) F.1 F.2.1 d_Md_fits_335 (by decide) ?_
            refine lv_goto F.1 F.2.1 d_Md_fits_336 rfl ?_
            subst hj144
            exact KJ143 _ _ _ (lv_sub hl [] rfl) hP
  rw [if_neg hs1_18] at hf
  by_cases hs1_19 : a0 = 19
  · rw [if_pos hs1_19] at hf
    refine lv_tableIn F.1 F.2.1 d_Md_fits_1 (by rw [hs1_19]; decide) (by rw [hs1_19]; decide) (off := 340) (by rw [hs1_19]; decide) rfl ?_
    refine lv_iload_n F.1 F.2.1 d_Md_fits_341 rfl (lv_at hl 1 rfl) ?_
    refine lv_bipush (v := 60) F.1 F.2.1 d_Md_fits_342 (by decide) ?_
    obtain ⟨r152, σ150, hk151, hf⟩ := bn2_some hf
    refine g_callS (As := [.int a1, .int 60]) (rest := []) F hP (c_Md_in l X n  hk151) ⟨by decide, by decide, q_Md_in⟩ w_1041 w_11 w_1039 w_1040 ⟨rfl, rfl⟩ ⟨by decide, by decide⟩ hl.1 (Nat.le_of_ble_eq_true rfl) ⟨Nat.zero_le _, Nat.zero_le _⟩ d_Md_fits_344 rfl (fun H locs hP => ?_)
    refine W.eq (g2 := F0 m 347 ls [.int r152]) rfl ?_
    obtain ⟨hz153, hf⟩ := chk_some hf
    cases hf
    exact g_zret F hP hr hlk hz153 d_Md_fits_347
  rw [if_neg hs1_19] at hf
  by_cases hs1_20 : a0 = 20
  · rw [if_pos hs1_20] at hf
    refine lv_tableIn F.1 F.2.1 d_Md_fits_1 (by rw [hs1_20]; decide) (by rw [hs1_20]; decide) (off := 347) (by rw [hs1_20]; decide) rfl ?_
    refine lv_iload_n F.1 F.2.1 d_Md_fits_348 rfl (lv_at hl 1 rfl) ?_
    refine lv_iconst (v := 2) F.1 F.2.1 d_Md_fits_349 (by decide) ?_
    obtain ⟨r156, σ154, hk155, hf⟩ := bn2_some hf
    refine g_callS (As := [.int a1, .int 2]) (rest := []) F hP (c_Md_in l X n  hk155) ⟨by decide, by decide, q_Md_in⟩ w_1041 w_11 w_1039 w_1040 ⟨rfl, rfl⟩ ⟨by decide, by decide⟩ hl.1 (Nat.le_of_ble_eq_true rfl) ⟨Nat.zero_le _, Nat.zero_le _⟩ d_Md_fits_350 rfl (fun H locs hP => ?_)
    refine W.eq (g2 := F0 m 353 ls [.int r156]) rfl ?_
    obtain ⟨x157, σ158, hj160, hf⟩ := bn2_some hf
    have KJ159 : ∀ (ls : Array Slot) (H : Heap) (locs : List Loc), lv_has ls 4 [] → St X n σ158 s.heap H locs → WG l X n rm_Md_fits σ' (some (.int r)) p e s m args below meth c H locs (F0 m 379 ls [.int x157]) := by
      intro ls H locs hl hP
      obtain ⟨hz170, hf⟩ := chk_some hf
      cases hf
      exact g_zret F hP hr hlk hz170 d_Md_fits_379
    refine lv_if_eq F.1 F.2.1 d_Md_fits_353 rfl (fun hb169 => ?_) (fun hb169 => ?_)
    · rw [if_pos hb169] at hj160
      refine lv_iconst (v := 0) F.1 F.2.1 d_Md_fits_378 (by decide) ?_
      cases hj160
      exact KJ159 _ _ _ (lv_sub hl [] rfl) hP
    · rw [if_neg hb169] at hj160
      refine lv_iload_n F.1 F.2.1 d_Md_fits_356 rfl (lv_at hl 2 rfl) ?_
      refine lv_bipush (v := 60) F.1 F.2.1 d_Md_fits_357 (by decide) ?_
      obtain ⟨r163, σ161, hk162, hj160⟩ := bn2_some hj160
      refine g_callS (As := [.int a2, .int 60]) (rest := []) F hP (c_Md_in l X n  hk162) ⟨by decide, by decide, q_Md_in⟩ w_1041 w_11 w_1039 w_1040 ⟨rfl, rfl⟩ ⟨by decide, by decide⟩ hl.1 (Nat.le_of_ble_eq_true rfl) ⟨Nat.zero_le _, Nat.zero_le _⟩ d_Md_fits_359 rfl (fun H locs hP => ?_)
      refine W.eq (g2 := F0 m 362 ls [.int r163]) rfl ?_
      refine lv_if_eq F.1 F.2.1 d_Md_fits_362 rfl (fun hb168 => ?_) (fun hb168 => ?_)
      · rw [if_pos hb168] at hj160
        refine lv_iconst (v := 0) F.1 F.2.1 d_Md_fits_378 (by decide) ?_
        cases hj160
        exact KJ159 _ _ _ (lv_sub hl [] rfl) hP
      · rw [if_neg hb168] at hj160
        refine lv_iload_n F.1 F.2.1 d_Md_fits_365 rfl (lv_at hl 3 rfl) ?_
        refine lv_bipush (v := 11) F.1 F.2.1 d_Md_fits_366 (by decide) ?_
        obtain ⟨r166, σ164, hk165, hj160⟩ := bn2_some hj160
        refine g_callS (As := [.int a3, .int 11]) (rest := []) F hP (c_Md_in l X n  hk165) ⟨by decide, by decide, q_Md_in⟩ w_1041 w_11 w_1039 w_1040 ⟨rfl, rfl⟩ ⟨by decide, by decide⟩ hl.1 (Nat.le_of_ble_eq_true rfl) ⟨Nat.zero_le _, Nat.zero_le _⟩ d_Md_fits_368 rfl (fun H locs hP => ?_)
        refine W.eq (g2 := F0 m 371 ls [.int r166]) rfl ?_
        refine lv_if_eq F.1 F.2.1 d_Md_fits_371 rfl (fun hb167 => ?_) (fun hb167 => ?_)
        · rw [if_pos hb167] at hj160
          refine lv_iconst (v := 0) F.1 F.2.1 d_Md_fits_378 (by decide) ?_
          cases hj160
          exact KJ159 _ _ _ (lv_sub hl [] rfl) hP
        · rw [if_neg hb167] at hj160
          refine lv_iconst (v := 1) F.1 F.2.1 d_Md_fits_374 (by decide) ?_
          refine lv_goto F.1 F.2.1 d_Md_fits_375 rfl ?_
          cases hj160
          exact KJ159 _ _ _ (lv_sub hl [] rfl) hP
  rw [if_neg hs1_20] at hf
  by_cases hs1_21 : a0 = 21
  · rw [if_pos hs1_21] at hf
    refine lv_tableIn F.1 F.2.1 d_Md_fits_1 (by rw [hs1_21]; decide) (by rw [hs1_21]; decide) (off := 379) (by rw [hs1_21]; decide) rfl ?_
    refine lv_iload_n F.1 F.2.1 d_Md_fits_380 rfl (lv_at hl 1 rfl) ?_
    refine lv_iconst (v := 2) F.1 F.2.1 d_Md_fits_381 (by decide) ?_
    obtain ⟨r173, σ171, hk172, hf⟩ := bn2_some hf
    refine g_callS (As := [.int a1, .int 2]) (rest := []) F hP (c_Md_in l X n  hk172) ⟨by decide, by decide, q_Md_in⟩ w_1041 w_11 w_1039 w_1040 ⟨rfl, rfl⟩ ⟨by decide, by decide⟩ hl.1 (Nat.le_of_ble_eq_true rfl) ⟨Nat.zero_le _, Nat.zero_le _⟩ d_Md_fits_382 rfl (fun H locs hP => ?_)
    refine W.eq (g2 := F0 m 385 ls [.int r173]) rfl ?_
    obtain ⟨hz174, hf⟩ := chk_some hf
    cases hf
    exact g_zret F hP hr hlk hz174 d_Md_fits_385
  rw [if_neg hs1_21] at hf
  have KD194 : ∀ (ls : Array Slot) (H : Heap) (locs : List Loc), lv_has ls 4 [(0, .int a0), (1, .int a1), (2, .int a2), (3, .int a3)] → St X n σ s.heap H locs → WG l X n rm_Md_fits σ' (some (.int r)) p e s m args below meth c H locs (F0 m 386 ls []) := by
    intro ls H locs hl hP
    refine lv_iload_n F.1 F.2.1 d_Md_fits_386 rfl (lv_at hl 0 rfl) ?_
    refine lv_bipush (v := 8) F.1 F.2.1 d_Md_fits_387 (by decide) ?_
    obtain ⟨x175, σ176, hj178, hf⟩ := bn2_some hf
    have KJ177 : ∀ (ls : Array Slot) (H : Heap) (locs : List Loc), lv_has ls 4 [] → St X n σ176 s.heap H locs → WG l X n rm_Md_fits σ' (some (.int r)) p e s m args below meth c H locs (F0 m 430 ls [.int x175]) := by
      intro ls H locs hl hP
      obtain ⟨hz193, hf⟩ := chk_some hf
      cases hf
      exact g_zret F hP hr hlk hz193 d_Md_fits_430
    refine lv_icmp_le F.1 F.2.1 d_Md_fits_389 rfl (fun hb192 => ?_) (fun hb192 => ?_)
    · rw [if_pos hb192] at hj178
      refine lv_iconst (v := 0) F.1 F.2.1 d_Md_fits_429 (by decide) ?_
      cases hj178
      exact KJ177 _ _ _ (lv_sub hl [] rfl) hP
    · rw [if_neg hb192] at hj178
      refine lv_iload_n F.1 F.2.1 d_Md_fits_392 rfl (lv_at hl 0 rfl) ?_
      refine lv_bipush (v := 15) F.1 F.2.1 d_Md_fits_393 (by decide) ?_
      refine lv_icmp_ge F.1 F.2.1 d_Md_fits_395 rfl (fun hb191 => ?_) (fun hb191 => ?_)
      · rw [if_pos hb191] at hj178
        refine lv_iconst (v := 0) F.1 F.2.1 d_Md_fits_429 (by decide) ?_
        cases hj178
        exact KJ177 _ _ _ (lv_sub hl [] rfl) hP
      · rw [if_neg hb191] at hj178
        refine lv_iload_n F.1 F.2.1 d_Md_fits_398 rfl (lv_at hl 1 rfl) ?_
        refine lv_bipush (v := 15) F.1 F.2.1 d_Md_fits_399 (by decide) ?_
        obtain ⟨r181, σ179, hk180, hj178⟩ := bn2_some hj178
        refine g_callS (As := [.int a1, .int 15]) (rest := []) F hP (c_Md_in l X n  hk180) ⟨by decide, by decide, q_Md_in⟩ w_1041 w_11 w_1039 w_1040 ⟨rfl, rfl⟩ ⟨by decide, by decide⟩ hl.1 (Nat.le_of_ble_eq_true rfl) ⟨Nat.zero_le _, Nat.zero_le _⟩ d_Md_fits_401 rfl (fun H locs hP => ?_)
        refine W.eq (g2 := F0 m 404 ls [.int r181]) rfl ?_
        refine lv_if_eq F.1 F.2.1 d_Md_fits_404 rfl (fun hb190 => ?_) (fun hb190 => ?_)
        · rw [if_pos hb190] at hj178
          refine lv_iconst (v := 0) F.1 F.2.1 d_Md_fits_429 (by decide) ?_
          cases hj178
          exact KJ177 _ _ _ (lv_sub hl [] rfl) hP
        · rw [if_neg hb190] at hj178
          refine lv_iload_n F.1 F.2.1 d_Md_fits_407 rfl (lv_at hl 2 rfl) ?_
          refine lv_bipush (v := 60) F.1 F.2.1 d_Md_fits_408 (by decide) ?_
          obtain ⟨r184, σ182, hk183, hj178⟩ := bn2_some hj178
          refine g_callS (As := [.int a2, .int 60]) (rest := []) F hP (c_Md_in l X n  hk183) ⟨by decide, by decide, q_Md_in⟩ w_1041 w_11 w_1039 w_1040 ⟨rfl, rfl⟩ ⟨by decide, by decide⟩ hl.1 (Nat.le_of_ble_eq_true rfl) ⟨Nat.zero_le _, Nat.zero_le _⟩ d_Md_fits_410 rfl (fun H locs hP => ?_)
          refine W.eq (g2 := F0 m 413 ls [.int r184]) rfl ?_
          refine lv_if_eq F.1 F.2.1 d_Md_fits_413 rfl (fun hb189 => ?_) (fun hb189 => ?_)
          · rw [if_pos hb189] at hj178
            refine lv_iconst (v := 0) F.1 F.2.1 d_Md_fits_429 (by decide) ?_
            cases hj178
            exact KJ177 _ _ _ (lv_sub hl [] rfl) hP
          · rw [if_neg hb189] at hj178
            refine lv_iload_n F.1 F.2.1 d_Md_fits_416 rfl (lv_at hl 3 rfl) ?_
            refine lv_bipush (v := 15) F.1 F.2.1 d_Md_fits_417 (by decide) ?_
            obtain ⟨r187, σ185, hk186, hj178⟩ := bn2_some hj178
            refine g_callS (As := [.int a3, .int 15]) (rest := []) F hP (c_Md_in l X n  hk186) ⟨by decide, by decide, q_Md_in⟩ w_1041 w_11 w_1039 w_1040 ⟨rfl, rfl⟩ ⟨by decide, by decide⟩ hl.1 (Nat.le_of_ble_eq_true rfl) ⟨Nat.zero_le _, Nat.zero_le _⟩ d_Md_fits_419 rfl (fun H locs hP => ?_)
            refine W.eq (g2 := F0 m 422 ls [.int r187]) rfl ?_
            refine lv_if_eq F.1 F.2.1 d_Md_fits_422 rfl (fun hb188 => ?_) (fun hb188 => ?_)
            · rw [if_pos hb188] at hj178
              refine lv_iconst (v := 0) F.1 F.2.1 d_Md_fits_429 (by decide) ?_
              cases hj178
              exact KJ177 _ _ _ (lv_sub hl [] rfl) hP
            · rw [if_neg hb188] at hj178
              refine lv_iconst (v := 1) F.1 F.2.1 d_Md_fits_425 (by decide) ?_
              refine lv_goto F.1 F.2.1 d_Md_fits_426 rfl ?_
              cases hj178
              exact KJ177 _ _ _ (lv_sub hl [] rfl) hP
  by_cases hs1_g9 : a0 = 9
  · exact lv_tableIn F.1 F.2.1 d_Md_fits_1 (by rw [hs1_g9]; decide) (by rw [hs1_g9]; decide) (off := 385) (by rw [hs1_g9]; decide) rfl (KD194 _ _ _ hl hP)
  by_cases hs1_g10 : a0 = 10
  · exact lv_tableIn F.1 F.2.1 d_Md_fits_1 (by rw [hs1_g10]; decide) (by rw [hs1_g10]; decide) (off := 385) (by rw [hs1_g10]; decide) rfl (KD194 _ _ _ hl hP)
  by_cases hs1_g11 : a0 = 11
  · exact lv_tableIn F.1 F.2.1 d_Md_fits_1 (by rw [hs1_g11]; decide) (by rw [hs1_g11]; decide) (off := 385) (by rw [hs1_g11]; decide) rfl (KD194 _ _ _ hl hP)
  by_cases hs1_g12 : a0 = 12
  · exact lv_tableIn F.1 F.2.1 d_Md_fits_1 (by rw [hs1_g12]; decide) (by rw [hs1_g12]; decide) (off := 385) (by rw [hs1_g12]; decide) rfl (KD194 _ _ _ hl hP)
  by_cases hs1_g13 : a0 = 13
  · exact lv_tableIn F.1 F.2.1 d_Md_fits_1 (by rw [hs1_g13]; decide) (by rw [hs1_g13]; decide) (off := 385) (by rw [hs1_g13]; decide) rfl (KD194 _ _ _ hl hP)
  by_cases hs1_g14 : a0 = 14
  · exact lv_tableIn F.1 F.2.1 d_Md_fits_1 (by rw [hs1_g14]; decide) (by rw [hs1_g14]; decide) (off := 385) (by rw [hs1_g14]; decide) rfl (KD194 _ _ _ hl hP)
  have z0 := lv_neT hs1_0 (k := 0) (a := 0) rfl
  have z1 := lv_neT hs1_1 (k := 1) (a := 1) rfl
  have z2 := lv_neT hs1_2 (k := 2) (a := 2) rfl
  have z3 := lv_neT hs1_3 (k := 3) (a := 3) rfl
  have z4 := lv_neT hs1_4 (k := 4) (a := 4) rfl
  have z5 := lv_neT hs1_5 (k := 5) (a := 5) rfl
  have z6 := lv_neT hs1_6 (k := 6) (a := 6) rfl
  have z7 := lv_neT hs1_7 (k := 7) (a := 7) rfl
  have z8 := lv_neT hs1_8 (k := 8) (a := 8) rfl
  have z9 := lv_neT hs1_g9 (k := 9) (a := 9) rfl
  have z10 := lv_neT hs1_g10 (k := 10) (a := 10) rfl
  have z11 := lv_neT hs1_g11 (k := 11) (a := 11) rfl
  have z12 := lv_neT hs1_g12 (k := 12) (a := 12) rfl
  have z13 := lv_neT hs1_g13 (k := 13) (a := 13) rfl
  have z14 := lv_neT hs1_g14 (k := 14) (a := 14) rfl
  have z15 := lv_neT hs1_15 (k := 15) (a := 15) rfl
  have z16 := lv_neT hs1_16 (k := 16) (a := 16) rfl
  have z17 := lv_neT hs1_17 (k := 17) (a := 17) rfl
  have z18 := lv_neT hs1_18 (k := 18) (a := 18) rfl
  have z19 := lv_neT hs1_19 (k := 19) (a := 19) rfl
  have z20 := lv_neT hs1_20 (k := 20) (a := 20) rfl
  have z21 := lv_neT hs1_21 (k := 21) (a := 21) rfl
  exact lv_tableOut F.1 F.2.1 d_Md_fits_1 (by omega) rfl (KD194 _ _ _ hl hP)

theorem d_Md_many_0 : decode b_Md_many 0 = .ok (.iload_n 0, 1) := by decide +kernel
theorem d_Md_many_1 : decode b_Md_many 1 = .ok (.ifCond .ne 5, 3) := by decide +kernel
theorem d_Md_many_4 : decode b_Md_many 4 = .ok (.iconst 0, 1) := by decide +kernel
theorem d_Md_many_5 : decode b_Md_many 5 = .ok (.ireturn, 1) := by decide +kernel
theorem d_Md_many_6 : decode b_Md_many 6 = .ok (.iload_n 0, 1) := by decide +kernel
theorem d_Md_many_7 : decode b_Md_many 7 = .ok (.bipush 7, 2) := by decide +kernel
theorem d_Md_many_9 : decode b_Md_many 9 = .ok (.if_icmp .eq 15, 3) := by decide +kernel
theorem d_Md_many_12 : decode b_Md_many 12 = .ok (.iload_n 0, 1) := by decide +kernel
theorem d_Md_many_13 : decode b_Md_many 13 = .ok (.bipush 19, 2) := by decide +kernel
theorem d_Md_many_15 : decode b_Md_many 15 = .ok (.if_icmp .eq 9, 3) := by decide +kernel
theorem d_Md_many_18 : decode b_Md_many 18 = .ok (.iload_n 0, 1) := by decide +kernel
theorem d_Md_many_19 : decode b_Md_many 19 = .ok (.bipush 21, 2) := by decide +kernel
theorem d_Md_many_21 : decode b_Md_many 21 = .ok (.if_icmp .ne 5, 3) := by decide +kernel
theorem d_Md_many_24 : decode b_Md_many 24 = .ok (.iconst 1, 1) := by decide +kernel
theorem d_Md_many_25 : decode b_Md_many 25 = .ok (.ireturn, 1) := by decide +kernel
theorem d_Md_many_26 : decode b_Md_many 26 = .ok (.iload_n 0, 1) := by decide +kernel
theorem d_Md_many_27 : decode b_Md_many 27 = .ok (.iconst 1, 1) := by decide +kernel
theorem d_Md_many_28 : decode b_Md_many 28 = .ok (.if_icmp .eq 42, 3) := by decide +kernel
theorem d_Md_many_31 : decode b_Md_many 31 = .ok (.iload_n 0, 1) := by decide +kernel
theorem d_Md_many_32 : decode b_Md_many 32 = .ok (.iconst 2, 1) := by decide +kernel
theorem d_Md_many_33 : decode b_Md_many 33 = .ok (.if_icmp .eq 37, 3) := by decide +kernel
theorem d_Md_many_36 : decode b_Md_many 36 = .ok (.iload_n 0, 1) := by decide +kernel
theorem d_Md_many_37 : decode b_Md_many 37 = .ok (.iconst 3, 1) := by decide +kernel
theorem d_Md_many_38 : decode b_Md_many 38 = .ok (.if_icmp .eq 32, 3) := by decide +kernel
theorem d_Md_many_41 : decode b_Md_many 41 = .ok (.iload_n 0, 1) := by decide +kernel
theorem d_Md_many_42 : decode b_Md_many 42 = .ok (.iconst 5, 1) := by decide +kernel
theorem d_Md_many_43 : decode b_Md_many 43 = .ok (.if_icmp .eq 27, 3) := by decide +kernel
theorem d_Md_many_46 : decode b_Md_many 46 = .ok (.iload_n 0, 1) := by decide +kernel
theorem d_Md_many_47 : decode b_Md_many 47 = .ok (.bipush 6, 2) := by decide +kernel
theorem d_Md_many_49 : decode b_Md_many 49 = .ok (.if_icmp .eq 21, 3) := by decide +kernel
theorem d_Md_many_52 : decode b_Md_many 52 = .ok (.iload_n 0, 1) := by decide +kernel
theorem d_Md_many_53 : decode b_Md_many 53 = .ok (.bipush 15, 2) := by decide +kernel
theorem d_Md_many_55 : decode b_Md_many 55 = .ok (.if_icmp .eq 15, 3) := by decide +kernel
theorem d_Md_many_58 : decode b_Md_many 58 = .ok (.iload_n 0, 1) := by decide +kernel
theorem d_Md_many_59 : decode b_Md_many 59 = .ok (.bipush 16, 2) := by decide +kernel
theorem d_Md_many_61 : decode b_Md_many 61 = .ok (.if_icmp .eq 9, 3) := by decide +kernel
theorem d_Md_many_64 : decode b_Md_many 64 = .ok (.iload_n 0, 1) := by decide +kernel
theorem d_Md_many_65 : decode b_Md_many 65 = .ok (.bipush 18, 2) := by decide +kernel
theorem d_Md_many_67 : decode b_Md_many 67 = .ok (.if_icmp .ne 7, 3) := by decide +kernel
theorem d_Md_many_70 : decode b_Md_many 70 = .ok (.iconst 2, 1) := by decide +kernel
theorem d_Md_many_71 : decode b_Md_many 71 = .ok (.goto 4, 3) := by decide +kernel
theorem d_Md_many_74 : decode b_Md_many 74 = .ok (.iconst 3, 1) := by decide +kernel
theorem d_Md_many_75 : decode b_Md_many 75 = .ok (.ireturn, 1) := by decide +kernel
noncomputable def f_Md_many (a0 : Int32) (σ : Sg) : Option (Int32 × Sg) :=
  (if a0 = 0 then (some (0, σ)) else (if a0 = 7 then (some (1, σ)) else (if a0 = 19 then (some (1, σ)) else (if a0 = 21 then (some (1, σ)) else (lt_ ((if a0 = 1 then 2 else (if a0 = 2 then 2 else (if a0 = 3 then 2 else (if a0 = 5 then 2 else (if a0 = 6 then 2 else (if a0 = 15 then 2 else (if a0 = 16 then 2 else (if a0 = 18 then 2 else 3)))))))) : Int32) (fun (x1 : Int32) => some (x1, σ)))))))
abbrev rm_Md_many : Room := { frames := 0, cells := 0, slots := 0, locals := 0 }
set_option maxHeartbeats 4000000 in
set_option maxRecDepth 100000 in
theorem c_Md_many (l : Launch) (X : GX) (n : Nat) {σ σ' : Sg} {r : Int32} {a0 : Int32}  (hf : f_Md_many a0 σ = some (r, σ')) : Met l y_Md_many (cw y_Md_many b_Md_many 1 (some .int)) rm_Md_many (PcG X n σ [.int a0]) (QcG X n σ' (some (.int r))) 0 0 (fr X n) := by
  refine g_head (own := "TableMachineModel") (by decide) rfl (Nat.le_of_ble_eq_true rfl) ?_
  intro p e s m args below meth c ls F hr hlk hP hl
  have hl : lv_has ls 1 [(0, .int a0)] := hl
  show WG l X n rm_Md_many σ' (some (.int r)) p e s m args below meth c s.heap [] (F0 m 0 ls [])
  unfold f_Md_many at hf
  refine lv_iload_n F.1 F.2.1 d_Md_many_0 rfl (lv_at hl 0 rfl) ?_
  refine lv_if_ne F.1 F.2.1 d_Md_many_1 rfl (fun hb15 => ?_) (fun hb15 => ?_)
  · rw [if_neg hb15] at hf
    refine lv_iload_n F.1 F.2.1 d_Md_many_6 rfl (lv_at hl 0 rfl) ?_
    refine lv_bipush (v := 7) F.1 F.2.1 d_Md_many_7 (by decide) ?_
    refine lv_icmp_eq F.1 F.2.1 d_Md_many_9 rfl (fun hb14 => ?_) (fun hb14 => ?_)
    · rw [if_pos hb14] at hf
      refine lv_iconst (v := 1) F.1 F.2.1 d_Md_many_24 (by decide) ?_
      cases hf
      exact g_iret F hP hr hlk d_Md_many_25
    · rw [if_neg hb14] at hf
      refine lv_iload_n F.1 F.2.1 d_Md_many_12 rfl (lv_at hl 0 rfl) ?_
      refine lv_bipush (v := 19) F.1 F.2.1 d_Md_many_13 (by decide) ?_
      refine lv_icmp_eq F.1 F.2.1 d_Md_many_15 rfl (fun hb13 => ?_) (fun hb13 => ?_)
      · rw [if_pos hb13] at hf
        refine lv_iconst (v := 1) F.1 F.2.1 d_Md_many_24 (by decide) ?_
        cases hf
        exact g_iret F hP hr hlk d_Md_many_25
      · rw [if_neg hb13] at hf
        refine lv_iload_n F.1 F.2.1 d_Md_many_18 rfl (lv_at hl 0 rfl) ?_
        refine lv_bipush (v := 21) F.1 F.2.1 d_Md_many_19 (by decide) ?_
        refine lv_icmp_ne F.1 F.2.1 d_Md_many_21 rfl (fun hb12 => ?_) (fun hb12 => ?_)
        · rw [if_neg hb12] at hf
          refine lv_iload_n F.1 F.2.1 d_Md_many_26 rfl (lv_at hl 0 rfl) ?_
          refine lv_iconst (v := 1) F.1 F.2.1 d_Md_many_27 (by decide) ?_
          obtain ⟨x1, hj3, hf⟩ := lt_some2 hf
          have KJ2 : ∀ (ls : Array Slot) (H : Heap) (locs : List Loc), lv_has ls 1 [] → St X n σ s.heap H locs → WG l X n rm_Md_many σ' (some (.int r)) p e s m args below meth c H locs (F0 m 75 ls [.int x1]) := by
            intro ls H locs hl hP
            cases hf
            exact g_iret F hP hr hlk d_Md_many_75
          refine lv_icmp_eq F.1 F.2.1 d_Md_many_28 rfl (fun hb11 => ?_) (fun hb11 => ?_)
          · rw [if_pos hb11] at hj3
            refine lv_iconst (v := 2) F.1 F.2.1 d_Md_many_70 (by decide) ?_
            refine lv_goto F.1 F.2.1 d_Md_many_71 rfl ?_
            subst hj3
            exact KJ2 _ _ _ (lv_sub hl [] rfl) hP
          · rw [if_neg hb11] at hj3
            refine lv_iload_n F.1 F.2.1 d_Md_many_31 rfl (lv_at hl 0 rfl) ?_
            refine lv_iconst (v := 2) F.1 F.2.1 d_Md_many_32 (by decide) ?_
            refine lv_icmp_eq F.1 F.2.1 d_Md_many_33 rfl (fun hb10 => ?_) (fun hb10 => ?_)
            · rw [if_pos hb10] at hj3
              refine lv_iconst (v := 2) F.1 F.2.1 d_Md_many_70 (by decide) ?_
              refine lv_goto F.1 F.2.1 d_Md_many_71 rfl ?_
              subst hj3
              exact KJ2 _ _ _ (lv_sub hl [] rfl) hP
            · rw [if_neg hb10] at hj3
              refine lv_iload_n F.1 F.2.1 d_Md_many_36 rfl (lv_at hl 0 rfl) ?_
              refine lv_iconst (v := 3) F.1 F.2.1 d_Md_many_37 (by decide) ?_
              refine lv_icmp_eq F.1 F.2.1 d_Md_many_38 rfl (fun hb9 => ?_) (fun hb9 => ?_)
              · rw [if_pos hb9] at hj3
                refine lv_iconst (v := 2) F.1 F.2.1 d_Md_many_70 (by decide) ?_
                refine lv_goto F.1 F.2.1 d_Md_many_71 rfl ?_
                subst hj3
                exact KJ2 _ _ _ (lv_sub hl [] rfl) hP
              · rw [if_neg hb9] at hj3
                refine lv_iload_n F.1 F.2.1 d_Md_many_41 rfl (lv_at hl 0 rfl) ?_
                refine lv_iconst (v := 5) F.1 F.2.1 d_Md_many_42 (by decide) ?_
                refine lv_icmp_eq F.1 F.2.1 d_Md_many_43 rfl (fun hb8 => ?_) (fun hb8 => ?_)
                · rw [if_pos hb8] at hj3
                  refine lv_iconst (v := 2) F.1 F.2.1 d_Md_many_70 (by decide) ?_
                  refine lv_goto F.1 F.2.1 d_Md_many_71 rfl ?_
                  subst hj3
                  exact KJ2 _ _ _ (lv_sub hl [] rfl) hP
                · rw [if_neg hb8] at hj3
                  refine lv_iload_n F.1 F.2.1 d_Md_many_46 rfl (lv_at hl 0 rfl) ?_
                  refine lv_bipush (v := 6) F.1 F.2.1 d_Md_many_47 (by decide) ?_
                  refine lv_icmp_eq F.1 F.2.1 d_Md_many_49 rfl (fun hb7 => ?_) (fun hb7 => ?_)
                  · rw [if_pos hb7] at hj3
                    refine lv_iconst (v := 2) F.1 F.2.1 d_Md_many_70 (by decide) ?_
                    refine lv_goto F.1 F.2.1 d_Md_many_71 rfl ?_
                    subst hj3
                    exact KJ2 _ _ _ (lv_sub hl [] rfl) hP
                  · rw [if_neg hb7] at hj3
                    refine lv_iload_n F.1 F.2.1 d_Md_many_52 rfl (lv_at hl 0 rfl) ?_
                    refine lv_bipush (v := 15) F.1 F.2.1 d_Md_many_53 (by decide) ?_
                    refine lv_icmp_eq F.1 F.2.1 d_Md_many_55 rfl (fun hb6 => ?_) (fun hb6 => ?_)
                    · rw [if_pos hb6] at hj3
                      refine lv_iconst (v := 2) F.1 F.2.1 d_Md_many_70 (by decide) ?_
                      refine lv_goto F.1 F.2.1 d_Md_many_71 rfl ?_
                      subst hj3
                      exact KJ2 _ _ _ (lv_sub hl [] rfl) hP
                    · rw [if_neg hb6] at hj3
                      refine lv_iload_n F.1 F.2.1 d_Md_many_58 rfl (lv_at hl 0 rfl) ?_
                      refine lv_bipush (v := 16) F.1 F.2.1 d_Md_many_59 (by decide) ?_
                      refine lv_icmp_eq F.1 F.2.1 d_Md_many_61 rfl (fun hb5 => ?_) (fun hb5 => ?_)
                      · rw [if_pos hb5] at hj3
                        refine lv_iconst (v := 2) F.1 F.2.1 d_Md_many_70 (by decide) ?_
                        refine lv_goto F.1 F.2.1 d_Md_many_71 rfl ?_
                        subst hj3
                        exact KJ2 _ _ _ (lv_sub hl [] rfl) hP
                      · rw [if_neg hb5] at hj3
                        refine lv_iload_n F.1 F.2.1 d_Md_many_64 rfl (lv_at hl 0 rfl) ?_
                        refine lv_bipush (v := 18) F.1 F.2.1 d_Md_many_65 (by decide) ?_
                        refine lv_icmp_ne F.1 F.2.1 d_Md_many_67 rfl (fun hb4 => ?_) (fun hb4 => ?_)
                        · rw [if_neg hb4] at hj3
                          refine lv_iconst (v := 3) F.1 F.2.1 d_Md_many_74 (by decide) ?_
                          subst hj3
                          exact KJ2 _ _ _ (lv_sub hl [] rfl) hP
                        · rw [if_pos hb4] at hj3
                          refine lv_iconst (v := 2) F.1 F.2.1 d_Md_many_70 (by decide) ?_
                          refine lv_goto F.1 F.2.1 d_Md_many_71 rfl ?_
                          subst hj3
                          exact KJ2 _ _ _ (lv_sub hl [] rfl) hP
        · rw [if_pos hb12] at hf
          refine lv_iconst (v := 1) F.1 F.2.1 d_Md_many_24 (by decide) ?_
          cases hf
          exact g_iret F hP hr hlk d_Md_many_25
  · rw [if_pos hb15] at hf
    refine lv_iconst (v := 0) F.1 F.2.1 d_Md_many_4 (by decide) ?_
    cases hf
    exact g_iret F hP hr hlk d_Md_many_5

theorem d_Md_put_0 : decode b_Md_put 0 = .ok (.iconst 4, 1) := by decide +kernel
theorem d_Md_put_1 : decode b_Md_put 1 = .ok (.aload_n 0, 1) := by decide +kernel
theorem d_Md_put_2 : decode b_Md_put 2 = .ok (.getfield 110, 3) := by decide +kernel
theorem d_Md_put_5 : decode b_Md_put 5 = .ok (.imul, 1) := by decide +kernel
theorem d_Md_put_6 : decode b_Md_put 6 = .ok (.istore 5, 2) := by decide +kernel
theorem d_Md_put_8 : decode b_Md_put 8 = .ok (.aload_n 0, 1) := by decide +kernel
theorem d_Md_put_9 : decode b_Md_put 9 = .ok (.getfield 33, 3) := by decide +kernel
theorem d_Md_put_12 : decode b_Md_put 12 = .ok (.iload 5, 2) := by decide +kernel
theorem d_Md_put_14 : decode b_Md_put 14 = .ok (.iload_n 1, 1) := by decide +kernel
theorem d_Md_put_15 : decode b_Md_put 15 = .ok (.iastore, 1) := by decide +kernel
theorem d_Md_put_16 : decode b_Md_put 16 = .ok (.aload_n 0, 1) := by decide +kernel
theorem d_Md_put_17 : decode b_Md_put 17 = .ok (.getfield 33, 3) := by decide +kernel
theorem d_Md_put_20 : decode b_Md_put 20 = .ok (.iload 5, 2) := by decide +kernel
theorem d_Md_put_22 : decode b_Md_put 22 = .ok (.iconst 1, 1) := by decide +kernel
theorem d_Md_put_23 : decode b_Md_put 23 = .ok (.iadd, 1) := by decide +kernel
theorem d_Md_put_24 : decode b_Md_put 24 = .ok (.iload_n 1, 1) := by decide +kernel
theorem d_Md_put_25 : decode b_Md_put 25 = .ok (.invokestatic 113, 3) := by decide +kernel
theorem d_Md_put_28 : decode b_Md_put 28 = .ok (.ifCond .le 7, 3) := by decide +kernel
theorem d_Md_put_31 : decode b_Md_put 31 = .ok (.iload_n 2, 1) := by decide +kernel
theorem d_Md_put_32 : decode b_Md_put 32 = .ok (.goto 4, 3) := by decide +kernel
theorem d_Md_put_35 : decode b_Md_put 35 = .ok (.iconst 0, 1) := by decide +kernel
theorem d_Md_put_36 : decode b_Md_put 36 = .ok (.iastore, 1) := by decide +kernel
theorem d_Md_put_37 : decode b_Md_put 37 = .ok (.aload_n 0, 1) := by decide +kernel
theorem d_Md_put_38 : decode b_Md_put 38 = .ok (.getfield 33, 3) := by decide +kernel
theorem d_Md_put_41 : decode b_Md_put 41 = .ok (.iload 5, 2) := by decide +kernel
theorem d_Md_put_43 : decode b_Md_put 43 = .ok (.iconst 2, 1) := by decide +kernel
theorem d_Md_put_44 : decode b_Md_put 44 = .ok (.iadd, 1) := by decide +kernel
theorem d_Md_put_45 : decode b_Md_put 45 = .ok (.iload_n 1, 1) := by decide +kernel
theorem d_Md_put_46 : decode b_Md_put 46 = .ok (.invokestatic 113, 3) := by decide +kernel
theorem d_Md_put_49 : decode b_Md_put 49 = .ok (.iconst 1, 1) := by decide +kernel
theorem d_Md_put_50 : decode b_Md_put 50 = .ok (.if_icmp .le 7, 3) := by decide +kernel
theorem d_Md_put_53 : decode b_Md_put 53 = .ok (.iload_n 3, 1) := by decide +kernel
theorem d_Md_put_54 : decode b_Md_put 54 = .ok (.goto 4, 3) := by decide +kernel
theorem d_Md_put_57 : decode b_Md_put 57 = .ok (.iconst 0, 1) := by decide +kernel
theorem d_Md_put_58 : decode b_Md_put 58 = .ok (.iastore, 1) := by decide +kernel
theorem d_Md_put_59 : decode b_Md_put 59 = .ok (.aload_n 0, 1) := by decide +kernel
theorem d_Md_put_60 : decode b_Md_put 60 = .ok (.getfield 33, 3) := by decide +kernel
theorem d_Md_put_63 : decode b_Md_put 63 = .ok (.iload 5, 2) := by decide +kernel
theorem d_Md_put_65 : decode b_Md_put 65 = .ok (.iconst 3, 1) := by decide +kernel
theorem d_Md_put_66 : decode b_Md_put 66 = .ok (.iadd, 1) := by decide +kernel
theorem d_Md_put_67 : decode b_Md_put 67 = .ok (.iload_n 1, 1) := by decide +kernel
theorem d_Md_put_68 : decode b_Md_put 68 = .ok (.invokestatic 113, 3) := by decide +kernel
theorem d_Md_put_71 : decode b_Md_put 71 = .ok (.iconst 2, 1) := by decide +kernel
theorem d_Md_put_72 : decode b_Md_put 72 = .ok (.if_icmp .le 8, 3) := by decide +kernel
theorem d_Md_put_75 : decode b_Md_put 75 = .ok (.iload 4, 2) := by decide +kernel
theorem d_Md_put_77 : decode b_Md_put 77 = .ok (.goto 4, 3) := by decide +kernel
theorem d_Md_put_80 : decode b_Md_put 80 = .ok (.iconst 0, 1) := by decide +kernel
theorem d_Md_put_81 : decode b_Md_put 81 = .ok (.iastore, 1) := by decide +kernel
theorem d_Md_put_82 : decode b_Md_put 82 = .ok (.aload_n 0, 1) := by decide +kernel
theorem d_Md_put_83 : decode b_Md_put 83 = .ok (.dup, 1) := by decide +kernel
theorem d_Md_put_84 : decode b_Md_put 84 = .ok (.getfield 110, 3) := by decide +kernel
theorem d_Md_put_87 : decode b_Md_put 87 = .ok (.iconst 1, 1) := by decide +kernel
theorem d_Md_put_88 : decode b_Md_put 88 = .ok (.iadd, 1) := by decide +kernel
theorem d_Md_put_89 : decode b_Md_put 89 = .ok (.putfield 110, 3) := by decide +kernel
theorem d_Md_put_92 : decode b_Md_put 92 = .ok (.return_, 1) := by decide +kernel
noncomputable def f_Md_put (a1 : Int32) (a2 : Int32) (a3 : Int32) (a4 : Int32) (σ : Sg) : Option (Sg) :=
  lt_ (4 * (gi σ 9 0 10) : Int32) (fun (x1 : Int32) => chk (vp_in x1 240) (lt_ (si σ 33 0 x1.toNatClampNeg a1) (fun σ3 => bn2 (f_Md_many a1 σ3) (fun r6 σ4 => lt_ ((if r6 ≤ 0 then 0 else a2) : Int32) (fun (x7 : Int32) => chk (vp_in (x1 + 1) 240) (lt_ (si σ4 33 0 ((x1 + 1).toNatClampNeg) x7) (fun σ12 => bn2 (f_Md_many a1 σ12) (fun r15 σ13 => lt_ ((if r15 ≤ 1 then 0 else a3) : Int32) (fun (x16 : Int32) => chk (vp_in (x1 + 2) 240) (lt_ (si σ13 33 0 ((x1 + 2).toNatClampNeg) x16) (fun σ21 => bn2 (f_Md_many a1 σ21) (fun r24 σ22 => lt_ ((if r24 ≤ 2 then 0 else a4) : Int32) (fun (x25 : Int32) => chk (vp_in (x1 + 3) 240) (lt_ (si σ22 33 0 ((x1 + 3).toNatClampNeg) x25) (fun σ30 => lt_ (si σ30 9 0 10 ((gi σ30 9 0 10) + 1)) (fun σ31 => some σ31))))))))))))))))
abbrev rm_Md_put : Room := { frames := 1, cells := 0, slots := 0, locals := 20 }
set_option maxHeartbeats 4000000 in
set_option maxRecDepth 100000 in
theorem c_Md_put (l : Launch) (X : GX) (n : Nat) {σ σ' : Sg} {a1 : Int32} {a2 : Int32} {a3 : Int32} {a4 : Int32}  (hf : f_Md_put a1 a2 a3 a4 σ = some σ') : Met l y_Md_put (cw y_Md_put b_Md_put 6 none) rm_Md_put (PcG X n σ [.ref (xL X 9 0), .int a1, .int a2, .int a3, .int a4]) (QcG X n σ' none) 0 0 (fr X n) := by
  refine g_head (own := "TableMachineModel") (by decide) rfl (Nat.le_of_ble_eq_true rfl) ?_
  intro p e s m args below meth c ls F hr hlk hP hl
  have hl : lv_has ls 6 [(0, .ref (xL X 9 0)), (1, .int a1), (2, .int a2), (3, .int a3), (4, .int a4)] := hl
  show WG l X n rm_Md_put σ' none p e s m args below meth c s.heap [] (F0 m 0 ls [])
  unfold f_Md_put at hf
  refine lv_iconst (v := 4) F.1 F.2.1 d_Md_put_0 (by decide) ?_
  refine lv_aload_n F.1 F.2.1 d_Md_put_1 rfl (lv_at hl 0 rfl) ?_
  refine g_get F hP 9 10 0 (by decide) Nat.zero_lt_one (by decide) (v := .int (gi σ 9 0 10)) rfl w_883 d_Md_put_2 ?_
  refine lv_imul F.1 F.2.1 d_Md_put_5 ?_
  obtain ⟨x1, e_x1, hf⟩ := lt_some hf
  rw [← e_x1]
  refine lv_istore F.1 F.2.1 d_Md_put_6 hl (by decide) rfl (fun ls hl => ?_)
  have hl : lv_has ls 6 [(5, .int x1), (0, .ref (xL X 9 0)), (1, .int a1), (2, .int a2), (3, .int a3), (4, .int a4)] := hl
  refine lv_aload_n F.1 F.2.1 d_Md_put_8 rfl (lv_at hl 1 rfl) ?_
  refine g_get F hP 9 11 0 (by decide) Nat.zero_lt_one (by decide) (v := .ref (xL X 33 0)) rfl w_884 d_Md_put_9 ?_
  refine lv_iload F.1 F.2.1 d_Md_put_12 (lv_at hl 0 rfl) ?_
  refine lv_iload_n F.1 F.2.1 d_Md_put_14 rfl (lv_at hl 2 rfl) ?_
  obtain ⟨hc2, hf⟩ := chk_some hf
  obtain ⟨σ3, e_σ3, hf⟩ := lt_some hf
  refine g_ast F hP 33 (by decide) (by decide) Nat.zero_lt_one rfl rfl hc2 d_Md_put_15 e_σ3 (fun H locs hP => ?_)
  refine lv_aload_n F.1 F.2.1 d_Md_put_16 rfl (lv_at hl 1 rfl) ?_
  refine g_get F hP 9 11 0 (by decide) Nat.zero_lt_one (by decide) (v := .ref (xL X 33 0)) rfl w_884 d_Md_put_17 ?_
  refine lv_iload F.1 F.2.1 d_Md_put_20 (lv_at hl 0 rfl) ?_
  refine lv_iconst (v := 1) F.1 F.2.1 d_Md_put_22 (by decide) ?_
  refine lv_iadd F.1 F.2.1 d_Md_put_23 ?_
  refine lv_iload_n F.1 F.2.1 d_Md_put_24 rfl (lv_at hl 2 rfl) ?_
  obtain ⟨r6, σ4, hk5, hf⟩ := bn2_some hf
  refine g_callS (As := [.int a1]) (rest := [.int (x1 + 1), .ref (xL X 33 0)]) F hP (c_Md_many l X n  hk5) ⟨by decide, by decide, q_Md_many⟩ w_1048 w_11 w_1046 w_1047 ⟨rfl, rfl⟩ ⟨by decide, by decide⟩ hl.1 (Nat.le_of_ble_eq_true rfl) ⟨Nat.zero_le _, Nat.zero_le _⟩ d_Md_put_25 rfl (fun H locs hP => ?_)
  refine W.eq (g2 := F0 m 28 ls [.int r6, .int (x1 + 1), .ref (xL X 33 0)]) rfl ?_
  obtain ⟨x7, hj9, hf⟩ := lt_some2 hf
  have KJ8 : ∀ (ls : Array Slot) (H : Heap) (locs : List Loc), lv_has ls 6 [(0, .ref (xL X 9 0)), (1, .int a1), (3, .int a3), (4, .int a4), (5, .int x1)] → St X n σ4 s.heap H locs → WG l X n rm_Md_put σ' none p e s m args below meth c H locs (F0 m 36 ls [.int x7, .int (x1 + 1), .ref (xL X 33 0)]) := by
    intro ls H locs hl hP
    obtain ⟨hc11, hf⟩ := chk_some hf
    obtain ⟨σ12, e_σ12, hf⟩ := lt_some hf
    refine g_ast F hP 33 (by decide) (by decide) Nat.zero_lt_one rfl rfl hc11 d_Md_put_36 e_σ12 (fun H locs hP => ?_)
    refine lv_aload_n F.1 F.2.1 d_Md_put_37 rfl (lv_at hl 0 rfl) ?_
    refine g_get F hP 9 11 0 (by decide) Nat.zero_lt_one (by decide) (v := .ref (xL X 33 0)) rfl w_884 d_Md_put_38 ?_
    refine lv_iload F.1 F.2.1 d_Md_put_41 (lv_at hl 4 rfl) ?_
    refine lv_iconst (v := 2) F.1 F.2.1 d_Md_put_43 (by decide) ?_
    refine lv_iadd F.1 F.2.1 d_Md_put_44 ?_
    refine lv_iload_n F.1 F.2.1 d_Md_put_45 rfl (lv_at hl 1 rfl) ?_
    obtain ⟨r15, σ13, hk14, hf⟩ := bn2_some hf
    refine g_callS (As := [.int a1]) (rest := [.int (x1 + 2), .ref (xL X 33 0)]) F hP (c_Md_many l X n  hk14) ⟨by decide, by decide, q_Md_many⟩ w_1048 w_11 w_1046 w_1047 ⟨rfl, rfl⟩ ⟨by decide, by decide⟩ hl.1 (Nat.le_of_ble_eq_true rfl) ⟨Nat.zero_le _, Nat.zero_le _⟩ d_Md_put_46 rfl (fun H locs hP => ?_)
    refine W.eq (g2 := F0 m 49 ls [.int r15, .int (x1 + 2), .ref (xL X 33 0)]) rfl ?_
    refine lv_iconst (v := 1) F.1 F.2.1 d_Md_put_49 (by decide) ?_
    obtain ⟨x16, hj18, hf⟩ := lt_some2 hf
    have KJ17 : ∀ (ls : Array Slot) (H : Heap) (locs : List Loc), lv_has ls 6 [(0, .ref (xL X 9 0)), (1, .int a1), (4, .int a4), (5, .int x1)] → St X n σ13 s.heap H locs → WG l X n rm_Md_put σ' none p e s m args below meth c H locs (F0 m 58 ls [.int x16, .int (x1 + 2), .ref (xL X 33 0)]) := by
      intro ls H locs hl hP
      obtain ⟨hc20, hf⟩ := chk_some hf
      obtain ⟨σ21, e_σ21, hf⟩ := lt_some hf
      refine g_ast F hP 33 (by decide) (by decide) Nat.zero_lt_one rfl rfl hc20 d_Md_put_58 e_σ21 (fun H locs hP => ?_)
      refine lv_aload_n F.1 F.2.1 d_Md_put_59 rfl (lv_at hl 0 rfl) ?_
      refine g_get F hP 9 11 0 (by decide) Nat.zero_lt_one (by decide) (v := .ref (xL X 33 0)) rfl w_884 d_Md_put_60 ?_
      refine lv_iload F.1 F.2.1 d_Md_put_63 (lv_at hl 3 rfl) ?_
      refine lv_iconst (v := 3) F.1 F.2.1 d_Md_put_65 (by decide) ?_
      refine lv_iadd F.1 F.2.1 d_Md_put_66 ?_
      refine lv_iload_n F.1 F.2.1 d_Md_put_67 rfl (lv_at hl 1 rfl) ?_
      obtain ⟨r24, σ22, hk23, hf⟩ := bn2_some hf
      refine g_callS (As := [.int a1]) (rest := [.int (x1 + 3), .ref (xL X 33 0)]) F hP (c_Md_many l X n  hk23) ⟨by decide, by decide, q_Md_many⟩ w_1048 w_11 w_1046 w_1047 ⟨rfl, rfl⟩ ⟨by decide, by decide⟩ hl.1 (Nat.le_of_ble_eq_true rfl) ⟨Nat.zero_le _, Nat.zero_le _⟩ d_Md_put_68 rfl (fun H locs hP => ?_)
      refine W.eq (g2 := F0 m 71 ls [.int r24, .int (x1 + 3), .ref (xL X 33 0)]) rfl ?_
      refine lv_iconst (v := 2) F.1 F.2.1 d_Md_put_71 (by decide) ?_
      obtain ⟨x25, hj27, hf⟩ := lt_some2 hf
      have KJ26 : ∀ (ls : Array Slot) (H : Heap) (locs : List Loc), lv_has ls 6 [(0, .ref (xL X 9 0))] → St X n σ22 s.heap H locs → WG l X n rm_Md_put σ' none p e s m args below meth c H locs (F0 m 81 ls [.int x25, .int (x1 + 3), .ref (xL X 33 0)]) := by
        intro ls H locs hl hP
        obtain ⟨hc29, hf⟩ := chk_some hf
        obtain ⟨σ30, e_σ30, hf⟩ := lt_some hf
        refine g_ast F hP 33 (by decide) (by decide) Nat.zero_lt_one rfl rfl hc29 d_Md_put_81 e_σ30 (fun H locs hP => ?_)
        refine lv_aload_n F.1 F.2.1 d_Md_put_82 rfl (lv_at hl 0 rfl) ?_
        refine lv_dup F.1 F.2.1 d_Md_put_83 rfl ?_
        refine g_get F hP 9 10 0 (by decide) Nat.zero_lt_one (by decide) (v := .int (gi σ30 9 0 10)) rfl w_883 d_Md_put_84 ?_
        refine lv_iconst (v := 1) F.1 F.2.1 d_Md_put_87 (by decide) ?_
        refine lv_iadd F.1 F.2.1 d_Md_put_88 ?_
        obtain ⟨σ31, e_σ31, hf⟩ := lt_some hf
        refine g_puti F hP 9 10 0 (by decide) Nat.zero_lt_one (by decide) rfl rfl rfl rfl (Or.inl w_883) d_Md_put_89 e_σ31 (fun H locs hP => ?_)
        cases hf
        exact g_vret F hP hr hlk d_Md_put_92
      refine lv_icmp_le F.1 F.2.1 d_Md_put_72 rfl (fun hb28 => ?_) (fun hb28 => ?_)
      · rw [if_pos hb28] at hj27
        refine lv_iconst (v := 0) F.1 F.2.1 d_Md_put_80 (by decide) ?_
        subst hj27
        exact KJ26 _ _ _ (lv_sub hl [0] rfl) hP
      · rw [if_neg hb28] at hj27
        refine lv_iload F.1 F.2.1 d_Md_put_75 (lv_at hl 2 rfl) ?_
        refine lv_goto F.1 F.2.1 d_Md_put_77 rfl ?_
        subst hj27
        exact KJ26 _ _ _ (lv_sub hl [0] rfl) hP
    refine lv_icmp_le F.1 F.2.1 d_Md_put_50 rfl (fun hb19 => ?_) (fun hb19 => ?_)
    · rw [if_pos hb19] at hj18
      refine lv_iconst (v := 0) F.1 F.2.1 d_Md_put_57 (by decide) ?_
      subst hj18
      exact KJ17 _ _ _ (lv_sub hl [0, 1, 3, 4] rfl) hP
    · rw [if_neg hb19] at hj18
      refine lv_iload_n F.1 F.2.1 d_Md_put_53 rfl (lv_at hl 2 rfl) ?_
      refine lv_goto F.1 F.2.1 d_Md_put_54 rfl ?_
      subst hj18
      exact KJ17 _ _ _ (lv_sub hl [0, 1, 3, 4] rfl) hP
  refine lv_if_le F.1 F.2.1 d_Md_put_28 rfl (fun hb10 => ?_) (fun hb10 => ?_)
  · rw [if_pos hb10] at hj9
    refine lv_iconst (v := 0) F.1 F.2.1 d_Md_put_35 (by decide) ?_
    subst hj9
    exact KJ8 _ _ _ (lv_sub hl [1, 2, 4, 5, 0] rfl) hP
  · rw [if_neg hb10] at hj9
    refine lv_iload_n F.1 F.2.1 d_Md_put_31 rfl (lv_at hl 3 rfl) ?_
    refine lv_goto F.1 F.2.1 d_Md_put_32 rfl ?_
    subst hj9
    exact KJ8 _ _ _ (lv_sub hl [1, 2, 4, 5, 0] rfl) hP

theorem d_Md_add_0 : decode b_Md_add 0 = .ok (.aload_n 0, 1) := by decide +kernel
theorem d_Md_add_1 : decode b_Md_add 1 = .ok (.iload_n 1, 1) := by decide +kernel
theorem d_Md_add_2 : decode b_Md_add 2 = .ok (.iload_n 2, 1) := by decide +kernel
theorem d_Md_add_3 : decode b_Md_add 3 = .ok (.iload_n 3, 1) := by decide +kernel
theorem d_Md_add_4 : decode b_Md_add 4 = .ok (.iload 4, 2) := by decide +kernel
theorem d_Md_add_6 : decode b_Md_add 6 = .ok (.invokestatic 117, 3) := by decide +kernel
theorem d_Md_add_9 : decode b_Md_add 9 = .ok (.ifCond .ne 7, 3) := by decide +kernel
theorem d_Md_add_12 : decode b_Md_add 12 = .ok (.iconst 1, 1) := by decide +kernel
theorem d_Md_add_13 : decode b_Md_add 13 = .ok (.goto 17, 3) := by decide +kernel
theorem d_Md_add_16 : decode b_Md_add 16 = .ok (.aload_n 0, 1) := by decide +kernel
theorem d_Md_add_17 : decode b_Md_add 17 = .ok (.getfield 110, 3) := by decide +kernel
theorem d_Md_add_20 : decode b_Md_add 20 = .ok (.bipush 60, 2) := by decide +kernel
theorem d_Md_add_22 : decode b_Md_add 22 = .ok (.if_icmp .ne 7, 3) := by decide +kernel
theorem d_Md_add_25 : decode b_Md_add 25 = .ok (.iconst 2, 1) := by decide +kernel
theorem d_Md_add_26 : decode b_Md_add 26 = .ok (.goto 4, 3) := by decide +kernel
theorem d_Md_add_29 : decode b_Md_add 29 = .ok (.iconst 0, 1) := by decide +kernel
theorem d_Md_add_30 : decode b_Md_add 30 = .ok (.putfield 73, 3) := by decide +kernel
theorem d_Md_add_33 : decode b_Md_add 33 = .ok (.aload_n 0, 1) := by decide +kernel
theorem d_Md_add_34 : decode b_Md_add 34 = .ok (.getfield 73, 3) := by decide +kernel
theorem d_Md_add_37 : decode b_Md_add 37 = .ok (.ifCond .le 5, 3) := by decide +kernel
theorem d_Md_add_40 : decode b_Md_add 40 = .ok (.iconst 0, 1) := by decide +kernel
theorem d_Md_add_41 : decode b_Md_add 41 = .ok (.ireturn, 1) := by decide +kernel
theorem d_Md_add_42 : decode b_Md_add 42 = .ok (.aload_n 0, 1) := by decide +kernel
theorem d_Md_add_43 : decode b_Md_add 43 = .ok (.iload_n 1, 1) := by decide +kernel
theorem d_Md_add_44 : decode b_Md_add 44 = .ok (.iload_n 2, 1) := by decide +kernel
theorem d_Md_add_45 : decode b_Md_add 45 = .ok (.iload_n 3, 1) := by decide +kernel
theorem d_Md_add_46 : decode b_Md_add 46 = .ok (.iload 4, 2) := by decide +kernel
theorem d_Md_add_48 : decode b_Md_add 48 = .ok (.invokevirtual 121, 3) := by decide +kernel
theorem d_Md_add_51 : decode b_Md_add 51 = .ok (.aload_n 0, 1) := by decide +kernel
theorem d_Md_add_52 : decode b_Md_add 52 = .ok (.getfield 110, 3) := by decide +kernel
theorem d_Md_add_55 : decode b_Md_add 55 = .ok (.iconst 1, 1) := by decide +kernel
theorem d_Md_add_56 : decode b_Md_add 56 = .ok (.isub, 1) := by decide +kernel
theorem d_Md_add_57 : decode b_Md_add 57 = .ok (.ireturn, 1) := by decide +kernel
noncomputable def f_Md_add (a1 : Int32) (a2 : Int32) (a3 : Int32) (a4 : Int32) (σ : Sg) : Option (Int32 × Sg) :=
  bn2 (f_Md_fits a1 a2 a3 a4 σ) (fun r3 σ1 => lt_ ((if r3 = 0 then 1 else (if (gi σ1 9 0 10) = 60 then 2 else 0)) : Int32) (fun (x4 : Int32) => lt_ (si σ1 9 0 0 x4) (fun σ9 => (if (gi σ9 9 0 0) ≤ 0 then ((f_Md_put a1 a2 a3 a4 σ9).bind (fun σ10 => some ((gi σ10 9 0 10) - 1, σ10))) else (some (0, σ9))))))
abbrev rm_Md_add : Room := { frames := 2, cells := 0, slots := 0, locals := 45 }
set_option maxHeartbeats 4000000 in
set_option maxRecDepth 100000 in
theorem c_Md_add (l : Launch) (X : GX) (n : Nat) {σ σ' : Sg} {r : Int32} {a1 : Int32} {a2 : Int32} {a3 : Int32} {a4 : Int32}  (hf : f_Md_add a1 a2 a3 a4 σ = some (r, σ')) : Met l y_Md_add (cw y_Md_add b_Md_add 5 (some .int)) rm_Md_add (PcG X n σ [.ref (xL X 9 0), .int a1, .int a2, .int a3, .int a4]) (QcG X n σ' (some (.int r))) 0 0 (fr X n) := by
  refine g_head (own := "TableMachineModel") (by decide) rfl (Nat.le_of_ble_eq_true rfl) ?_
  intro p e s m args below meth c ls F hr hlk hP hl
  have hl : lv_has ls 5 [(0, .ref (xL X 9 0)), (1, .int a1), (2, .int a2), (3, .int a3), (4, .int a4)] := hl
  show WG l X n rm_Md_add σ' (some (.int r)) p e s m args below meth c s.heap [] (F0 m 0 ls [])
  unfold f_Md_add at hf
  refine lv_aload_n F.1 F.2.1 d_Md_add_0 rfl (lv_at hl 0 rfl) ?_
  refine lv_iload_n F.1 F.2.1 d_Md_add_1 rfl (lv_at hl 1 rfl) ?_
  refine lv_iload_n F.1 F.2.1 d_Md_add_2 rfl (lv_at hl 2 rfl) ?_
  refine lv_iload_n F.1 F.2.1 d_Md_add_3 rfl (lv_at hl 3 rfl) ?_
  refine lv_iload F.1 F.2.1 d_Md_add_4 (lv_at hl 4 rfl) ?_
  obtain ⟨r3, σ1, hk2, hf⟩ := bn2_some hf
  refine g_callS (As := [.int a1, .int a2, .int a3, .int a4]) (rest := [.ref (xL X 9 0)]) F hP (c_Md_fits l X n  hk2) ⟨by decide, by decide, q_Md_fits⟩ w_1038 w_11 w_1036 w_1037 ⟨rfl, rfl⟩ ⟨by decide, by decide⟩ hl.1 (Nat.le_of_ble_eq_true rfl) ⟨Nat.zero_le _, Nat.zero_le _⟩ d_Md_add_6 rfl (fun H locs hP => ?_)
  refine W.eq (g2 := F0 m 9 ls [.int r3, .ref (xL X 9 0)]) rfl ?_
  obtain ⟨x4, hj6, hf⟩ := lt_some2 hf
  have KJ5 : ∀ (ls : Array Slot) (H : Heap) (locs : List Loc), lv_has ls 5 [(0, .ref (xL X 9 0)), (1, .int a1), (2, .int a2), (3, .int a3), (4, .int a4)] → St X n σ1 s.heap H locs → WG l X n rm_Md_add σ' (some (.int r)) p e s m args below meth c H locs (F0 m 30 ls [.int x4, .ref (xL X 9 0)]) := by
    intro ls H locs hl hP
    obtain ⟨σ9, e_σ9, hf⟩ := lt_some hf
    refine g_puti F hP 9 0 0 (by decide) Nat.zero_lt_one (by decide) rfl rfl rfl rfl (Or.inl w_873) d_Md_add_30 e_σ9 (fun H locs hP => ?_)
    refine lv_aload_n F.1 F.2.1 d_Md_add_33 rfl (lv_at hl 0 rfl) ?_
    refine g_get F hP 9 0 0 (by decide) Nat.zero_lt_one (by decide) (v := .int (gi σ9 9 0 0)) rfl w_873 d_Md_add_34 ?_
    refine lv_if_le F.1 F.2.1 d_Md_add_37 rfl (fun hb12 => ?_) (fun hb12 => ?_)
    · rw [if_pos hb12] at hf
      refine lv_aload_n F.1 F.2.1 d_Md_add_42 rfl (lv_at hl 0 rfl) ?_
      refine lv_iload_n F.1 F.2.1 d_Md_add_43 rfl (lv_at hl 1 rfl) ?_
      refine lv_iload_n F.1 F.2.1 d_Md_add_44 rfl (lv_at hl 2 rfl) ?_
      refine lv_iload_n F.1 F.2.1 d_Md_add_45 rfl (lv_at hl 3 rfl) ?_
      refine lv_iload F.1 F.2.1 d_Md_add_46 (lv_at hl 4 rfl) ?_
      obtain ⟨σ10, hk11, hf⟩ := bnd_some hf
      refine g_callV (As := [.int a1, .int a2, .int a3, .int a4]) (rest := []) F hP 9 0 (by decide) Nat.zero_lt_one (c_Md_put l X n  hk11) rfl q_Md_put w_1045 w_11 w_1042 w_1044 wp_41 ⟨rfl, rfl⟩ ⟨by decide, by decide⟩ hl.1 (Nat.le_of_ble_eq_true rfl) ⟨Nat.zero_le _, Nat.zero_le _⟩ d_Md_add_48 rfl (fun H locs hP => ?_)
      refine W.eq (g2 := F0 m 51 ls []) rfl ?_
      refine lv_aload_n F.1 F.2.1 d_Md_add_51 rfl (lv_at hl 0 rfl) ?_
      refine g_get F hP 9 10 0 (by decide) Nat.zero_lt_one (by decide) (v := .int (gi σ10 9 0 10)) rfl w_883 d_Md_add_52 ?_
      refine lv_iconst (v := 1) F.1 F.2.1 d_Md_add_55 (by decide) ?_
      refine lv_isub F.1 F.2.1 d_Md_add_56 ?_
      cases hf
      exact g_iret F hP hr hlk d_Md_add_57
    · rw [if_neg hb12] at hf
      refine lv_iconst (v := 0) F.1 F.2.1 d_Md_add_40 (by decide) ?_
      cases hf
      exact g_iret F hP hr hlk d_Md_add_41
  refine lv_if_ne F.1 F.2.1 d_Md_add_9 rfl (fun hb8 => ?_) (fun hb8 => ?_)
  · rw [if_neg hb8] at hj6
    refine lv_aload_n F.1 F.2.1 d_Md_add_16 rfl (lv_at hl 0 rfl) ?_
    refine g_get F hP 9 10 0 (by decide) Nat.zero_lt_one (by decide) (v := .int (gi σ1 9 0 10)) rfl w_883 d_Md_add_17 ?_
    refine lv_bipush (v := 60) F.1 F.2.1 d_Md_add_20 (by decide) ?_
    refine lv_icmp_ne F.1 F.2.1 d_Md_add_22 rfl (fun hb7 => ?_) (fun hb7 => ?_)
    · rw [if_neg hb7] at hj6
      refine lv_iconst (v := 0) F.1 F.2.1 d_Md_add_29 (by decide) ?_
      subst hj6
      exact KJ5 _ _ _ (lv_sub hl [0, 1, 2, 3, 4] rfl) hP
    · rw [if_pos hb7] at hj6
      refine lv_iconst (v := 2) F.1 F.2.1 d_Md_add_25 (by decide) ?_
      refine lv_goto F.1 F.2.1 d_Md_add_26 rfl ?_
      subst hj6
      exact KJ5 _ _ _ (lv_sub hl [0, 1, 2, 3, 4] rfl) hP
  · rw [if_pos hb8] at hj6
    refine lv_iconst (v := 1) F.1 F.2.1 d_Md_add_12 (by decide) ?_
    refine lv_goto F.1 F.2.1 d_Md_add_13 rfl ?_
    subst hj6
    exact KJ5 _ _ _ (lv_sub hl [0, 1, 2, 3, 4] rfl) hP

theorem d_Md_wipe_0 : decode b_Md_wipe 0 = .ok (.aload_n 0, 1) := by decide +kernel
theorem d_Md_wipe_1 : decode b_Md_wipe 1 = .ok (.iconst 0, 1) := by decide +kernel
theorem d_Md_wipe_2 : decode b_Md_wipe 2 = .ok (.putfield 73, 3) := by decide +kernel
theorem d_Md_wipe_5 : decode b_Md_wipe 5 = .ok (.aload_n 0, 1) := by decide +kernel
theorem d_Md_wipe_6 : decode b_Md_wipe 6 = .ok (.iconst 0, 1) := by decide +kernel
theorem d_Md_wipe_7 : decode b_Md_wipe 7 = .ok (.putfield 110, 3) := by decide +kernel
theorem d_Md_wipe_10 : decode b_Md_wipe 10 = .ok (.return_, 1) := by decide +kernel
noncomputable def f_Md_wipe  (σ : Sg) : Option (Sg) :=
  lt_ (si σ 9 0 0 0) (fun σ1 => lt_ (si σ1 9 0 10 0) (fun σ2 => some σ2))
abbrev rm_Md_wipe : Room := { frames := 0, cells := 0, slots := 0, locals := 0 }
set_option maxHeartbeats 4000000 in
set_option maxRecDepth 100000 in
theorem c_Md_wipe (l : Launch) (X : GX) (n : Nat) {σ σ' : Sg}   (hf : f_Md_wipe  σ = some σ') : Met l y_Md_wipe (cw y_Md_wipe b_Md_wipe 1 none) rm_Md_wipe (PcG X n σ [.ref (xL X 9 0)]) (QcG X n σ' none) 0 0 (fr X n) := by
  refine g_head (own := "TableMachineModel") (by decide) rfl (Nat.le_of_ble_eq_true rfl) ?_
  intro p e s m args below meth c ls F hr hlk hP hl
  have hl : lv_has ls 1 [(0, .ref (xL X 9 0))] := hl
  show WG l X n rm_Md_wipe σ' none p e s m args below meth c s.heap [] (F0 m 0 ls [])
  unfold f_Md_wipe at hf
  refine lv_aload_n F.1 F.2.1 d_Md_wipe_0 rfl (lv_at hl 0 rfl) ?_
  refine lv_iconst (v := 0) F.1 F.2.1 d_Md_wipe_1 (by decide) ?_
  obtain ⟨σ1, e_σ1, hf⟩ := lt_some hf
  refine g_puti F hP 9 0 0 (by decide) Nat.zero_lt_one (by decide) rfl rfl rfl rfl (Or.inl w_873) d_Md_wipe_2 e_σ1 (fun H locs hP => ?_)
  refine lv_aload_n F.1 F.2.1 d_Md_wipe_5 rfl (lv_at hl 0 rfl) ?_
  refine lv_iconst (v := 0) F.1 F.2.1 d_Md_wipe_6 (by decide) ?_
  obtain ⟨σ2, e_σ2, hf⟩ := lt_some hf
  refine g_puti F hP 9 10 0 (by decide) Nat.zero_lt_one (by decide) rfl rfl rfl rfl (Or.inl w_883) d_Md_wipe_7 e_σ2 (fun H locs hP => ?_)
  cases hf
  exact g_vret F hP hr hlk d_Md_wipe_10

theorem d_Md_code_0 : decode b_Md_code 0 = .ok (.aload_n 0, 1) := by decide +kernel
theorem d_Md_code_1 : decode b_Md_code 1 = .ok (.iload_n 1, 1) := by decide +kernel
theorem d_Md_code_2 : decode b_Md_code 2 = .ok (.ifCond .lt 20, 3) := by decide +kernel
theorem d_Md_code_5 : decode b_Md_code 5 = .ok (.iload_n 1, 1) := by decide +kernel
theorem d_Md_code_6 : decode b_Md_code 6 = .ok (.aload_n 0, 1) := by decide +kernel
theorem d_Md_code_7 : decode b_Md_code 7 = .ok (.getfield 110, 3) := by decide +kernel
theorem d_Md_code_10 : decode b_Md_code 10 = .ok (.if_icmp .ge 12, 3) := by decide +kernel
theorem d_Md_code_13 : decode b_Md_code 13 = .ok (.iload_n 2, 1) := by decide +kernel
theorem d_Md_code_14 : decode b_Md_code 14 = .ok (.ifCond .lt 8, 3) := by decide +kernel
theorem d_Md_code_17 : decode b_Md_code 17 = .ok (.iload_n 2, 1) := by decide +kernel
theorem d_Md_code_18 : decode b_Md_code 18 = .ok (.iconst 3, 1) := by decide +kernel
theorem d_Md_code_19 : decode b_Md_code 19 = .ok (.if_icmp .le 7, 3) := by decide +kernel
theorem d_Md_code_22 : decode b_Md_code 22 = .ok (.iconst 1, 1) := by decide +kernel
theorem d_Md_code_23 : decode b_Md_code 23 = .ok (.goto 4, 3) := by decide +kernel
theorem d_Md_code_26 : decode b_Md_code 26 = .ok (.iconst 0, 1) := by decide +kernel
theorem d_Md_code_27 : decode b_Md_code 27 = .ok (.putfield 73, 3) := by decide +kernel
theorem d_Md_code_30 : decode b_Md_code 30 = .ok (.aload_n 0, 1) := by decide +kernel
theorem d_Md_code_31 : decode b_Md_code 31 = .ok (.getfield 73, 3) := by decide +kernel
theorem d_Md_code_34 : decode b_Md_code 34 = .ok (.ifCond .le 7, 3) := by decide +kernel
theorem d_Md_code_37 : decode b_Md_code 37 = .ok (.iconst 0, 1) := by decide +kernel
theorem d_Md_code_38 : decode b_Md_code 38 = .ok (.goto 13, 3) := by decide +kernel
theorem d_Md_code_41 : decode b_Md_code 41 = .ok (.aload_n 0, 1) := by decide +kernel
theorem d_Md_code_42 : decode b_Md_code 42 = .ok (.getfield 33, 3) := by decide +kernel
theorem d_Md_code_45 : decode b_Md_code 45 = .ok (.iconst 4, 1) := by decide +kernel
theorem d_Md_code_46 : decode b_Md_code 46 = .ok (.iload_n 1, 1) := by decide +kernel
theorem d_Md_code_47 : decode b_Md_code 47 = .ok (.imul, 1) := by decide +kernel
theorem d_Md_code_48 : decode b_Md_code 48 = .ok (.iload_n 2, 1) := by decide +kernel
theorem d_Md_code_49 : decode b_Md_code 49 = .ok (.iadd, 1) := by decide +kernel
theorem d_Md_code_50 : decode b_Md_code 50 = .ok (.iaload, 1) := by decide +kernel
theorem d_Md_code_51 : decode b_Md_code 51 = .ok (.ireturn, 1) := by decide +kernel
noncomputable def f_Md_code (a1 : Int32) (a2 : Int32) (σ : Sg) : Option (Int32 × Sg) :=
  lt_ ((if a1 < 0 then 1 else (if (gi σ 9 0 10) ≤ a1 then 1 else (if a2 < 0 then 1 else (if a2 ≤ 3 then 0 else 1)))) : Int32) (fun (x1 : Int32) => lt_ (si σ 9 0 0 x1) (fun σ8 => Option.bind (if (gi σ8 9 0 0) ≤ 0 then (chk (vp_in ((4 * a1) + a2) 240) (some (gi σ8 33 0 (((4 * a1) + a2).toNatClampNeg)))) else (some (0))) (fun (x9 : Int32) => some (x9, σ8))))
abbrev rm_Md_code : Room := { frames := 0, cells := 0, slots := 0, locals := 0 }
set_option maxHeartbeats 4000000 in
set_option maxRecDepth 100000 in
theorem c_Md_code (l : Launch) (X : GX) (n : Nat) {σ σ' : Sg} {r : Int32} {a1 : Int32} {a2 : Int32}  (hf : f_Md_code a1 a2 σ = some (r, σ')) : Met l y_Md_code (cw y_Md_code b_Md_code 3 (some .int)) rm_Md_code (PcG X n σ [.ref (xL X 9 0), .int a1, .int a2]) (QcG X n σ' (some (.int r))) 0 0 (fr X n) := by
  refine g_head (own := "TableMachineModel") (by decide) rfl (Nat.le_of_ble_eq_true rfl) ?_
  intro p e s m args below meth c ls F hr hlk hP hl
  have hl : lv_has ls 3 [(0, .ref (xL X 9 0)), (1, .int a1), (2, .int a2)] := hl
  show WG l X n rm_Md_code σ' (some (.int r)) p e s m args below meth c s.heap [] (F0 m 0 ls [])
  unfold f_Md_code at hf
  refine lv_aload_n F.1 F.2.1 d_Md_code_0 rfl (lv_at hl 0 rfl) ?_
  refine lv_iload_n F.1 F.2.1 d_Md_code_1 rfl (lv_at hl 1 rfl) ?_
  obtain ⟨x1, hj3, hf⟩ := lt_some2 hf
  have KJ2 : ∀ (ls : Array Slot) (H : Heap) (locs : List Loc), lv_has ls 3 [(0, .ref (xL X 9 0)), (1, .int a1), (2, .int a2)] → St X n σ s.heap H locs → WG l X n rm_Md_code σ' (some (.int r)) p e s m args below meth c H locs (F0 m 27 ls [.int x1, .ref (xL X 9 0)]) := by
    intro ls H locs hl hP
    obtain ⟨σ8, e_σ8, hf⟩ := lt_some hf
    refine g_puti F hP 9 0 0 (by decide) Nat.zero_lt_one (by decide) rfl rfl rfl rfl (Or.inl w_873) d_Md_code_27 e_σ8 (fun H locs hP => ?_)
    refine lv_aload_n F.1 F.2.1 d_Md_code_30 rfl (lv_at hl 0 rfl) ?_
    refine g_get F hP 9 0 0 (by decide) Nat.zero_lt_one (by decide) (v := .int (gi σ8 9 0 0)) rfl w_873 d_Md_code_31 ?_
    obtain ⟨x9, hj11, hf⟩ := bnd_some hf
    have KJ10 : ∀ (ls : Array Slot) (H : Heap) (locs : List Loc), lv_has ls 3 [] → St X n σ8 s.heap H locs → WG l X n rm_Md_code σ' (some (.int r)) p e s m args below meth c H locs (F0 m 51 ls [.int x9]) := by
      intro ls H locs hl hP
      cases hf
      exact g_iret F hP hr hlk d_Md_code_51
    refine lv_if_le F.1 F.2.1 d_Md_code_34 rfl (fun hb13 => ?_) (fun hb13 => ?_)
    · rw [if_pos hb13] at hj11
      refine lv_aload_n F.1 F.2.1 d_Md_code_41 rfl (lv_at hl 0 rfl) ?_
      refine g_get F hP 9 11 0 (by decide) Nat.zero_lt_one (by decide) (v := .ref (xL X 33 0)) rfl w_884 d_Md_code_42 ?_
      refine lv_iconst (v := 4) F.1 F.2.1 d_Md_code_45 (by decide) ?_
      refine lv_iload_n F.1 F.2.1 d_Md_code_46 rfl (lv_at hl 1 rfl) ?_
      refine lv_imul F.1 F.2.1 d_Md_code_47 ?_
      refine lv_iload_n F.1 F.2.1 d_Md_code_48 rfl (lv_at hl 2 rfl) ?_
      refine lv_iadd F.1 F.2.1 d_Md_code_49 ?_
      obtain ⟨hc12, hj11⟩ := chk_some hj11
      refine g_ald F hP 33 (by decide) (by decide) Nat.zero_lt_one rfl rfl hc12 d_Md_code_50 ?_
      cases hj11
      exact KJ10 _ _ _ (lv_sub hl [] rfl) hP
    · rw [if_neg hb13] at hj11
      refine lv_iconst (v := 0) F.1 F.2.1 d_Md_code_37 (by decide) ?_
      refine lv_goto F.1 F.2.1 d_Md_code_38 rfl ?_
      cases hj11
      exact KJ10 _ _ _ (lv_sub hl [] rfl) hP
  refine lv_if_lt F.1 F.2.1 d_Md_code_2 rfl (fun hb7 => ?_) (fun hb7 => ?_)
  · rw [if_pos hb7] at hj3
    refine lv_iconst (v := 1) F.1 F.2.1 d_Md_code_22 (by decide) ?_
    refine lv_goto F.1 F.2.1 d_Md_code_23 rfl ?_
    subst hj3
    exact KJ2 _ _ _ (lv_sub hl [0, 1, 2] rfl) hP
  · rw [if_neg hb7] at hj3
    refine lv_iload_n F.1 F.2.1 d_Md_code_5 rfl (lv_at hl 1 rfl) ?_
    refine lv_aload_n F.1 F.2.1 d_Md_code_6 rfl (lv_at hl 0 rfl) ?_
    refine g_get F hP 9 10 0 (by decide) Nat.zero_lt_one (by decide) (v := .int (gi σ 9 0 10)) rfl w_883 d_Md_code_7 ?_
    refine lv_icmp_ge F.1 F.2.1 d_Md_code_10 rfl (fun hb6 => ?_) (fun hb6 => ?_)
    · rw [if_pos hb6] at hj3
      refine lv_iconst (v := 1) F.1 F.2.1 d_Md_code_22 (by decide) ?_
      refine lv_goto F.1 F.2.1 d_Md_code_23 rfl ?_
      subst hj3
      exact KJ2 _ _ _ (lv_sub hl [0, 1, 2] rfl) hP
    · rw [if_neg hb6] at hj3
      refine lv_iload_n F.1 F.2.1 d_Md_code_13 rfl (lv_at hl 2 rfl) ?_
      refine lv_if_lt F.1 F.2.1 d_Md_code_14 rfl (fun hb5 => ?_) (fun hb5 => ?_)
      · rw [if_pos hb5] at hj3
        refine lv_iconst (v := 1) F.1 F.2.1 d_Md_code_22 (by decide) ?_
        refine lv_goto F.1 F.2.1 d_Md_code_23 rfl ?_
        subst hj3
        exact KJ2 _ _ _ (lv_sub hl [0, 1, 2] rfl) hP
      · rw [if_neg hb5] at hj3
        refine lv_iload_n F.1 F.2.1 d_Md_code_17 rfl (lv_at hl 2 rfl) ?_
        refine lv_iconst (v := 3) F.1 F.2.1 d_Md_code_18 (by decide) ?_
        refine lv_icmp_le F.1 F.2.1 d_Md_code_19 rfl (fun hb4 => ?_) (fun hb4 => ?_)
        · rw [if_pos hb4] at hj3
          refine lv_iconst (v := 0) F.1 F.2.1 d_Md_code_26 (by decide) ?_
          subst hj3
          exact KJ2 _ _ _ (lv_sub hl [0, 1, 2] rfl) hP
        · rw [if_neg hb4] at hj3
          refine lv_iconst (v := 1) F.1 F.2.1 d_Md_code_22 (by decide) ?_
          refine lv_goto F.1 F.2.1 d_Md_code_23 rfl ?_
          subst hj3
          exact KJ2 _ _ _ (lv_sub hl [0, 1, 2] rfl) hP

theorem d_Md_goal_0 : decode b_Md_goal 0 = .ok (.iload_n 0, 1) := by decide +kernel
theorem d_Md_goal_1 : decode b_Md_goal 1 = .ok (.bipush 19, 2) := by decide +kernel
theorem d_Md_goal_3 : decode b_Md_goal 3 = .ok (.if_icmp .ne 5, 3) := by decide +kernel
theorem d_Md_goal_6 : decode b_Md_goal 6 = .ok (.iconst 1, 1) := by decide +kernel
theorem d_Md_goal_7 : decode b_Md_goal 7 = .ok (.ireturn, 1) := by decide +kernel
theorem d_Md_goal_8 : decode b_Md_goal 8 = .ok (.iload_n 0, 1) := by decide +kernel
theorem d_Md_goal_9 : decode b_Md_goal 9 = .ok (.iconst 2, 1) := by decide +kernel
theorem d_Md_goal_10 : decode b_Md_goal 10 = .ok (.if_icmp .eq 32, 3) := by decide +kernel
theorem d_Md_goal_13 : decode b_Md_goal 13 = .ok (.iload_n 0, 1) := by decide +kernel
theorem d_Md_goal_14 : decode b_Md_goal 14 = .ok (.iconst 3, 1) := by decide +kernel
theorem d_Md_goal_15 : decode b_Md_goal 15 = .ok (.if_icmp .eq 27, 3) := by decide +kernel
theorem d_Md_goal_18 : decode b_Md_goal 18 = .ok (.iload_n 0, 1) := by decide +kernel
theorem d_Md_goal_19 : decode b_Md_goal 19 = .ok (.bipush 8, 2) := by decide +kernel
theorem d_Md_goal_21 : decode b_Md_goal 21 = .ok (.if_icmp .eq 21, 3) := by decide +kernel
theorem d_Md_goal_24 : decode b_Md_goal 24 = .ok (.iload_n 0, 1) := by decide +kernel
theorem d_Md_goal_25 : decode b_Md_goal 25 = .ok (.bipush 9, 2) := by decide +kernel
theorem d_Md_goal_27 : decode b_Md_goal 27 = .ok (.if_icmp .lt 9, 3) := by decide +kernel
theorem d_Md_goal_30 : decode b_Md_goal 30 = .ok (.iload_n 0, 1) := by decide +kernel
theorem d_Md_goal_31 : decode b_Md_goal 31 = .ok (.bipush 16, 2) := by decide +kernel
theorem d_Md_goal_33 : decode b_Md_goal 33 = .ok (.if_icmp .le 9, 3) := by decide +kernel
theorem d_Md_goal_36 : decode b_Md_goal 36 = .ok (.iload_n 0, 1) := by decide +kernel
theorem d_Md_goal_37 : decode b_Md_goal 37 = .ok (.bipush 20, 2) := by decide +kernel
theorem d_Md_goal_39 : decode b_Md_goal 39 = .ok (.if_icmp .ne 7, 3) := by decide +kernel
theorem d_Md_goal_42 : decode b_Md_goal 42 = .ok (.iconst 1, 1) := by decide +kernel
theorem d_Md_goal_43 : decode b_Md_goal 43 = .ok (.goto 4, 3) := by decide +kernel
theorem d_Md_goal_46 : decode b_Md_goal 46 = .ok (.iconst 0, 1) := by decide +kernel
theorem d_Md_goal_47 : decode b_Md_goal 47 = .ok (.istore_n 1, 1) := by decide +kernel
theorem d_Md_goal_48 : decode b_Md_goal 48 = .ok (.iload_n 1, 1) := by decide +kernel
theorem d_Md_goal_49 : decode b_Md_goal 49 = .ok (.ifCond .eq 7, 3) := by decide +kernel
theorem d_Md_goal_52 : decode b_Md_goal 52 = .ok (.iconst 2, 1) := by decide +kernel
theorem d_Md_goal_53 : decode b_Md_goal 53 = .ok (.goto 4, 3) := by decide +kernel
theorem d_Md_goal_56 : decode b_Md_goal 56 = .ok (.iconst 0, 1) := by decide +kernel
theorem d_Md_goal_57 : decode b_Md_goal 57 = .ok (.ireturn, 1) := by decide +kernel
noncomputable def f_Md_goal (a0 : Int32) (σ : Sg) : Option (Int32 × Sg) :=
  (if a0 = 19 then (some (1, σ)) else (lt_ ((if a0 = 2 then 1 else (if a0 = 3 then 1 else (if a0 = 8 then 1 else (if a0 < 9 then (if a0 = 20 then 1 else 0) else (if a0 ≤ 16 then 1 else (if a0 = 20 then 1 else 0)))))) : Int32) (fun (x1 : Int32) => lt_ ((if x1 = 0 then 0 else 2) : Int32) (fun (x11 : Int32) => some (x11, σ)))))
abbrev rm_Md_goal : Room := { frames := 0, cells := 0, slots := 0, locals := 0 }
set_option maxHeartbeats 4000000 in
set_option maxRecDepth 100000 in
theorem c_Md_goal (l : Launch) (X : GX) (n : Nat) {σ σ' : Sg} {r : Int32} {a0 : Int32}  (hf : f_Md_goal a0 σ = some (r, σ')) : Met l y_Md_goal (cw y_Md_goal b_Md_goal 2 (some .int)) rm_Md_goal (PcG X n σ [.int a0]) (QcG X n σ' (some (.int r))) 0 0 (fr X n) := by
  refine g_head (own := "TableMachineModel") (by decide) rfl (Nat.le_of_ble_eq_true rfl) ?_
  intro p e s m args below meth c ls F hr hlk hP hl
  have hl : lv_has ls 2 [(0, .int a0)] := hl
  show WG l X n rm_Md_goal σ' (some (.int r)) p e s m args below meth c s.heap [] (F0 m 0 ls [])
  unfold f_Md_goal at hf
  refine lv_iload_n F.1 F.2.1 d_Md_goal_0 rfl (lv_at hl 0 rfl) ?_
  refine lv_bipush (v := 19) F.1 F.2.1 d_Md_goal_1 (by decide) ?_
  refine lv_icmp_ne F.1 F.2.1 d_Md_goal_3 rfl (fun hb15 => ?_) (fun hb15 => ?_)
  · rw [if_neg hb15] at hf
    refine lv_iload_n F.1 F.2.1 d_Md_goal_8 rfl (lv_at hl 0 rfl) ?_
    refine lv_iconst (v := 2) F.1 F.2.1 d_Md_goal_9 (by decide) ?_
    obtain ⟨x1, hj3, hf⟩ := lt_some2 hf
    have KJ2 : ∀ (ls : Array Slot) (H : Heap) (locs : List Loc), lv_has ls 2 [] → St X n σ s.heap H locs → WG l X n rm_Md_goal σ' (some (.int r)) p e s m args below meth c H locs (F0 m 47 ls [.int x1]) := by
      intro ls H locs hl hP
      refine lv_istore_n F.1 F.2.1 d_Md_goal_47 rfl hl (by decide) rfl (fun ls hl => ?_)
      have hl : lv_has ls 2 [(1, .int x1)] := hl
      refine lv_iload_n F.1 F.2.1 d_Md_goal_48 rfl (lv_at hl 0 rfl) ?_
      obtain ⟨x11, hj13, hf⟩ := lt_some2 hf
      have KJ12 : ∀ (ls : Array Slot) (H : Heap) (locs : List Loc), lv_has ls 2 [] → St X n σ s.heap H locs → WG l X n rm_Md_goal σ' (some (.int r)) p e s m args below meth c H locs (F0 m 57 ls [.int x11]) := by
        intro ls H locs hl hP
        cases hf
        exact g_iret F hP hr hlk d_Md_goal_57
      refine lv_if_eq F.1 F.2.1 d_Md_goal_49 rfl (fun hb14 => ?_) (fun hb14 => ?_)
      · rw [if_pos hb14] at hj13
        refine lv_iconst (v := 0) F.1 F.2.1 d_Md_goal_56 (by decide) ?_
        subst hj13
        exact KJ12 _ _ _ (lv_sub hl [] rfl) hP
      · rw [if_neg hb14] at hj13
        refine lv_iconst (v := 2) F.1 F.2.1 d_Md_goal_52 (by decide) ?_
        refine lv_goto F.1 F.2.1 d_Md_goal_53 rfl ?_
        subst hj13
        exact KJ12 _ _ _ (lv_sub hl [] rfl) hP
    refine lv_icmp_eq F.1 F.2.1 d_Md_goal_10 rfl (fun hb10 => ?_) (fun hb10 => ?_)
    · rw [if_pos hb10] at hj3
      refine lv_iconst (v := 1) F.1 F.2.1 d_Md_goal_42 (by decide) ?_
      refine lv_goto F.1 F.2.1 d_Md_goal_43 rfl ?_
      subst hj3
      exact KJ2 _ _ _ (lv_sub hl [] rfl) hP
    · rw [if_neg hb10] at hj3
      refine lv_iload_n F.1 F.2.1 d_Md_goal_13 rfl (lv_at hl 0 rfl) ?_
      refine lv_iconst (v := 3) F.1 F.2.1 d_Md_goal_14 (by decide) ?_
      refine lv_icmp_eq F.1 F.2.1 d_Md_goal_15 rfl (fun hb9 => ?_) (fun hb9 => ?_)
      · rw [if_pos hb9] at hj3
        refine lv_iconst (v := 1) F.1 F.2.1 d_Md_goal_42 (by decide) ?_
        refine lv_goto F.1 F.2.1 d_Md_goal_43 rfl ?_
        subst hj3
        exact KJ2 _ _ _ (lv_sub hl [] rfl) hP
      · rw [if_neg hb9] at hj3
        refine lv_iload_n F.1 F.2.1 d_Md_goal_18 rfl (lv_at hl 0 rfl) ?_
        refine lv_bipush (v := 8) F.1 F.2.1 d_Md_goal_19 (by decide) ?_
        refine lv_icmp_eq F.1 F.2.1 d_Md_goal_21 rfl (fun hb8 => ?_) (fun hb8 => ?_)
        · rw [if_pos hb8] at hj3
          refine lv_iconst (v := 1) F.1 F.2.1 d_Md_goal_42 (by decide) ?_
          refine lv_goto F.1 F.2.1 d_Md_goal_43 rfl ?_
          subst hj3
          exact KJ2 _ _ _ (lv_sub hl [] rfl) hP
        · rw [if_neg hb8] at hj3
          refine lv_iload_n F.1 F.2.1 d_Md_goal_24 rfl (lv_at hl 0 rfl) ?_
          refine lv_bipush (v := 9) F.1 F.2.1 d_Md_goal_25 (by decide) ?_
          refine lv_icmp_lt F.1 F.2.1 d_Md_goal_27 rfl (fun hb7 => ?_) (fun hb7 => ?_)
          · rw [if_pos hb7] at hj3
            refine lv_iload_n F.1 F.2.1 d_Md_goal_36 rfl (lv_at hl 0 rfl) ?_
            refine lv_bipush (v := 20) F.1 F.2.1 d_Md_goal_37 (by decide) ?_
            refine lv_icmp_ne F.1 F.2.1 d_Md_goal_39 rfl (fun hb4 => ?_) (fun hb4 => ?_)
            · rw [if_neg hb4] at hj3
              refine lv_iconst (v := 0) F.1 F.2.1 d_Md_goal_46 (by decide) ?_
              subst hj3
              exact KJ2 _ _ _ (lv_sub hl [] rfl) hP
            · rw [if_pos hb4] at hj3
              refine lv_iconst (v := 1) F.1 F.2.1 d_Md_goal_42 (by decide) ?_
              refine lv_goto F.1 F.2.1 d_Md_goal_43 rfl ?_
              subst hj3
              exact KJ2 _ _ _ (lv_sub hl [] rfl) hP
          · rw [if_neg hb7] at hj3
            refine lv_iload_n F.1 F.2.1 d_Md_goal_30 rfl (lv_at hl 0 rfl) ?_
            refine lv_bipush (v := 16) F.1 F.2.1 d_Md_goal_31 (by decide) ?_
            refine lv_icmp_le F.1 F.2.1 d_Md_goal_33 rfl (fun hb6 => ?_) (fun hb6 => ?_)
            · rw [if_pos hb6] at hj3
              refine lv_iconst (v := 1) F.1 F.2.1 d_Md_goal_42 (by decide) ?_
              refine lv_goto F.1 F.2.1 d_Md_goal_43 rfl ?_
              subst hj3
              exact KJ2 _ _ _ (lv_sub hl [] rfl) hP
            · rw [if_neg hb6] at hj3
              refine lv_iload_n F.1 F.2.1 d_Md_goal_36 rfl (lv_at hl 0 rfl) ?_
              refine lv_bipush (v := 20) F.1 F.2.1 d_Md_goal_37 (by decide) ?_
              refine lv_icmp_ne F.1 F.2.1 d_Md_goal_39 rfl (fun hb5 => ?_) (fun hb5 => ?_)
              · rw [if_neg hb5] at hj3
                refine lv_iconst (v := 0) F.1 F.2.1 d_Md_goal_46 (by decide) ?_
                subst hj3
                exact KJ2 _ _ _ (lv_sub hl [] rfl) hP
              · rw [if_pos hb5] at hj3
                refine lv_iconst (v := 1) F.1 F.2.1 d_Md_goal_42 (by decide) ?_
                refine lv_goto F.1 F.2.1 d_Md_goal_43 rfl ?_
                subst hj3
                exact KJ2 _ _ _ (lv_sub hl [] rfl) hP
  · rw [if_pos hb15] at hf
    refine lv_iconst (v := 1) F.1 F.2.1 d_Md_goal_6 (by decide) ?_
    cases hf
    exact g_iret F hP hr hlk d_Md_goal_7

theorem d_Md_sound_0 : decode b_Md_sound 0 = .ok (.iconst 1, 1) := by decide +kernel
theorem d_Md_sound_1 : decode b_Md_sound 1 = .ok (.istore_n 1, 1) := by decide +kernel
theorem d_Md_sound_2 : decode b_Md_sound 2 = .ok (.iconst 0, 1) := by decide +kernel
theorem d_Md_sound_3 : decode b_Md_sound 3 = .ok (.istore_n 2, 1) := by decide +kernel
theorem d_Md_sound_4 : decode b_Md_sound 4 = .ok (.iload_n 2, 1) := by decide +kernel
theorem d_Md_sound_5 : decode b_Md_sound 5 = .ok (.aload_n 0, 1) := by decide +kernel
theorem d_Md_sound_6 : decode b_Md_sound 6 = .ok (.getfield 110, 3) := by decide +kernel
theorem d_Md_sound_9 : decode b_Md_sound 9 = .ok (.if_icmp .ge 87, 3) := by decide +kernel
theorem d_Md_sound_12 : decode b_Md_sound 12 = .ok (.aload_n 0, 1) := by decide +kernel
theorem d_Md_sound_13 : decode b_Md_sound 13 = .ok (.getfield 33, 3) := by decide +kernel
theorem d_Md_sound_16 : decode b_Md_sound 16 = .ok (.iconst 4, 1) := by decide +kernel
theorem d_Md_sound_17 : decode b_Md_sound 17 = .ok (.iload_n 2, 1) := by decide +kernel
theorem d_Md_sound_18 : decode b_Md_sound 18 = .ok (.imul, 1) := by decide +kernel
theorem d_Md_sound_19 : decode b_Md_sound 19 = .ok (.iaload, 1) := by decide +kernel
theorem d_Md_sound_20 : decode b_Md_sound 20 = .ok (.istore_n 3, 1) := by decide +kernel
theorem d_Md_sound_21 : decode b_Md_sound 21 = .ok (.iload_n 1, 1) := by decide +kernel
theorem d_Md_sound_22 : decode b_Md_sound 22 = .ok (.ifCond .eq 29, 3) := by decide +kernel
theorem d_Md_sound_25 : decode b_Md_sound 25 = .ok (.iload_n 3, 1) := by decide +kernel
theorem d_Md_sound_26 : decode b_Md_sound 26 = .ok (.iconst 1, 1) := by decide +kernel
theorem d_Md_sound_27 : decode b_Md_sound 27 = .ok (.if_icmp .ne 20, 3) := by decide +kernel
theorem d_Md_sound_30 : decode b_Md_sound 30 = .ok (.aload_n 0, 1) := by decide +kernel
theorem d_Md_sound_31 : decode b_Md_sound 31 = .ok (.aload_n 0, 1) := by decide +kernel
theorem d_Md_sound_32 : decode b_Md_sound 32 = .ok (.getfield 33, 3) := by decide +kernel
theorem d_Md_sound_35 : decode b_Md_sound 35 = .ok (.iconst 4, 1) := by decide +kernel
theorem d_Md_sound_36 : decode b_Md_sound 36 = .ok (.iload_n 2, 1) := by decide +kernel
theorem d_Md_sound_37 : decode b_Md_sound 37 = .ok (.imul, 1) := by decide +kernel
theorem d_Md_sound_38 : decode b_Md_sound 38 = .ok (.iconst 2, 1) := by decide +kernel
theorem d_Md_sound_39 : decode b_Md_sound 39 = .ok (.iadd, 1) := by decide +kernel
theorem d_Md_sound_40 : decode b_Md_sound 40 = .ok (.iaload, 1) := by decide +kernel
theorem d_Md_sound_41 : decode b_Md_sound 41 = .ok (.invokevirtual 82, 3) := by decide +kernel
theorem d_Md_sound_44 : decode b_Md_sound 44 = .ok (.ifCond .eq 7, 3) := by decide +kernel
theorem d_Md_sound_47 : decode b_Md_sound 47 = .ok (.iconst 1, 1) := by decide +kernel
theorem d_Md_sound_48 : decode b_Md_sound 48 = .ok (.goto 4, 3) := by decide +kernel
theorem d_Md_sound_51 : decode b_Md_sound 51 = .ok (.iconst 0, 1) := by decide +kernel
theorem d_Md_sound_52 : decode b_Md_sound 52 = .ok (.istore_n 1, 1) := by decide +kernel
theorem d_Md_sound_53 : decode b_Md_sound 53 = .ok (.iload_n 1, 1) := by decide +kernel
theorem d_Md_sound_54 : decode b_Md_sound 54 = .ok (.ifCond .eq 34, 3) := by decide +kernel
theorem d_Md_sound_57 : decode b_Md_sound 57 = .ok (.iload_n 3, 1) := by decide +kernel
theorem d_Md_sound_58 : decode b_Md_sound 58 = .ok (.invokestatic 125, 3) := by decide +kernel
theorem d_Md_sound_61 : decode b_Md_sound 61 = .ok (.ifCond .eq 23, 3) := by decide +kernel
theorem d_Md_sound_64 : decode b_Md_sound 64 = .ok (.aload_n 0, 1) := by decide +kernel
theorem d_Md_sound_65 : decode b_Md_sound 65 = .ok (.getfield 33, 3) := by decide +kernel
theorem d_Md_sound_68 : decode b_Md_sound 68 = .ok (.iconst 4, 1) := by decide +kernel
theorem d_Md_sound_69 : decode b_Md_sound 69 = .ok (.iload_n 2, 1) := by decide +kernel
theorem d_Md_sound_70 : decode b_Md_sound 70 = .ok (.imul, 1) := by decide +kernel
theorem d_Md_sound_71 : decode b_Md_sound 71 = .ok (.iload_n 3, 1) := by decide +kernel
theorem d_Md_sound_72 : decode b_Md_sound 72 = .ok (.invokestatic 125, 3) := by decide +kernel
theorem d_Md_sound_75 : decode b_Md_sound 75 = .ok (.iadd, 1) := by decide +kernel
theorem d_Md_sound_76 : decode b_Md_sound 76 = .ok (.iaload, 1) := by decide +kernel
theorem d_Md_sound_77 : decode b_Md_sound 77 = .ok (.aload_n 0, 1) := by decide +kernel
theorem d_Md_sound_78 : decode b_Md_sound 78 = .ok (.getfield 110, 3) := by decide +kernel
theorem d_Md_sound_81 : decode b_Md_sound 81 = .ok (.if_icmp .gt 7, 3) := by decide +kernel
theorem d_Md_sound_84 : decode b_Md_sound 84 = .ok (.iconst 1, 1) := by decide +kernel
theorem d_Md_sound_85 : decode b_Md_sound 85 = .ok (.goto 4, 3) := by decide +kernel
theorem d_Md_sound_88 : decode b_Md_sound 88 = .ok (.iconst 0, 1) := by decide +kernel
theorem d_Md_sound_89 : decode b_Md_sound 89 = .ok (.istore_n 1, 1) := by decide +kernel
theorem d_Md_sound_90 : decode b_Md_sound 90 = .ok (.iinc 2 1, 3) := by decide +kernel
theorem d_Md_sound_93 : decode b_Md_sound 93 = .ok (.goto (-89), 3) := by decide +kernel
theorem d_Md_sound_96 : decode b_Md_sound 96 = .ok (.iload_n 1, 1) := by decide +kernel
theorem d_Md_sound_97 : decode b_Md_sound 97 = .ok (.ireturn, 1) := by decide +kernel
noncomputable def b_Md_sound_4  (x1 : Int32) (x2 : Int32) (σ3 : Sg) : Option ((Int32 × Int32 × Sg) ⊕ (Int32 × Sg)) :=
  (if (gi σ3 9 0 10) ≤ x2 then (some (.inr (x1, σ3))) else (chk (vp_in (4 * x2) 240) (lt_ (gi σ3 33 0 ((4 * x2).toNatClampNeg) : Int32) (fun (x8 : Int32) => bn2 (if x1 = 0 then (some (0, σ3)) else (if x8 = 1 then (chk (vp_in ((4 * x2) + 2) 240) (bn2 (f_Md_isTable (gi σ3 33 0 (((4 * x2) + 2).toNatClampNeg)) σ3) (fun r16 σ14 => (if r16 = 0 then (some (0, σ14)) else (some (1, σ14)))))) else (some (1, σ3)))) (fun (x9 : Int32) (σ10 : Sg) => bn2 (if x9 = 0 then (some (0, σ10)) else (bn2 (f_Md_goal x8 σ10) (fun r26 σ24 => (if r26 = 0 then (some (1, σ24)) else (bn2 (f_Md_goal x8 σ24) (fun r29 σ27 => chk (vp_in ((4 * x2) + r29) 240) ((if (gi σ27 9 0 10) < (gi σ27 33 0 (((4 * x2) + r29).toNatClampNeg)) then (some (0, σ27)) else (some (1, σ27)))))))))) (fun (x20 : Int32) (σ21 : Sg) => lt_ (x2 + 1 : Int32) (fun (x34 : Int32) => some (.inl (x20, x34, σ21)))))))))
noncomputable def l_Md_sound_4  (x1 : Int32) (x2 : Int32) (σ3 : Sg) : Option (Int32 × Sg) := lp (fun q => b_Md_sound_4  q.1 q.2.1 q.2.2) FU (x1, x2, σ3)
noncomputable def f_Md_sound  (σ : Sg) : Option (Int32 × Sg) :=
  bn2 (l_Md_sound_4  1 0 σ) (fun x36 σ37 => chk (zb x36) (some (x36, σ37)))
abbrev rm_Md_sound : Room := { frames := 1, cells := 0, slots := 0, locals := 21 }
set_option maxHeartbeats 4000000 in
set_option maxRecDepth 100000 in
theorem c_Md_sound (l : Launch) (X : GX) (n : Nat) {σ σ' : Sg} {r : Int32}   (hf : f_Md_sound  σ = some (r, σ')) : Met l y_Md_sound (cw y_Md_sound b_Md_sound 4 (some .boolean)) rm_Md_sound (PcG X n σ [.ref (xL X 9 0)]) (QcG X n σ' (some (.int r))) 0 0 (fr X n) := by
  refine g_head (own := "TableMachineModel") (by decide) rfl (Nat.le_of_ble_eq_true rfl) ?_
  intro p e s m args below meth c ls F hr hlk hP hl
  have hl : lv_has ls 4 [(0, .ref (xL X 9 0))] := hl
  show WG l X n rm_Md_sound σ' (some (.int r)) p e s m args below meth c s.heap [] (F0 m 0 ls [])
  unfold f_Md_sound at hf
  refine lv_iconst (v := 1) F.1 F.2.1 d_Md_sound_0 (by decide) ?_
  refine lv_istore_n F.1 F.2.1 d_Md_sound_1 rfl hl (by decide) rfl (fun ls hl => ?_)
  have hl : lv_has ls 4 [(1, .int 1), (0, .ref (xL X 9 0))] := hl
  refine lv_iconst (v := 0) F.1 F.2.1 d_Md_sound_2 (by decide) ?_
  refine lv_istore_n F.1 F.2.1 d_Md_sound_3 rfl hl (by decide) rfl (fun ls hl => ?_)
  have hl : lv_has ls 4 [(2, .int 0), (1, .int 1), (0, .ref (xL X 9 0))] := hl
  obtain ⟨x36, σ37, hlp38, hf⟩ := bn2_some hf
  have KX39 : ∀ (ls : Array Slot) (H : Heap) (locs : List Loc), lv_has ls 4 [(1, .int x36)] → St X n σ37 s.heap H locs → WG l X n rm_Md_sound σ' (some (.int r)) p e s m args below meth c H locs (F0 m 96 ls []) := by
    intro ls H locs hl hP
    refine lv_iload_n F.1 F.2.1 d_Md_sound_96 rfl (lv_at hl 0 rfl) ?_
    obtain ⟨hz40, hf⟩ := chk_some hf
    cases hf
    exact g_zret F hP hr hlk hz40 d_Md_sound_97
  unfold l_Md_sound_4 at hlp38
  refine lp_W (PW := fun q => ∀ (ls : Array Slot) (H : Heap) (locs : List Loc), lv_has ls 4 [(0, .ref (xL X 9 0)), (1, .int q.1), (2, .int q.2.1)] → St X n q.2.2 s.heap H locs → WG l X n rm_Md_sound σ' (some (.int r)) p e s m args below meth c H locs (F0 m 4 ls [])) (PE := fun q => ∀ (ls : Array Slot) (H : Heap) (locs : List Loc), lv_has ls 4 [(1, .int q.1)] → St X n q.2 s.heap H locs → WG l X n rm_Md_sound σ' (some (.int r)) p e s m args below meth c H locs (F0 m 96 ls [])) ?_ _ _ _ hlp38 KX39 _ _ _ (lv_sub hl [2, 1, 0] rfl) hP
  rintro ⟨x1, x2, σ3⟩ rr4 hb_4 hI5 hE6 ls H locs hl hP
  replace hb_4 : b_Md_sound_4  x1 x2 σ3 = some rr4 := hb_4
  unfold b_Md_sound_4 at hb_4
  refine lv_iload_n F.1 F.2.1 d_Md_sound_4 rfl (lv_at hl 2 rfl) ?_
  refine lv_aload_n F.1 F.2.1 d_Md_sound_5 rfl (lv_at hl 0 rfl) ?_
  refine g_get F hP 9 10 0 (by decide) Nat.zero_lt_one (by decide) (v := .int (gi σ3 9 0 10)) rfl w_883 d_Md_sound_6 ?_
  refine lv_icmp_ge F.1 F.2.1 d_Md_sound_9 rfl (fun hb35 => ?_) (fun hb35 => ?_)
  · rw [if_pos hb35] at hb_4
    cases hb_4
    exact hE6 _ rfl _ _ _ (lv_sub hl [1] rfl) hP
  · rw [if_neg hb35] at hb_4
    refine lv_aload_n F.1 F.2.1 d_Md_sound_12 rfl (lv_at hl 0 rfl) ?_
    refine g_get F hP 9 11 0 (by decide) Nat.zero_lt_one (by decide) (v := .ref (xL X 33 0)) rfl w_884 d_Md_sound_13 ?_
    refine lv_iconst (v := 4) F.1 F.2.1 d_Md_sound_16 (by decide) ?_
    refine lv_iload_n F.1 F.2.1 d_Md_sound_17 rfl (lv_at hl 2 rfl) ?_
    refine lv_imul F.1 F.2.1 d_Md_sound_18 ?_
    obtain ⟨hc7, hb_4⟩ := chk_some hb_4
    refine g_ald F hP 33 (by decide) (by decide) Nat.zero_lt_one rfl rfl hc7 d_Md_sound_19 ?_
    obtain ⟨x8, e_x8, hb_4⟩ := lt_some hb_4
    rw [← e_x8]
    refine lv_istore_n F.1 F.2.1 d_Md_sound_20 rfl hl (by decide) rfl (fun ls hl => ?_)
    have hl : lv_has ls 4 [(3, .int x8), (0, .ref (xL X 9 0)), (1, .int x1), (2, .int x2)] := hl
    refine lv_iload_n F.1 F.2.1 d_Md_sound_21 rfl (lv_at hl 2 rfl) ?_
    obtain ⟨x9, σ10, hj12, hb_4⟩ := bn2_some hb_4
    have KJ11 : ∀ (ls : Array Slot) (H : Heap) (locs : List Loc), lv_has ls 4 [(0, .ref (xL X 9 0)), (2, .int x2), (3, .int x8)] → St X n σ10 s.heap H locs → WG l X n rm_Md_sound σ' (some (.int r)) p e s m args below meth c H locs (F0 m 52 ls [.int x9]) := by
      intro ls H locs hl hP
      refine lv_istore_n F.1 F.2.1 d_Md_sound_52 rfl hl (by decide) rfl (fun ls hl => ?_)
      have hl : lv_has ls 4 [(1, .int x9), (0, .ref (xL X 9 0)), (2, .int x2), (3, .int x8)] := hl
      refine lv_iload_n F.1 F.2.1 d_Md_sound_53 rfl (lv_at hl 0 rfl) ?_
      obtain ⟨x20, σ21, hj23, hb_4⟩ := bn2_some hb_4
      have KJ22 : ∀ (ls : Array Slot) (H : Heap) (locs : List Loc), lv_has ls 4 [(0, .ref (xL X 9 0)), (2, .int x2)] → St X n σ21 s.heap H locs → WG l X n rm_Md_sound σ' (some (.int r)) p e s m args below meth c H locs (F0 m 89 ls [.int x20]) := by
        intro ls H locs hl hP
        refine lv_istore_n F.1 F.2.1 d_Md_sound_89 rfl hl (by decide) rfl (fun ls hl => ?_)
        have hl : lv_has ls 4 [(1, .int x20), (0, .ref (xL X 9 0)), (2, .int x2)] := hl
        obtain ⟨x34, e_x34, hb_4⟩ := lt_some hb_4
        refine lv_iinc (k := 2) (v := x34) F.1 F.2.1 d_Md_sound_90 hl rfl (by rw [e_x34]; rfl) (by decide) rfl (fun ls hl => ?_)
        have hl : lv_has ls 4 [(2, .int x34), (1, .int x20), (0, .ref (xL X 9 0))] := hl
        refine lv_goto F.1 F.2.1 d_Md_sound_93 rfl ?_
        cases hb_4
        exact hI5 _ rfl _ _ _ (lv_sub hl [2, 1, 0] rfl) hP
      refine lv_if_eq F.1 F.2.1 d_Md_sound_54 rfl (fun hb33 => ?_) (fun hb33 => ?_)
      · rw [if_pos hb33] at hj23
        refine lv_iconst (v := 0) F.1 F.2.1 d_Md_sound_88 (by decide) ?_
        cases hj23
        exact KJ22 _ _ _ (lv_sub hl [1, 2] rfl) hP
      · rw [if_neg hb33] at hj23
        refine lv_iload_n F.1 F.2.1 d_Md_sound_57 rfl (lv_at hl 3 rfl) ?_
        obtain ⟨r26, σ24, hk25, hj23⟩ := bn2_some hj23
        refine g_callS (As := [.int x8]) (rest := []) F hP (c_Md_goal l X n  hk25) ⟨by decide, by decide, q_Md_goal⟩ w_1067 w_11 w_1065 w_1066 ⟨rfl, rfl⟩ ⟨by decide, by decide⟩ hl.1 (Nat.le_of_ble_eq_true rfl) ⟨Nat.zero_le _, Nat.zero_le _⟩ d_Md_sound_58 rfl (fun H locs hP => ?_)
        refine W.eq (g2 := F0 m 61 ls [.int r26]) rfl ?_
        refine lv_if_eq F.1 F.2.1 d_Md_sound_61 rfl (fun hb32 => ?_) (fun hb32 => ?_)
        · rw [if_pos hb32] at hj23
          refine lv_iconst (v := 1) F.1 F.2.1 d_Md_sound_84 (by decide) ?_
          refine lv_goto F.1 F.2.1 d_Md_sound_85 rfl ?_
          cases hj23
          exact KJ22 _ _ _ (lv_sub hl [1, 2] rfl) hP
        · rw [if_neg hb32] at hj23
          refine lv_aload_n F.1 F.2.1 d_Md_sound_64 rfl (lv_at hl 1 rfl) ?_
          refine g_get F hP 9 11 0 (by decide) Nat.zero_lt_one (by decide) (v := .ref (xL X 33 0)) rfl w_884 d_Md_sound_65 ?_
          refine lv_iconst (v := 4) F.1 F.2.1 d_Md_sound_68 (by decide) ?_
          refine lv_iload_n F.1 F.2.1 d_Md_sound_69 rfl (lv_at hl 2 rfl) ?_
          refine lv_imul F.1 F.2.1 d_Md_sound_70 ?_
          refine lv_iload_n F.1 F.2.1 d_Md_sound_71 rfl (lv_at hl 3 rfl) ?_
          obtain ⟨r29, σ27, hk28, hj23⟩ := bn2_some hj23
          refine g_callS (As := [.int x8]) (rest := [.int (4 * x2), .ref (xL X 33 0)]) F hP (c_Md_goal l X n  hk28) ⟨by decide, by decide, q_Md_goal⟩ w_1067 w_11 w_1065 w_1066 ⟨rfl, rfl⟩ ⟨by decide, by decide⟩ hl.1 (Nat.le_of_ble_eq_true rfl) ⟨Nat.zero_le _, Nat.zero_le _⟩ d_Md_sound_72 rfl (fun H locs hP => ?_)
          refine W.eq (g2 := F0 m 75 ls [.int r29, .int (4 * x2), .ref (xL X 33 0)]) rfl ?_
          refine lv_iadd F.1 F.2.1 d_Md_sound_75 ?_
          obtain ⟨hc30, hj23⟩ := chk_some hj23
          refine g_ald F hP 33 (by decide) (by decide) Nat.zero_lt_one rfl rfl hc30 d_Md_sound_76 ?_
          refine lv_aload_n F.1 F.2.1 d_Md_sound_77 rfl (lv_at hl 1 rfl) ?_
          refine g_get F hP 9 10 0 (by decide) Nat.zero_lt_one (by decide) (v := .int (gi σ27 9 0 10)) rfl w_883 d_Md_sound_78 ?_
          refine lv_icmp_gt F.1 F.2.1 d_Md_sound_81 rfl (fun hb31 => ?_) (fun hb31 => ?_)
          · rw [if_pos hb31] at hj23
            refine lv_iconst (v := 0) F.1 F.2.1 d_Md_sound_88 (by decide) ?_
            cases hj23
            exact KJ22 _ _ _ (lv_sub hl [1, 2] rfl) hP
          · rw [if_neg hb31] at hj23
            refine lv_iconst (v := 1) F.1 F.2.1 d_Md_sound_84 (by decide) ?_
            refine lv_goto F.1 F.2.1 d_Md_sound_85 rfl ?_
            cases hj23
            exact KJ22 _ _ _ (lv_sub hl [1, 2] rfl) hP
    refine lv_if_eq F.1 F.2.1 d_Md_sound_22 rfl (fun hb19 => ?_) (fun hb19 => ?_)
    · rw [if_pos hb19] at hj12
      refine lv_iconst (v := 0) F.1 F.2.1 d_Md_sound_51 (by decide) ?_
      cases hj12
      exact KJ11 _ _ _ (lv_sub hl [1, 3, 0] rfl) hP
    · rw [if_neg hb19] at hj12
      refine lv_iload_n F.1 F.2.1 d_Md_sound_25 rfl (lv_at hl 0 rfl) ?_
      refine lv_iconst (v := 1) F.1 F.2.1 d_Md_sound_26 (by decide) ?_
      refine lv_icmp_ne F.1 F.2.1 d_Md_sound_27 rfl (fun hb18 => ?_) (fun hb18 => ?_)
      · rw [if_neg hb18] at hj12
        refine lv_iconst (v := 1) F.1 F.2.1 d_Md_sound_47 (by decide) ?_
        refine lv_goto F.1 F.2.1 d_Md_sound_48 rfl ?_
        cases hj12
        exact KJ11 _ _ _ (lv_sub hl [1, 3, 0] rfl) hP
      · rw [if_pos hb18] at hj12
        refine lv_aload_n F.1 F.2.1 d_Md_sound_30 rfl (lv_at hl 1 rfl) ?_
        refine lv_aload_n F.1 F.2.1 d_Md_sound_31 rfl (lv_at hl 1 rfl) ?_
        refine g_get F hP 9 11 0 (by decide) Nat.zero_lt_one (by decide) (v := .ref (xL X 33 0)) rfl w_884 d_Md_sound_32 ?_
        refine lv_iconst (v := 4) F.1 F.2.1 d_Md_sound_35 (by decide) ?_
        refine lv_iload_n F.1 F.2.1 d_Md_sound_36 rfl (lv_at hl 3 rfl) ?_
        refine lv_imul F.1 F.2.1 d_Md_sound_37 ?_
        refine lv_iconst (v := 2) F.1 F.2.1 d_Md_sound_38 (by decide) ?_
        refine lv_iadd F.1 F.2.1 d_Md_sound_39 ?_
        obtain ⟨hc13, hj12⟩ := chk_some hj12
        refine g_ald F hP 33 (by decide) (by decide) Nat.zero_lt_one rfl rfl hc13 d_Md_sound_40 ?_
        obtain ⟨r16, σ14, hk15, hj12⟩ := bn2_some hj12
        refine g_callV (As := [.int (gi σ3 33 0 (((4 * x2) + 2).toNatClampNeg))]) (rest := []) F hP 9 0 (by decide) Nat.zero_lt_one (c_Md_isTable l X n  hk15) rfl q_Md_isTable w_991 w_11 w_988 w_990 wp_35 ⟨rfl, rfl⟩ ⟨by decide, by decide⟩ hl.1 (Nat.le_of_ble_eq_true rfl) ⟨Nat.zero_le _, Nat.zero_le _⟩ d_Md_sound_41 rfl (fun H locs hP => ?_)
        refine W.eq (g2 := F0 m 44 ls [.int r16]) rfl ?_
        refine lv_if_eq F.1 F.2.1 d_Md_sound_44 rfl (fun hb17 => ?_) (fun hb17 => ?_)
        · rw [if_pos hb17] at hj12
          refine lv_iconst (v := 0) F.1 F.2.1 d_Md_sound_51 (by decide) ?_
          cases hj12
          exact KJ11 _ _ _ (lv_sub hl [1, 3, 0] rfl) hP
        · rw [if_neg hb17] at hj12
          refine lv_iconst (v := 1) F.1 F.2.1 d_Md_sound_47 (by decide) ?_
          refine lv_goto F.1 F.2.1 d_Md_sound_48 rfl ?_
          cases hj12
          exact KJ11 _ _ _ (lv_sub hl [1, 3, 0] rfl) hP

theorem d_Md_keep_0 : decode b_Md_keep 0 = .ok (.aload_n 0, 1) := by decide +kernel
theorem d_Md_keep_1 : decode b_Md_keep 1 = .ok (.getfield 39, 3) := by decide +kernel
theorem d_Md_keep_4 : decode b_Md_keep 4 = .ok (.iload_n 1, 1) := by decide +kernel
theorem d_Md_keep_5 : decode b_Md_keep 5 = .ok (.iload_n 2, 1) := by decide +kernel
theorem d_Md_keep_6 : decode b_Md_keep 6 = .ok (.bastore, 1) := by decide +kernel
theorem d_Md_keep_7 : decode b_Md_keep 7 = .ok (.aload_n 0, 1) := by decide +kernel
theorem d_Md_keep_8 : decode b_Md_keep 8 = .ok (.getfield 36, 3) := by decide +kernel
theorem d_Md_keep_11 : decode b_Md_keep 11 = .ok (.iload_n 1, 1) := by decide +kernel
theorem d_Md_keep_12 : decode b_Md_keep 12 = .ok (.iload_n 2, 1) := by decide +kernel
theorem d_Md_keep_13 : decode b_Md_keep 13 = .ok (.ifCond .eq 7, 3) := by decide +kernel
theorem d_Md_keep_16 : decode b_Md_keep 16 = .ok (.lload_n 3, 1) := by decide +kernel
theorem d_Md_keep_17 : decode b_Md_keep 17 = .ok (.goto 4, 3) := by decide +kernel
theorem d_Md_keep_20 : decode b_Md_keep 20 = .ok (.lconst 0, 1) := by decide +kernel
theorem d_Md_keep_21 : decode b_Md_keep 21 = .ok (.lastore, 1) := by decide +kernel
theorem d_Md_keep_22 : decode b_Md_keep 22 = .ok (.return_, 1) := by decide +kernel
noncomputable def f_Md_keep (a1 : Int32) (a2 : Int32) (a3 : Int64) (σ : Sg) : Option (Sg) :=
  chk (vp_in a1 16) (lt_ (si σ 35 0 a1.toNatClampNeg (vp_nar .boolean a2)) (fun σ2 => lt_ ((if a2 = 0 then 0 else a3) : Int64) (fun (x3 : Int64) => chk (vp_in a1 16) (lt_ (sj σ2 34 0 a1.toNatClampNeg x3) (fun σ8 => some σ8)))))
abbrev rm_Md_keep : Room := { frames := 0, cells := 0, slots := 0, locals := 0 }
set_option maxHeartbeats 4000000 in
set_option maxRecDepth 100000 in
theorem c_Md_keep (l : Launch) (X : GX) (n : Nat) {σ σ' : Sg} {a1 : Int32} {a2 : Int32} {a3 : Int64}  (hf : f_Md_keep a1 a2 a3 σ = some σ') : Met l y_Md_keep (cw y_Md_keep b_Md_keep 5 none) rm_Md_keep (PcG X n σ [.ref (xL X 9 0), .int a1, .int a2, .long a3]) (QcG X n σ' none) 0 0 (fr X n) := by
  refine g_head (own := "TableMachineModel") (by decide) rfl (Nat.le_of_ble_eq_true rfl) ?_
  intro p e s m args below meth c ls F hr hlk hP hl
  have hl : lv_has ls 5 [(0, .ref (xL X 9 0)), (1, .int a1), (2, .int a2), (3, .long a3)] := hl
  show WG l X n rm_Md_keep σ' none p e s m args below meth c s.heap [] (F0 m 0 ls [])
  unfold f_Md_keep at hf
  refine lv_aload_n F.1 F.2.1 d_Md_keep_0 rfl (lv_at hl 0 rfl) ?_
  refine g_get F hP 9 13 0 (by decide) Nat.zero_lt_one (by decide) (v := .ref (xL X 35 0)) rfl w_886 d_Md_keep_1 ?_
  refine lv_iload_n F.1 F.2.1 d_Md_keep_4 rfl (lv_at hl 1 rfl) ?_
  refine lv_iload_n F.1 F.2.1 d_Md_keep_5 rfl (lv_at hl 2 rfl) ?_
  obtain ⟨hc1, hf⟩ := chk_some hf
  obtain ⟨σ2, e_σ2, hf⟩ := lt_some hf
  refine g_zst F hP 35 (by decide) (by decide) Nat.zero_lt_one rfl rfl hc1 d_Md_keep_6 e_σ2 (fun H locs hP => ?_)
  refine lv_aload_n F.1 F.2.1 d_Md_keep_7 rfl (lv_at hl 0 rfl) ?_
  refine g_get F hP 9 12 0 (by decide) Nat.zero_lt_one (by decide) (v := .ref (xL X 34 0)) rfl w_885 d_Md_keep_8 ?_
  refine lv_iload_n F.1 F.2.1 d_Md_keep_11 rfl (lv_at hl 1 rfl) ?_
  refine lv_iload_n F.1 F.2.1 d_Md_keep_12 rfl (lv_at hl 2 rfl) ?_
  obtain ⟨x3, hj5, hf⟩ := lt_some2 hf
  have KJ4 : ∀ (ls : Array Slot) (H : Heap) (locs : List Loc), lv_has ls 5 [] → St X n σ2 s.heap H locs → WG l X n rm_Md_keep σ' none p e s m args below meth c H locs (F0 m 21 ls [.long x3, .int a1, .ref (xL X 34 0)]) := by
    intro ls H locs hl hP
    obtain ⟨hc7, hf⟩ := chk_some hf
    obtain ⟨σ8, e_σ8, hf⟩ := lt_some hf
    refine g_lst F hP 34 (by decide) (by decide) Nat.zero_lt_one rfl rfl hc7 d_Md_keep_21 e_σ8 (fun H locs hP => ?_)
    cases hf
    exact g_vret F hP hr hlk d_Md_keep_22
  refine lv_if_eq F.1 F.2.1 d_Md_keep_13 rfl (fun hb6 => ?_) (fun hb6 => ?_)
  · rw [if_pos hb6] at hj5
    refine lv_lconst (v := 0) F.1 F.2.1 d_Md_keep_20 (by decide) ?_
    subst hj5
    exact KJ4 _ _ _ (lv_sub hl [] rfl) hP
  · rw [if_neg hb6] at hj5
    refine lv_lload_n F.1 F.2.1 d_Md_keep_16 rfl (lv_at hl 3 rfl) ?_
    refine lv_goto F.1 F.2.1 d_Md_keep_17 rfl ?_
    subst hj5
    exact KJ4 _ _ _ (lv_sub hl [] rfl) hP

theorem d_Md_needsOpen_0 : decode b_Md_needsOpen 0 = .ok (.iload_n 0, 1) := by decide +kernel
theorem d_Md_needsOpen_1 : decode b_Md_needsOpen 1 = .ok (.iconst 2, 1) := by decide +kernel
theorem d_Md_needsOpen_2 : decode b_Md_needsOpen 2 = .ok (.if_icmp .eq 36, 3) := by decide +kernel
theorem d_Md_needsOpen_5 : decode b_Md_needsOpen 5 = .ok (.iload_n 0, 1) := by decide +kernel
theorem d_Md_needsOpen_6 : decode b_Md_needsOpen 6 = .ok (.iconst 3, 1) := by decide +kernel
theorem d_Md_needsOpen_7 : decode b_Md_needsOpen 7 = .ok (.if_icmp .eq 31, 3) := by decide +kernel
theorem d_Md_needsOpen_10 : decode b_Md_needsOpen 10 = .ok (.iload_n 0, 1) := by decide +kernel
theorem d_Md_needsOpen_11 : decode b_Md_needsOpen 11 = .ok (.iconst 4, 1) := by decide +kernel
theorem d_Md_needsOpen_12 : decode b_Md_needsOpen 12 = .ok (.if_icmp .eq 26, 3) := by decide +kernel
theorem d_Md_needsOpen_15 : decode b_Md_needsOpen 15 = .ok (.iload_n 0, 1) := by decide +kernel
theorem d_Md_needsOpen_16 : decode b_Md_needsOpen 16 = .ok (.iconst 5, 1) := by decide +kernel
theorem d_Md_needsOpen_17 : decode b_Md_needsOpen 17 = .ok (.if_icmp .eq 21, 3) := by decide +kernel
theorem d_Md_needsOpen_20 : decode b_Md_needsOpen 20 = .ok (.iload_n 0, 1) := by decide +kernel
theorem d_Md_needsOpen_21 : decode b_Md_needsOpen 21 = .ok (.bipush 8, 2) := by decide +kernel
theorem d_Md_needsOpen_23 : decode b_Md_needsOpen 23 = .ok (.if_icmp .eq 15, 3) := by decide +kernel
theorem d_Md_needsOpen_26 : decode b_Md_needsOpen 26 = .ok (.iload_n 0, 1) := by decide +kernel
theorem d_Md_needsOpen_27 : decode b_Md_needsOpen 27 = .ok (.bipush 20, 2) := by decide +kernel
theorem d_Md_needsOpen_29 : decode b_Md_needsOpen 29 = .ok (.if_icmp .eq 9, 3) := by decide +kernel
theorem d_Md_needsOpen_32 : decode b_Md_needsOpen 32 = .ok (.iload_n 0, 1) := by decide +kernel
theorem d_Md_needsOpen_33 : decode b_Md_needsOpen 33 = .ok (.bipush 21, 2) := by decide +kernel
theorem d_Md_needsOpen_35 : decode b_Md_needsOpen 35 = .ok (.if_icmp .ne 7, 3) := by decide +kernel
theorem d_Md_needsOpen_38 : decode b_Md_needsOpen 38 = .ok (.iconst 1, 1) := by decide +kernel
theorem d_Md_needsOpen_39 : decode b_Md_needsOpen 39 = .ok (.goto 4, 3) := by decide +kernel
theorem d_Md_needsOpen_42 : decode b_Md_needsOpen 42 = .ok (.iconst 0, 1) := by decide +kernel
theorem d_Md_needsOpen_43 : decode b_Md_needsOpen 43 = .ok (.ireturn, 1) := by decide +kernel
noncomputable def f_Md_needsOpen (a0 : Int32) (σ : Sg) : Option (Int32 × Sg) :=
  lt_ ((if a0 = 2 then 1 else (if a0 = 3 then 1 else (if a0 = 4 then 1 else (if a0 = 5 then 1 else (if a0 = 8 then 1 else (if a0 = 20 then 1 else (if a0 = 21 then 1 else 0))))))) : Int32) (fun (x1 : Int32) => chk (zb x1) (some (x1, σ)))
abbrev rm_Md_needsOpen : Room := { frames := 0, cells := 0, slots := 0, locals := 0 }
set_option maxHeartbeats 4000000 in
set_option maxRecDepth 100000 in
theorem c_Md_needsOpen (l : Launch) (X : GX) (n : Nat) {σ σ' : Sg} {r : Int32} {a0 : Int32}  (hf : f_Md_needsOpen a0 σ = some (r, σ')) : Met l y_Md_needsOpen (cw y_Md_needsOpen b_Md_needsOpen 1 (some .boolean)) rm_Md_needsOpen (PcG X n σ [.int a0]) (QcG X n σ' (some (.int r))) 0 0 (fr X n) := by
  refine g_head (own := "TableMachineModel") (by decide) rfl (Nat.le_of_ble_eq_true rfl) ?_
  intro p e s m args below meth c ls F hr hlk hP hl
  have hl : lv_has ls 1 [(0, .int a0)] := hl
  show WG l X n rm_Md_needsOpen σ' (some (.int r)) p e s m args below meth c s.heap [] (F0 m 0 ls [])
  unfold f_Md_needsOpen at hf
  refine lv_iload_n F.1 F.2.1 d_Md_needsOpen_0 rfl (lv_at hl 0 rfl) ?_
  refine lv_iconst (v := 2) F.1 F.2.1 d_Md_needsOpen_1 (by decide) ?_
  obtain ⟨x1, hj3, hf⟩ := lt_some2 hf
  have KJ2 : ∀ (ls : Array Slot) (H : Heap) (locs : List Loc), lv_has ls 1 [] → St X n σ s.heap H locs → WG l X n rm_Md_needsOpen σ' (some (.int r)) p e s m args below meth c H locs (F0 m 43 ls [.int x1]) := by
    intro ls H locs hl hP
    obtain ⟨hz11, hf⟩ := chk_some hf
    cases hf
    exact g_zret F hP hr hlk hz11 d_Md_needsOpen_43
  refine lv_icmp_eq F.1 F.2.1 d_Md_needsOpen_2 rfl (fun hb10 => ?_) (fun hb10 => ?_)
  · rw [if_pos hb10] at hj3
    refine lv_iconst (v := 1) F.1 F.2.1 d_Md_needsOpen_38 (by decide) ?_
    refine lv_goto F.1 F.2.1 d_Md_needsOpen_39 rfl ?_
    subst hj3
    exact KJ2 _ _ _ (lv_sub hl [] rfl) hP
  · rw [if_neg hb10] at hj3
    refine lv_iload_n F.1 F.2.1 d_Md_needsOpen_5 rfl (lv_at hl 0 rfl) ?_
    refine lv_iconst (v := 3) F.1 F.2.1 d_Md_needsOpen_6 (by decide) ?_
    refine lv_icmp_eq F.1 F.2.1 d_Md_needsOpen_7 rfl (fun hb9 => ?_) (fun hb9 => ?_)
    · rw [if_pos hb9] at hj3
      refine lv_iconst (v := 1) F.1 F.2.1 d_Md_needsOpen_38 (by decide) ?_
      refine lv_goto F.1 F.2.1 d_Md_needsOpen_39 rfl ?_
      subst hj3
      exact KJ2 _ _ _ (lv_sub hl [] rfl) hP
    · rw [if_neg hb9] at hj3
      refine lv_iload_n F.1 F.2.1 d_Md_needsOpen_10 rfl (lv_at hl 0 rfl) ?_
      refine lv_iconst (v := 4) F.1 F.2.1 d_Md_needsOpen_11 (by decide) ?_
      refine lv_icmp_eq F.1 F.2.1 d_Md_needsOpen_12 rfl (fun hb8 => ?_) (fun hb8 => ?_)
      · rw [if_pos hb8] at hj3
        refine lv_iconst (v := 1) F.1 F.2.1 d_Md_needsOpen_38 (by decide) ?_
        refine lv_goto F.1 F.2.1 d_Md_needsOpen_39 rfl ?_
        subst hj3
        exact KJ2 _ _ _ (lv_sub hl [] rfl) hP
      · rw [if_neg hb8] at hj3
        refine lv_iload_n F.1 F.2.1 d_Md_needsOpen_15 rfl (lv_at hl 0 rfl) ?_
        refine lv_iconst (v := 5) F.1 F.2.1 d_Md_needsOpen_16 (by decide) ?_
        refine lv_icmp_eq F.1 F.2.1 d_Md_needsOpen_17 rfl (fun hb7 => ?_) (fun hb7 => ?_)
        · rw [if_pos hb7] at hj3
          refine lv_iconst (v := 1) F.1 F.2.1 d_Md_needsOpen_38 (by decide) ?_
          refine lv_goto F.1 F.2.1 d_Md_needsOpen_39 rfl ?_
          subst hj3
          exact KJ2 _ _ _ (lv_sub hl [] rfl) hP
        · rw [if_neg hb7] at hj3
          refine lv_iload_n F.1 F.2.1 d_Md_needsOpen_20 rfl (lv_at hl 0 rfl) ?_
          refine lv_bipush (v := 8) F.1 F.2.1 d_Md_needsOpen_21 (by decide) ?_
          refine lv_icmp_eq F.1 F.2.1 d_Md_needsOpen_23 rfl (fun hb6 => ?_) (fun hb6 => ?_)
          · rw [if_pos hb6] at hj3
            refine lv_iconst (v := 1) F.1 F.2.1 d_Md_needsOpen_38 (by decide) ?_
            refine lv_goto F.1 F.2.1 d_Md_needsOpen_39 rfl ?_
            subst hj3
            exact KJ2 _ _ _ (lv_sub hl [] rfl) hP
          · rw [if_neg hb6] at hj3
            refine lv_iload_n F.1 F.2.1 d_Md_needsOpen_26 rfl (lv_at hl 0 rfl) ?_
            refine lv_bipush (v := 20) F.1 F.2.1 d_Md_needsOpen_27 (by decide) ?_
            refine lv_icmp_eq F.1 F.2.1 d_Md_needsOpen_29 rfl (fun hb5 => ?_) (fun hb5 => ?_)
            · rw [if_pos hb5] at hj3
              refine lv_iconst (v := 1) F.1 F.2.1 d_Md_needsOpen_38 (by decide) ?_
              refine lv_goto F.1 F.2.1 d_Md_needsOpen_39 rfl ?_
              subst hj3
              exact KJ2 _ _ _ (lv_sub hl [] rfl) hP
            · rw [if_neg hb5] at hj3
              refine lv_iload_n F.1 F.2.1 d_Md_needsOpen_32 rfl (lv_at hl 0 rfl) ?_
              refine lv_bipush (v := 21) F.1 F.2.1 d_Md_needsOpen_33 (by decide) ?_
              refine lv_icmp_ne F.1 F.2.1 d_Md_needsOpen_35 rfl (fun hb4 => ?_) (fun hb4 => ?_)
              · rw [if_neg hb4] at hj3
                refine lv_iconst (v := 0) F.1 F.2.1 d_Md_needsOpen_42 (by decide) ?_
                subst hj3
                exact KJ2 _ _ _ (lv_sub hl [] rfl) hP
              · rw [if_pos hb4] at hj3
                refine lv_iconst (v := 1) F.1 F.2.1 d_Md_needsOpen_38 (by decide) ?_
                refine lv_goto F.1 F.2.1 d_Md_needsOpen_39 rfl ?_
                subst hj3
                exact KJ2 _ _ _ (lv_sub hl [] rfl) hP

theorem d_Md_point_0 : decode b_Md_point 0 = .ok (.aload_n 0, 1) := by decide +kernel
theorem d_Md_point_1 : decode b_Md_point 1 = .ok (.getfield 45, 3) := by decide +kernel
theorem d_Md_point_4 : decode b_Md_point 4 = .ok (.iload_n 1, 1) := by decide +kernel
theorem d_Md_point_5 : decode b_Md_point 5 = .ok (.iload_n 2, 1) := by decide +kernel
theorem d_Md_point_6 : decode b_Md_point 6 = .ok (.ifCond .lt 7, 3) := by decide +kernel
theorem d_Md_point_9 : decode b_Md_point 9 = .ok (.iconst 1, 1) := by decide +kernel
theorem d_Md_point_10 : decode b_Md_point 10 = .ok (.goto 4, 3) := by decide +kernel
theorem d_Md_point_13 : decode b_Md_point 13 = .ok (.iconst 0, 1) := by decide +kernel
theorem d_Md_point_14 : decode b_Md_point 14 = .ok (.bastore, 1) := by decide +kernel
theorem d_Md_point_15 : decode b_Md_point 15 = .ok (.aload_n 0, 1) := by decide +kernel
theorem d_Md_point_16 : decode b_Md_point 16 = .ok (.getfield 48, 3) := by decide +kernel
theorem d_Md_point_19 : decode b_Md_point 19 = .ok (.iload_n 1, 1) := by decide +kernel
theorem d_Md_point_20 : decode b_Md_point 20 = .ok (.iload_n 2, 1) := by decide +kernel
theorem d_Md_point_21 : decode b_Md_point 21 = .ok (.ifCond .ge 7, 3) := by decide +kernel
theorem d_Md_point_24 : decode b_Md_point 24 = .ok (.lconst 0, 1) := by decide +kernel
theorem d_Md_point_25 : decode b_Md_point 25 = .ok (.goto 9, 3) := by decide +kernel
theorem d_Md_point_28 : decode b_Md_point 28 = .ok (.aload_n 0, 1) := by decide +kernel
theorem d_Md_point_29 : decode b_Md_point 29 = .ok (.getfield 16, 3) := by decide +kernel
theorem d_Md_point_32 : decode b_Md_point 32 = .ok (.iload_n 2, 1) := by decide +kernel
theorem d_Md_point_33 : decode b_Md_point 33 = .ok (.laload, 1) := by decide +kernel
theorem d_Md_point_34 : decode b_Md_point 34 = .ok (.lastore, 1) := by decide +kernel
theorem d_Md_point_35 : decode b_Md_point 35 = .ok (.return_, 1) := by decide +kernel
noncomputable def f_Md_point (a1 : Int32) (a2 : Int32) (σ : Sg) : Option (Sg) :=
  lt_ ((if a2 < 0 then 0 else 1) : Int32) (fun (x1 : Int32) => chk (vp_in a1 3) (lt_ (si σ 37 0 a1.toNatClampNeg (vp_nar .boolean x1)) (fun σ6 => Option.bind (if 0 ≤ a2 then (chk (vp_in a2 90) (some (gj σ6 28 0 a2.toNatClampNeg))) else (some (0))) (fun (x7 : Int64) => chk (vp_in a1 3) (lt_ (sj σ6 38 0 a1.toNatClampNeg x7) (fun σ13 => some σ13))))))
abbrev rm_Md_point : Room := { frames := 0, cells := 0, slots := 0, locals := 0 }
set_option maxHeartbeats 4000000 in
set_option maxRecDepth 100000 in
theorem c_Md_point (l : Launch) (X : GX) (n : Nat) {σ σ' : Sg} {a1 : Int32} {a2 : Int32}  (hf : f_Md_point a1 a2 σ = some σ') : Met l y_Md_point (cw y_Md_point b_Md_point 3 none) rm_Md_point (PcG X n σ [.ref (xL X 9 0), .int a1, .int a2]) (QcG X n σ' none) 0 0 (fr X n) := by
  refine g_head (own := "TableMachineModel") (by decide) rfl (Nat.le_of_ble_eq_true rfl) ?_
  intro p e s m args below meth c ls F hr hlk hP hl
  have hl : lv_has ls 3 [(0, .ref (xL X 9 0)), (1, .int a1), (2, .int a2)] := hl
  show WG l X n rm_Md_point σ' none p e s m args below meth c s.heap [] (F0 m 0 ls [])
  unfold f_Md_point at hf
  refine lv_aload_n F.1 F.2.1 d_Md_point_0 rfl (lv_at hl 0 rfl) ?_
  refine g_get F hP 9 15 0 (by decide) Nat.zero_lt_one (by decide) (v := .ref (xL X 37 0)) rfl w_888 d_Md_point_1 ?_
  refine lv_iload_n F.1 F.2.1 d_Md_point_4 rfl (lv_at hl 1 rfl) ?_
  refine lv_iload_n F.1 F.2.1 d_Md_point_5 rfl (lv_at hl 2 rfl) ?_
  obtain ⟨x1, hj3, hf⟩ := lt_some2 hf
  have KJ2 : ∀ (ls : Array Slot) (H : Heap) (locs : List Loc), lv_has ls 3 [(0, .ref (xL X 9 0)), (1, .int a1), (2, .int a2)] → St X n σ s.heap H locs → WG l X n rm_Md_point σ' none p e s m args below meth c H locs (F0 m 14 ls [.int x1, .int a1, .ref (xL X 37 0)]) := by
    intro ls H locs hl hP
    obtain ⟨hc5, hf⟩ := chk_some hf
    obtain ⟨σ6, e_σ6, hf⟩ := lt_some hf
    refine g_zst F hP 37 (by decide) (by decide) Nat.zero_lt_one rfl rfl hc5 d_Md_point_14 e_σ6 (fun H locs hP => ?_)
    refine lv_aload_n F.1 F.2.1 d_Md_point_15 rfl (lv_at hl 0 rfl) ?_
    refine g_get F hP 9 16 0 (by decide) Nat.zero_lt_one (by decide) (v := .ref (xL X 38 0)) rfl w_889 d_Md_point_16 ?_
    refine lv_iload_n F.1 F.2.1 d_Md_point_19 rfl (lv_at hl 1 rfl) ?_
    refine lv_iload_n F.1 F.2.1 d_Md_point_20 rfl (lv_at hl 2 rfl) ?_
    obtain ⟨x7, hj9, hf⟩ := bnd_some hf
    have KJ8 : ∀ (ls : Array Slot) (H : Heap) (locs : List Loc), lv_has ls 3 [] → St X n σ6 s.heap H locs → WG l X n rm_Md_point σ' none p e s m args below meth c H locs (F0 m 34 ls [.long x7, .int a1, .ref (xL X 38 0)]) := by
      intro ls H locs hl hP
      obtain ⟨hc12, hf⟩ := chk_some hf
      obtain ⟨σ13, e_σ13, hf⟩ := lt_some hf
      refine g_lst F hP 38 (by decide) (by decide) Nat.zero_lt_one rfl rfl hc12 d_Md_point_34 e_σ13 (fun H locs hP => ?_)
      cases hf
      exact g_vret F hP hr hlk d_Md_point_35
    refine lv_if_ge F.1 F.2.1 d_Md_point_21 rfl (fun hb11 => ?_) (fun hb11 => ?_)
    · rw [if_pos hb11] at hj9
      refine lv_aload_n F.1 F.2.1 d_Md_point_28 rfl (lv_at hl 0 rfl) ?_
      refine g_get F hP 9 5 0 (by decide) Nat.zero_lt_one (by decide) (v := .ref (xL X 28 0)) rfl w_878 d_Md_point_29 ?_
      refine lv_iload_n F.1 F.2.1 d_Md_point_32 rfl (lv_at hl 2 rfl) ?_
      obtain ⟨hc10, hj9⟩ := chk_some hj9
      refine g_lld F hP 28 (by decide) (by decide) Nat.zero_lt_one rfl rfl hc10 d_Md_point_33 ?_
      cases hj9
      exact KJ8 _ _ _ (lv_sub hl [] rfl) hP
    · rw [if_neg hb11] at hj9
      refine lv_lconst (v := 0) F.1 F.2.1 d_Md_point_24 (by decide) ?_
      refine lv_goto F.1 F.2.1 d_Md_point_25 rfl ?_
      cases hj9
      exact KJ8 _ _ _ (lv_sub hl [] rfl) hP
  refine lv_if_lt F.1 F.2.1 d_Md_point_6 rfl (fun hb4 => ?_) (fun hb4 => ?_)
  · rw [if_pos hb4] at hj3
    refine lv_iconst (v := 0) F.1 F.2.1 d_Md_point_13 (by decide) ?_
    subst hj3
    exact KJ2 _ _ _ (lv_sub hl [0, 1, 2] rfl) hP
  · rw [if_neg hb4] at hj3
    refine lv_iconst (v := 1) F.1 F.2.1 d_Md_point_9 (by decide) ?_
    refine lv_goto F.1 F.2.1 d_Md_point_10 rfl ?_
    subst hj3
    exact KJ2 _ _ _ (lv_sub hl [0, 1, 2] rfl) hP

theorem d_Md_rowAt_0 : decode b_Md_rowAt 0 = .ok (.aload_n 0, 1) := by decide +kernel
theorem d_Md_rowAt_1 : decode b_Md_rowAt 1 = .ok (.getfield 45, 3) := by decide +kernel
theorem d_Md_rowAt_4 : decode b_Md_rowAt 4 = .ok (.iload_n 1, 1) := by decide +kernel
theorem d_Md_rowAt_5 : decode b_Md_rowAt 5 = .ok (.baload, 1) := by decide +kernel
theorem d_Md_rowAt_6 : decode b_Md_rowAt 6 = .ok (.ifCond .eq 22, 3) := by decide +kernel
theorem d_Md_rowAt_9 : decode b_Md_rowAt 9 = .ok (.aload_n 0, 1) := by decide +kernel
theorem d_Md_rowAt_10 : decode b_Md_rowAt 10 = .ok (.aload_n 0, 1) := by decide +kernel
theorem d_Md_rowAt_11 : decode b_Md_rowAt 11 = .ok (.getfield 42, 3) := by decide +kernel
theorem d_Md_rowAt_14 : decode b_Md_rowAt 14 = .ok (.iload_n 1, 1) := by decide +kernel
theorem d_Md_rowAt_15 : decode b_Md_rowAt 15 = .ok (.iaload, 1) := by decide +kernel
theorem d_Md_rowAt_16 : decode b_Md_rowAt 16 = .ok (.aload_n 0, 1) := by decide +kernel
theorem d_Md_rowAt_17 : decode b_Md_rowAt 17 = .ok (.getfield 48, 3) := by decide +kernel
theorem d_Md_rowAt_20 : decode b_Md_rowAt 20 = .ok (.iload_n 1, 1) := by decide +kernel
theorem d_Md_rowAt_21 : decode b_Md_rowAt 21 = .ok (.laload, 1) := by decide +kernel
theorem d_Md_rowAt_22 : decode b_Md_rowAt 22 = .ok (.invokevirtual 86, 3) := by decide +kernel
theorem d_Md_rowAt_25 : decode b_Md_rowAt 25 = .ok (.goto 4, 3) := by decide +kernel
theorem d_Md_rowAt_28 : decode b_Md_rowAt 28 = .ok (.iconst (-1), 1) := by decide +kernel
theorem d_Md_rowAt_29 : decode b_Md_rowAt 29 = .ok (.ireturn, 1) := by decide +kernel
noncomputable def f_Md_rowAt (a1 : Int32) (σ : Sg) : Option (Int32 × Sg) :=
  chk (vp_in a1 3) (bn2 (if (gi σ 37 0 a1.toNatClampNeg) = 0 then (some ((-1), σ)) else (chk (vp_in a1 3) (chk (vp_in a1 3) (bn2 (f_Md_rowOf (gi σ 36 0 a1.toNatClampNeg) (gj σ 38 0 a1.toNatClampNeg) σ) (fun r10 σ8 => some (r10, σ8)))))) (fun (x2 : Int32) (σ3 : Sg) => some (x2, σ3)))
abbrev rm_Md_rowAt : Room := { frames := 1, cells := 0, slots := 0, locals := 25 }
set_option maxHeartbeats 4000000 in
set_option maxRecDepth 100000 in
theorem c_Md_rowAt (l : Launch) (X : GX) (n : Nat) {σ σ' : Sg} {r : Int32} {a1 : Int32}  (hf : f_Md_rowAt a1 σ = some (r, σ')) : Met l y_Md_rowAt (cw y_Md_rowAt b_Md_rowAt 2 (some .int)) rm_Md_rowAt (PcG X n σ [.ref (xL X 9 0), .int a1]) (QcG X n σ' (some (.int r))) 0 0 (fr X n) := by
  refine g_head (own := "TableMachineModel") (by decide) rfl (Nat.le_of_ble_eq_true rfl) ?_
  intro p e s m args below meth c ls F hr hlk hP hl
  have hl : lv_has ls 2 [(0, .ref (xL X 9 0)), (1, .int a1)] := hl
  show WG l X n rm_Md_rowAt σ' (some (.int r)) p e s m args below meth c s.heap [] (F0 m 0 ls [])
  unfold f_Md_rowAt at hf
  refine lv_aload_n F.1 F.2.1 d_Md_rowAt_0 rfl (lv_at hl 0 rfl) ?_
  refine g_get F hP 9 15 0 (by decide) Nat.zero_lt_one (by decide) (v := .ref (xL X 37 0)) rfl w_888 d_Md_rowAt_1 ?_
  refine lv_iload_n F.1 F.2.1 d_Md_rowAt_4 rfl (lv_at hl 1 rfl) ?_
  obtain ⟨hc1, hf⟩ := chk_some hf
  refine g_zld F hP 37 (by decide) (by decide) Nat.zero_lt_one rfl rfl hc1 d_Md_rowAt_5 ?_
  obtain ⟨x2, σ3, hj5, hf⟩ := bn2_some hf
  have KJ4 : ∀ (ls : Array Slot) (H : Heap) (locs : List Loc), lv_has ls 2 [] → St X n σ3 s.heap H locs → WG l X n rm_Md_rowAt σ' (some (.int r)) p e s m args below meth c H locs (F0 m 29 ls [.int x2]) := by
    intro ls H locs hl hP
    cases hf
    exact g_iret F hP hr hlk d_Md_rowAt_29
  refine lv_if_eq F.1 F.2.1 d_Md_rowAt_6 rfl (fun hb11 => ?_) (fun hb11 => ?_)
  · rw [if_pos hb11] at hj5
    refine lv_iconst (v := (-1)) F.1 F.2.1 d_Md_rowAt_28 (by decide) ?_
    cases hj5
    exact KJ4 _ _ _ (lv_sub hl [] rfl) hP
  · rw [if_neg hb11] at hj5
    refine lv_aload_n F.1 F.2.1 d_Md_rowAt_9 rfl (lv_at hl 0 rfl) ?_
    refine lv_aload_n F.1 F.2.1 d_Md_rowAt_10 rfl (lv_at hl 0 rfl) ?_
    refine g_get F hP 9 14 0 (by decide) Nat.zero_lt_one (by decide) (v := .ref (xL X 36 0)) rfl w_887 d_Md_rowAt_11 ?_
    refine lv_iload_n F.1 F.2.1 d_Md_rowAt_14 rfl (lv_at hl 1 rfl) ?_
    obtain ⟨hc6, hj5⟩ := chk_some hj5
    refine g_ald F hP 36 (by decide) (by decide) Nat.zero_lt_one rfl rfl hc6 d_Md_rowAt_15 ?_
    refine lv_aload_n F.1 F.2.1 d_Md_rowAt_16 rfl (lv_at hl 0 rfl) ?_
    refine g_get F hP 9 16 0 (by decide) Nat.zero_lt_one (by decide) (v := .ref (xL X 38 0)) rfl w_889 d_Md_rowAt_17 ?_
    refine lv_iload_n F.1 F.2.1 d_Md_rowAt_20 rfl (lv_at hl 1 rfl) ?_
    obtain ⟨hc7, hj5⟩ := chk_some hj5
    refine g_lld F hP 38 (by decide) (by decide) Nat.zero_lt_one rfl rfl hc7 d_Md_rowAt_21 ?_
    obtain ⟨r10, σ8, hk9, hj5⟩ := bn2_some hj5
    refine g_callV (As := [.int (gi σ 36 0 a1.toNatClampNeg), .long (gj σ 38 0 a1.toNatClampNeg)]) (rest := []) F hP 9 0 (by decide) Nat.zero_lt_one (c_Md_rowOf l X n  hk9) rfl q_Md_rowOf w_995 w_11 w_992 w_994 wp_36 ⟨rfl, rfl⟩ ⟨by decide, by decide⟩ hl.1 (Nat.le_of_ble_eq_true rfl) ⟨Nat.zero_le _, Nat.zero_le _⟩ d_Md_rowAt_22 rfl (fun H locs hP => ?_)
    refine W.eq (g2 := F0 m 25 ls [.int r10]) rfl ?_
    refine lv_goto F.1 F.2.1 d_Md_rowAt_25 rfl ?_
    cases hj5
    exact KJ4 _ _ _ (lv_sub hl [] rfl) hP

theorem d_Md_compares_0 : decode b_Md_compares 0 = .ok (.iload_n 1, 1) := by decide +kernel
theorem d_Md_compares_1 : decode b_Md_compares 1 = .ok (.bipush 9, 2) := by decide +kernel
theorem d_Md_compares_3 : decode b_Md_compares 3 = .ok (.isub, 1) := by decide +kernel
theorem d_Md_compares_4 : decode b_Md_compares 4 = .ok (.istore 6, 2) := by decide +kernel
theorem d_Md_compares_6 : decode b_Md_compares 6 = .ok (.iload 6, 2) := by decide +kernel
theorem d_Md_compares_8 : decode b_Md_compares 8 = .ok (.ifCond .ne 18, 3) := by decide +kernel
theorem d_Md_compares_11 : decode b_Md_compares 11 = .ok (.lload_n 2, 1) := by decide +kernel
theorem d_Md_compares_12 : decode b_Md_compares 12 = .ok (.lload 4, 2) := by decide +kernel
theorem d_Md_compares_14 : decode b_Md_compares 14 = .ok (.lcmp, 1) := by decide +kernel
theorem d_Md_compares_15 : decode b_Md_compares 15 = .ok (.ifCond .ne 7, 3) := by decide +kernel
theorem d_Md_compares_18 : decode b_Md_compares 18 = .ok (.iconst 1, 1) := by decide +kernel
theorem d_Md_compares_19 : decode b_Md_compares 19 = .ok (.goto 103, 3) := by decide +kernel
theorem d_Md_compares_22 : decode b_Md_compares 22 = .ok (.iconst 0, 1) := by decide +kernel
theorem d_Md_compares_23 : decode b_Md_compares 23 = .ok (.goto 99, 3) := by decide +kernel
theorem d_Md_compares_26 : decode b_Md_compares 26 = .ok (.iload 6, 2) := by decide +kernel
theorem d_Md_compares_28 : decode b_Md_compares 28 = .ok (.iconst 1, 1) := by decide +kernel
theorem d_Md_compares_29 : decode b_Md_compares 29 = .ok (.if_icmp .ne 18, 3) := by decide +kernel
theorem d_Md_compares_32 : decode b_Md_compares 32 = .ok (.lload_n 2, 1) := by decide +kernel
theorem d_Md_compares_33 : decode b_Md_compares 33 = .ok (.lload 4, 2) := by decide +kernel
theorem d_Md_compares_35 : decode b_Md_compares 35 = .ok (.lcmp, 1) := by decide +kernel
theorem d_Md_compares_36 : decode b_Md_compares 36 = .ok (.ifCond .eq 7, 3) := by decide +kernel
theorem d_Md_compares_39 : decode b_Md_compares 39 = .ok (.iconst 1, 1) := by decide +kernel
theorem d_Md_compares_40 : decode b_Md_compares 40 = .ok (.goto 82, 3) := by decide +kernel
theorem d_Md_compares_43 : decode b_Md_compares 43 = .ok (.iconst 0, 1) := by decide +kernel
theorem d_Md_compares_44 : decode b_Md_compares 44 = .ok (.goto 78, 3) := by decide +kernel
theorem d_Md_compares_47 : decode b_Md_compares 47 = .ok (.iload 6, 2) := by decide +kernel
theorem d_Md_compares_49 : decode b_Md_compares 49 = .ok (.iconst 2, 1) := by decide +kernel
theorem d_Md_compares_50 : decode b_Md_compares 50 = .ok (.if_icmp .ne 18, 3) := by decide +kernel
theorem d_Md_compares_53 : decode b_Md_compares 53 = .ok (.lload_n 2, 1) := by decide +kernel
theorem d_Md_compares_54 : decode b_Md_compares 54 = .ok (.lload 4, 2) := by decide +kernel
theorem d_Md_compares_56 : decode b_Md_compares 56 = .ok (.lcmp, 1) := by decide +kernel
theorem d_Md_compares_57 : decode b_Md_compares 57 = .ok (.ifCond .ge 7, 3) := by decide +kernel
theorem d_Md_compares_60 : decode b_Md_compares 60 = .ok (.iconst 1, 1) := by decide +kernel
theorem d_Md_compares_61 : decode b_Md_compares 61 = .ok (.goto 61, 3) := by decide +kernel
theorem d_Md_compares_64 : decode b_Md_compares 64 = .ok (.iconst 0, 1) := by decide +kernel
theorem d_Md_compares_65 : decode b_Md_compares 65 = .ok (.goto 57, 3) := by decide +kernel
theorem d_Md_compares_68 : decode b_Md_compares 68 = .ok (.iload 6, 2) := by decide +kernel
theorem d_Md_compares_70 : decode b_Md_compares 70 = .ok (.iconst 3, 1) := by decide +kernel
theorem d_Md_compares_71 : decode b_Md_compares 71 = .ok (.if_icmp .ne 18, 3) := by decide +kernel
theorem d_Md_compares_74 : decode b_Md_compares 74 = .ok (.lload_n 2, 1) := by decide +kernel
theorem d_Md_compares_75 : decode b_Md_compares 75 = .ok (.lload 4, 2) := by decide +kernel
theorem d_Md_compares_77 : decode b_Md_compares 77 = .ok (.lcmp, 1) := by decide +kernel
theorem d_Md_compares_78 : decode b_Md_compares 78 = .ok (.ifCond .gt 7, 3) := by decide +kernel
theorem d_Md_compares_81 : decode b_Md_compares 81 = .ok (.iconst 1, 1) := by decide +kernel
theorem d_Md_compares_82 : decode b_Md_compares 82 = .ok (.goto 40, 3) := by decide +kernel
theorem d_Md_compares_85 : decode b_Md_compares 85 = .ok (.iconst 0, 1) := by decide +kernel
theorem d_Md_compares_86 : decode b_Md_compares 86 = .ok (.goto 36, 3) := by decide +kernel
theorem d_Md_compares_89 : decode b_Md_compares 89 = .ok (.iload 6, 2) := by decide +kernel
theorem d_Md_compares_91 : decode b_Md_compares 91 = .ok (.iconst 4, 1) := by decide +kernel
theorem d_Md_compares_92 : decode b_Md_compares 92 = .ok (.if_icmp .ne 18, 3) := by decide +kernel
theorem d_Md_compares_95 : decode b_Md_compares 95 = .ok (.lload_n 2, 1) := by decide +kernel
theorem d_Md_compares_96 : decode b_Md_compares 96 = .ok (.lload 4, 2) := by decide +kernel
theorem d_Md_compares_98 : decode b_Md_compares 98 = .ok (.lcmp, 1) := by decide +kernel
theorem d_Md_compares_99 : decode b_Md_compares 99 = .ok (.ifCond .le 7, 3) := by decide +kernel
theorem d_Md_compares_102 : decode b_Md_compares 102 = .ok (.iconst 1, 1) := by decide +kernel
theorem d_Md_compares_103 : decode b_Md_compares 103 = .ok (.goto 19, 3) := by decide +kernel
theorem d_Md_compares_106 : decode b_Md_compares 106 = .ok (.iconst 0, 1) := by decide +kernel
theorem d_Md_compares_107 : decode b_Md_compares 107 = .ok (.goto 15, 3) := by decide +kernel
theorem d_Md_compares_110 : decode b_Md_compares 110 = .ok (.lload_n 2, 1) := by decide +kernel
theorem d_Md_compares_111 : decode b_Md_compares 111 = .ok (.lload 4, 2) := by decide +kernel
theorem d_Md_compares_113 : decode b_Md_compares 113 = .ok (.lcmp, 1) := by decide +kernel
theorem d_Md_compares_114 : decode b_Md_compares 114 = .ok (.ifCond .lt 7, 3) := by decide +kernel
theorem d_Md_compares_117 : decode b_Md_compares 117 = .ok (.iconst 1, 1) := by decide +kernel
theorem d_Md_compares_118 : decode b_Md_compares 118 = .ok (.goto 4, 3) := by decide +kernel
theorem d_Md_compares_121 : decode b_Md_compares 121 = .ok (.iconst 0, 1) := by decide +kernel
theorem d_Md_compares_122 : decode b_Md_compares 122 = .ok (.ireturn, 1) := by decide +kernel
noncomputable def f_Md_compares (a1 : Int32) (a2 : Int64) (a4 : Int64) (σ : Sg) : Option (Int32 × Sg) :=
  lt_ (a1 - 9 : Int32) (fun (x1 : Int32) => lt_ ((if x1 = 0 then (if a2 = a4 then 1 else 0) else (if x1 = 1 then (if a2 = a4 then 0 else 1) else (if x1 = 2 then (if a4 ≤ a2 then 0 else 1) else (if x1 = 3 then (if a4 < a2 then 0 else 1) else (if x1 = 4 then (if a2 ≤ a4 then 0 else 1) else (if a2 < a4 then 0 else 1)))))) : Int32) (fun (x2 : Int32) => chk (zb x2) (some (x2, σ))))
abbrev rm_Md_compares : Room := { frames := 0, cells := 0, slots := 0, locals := 0 }
set_option maxHeartbeats 4000000 in
set_option maxRecDepth 100000 in
theorem c_Md_compares (l : Launch) (X : GX) (n : Nat) {σ σ' : Sg} {r : Int32} {a1 : Int32} {a2 : Int64} {a4 : Int64}  (hf : f_Md_compares a1 a2 a4 σ = some (r, σ')) : Met l y_Md_compares (cw y_Md_compares b_Md_compares 7 (some .boolean)) rm_Md_compares (PcG X n σ [.ref (xL X 9 0), .int a1, .long a2, .long a4]) (QcG X n σ' (some (.int r))) 0 0 (fr X n) := by
  refine g_head (own := "TableMachineModel") (by decide) rfl (Nat.le_of_ble_eq_true rfl) ?_
  intro p e s m args below meth c ls F hr hlk hP hl
  have hl : lv_has ls 7 [(0, .ref (xL X 9 0)), (1, .int a1), (2, .long a2), (4, .long a4)] := hl
  show WG l X n rm_Md_compares σ' (some (.int r)) p e s m args below meth c s.heap [] (F0 m 0 ls [])
  unfold f_Md_compares at hf
  refine lv_iload_n F.1 F.2.1 d_Md_compares_0 rfl (lv_at hl 1 rfl) ?_
  refine lv_bipush (v := 9) F.1 F.2.1 d_Md_compares_1 (by decide) ?_
  refine lv_isub F.1 F.2.1 d_Md_compares_3 ?_
  obtain ⟨x1, e_x1, hf⟩ := lt_some hf
  rw [← e_x1]
  refine lv_istore F.1 F.2.1 d_Md_compares_4 hl (by decide) rfl (fun ls hl => ?_)
  have hl : lv_has ls 7 [(6, .int x1), (0, .ref (xL X 9 0)), (1, .int a1), (2, .long a2), (4, .long a4)] := hl
  refine lv_iload F.1 F.2.1 d_Md_compares_6 (lv_at hl 0 rfl) ?_
  obtain ⟨x2, hj4, hf⟩ := lt_some2 hf
  have KJ3 : ∀ (ls : Array Slot) (H : Heap) (locs : List Loc), lv_has ls 7 [] → St X n σ s.heap H locs → WG l X n rm_Md_compares σ' (some (.int r)) p e s m args below meth c H locs (F0 m 122 ls [.int x2]) := by
    intro ls H locs hl hP
    obtain ⟨hz16, hf⟩ := chk_some hf
    cases hf
    exact g_zret F hP hr hlk hz16 d_Md_compares_122
  refine lv_if_ne F.1 F.2.1 d_Md_compares_8 rfl (fun hb15 => ?_) (fun hb15 => ?_)
  · rw [if_neg hb15] at hj4
    refine lv_iload F.1 F.2.1 d_Md_compares_26 (lv_at hl 0 rfl) ?_
    refine lv_iconst (v := 1) F.1 F.2.1 d_Md_compares_28 (by decide) ?_
    refine lv_icmp_ne F.1 F.2.1 d_Md_compares_29 rfl (fun hb13 => ?_) (fun hb13 => ?_)
    · rw [if_neg hb13] at hj4
      refine lv_iload F.1 F.2.1 d_Md_compares_47 (lv_at hl 0 rfl) ?_
      refine lv_iconst (v := 2) F.1 F.2.1 d_Md_compares_49 (by decide) ?_
      refine lv_icmp_ne F.1 F.2.1 d_Md_compares_50 rfl (fun hb11 => ?_) (fun hb11 => ?_)
      · rw [if_neg hb11] at hj4
        refine lv_iload F.1 F.2.1 d_Md_compares_68 (lv_at hl 0 rfl) ?_
        refine lv_iconst (v := 3) F.1 F.2.1 d_Md_compares_70 (by decide) ?_
        refine lv_icmp_ne F.1 F.2.1 d_Md_compares_71 rfl (fun hb9 => ?_) (fun hb9 => ?_)
        · rw [if_neg hb9] at hj4
          refine lv_iload F.1 F.2.1 d_Md_compares_89 (lv_at hl 0 rfl) ?_
          refine lv_iconst (v := 4) F.1 F.2.1 d_Md_compares_91 (by decide) ?_
          refine lv_icmp_ne F.1 F.2.1 d_Md_compares_92 rfl (fun hb7 => ?_) (fun hb7 => ?_)
          · rw [if_neg hb7] at hj4
            refine lv_lload_n F.1 F.2.1 d_Md_compares_110 rfl (lv_at hl 3 rfl) ?_
            refine lv_lload F.1 F.2.1 d_Md_compares_111 (lv_at hl 4 rfl) ?_
            refine g_lc_lt F d_Md_compares_113 d_Md_compares_114 rfl (fun hb5 => ?_) (fun hb5 => ?_)
            · rw [if_pos hb5] at hj4
              refine lv_iconst (v := 0) F.1 F.2.1 d_Md_compares_121 (by decide) ?_
              subst hj4
              exact KJ3 _ _ _ (lv_sub hl [] rfl) hP
            · rw [if_neg hb5] at hj4
              refine lv_iconst (v := 1) F.1 F.2.1 d_Md_compares_117 (by decide) ?_
              refine lv_goto F.1 F.2.1 d_Md_compares_118 rfl ?_
              subst hj4
              exact KJ3 _ _ _ (lv_sub hl [] rfl) hP
          · rw [if_pos hb7] at hj4
            refine lv_lload_n F.1 F.2.1 d_Md_compares_95 rfl (lv_at hl 3 rfl) ?_
            refine lv_lload F.1 F.2.1 d_Md_compares_96 (lv_at hl 4 rfl) ?_
            refine g_lc_le F d_Md_compares_98 d_Md_compares_99 rfl (fun hb6 => ?_) (fun hb6 => ?_)
            · rw [if_pos hb6] at hj4
              refine lv_iconst (v := 0) F.1 F.2.1 d_Md_compares_106 (by decide) ?_
              refine lv_goto F.1 F.2.1 d_Md_compares_107 rfl ?_
              subst hj4
              exact KJ3 _ _ _ (lv_sub hl [] rfl) hP
            · rw [if_neg hb6] at hj4
              refine lv_iconst (v := 1) F.1 F.2.1 d_Md_compares_102 (by decide) ?_
              refine lv_goto F.1 F.2.1 d_Md_compares_103 rfl ?_
              subst hj4
              exact KJ3 _ _ _ (lv_sub hl [] rfl) hP
        · rw [if_pos hb9] at hj4
          refine lv_lload_n F.1 F.2.1 d_Md_compares_74 rfl (lv_at hl 3 rfl) ?_
          refine lv_lload F.1 F.2.1 d_Md_compares_75 (lv_at hl 4 rfl) ?_
          refine g_lc_gt F d_Md_compares_77 d_Md_compares_78 rfl (fun hb8 => ?_) (fun hb8 => ?_)
          · rw [if_pos hb8] at hj4
            refine lv_iconst (v := 0) F.1 F.2.1 d_Md_compares_85 (by decide) ?_
            refine lv_goto F.1 F.2.1 d_Md_compares_86 rfl ?_
            subst hj4
            exact KJ3 _ _ _ (lv_sub hl [] rfl) hP
          · rw [if_neg hb8] at hj4
            refine lv_iconst (v := 1) F.1 F.2.1 d_Md_compares_81 (by decide) ?_
            refine lv_goto F.1 F.2.1 d_Md_compares_82 rfl ?_
            subst hj4
            exact KJ3 _ _ _ (lv_sub hl [] rfl) hP
      · rw [if_pos hb11] at hj4
        refine lv_lload_n F.1 F.2.1 d_Md_compares_53 rfl (lv_at hl 3 rfl) ?_
        refine lv_lload F.1 F.2.1 d_Md_compares_54 (lv_at hl 4 rfl) ?_
        refine g_lc_ge F d_Md_compares_56 d_Md_compares_57 rfl (fun hb10 => ?_) (fun hb10 => ?_)
        · rw [if_pos hb10] at hj4
          refine lv_iconst (v := 0) F.1 F.2.1 d_Md_compares_64 (by decide) ?_
          refine lv_goto F.1 F.2.1 d_Md_compares_65 rfl ?_
          subst hj4
          exact KJ3 _ _ _ (lv_sub hl [] rfl) hP
        · rw [if_neg hb10] at hj4
          refine lv_iconst (v := 1) F.1 F.2.1 d_Md_compares_60 (by decide) ?_
          refine lv_goto F.1 F.2.1 d_Md_compares_61 rfl ?_
          subst hj4
          exact KJ3 _ _ _ (lv_sub hl [] rfl) hP
    · rw [if_pos hb13] at hj4
      refine lv_lload_n F.1 F.2.1 d_Md_compares_32 rfl (lv_at hl 3 rfl) ?_
      refine lv_lload F.1 F.2.1 d_Md_compares_33 (lv_at hl 4 rfl) ?_
      refine g_lc_eq F d_Md_compares_35 d_Md_compares_36 rfl (fun hb12 => ?_) (fun hb12 => ?_)
      · rw [if_pos hb12] at hj4
        refine lv_iconst (v := 0) F.1 F.2.1 d_Md_compares_43 (by decide) ?_
        refine lv_goto F.1 F.2.1 d_Md_compares_44 rfl ?_
        subst hj4
        exact KJ3 _ _ _ (lv_sub hl [] rfl) hP
      · rw [if_neg hb12] at hj4
        refine lv_iconst (v := 1) F.1 F.2.1 d_Md_compares_39 (by decide) ?_
        refine lv_goto F.1 F.2.1 d_Md_compares_40 rfl ?_
        subst hj4
        exact KJ3 _ _ _ (lv_sub hl [] rfl) hP
  · rw [if_pos hb15] at hj4
    refine lv_lload_n F.1 F.2.1 d_Md_compares_11 rfl (lv_at hl 3 rfl) ?_
    refine lv_lload F.1 F.2.1 d_Md_compares_12 (lv_at hl 4 rfl) ?_
    refine g_lc_ne F d_Md_compares_14 d_Md_compares_15 rfl (fun hb14 => ?_) (fun hb14 => ?_)
    · rw [if_neg hb14] at hj4
      refine lv_iconst (v := 0) F.1 F.2.1 d_Md_compares_22 (by decide) ?_
      refine lv_goto F.1 F.2.1 d_Md_compares_23 rfl ?_
      subst hj4
      exact KJ3 _ _ _ (lv_sub hl [] rfl) hP
    · rw [if_pos hb14] at hj4
      refine lv_iconst (v := 1) F.1 F.2.1 d_Md_compares_18 (by decide) ?_
      refine lv_goto F.1 F.2.1 d_Md_compares_19 rfl ?_
      subst hj4
      exact KJ3 _ _ _ (lv_sub hl [] rfl) hP

theorem d_Md_withCursor_0 : decode b_Md_withCursor 0 = .ok (.aload_n 0, 1) := by decide +kernel
theorem d_Md_withCursor_1 : decode b_Md_withCursor 1 = .ok (.getfield 42, 3) := by decide +kernel
theorem d_Md_withCursor_4 : decode b_Md_withCursor 4 = .ok (.iload_n 2, 1) := by decide +kernel
theorem d_Md_withCursor_5 : decode b_Md_withCursor 5 = .ok (.iaload, 1) := by decide +kernel
theorem d_Md_withCursor_6 : decode b_Md_withCursor 6 = .ok (.istore 5, 2) := by decide +kernel
theorem d_Md_withCursor_8 : decode b_Md_withCursor 8 = .ok (.iload_n 1, 1) := by decide +kernel
theorem d_Md_withCursor_9 : decode b_Md_withCursor 9 = .ok (.iconst 2, 1) := by decide +kernel
theorem d_Md_withCursor_10 : decode b_Md_withCursor 10 = .ok (.if_icmp .ne 29, 3) := by decide +kernel
theorem d_Md_withCursor_13 : decode b_Md_withCursor 13 = .ok (.aload_n 0, 1) := by decide +kernel
theorem d_Md_withCursor_14 : decode b_Md_withCursor 14 = .ok (.iload_n 2, 1) := by decide +kernel
theorem d_Md_withCursor_15 : decode b_Md_withCursor 15 = .ok (.aload_n 0, 1) := by decide +kernel
theorem d_Md_withCursor_16 : decode b_Md_withCursor 16 = .ok (.iload 5, 2) := by decide +kernel
theorem d_Md_withCursor_18 : decode b_Md_withCursor 18 = .ok (.invokevirtual 128, 3) := by decide +kernel
theorem d_Md_withCursor_21 : decode b_Md_withCursor 21 = .ok (.invokevirtual 131, 3) := by decide +kernel
theorem d_Md_withCursor_24 : decode b_Md_withCursor 24 = .ok (.aload_n 0, 1) := by decide +kernel
theorem d_Md_withCursor_25 : decode b_Md_withCursor 25 = .ok (.getfield 45, 3) := by decide +kernel
theorem d_Md_withCursor_28 : decode b_Md_withCursor 28 = .ok (.iload_n 2, 1) := by decide +kernel
theorem d_Md_withCursor_29 : decode b_Md_withCursor 29 = .ok (.baload, 1) := by decide +kernel
theorem d_Md_withCursor_30 : decode b_Md_withCursor 30 = .ok (.ifCond .ne 7, 3) := by decide +kernel
theorem d_Md_withCursor_33 : decode b_Md_withCursor 33 = .ok (.iconst 1, 1) := by decide +kernel
theorem d_Md_withCursor_34 : decode b_Md_withCursor 34 = .ok (.goto 4, 3) := by decide +kernel
theorem d_Md_withCursor_37 : decode b_Md_withCursor 37 = .ok (.iconst 0, 1) := by decide +kernel
theorem d_Md_withCursor_38 : decode b_Md_withCursor 38 = .ok (.ireturn, 1) := by decide +kernel
theorem d_Md_withCursor_39 : decode b_Md_withCursor 39 = .ok (.iload_n 1, 1) := by decide +kernel
theorem d_Md_withCursor_40 : decode b_Md_withCursor 40 = .ok (.iconst 3, 1) := by decide +kernel
theorem d_Md_withCursor_41 : decode b_Md_withCursor 41 = .ok (.if_icmp .ne 54, 3) := by decide +kernel
theorem d_Md_withCursor_44 : decode b_Md_withCursor 44 = .ok (.aload_n 0, 1) := by decide +kernel
theorem d_Md_withCursor_45 : decode b_Md_withCursor 45 = .ok (.getfield 45, 3) := by decide +kernel
theorem d_Md_withCursor_48 : decode b_Md_withCursor 48 = .ok (.iload_n 2, 1) := by decide +kernel
theorem d_Md_withCursor_49 : decode b_Md_withCursor 49 = .ok (.baload, 1) := by decide +kernel
theorem d_Md_withCursor_50 : decode b_Md_withCursor 50 = .ok (.ifCond .eq 19, 3) := by decide +kernel
theorem d_Md_withCursor_53 : decode b_Md_withCursor 53 = .ok (.aload_n 0, 1) := by decide +kernel
theorem d_Md_withCursor_54 : decode b_Md_withCursor 54 = .ok (.iload 5, 2) := by decide +kernel
theorem d_Md_withCursor_56 : decode b_Md_withCursor 56 = .ok (.aload_n 0, 1) := by decide +kernel
theorem d_Md_withCursor_57 : decode b_Md_withCursor 57 = .ok (.getfield 48, 3) := by decide +kernel
theorem d_Md_withCursor_60 : decode b_Md_withCursor 60 = .ok (.iload_n 2, 1) := by decide +kernel
theorem d_Md_withCursor_61 : decode b_Md_withCursor 61 = .ok (.laload, 1) := by decide +kernel
theorem d_Md_withCursor_62 : decode b_Md_withCursor 62 = .ok (.iconst 1, 1) := by decide +kernel
theorem d_Md_withCursor_63 : decode b_Md_withCursor 63 = .ok (.invokevirtual 98, 3) := by decide +kernel
theorem d_Md_withCursor_66 : decode b_Md_withCursor 66 = .ok (.goto 4, 3) := by decide +kernel
theorem d_Md_withCursor_69 : decode b_Md_withCursor 69 = .ok (.iconst (-1), 1) := by decide +kernel
theorem d_Md_withCursor_70 : decode b_Md_withCursor 70 = .ok (.istore 6, 2) := by decide +kernel
theorem d_Md_withCursor_72 : decode b_Md_withCursor 72 = .ok (.iload 6, 2) := by decide +kernel
theorem d_Md_withCursor_74 : decode b_Md_withCursor 74 = .ok (.ifCond .lt 10, 3) := by decide +kernel
theorem d_Md_withCursor_77 : decode b_Md_withCursor 77 = .ok (.aload_n 0, 1) := by decide +kernel
theorem d_Md_withCursor_78 : decode b_Md_withCursor 78 = .ok (.iload_n 2, 1) := by decide +kernel
theorem d_Md_withCursor_79 : decode b_Md_withCursor 79 = .ok (.iload 6, 2) := by decide +kernel
theorem d_Md_withCursor_81 : decode b_Md_withCursor 81 = .ok (.invokevirtual 131, 3) := by decide +kernel
theorem d_Md_withCursor_84 : decode b_Md_withCursor 84 = .ok (.iload 6, 2) := by decide +kernel
theorem d_Md_withCursor_86 : decode b_Md_withCursor 86 = .ok (.ifCond .lt 7, 3) := by decide +kernel
theorem d_Md_withCursor_89 : decode b_Md_withCursor 89 = .ok (.iconst 1, 1) := by decide +kernel
theorem d_Md_withCursor_90 : decode b_Md_withCursor 90 = .ok (.goto 4, 3) := by decide +kernel
theorem d_Md_withCursor_93 : decode b_Md_withCursor 93 = .ok (.iconst 0, 1) := by decide +kernel
theorem d_Md_withCursor_94 : decode b_Md_withCursor 94 = .ok (.ireturn, 1) := by decide +kernel
theorem d_Md_withCursor_95 : decode b_Md_withCursor 95 = .ok (.iload_n 1, 1) := by decide +kernel
theorem d_Md_withCursor_96 : decode b_Md_withCursor 96 = .ok (.bipush 8, 2) := by decide +kernel
theorem d_Md_withCursor_98 : decode b_Md_withCursor 98 = .ok (.if_icmp .ne 51, 3) := by decide +kernel
theorem d_Md_withCursor_101 : decode b_Md_withCursor 101 = .ok (.aload_n 0, 1) := by decide +kernel
theorem d_Md_withCursor_102 : decode b_Md_withCursor 102 = .ok (.iload_n 2, 1) := by decide +kernel
theorem d_Md_withCursor_103 : decode b_Md_withCursor 103 = .ok (.aload_n 0, 1) := by decide +kernel
theorem d_Md_withCursor_104 : decode b_Md_withCursor 104 = .ok (.getfield 39, 3) := by decide +kernel
theorem d_Md_withCursor_107 : decode b_Md_withCursor 107 = .ok (.iload 4, 2) := by decide +kernel
theorem d_Md_withCursor_109 : decode b_Md_withCursor 109 = .ok (.baload, 1) := by decide +kernel
theorem d_Md_withCursor_110 : decode b_Md_withCursor 110 = .ok (.ifCond .eq 20, 3) := by decide +kernel
theorem d_Md_withCursor_113 : decode b_Md_withCursor 113 = .ok (.aload_n 0, 1) := by decide +kernel
theorem d_Md_withCursor_114 : decode b_Md_withCursor 114 = .ok (.iload 5, 2) := by decide +kernel
theorem d_Md_withCursor_116 : decode b_Md_withCursor 116 = .ok (.aload_n 0, 1) := by decide +kernel
theorem d_Md_withCursor_117 : decode b_Md_withCursor 117 = .ok (.getfield 36, 3) := by decide +kernel
theorem d_Md_withCursor_120 : decode b_Md_withCursor 120 = .ok (.iload 4, 2) := by decide +kernel
theorem d_Md_withCursor_122 : decode b_Md_withCursor 122 = .ok (.laload, 1) := by decide +kernel
theorem d_Md_withCursor_123 : decode b_Md_withCursor 123 = .ok (.iconst 0, 1) := by decide +kernel
theorem d_Md_withCursor_124 : decode b_Md_withCursor 124 = .ok (.invokevirtual 98, 3) := by decide +kernel
theorem d_Md_withCursor_127 : decode b_Md_withCursor 127 = .ok (.goto 4, 3) := by decide +kernel
theorem d_Md_withCursor_130 : decode b_Md_withCursor 130 = .ok (.iconst (-1), 1) := by decide +kernel
theorem d_Md_withCursor_131 : decode b_Md_withCursor 131 = .ok (.invokevirtual 131, 3) := by decide +kernel
theorem d_Md_withCursor_134 : decode b_Md_withCursor 134 = .ok (.aload_n 0, 1) := by decide +kernel
theorem d_Md_withCursor_135 : decode b_Md_withCursor 135 = .ok (.getfield 45, 3) := by decide +kernel
theorem d_Md_withCursor_138 : decode b_Md_withCursor 138 = .ok (.iload_n 2, 1) := by decide +kernel
theorem d_Md_withCursor_139 : decode b_Md_withCursor 139 = .ok (.baload, 1) := by decide +kernel
theorem d_Md_withCursor_140 : decode b_Md_withCursor 140 = .ok (.ifCond .ne 7, 3) := by decide +kernel
theorem d_Md_withCursor_143 : decode b_Md_withCursor 143 = .ok (.iconst 1, 1) := by decide +kernel
theorem d_Md_withCursor_144 : decode b_Md_withCursor 144 = .ok (.goto 4, 3) := by decide +kernel
theorem d_Md_withCursor_147 : decode b_Md_withCursor 147 = .ok (.iconst 0, 1) := by decide +kernel
theorem d_Md_withCursor_148 : decode b_Md_withCursor 148 = .ok (.ireturn, 1) := by decide +kernel
theorem d_Md_withCursor_149 : decode b_Md_withCursor 149 = .ok (.iload_n 1, 1) := by decide +kernel
theorem d_Md_withCursor_150 : decode b_Md_withCursor 150 = .ok (.bipush 20, 2) := by decide +kernel
theorem d_Md_withCursor_152 : decode b_Md_withCursor 152 = .ok (.if_icmp .ne 112, 3) := by decide +kernel
theorem d_Md_withCursor_155 : decode b_Md_withCursor 155 = .ok (.aload_n 0, 1) := by decide +kernel
theorem d_Md_withCursor_156 : decode b_Md_withCursor 156 = .ok (.getfield 39, 3) := by decide +kernel
theorem d_Md_withCursor_159 : decode b_Md_withCursor 159 = .ok (.iload 4, 2) := by decide +kernel
theorem d_Md_withCursor_161 : decode b_Md_withCursor 161 = .ok (.baload, 1) := by decide +kernel
theorem d_Md_withCursor_162 : decode b_Md_withCursor 162 = .ok (.ifCond .eq 28, 3) := by decide +kernel
theorem d_Md_withCursor_165 : decode b_Md_withCursor 165 = .ok (.aload_n 0, 1) := by decide +kernel
theorem d_Md_withCursor_166 : decode b_Md_withCursor 166 = .ok (.getfield 79, 3) := by decide +kernel
theorem d_Md_withCursor_169 : decode b_Md_withCursor 169 = .ok (.bipush 90, 2) := by decide +kernel
theorem d_Md_withCursor_171 : decode b_Md_withCursor 171 = .ok (.if_icmp .eq 19, 3) := by decide +kernel
theorem d_Md_withCursor_174 : decode b_Md_withCursor 174 = .ok (.aload_n 0, 1) := by decide +kernel
theorem d_Md_withCursor_175 : decode b_Md_withCursor 175 = .ok (.iload 5, 2) := by decide +kernel
theorem d_Md_withCursor_177 : decode b_Md_withCursor 177 = .ok (.aload_n 0, 1) := by decide +kernel
theorem d_Md_withCursor_178 : decode b_Md_withCursor 178 = .ok (.getfield 36, 3) := by decide +kernel
theorem d_Md_withCursor_181 : decode b_Md_withCursor 181 = .ok (.iload 4, 2) := by decide +kernel
theorem d_Md_withCursor_183 : decode b_Md_withCursor 183 = .ok (.laload, 1) := by decide +kernel
theorem d_Md_withCursor_184 : decode b_Md_withCursor 184 = .ok (.invokevirtual 86, 3) := by decide +kernel
theorem d_Md_withCursor_187 : decode b_Md_withCursor 187 = .ok (.ifCond .lt 5, 3) := by decide +kernel
theorem d_Md_withCursor_190 : decode b_Md_withCursor 190 = .ok (.iconst 1, 1) := by decide +kernel
theorem d_Md_withCursor_191 : decode b_Md_withCursor 191 = .ok (.ireturn, 1) := by decide +kernel
theorem d_Md_withCursor_192 : decode b_Md_withCursor 192 = .ok (.iconst 0, 1) := by decide +kernel
theorem d_Md_withCursor_193 : decode b_Md_withCursor 193 = .ok (.istore 6, 2) := by decide +kernel
theorem d_Md_withCursor_195 : decode b_Md_withCursor 195 = .ok (.iload 6, 2) := by decide +kernel
theorem d_Md_withCursor_197 : decode b_Md_withCursor 197 = .ok (.aload_n 0, 1) := by decide +kernel
theorem d_Md_withCursor_198 : decode b_Md_withCursor 198 = .ok (.getfield 7, 3) := by decide +kernel
theorem d_Md_withCursor_201 : decode b_Md_withCursor 201 = .ok (.iload 5, 2) := by decide +kernel
theorem d_Md_withCursor_203 : decode b_Md_withCursor 203 = .ok (.iaload, 1) := by decide +kernel
theorem d_Md_withCursor_204 : decode b_Md_withCursor 204 = .ok (.if_icmp .ge 48, 3) := by decide +kernel
theorem d_Md_withCursor_207 : decode b_Md_withCursor 207 = .ok (.aload_n 0, 1) := by decide +kernel
theorem d_Md_withCursor_208 : decode b_Md_withCursor 208 = .ok (.iload 5, 2) := by decide +kernel
theorem d_Md_withCursor_210 : decode b_Md_withCursor 210 = .ok (.aload_n 0, 1) := by decide +kernel
theorem d_Md_withCursor_211 : decode b_Md_withCursor 211 = .ok (.getfield 36, 3) := by decide +kernel
theorem d_Md_withCursor_214 : decode b_Md_withCursor 214 = .ok (.iload 4, 2) := by decide +kernel
theorem d_Md_withCursor_216 : decode b_Md_withCursor 216 = .ok (.laload, 1) := by decide +kernel
theorem d_Md_withCursor_217 : decode b_Md_withCursor 217 = .ok (.iload 6, 2) := by decide +kernel
theorem d_Md_withCursor_219 : decode b_Md_withCursor 219 = .ok (.aload_n 0, 1) := by decide +kernel
theorem d_Md_withCursor_220 : decode b_Md_withCursor 220 = .ok (.getfield 39, 3) := by decide +kernel
theorem d_Md_withCursor_223 : decode b_Md_withCursor 223 = .ok (.iload 4, 2) := by decide +kernel
theorem d_Md_withCursor_225 : decode b_Md_withCursor 225 = .ok (.iconst 1, 1) := by decide +kernel
theorem d_Md_withCursor_226 : decode b_Md_withCursor 226 = .ok (.iadd, 1) := by decide +kernel
theorem d_Md_withCursor_227 : decode b_Md_withCursor 227 = .ok (.iload 6, 2) := by decide +kernel
theorem d_Md_withCursor_229 : decode b_Md_withCursor 229 = .ok (.iadd, 1) := by decide +kernel
theorem d_Md_withCursor_230 : decode b_Md_withCursor 230 = .ok (.baload, 1) := by decide +kernel
theorem d_Md_withCursor_231 : decode b_Md_withCursor 231 = .ok (.aload_n 0, 1) := by decide +kernel
theorem d_Md_withCursor_232 : decode b_Md_withCursor 232 = .ok (.getfield 36, 3) := by decide +kernel
theorem d_Md_withCursor_235 : decode b_Md_withCursor 235 = .ok (.iload 4, 2) := by decide +kernel
theorem d_Md_withCursor_237 : decode b_Md_withCursor 237 = .ok (.iconst 1, 1) := by decide +kernel
theorem d_Md_withCursor_238 : decode b_Md_withCursor 238 = .ok (.iadd, 1) := by decide +kernel
theorem d_Md_withCursor_239 : decode b_Md_withCursor 239 = .ok (.iload 6, 2) := by decide +kernel
theorem d_Md_withCursor_241 : decode b_Md_withCursor 241 = .ok (.iadd, 1) := by decide +kernel
theorem d_Md_withCursor_242 : decode b_Md_withCursor 242 = .ok (.laload, 1) := by decide +kernel
theorem d_Md_withCursor_243 : decode b_Md_withCursor 243 = .ok (.invokevirtual 90, 3) := by decide +kernel
theorem d_Md_withCursor_246 : decode b_Md_withCursor 246 = .ok (.iinc 6 1, 3) := by decide +kernel
theorem d_Md_withCursor_249 : decode b_Md_withCursor 249 = .ok (.goto (-54), 3) := by decide +kernel
theorem d_Md_withCursor_252 : decode b_Md_withCursor 252 = .ok (.aload_n 0, 1) := by decide +kernel
theorem d_Md_withCursor_253 : decode b_Md_withCursor 253 = .ok (.dup, 1) := by decide +kernel
theorem d_Md_withCursor_254 : decode b_Md_withCursor 254 = .ok (.getfield 79, 3) := by decide +kernel
theorem d_Md_withCursor_257 : decode b_Md_withCursor 257 = .ok (.iconst 1, 1) := by decide +kernel
theorem d_Md_withCursor_258 : decode b_Md_withCursor 258 = .ok (.iadd, 1) := by decide +kernel
theorem d_Md_withCursor_259 : decode b_Md_withCursor 259 = .ok (.putfield 79, 3) := by decide +kernel
theorem d_Md_withCursor_262 : decode b_Md_withCursor 262 = .ok (.iconst 0, 1) := by decide +kernel
theorem d_Md_withCursor_263 : decode b_Md_withCursor 263 = .ok (.ireturn, 1) := by decide +kernel
theorem d_Md_withCursor_264 : decode b_Md_withCursor 264 = .ok (.aload_n 0, 1) := by decide +kernel
theorem d_Md_withCursor_265 : decode b_Md_withCursor 265 = .ok (.iload_n 2, 1) := by decide +kernel
theorem d_Md_withCursor_266 : decode b_Md_withCursor 266 = .ok (.invokevirtual 135, 3) := by decide +kernel
theorem d_Md_withCursor_269 : decode b_Md_withCursor 269 = .ok (.istore 6, 2) := by decide +kernel
theorem d_Md_withCursor_271 : decode b_Md_withCursor 271 = .ok (.iload_n 1, 1) := by decide +kernel
theorem d_Md_withCursor_272 : decode b_Md_withCursor 272 = .ok (.iconst 4, 1) := by decide +kernel
theorem d_Md_withCursor_273 : decode b_Md_withCursor 273 = .ok (.if_icmp .ne 88, 3) := by decide +kernel
theorem d_Md_withCursor_276 : decode b_Md_withCursor 276 = .ok (.iload 6, 2) := by decide +kernel
theorem d_Md_withCursor_278 : decode b_Md_withCursor 278 = .ok (.ifCond .lt 18, 3) := by decide +kernel
theorem d_Md_withCursor_281 : decode b_Md_withCursor 281 = .ok (.iload_n 3, 1) := by decide +kernel
theorem d_Md_withCursor_282 : decode b_Md_withCursor 282 = .ok (.aload_n 0, 1) := by decide +kernel
theorem d_Md_withCursor_283 : decode b_Md_withCursor 283 = .ok (.getfield 7, 3) := by decide +kernel
theorem d_Md_withCursor_286 : decode b_Md_withCursor 286 = .ok (.iload 5, 2) := by decide +kernel
theorem d_Md_withCursor_288 : decode b_Md_withCursor 288 = .ok (.iaload, 1) := by decide +kernel
theorem d_Md_withCursor_289 : decode b_Md_withCursor 289 = .ok (.if_icmp .ge 7, 3) := by decide +kernel
theorem d_Md_withCursor_292 : decode b_Md_withCursor 292 = .ok (.iconst 1, 1) := by decide +kernel
theorem d_Md_withCursor_293 : decode b_Md_withCursor 293 = .ok (.goto 4, 3) := by decide +kernel
theorem d_Md_withCursor_296 : decode b_Md_withCursor 296 = .ok (.iconst 0, 1) := by decide +kernel
theorem d_Md_withCursor_297 : decode b_Md_withCursor 297 = .ok (.istore 7, 2) := by decide +kernel
theorem d_Md_withCursor_299 : decode b_Md_withCursor 299 = .ok (.aload_n 0, 1) := by decide +kernel
theorem d_Md_withCursor_300 : decode b_Md_withCursor 300 = .ok (.iload 4, 2) := by decide +kernel
theorem d_Md_withCursor_302 : decode b_Md_withCursor 302 = .ok (.iload 7, 2) := by decide +kernel
theorem d_Md_withCursor_304 : decode b_Md_withCursor 304 = .ok (.ifCond .eq 30, 3) := by decide +kernel
theorem d_Md_withCursor_307 : decode b_Md_withCursor 307 = .ok (.aload_n 0, 1) := by decide +kernel
theorem d_Md_withCursor_308 : decode b_Md_withCursor 308 = .ok (.getfield 23, 3) := by decide +kernel
theorem d_Md_withCursor_311 : decode b_Md_withCursor 311 = .ok (.iload 7, 2) := by decide +kernel
theorem d_Md_withCursor_313 : decode b_Md_withCursor 313 = .ok (.ifCond .eq 12, 3) := by decide +kernel
theorem d_Md_withCursor_316 : decode b_Md_withCursor 316 = .ok (.iconst 4, 1) := by decide +kernel
theorem d_Md_withCursor_317 : decode b_Md_withCursor 317 = .ok (.iload 6, 2) := by decide +kernel
theorem d_Md_withCursor_319 : decode b_Md_withCursor 319 = .ok (.imul, 1) := by decide +kernel
theorem d_Md_withCursor_320 : decode b_Md_withCursor 320 = .ok (.iload_n 3, 1) := by decide +kernel
theorem d_Md_withCursor_321 : decode b_Md_withCursor 321 = .ok (.iadd, 1) := by decide +kernel
theorem d_Md_withCursor_322 : decode b_Md_withCursor 322 = .ok (.goto 4, 3) := by decide +kernel
theorem d_Md_withCursor_325 : decode b_Md_withCursor 325 = .ok (.iconst 0, 1) := by decide +kernel
theorem d_Md_withCursor_326 : decode b_Md_withCursor 326 = .ok (.baload, 1) := by decide +kernel
theorem d_Md_withCursor_327 : decode b_Md_withCursor 327 = .ok (.ifCond .eq 7, 3) := by decide +kernel
theorem d_Md_withCursor_330 : decode b_Md_withCursor 330 = .ok (.iconst 1, 1) := by decide +kernel
theorem d_Md_withCursor_331 : decode b_Md_withCursor 331 = .ok (.goto 4, 3) := by decide +kernel
theorem d_Md_withCursor_334 : decode b_Md_withCursor 334 = .ok (.iconst 0, 1) := by decide +kernel
theorem d_Md_withCursor_335 : decode b_Md_withCursor 335 = .ok (.iload 7, 2) := by decide +kernel
theorem d_Md_withCursor_337 : decode b_Md_withCursor 337 = .ok (.ifCond .eq 17, 3) := by decide +kernel
theorem d_Md_withCursor_340 : decode b_Md_withCursor 340 = .ok (.aload_n 0, 1) := by decide +kernel
theorem d_Md_withCursor_341 : decode b_Md_withCursor 341 = .ok (.getfield 20, 3) := by decide +kernel
theorem d_Md_withCursor_344 : decode b_Md_withCursor 344 = .ok (.iconst 4, 1) := by decide +kernel
theorem d_Md_withCursor_345 : decode b_Md_withCursor 345 = .ok (.iload 6, 2) := by decide +kernel
theorem d_Md_withCursor_347 : decode b_Md_withCursor 347 = .ok (.imul, 1) := by decide +kernel
theorem d_Md_withCursor_348 : decode b_Md_withCursor 348 = .ok (.iload_n 3, 1) := by decide +kernel
theorem d_Md_withCursor_349 : decode b_Md_withCursor 349 = .ok (.iadd, 1) := by decide +kernel
theorem d_Md_withCursor_350 : decode b_Md_withCursor 350 = .ok (.laload, 1) := by decide +kernel
theorem d_Md_withCursor_351 : decode b_Md_withCursor 351 = .ok (.goto 4, 3) := by decide +kernel
theorem d_Md_withCursor_354 : decode b_Md_withCursor 354 = .ok (.lconst 0, 1) := by decide +kernel
theorem d_Md_withCursor_355 : decode b_Md_withCursor 355 = .ok (.invokevirtual 138, 3) := by decide +kernel
theorem d_Md_withCursor_358 : decode b_Md_withCursor 358 = .ok (.goto 43, 3) := by decide +kernel
theorem d_Md_withCursor_361 : decode b_Md_withCursor 361 = .ok (.iload_n 1, 1) := by decide +kernel
theorem d_Md_withCursor_362 : decode b_Md_withCursor 362 = .ok (.iconst 5, 1) := by decide +kernel
theorem d_Md_withCursor_363 : decode b_Md_withCursor 363 = .ok (.if_icmp .ne 27, 3) := by decide +kernel
theorem d_Md_withCursor_366 : decode b_Md_withCursor 366 = .ok (.aload_n 0, 1) := by decide +kernel
theorem d_Md_withCursor_367 : decode b_Md_withCursor 367 = .ok (.iload_n 3, 1) := by decide +kernel
theorem d_Md_withCursor_368 : decode b_Md_withCursor 368 = .ok (.iload 6, 2) := by decide +kernel
theorem d_Md_withCursor_370 : decode b_Md_withCursor 370 = .ok (.ifCond .lt 7, 3) := by decide +kernel
theorem d_Md_withCursor_373 : decode b_Md_withCursor 373 = .ok (.iconst 1, 1) := by decide +kernel
theorem d_Md_withCursor_374 : decode b_Md_withCursor 374 = .ok (.goto 4, 3) := by decide +kernel
theorem d_Md_withCursor_377 : decode b_Md_withCursor 377 = .ok (.iconst 0, 1) := by decide +kernel
theorem d_Md_withCursor_378 : decode b_Md_withCursor 378 = .ok (.aload_n 0, 1) := by decide +kernel
theorem d_Md_withCursor_379 : decode b_Md_withCursor 379 = .ok (.getfield 48, 3) := by decide +kernel
theorem d_Md_withCursor_382 : decode b_Md_withCursor 382 = .ok (.iload_n 2, 1) := by decide +kernel
theorem d_Md_withCursor_383 : decode b_Md_withCursor 383 = .ok (.laload, 1) := by decide +kernel
theorem d_Md_withCursor_384 : decode b_Md_withCursor 384 = .ok (.invokevirtual 138, 3) := by decide +kernel
theorem d_Md_withCursor_387 : decode b_Md_withCursor 387 = .ok (.goto 14, 3) := by decide +kernel
theorem d_Md_withCursor_390 : decode b_Md_withCursor 390 = .ok (.iload 6, 2) := by decide +kernel
theorem d_Md_withCursor_392 : decode b_Md_withCursor 392 = .ok (.ifCond .lt 9, 3) := by decide +kernel
theorem d_Md_withCursor_395 : decode b_Md_withCursor 395 = .ok (.aload_n 0, 1) := by decide +kernel
theorem d_Md_withCursor_396 : decode b_Md_withCursor 396 = .ok (.iload 6, 2) := by decide +kernel
theorem d_Md_withCursor_398 : decode b_Md_withCursor 398 = .ok (.invokevirtual 94, 3) := by decide +kernel
theorem d_Md_withCursor_401 : decode b_Md_withCursor 401 = .ok (.iconst 0, 1) := by decide +kernel
theorem d_Md_withCursor_402 : decode b_Md_withCursor 402 = .ok (.ireturn, 1) := by decide +kernel
noncomputable def b_Md_withCursor_195 (a4 : Int32) (x2 : Int32) (x49 : Int32) (σ50 : Sg) : Option ((Int32 × Sg) ⊕ (Sg)) :=
  chk (vp_in x2 3) ((if (gi σ50 26 0 x2.toNatClampNeg) ≤ x49 then (some (.inr σ50)) else (chk (vp_in a4 16) (chk (vp_in ((a4 + 1) + x49) 16) (chk (vp_in ((a4 + 1) + x49) 16) ((f_Md_lay x2 (gj σ50 34 0 a4.toNatClampNeg) x49 (gi σ50 35 0 (((a4 + 1) + x49).toNatClampNeg)) (gj σ50 34 0 (((a4 + 1) + x49).toNatClampNeg)) σ50).bind (fun σ58 => lt_ (x49 + 1 : Int32) (fun (x60 : Int32) => some (.inl (x60, σ58))))))))))
noncomputable def l_Md_withCursor_195 (a4 : Int32) (x2 : Int32) (x49 : Int32) (σ50 : Sg) : Option (Sg) := lp (fun q => b_Md_withCursor_195 a4 x2 q.1 q.2) FU (x49, σ50)
noncomputable def f_Md_withCursor (a1 : Int32) (a2 : Int32) (a3 : Int32) (a4 : Int32) (σ : Sg) : Option (Int32 × Sg) :=
  chk (vp_in a2 3) (lt_ (gi σ 36 0 a2.toNatClampNeg : Int32) (fun (x2 : Int32) => (if a1 = 2 then (bn2 (f_Md_firstRow x2 σ) (fun r113 σ111 => (f_Md_point a2 r113 σ111).bind (fun σ114 => chk (vp_in a2 3) (lt_ ((if (gi σ114 37 0 a2.toNatClampNeg) = 0 then 1 else 0) : Int32) (fun (x117 : Int32) => chk (zb x117) (some (x117, σ114))))))) else (if a1 = 3 then (chk (vp_in a2 3) (bn2 (if (gi σ 37 0 a2.toNatClampNeg) = 0 then (some ((-1), σ)) else (chk (vp_in a2 3) (bn2 (f_Md_rowFrom x2 (gj σ 38 0 a2.toNatClampNeg) 1 σ) (fun r97 σ95 => some (r97, σ95))))) (fun (x90 : Int32) (σ91 : Sg) => Option.bind (if x90 < 0 then (some (σ91)) else ((f_Md_point a2 x90 σ91).bind (fun σ102 => some (σ102)))) (fun (σ99 : Sg) => lt_ ((if x90 < 0 then 0 else 1) : Int32) (fun (x105 : Int32) => chk (zb x105) (some (x105, σ99))))))) else (if a1 = 8 then (chk (vp_in a4 16) (bn2 (if (gi σ 35 0 a4.toNatClampNeg) = 0 then (some ((-1), σ)) else (chk (vp_in a4 16) (bn2 (f_Md_rowFrom x2 (gj σ 34 0 a4.toNatClampNeg) 0 σ) (fun r78 σ76 => some (r78, σ76))))) (fun (x71 : Int32) (σ72 : Sg) => (f_Md_point a2 x71 σ72).bind (fun σ80 => chk (vp_in a2 3) (lt_ ((if (gi σ80 37 0 a2.toNatClampNeg) = 0 then 1 else 0) : Int32) (fun (x83 : Int32) => chk (zb x83) (some (x83, σ80)))))))) else (if a1 = 20 then (chk (vp_in a4 16) ((if (gi σ 35 0 a4.toNatClampNeg) = 0 then (some (1, σ)) else (if (gi σ 9 0 3) = 90 then (some (1, σ)) else (chk (vp_in a4 16) (bn2 (f_Md_rowOf x2 (gj σ 34 0 a4.toNatClampNeg) σ) (fun r48 σ46 => (if r48 < 0 then ((l_Md_withCursor_195 a4 x2 0 σ46).bind (fun σ62 => lt_ (si σ62 9 0 3 ((gi σ62 9 0 3) + 1)) (fun σ65 => some (0, σ65)))) else (some (1, σ46)))))))))) else (bn2 (f_Md_rowAt a2 σ) (fun r5 σ3 => Option.bind (if a1 = 4 then (Option.bind (if r5 < 0 then (some (0)) else (chk (vp_in x2 3) ((if (gi σ3 26 0 x2.toNatClampNeg) ≤ a3 then (some (0)) else (some (1)))))) (fun (x20 : Int32) => Option.bind (if x20 = 0 then (some (0)) else (lt_ ((if x20 = 0 then 0 else ((4 * r5) + a3)) : Int32) (fun (x29 : Int32) => chk (vp_in x29 360) ((if (gi σ3 30 0 x29.toNatClampNeg) = 0 then (some (0)) else (some (1))))))) (fun (x26 : Int32) => Option.bind (if x20 = 0 then (some (0)) else (chk (vp_in ((4 * r5) + a3) 360) (some (gj σ3 29 0 (((4 * r5) + a3).toNatClampNeg))))) (fun (x36 : Int64) => (f_Md_keep a4 x26 x36 σ3).bind (fun σ41 => some (σ41)))))) else (if a1 = 5 then (lt_ ((if r5 < 0 then 0 else 1) : Int32) (fun (x12 : Int32) => chk (vp_in a2 3) ((f_Md_keep a3 x12 (gj σ3 38 0 a2.toNatClampNeg) σ3).bind (fun σ17 => some (σ17))))) else (if r5 < 0 then (some (σ3)) else ((f_Md_take r5 σ3).bind (fun σ9 => some (σ9)))))) (fun (σ6 : Sg) => some (0, σ6))))))))))
abbrev rm_Md_withCursor : Room := { frames := 2, cells := 0, slots := 0, locals := 46 }
set_option maxHeartbeats 4000000 in
set_option maxRecDepth 100000 in
theorem c_Md_withCursor (l : Launch) (X : GX) (n : Nat) {σ σ' : Sg} {r : Int32} {a1 : Int32} {a2 : Int32} {a3 : Int32} {a4 : Int32}  (hf : f_Md_withCursor a1 a2 a3 a4 σ = some (r, σ')) : Met l y_Md_withCursor (cw y_Md_withCursor b_Md_withCursor 8 (some .boolean)) rm_Md_withCursor (PcG X n σ [.ref (xL X 9 0), .int a1, .int a2, .int a3, .int a4]) (QcG X n σ' (some (.int r))) 0 0 (fr X n) := by
  refine g_head (own := "TableMachineModel") (by decide) rfl (Nat.le_of_ble_eq_true rfl) ?_
  intro p e s m args below meth c ls F hr hlk hP hl
  have hl : lv_has ls 8 [(0, .ref (xL X 9 0)), (1, .int a1), (2, .int a2), (3, .int a3), (4, .int a4)] := hl
  show WG l X n rm_Md_withCursor σ' (some (.int r)) p e s m args below meth c s.heap [] (F0 m 0 ls [])
  unfold f_Md_withCursor at hf
  refine lv_aload_n F.1 F.2.1 d_Md_withCursor_0 rfl (lv_at hl 0 rfl) ?_
  refine g_get F hP 9 14 0 (by decide) Nat.zero_lt_one (by decide) (v := .ref (xL X 36 0)) rfl w_887 d_Md_withCursor_1 ?_
  refine lv_iload_n F.1 F.2.1 d_Md_withCursor_4 rfl (lv_at hl 2 rfl) ?_
  obtain ⟨hc1, hf⟩ := chk_some hf
  refine g_ald F hP 36 (by decide) (by decide) Nat.zero_lt_one rfl rfl hc1 d_Md_withCursor_5 ?_
  obtain ⟨x2, e_x2, hf⟩ := lt_some hf
  rw [← e_x2]
  refine lv_istore F.1 F.2.1 d_Md_withCursor_6 hl (by decide) rfl (fun ls hl => ?_)
  have hl : lv_has ls 8 [(5, .int x2), (0, .ref (xL X 9 0)), (1, .int a1), (2, .int a2), (3, .int a3), (4, .int a4)] := hl
  refine lv_iload_n F.1 F.2.1 d_Md_withCursor_8 rfl (lv_at hl 2 rfl) ?_
  refine lv_iconst (v := 2) F.1 F.2.1 d_Md_withCursor_9 (by decide) ?_
  refine lv_icmp_ne F.1 F.2.1 d_Md_withCursor_10 rfl (fun hb122 => ?_) (fun hb122 => ?_)
  · rw [if_neg hb122] at hf
    refine lv_iload_n F.1 F.2.1 d_Md_withCursor_39 rfl (lv_at hl 2 rfl) ?_
    refine lv_iconst (v := 3) F.1 F.2.1 d_Md_withCursor_40 (by decide) ?_
    refine lv_icmp_ne F.1 F.2.1 d_Md_withCursor_41 rfl (fun hb110 => ?_) (fun hb110 => ?_)
    · rw [if_neg hb110] at hf
      refine lv_iload_n F.1 F.2.1 d_Md_withCursor_95 rfl (lv_at hl 2 rfl) ?_
      refine lv_bipush (v := 8) F.1 F.2.1 d_Md_withCursor_96 (by decide) ?_
      refine lv_icmp_ne F.1 F.2.1 d_Md_withCursor_98 rfl (fun hb88 => ?_) (fun hb88 => ?_)
      · rw [if_neg hb88] at hf
        refine lv_iload_n F.1 F.2.1 d_Md_withCursor_149 rfl (lv_at hl 2 rfl) ?_
        refine lv_bipush (v := 20) F.1 F.2.1 d_Md_withCursor_150 (by decide) ?_
        refine lv_icmp_ne F.1 F.2.1 d_Md_withCursor_152 rfl (fun hb69 => ?_) (fun hb69 => ?_)
        · rw [if_neg hb69] at hf
          refine lv_aload_n F.1 F.2.1 d_Md_withCursor_264 rfl (lv_at hl 1 rfl) ?_
          refine lv_iload_n F.1 F.2.1 d_Md_withCursor_265 rfl (lv_at hl 3 rfl) ?_
          obtain ⟨r5, σ3, hk4, hf⟩ := bn2_some hf
          refine g_callV (As := [.int a2]) (rest := []) F hP 9 0 (by decide) Nat.zero_lt_one (c_Md_rowAt l X n  hk4) rfl q_Md_rowAt w_1094 w_11 w_1091 w_1093 wp_48 ⟨rfl, rfl⟩ ⟨by decide, by decide⟩ hl.1 (Nat.le_of_ble_eq_true rfl) ⟨Nat.zero_le _, Nat.zero_le _⟩ d_Md_withCursor_266 rfl (fun H locs hP => ?_)
          refine W.eq (g2 := F0 m 269 ls [.int r5]) rfl ?_
          refine lv_istore F.1 F.2.1 d_Md_withCursor_269 hl (by decide) rfl (fun ls hl => ?_)
          have hl : lv_has ls 8 [(6, .int r5), (5, .int x2), (0, .ref (xL X 9 0)), (1, .int a1), (2, .int a2), (3, .int a3), (4, .int a4)] := hl
          refine lv_iload_n F.1 F.2.1 d_Md_withCursor_271 rfl (lv_at hl 3 rfl) ?_
          refine lv_iconst (v := 4) F.1 F.2.1 d_Md_withCursor_272 (by decide) ?_
          obtain ⟨σ6, hj8, hf⟩ := bnd_some hf
          have KJ7 : ∀ (ls : Array Slot) (H : Heap) (locs : List Loc), lv_has ls 8 [] → St X n σ6 s.heap H locs → WG l X n rm_Md_withCursor σ' (some (.int r)) p e s m args below meth c H locs (F0 m 401 ls []) := by
            intro ls H locs hl hP
            refine lv_iconst (v := 0) F.1 F.2.1 d_Md_withCursor_401 (by decide) ?_
            cases hf
            exact g_zret F hP hr hlk zb0 d_Md_withCursor_402
          refine lv_icmp_ne F.1 F.2.1 d_Md_withCursor_273 rfl (fun hb43 => ?_) (fun hb43 => ?_)
          · rw [if_neg hb43] at hj8
            refine lv_iload_n F.1 F.2.1 d_Md_withCursor_361 rfl (lv_at hl 3 rfl) ?_
            refine lv_iconst (v := 5) F.1 F.2.1 d_Md_withCursor_362 (by decide) ?_
            refine lv_icmp_ne F.1 F.2.1 d_Md_withCursor_363 rfl (fun hb19 => ?_) (fun hb19 => ?_)
            · rw [if_neg hb19] at hj8
              refine lv_iload F.1 F.2.1 d_Md_withCursor_390 (lv_at hl 0 rfl) ?_
              refine lv_if_lt F.1 F.2.1 d_Md_withCursor_392 rfl (fun hb11 => ?_) (fun hb11 => ?_)
              · rw [if_pos hb11] at hj8
                cases hj8
                exact KJ7 _ _ _ (lv_sub hl [] rfl) hP
              · rw [if_neg hb11] at hj8
                refine lv_aload_n F.1 F.2.1 d_Md_withCursor_395 rfl (lv_at hl 2 rfl) ?_
                refine lv_iload F.1 F.2.1 d_Md_withCursor_396 (lv_at hl 0 rfl) ?_
                obtain ⟨σ9, hk10, hj8⟩ := bnd_some hj8
                refine g_callV (As := [.int r5]) (rest := []) F hP 9 0 (by decide) Nat.zero_lt_one (c_Md_take l X n  hk10) rfl q_Md_take w_1007 w_11 w_1004 w_1006 wp_38 ⟨rfl, rfl⟩ ⟨by decide, by decide⟩ hl.1 (Nat.le_of_ble_eq_true rfl) ⟨Nat.zero_le _, Nat.zero_le _⟩ d_Md_withCursor_398 rfl (fun H locs hP => ?_)
                refine W.eq (g2 := F0 m 401 ls []) rfl ?_
                cases hj8
                exact KJ7 _ _ _ (lv_sub hl [] rfl) hP
            · rw [if_pos hb19] at hj8
              refine lv_aload_n F.1 F.2.1 d_Md_withCursor_366 rfl (lv_at hl 2 rfl) ?_
              refine lv_iload_n F.1 F.2.1 d_Md_withCursor_367 rfl (lv_at hl 5 rfl) ?_
              refine lv_iload F.1 F.2.1 d_Md_withCursor_368 (lv_at hl 0 rfl) ?_
              obtain ⟨x12, hj14, hj8⟩ := lt_some2 hj8
              have KJ13 : ∀ (ls : Array Slot) (H : Heap) (locs : List Loc), lv_has ls 8 [(0, .ref (xL X 9 0)), (2, .int a2)] → St X n σ3 s.heap H locs → WG l X n rm_Md_withCursor σ' (some (.int r)) p e s m args below meth c H locs (F0 m 378 ls [.int x12, .int a3, .ref (xL X 9 0)]) := by
                intro ls H locs hl hP
                refine lv_aload_n F.1 F.2.1 d_Md_withCursor_378 rfl (lv_at hl 0 rfl) ?_
                refine g_get F hP 9 16 0 (by decide) Nat.zero_lt_one (by decide) (v := .ref (xL X 38 0)) rfl w_889 d_Md_withCursor_379 ?_
                refine lv_iload_n F.1 F.2.1 d_Md_withCursor_382 rfl (lv_at hl 1 rfl) ?_
                obtain ⟨hc16, hj8⟩ := chk_some hj8
                refine g_lld F hP 38 (by decide) (by decide) Nat.zero_lt_one rfl rfl hc16 d_Md_withCursor_383 ?_
                obtain ⟨σ17, hk18, hj8⟩ := bnd_some hj8
                refine g_callV (As := [.int a3, .int x12, .long (gj σ3 38 0 a2.toNatClampNeg)]) (rest := []) F hP 9 0 (by decide) Nat.zero_lt_one (c_Md_keep l X n  hk18) rfl q_Md_keep w_1071 w_11 w_1068 w_1070 wp_43 ⟨rfl, rfl⟩ ⟨by decide, by decide⟩ hl.1 (Nat.le_of_ble_eq_true rfl) ⟨Nat.zero_le _, Nat.zero_le _⟩ d_Md_withCursor_384 rfl (fun H locs hP => ?_)
                refine W.eq (g2 := F0 m 387 ls []) rfl ?_
                refine lv_goto F.1 F.2.1 d_Md_withCursor_387 rfl ?_
                cases hj8
                exact KJ7 _ _ _ (lv_sub hl [] rfl) hP
              refine lv_if_lt F.1 F.2.1 d_Md_withCursor_370 rfl (fun hb15 => ?_) (fun hb15 => ?_)
              · rw [if_pos hb15] at hj14
                refine lv_iconst (v := 0) F.1 F.2.1 d_Md_withCursor_377 (by decide) ?_
                subst hj14
                exact KJ13 _ _ _ (lv_sub hl [2, 4] rfl) hP
              · rw [if_neg hb15] at hj14
                refine lv_iconst (v := 1) F.1 F.2.1 d_Md_withCursor_373 (by decide) ?_
                refine lv_goto F.1 F.2.1 d_Md_withCursor_374 rfl ?_
                subst hj14
                exact KJ13 _ _ _ (lv_sub hl [2, 4] rfl) hP
          · rw [if_pos hb43] at hj8
            refine lv_iload F.1 F.2.1 d_Md_withCursor_276 (lv_at hl 0 rfl) ?_
            obtain ⟨x20, hj22, hj8⟩ := bnd_some hj8
            have KJ21 : ∀ (ls : Array Slot) (H : Heap) (locs : List Loc), lv_has ls 8 [(0, .ref (xL X 9 0)), (3, .int a3), (4, .int a4), (6, .int r5)] → St X n σ3 s.heap H locs → WG l X n rm_Md_withCursor σ' (some (.int r)) p e s m args below meth c H locs (F0 m 297 ls [.int x20]) := by
              intro ls H locs hl hP
              refine lv_istore F.1 F.2.1 d_Md_withCursor_297 hl (by decide) rfl (fun ls hl => ?_)
              have hl : lv_has ls 8 [(7, .int x20), (0, .ref (xL X 9 0)), (3, .int a3), (4, .int a4), (6, .int r5)] := hl
              refine lv_aload_n F.1 F.2.1 d_Md_withCursor_299 rfl (lv_at hl 1 rfl) ?_
              refine lv_iload F.1 F.2.1 d_Md_withCursor_300 (lv_at hl 3 rfl) ?_
              refine lv_iload F.1 F.2.1 d_Md_withCursor_302 (lv_at hl 0 rfl) ?_
              obtain ⟨x26, hj28, hj8⟩ := bnd_some hj8
              have KJ27 : ∀ (ls : Array Slot) (H : Heap) (locs : List Loc), lv_has ls 8 [(0, .ref (xL X 9 0)), (3, .int a3), (6, .int r5), (7, .int x20)] → St X n σ3 s.heap H locs → WG l X n rm_Md_withCursor σ' (some (.int r)) p e s m args below meth c H locs (F0 m 335 ls [.int x26, .int a4, .ref (xL X 9 0)]) := by
                intro ls H locs hl hP
                refine lv_iload F.1 F.2.1 d_Md_withCursor_335 (lv_at hl 3 rfl) ?_
                obtain ⟨x36, hj38, hj8⟩ := bnd_some hj8
                have KJ37 : ∀ (ls : Array Slot) (H : Heap) (locs : List Loc), lv_has ls 8 [] → St X n σ3 s.heap H locs → WG l X n rm_Md_withCursor σ' (some (.int r)) p e s m args below meth c H locs (F0 m 355 ls [.long x36, .int x26, .int a4, .ref (xL X 9 0)]) := by
                  intro ls H locs hl hP
                  obtain ⟨σ41, hk42, hj8⟩ := bnd_some hj8
                  refine g_callV (As := [.int a4, .int x26, .long x36]) (rest := []) F hP 9 0 (by decide) Nat.zero_lt_one (c_Md_keep l X n  hk42) rfl q_Md_keep w_1071 w_11 w_1068 w_1070 wp_43 ⟨rfl, rfl⟩ ⟨by decide, by decide⟩ hl.1 (Nat.le_of_ble_eq_true rfl) ⟨Nat.zero_le _, Nat.zero_le _⟩ d_Md_withCursor_355 rfl (fun H locs hP => ?_)
                  refine W.eq (g2 := F0 m 358 ls []) rfl ?_
                  refine lv_goto F.1 F.2.1 d_Md_withCursor_358 rfl ?_
                  cases hj8
                  exact KJ7 _ _ _ (lv_sub hl [] rfl) hP
                refine lv_if_eq F.1 F.2.1 d_Md_withCursor_337 rfl (fun hb40 => ?_) (fun hb40 => ?_)
                · rw [if_pos hb40] at hj38
                  refine lv_lconst (v := 0) F.1 F.2.1 d_Md_withCursor_354 (by decide) ?_
                  cases hj38
                  exact KJ37 _ _ _ (lv_sub hl [] rfl) hP
                · rw [if_neg hb40] at hj38
                  refine lv_aload_n F.1 F.2.1 d_Md_withCursor_340 rfl (lv_at hl 0 rfl) ?_
                  refine g_get F hP 9 6 0 (by decide) Nat.zero_lt_one (by decide) (v := .ref (xL X 29 0)) rfl w_879 d_Md_withCursor_341 ?_
                  refine lv_iconst (v := 4) F.1 F.2.1 d_Md_withCursor_344 (by decide) ?_
                  refine lv_iload F.1 F.2.1 d_Md_withCursor_345 (lv_at hl 2 rfl) ?_
                  refine lv_imul F.1 F.2.1 d_Md_withCursor_347 ?_
                  refine lv_iload_n F.1 F.2.1 d_Md_withCursor_348 rfl (lv_at hl 1 rfl) ?_
                  refine lv_iadd F.1 F.2.1 d_Md_withCursor_349 ?_
                  obtain ⟨hc39, hj38⟩ := chk_some hj38
                  refine g_lld F hP 29 (by decide) (by decide) Nat.zero_lt_one rfl rfl hc39 d_Md_withCursor_350 ?_
                  refine lv_goto F.1 F.2.1 d_Md_withCursor_351 rfl ?_
                  cases hj38
                  exact KJ37 _ _ _ (lv_sub hl [] rfl) hP
              refine lv_if_eq F.1 F.2.1 d_Md_withCursor_304 rfl (fun hb35 => ?_) (fun hb35 => ?_)
              · rw [if_pos hb35] at hj28
                refine lv_iconst (v := 0) F.1 F.2.1 d_Md_withCursor_334 (by decide) ?_
                cases hj28
                exact KJ27 _ _ _ (lv_sub hl [1, 2, 4, 0] rfl) hP
              · rw [if_neg hb35] at hj28
                refine lv_aload_n F.1 F.2.1 d_Md_withCursor_307 rfl (lv_at hl 1 rfl) ?_
                refine g_get F hP 9 7 0 (by decide) Nat.zero_lt_one (by decide) (v := .ref (xL X 30 0)) rfl w_880 d_Md_withCursor_308 ?_
                refine lv_iload F.1 F.2.1 d_Md_withCursor_311 (lv_at hl 0 rfl) ?_
                obtain ⟨x29, hj31, hj28⟩ := lt_some2 hj28
                have KJ30 : ∀ (ls : Array Slot) (H : Heap) (locs : List Loc), lv_has ls 8 [(0, .ref (xL X 9 0)), (3, .int a3), (6, .int r5), (7, .int x20)] → St X n σ3 s.heap H locs → WG l X n rm_Md_withCursor σ' (some (.int r)) p e s m args below meth c H locs (F0 m 326 ls [.int x29, .ref (xL X 30 0), .int a4, .ref (xL X 9 0)]) := by
                  intro ls H locs hl hP
                  obtain ⟨hc33, hj28⟩ := chk_some hj28
                  refine g_zld F hP 30 (by decide) (by decide) Nat.zero_lt_one rfl rfl hc33 d_Md_withCursor_326 ?_
                  refine lv_if_eq F.1 F.2.1 d_Md_withCursor_327 rfl (fun hb34 => ?_) (fun hb34 => ?_)
                  · rw [if_pos hb34] at hj28
                    refine lv_iconst (v := 0) F.1 F.2.1 d_Md_withCursor_334 (by decide) ?_
                    cases hj28
                    exact KJ27 _ _ _ (lv_sub hl [0, 1, 2, 3] rfl) hP
                  · rw [if_neg hb34] at hj28
                    refine lv_iconst (v := 1) F.1 F.2.1 d_Md_withCursor_330 (by decide) ?_
                    refine lv_goto F.1 F.2.1 d_Md_withCursor_331 rfl ?_
                    cases hj28
                    exact KJ27 _ _ _ (lv_sub hl [0, 1, 2, 3] rfl) hP
                refine lv_if_eq F.1 F.2.1 d_Md_withCursor_313 rfl (fun hb32 => ?_) (fun hb32 => ?_)
                · rw [if_pos hb32] at hj31
                  refine lv_iconst (v := 0) F.1 F.2.1 d_Md_withCursor_325 (by decide) ?_
                  subst hj31
                  exact KJ30 _ _ _ (lv_sub hl [1, 2, 4, 0] rfl) hP
                · rw [if_neg hb32] at hj31
                  refine lv_iconst (v := 4) F.1 F.2.1 d_Md_withCursor_316 (by decide) ?_
                  refine lv_iload F.1 F.2.1 d_Md_withCursor_317 (lv_at hl 4 rfl) ?_
                  refine lv_imul F.1 F.2.1 d_Md_withCursor_319 ?_
                  refine lv_iload_n F.1 F.2.1 d_Md_withCursor_320 rfl (lv_at hl 2 rfl) ?_
                  refine lv_iadd F.1 F.2.1 d_Md_withCursor_321 ?_
                  refine lv_goto F.1 F.2.1 d_Md_withCursor_322 rfl ?_
                  subst hj31
                  exact KJ30 _ _ _ (lv_sub hl [1, 2, 4, 0] rfl) hP
            refine lv_if_lt F.1 F.2.1 d_Md_withCursor_278 rfl (fun hb25 => ?_) (fun hb25 => ?_)
            · rw [if_pos hb25] at hj22
              refine lv_iconst (v := 0) F.1 F.2.1 d_Md_withCursor_296 (by decide) ?_
              cases hj22
              exact KJ21 _ _ _ (lv_sub hl [2, 5, 6, 0] rfl) hP
            · rw [if_neg hb25] at hj22
              refine lv_iload_n F.1 F.2.1 d_Md_withCursor_281 rfl (lv_at hl 5 rfl) ?_
              refine lv_aload_n F.1 F.2.1 d_Md_withCursor_282 rfl (lv_at hl 2 rfl) ?_
              refine g_get F hP 9 2 0 (by decide) Nat.zero_lt_one (by decide) (v := .ref (xL X 26 0)) rfl w_875 d_Md_withCursor_283 ?_
              refine lv_iload F.1 F.2.1 d_Md_withCursor_286 (lv_at hl 1 rfl) ?_
              obtain ⟨hc23, hj22⟩ := chk_some hj22
              refine g_ald F hP 26 (by decide) (by decide) Nat.zero_lt_one rfl rfl hc23 d_Md_withCursor_288 ?_
              refine lv_icmp_ge F.1 F.2.1 d_Md_withCursor_289 rfl (fun hb24 => ?_) (fun hb24 => ?_)
              · rw [if_pos hb24] at hj22
                refine lv_iconst (v := 0) F.1 F.2.1 d_Md_withCursor_296 (by decide) ?_
                cases hj22
                exact KJ21 _ _ _ (lv_sub hl [2, 5, 6, 0] rfl) hP
              · rw [if_neg hb24] at hj22
                refine lv_iconst (v := 1) F.1 F.2.1 d_Md_withCursor_292 (by decide) ?_
                refine lv_goto F.1 F.2.1 d_Md_withCursor_293 rfl ?_
                cases hj22
                exact KJ21 _ _ _ (lv_sub hl [2, 5, 6, 0] rfl) hP
        · rw [if_pos hb69] at hf
          refine lv_aload_n F.1 F.2.1 d_Md_withCursor_155 rfl (lv_at hl 1 rfl) ?_
          refine g_get F hP 9 13 0 (by decide) Nat.zero_lt_one (by decide) (v := .ref (xL X 35 0)) rfl w_886 d_Md_withCursor_156 ?_
          refine lv_iload F.1 F.2.1 d_Md_withCursor_159 (lv_at hl 5 rfl) ?_
          obtain ⟨hc44, hf⟩ := chk_some hf
          refine g_zld F hP 35 (by decide) (by decide) Nat.zero_lt_one rfl rfl hc44 d_Md_withCursor_161 ?_
          refine lv_if_eq F.1 F.2.1 d_Md_withCursor_162 rfl (fun hb68 => ?_) (fun hb68 => ?_)
          · rw [if_pos hb68] at hf
            refine lv_iconst (v := 1) F.1 F.2.1 d_Md_withCursor_190 (by decide) ?_
            cases hf
            exact g_zret F hP hr hlk zb1 d_Md_withCursor_191
          · rw [if_neg hb68] at hf
            refine lv_aload_n F.1 F.2.1 d_Md_withCursor_165 rfl (lv_at hl 1 rfl) ?_
            refine g_get F hP 9 3 0 (by decide) Nat.zero_lt_one (by decide) (v := .int (gi σ 9 0 3)) rfl w_876 d_Md_withCursor_166 ?_
            refine lv_bipush (v := 90) F.1 F.2.1 d_Md_withCursor_169 (by decide) ?_
            refine lv_icmp_eq F.1 F.2.1 d_Md_withCursor_171 rfl (fun hb67 => ?_) (fun hb67 => ?_)
            · rw [if_pos hb67] at hf
              refine lv_iconst (v := 1) F.1 F.2.1 d_Md_withCursor_190 (by decide) ?_
              cases hf
              exact g_zret F hP hr hlk zb1 d_Md_withCursor_191
            · rw [if_neg hb67] at hf
              refine lv_aload_n F.1 F.2.1 d_Md_withCursor_174 rfl (lv_at hl 1 rfl) ?_
              refine lv_iload F.1 F.2.1 d_Md_withCursor_175 (lv_at hl 0 rfl) ?_
              refine lv_aload_n F.1 F.2.1 d_Md_withCursor_177 rfl (lv_at hl 1 rfl) ?_
              refine g_get F hP 9 12 0 (by decide) Nat.zero_lt_one (by decide) (v := .ref (xL X 34 0)) rfl w_885 d_Md_withCursor_178 ?_
              refine lv_iload F.1 F.2.1 d_Md_withCursor_181 (lv_at hl 5 rfl) ?_
              obtain ⟨hc45, hf⟩ := chk_some hf
              refine g_lld F hP 34 (by decide) (by decide) Nat.zero_lt_one rfl rfl hc45 d_Md_withCursor_183 ?_
              obtain ⟨r48, σ46, hk47, hf⟩ := bn2_some hf
              refine g_callV (As := [.int x2, .long (gj σ 34 0 a4.toNatClampNeg)]) (rest := []) F hP 9 0 (by decide) Nat.zero_lt_one (c_Md_rowOf l X n  hk47) rfl q_Md_rowOf w_995 w_11 w_992 w_994 wp_36 ⟨rfl, rfl⟩ ⟨by decide, by decide⟩ hl.1 (Nat.le_of_ble_eq_true rfl) ⟨Nat.zero_le _, Nat.zero_le _⟩ d_Md_withCursor_184 rfl (fun H locs hP => ?_)
              refine W.eq (g2 := F0 m 187 ls [.int r48]) rfl ?_
              refine lv_if_lt F.1 F.2.1 d_Md_withCursor_187 rfl (fun hb66 => ?_) (fun hb66 => ?_)
              · rw [if_pos hb66] at hf
                refine lv_iconst (v := 0) F.1 F.2.1 d_Md_withCursor_192 (by decide) ?_
                refine lv_istore F.1 F.2.1 d_Md_withCursor_193 hl (by decide) rfl (fun ls hl => ?_)
                have hl : lv_has ls 8 [(6, .int 0), (5, .int x2), (0, .ref (xL X 9 0)), (1, .int a1), (2, .int a2), (3, .int a3), (4, .int a4)] := hl
                obtain ⟨σ62, hlp63, hf⟩ := bnd_some hf
                have KX64 : ∀ (ls : Array Slot) (H : Heap) (locs : List Loc), lv_has ls 8 [(0, .ref (xL X 9 0))] → St X n σ62 s.heap H locs → WG l X n rm_Md_withCursor σ' (some (.int r)) p e s m args below meth c H locs (F0 m 252 ls []) := by
                  intro ls H locs hl hP
                  refine lv_aload_n F.1 F.2.1 d_Md_withCursor_252 rfl (lv_at hl 0 rfl) ?_
                  refine lv_dup F.1 F.2.1 d_Md_withCursor_253 rfl ?_
                  refine g_get F hP 9 3 0 (by decide) Nat.zero_lt_one (by decide) (v := .int (gi σ62 9 0 3)) rfl w_876 d_Md_withCursor_254 ?_
                  refine lv_iconst (v := 1) F.1 F.2.1 d_Md_withCursor_257 (by decide) ?_
                  refine lv_iadd F.1 F.2.1 d_Md_withCursor_258 ?_
                  obtain ⟨σ65, e_σ65, hf⟩ := lt_some hf
                  refine g_puti F hP 9 3 0 (by decide) Nat.zero_lt_one (by decide) rfl rfl rfl rfl (Or.inl w_876) d_Md_withCursor_259 e_σ65 (fun H locs hP => ?_)
                  refine lv_iconst (v := 0) F.1 F.2.1 d_Md_withCursor_262 (by decide) ?_
                  cases hf
                  exact g_zret F hP hr hlk zb0 d_Md_withCursor_263
                unfold l_Md_withCursor_195 at hlp63
                refine lp_W (PW := fun q => ∀ (ls : Array Slot) (H : Heap) (locs : List Loc), lv_has ls 8 [(0, .ref (xL X 9 0)), (4, .int a4), (5, .int x2), (6, .int q.1)] → St X n q.2 s.heap H locs → WG l X n rm_Md_withCursor σ' (some (.int r)) p e s m args below meth c H locs (F0 m 195 ls [])) (PE := fun q => ∀ (ls : Array Slot) (H : Heap) (locs : List Loc), lv_has ls 8 [(0, .ref (xL X 9 0))] → St X n q s.heap H locs → WG l X n rm_Md_withCursor σ' (some (.int r)) p e s m args below meth c H locs (F0 m 252 ls [])) ?_ _ _ _ hlp63 KX64 _ _ _ (lv_sub hl [2, 6, 1, 0] rfl) hP
                rintro ⟨x49, σ50⟩ rr51 hb_195 hI52 hE53 ls H locs hl hP
                replace hb_195 : b_Md_withCursor_195 a4 x2 x49 σ50 = some rr51 := hb_195
                unfold b_Md_withCursor_195 at hb_195
                refine lv_iload F.1 F.2.1 d_Md_withCursor_195 (lv_at hl 3 rfl) ?_
                refine lv_aload_n F.1 F.2.1 d_Md_withCursor_197 rfl (lv_at hl 0 rfl) ?_
                refine g_get F hP 9 2 0 (by decide) Nat.zero_lt_one (by decide) (v := .ref (xL X 26 0)) rfl w_875 d_Md_withCursor_198 ?_
                refine lv_iload F.1 F.2.1 d_Md_withCursor_201 (lv_at hl 2 rfl) ?_
                obtain ⟨hc54, hb_195⟩ := chk_some hb_195
                refine g_ald F hP 26 (by decide) (by decide) Nat.zero_lt_one rfl rfl hc54 d_Md_withCursor_203 ?_
                refine lv_icmp_ge F.1 F.2.1 d_Md_withCursor_204 rfl (fun hb61 => ?_) (fun hb61 => ?_)
                · rw [if_pos hb61] at hb_195
                  cases hb_195
                  exact hE53 _ rfl _ _ _ (lv_sub hl [0] rfl) hP
                · rw [if_neg hb61] at hb_195
                  refine lv_aload_n F.1 F.2.1 d_Md_withCursor_207 rfl (lv_at hl 0 rfl) ?_
                  refine lv_iload F.1 F.2.1 d_Md_withCursor_208 (lv_at hl 2 rfl) ?_
                  refine lv_aload_n F.1 F.2.1 d_Md_withCursor_210 rfl (lv_at hl 0 rfl) ?_
                  refine g_get F hP 9 12 0 (by decide) Nat.zero_lt_one (by decide) (v := .ref (xL X 34 0)) rfl w_885 d_Md_withCursor_211 ?_
                  refine lv_iload F.1 F.2.1 d_Md_withCursor_214 (lv_at hl 1 rfl) ?_
                  obtain ⟨hc55, hb_195⟩ := chk_some hb_195
                  refine g_lld F hP 34 (by decide) (by decide) Nat.zero_lt_one rfl rfl hc55 d_Md_withCursor_216 ?_
                  refine lv_iload F.1 F.2.1 d_Md_withCursor_217 (lv_at hl 3 rfl) ?_
                  refine lv_aload_n F.1 F.2.1 d_Md_withCursor_219 rfl (lv_at hl 0 rfl) ?_
                  refine g_get F hP 9 13 0 (by decide) Nat.zero_lt_one (by decide) (v := .ref (xL X 35 0)) rfl w_886 d_Md_withCursor_220 ?_
                  refine lv_iload F.1 F.2.1 d_Md_withCursor_223 (lv_at hl 1 rfl) ?_
                  refine lv_iconst (v := 1) F.1 F.2.1 d_Md_withCursor_225 (by decide) ?_
                  refine lv_iadd F.1 F.2.1 d_Md_withCursor_226 ?_
                  refine lv_iload F.1 F.2.1 d_Md_withCursor_227 (lv_at hl 3 rfl) ?_
                  refine lv_iadd F.1 F.2.1 d_Md_withCursor_229 ?_
                  obtain ⟨hc56, hb_195⟩ := chk_some hb_195
                  refine g_zld F hP 35 (by decide) (by decide) Nat.zero_lt_one rfl rfl hc56 d_Md_withCursor_230 ?_
                  refine lv_aload_n F.1 F.2.1 d_Md_withCursor_231 rfl (lv_at hl 0 rfl) ?_
                  refine g_get F hP 9 12 0 (by decide) Nat.zero_lt_one (by decide) (v := .ref (xL X 34 0)) rfl w_885 d_Md_withCursor_232 ?_
                  refine lv_iload F.1 F.2.1 d_Md_withCursor_235 (lv_at hl 1 rfl) ?_
                  refine lv_iconst (v := 1) F.1 F.2.1 d_Md_withCursor_237 (by decide) ?_
                  refine lv_iadd F.1 F.2.1 d_Md_withCursor_238 ?_
                  refine lv_iload F.1 F.2.1 d_Md_withCursor_239 (lv_at hl 3 rfl) ?_
                  refine lv_iadd F.1 F.2.1 d_Md_withCursor_241 ?_
                  obtain ⟨hc57, hb_195⟩ := chk_some hb_195
                  refine g_lld F hP 34 (by decide) (by decide) Nat.zero_lt_one rfl rfl hc57 d_Md_withCursor_242 ?_
                  obtain ⟨σ58, hk59, hb_195⟩ := bnd_some hb_195
                  refine g_callV (As := [.int x2, .long (gj σ50 34 0 a4.toNatClampNeg), .int x49, .int (gi σ50 35 0 (((a4 + 1) + x49).toNatClampNeg)), .long (gj σ50 34 0 (((a4 + 1) + x49).toNatClampNeg))]) (rest := []) F hP 9 0 (by decide) Nat.zero_lt_one (c_Md_lay l X n  hk59) rfl q_Md_lay w_999 w_11 w_996 w_998 wp_37 ⟨rfl, rfl⟩ ⟨by decide, by decide⟩ hl.1 (Nat.le_of_ble_eq_true rfl) ⟨Nat.zero_le _, Nat.zero_le _⟩ d_Md_withCursor_243 rfl (fun H locs hP => ?_)
                  refine W.eq (g2 := F0 m 246 ls []) rfl ?_
                  obtain ⟨x60, e_x60, hb_195⟩ := lt_some hb_195
                  refine lv_iinc (k := 3) (v := x60) F.1 F.2.1 d_Md_withCursor_246 hl rfl (by rw [e_x60]; rfl) (by decide) rfl (fun ls hl => ?_)
                  have hl : lv_has ls 8 [(6, .int x60), (0, .ref (xL X 9 0)), (4, .int a4), (5, .int x2)] := hl
                  refine lv_goto F.1 F.2.1 d_Md_withCursor_249 rfl ?_
                  cases hb_195
                  exact hI52 _ rfl _ _ _ (lv_sub hl [1, 2, 3, 0] rfl) hP
              · rw [if_neg hb66] at hf
                refine lv_iconst (v := 1) F.1 F.2.1 d_Md_withCursor_190 (by decide) ?_
                cases hf
                exact g_zret F hP hr hlk zb1 d_Md_withCursor_191
      · rw [if_pos hb88] at hf
        refine lv_aload_n F.1 F.2.1 d_Md_withCursor_101 rfl (lv_at hl 1 rfl) ?_
        refine lv_iload_n F.1 F.2.1 d_Md_withCursor_102 rfl (lv_at hl 3 rfl) ?_
        refine lv_aload_n F.1 F.2.1 d_Md_withCursor_103 rfl (lv_at hl 1 rfl) ?_
        refine g_get F hP 9 13 0 (by decide) Nat.zero_lt_one (by decide) (v := .ref (xL X 35 0)) rfl w_886 d_Md_withCursor_104 ?_
        refine lv_iload F.1 F.2.1 d_Md_withCursor_107 (lv_at hl 5 rfl) ?_
        obtain ⟨hc70, hf⟩ := chk_some hf
        refine g_zld F hP 35 (by decide) (by decide) Nat.zero_lt_one rfl rfl hc70 d_Md_withCursor_109 ?_
        obtain ⟨x71, σ72, hj74, hf⟩ := bn2_some hf
        have KJ73 : ∀ (ls : Array Slot) (H : Heap) (locs : List Loc), lv_has ls 8 [(0, .ref (xL X 9 0)), (2, .int a2)] → St X n σ72 s.heap H locs → WG l X n rm_Md_withCursor σ' (some (.int r)) p e s m args below meth c H locs (F0 m 131 ls [.int x71, .int a2, .ref (xL X 9 0)]) := by
          intro ls H locs hl hP
          obtain ⟨σ80, hk81, hf⟩ := bnd_some hf
          refine g_callV (As := [.int a2, .int x71]) (rest := []) F hP 9 0 (by decide) Nat.zero_lt_one (c_Md_point l X n  hk81) rfl q_Md_point w_1090 w_11 w_1087 w_1089 wp_47 ⟨rfl, rfl⟩ ⟨by decide, by decide⟩ hl.1 (Nat.le_of_ble_eq_true rfl) ⟨Nat.zero_le _, Nat.zero_le _⟩ d_Md_withCursor_131 rfl (fun H locs hP => ?_)
          refine W.eq (g2 := F0 m 134 ls []) rfl ?_
          refine lv_aload_n F.1 F.2.1 d_Md_withCursor_134 rfl (lv_at hl 0 rfl) ?_
          refine g_get F hP 9 15 0 (by decide) Nat.zero_lt_one (by decide) (v := .ref (xL X 37 0)) rfl w_888 d_Md_withCursor_135 ?_
          refine lv_iload_n F.1 F.2.1 d_Md_withCursor_138 rfl (lv_at hl 1 rfl) ?_
          obtain ⟨hc82, hf⟩ := chk_some hf
          refine g_zld F hP 37 (by decide) (by decide) Nat.zero_lt_one rfl rfl hc82 d_Md_withCursor_139 ?_
          obtain ⟨x83, hj85, hf⟩ := lt_some2 hf
          have KJ84 : ∀ (ls : Array Slot) (H : Heap) (locs : List Loc), lv_has ls 8 [] → St X n σ80 s.heap H locs → WG l X n rm_Md_withCursor σ' (some (.int r)) p e s m args below meth c H locs (F0 m 148 ls [.int x83]) := by
            intro ls H locs hl hP
            obtain ⟨hz87, hf⟩ := chk_some hf
            cases hf
            exact g_zret F hP hr hlk hz87 d_Md_withCursor_148
          refine lv_if_ne F.1 F.2.1 d_Md_withCursor_140 rfl (fun hb86 => ?_) (fun hb86 => ?_)
          · rw [if_neg hb86] at hj85
            refine lv_iconst (v := 0) F.1 F.2.1 d_Md_withCursor_147 (by decide) ?_
            subst hj85
            exact KJ84 _ _ _ (lv_sub hl [] rfl) hP
          · rw [if_pos hb86] at hj85
            refine lv_iconst (v := 1) F.1 F.2.1 d_Md_withCursor_143 (by decide) ?_
            refine lv_goto F.1 F.2.1 d_Md_withCursor_144 rfl ?_
            subst hj85
            exact KJ84 _ _ _ (lv_sub hl [] rfl) hP
        refine lv_if_eq F.1 F.2.1 d_Md_withCursor_110 rfl (fun hb79 => ?_) (fun hb79 => ?_)
        · rw [if_pos hb79] at hj74
          refine lv_iconst (v := (-1)) F.1 F.2.1 d_Md_withCursor_130 (by decide) ?_
          cases hj74
          exact KJ73 _ _ _ (lv_sub hl [1, 3] rfl) hP
        · rw [if_neg hb79] at hj74
          refine lv_aload_n F.1 F.2.1 d_Md_withCursor_113 rfl (lv_at hl 1 rfl) ?_
          refine lv_iload F.1 F.2.1 d_Md_withCursor_114 (lv_at hl 0 rfl) ?_
          refine lv_aload_n F.1 F.2.1 d_Md_withCursor_116 rfl (lv_at hl 1 rfl) ?_
          refine g_get F hP 9 12 0 (by decide) Nat.zero_lt_one (by decide) (v := .ref (xL X 34 0)) rfl w_885 d_Md_withCursor_117 ?_
          refine lv_iload F.1 F.2.1 d_Md_withCursor_120 (lv_at hl 5 rfl) ?_
          obtain ⟨hc75, hj74⟩ := chk_some hj74
          refine g_lld F hP 34 (by decide) (by decide) Nat.zero_lt_one rfl rfl hc75 d_Md_withCursor_122 ?_
          refine lv_iconst (v := 0) F.1 F.2.1 d_Md_withCursor_123 (by decide) ?_
          obtain ⟨r78, σ76, hk77, hj74⟩ := bn2_some hj74
          refine g_callV (As := [.int x2, .long (gj σ 34 0 a4.toNatClampNeg), .int 0]) (rest := [.int a2, .ref (xL X 9 0)]) F hP 9 0 (by decide) Nat.zero_lt_one (c_Md_rowFrom l X n  hk77) rfl q_Md_rowFrom w_1019 w_11 w_1016 w_1018 wp_39 ⟨rfl, rfl⟩ ⟨by decide, by decide⟩ hl.1 (Nat.le_of_ble_eq_true rfl) ⟨Nat.zero_le _, Nat.zero_le _⟩ d_Md_withCursor_124 rfl (fun H locs hP => ?_)
          refine W.eq (g2 := F0 m 127 ls [.int r78, .int a2, .ref (xL X 9 0)]) rfl ?_
          refine lv_goto F.1 F.2.1 d_Md_withCursor_127 rfl ?_
          cases hj74
          exact KJ73 _ _ _ (lv_sub hl [1, 3] rfl) hP
    · rw [if_pos hb110] at hf
      refine lv_aload_n F.1 F.2.1 d_Md_withCursor_44 rfl (lv_at hl 1 rfl) ?_
      refine g_get F hP 9 15 0 (by decide) Nat.zero_lt_one (by decide) (v := .ref (xL X 37 0)) rfl w_888 d_Md_withCursor_45 ?_
      refine lv_iload_n F.1 F.2.1 d_Md_withCursor_48 rfl (lv_at hl 3 rfl) ?_
      obtain ⟨hc89, hf⟩ := chk_some hf
      refine g_zld F hP 37 (by decide) (by decide) Nat.zero_lt_one rfl rfl hc89 d_Md_withCursor_49 ?_
      obtain ⟨x90, σ91, hj93, hf⟩ := bn2_some hf
      have KJ92 : ∀ (ls : Array Slot) (H : Heap) (locs : List Loc), lv_has ls 8 [(0, .ref (xL X 9 0)), (2, .int a2)] → St X n σ91 s.heap H locs → WG l X n rm_Md_withCursor σ' (some (.int r)) p e s m args below meth c H locs (F0 m 70 ls [.int x90]) := by
        intro ls H locs hl hP
        refine lv_istore F.1 F.2.1 d_Md_withCursor_70 hl (by decide) rfl (fun ls hl => ?_)
        have hl : lv_has ls 8 [(6, .int x90), (0, .ref (xL X 9 0)), (2, .int a2)] := hl
        refine lv_iload F.1 F.2.1 d_Md_withCursor_72 (lv_at hl 0 rfl) ?_
        obtain ⟨σ99, hj101, hf⟩ := bnd_some hf
        have KJ100 : ∀ (ls : Array Slot) (H : Heap) (locs : List Loc), lv_has ls 8 [(6, .int x90)] → St X n σ99 s.heap H locs → WG l X n rm_Md_withCursor σ' (some (.int r)) p e s m args below meth c H locs (F0 m 84 ls []) := by
          intro ls H locs hl hP
          refine lv_iload F.1 F.2.1 d_Md_withCursor_84 (lv_at hl 0 rfl) ?_
          obtain ⟨x105, hj107, hf⟩ := lt_some2 hf
          have KJ106 : ∀ (ls : Array Slot) (H : Heap) (locs : List Loc), lv_has ls 8 [] → St X n σ99 s.heap H locs → WG l X n rm_Md_withCursor σ' (some (.int r)) p e s m args below meth c H locs (F0 m 94 ls [.int x105]) := by
            intro ls H locs hl hP
            obtain ⟨hz109, hf⟩ := chk_some hf
            cases hf
            exact g_zret F hP hr hlk hz109 d_Md_withCursor_94
          refine lv_if_lt F.1 F.2.1 d_Md_withCursor_86 rfl (fun hb108 => ?_) (fun hb108 => ?_)
          · rw [if_pos hb108] at hj107
            refine lv_iconst (v := 0) F.1 F.2.1 d_Md_withCursor_93 (by decide) ?_
            subst hj107
            exact KJ106 _ _ _ (lv_sub hl [] rfl) hP
          · rw [if_neg hb108] at hj107
            refine lv_iconst (v := 1) F.1 F.2.1 d_Md_withCursor_89 (by decide) ?_
            refine lv_goto F.1 F.2.1 d_Md_withCursor_90 rfl ?_
            subst hj107
            exact KJ106 _ _ _ (lv_sub hl [] rfl) hP
        refine lv_if_lt F.1 F.2.1 d_Md_withCursor_74 rfl (fun hb104 => ?_) (fun hb104 => ?_)
        · rw [if_pos hb104] at hj101
          cases hj101
          exact KJ100 _ _ _ (lv_sub hl [0] rfl) hP
        · rw [if_neg hb104] at hj101
          refine lv_aload_n F.1 F.2.1 d_Md_withCursor_77 rfl (lv_at hl 1 rfl) ?_
          refine lv_iload_n F.1 F.2.1 d_Md_withCursor_78 rfl (lv_at hl 2 rfl) ?_
          refine lv_iload F.1 F.2.1 d_Md_withCursor_79 (lv_at hl 0 rfl) ?_
          obtain ⟨σ102, hk103, hj101⟩ := bnd_some hj101
          refine g_callV (As := [.int a2, .int x90]) (rest := []) F hP 9 0 (by decide) Nat.zero_lt_one (c_Md_point l X n  hk103) rfl q_Md_point w_1090 w_11 w_1087 w_1089 wp_47 ⟨rfl, rfl⟩ ⟨by decide, by decide⟩ hl.1 (Nat.le_of_ble_eq_true rfl) ⟨Nat.zero_le _, Nat.zero_le _⟩ d_Md_withCursor_81 rfl (fun H locs hP => ?_)
          refine W.eq (g2 := F0 m 84 ls []) rfl ?_
          cases hj101
          exact KJ100 _ _ _ (lv_sub hl [0] rfl) hP
      refine lv_if_eq F.1 F.2.1 d_Md_withCursor_50 rfl (fun hb98 => ?_) (fun hb98 => ?_)
      · rw [if_pos hb98] at hj93
        refine lv_iconst (v := (-1)) F.1 F.2.1 d_Md_withCursor_69 (by decide) ?_
        cases hj93
        exact KJ92 _ _ _ (lv_sub hl [1, 3] rfl) hP
      · rw [if_neg hb98] at hj93
        refine lv_aload_n F.1 F.2.1 d_Md_withCursor_53 rfl (lv_at hl 1 rfl) ?_
        refine lv_iload F.1 F.2.1 d_Md_withCursor_54 (lv_at hl 0 rfl) ?_
        refine lv_aload_n F.1 F.2.1 d_Md_withCursor_56 rfl (lv_at hl 1 rfl) ?_
        refine g_get F hP 9 16 0 (by decide) Nat.zero_lt_one (by decide) (v := .ref (xL X 38 0)) rfl w_889 d_Md_withCursor_57 ?_
        refine lv_iload_n F.1 F.2.1 d_Md_withCursor_60 rfl (lv_at hl 3 rfl) ?_
        obtain ⟨hc94, hj93⟩ := chk_some hj93
        refine g_lld F hP 38 (by decide) (by decide) Nat.zero_lt_one rfl rfl hc94 d_Md_withCursor_61 ?_
        refine lv_iconst (v := 1) F.1 F.2.1 d_Md_withCursor_62 (by decide) ?_
        obtain ⟨r97, σ95, hk96, hj93⟩ := bn2_some hj93
        refine g_callV (As := [.int x2, .long (gj σ 38 0 a2.toNatClampNeg), .int 1]) (rest := []) F hP 9 0 (by decide) Nat.zero_lt_one (c_Md_rowFrom l X n  hk96) rfl q_Md_rowFrom w_1019 w_11 w_1016 w_1018 wp_39 ⟨rfl, rfl⟩ ⟨by decide, by decide⟩ hl.1 (Nat.le_of_ble_eq_true rfl) ⟨Nat.zero_le _, Nat.zero_le _⟩ d_Md_withCursor_63 rfl (fun H locs hP => ?_)
        refine W.eq (g2 := F0 m 66 ls [.int r97]) rfl ?_
        refine lv_goto F.1 F.2.1 d_Md_withCursor_66 rfl ?_
        cases hj93
        exact KJ92 _ _ _ (lv_sub hl [1, 3] rfl) hP
  · rw [if_pos hb122] at hf
    refine lv_aload_n F.1 F.2.1 d_Md_withCursor_13 rfl (lv_at hl 1 rfl) ?_
    refine lv_iload_n F.1 F.2.1 d_Md_withCursor_14 rfl (lv_at hl 3 rfl) ?_
    refine lv_aload_n F.1 F.2.1 d_Md_withCursor_15 rfl (lv_at hl 1 rfl) ?_
    refine lv_iload F.1 F.2.1 d_Md_withCursor_16 (lv_at hl 0 rfl) ?_
    obtain ⟨r113, σ111, hk112, hf⟩ := bn2_some hf
    refine g_callV (As := [.int x2]) (rest := [.int a2, .ref (xL X 9 0)]) F hP 9 0 (by decide) Nat.zero_lt_one (c_Md_firstRow l X n  hk112) rfl q_Md_firstRow w_1086 w_11 w_1083 w_1085 wp_46 ⟨rfl, rfl⟩ ⟨by decide, by decide⟩ hl.1 (Nat.le_of_ble_eq_true rfl) ⟨Nat.zero_le _, Nat.zero_le _⟩ d_Md_withCursor_18 rfl (fun H locs hP => ?_)
    refine W.eq (g2 := F0 m 21 ls [.int r113, .int a2, .ref (xL X 9 0)]) rfl ?_
    obtain ⟨σ114, hk115, hf⟩ := bnd_some hf
    refine g_callV (As := [.int a2, .int r113]) (rest := []) F hP 9 0 (by decide) Nat.zero_lt_one (c_Md_point l X n  hk115) rfl q_Md_point w_1090 w_11 w_1087 w_1089 wp_47 ⟨rfl, rfl⟩ ⟨by decide, by decide⟩ hl.1 (Nat.le_of_ble_eq_true rfl) ⟨Nat.zero_le _, Nat.zero_le _⟩ d_Md_withCursor_21 rfl (fun H locs hP => ?_)
    refine W.eq (g2 := F0 m 24 ls []) rfl ?_
    refine lv_aload_n F.1 F.2.1 d_Md_withCursor_24 rfl (lv_at hl 1 rfl) ?_
    refine g_get F hP 9 15 0 (by decide) Nat.zero_lt_one (by decide) (v := .ref (xL X 37 0)) rfl w_888 d_Md_withCursor_25 ?_
    refine lv_iload_n F.1 F.2.1 d_Md_withCursor_28 rfl (lv_at hl 3 rfl) ?_
    obtain ⟨hc116, hf⟩ := chk_some hf
    refine g_zld F hP 37 (by decide) (by decide) Nat.zero_lt_one rfl rfl hc116 d_Md_withCursor_29 ?_
    obtain ⟨x117, hj119, hf⟩ := lt_some2 hf
    have KJ118 : ∀ (ls : Array Slot) (H : Heap) (locs : List Loc), lv_has ls 8 [] → St X n σ114 s.heap H locs → WG l X n rm_Md_withCursor σ' (some (.int r)) p e s m args below meth c H locs (F0 m 38 ls [.int x117]) := by
      intro ls H locs hl hP
      obtain ⟨hz121, hf⟩ := chk_some hf
      cases hf
      exact g_zret F hP hr hlk hz121 d_Md_withCursor_38
    refine lv_if_ne F.1 F.2.1 d_Md_withCursor_30 rfl (fun hb120 => ?_) (fun hb120 => ?_)
    · rw [if_neg hb120] at hj119
      refine lv_iconst (v := 0) F.1 F.2.1 d_Md_withCursor_37 (by decide) ?_
      subst hj119
      exact KJ118 _ _ _ (lv_sub hl [] rfl) hP
    · rw [if_pos hb120] at hj119
      refine lv_iconst (v := 1) F.1 F.2.1 d_Md_withCursor_33 (by decide) ?_
      refine lv_goto F.1 F.2.1 d_Md_withCursor_34 rfl ?_
      subst hj119
      exact KJ118 _ _ _ (lv_sub hl [] rfl) hP

theorem d_Md_without_0 : decode b_Md_without 0 = .ok (.iload_n 1, 1) := by decide +kernel
theorem d_Md_without_1 : decode b_Md_without 1 = .ok (.iconst 1, 1) := by decide +kernel
theorem d_Md_without_2 : decode b_Md_without 2 = .ok (.if_icmp .ne 20, 3) := by decide +kernel
theorem d_Md_without_5 : decode b_Md_without 5 = .ok (.aload_n 0, 1) := by decide +kernel
theorem d_Md_without_6 : decode b_Md_without 6 = .ok (.getfield 42, 3) := by decide +kernel
theorem d_Md_without_9 : decode b_Md_without 9 = .ok (.iload_n 2, 1) := by decide +kernel
theorem d_Md_without_10 : decode b_Md_without 10 = .ok (.iload_n 3, 1) := by decide +kernel
theorem d_Md_without_11 : decode b_Md_without 11 = .ok (.iastore, 1) := by decide +kernel
theorem d_Md_without_12 : decode b_Md_without 12 = .ok (.aload_n 0, 1) := by decide +kernel
theorem d_Md_without_13 : decode b_Md_without 13 = .ok (.getfield 45, 3) := by decide +kernel
theorem d_Md_without_16 : decode b_Md_without 16 = .ok (.iload_n 2, 1) := by decide +kernel
theorem d_Md_without_17 : decode b_Md_without 17 = .ok (.iconst 0, 1) := by decide +kernel
theorem d_Md_without_18 : decode b_Md_without 18 = .ok (.bastore, 1) := by decide +kernel
theorem d_Md_without_19 : decode b_Md_without 19 = .ok (.goto 273, 3) := by decide +kernel
theorem d_Md_without_22 : decode b_Md_without 22 = .ok (.iload_n 1, 1) := by decide +kernel
theorem d_Md_without_23 : decode b_Md_without 23 = .ok (.bipush 6, 2) := by decide +kernel
theorem d_Md_without_25 : decode b_Md_without 25 = .ok (.if_icmp .ne 14, 3) := by decide +kernel
theorem d_Md_without_28 : decode b_Md_without 28 = .ok (.aload_n 0, 1) := by decide +kernel
theorem d_Md_without_29 : decode b_Md_without 29 = .ok (.iload_n 3, 1) := by decide +kernel
theorem d_Md_without_30 : decode b_Md_without 30 = .ok (.iconst 1, 1) := by decide +kernel
theorem d_Md_without_31 : decode b_Md_without 31 = .ok (.iload_n 2, 1) := by decide +kernel
theorem d_Md_without_32 : decode b_Md_without 32 = .ok (.i2l, 1) := by decide +kernel
theorem d_Md_without_33 : decode b_Md_without 33 = .ok (.invokevirtual 138, 3) := by decide +kernel
theorem d_Md_without_36 : decode b_Md_without 36 = .ok (.goto 256, 3) := by decide +kernel
theorem d_Md_without_39 : decode b_Md_without 39 = .ok (.iload_n 1, 1) := by decide +kernel
theorem d_Md_without_40 : decode b_Md_without 40 = .ok (.bipush 7, 2) := by decide +kernel
theorem d_Md_without_42 : decode b_Md_without 42 = .ok (.if_icmp .ne 13, 3) := by decide +kernel
theorem d_Md_without_45 : decode b_Md_without 45 = .ok (.aload_n 0, 1) := by decide +kernel
theorem d_Md_without_46 : decode b_Md_without 46 = .ok (.iload_n 2, 1) := by decide +kernel
theorem d_Md_without_47 : decode b_Md_without 47 = .ok (.iconst 0, 1) := by decide +kernel
theorem d_Md_without_48 : decode b_Md_without 48 = .ok (.lconst 0, 1) := by decide +kernel
theorem d_Md_without_49 : decode b_Md_without 49 = .ok (.invokevirtual 138, 3) := by decide +kernel
theorem d_Md_without_52 : decode b_Md_without 52 = .ok (.goto 240, 3) := by decide +kernel
theorem d_Md_without_55 : decode b_Md_without 55 = .ok (.iload_n 1, 1) := by decide +kernel
theorem d_Md_without_56 : decode b_Md_without 56 = .ok (.bipush 17, 2) := by decide +kernel
theorem d_Md_without_58 : decode b_Md_without 58 = .ok (.if_icmp .ne 48, 3) := by decide +kernel
theorem d_Md_without_61 : decode b_Md_without 61 = .ok (.aload_n 0, 1) := by decide +kernel
theorem d_Md_without_62 : decode b_Md_without 62 = .ok (.iload 4, 2) := by decide +kernel
theorem d_Md_without_64 : decode b_Md_without 64 = .ok (.aload_n 0, 1) := by decide +kernel
theorem d_Md_without_65 : decode b_Md_without 65 = .ok (.getfield 39, 3) := by decide +kernel
theorem d_Md_without_68 : decode b_Md_without 68 = .ok (.iload_n 2, 1) := by decide +kernel
theorem d_Md_without_69 : decode b_Md_without 69 = .ok (.baload, 1) := by decide +kernel
theorem d_Md_without_70 : decode b_Md_without 70 = .ok (.ifCond .eq 16, 3) := by decide +kernel
theorem d_Md_without_73 : decode b_Md_without 73 = .ok (.aload_n 0, 1) := by decide +kernel
theorem d_Md_without_74 : decode b_Md_without 74 = .ok (.getfield 39, 3) := by decide +kernel
theorem d_Md_without_77 : decode b_Md_without 77 = .ok (.iload_n 3, 1) := by decide +kernel
theorem d_Md_without_78 : decode b_Md_without 78 = .ok (.baload, 1) := by decide +kernel
theorem d_Md_without_79 : decode b_Md_without 79 = .ok (.ifCond .eq 7, 3) := by decide +kernel
theorem d_Md_without_82 : decode b_Md_without 82 = .ok (.iconst 1, 1) := by decide +kernel
theorem d_Md_without_83 : decode b_Md_without 83 = .ok (.goto 4, 3) := by decide +kernel
theorem d_Md_without_86 : decode b_Md_without 86 = .ok (.iconst 0, 1) := by decide +kernel
theorem d_Md_without_87 : decode b_Md_without 87 = .ok (.aload_n 0, 1) := by decide +kernel
theorem d_Md_without_88 : decode b_Md_without 88 = .ok (.getfield 36, 3) := by decide +kernel
theorem d_Md_without_91 : decode b_Md_without 91 = .ok (.iload_n 2, 1) := by decide +kernel
theorem d_Md_without_92 : decode b_Md_without 92 = .ok (.laload, 1) := by decide +kernel
theorem d_Md_without_93 : decode b_Md_without 93 = .ok (.aload_n 0, 1) := by decide +kernel
theorem d_Md_without_94 : decode b_Md_without 94 = .ok (.getfield 36, 3) := by decide +kernel
theorem d_Md_without_97 : decode b_Md_without 97 = .ok (.iload_n 3, 1) := by decide +kernel
theorem d_Md_without_98 : decode b_Md_without 98 = .ok (.laload, 1) := by decide +kernel
theorem d_Md_without_99 : decode b_Md_without 99 = .ok (.ladd, 1) := by decide +kernel
theorem d_Md_without_100 : decode b_Md_without 100 = .ok (.invokevirtual 138, 3) := by decide +kernel
theorem d_Md_without_103 : decode b_Md_without 103 = .ok (.goto 189, 3) := by decide +kernel
theorem d_Md_without_106 : decode b_Md_without 106 = .ok (.iload_n 1, 1) := by decide +kernel
theorem d_Md_without_107 : decode b_Md_without 107 = .ok (.bipush 18, 2) := by decide +kernel
theorem d_Md_without_109 : decode b_Md_without 109 = .ok (.if_icmp .ne 87, 3) := by decide +kernel
theorem d_Md_without_112 : decode b_Md_without 112 = .ok (.aload_n 0, 1) := by decide +kernel
theorem d_Md_without_113 : decode b_Md_without 113 = .ok (.getfield 51, 3) := by decide +kernel
theorem d_Md_without_116 : decode b_Md_without 116 = .ok (.aload_n 0, 1) := by decide +kernel
theorem d_Md_without_117 : decode b_Md_without 117 = .ok (.getfield 142, 3) := by decide +kernel
theorem d_Md_without_120 : decode b_Md_without 120 = .ok (.iload_n 3, 1) := by decide +kernel
theorem d_Md_without_121 : decode b_Md_without 121 = .ok (.iastore, 1) := by decide +kernel
theorem d_Md_without_122 : decode b_Md_without 122 = .ok (.iconst 0, 1) := by decide +kernel
theorem d_Md_without_123 : decode b_Md_without 123 = .ok (.istore 5, 2) := by decide +kernel
theorem d_Md_without_125 : decode b_Md_without 125 = .ok (.iload 5, 2) := by decide +kernel
theorem d_Md_without_127 : decode b_Md_without 127 = .ok (.iload_n 3, 1) := by decide +kernel
theorem d_Md_without_128 : decode b_Md_without 128 = .ok (.if_icmp .ge 55, 3) := by decide +kernel
theorem d_Md_without_131 : decode b_Md_without 131 = .ok (.aload_n 0, 1) := by decide +kernel
theorem d_Md_without_132 : decode b_Md_without 132 = .ok (.getfield 54, 3) := by decide +kernel
theorem d_Md_without_135 : decode b_Md_without 135 = .ok (.iconst 4, 1) := by decide +kernel
theorem d_Md_without_136 : decode b_Md_without 136 = .ok (.aload_n 0, 1) := by decide +kernel
theorem d_Md_without_137 : decode b_Md_without 137 = .ok (.getfield 142, 3) := by decide +kernel
theorem d_Md_without_140 : decode b_Md_without 140 = .ok (.imul, 1) := by decide +kernel
theorem d_Md_without_141 : decode b_Md_without 141 = .ok (.iload 5, 2) := by decide +kernel
theorem d_Md_without_143 : decode b_Md_without 143 = .ok (.iadd, 1) := by decide +kernel
theorem d_Md_without_144 : decode b_Md_without 144 = .ok (.aload_n 0, 1) := by decide +kernel
theorem d_Md_without_145 : decode b_Md_without 145 = .ok (.getfield 36, 3) := by decide +kernel
theorem d_Md_without_148 : decode b_Md_without 148 = .ok (.iload_n 2, 1) := by decide +kernel
theorem d_Md_without_149 : decode b_Md_without 149 = .ok (.iload 5, 2) := by decide +kernel
theorem d_Md_without_151 : decode b_Md_without 151 = .ok (.iadd, 1) := by decide +kernel
theorem d_Md_without_152 : decode b_Md_without 152 = .ok (.laload, 1) := by decide +kernel
theorem d_Md_without_153 : decode b_Md_without 153 = .ok (.lastore, 1) := by decide +kernel
theorem d_Md_without_154 : decode b_Md_without 154 = .ok (.aload_n 0, 1) := by decide +kernel
theorem d_Md_without_155 : decode b_Md_without 155 = .ok (.getfield 57, 3) := by decide +kernel
theorem d_Md_without_158 : decode b_Md_without 158 = .ok (.iconst 4, 1) := by decide +kernel
theorem d_Md_without_159 : decode b_Md_without 159 = .ok (.aload_n 0, 1) := by decide +kernel
theorem d_Md_without_160 : decode b_Md_without 160 = .ok (.getfield 142, 3) := by decide +kernel
theorem d_Md_without_163 : decode b_Md_without 163 = .ok (.imul, 1) := by decide +kernel
theorem d_Md_without_164 : decode b_Md_without 164 = .ok (.iload 5, 2) := by decide +kernel
theorem d_Md_without_166 : decode b_Md_without 166 = .ok (.iadd, 1) := by decide +kernel
theorem d_Md_without_167 : decode b_Md_without 167 = .ok (.aload_n 0, 1) := by decide +kernel
theorem d_Md_without_168 : decode b_Md_without 168 = .ok (.getfield 39, 3) := by decide +kernel
theorem d_Md_without_171 : decode b_Md_without 171 = .ok (.iload_n 2, 1) := by decide +kernel
theorem d_Md_without_172 : decode b_Md_without 172 = .ok (.iload 5, 2) := by decide +kernel
theorem d_Md_without_174 : decode b_Md_without 174 = .ok (.iadd, 1) := by decide +kernel
theorem d_Md_without_175 : decode b_Md_without 175 = .ok (.baload, 1) := by decide +kernel
theorem d_Md_without_176 : decode b_Md_without 176 = .ok (.bastore, 1) := by decide +kernel
theorem d_Md_without_177 : decode b_Md_without 177 = .ok (.iinc 5 1, 3) := by decide +kernel
theorem d_Md_without_180 : decode b_Md_without 180 = .ok (.goto (-55), 3) := by decide +kernel
theorem d_Md_without_183 : decode b_Md_without 183 = .ok (.aload_n 0, 1) := by decide +kernel
theorem d_Md_without_184 : decode b_Md_without 184 = .ok (.dup, 1) := by decide +kernel
theorem d_Md_without_185 : decode b_Md_without 185 = .ok (.getfield 142, 3) := by decide +kernel
theorem d_Md_without_188 : decode b_Md_without 188 = .ok (.iconst 1, 1) := by decide +kernel
theorem d_Md_without_189 : decode b_Md_without 189 = .ok (.iadd, 1) := by decide +kernel
theorem d_Md_without_190 : decode b_Md_without 190 = .ok (.putfield 142, 3) := by decide +kernel
theorem d_Md_without_193 : decode b_Md_without 193 = .ok (.goto 99, 3) := by decide +kernel
theorem d_Md_without_196 : decode b_Md_without 196 = .ok (.iload_n 1, 1) := by decide +kernel
theorem d_Md_without_197 : decode b_Md_without 197 = .ok (.bipush 15, 2) := by decide +kernel
theorem d_Md_without_199 : decode b_Md_without 199 = .ok (.if_icmp .eq 9, 3) := by decide +kernel
theorem d_Md_without_202 : decode b_Md_without 202 = .ok (.iload_n 1, 1) := by decide +kernel
theorem d_Md_without_203 : decode b_Md_without 203 = .ok (.bipush 16, 2) := by decide +kernel
theorem d_Md_without_205 : decode b_Md_without 205 = .ok (.if_icmp .ne 29, 3) := by decide +kernel
theorem d_Md_without_208 : decode b_Md_without 208 = .ok (.aload_n 0, 1) := by decide +kernel
theorem d_Md_without_209 : decode b_Md_without 209 = .ok (.getfield 39, 3) := by decide +kernel
theorem d_Md_without_212 : decode b_Md_without 212 = .ok (.iload_n 2, 1) := by decide +kernel
theorem d_Md_without_213 : decode b_Md_without 213 = .ok (.baload, 1) := by decide +kernel
theorem d_Md_without_214 : decode b_Md_without 214 = .ok (.iload_n 1, 1) := by decide +kernel
theorem d_Md_without_215 : decode b_Md_without 215 = .ok (.bipush 16, 2) := by decide +kernel
theorem d_Md_without_217 : decode b_Md_without 217 = .ok (.if_icmp .ne 7, 3) := by decide +kernel
theorem d_Md_without_220 : decode b_Md_without 220 = .ok (.iconst 1, 1) := by decide +kernel
theorem d_Md_without_221 : decode b_Md_without 221 = .ok (.goto 4, 3) := by decide +kernel
theorem d_Md_without_224 : decode b_Md_without 224 = .ok (.iconst 0, 1) := by decide +kernel
theorem d_Md_without_225 : decode b_Md_without 225 = .ok (.if_icmp .ne 7, 3) := by decide +kernel
theorem d_Md_without_228 : decode b_Md_without 228 = .ok (.iconst 1, 1) := by decide +kernel
theorem d_Md_without_229 : decode b_Md_without 229 = .ok (.goto 4, 3) := by decide +kernel
theorem d_Md_without_232 : decode b_Md_without 232 = .ok (.iconst 0, 1) := by decide +kernel
theorem d_Md_without_233 : decode b_Md_without 233 = .ok (.ireturn, 1) := by decide +kernel
theorem d_Md_without_234 : decode b_Md_without 234 = .ok (.iload_n 1, 1) := by decide +kernel
theorem d_Md_without_235 : decode b_Md_without 235 = .ok (.bipush 9, 2) := by decide +kernel
theorem d_Md_without_237 : decode b_Md_without 237 = .ok (.if_icmp .lt 55, 3) := by decide +kernel
theorem d_Md_without_240 : decode b_Md_without 240 = .ok (.iload_n 1, 1) := by decide +kernel
theorem d_Md_without_241 : decode b_Md_without 241 = .ok (.bipush 15, 2) := by decide +kernel
theorem d_Md_without_243 : decode b_Md_without 243 = .ok (.if_icmp .ge 49, 3) := by decide +kernel
theorem d_Md_without_246 : decode b_Md_without 246 = .ok (.aload_n 0, 1) := by decide +kernel
theorem d_Md_without_247 : decode b_Md_without 247 = .ok (.getfield 39, 3) := by decide +kernel
theorem d_Md_without_250 : decode b_Md_without 250 = .ok (.iload_n 2, 1) := by decide +kernel
theorem d_Md_without_251 : decode b_Md_without 251 = .ok (.baload, 1) := by decide +kernel
theorem d_Md_without_252 : decode b_Md_without 252 = .ok (.ifCond .eq 38, 3) := by decide +kernel
theorem d_Md_without_255 : decode b_Md_without 255 = .ok (.aload_n 0, 1) := by decide +kernel
theorem d_Md_without_256 : decode b_Md_without 256 = .ok (.getfield 39, 3) := by decide +kernel
theorem d_Md_without_259 : decode b_Md_without 259 = .ok (.iload 4, 2) := by decide +kernel
theorem d_Md_without_261 : decode b_Md_without 261 = .ok (.baload, 1) := by decide +kernel
theorem d_Md_without_262 : decode b_Md_without 262 = .ok (.ifCond .eq 28, 3) := by decide +kernel
theorem d_Md_without_265 : decode b_Md_without 265 = .ok (.aload_n 0, 1) := by decide +kernel
theorem d_Md_without_266 : decode b_Md_without 266 = .ok (.iload_n 1, 1) := by decide +kernel
theorem d_Md_without_267 : decode b_Md_without 267 = .ok (.aload_n 0, 1) := by decide +kernel
theorem d_Md_without_268 : decode b_Md_without 268 = .ok (.getfield 36, 3) := by decide +kernel
theorem d_Md_without_271 : decode b_Md_without 271 = .ok (.iload_n 2, 1) := by decide +kernel
theorem d_Md_without_272 : decode b_Md_without 272 = .ok (.laload, 1) := by decide +kernel
theorem d_Md_without_273 : decode b_Md_without 273 = .ok (.aload_n 0, 1) := by decide +kernel
theorem d_Md_without_274 : decode b_Md_without 274 = .ok (.getfield 36, 3) := by decide +kernel
theorem d_Md_without_277 : decode b_Md_without 277 = .ok (.iload 4, 2) := by decide +kernel
theorem d_Md_without_279 : decode b_Md_without 279 = .ok (.laload, 1) := by decide +kernel
theorem d_Md_without_280 : decode b_Md_without 280 = .ok (.invokevirtual 145, 3) := by decide +kernel
theorem d_Md_without_283 : decode b_Md_without 283 = .ok (.ifCond .eq 7, 3) := by decide +kernel
theorem d_Md_without_286 : decode b_Md_without 286 = .ok (.iconst 1, 1) := by decide +kernel
theorem d_Md_without_287 : decode b_Md_without 287 = .ok (.goto 4, 3) := by decide +kernel
theorem d_Md_without_290 : decode b_Md_without 290 = .ok (.iconst 0, 1) := by decide +kernel
theorem d_Md_without_291 : decode b_Md_without 291 = .ok (.ireturn, 1) := by decide +kernel
theorem d_Md_without_292 : decode b_Md_without 292 = .ok (.iload_n 1, 1) := by decide +kernel
theorem d_Md_without_293 : decode b_Md_without 293 = .ok (.bipush 19, 2) := by decide +kernel
theorem d_Md_without_295 : decode b_Md_without 295 = .ok (.if_icmp .ne 7, 3) := by decide +kernel
theorem d_Md_without_298 : decode b_Md_without 298 = .ok (.iconst 1, 1) := by decide +kernel
theorem d_Md_without_299 : decode b_Md_without 299 = .ok (.goto 4, 3) := by decide +kernel
theorem d_Md_without_302 : decode b_Md_without 302 = .ok (.iconst 0, 1) := by decide +kernel
theorem d_Md_without_303 : decode b_Md_without 303 = .ok (.ireturn, 1) := by decide +kernel
noncomputable def b_Md_without_125 (a2 : Int32) (a3 : Int32) (x52 : Int32) (σ53 : Sg) : Option ((Int32 × Sg) ⊕ (Sg)) :=
  (if a3 ≤ x52 then (some (.inr σ53)) else (chk (vp_in (a2 + x52) 16) (chk (vp_in ((4 * (gi σ53 9 0 19)) + x52) 256) (lt_ (sj σ53 40 0 (((4 * (gi σ53 9 0 19)) + x52).toNatClampNeg) (gj σ53 34 0 ((a2 + x52).toNatClampNeg))) (fun σ59 => chk (vp_in (a2 + x52) 16) (chk (vp_in ((4 * (gi σ59 9 0 19)) + x52) 256) (lt_ (si σ59 41 0 (((4 * (gi σ59 9 0 19)) + x52).toNatClampNeg) (vp_nar .boolean (gi σ59 35 0 ((a2 + x52).toNatClampNeg)))) (fun σ62 => lt_ (x52 + 1 : Int32) (fun (x63 : Int32) => some (.inl (x63, σ62)))))))))))
noncomputable def l_Md_without_125 (a2 : Int32) (a3 : Int32) (x52 : Int32) (σ53 : Sg) : Option (Sg) := lp (fun q => b_Md_without_125 a2 a3 q.1 q.2) FU (x52, σ53)
noncomputable def f_Md_without (a1 : Int32) (a2 : Int32) (a3 : Int32) (a4 : Int32) (σ : Sg) : Option (Int32 × Sg) :=
  (if a1 = 1 then (chk (vp_in a2 3) (lt_ (si σ 36 0 a2.toNatClampNeg a3) (fun σ109 => chk (vp_in a2 3) (lt_ (si σ109 37 0 a2.toNatClampNeg (vp_nar .boolean 0)) (fun σ111 => lt_ ((if a1 = 19 then 1 else 0) : Int32) (fun (x112 : Int32) => chk (zb x112) (some (x112, σ111)))))))) else (if a1 = 6 then ((f_Md_keep a3 1 a2.toInt64 σ).bind (fun σ100 => lt_ ((if a1 = 19 then 1 else 0) : Int32) (fun (x102 : Int32) => chk (zb x102) (some (x102, σ100))))) else (if a1 = 7 then ((f_Md_keep a2 0 0 σ).bind (fun σ92 => lt_ ((if a1 = 19 then 1 else 0) : Int32) (fun (x94 : Int32) => chk (zb x94) (some (x94, σ92))))) else (if a1 = 17 then (chk (vp_in a2 16) (Option.bind (if (gi σ 35 0 a2.toNatClampNeg) = 0 then (some (0)) else (chk (vp_in a3 16) ((if (gi σ 35 0 a3.toNatClampNeg) = 0 then (some (0)) else (some (1)))))) (fun (x76 : Int32) => chk (vp_in a2 16) (chk (vp_in a3 16) ((f_Md_keep a4 x76 ((gj σ 34 0 a2.toNatClampNeg) + (gj σ 34 0 a3.toNatClampNeg)) σ).bind (fun σ84 => lt_ ((if a1 = 19 then 1 else 0) : Int32) (fun (x86 : Int32) => chk (zb x86) (some (x86, σ84))))))))) else (if a1 = 18 then (chk (vp_in (gi σ 9 0 19) 64) (lt_ (si σ 39 0 ((gi σ 9 0 19).toNatClampNeg) a3) (fun σ51 => (l_Md_without_125 a2 a3 0 σ51).bind (fun σ65 => lt_ (si σ65 9 0 19 ((gi σ65 9 0 19) + 1)) (fun σ68 => lt_ ((if a1 = 19 then 1 else 0) : Int32) (fun (x69 : Int32) => chk (zb x69) (some (x69, σ68)))))))) else (if a1 = 15 then (chk (vp_in a2 16) (lt_ ((if a1 = 16 then 1 else 0) : Int32) (fun (x2 : Int32) => lt_ ((if (gi σ 35 0 a2.toNatClampNeg) = x2 then 1 else 0) : Int32) (fun (x6 : Int32) => chk (zb x6) (some (x6, σ)))))) else (if a1 = 16 then (chk (vp_in a2 16) (lt_ ((if a1 = 16 then 1 else 0) : Int32) (fun (x39 : Int32) => lt_ ((if (gi σ 35 0 a2.toNatClampNeg) = x39 then 1 else 0) : Int32) (fun (x43 : Int32) => chk (zb x43) (some (x43, σ)))))) else (if a1 < 9 then (lt_ ((if a1 = 19 then 1 else 0) : Int32) (fun (x11 : Int32) => chk (zb x11) (some (x11, σ)))) else (if 15 ≤ a1 then (lt_ ((if a1 = 19 then 1 else 0) : Int32) (fun (x16 : Int32) => chk (zb x16) (some (x16, σ)))) else (chk (vp_in a2 16) (bn2 (if (gi σ 35 0 a2.toNatClampNeg) = 0 then (some (0, σ)) else (chk (vp_in a4 16) ((if (gi σ 35 0 a4.toNatClampNeg) = 0 then (some (0, σ)) else (chk (vp_in a2 16) (chk (vp_in a4 16) (bn2 (f_Md_compares a1 (gj σ 34 0 a2.toNatClampNeg) (gj σ 34 0 a4.toNatClampNeg) σ) (fun r31 σ29 => (if r31 = 0 then (some (0, σ29)) else (some (1, σ29))))))))))) (fun (x22 : Int32) (σ23 : Sg) => chk (zb x22) (some (x22, σ23))))))))))))))
abbrev rm_Md_without : Room := { frames := 1, cells := 0, slots := 0, locals := 26 }
set_option maxHeartbeats 4000000 in
set_option maxRecDepth 100000 in
theorem c_Md_without (l : Launch) (X : GX) (n : Nat) {σ σ' : Sg} {r : Int32} {a1 : Int32} {a2 : Int32} {a3 : Int32} {a4 : Int32}  (hf : f_Md_without a1 a2 a3 a4 σ = some (r, σ')) : Met l y_Md_without (cw y_Md_without b_Md_without 6 (some .boolean)) rm_Md_without (PcG X n σ [.ref (xL X 9 0), .int a1, .int a2, .int a3, .int a4]) (QcG X n σ' (some (.int r))) 0 0 (fr X n) := by
  refine g_head (own := "TableMachineModel") (by decide) rfl (Nat.le_of_ble_eq_true rfl) ?_
  intro p e s m args below meth c ls F hr hlk hP hl
  have hl : lv_has ls 6 [(0, .ref (xL X 9 0)), (1, .int a1), (2, .int a2), (3, .int a3), (4, .int a4)] := hl
  show WG l X n rm_Md_without σ' (some (.int r)) p e s m args below meth c s.heap [] (F0 m 0 ls [])
  unfold f_Md_without at hf
  refine lv_iload_n F.1 F.2.1 d_Md_without_0 rfl (lv_at hl 1 rfl) ?_
  refine lv_iconst (v := 1) F.1 F.2.1 d_Md_without_1 (by decide) ?_
  refine lv_icmp_ne F.1 F.2.1 d_Md_without_2 rfl (fun hb117 => ?_) (fun hb117 => ?_)
  · rw [if_neg hb117] at hf
    refine lv_iload_n F.1 F.2.1 d_Md_without_22 rfl (lv_at hl 1 rfl) ?_
    refine lv_bipush (v := 6) F.1 F.2.1 d_Md_without_23 (by decide) ?_
    refine lv_icmp_ne F.1 F.2.1 d_Md_without_25 rfl (fun hb107 => ?_) (fun hb107 => ?_)
    · rw [if_neg hb107] at hf
      refine lv_iload_n F.1 F.2.1 d_Md_without_39 rfl (lv_at hl 1 rfl) ?_
      refine lv_bipush (v := 7) F.1 F.2.1 d_Md_without_40 (by decide) ?_
      refine lv_icmp_ne F.1 F.2.1 d_Md_without_42 rfl (fun hb99 => ?_) (fun hb99 => ?_)
      · rw [if_neg hb99] at hf
        refine lv_iload_n F.1 F.2.1 d_Md_without_55 rfl (lv_at hl 1 rfl) ?_
        refine lv_bipush (v := 17) F.1 F.2.1 d_Md_without_56 (by decide) ?_
        refine lv_icmp_ne F.1 F.2.1 d_Md_without_58 rfl (fun hb91 => ?_) (fun hb91 => ?_)
        · rw [if_neg hb91] at hf
          refine lv_iload_n F.1 F.2.1 d_Md_without_106 rfl (lv_at hl 1 rfl) ?_
          refine lv_bipush (v := 18) F.1 F.2.1 d_Md_without_107 (by decide) ?_
          refine lv_icmp_ne F.1 F.2.1 d_Md_without_109 rfl (fun hb74 => ?_) (fun hb74 => ?_)
          · rw [if_neg hb74] at hf
            refine lv_iload_n F.1 F.2.1 d_Md_without_196 rfl (lv_at hl 1 rfl) ?_
            refine lv_bipush (v := 15) F.1 F.2.1 d_Md_without_197 (by decide) ?_
            refine lv_icmp_eq F.1 F.2.1 d_Md_without_199 rfl (fun hb49 => ?_) (fun hb49 => ?_)
            · rw [if_pos hb49] at hf
              refine lv_aload_n F.1 F.2.1 d_Md_without_208 rfl (lv_at hl 0 rfl) ?_
              refine g_get F hP 9 13 0 (by decide) Nat.zero_lt_one (by decide) (v := .ref (xL X 35 0)) rfl w_886 d_Md_without_209 ?_
              refine lv_iload_n F.1 F.2.1 d_Md_without_212 rfl (lv_at hl 2 rfl) ?_
              obtain ⟨hc1, hf⟩ := chk_some hf
              refine g_zld F hP 35 (by decide) (by decide) Nat.zero_lt_one rfl rfl hc1 d_Md_without_213 ?_
              refine lv_iload_n F.1 F.2.1 d_Md_without_214 rfl (lv_at hl 1 rfl) ?_
              refine lv_bipush (v := 16) F.1 F.2.1 d_Md_without_215 (by decide) ?_
              obtain ⟨x2, hj4, hf⟩ := lt_some2 hf
              have KJ3 : ∀ (ls : Array Slot) (H : Heap) (locs : List Loc), lv_has ls 6 [] → St X n σ s.heap H locs → WG l X n rm_Md_without σ' (some (.int r)) p e s m args below meth c H locs (F0 m 225 ls [.int x2, .int (gi σ 35 0 a2.toNatClampNeg)]) := by
                intro ls H locs hl hP
                obtain ⟨x6, hj8, hf⟩ := lt_some2 hf
                have KJ7 : ∀ (ls : Array Slot) (H : Heap) (locs : List Loc), lv_has ls 6 [] → St X n σ s.heap H locs → WG l X n rm_Md_without σ' (some (.int r)) p e s m args below meth c H locs (F0 m 233 ls [.int x6]) := by
                  intro ls H locs hl hP
                  obtain ⟨hz10, hf⟩ := chk_some hf
                  cases hf
                  exact g_zret F hP hr hlk hz10 d_Md_without_233
                refine lv_icmp_ne F.1 F.2.1 d_Md_without_225 rfl (fun hb9 => ?_) (fun hb9 => ?_)
                · rw [if_neg hb9] at hj8
                  refine lv_iconst (v := 0) F.1 F.2.1 d_Md_without_232 (by decide) ?_
                  subst hj8
                  exact KJ7 _ _ _ (lv_sub hl [] rfl) hP
                · rw [if_pos hb9] at hj8
                  refine lv_iconst (v := 1) F.1 F.2.1 d_Md_without_228 (by decide) ?_
                  refine lv_goto F.1 F.2.1 d_Md_without_229 rfl ?_
                  subst hj8
                  exact KJ7 _ _ _ (lv_sub hl [] rfl) hP
              refine lv_icmp_ne F.1 F.2.1 d_Md_without_217 rfl (fun hb5 => ?_) (fun hb5 => ?_)
              · rw [if_neg hb5] at hj4
                refine lv_iconst (v := 0) F.1 F.2.1 d_Md_without_224 (by decide) ?_
                subst hj4
                exact KJ3 _ _ _ (lv_sub hl [] rfl) hP
              · rw [if_pos hb5] at hj4
                refine lv_iconst (v := 1) F.1 F.2.1 d_Md_without_220 (by decide) ?_
                refine lv_goto F.1 F.2.1 d_Md_without_221 rfl ?_
                subst hj4
                exact KJ3 _ _ _ (lv_sub hl [] rfl) hP
            · rw [if_neg hb49] at hf
              refine lv_iload_n F.1 F.2.1 d_Md_without_202 rfl (lv_at hl 1 rfl) ?_
              refine lv_bipush (v := 16) F.1 F.2.1 d_Md_without_203 (by decide) ?_
              refine lv_icmp_ne F.1 F.2.1 d_Md_without_205 rfl (fun hb48 => ?_) (fun hb48 => ?_)
              · rw [if_neg hb48] at hf
                refine lv_iload_n F.1 F.2.1 d_Md_without_234 rfl (lv_at hl 1 rfl) ?_
                refine lv_bipush (v := 9) F.1 F.2.1 d_Md_without_235 (by decide) ?_
                refine lv_icmp_lt F.1 F.2.1 d_Md_without_237 rfl (fun hb37 => ?_) (fun hb37 => ?_)
                · rw [if_pos hb37] at hf
                  refine lv_iload_n F.1 F.2.1 d_Md_without_292 rfl (lv_at hl 1 rfl) ?_
                  refine lv_bipush (v := 19) F.1 F.2.1 d_Md_without_293 (by decide) ?_
                  obtain ⟨x11, hj13, hf⟩ := lt_some2 hf
                  have KJ12 : ∀ (ls : Array Slot) (H : Heap) (locs : List Loc), lv_has ls 6 [] → St X n σ s.heap H locs → WG l X n rm_Md_without σ' (some (.int r)) p e s m args below meth c H locs (F0 m 303 ls [.int x11]) := by
                    intro ls H locs hl hP
                    obtain ⟨hz15, hf⟩ := chk_some hf
                    cases hf
                    exact g_zret F hP hr hlk hz15 d_Md_without_303
                  refine lv_icmp_ne F.1 F.2.1 d_Md_without_295 rfl (fun hb14 => ?_) (fun hb14 => ?_)
                  · rw [if_neg hb14] at hj13
                    refine lv_iconst (v := 0) F.1 F.2.1 d_Md_without_302 (by decide) ?_
                    subst hj13
                    exact KJ12 _ _ _ (lv_sub hl [] rfl) hP
                  · rw [if_pos hb14] at hj13
                    refine lv_iconst (v := 1) F.1 F.2.1 d_Md_without_298 (by decide) ?_
                    refine lv_goto F.1 F.2.1 d_Md_without_299 rfl ?_
                    subst hj13
                    exact KJ12 _ _ _ (lv_sub hl [] rfl) hP
                · rw [if_neg hb37] at hf
                  refine lv_iload_n F.1 F.2.1 d_Md_without_240 rfl (lv_at hl 1 rfl) ?_
                  refine lv_bipush (v := 15) F.1 F.2.1 d_Md_without_241 (by decide) ?_
                  refine lv_icmp_ge F.1 F.2.1 d_Md_without_243 rfl (fun hb36 => ?_) (fun hb36 => ?_)
                  · rw [if_pos hb36] at hf
                    refine lv_iload_n F.1 F.2.1 d_Md_without_292 rfl (lv_at hl 1 rfl) ?_
                    refine lv_bipush (v := 19) F.1 F.2.1 d_Md_without_293 (by decide) ?_
                    obtain ⟨x16, hj18, hf⟩ := lt_some2 hf
                    have KJ17 : ∀ (ls : Array Slot) (H : Heap) (locs : List Loc), lv_has ls 6 [] → St X n σ s.heap H locs → WG l X n rm_Md_without σ' (some (.int r)) p e s m args below meth c H locs (F0 m 303 ls [.int x16]) := by
                      intro ls H locs hl hP
                      obtain ⟨hz20, hf⟩ := chk_some hf
                      cases hf
                      exact g_zret F hP hr hlk hz20 d_Md_without_303
                    refine lv_icmp_ne F.1 F.2.1 d_Md_without_295 rfl (fun hb19 => ?_) (fun hb19 => ?_)
                    · rw [if_neg hb19] at hj18
                      refine lv_iconst (v := 0) F.1 F.2.1 d_Md_without_302 (by decide) ?_
                      subst hj18
                      exact KJ17 _ _ _ (lv_sub hl [] rfl) hP
                    · rw [if_pos hb19] at hj18
                      refine lv_iconst (v := 1) F.1 F.2.1 d_Md_without_298 (by decide) ?_
                      refine lv_goto F.1 F.2.1 d_Md_without_299 rfl ?_
                      subst hj18
                      exact KJ17 _ _ _ (lv_sub hl [] rfl) hP
                  · rw [if_neg hb36] at hf
                    refine lv_aload_n F.1 F.2.1 d_Md_without_246 rfl (lv_at hl 0 rfl) ?_
                    refine g_get F hP 9 13 0 (by decide) Nat.zero_lt_one (by decide) (v := .ref (xL X 35 0)) rfl w_886 d_Md_without_247 ?_
                    refine lv_iload_n F.1 F.2.1 d_Md_without_250 rfl (lv_at hl 2 rfl) ?_
                    obtain ⟨hc21, hf⟩ := chk_some hf
                    refine g_zld F hP 35 (by decide) (by decide) Nat.zero_lt_one rfl rfl hc21 d_Md_without_251 ?_
                    obtain ⟨x22, σ23, hj25, hf⟩ := bn2_some hf
                    have KJ24 : ∀ (ls : Array Slot) (H : Heap) (locs : List Loc), lv_has ls 6 [] → St X n σ23 s.heap H locs → WG l X n rm_Md_without σ' (some (.int r)) p e s m args below meth c H locs (F0 m 291 ls [.int x22]) := by
                      intro ls H locs hl hP
                      obtain ⟨hz35, hf⟩ := chk_some hf
                      cases hf
                      exact g_zret F hP hr hlk hz35 d_Md_without_291
                    refine lv_if_eq F.1 F.2.1 d_Md_without_252 rfl (fun hb34 => ?_) (fun hb34 => ?_)
                    · rw [if_pos hb34] at hj25
                      refine lv_iconst (v := 0) F.1 F.2.1 d_Md_without_290 (by decide) ?_
                      cases hj25
                      exact KJ24 _ _ _ (lv_sub hl [] rfl) hP
                    · rw [if_neg hb34] at hj25
                      refine lv_aload_n F.1 F.2.1 d_Md_without_255 rfl (lv_at hl 0 rfl) ?_
                      refine g_get F hP 9 13 0 (by decide) Nat.zero_lt_one (by decide) (v := .ref (xL X 35 0)) rfl w_886 d_Md_without_256 ?_
                      refine lv_iload F.1 F.2.1 d_Md_without_259 (lv_at hl 4 rfl) ?_
                      obtain ⟨hc26, hj25⟩ := chk_some hj25
                      refine g_zld F hP 35 (by decide) (by decide) Nat.zero_lt_one rfl rfl hc26 d_Md_without_261 ?_
                      refine lv_if_eq F.1 F.2.1 d_Md_without_262 rfl (fun hb33 => ?_) (fun hb33 => ?_)
                      · rw [if_pos hb33] at hj25
                        refine lv_iconst (v := 0) F.1 F.2.1 d_Md_without_290 (by decide) ?_
                        cases hj25
                        exact KJ24 _ _ _ (lv_sub hl [] rfl) hP
                      · rw [if_neg hb33] at hj25
                        refine lv_aload_n F.1 F.2.1 d_Md_without_265 rfl (lv_at hl 0 rfl) ?_
                        refine lv_iload_n F.1 F.2.1 d_Md_without_266 rfl (lv_at hl 1 rfl) ?_
                        refine lv_aload_n F.1 F.2.1 d_Md_without_267 rfl (lv_at hl 0 rfl) ?_
                        refine g_get F hP 9 12 0 (by decide) Nat.zero_lt_one (by decide) (v := .ref (xL X 34 0)) rfl w_885 d_Md_without_268 ?_
                        refine lv_iload_n F.1 F.2.1 d_Md_without_271 rfl (lv_at hl 2 rfl) ?_
                        obtain ⟨hc27, hj25⟩ := chk_some hj25
                        refine g_lld F hP 34 (by decide) (by decide) Nat.zero_lt_one rfl rfl hc27 d_Md_without_272 ?_
                        refine lv_aload_n F.1 F.2.1 d_Md_without_273 rfl (lv_at hl 0 rfl) ?_
                        refine g_get F hP 9 12 0 (by decide) Nat.zero_lt_one (by decide) (v := .ref (xL X 34 0)) rfl w_885 d_Md_without_274 ?_
                        refine lv_iload F.1 F.2.1 d_Md_without_277 (lv_at hl 4 rfl) ?_
                        obtain ⟨hc28, hj25⟩ := chk_some hj25
                        refine g_lld F hP 34 (by decide) (by decide) Nat.zero_lt_one rfl rfl hc28 d_Md_without_279 ?_
                        obtain ⟨r31, σ29, hk30, hj25⟩ := bn2_some hj25
                        refine g_callV (As := [.int a1, .long (gj σ 34 0 a2.toNatClampNeg), .long (gj σ 34 0 a4.toNatClampNeg)]) (rest := []) F hP 9 0 (by decide) Nat.zero_lt_one (c_Md_compares l X n  hk30) rfl q_Md_compares w_1102 w_11 w_1099 w_1101 wp_50 ⟨rfl, rfl⟩ ⟨by decide, by decide⟩ hl.1 (Nat.le_of_ble_eq_true rfl) ⟨Nat.zero_le _, Nat.zero_le _⟩ d_Md_without_280 rfl (fun H locs hP => ?_)
                        refine W.eq (g2 := F0 m 283 ls [.int r31]) rfl ?_
                        refine lv_if_eq F.1 F.2.1 d_Md_without_283 rfl (fun hb32 => ?_) (fun hb32 => ?_)
                        · rw [if_pos hb32] at hj25
                          refine lv_iconst (v := 0) F.1 F.2.1 d_Md_without_290 (by decide) ?_
                          cases hj25
                          exact KJ24 _ _ _ (lv_sub hl [] rfl) hP
                        · rw [if_neg hb32] at hj25
                          refine lv_iconst (v := 1) F.1 F.2.1 d_Md_without_286 (by decide) ?_
                          refine lv_goto F.1 F.2.1 d_Md_without_287 rfl ?_
                          cases hj25
                          exact KJ24 _ _ _ (lv_sub hl [] rfl) hP
              · rw [if_pos hb48] at hf
                refine lv_aload_n F.1 F.2.1 d_Md_without_208 rfl (lv_at hl 0 rfl) ?_
                refine g_get F hP 9 13 0 (by decide) Nat.zero_lt_one (by decide) (v := .ref (xL X 35 0)) rfl w_886 d_Md_without_209 ?_
                refine lv_iload_n F.1 F.2.1 d_Md_without_212 rfl (lv_at hl 2 rfl) ?_
                obtain ⟨hc38, hf⟩ := chk_some hf
                refine g_zld F hP 35 (by decide) (by decide) Nat.zero_lt_one rfl rfl hc38 d_Md_without_213 ?_
                refine lv_iload_n F.1 F.2.1 d_Md_without_214 rfl (lv_at hl 1 rfl) ?_
                refine lv_bipush (v := 16) F.1 F.2.1 d_Md_without_215 (by decide) ?_
                obtain ⟨x39, hj41, hf⟩ := lt_some2 hf
                have KJ40 : ∀ (ls : Array Slot) (H : Heap) (locs : List Loc), lv_has ls 6 [] → St X n σ s.heap H locs → WG l X n rm_Md_without σ' (some (.int r)) p e s m args below meth c H locs (F0 m 225 ls [.int x39, .int (gi σ 35 0 a2.toNatClampNeg)]) := by
                  intro ls H locs hl hP
                  obtain ⟨x43, hj45, hf⟩ := lt_some2 hf
                  have KJ44 : ∀ (ls : Array Slot) (H : Heap) (locs : List Loc), lv_has ls 6 [] → St X n σ s.heap H locs → WG l X n rm_Md_without σ' (some (.int r)) p e s m args below meth c H locs (F0 m 233 ls [.int x43]) := by
                    intro ls H locs hl hP
                    obtain ⟨hz47, hf⟩ := chk_some hf
                    cases hf
                    exact g_zret F hP hr hlk hz47 d_Md_without_233
                  refine lv_icmp_ne F.1 F.2.1 d_Md_without_225 rfl (fun hb46 => ?_) (fun hb46 => ?_)
                  · rw [if_neg hb46] at hj45
                    refine lv_iconst (v := 0) F.1 F.2.1 d_Md_without_232 (by decide) ?_
                    subst hj45
                    exact KJ44 _ _ _ (lv_sub hl [] rfl) hP
                  · rw [if_pos hb46] at hj45
                    refine lv_iconst (v := 1) F.1 F.2.1 d_Md_without_228 (by decide) ?_
                    refine lv_goto F.1 F.2.1 d_Md_without_229 rfl ?_
                    subst hj45
                    exact KJ44 _ _ _ (lv_sub hl [] rfl) hP
                refine lv_icmp_ne F.1 F.2.1 d_Md_without_217 rfl (fun hb42 => ?_) (fun hb42 => ?_)
                · rw [if_neg hb42] at hj41
                  refine lv_iconst (v := 0) F.1 F.2.1 d_Md_without_224 (by decide) ?_
                  subst hj41
                  exact KJ40 _ _ _ (lv_sub hl [] rfl) hP
                · rw [if_pos hb42] at hj41
                  refine lv_iconst (v := 1) F.1 F.2.1 d_Md_without_220 (by decide) ?_
                  refine lv_goto F.1 F.2.1 d_Md_without_221 rfl ?_
                  subst hj41
                  exact KJ40 _ _ _ (lv_sub hl [] rfl) hP
          · rw [if_pos hb74] at hf
            refine lv_aload_n F.1 F.2.1 d_Md_without_112 rfl (lv_at hl 0 rfl) ?_
            refine g_get F hP 9 20 0 (by decide) Nat.zero_lt_one (by decide) (v := .ref (xL X 39 0)) rfl w_893 d_Md_without_113 ?_
            refine lv_aload_n F.1 F.2.1 d_Md_without_116 rfl (lv_at hl 0 rfl) ?_
            refine g_get F hP 9 19 0 (by decide) Nat.zero_lt_one (by decide) (v := .int (gi σ 9 0 19)) rfl w_892 d_Md_without_117 ?_
            refine lv_iload_n F.1 F.2.1 d_Md_without_120 rfl (lv_at hl 3 rfl) ?_
            obtain ⟨hc50, hf⟩ := chk_some hf
            obtain ⟨σ51, e_σ51, hf⟩ := lt_some hf
            refine g_ast F hP 39 (by decide) (by decide) Nat.zero_lt_one rfl rfl hc50 d_Md_without_121 e_σ51 (fun H locs hP => ?_)
            refine lv_iconst (v := 0) F.1 F.2.1 d_Md_without_122 (by decide) ?_
            refine lv_istore F.1 F.2.1 d_Md_without_123 hl (by decide) rfl (fun ls hl => ?_)
            have hl : lv_has ls 6 [(5, .int 0), (0, .ref (xL X 9 0)), (1, .int a1), (2, .int a2), (3, .int a3), (4, .int a4)] := hl
            obtain ⟨σ65, hlp66, hf⟩ := bnd_some hf
            have KX67 : ∀ (ls : Array Slot) (H : Heap) (locs : List Loc), lv_has ls 6 [(0, .ref (xL X 9 0)), (1, .int a1)] → St X n σ65 s.heap H locs → WG l X n rm_Md_without σ' (some (.int r)) p e s m args below meth c H locs (F0 m 183 ls []) := by
              intro ls H locs hl hP
              refine lv_aload_n F.1 F.2.1 d_Md_without_183 rfl (lv_at hl 0 rfl) ?_
              refine lv_dup F.1 F.2.1 d_Md_without_184 rfl ?_
              refine g_get F hP 9 19 0 (by decide) Nat.zero_lt_one (by decide) (v := .int (gi σ65 9 0 19)) rfl w_892 d_Md_without_185 ?_
              refine lv_iconst (v := 1) F.1 F.2.1 d_Md_without_188 (by decide) ?_
              refine lv_iadd F.1 F.2.1 d_Md_without_189 ?_
              obtain ⟨σ68, e_σ68, hf⟩ := lt_some hf
              refine g_puti F hP 9 19 0 (by decide) Nat.zero_lt_one (by decide) rfl rfl rfl rfl (Or.inl w_892) d_Md_without_190 e_σ68 (fun H locs hP => ?_)
              refine lv_goto F.1 F.2.1 d_Md_without_193 rfl ?_
              refine lv_iload_n F.1 F.2.1 d_Md_without_292 rfl (lv_at hl 1 rfl) ?_
              refine lv_bipush (v := 19) F.1 F.2.1 d_Md_without_293 (by decide) ?_
              obtain ⟨x69, hj71, hf⟩ := lt_some2 hf
              have KJ70 : ∀ (ls : Array Slot) (H : Heap) (locs : List Loc), lv_has ls 6 [] → St X n σ68 s.heap H locs → WG l X n rm_Md_without σ' (some (.int r)) p e s m args below meth c H locs (F0 m 303 ls [.int x69]) := by
                intro ls H locs hl hP
                obtain ⟨hz73, hf⟩ := chk_some hf
                cases hf
                exact g_zret F hP hr hlk hz73 d_Md_without_303
              refine lv_icmp_ne F.1 F.2.1 d_Md_without_295 rfl (fun hb72 => ?_) (fun hb72 => ?_)
              · rw [if_neg hb72] at hj71
                refine lv_iconst (v := 0) F.1 F.2.1 d_Md_without_302 (by decide) ?_
                subst hj71
                exact KJ70 _ _ _ (lv_sub hl [] rfl) hP
              · rw [if_pos hb72] at hj71
                refine lv_iconst (v := 1) F.1 F.2.1 d_Md_without_298 (by decide) ?_
                refine lv_goto F.1 F.2.1 d_Md_without_299 rfl ?_
                subst hj71
                exact KJ70 _ _ _ (lv_sub hl [] rfl) hP
            unfold l_Md_without_125 at hlp66
            refine lp_W (PW := fun q => ∀ (ls : Array Slot) (H : Heap) (locs : List Loc), lv_has ls 6 [(0, .ref (xL X 9 0)), (1, .int a1), (2, .int a2), (3, .int a3), (5, .int q.1)] → St X n q.2 s.heap H locs → WG l X n rm_Md_without σ' (some (.int r)) p e s m args below meth c H locs (F0 m 125 ls [])) (PE := fun q => ∀ (ls : Array Slot) (H : Heap) (locs : List Loc), lv_has ls 6 [(0, .ref (xL X 9 0)), (1, .int a1)] → St X n q s.heap H locs → WG l X n rm_Md_without σ' (some (.int r)) p e s m args below meth c H locs (F0 m 183 ls [])) ?_ _ _ _ hlp66 KX67 _ _ _ (lv_sub hl [1, 2, 3, 4, 0] rfl) hP
            rintro ⟨x52, σ53⟩ rr54 hb_125 hI55 hE56 ls H locs hl hP
            replace hb_125 : b_Md_without_125 a2 a3 x52 σ53 = some rr54 := hb_125
            unfold b_Md_without_125 at hb_125
            refine lv_iload F.1 F.2.1 d_Md_without_125 (lv_at hl 4 rfl) ?_
            refine lv_iload_n F.1 F.2.1 d_Md_without_127 rfl (lv_at hl 3 rfl) ?_
            refine lv_icmp_ge F.1 F.2.1 d_Md_without_128 rfl (fun hb64 => ?_) (fun hb64 => ?_)
            · rw [if_pos hb64] at hb_125
              cases hb_125
              exact hE56 _ rfl _ _ _ (lv_sub hl [0, 1] rfl) hP
            · rw [if_neg hb64] at hb_125
              refine lv_aload_n F.1 F.2.1 d_Md_without_131 rfl (lv_at hl 0 rfl) ?_
              refine g_get F hP 9 21 0 (by decide) Nat.zero_lt_one (by decide) (v := .ref (xL X 40 0)) rfl w_894 d_Md_without_132 ?_
              refine lv_iconst (v := 4) F.1 F.2.1 d_Md_without_135 (by decide) ?_
              refine lv_aload_n F.1 F.2.1 d_Md_without_136 rfl (lv_at hl 0 rfl) ?_
              refine g_get F hP 9 19 0 (by decide) Nat.zero_lt_one (by decide) (v := .int (gi σ53 9 0 19)) rfl w_892 d_Md_without_137 ?_
              refine lv_imul F.1 F.2.1 d_Md_without_140 ?_
              refine lv_iload F.1 F.2.1 d_Md_without_141 (lv_at hl 4 rfl) ?_
              refine lv_iadd F.1 F.2.1 d_Md_without_143 ?_
              refine lv_aload_n F.1 F.2.1 d_Md_without_144 rfl (lv_at hl 0 rfl) ?_
              refine g_get F hP 9 12 0 (by decide) Nat.zero_lt_one (by decide) (v := .ref (xL X 34 0)) rfl w_885 d_Md_without_145 ?_
              refine lv_iload_n F.1 F.2.1 d_Md_without_148 rfl (lv_at hl 2 rfl) ?_
              refine lv_iload F.1 F.2.1 d_Md_without_149 (lv_at hl 4 rfl) ?_
              refine lv_iadd F.1 F.2.1 d_Md_without_151 ?_
              obtain ⟨hc57, hb_125⟩ := chk_some hb_125
              refine g_lld F hP 34 (by decide) (by decide) Nat.zero_lt_one rfl rfl hc57 d_Md_without_152 ?_
              obtain ⟨hc58, hb_125⟩ := chk_some hb_125
              obtain ⟨σ59, e_σ59, hb_125⟩ := lt_some hb_125
              refine g_lst F hP 40 (by decide) (by decide) Nat.zero_lt_one rfl rfl hc58 d_Md_without_153 e_σ59 (fun H locs hP => ?_)
              refine lv_aload_n F.1 F.2.1 d_Md_without_154 rfl (lv_at hl 0 rfl) ?_
              refine g_get F hP 9 22 0 (by decide) Nat.zero_lt_one (by decide) (v := .ref (xL X 41 0)) rfl w_895 d_Md_without_155 ?_
              refine lv_iconst (v := 4) F.1 F.2.1 d_Md_without_158 (by decide) ?_
              refine lv_aload_n F.1 F.2.1 d_Md_without_159 rfl (lv_at hl 0 rfl) ?_
              refine g_get F hP 9 19 0 (by decide) Nat.zero_lt_one (by decide) (v := .int (gi σ59 9 0 19)) rfl w_892 d_Md_without_160 ?_
              refine lv_imul F.1 F.2.1 d_Md_without_163 ?_
              refine lv_iload F.1 F.2.1 d_Md_without_164 (lv_at hl 4 rfl) ?_
              refine lv_iadd F.1 F.2.1 d_Md_without_166 ?_
              refine lv_aload_n F.1 F.2.1 d_Md_without_167 rfl (lv_at hl 0 rfl) ?_
              refine g_get F hP 9 13 0 (by decide) Nat.zero_lt_one (by decide) (v := .ref (xL X 35 0)) rfl w_886 d_Md_without_168 ?_
              refine lv_iload_n F.1 F.2.1 d_Md_without_171 rfl (lv_at hl 2 rfl) ?_
              refine lv_iload F.1 F.2.1 d_Md_without_172 (lv_at hl 4 rfl) ?_
              refine lv_iadd F.1 F.2.1 d_Md_without_174 ?_
              obtain ⟨hc60, hb_125⟩ := chk_some hb_125
              refine g_zld F hP 35 (by decide) (by decide) Nat.zero_lt_one rfl rfl hc60 d_Md_without_175 ?_
              obtain ⟨hc61, hb_125⟩ := chk_some hb_125
              obtain ⟨σ62, e_σ62, hb_125⟩ := lt_some hb_125
              refine g_zst F hP 41 (by decide) (by decide) Nat.zero_lt_one rfl rfl hc61 d_Md_without_176 e_σ62 (fun H locs hP => ?_)
              obtain ⟨x63, e_x63, hb_125⟩ := lt_some hb_125
              refine lv_iinc (k := 4) (v := x63) F.1 F.2.1 d_Md_without_177 hl rfl (by rw [e_x63]; rfl) (by decide) rfl (fun ls hl => ?_)
              have hl : lv_has ls 6 [(5, .int x63), (0, .ref (xL X 9 0)), (1, .int a1), (2, .int a2), (3, .int a3)] := hl
              refine lv_goto F.1 F.2.1 d_Md_without_180 rfl ?_
              cases hb_125
              exact hI55 _ rfl _ _ _ (lv_sub hl [1, 2, 3, 4, 0] rfl) hP
        · rw [if_pos hb91] at hf
          refine lv_aload_n F.1 F.2.1 d_Md_without_61 rfl (lv_at hl 0 rfl) ?_
          refine lv_iload F.1 F.2.1 d_Md_without_62 (lv_at hl 4 rfl) ?_
          refine lv_aload_n F.1 F.2.1 d_Md_without_64 rfl (lv_at hl 0 rfl) ?_
          refine g_get F hP 9 13 0 (by decide) Nat.zero_lt_one (by decide) (v := .ref (xL X 35 0)) rfl w_886 d_Md_without_65 ?_
          refine lv_iload_n F.1 F.2.1 d_Md_without_68 rfl (lv_at hl 2 rfl) ?_
          obtain ⟨hc75, hf⟩ := chk_some hf
          refine g_zld F hP 35 (by decide) (by decide) Nat.zero_lt_one rfl rfl hc75 d_Md_without_69 ?_
          obtain ⟨x76, hj78, hf⟩ := bnd_some hf
          have KJ77 : ∀ (ls : Array Slot) (H : Heap) (locs : List Loc), lv_has ls 6 [(0, .ref (xL X 9 0)), (1, .int a1), (2, .int a2), (3, .int a3)] → St X n σ s.heap H locs → WG l X n rm_Md_without σ' (some (.int r)) p e s m args below meth c H locs (F0 m 87 ls [.int x76, .int a4, .ref (xL X 9 0)]) := by
            intro ls H locs hl hP
            refine lv_aload_n F.1 F.2.1 d_Md_without_87 rfl (lv_at hl 0 rfl) ?_
            refine g_get F hP 9 12 0 (by decide) Nat.zero_lt_one (by decide) (v := .ref (xL X 34 0)) rfl w_885 d_Md_without_88 ?_
            refine lv_iload_n F.1 F.2.1 d_Md_without_91 rfl (lv_at hl 2 rfl) ?_
            obtain ⟨hc82, hf⟩ := chk_some hf
            refine g_lld F hP 34 (by decide) (by decide) Nat.zero_lt_one rfl rfl hc82 d_Md_without_92 ?_
            refine lv_aload_n F.1 F.2.1 d_Md_without_93 rfl (lv_at hl 0 rfl) ?_
            refine g_get F hP 9 12 0 (by decide) Nat.zero_lt_one (by decide) (v := .ref (xL X 34 0)) rfl w_885 d_Md_without_94 ?_
            refine lv_iload_n F.1 F.2.1 d_Md_without_97 rfl (lv_at hl 3 rfl) ?_
            obtain ⟨hc83, hf⟩ := chk_some hf
            refine g_lld F hP 34 (by decide) (by decide) Nat.zero_lt_one rfl rfl hc83 d_Md_without_98 ?_
            refine lv_ladd F.1 F.2.1 d_Md_without_99 ?_
            obtain ⟨σ84, hk85, hf⟩ := bnd_some hf
            refine g_callV (As := [.int a4, .int x76, .long ((gj σ 34 0 a2.toNatClampNeg) + (gj σ 34 0 a3.toNatClampNeg))]) (rest := []) F hP 9 0 (by decide) Nat.zero_lt_one (c_Md_keep l X n  hk85) rfl q_Md_keep w_1071 w_11 w_1068 w_1070 wp_43 ⟨rfl, rfl⟩ ⟨by decide, by decide⟩ hl.1 (Nat.le_of_ble_eq_true rfl) ⟨Nat.zero_le _, Nat.zero_le _⟩ d_Md_without_100 rfl (fun H locs hP => ?_)
            refine W.eq (g2 := F0 m 103 ls []) rfl ?_
            refine lv_goto F.1 F.2.1 d_Md_without_103 rfl ?_
            refine lv_iload_n F.1 F.2.1 d_Md_without_292 rfl (lv_at hl 1 rfl) ?_
            refine lv_bipush (v := 19) F.1 F.2.1 d_Md_without_293 (by decide) ?_
            obtain ⟨x86, hj88, hf⟩ := lt_some2 hf
            have KJ87 : ∀ (ls : Array Slot) (H : Heap) (locs : List Loc), lv_has ls 6 [] → St X n σ84 s.heap H locs → WG l X n rm_Md_without σ' (some (.int r)) p e s m args below meth c H locs (F0 m 303 ls [.int x86]) := by
              intro ls H locs hl hP
              obtain ⟨hz90, hf⟩ := chk_some hf
              cases hf
              exact g_zret F hP hr hlk hz90 d_Md_without_303
            refine lv_icmp_ne F.1 F.2.1 d_Md_without_295 rfl (fun hb89 => ?_) (fun hb89 => ?_)
            · rw [if_neg hb89] at hj88
              refine lv_iconst (v := 0) F.1 F.2.1 d_Md_without_302 (by decide) ?_
              subst hj88
              exact KJ87 _ _ _ (lv_sub hl [] rfl) hP
            · rw [if_pos hb89] at hj88
              refine lv_iconst (v := 1) F.1 F.2.1 d_Md_without_298 (by decide) ?_
              refine lv_goto F.1 F.2.1 d_Md_without_299 rfl ?_
              subst hj88
              exact KJ87 _ _ _ (lv_sub hl [] rfl) hP
          refine lv_if_eq F.1 F.2.1 d_Md_without_70 rfl (fun hb81 => ?_) (fun hb81 => ?_)
          · rw [if_pos hb81] at hj78
            refine lv_iconst (v := 0) F.1 F.2.1 d_Md_without_86 (by decide) ?_
            cases hj78
            exact KJ77 _ _ _ (lv_sub hl [0, 1, 2, 3] rfl) hP
          · rw [if_neg hb81] at hj78
            refine lv_aload_n F.1 F.2.1 d_Md_without_73 rfl (lv_at hl 0 rfl) ?_
            refine g_get F hP 9 13 0 (by decide) Nat.zero_lt_one (by decide) (v := .ref (xL X 35 0)) rfl w_886 d_Md_without_74 ?_
            refine lv_iload_n F.1 F.2.1 d_Md_without_77 rfl (lv_at hl 3 rfl) ?_
            obtain ⟨hc79, hj78⟩ := chk_some hj78
            refine g_zld F hP 35 (by decide) (by decide) Nat.zero_lt_one rfl rfl hc79 d_Md_without_78 ?_
            refine lv_if_eq F.1 F.2.1 d_Md_without_79 rfl (fun hb80 => ?_) (fun hb80 => ?_)
            · rw [if_pos hb80] at hj78
              refine lv_iconst (v := 0) F.1 F.2.1 d_Md_without_86 (by decide) ?_
              cases hj78
              exact KJ77 _ _ _ (lv_sub hl [0, 1, 2, 3] rfl) hP
            · rw [if_neg hb80] at hj78
              refine lv_iconst (v := 1) F.1 F.2.1 d_Md_without_82 (by decide) ?_
              refine lv_goto F.1 F.2.1 d_Md_without_83 rfl ?_
              cases hj78
              exact KJ77 _ _ _ (lv_sub hl [0, 1, 2, 3] rfl) hP
      · rw [if_pos hb99] at hf
        refine lv_aload_n F.1 F.2.1 d_Md_without_45 rfl (lv_at hl 0 rfl) ?_
        refine lv_iload_n F.1 F.2.1 d_Md_without_46 rfl (lv_at hl 2 rfl) ?_
        refine lv_iconst (v := 0) F.1 F.2.1 d_Md_without_47 (by decide) ?_
        refine lv_lconst (v := 0) F.1 F.2.1 d_Md_without_48 (by decide) ?_
        obtain ⟨σ92, hk93, hf⟩ := bnd_some hf
        refine g_callV (As := [.int a2, .int 0, .long 0]) (rest := []) F hP 9 0 (by decide) Nat.zero_lt_one (c_Md_keep l X n  hk93) rfl q_Md_keep w_1071 w_11 w_1068 w_1070 wp_43 ⟨rfl, rfl⟩ ⟨by decide, by decide⟩ hl.1 (Nat.le_of_ble_eq_true rfl) ⟨Nat.zero_le _, Nat.zero_le _⟩ d_Md_without_49 rfl (fun H locs hP => ?_)
        refine W.eq (g2 := F0 m 52 ls []) rfl ?_
        refine lv_goto F.1 F.2.1 d_Md_without_52 rfl ?_
        refine lv_iload_n F.1 F.2.1 d_Md_without_292 rfl (lv_at hl 1 rfl) ?_
        refine lv_bipush (v := 19) F.1 F.2.1 d_Md_without_293 (by decide) ?_
        obtain ⟨x94, hj96, hf⟩ := lt_some2 hf
        have KJ95 : ∀ (ls : Array Slot) (H : Heap) (locs : List Loc), lv_has ls 6 [] → St X n σ92 s.heap H locs → WG l X n rm_Md_without σ' (some (.int r)) p e s m args below meth c H locs (F0 m 303 ls [.int x94]) := by
          intro ls H locs hl hP
          obtain ⟨hz98, hf⟩ := chk_some hf
          cases hf
          exact g_zret F hP hr hlk hz98 d_Md_without_303
        refine lv_icmp_ne F.1 F.2.1 d_Md_without_295 rfl (fun hb97 => ?_) (fun hb97 => ?_)
        · rw [if_neg hb97] at hj96
          refine lv_iconst (v := 0) F.1 F.2.1 d_Md_without_302 (by decide) ?_
          subst hj96
          exact KJ95 _ _ _ (lv_sub hl [] rfl) hP
        · rw [if_pos hb97] at hj96
          refine lv_iconst (v := 1) F.1 F.2.1 d_Md_without_298 (by decide) ?_
          refine lv_goto F.1 F.2.1 d_Md_without_299 rfl ?_
          subst hj96
          exact KJ95 _ _ _ (lv_sub hl [] rfl) hP
    · rw [if_pos hb107] at hf
      refine lv_aload_n F.1 F.2.1 d_Md_without_28 rfl (lv_at hl 0 rfl) ?_
      refine lv_iload_n F.1 F.2.1 d_Md_without_29 rfl (lv_at hl 3 rfl) ?_
      refine lv_iconst (v := 1) F.1 F.2.1 d_Md_without_30 (by decide) ?_
      refine lv_iload_n F.1 F.2.1 d_Md_without_31 rfl (lv_at hl 2 rfl) ?_
      refine lv_i2l F.1 F.2.1 d_Md_without_32 rfl ?_
      obtain ⟨σ100, hk101, hf⟩ := bnd_some hf
      refine g_callV (As := [.int a3, .int 1, .long a2.toInt64]) (rest := []) F hP 9 0 (by decide) Nat.zero_lt_one (c_Md_keep l X n  hk101) rfl q_Md_keep w_1071 w_11 w_1068 w_1070 wp_43 ⟨rfl, rfl⟩ ⟨by decide, by decide⟩ hl.1 (Nat.le_of_ble_eq_true rfl) ⟨Nat.zero_le _, Nat.zero_le _⟩ d_Md_without_33 rfl (fun H locs hP => ?_)
      refine W.eq (g2 := F0 m 36 ls []) rfl ?_
      refine lv_goto F.1 F.2.1 d_Md_without_36 rfl ?_
      refine lv_iload_n F.1 F.2.1 d_Md_without_292 rfl (lv_at hl 1 rfl) ?_
      refine lv_bipush (v := 19) F.1 F.2.1 d_Md_without_293 (by decide) ?_
      obtain ⟨x102, hj104, hf⟩ := lt_some2 hf
      have KJ103 : ∀ (ls : Array Slot) (H : Heap) (locs : List Loc), lv_has ls 6 [] → St X n σ100 s.heap H locs → WG l X n rm_Md_without σ' (some (.int r)) p e s m args below meth c H locs (F0 m 303 ls [.int x102]) := by
        intro ls H locs hl hP
        obtain ⟨hz106, hf⟩ := chk_some hf
        cases hf
        exact g_zret F hP hr hlk hz106 d_Md_without_303
      refine lv_icmp_ne F.1 F.2.1 d_Md_without_295 rfl (fun hb105 => ?_) (fun hb105 => ?_)
      · rw [if_neg hb105] at hj104
        refine lv_iconst (v := 0) F.1 F.2.1 d_Md_without_302 (by decide) ?_
        subst hj104
        exact KJ103 _ _ _ (lv_sub hl [] rfl) hP
      · rw [if_pos hb105] at hj104
        refine lv_iconst (v := 1) F.1 F.2.1 d_Md_without_298 (by decide) ?_
        refine lv_goto F.1 F.2.1 d_Md_without_299 rfl ?_
        subst hj104
        exact KJ103 _ _ _ (lv_sub hl [] rfl) hP
  · rw [if_pos hb117] at hf
    refine lv_aload_n F.1 F.2.1 d_Md_without_5 rfl (lv_at hl 0 rfl) ?_
    refine g_get F hP 9 14 0 (by decide) Nat.zero_lt_one (by decide) (v := .ref (xL X 36 0)) rfl w_887 d_Md_without_6 ?_
    refine lv_iload_n F.1 F.2.1 d_Md_without_9 rfl (lv_at hl 2 rfl) ?_
    refine lv_iload_n F.1 F.2.1 d_Md_without_10 rfl (lv_at hl 3 rfl) ?_
    obtain ⟨hc108, hf⟩ := chk_some hf
    obtain ⟨σ109, e_σ109, hf⟩ := lt_some hf
    refine g_ast F hP 36 (by decide) (by decide) Nat.zero_lt_one rfl rfl hc108 d_Md_without_11 e_σ109 (fun H locs hP => ?_)
    refine lv_aload_n F.1 F.2.1 d_Md_without_12 rfl (lv_at hl 0 rfl) ?_
    refine g_get F hP 9 15 0 (by decide) Nat.zero_lt_one (by decide) (v := .ref (xL X 37 0)) rfl w_888 d_Md_without_13 ?_
    refine lv_iload_n F.1 F.2.1 d_Md_without_16 rfl (lv_at hl 2 rfl) ?_
    refine lv_iconst (v := 0) F.1 F.2.1 d_Md_without_17 (by decide) ?_
    obtain ⟨hc110, hf⟩ := chk_some hf
    obtain ⟨σ111, e_σ111, hf⟩ := lt_some hf
    refine g_zst F hP 37 (by decide) (by decide) Nat.zero_lt_one rfl rfl hc110 d_Md_without_18 e_σ111 (fun H locs hP => ?_)
    refine lv_goto F.1 F.2.1 d_Md_without_19 rfl ?_
    refine lv_iload_n F.1 F.2.1 d_Md_without_292 rfl (lv_at hl 1 rfl) ?_
    refine lv_bipush (v := 19) F.1 F.2.1 d_Md_without_293 (by decide) ?_
    obtain ⟨x112, hj114, hf⟩ := lt_some2 hf
    have KJ113 : ∀ (ls : Array Slot) (H : Heap) (locs : List Loc), lv_has ls 6 [] → St X n σ111 s.heap H locs → WG l X n rm_Md_without σ' (some (.int r)) p e s m args below meth c H locs (F0 m 303 ls [.int x112]) := by
      intro ls H locs hl hP
      obtain ⟨hz116, hf⟩ := chk_some hf
      cases hf
      exact g_zret F hP hr hlk hz116 d_Md_without_303
    refine lv_icmp_ne F.1 F.2.1 d_Md_without_295 rfl (fun hb115 => ?_) (fun hb115 => ?_)
    · rw [if_neg hb115] at hj114
      refine lv_iconst (v := 0) F.1 F.2.1 d_Md_without_302 (by decide) ?_
      subst hj114
      exact KJ113 _ _ _ (lv_sub hl [] rfl) hP
    · rw [if_pos hb115] at hj114
      refine lv_iconst (v := 1) F.1 F.2.1 d_Md_without_298 (by decide) ?_
      refine lv_goto F.1 F.2.1 d_Md_without_299 rfl ?_
      subst hj114
      exact KJ113 _ _ _ (lv_sub hl [] rfl) hP

theorem d_Md_step_0 : decode b_Md_step 0 = .ok (.aload_n 0, 1) := by decide +kernel
theorem d_Md_step_1 : decode b_Md_step 1 = .ok (.getfield 33, 3) := by decide +kernel
theorem d_Md_step_4 : decode b_Md_step 4 = .ok (.iconst 4, 1) := by decide +kernel
theorem d_Md_step_5 : decode b_Md_step 5 = .ok (.aload_n 0, 1) := by decide +kernel
theorem d_Md_step_6 : decode b_Md_step 6 = .ok (.getfield 149, 3) := by decide +kernel
theorem d_Md_step_9 : decode b_Md_step 9 = .ok (.imul, 1) := by decide +kernel
theorem d_Md_step_10 : decode b_Md_step 10 = .ok (.iaload, 1) := by decide +kernel
theorem d_Md_step_11 : decode b_Md_step 11 = .ok (.istore_n 1, 1) := by decide +kernel
theorem d_Md_step_12 : decode b_Md_step 12 = .ok (.aload_n 0, 1) := by decide +kernel
theorem d_Md_step_13 : decode b_Md_step 13 = .ok (.getfield 33, 3) := by decide +kernel
theorem d_Md_step_16 : decode b_Md_step 16 = .ok (.iconst 4, 1) := by decide +kernel
theorem d_Md_step_17 : decode b_Md_step 17 = .ok (.aload_n 0, 1) := by decide +kernel
theorem d_Md_step_18 : decode b_Md_step 18 = .ok (.getfield 149, 3) := by decide +kernel
theorem d_Md_step_21 : decode b_Md_step 21 = .ok (.imul, 1) := by decide +kernel
theorem d_Md_step_22 : decode b_Md_step 22 = .ok (.iconst 1, 1) := by decide +kernel
theorem d_Md_step_23 : decode b_Md_step 23 = .ok (.iadd, 1) := by decide +kernel
theorem d_Md_step_24 : decode b_Md_step 24 = .ok (.iaload, 1) := by decide +kernel
theorem d_Md_step_25 : decode b_Md_step 25 = .ok (.istore_n 2, 1) := by decide +kernel
theorem d_Md_step_26 : decode b_Md_step 26 = .ok (.aload_n 0, 1) := by decide +kernel
theorem d_Md_step_27 : decode b_Md_step 27 = .ok (.getfield 33, 3) := by decide +kernel
theorem d_Md_step_30 : decode b_Md_step 30 = .ok (.iconst 4, 1) := by decide +kernel
theorem d_Md_step_31 : decode b_Md_step 31 = .ok (.aload_n 0, 1) := by decide +kernel
theorem d_Md_step_32 : decode b_Md_step 32 = .ok (.getfield 149, 3) := by decide +kernel
theorem d_Md_step_35 : decode b_Md_step 35 = .ok (.imul, 1) := by decide +kernel
theorem d_Md_step_36 : decode b_Md_step 36 = .ok (.iconst 2, 1) := by decide +kernel
theorem d_Md_step_37 : decode b_Md_step 37 = .ok (.iadd, 1) := by decide +kernel
theorem d_Md_step_38 : decode b_Md_step 38 = .ok (.iaload, 1) := by decide +kernel
theorem d_Md_step_39 : decode b_Md_step 39 = .ok (.istore_n 3, 1) := by decide +kernel
theorem d_Md_step_40 : decode b_Md_step 40 = .ok (.aload_n 0, 1) := by decide +kernel
theorem d_Md_step_41 : decode b_Md_step 41 = .ok (.getfield 33, 3) := by decide +kernel
theorem d_Md_step_44 : decode b_Md_step 44 = .ok (.iconst 4, 1) := by decide +kernel
theorem d_Md_step_45 : decode b_Md_step 45 = .ok (.aload_n 0, 1) := by decide +kernel
theorem d_Md_step_46 : decode b_Md_step 46 = .ok (.getfield 149, 3) := by decide +kernel
theorem d_Md_step_49 : decode b_Md_step 49 = .ok (.imul, 1) := by decide +kernel
theorem d_Md_step_50 : decode b_Md_step 50 = .ok (.iconst 3, 1) := by decide +kernel
theorem d_Md_step_51 : decode b_Md_step 51 = .ok (.iadd, 1) := by decide +kernel
theorem d_Md_step_52 : decode b_Md_step 52 = .ok (.iaload, 1) := by decide +kernel
theorem d_Md_step_53 : decode b_Md_step 53 = .ok (.istore 4, 2) := by decide +kernel
theorem d_Md_step_55 : decode b_Md_step 55 = .ok (.iload_n 1, 1) := by decide +kernel
theorem d_Md_step_56 : decode b_Md_step 56 = .ok (.ifCond .ne 5, 3) := by decide +kernel
theorem d_Md_step_59 : decode b_Md_step 59 = .ok (.iconst 0, 1) := by decide +kernel
theorem d_Md_step_60 : decode b_Md_step 60 = .ok (.ireturn, 1) := by decide +kernel
theorem d_Md_step_61 : decode b_Md_step 61 = .ok (.iload_n 1, 1) := by decide +kernel
theorem d_Md_step_62 : decode b_Md_step 62 = .ok (.invokestatic 152, 3) := by decide +kernel
theorem d_Md_step_65 : decode b_Md_step 65 = .ok (.ifCond .eq 19, 3) := by decide +kernel
theorem d_Md_step_68 : decode b_Md_step 68 = .ok (.aload_n 0, 1) := by decide +kernel
theorem d_Md_step_69 : decode b_Md_step 69 = .ok (.getfield 42, 3) := by decide +kernel
theorem d_Md_step_72 : decode b_Md_step 72 = .ok (.iload_n 2, 1) := by decide +kernel
theorem d_Md_step_73 : decode b_Md_step 73 = .ok (.iaload, 1) := by decide +kernel
theorem d_Md_step_74 : decode b_Md_step 74 = .ok (.ifCond .ge 10, 3) := by decide +kernel
theorem d_Md_step_77 : decode b_Md_step 77 = .ok (.aload_n 0, 1) := by decide +kernel
theorem d_Md_step_78 : decode b_Md_step 78 = .ok (.iconst 3, 1) := by decide +kernel
theorem d_Md_step_79 : decode b_Md_step 79 = .ok (.putfield 155, 3) := by decide +kernel
theorem d_Md_step_82 : decode b_Md_step 82 = .ok (.iconst 0, 1) := by decide +kernel
theorem d_Md_step_83 : decode b_Md_step 83 = .ok (.ireturn, 1) := by decide +kernel
theorem d_Md_step_84 : decode b_Md_step 84 = .ok (.iload_n 1, 1) := by decide +kernel
theorem d_Md_step_85 : decode b_Md_step 85 = .ok (.bipush 18, 2) := by decide +kernel
theorem d_Md_step_87 : decode b_Md_step 87 = .ok (.if_icmp .ne 19, 3) := by decide +kernel
theorem d_Md_step_90 : decode b_Md_step 90 = .ok (.aload_n 0, 1) := by decide +kernel
theorem d_Md_step_91 : decode b_Md_step 91 = .ok (.getfield 142, 3) := by decide +kernel
theorem d_Md_step_94 : decode b_Md_step 94 = .ok (.bipush 64, 2) := by decide +kernel
theorem d_Md_step_96 : decode b_Md_step 96 = .ok (.if_icmp .ne 10, 3) := by decide +kernel
theorem d_Md_step_99 : decode b_Md_step 99 = .ok (.aload_n 0, 1) := by decide +kernel
theorem d_Md_step_100 : decode b_Md_step 100 = .ok (.iconst 2, 1) := by decide +kernel
theorem d_Md_step_101 : decode b_Md_step 101 = .ok (.putfield 155, 3) := by decide +kernel
theorem d_Md_step_104 : decode b_Md_step 104 = .ok (.iconst 0, 1) := by decide +kernel
theorem d_Md_step_105 : decode b_Md_step 105 = .ok (.ireturn, 1) := by decide +kernel
theorem d_Md_step_106 : decode b_Md_step 106 = .ok (.iload_n 1, 1) := by decide +kernel
theorem d_Md_step_107 : decode b_Md_step 107 = .ok (.invokestatic 152, 3) := by decide +kernel
theorem d_Md_step_110 : decode b_Md_step 110 = .ok (.ifCond .eq 15, 3) := by decide +kernel
theorem d_Md_step_113 : decode b_Md_step 113 = .ok (.aload_n 0, 1) := by decide +kernel
theorem d_Md_step_114 : decode b_Md_step 114 = .ok (.iload_n 1, 1) := by decide +kernel
theorem d_Md_step_115 : decode b_Md_step 115 = .ok (.iload_n 2, 1) := by decide +kernel
theorem d_Md_step_116 : decode b_Md_step 116 = .ok (.iload_n 3, 1) := by decide +kernel
theorem d_Md_step_117 : decode b_Md_step 117 = .ok (.iload 4, 2) := by decide +kernel
theorem d_Md_step_119 : decode b_Md_step 119 = .ok (.invokevirtual 158, 3) := by decide +kernel
theorem d_Md_step_122 : decode b_Md_step 122 = .ok (.goto 12, 3) := by decide +kernel
theorem d_Md_step_125 : decode b_Md_step 125 = .ok (.aload_n 0, 1) := by decide +kernel
theorem d_Md_step_126 : decode b_Md_step 126 = .ok (.iload_n 1, 1) := by decide +kernel
theorem d_Md_step_127 : decode b_Md_step 127 = .ok (.iload_n 2, 1) := by decide +kernel
theorem d_Md_step_128 : decode b_Md_step 128 = .ok (.iload_n 3, 1) := by decide +kernel
theorem d_Md_step_129 : decode b_Md_step 129 = .ok (.iload 4, 2) := by decide +kernel
theorem d_Md_step_131 : decode b_Md_step 131 = .ok (.invokevirtual 161, 3) := by decide +kernel
theorem d_Md_step_134 : decode b_Md_step 134 = .ok (.istore 5, 2) := by decide +kernel
theorem d_Md_step_136 : decode b_Md_step 136 = .ok (.aload_n 0, 1) := by decide +kernel
theorem d_Md_step_137 : decode b_Md_step 137 = .ok (.iload 5, 2) := by decide +kernel
theorem d_Md_step_139 : decode b_Md_step 139 = .ok (.ifCond .eq 19, 3) := by decide +kernel
theorem d_Md_step_142 : decode b_Md_step 142 = .ok (.iload_n 1, 1) := by decide +kernel
theorem d_Md_step_143 : decode b_Md_step 143 = .ok (.invokestatic 125, 3) := by decide +kernel
theorem d_Md_step_146 : decode b_Md_step 146 = .ok (.iconst 1, 1) := by decide +kernel
theorem d_Md_step_147 : decode b_Md_step 147 = .ok (.if_icmp .ne 7, 3) := by decide +kernel
theorem d_Md_step_150 : decode b_Md_step 150 = .ok (.iload_n 2, 1) := by decide +kernel
theorem d_Md_step_151 : decode b_Md_step 151 = .ok (.goto 13, 3) := by decide +kernel
theorem d_Md_step_154 : decode b_Md_step 154 = .ok (.iload_n 3, 1) := by decide +kernel
theorem d_Md_step_155 : decode b_Md_step 155 = .ok (.goto 9, 3) := by decide +kernel
theorem d_Md_step_158 : decode b_Md_step 158 = .ok (.aload_n 0, 1) := by decide +kernel
theorem d_Md_step_159 : decode b_Md_step 159 = .ok (.getfield 149, 3) := by decide +kernel
theorem d_Md_step_162 : decode b_Md_step 162 = .ok (.iconst 1, 1) := by decide +kernel
theorem d_Md_step_163 : decode b_Md_step 163 = .ok (.iadd, 1) := by decide +kernel
theorem d_Md_step_164 : decode b_Md_step 164 = .ok (.putfield 149, 3) := by decide +kernel
theorem d_Md_step_167 : decode b_Md_step 167 = .ok (.iconst 1, 1) := by decide +kernel
theorem d_Md_step_168 : decode b_Md_step 168 = .ok (.ireturn, 1) := by decide +kernel
noncomputable def f_Md_step  (σ : Sg) : Option (Int32 × Sg) :=
  chk (vp_in (4 * (gi σ 9 0 18)) 240) (lt_ (gi σ 33 0 ((4 * (gi σ 9 0 18)).toNatClampNeg) : Int32) (fun (x2 : Int32) => chk (vp_in ((4 * (gi σ 9 0 18)) + 1) 240) (lt_ (gi σ 33 0 (((4 * (gi σ 9 0 18)) + 1).toNatClampNeg) : Int32) (fun (x4 : Int32) => chk (vp_in ((4 * (gi σ 9 0 18)) + 2) 240) (lt_ (gi σ 33 0 (((4 * (gi σ 9 0 18)) + 2).toNatClampNeg) : Int32) (fun (x6 : Int32) => chk (vp_in ((4 * (gi σ 9 0 18)) + 3) 240) (lt_ (gi σ 33 0 (((4 * (gi σ 9 0 18)) + 3).toNatClampNeg) : Int32) (fun (x8 : Int32) => (if x2 = 0 then (some (0, σ)) else (bn2 (f_Md_needsOpen x2 σ) (fun r11 σ9 => (if r11 = 0 then (if x2 = 18 then (if (gi σ9 9 0 19) = 64 then (lt_ (si σ9 9 0 17 2) (fun σ60 => some (0, σ60))) else (bn2 (f_Md_needsOpen x2 σ9) (fun r38 σ36 => bn2 (if r38 = 0 then (bn2 (f_Md_without x2 x4 x6 x8 σ36) (fun r45 σ43 => some (r45, σ43))) else (bn2 (f_Md_withCursor x2 x4 x6 x8 σ36) (fun r48 σ46 => some (r48, σ46)))) (fun (x39 : Int32) (σ40 : Sg) => bn2 (if x39 = 0 then (some ((gi σ40 9 0 18) + 1, σ40)) else (bn2 (f_Md_goal x2 σ40) (fun r56 σ54 => (if r56 = 1 then (some (x4, σ54)) else (some (x6, σ54)))))) (fun (x50 : Int32) (σ51 : Sg) => lt_ (si σ51 9 0 18 x50) (fun σ59 => some (1, σ59))))))) else (bn2 (f_Md_needsOpen x2 σ9) (fun r14 σ12 => bn2 (if r14 = 0 then (bn2 (f_Md_without x2 x4 x6 x8 σ12) (fun r21 σ19 => some (r21, σ19))) else (bn2 (f_Md_withCursor x2 x4 x6 x8 σ12) (fun r24 σ22 => some (r24, σ22)))) (fun (x15 : Int32) (σ16 : Sg) => bn2 (if x15 = 0 then (some ((gi σ16 9 0 18) + 1, σ16)) else (bn2 (f_Md_goal x2 σ16) (fun r32 σ30 => (if r32 = 1 then (some (x4, σ30)) else (some (x6, σ30)))))) (fun (x26 : Int32) (σ27 : Sg) => lt_ (si σ27 9 0 18 x26) (fun σ35 => some (1, σ35))))))) else (chk (vp_in x4 3) ((if 0 ≤ (gi σ9 36 0 x4.toNatClampNeg) then (if x2 = 18 then (if (gi σ9 9 0 19) = 64 then (lt_ (si σ9 9 0 17 2) (fun σ112 => some (0, σ112))) else (bn2 (f_Md_needsOpen x2 σ9) (fun r90 σ88 => bn2 (if r90 = 0 then (bn2 (f_Md_without x2 x4 x6 x8 σ88) (fun r97 σ95 => some (r97, σ95))) else (bn2 (f_Md_withCursor x2 x4 x6 x8 σ88) (fun r100 σ98 => some (r100, σ98)))) (fun (x91 : Int32) (σ92 : Sg) => bn2 (if x91 = 0 then (some ((gi σ92 9 0 18) + 1, σ92)) else (bn2 (f_Md_goal x2 σ92) (fun r108 σ106 => (if r108 = 1 then (some (x4, σ106)) else (some (x6, σ106)))))) (fun (x102 : Int32) (σ103 : Sg) => lt_ (si σ103 9 0 18 x102) (fun σ111 => some (1, σ111))))))) else (bn2 (f_Md_needsOpen x2 σ9) (fun r66 σ64 => bn2 (if r66 = 0 then (bn2 (f_Md_without x2 x4 x6 x8 σ64) (fun r73 σ71 => some (r73, σ71))) else (bn2 (f_Md_withCursor x2 x4 x6 x8 σ64) (fun r76 σ74 => some (r76, σ74)))) (fun (x67 : Int32) (σ68 : Sg) => bn2 (if x67 = 0 then (some ((gi σ68 9 0 18) + 1, σ68)) else (bn2 (f_Md_goal x2 σ68) (fun r84 σ82 => (if r84 = 1 then (some (x4, σ82)) else (some (x6, σ82)))))) (fun (x78 : Int32) (σ79 : Sg) => lt_ (si σ79 9 0 18 x78) (fun σ87 => some (1, σ87))))))) else (lt_ (si σ9 9 0 17 3) (fun σ115 => some (0, σ115))))))))))))))))))
abbrev rm_Md_step : Room := { frames := 3, cells := 0, slots := 0, locals := 73 }
set_option maxHeartbeats 4000000 in
set_option maxRecDepth 100000 in
theorem c_Md_step (l : Launch) (X : GX) (n : Nat) {σ σ' : Sg} {r : Int32}   (hf : f_Md_step  σ = some (r, σ')) : Met l y_Md_step (cw y_Md_step b_Md_step 6 (some .boolean)) rm_Md_step (PcG X n σ [.ref (xL X 9 0)]) (QcG X n σ' (some (.int r))) 0 0 (fr X n) := by
  refine g_head (own := "TableMachineModel") (by decide) rfl (Nat.le_of_ble_eq_true rfl) ?_
  intro p e s m args below meth c ls F hr hlk hP hl
  have hl : lv_has ls 6 [(0, .ref (xL X 9 0))] := hl
  show WG l X n rm_Md_step σ' (some (.int r)) p e s m args below meth c s.heap [] (F0 m 0 ls [])
  unfold f_Md_step at hf
  refine lv_aload_n F.1 F.2.1 d_Md_step_0 rfl (lv_at hl 0 rfl) ?_
  refine g_get F hP 9 11 0 (by decide) Nat.zero_lt_one (by decide) (v := .ref (xL X 33 0)) rfl w_884 d_Md_step_1 ?_
  refine lv_iconst (v := 4) F.1 F.2.1 d_Md_step_4 (by decide) ?_
  refine lv_aload_n F.1 F.2.1 d_Md_step_5 rfl (lv_at hl 0 rfl) ?_
  refine g_get F hP 9 18 0 (by decide) Nat.zero_lt_one (by decide) (v := .int (gi σ 9 0 18)) rfl w_891 d_Md_step_6 ?_
  refine lv_imul F.1 F.2.1 d_Md_step_9 ?_
  obtain ⟨hc1, hf⟩ := chk_some hf
  refine g_ald F hP 33 (by decide) (by decide) Nat.zero_lt_one rfl rfl hc1 d_Md_step_10 ?_
  obtain ⟨x2, e_x2, hf⟩ := lt_some hf
  rw [← e_x2]
  refine lv_istore_n F.1 F.2.1 d_Md_step_11 rfl hl (by decide) rfl (fun ls hl => ?_)
  have hl : lv_has ls 6 [(1, .int x2), (0, .ref (xL X 9 0))] := hl
  refine lv_aload_n F.1 F.2.1 d_Md_step_12 rfl (lv_at hl 1 rfl) ?_
  refine g_get F hP 9 11 0 (by decide) Nat.zero_lt_one (by decide) (v := .ref (xL X 33 0)) rfl w_884 d_Md_step_13 ?_
  refine lv_iconst (v := 4) F.1 F.2.1 d_Md_step_16 (by decide) ?_
  refine lv_aload_n F.1 F.2.1 d_Md_step_17 rfl (lv_at hl 1 rfl) ?_
  refine g_get F hP 9 18 0 (by decide) Nat.zero_lt_one (by decide) (v := .int (gi σ 9 0 18)) rfl w_891 d_Md_step_18 ?_
  refine lv_imul F.1 F.2.1 d_Md_step_21 ?_
  refine lv_iconst (v := 1) F.1 F.2.1 d_Md_step_22 (by decide) ?_
  refine lv_iadd F.1 F.2.1 d_Md_step_23 ?_
  obtain ⟨hc3, hf⟩ := chk_some hf
  refine g_ald F hP 33 (by decide) (by decide) Nat.zero_lt_one rfl rfl hc3 d_Md_step_24 ?_
  obtain ⟨x4, e_x4, hf⟩ := lt_some hf
  rw [← e_x4]
  refine lv_istore_n F.1 F.2.1 d_Md_step_25 rfl hl (by decide) rfl (fun ls hl => ?_)
  have hl : lv_has ls 6 [(2, .int x4), (1, .int x2), (0, .ref (xL X 9 0))] := hl
  refine lv_aload_n F.1 F.2.1 d_Md_step_26 rfl (lv_at hl 2 rfl) ?_
  refine g_get F hP 9 11 0 (by decide) Nat.zero_lt_one (by decide) (v := .ref (xL X 33 0)) rfl w_884 d_Md_step_27 ?_
  refine lv_iconst (v := 4) F.1 F.2.1 d_Md_step_30 (by decide) ?_
  refine lv_aload_n F.1 F.2.1 d_Md_step_31 rfl (lv_at hl 2 rfl) ?_
  refine g_get F hP 9 18 0 (by decide) Nat.zero_lt_one (by decide) (v := .int (gi σ 9 0 18)) rfl w_891 d_Md_step_32 ?_
  refine lv_imul F.1 F.2.1 d_Md_step_35 ?_
  refine lv_iconst (v := 2) F.1 F.2.1 d_Md_step_36 (by decide) ?_
  refine lv_iadd F.1 F.2.1 d_Md_step_37 ?_
  obtain ⟨hc5, hf⟩ := chk_some hf
  refine g_ald F hP 33 (by decide) (by decide) Nat.zero_lt_one rfl rfl hc5 d_Md_step_38 ?_
  obtain ⟨x6, e_x6, hf⟩ := lt_some hf
  rw [← e_x6]
  refine lv_istore_n F.1 F.2.1 d_Md_step_39 rfl hl (by decide) rfl (fun ls hl => ?_)
  have hl : lv_has ls 6 [(3, .int x6), (2, .int x4), (1, .int x2), (0, .ref (xL X 9 0))] := hl
  refine lv_aload_n F.1 F.2.1 d_Md_step_40 rfl (lv_at hl 3 rfl) ?_
  refine g_get F hP 9 11 0 (by decide) Nat.zero_lt_one (by decide) (v := .ref (xL X 33 0)) rfl w_884 d_Md_step_41 ?_
  refine lv_iconst (v := 4) F.1 F.2.1 d_Md_step_44 (by decide) ?_
  refine lv_aload_n F.1 F.2.1 d_Md_step_45 rfl (lv_at hl 3 rfl) ?_
  refine g_get F hP 9 18 0 (by decide) Nat.zero_lt_one (by decide) (v := .int (gi σ 9 0 18)) rfl w_891 d_Md_step_46 ?_
  refine lv_imul F.1 F.2.1 d_Md_step_49 ?_
  refine lv_iconst (v := 3) F.1 F.2.1 d_Md_step_50 (by decide) ?_
  refine lv_iadd F.1 F.2.1 d_Md_step_51 ?_
  obtain ⟨hc7, hf⟩ := chk_some hf
  refine g_ald F hP 33 (by decide) (by decide) Nat.zero_lt_one rfl rfl hc7 d_Md_step_52 ?_
  obtain ⟨x8, e_x8, hf⟩ := lt_some hf
  rw [← e_x8]
  refine lv_istore F.1 F.2.1 d_Md_step_53 hl (by decide) rfl (fun ls hl => ?_)
  have hl : lv_has ls 6 [(4, .int x8), (3, .int x6), (2, .int x4), (1, .int x2), (0, .ref (xL X 9 0))] := hl
  refine lv_iload_n F.1 F.2.1 d_Md_step_55 rfl (lv_at hl 3 rfl) ?_
  refine lv_if_ne F.1 F.2.1 d_Md_step_56 rfl (fun hb118 => ?_) (fun hb118 => ?_)
  · rw [if_neg hb118] at hf
    refine lv_iload_n F.1 F.2.1 d_Md_step_61 rfl (lv_at hl 3 rfl) ?_
    obtain ⟨r11, σ9, hk10, hf⟩ := bn2_some hf
    refine g_callS (As := [.int x2]) (rest := []) F hP (c_Md_needsOpen l X n  hk10) ⟨by decide, by decide, q_Md_needsOpen⟩ w_1078 w_11 w_1076 w_1077 ⟨rfl, rfl⟩ ⟨by decide, by decide⟩ hl.1 (Nat.le_of_ble_eq_true rfl) ⟨Nat.zero_le _, Nat.zero_le _⟩ d_Md_step_62 rfl (fun H locs hP => ?_)
    refine W.eq (g2 := F0 m 65 ls [.int r11]) rfl ?_
    refine lv_if_eq F.1 F.2.1 d_Md_step_65 rfl (fun hb117 => ?_) (fun hb117 => ?_)
    · rw [if_pos hb117] at hf
      refine lv_iload_n F.1 F.2.1 d_Md_step_84 rfl (lv_at hl 3 rfl) ?_
      refine lv_bipush (v := 18) F.1 F.2.1 d_Md_step_85 (by decide) ?_
      refine lv_icmp_ne F.1 F.2.1 d_Md_step_87 rfl (fun hb62 => ?_) (fun hb62 => ?_)
      · rw [if_neg hb62] at hf
        refine lv_iload_n F.1 F.2.1 d_Md_step_106 rfl (lv_at hl 3 rfl) ?_
        obtain ⟨r14, σ12, hk13, hf⟩ := bn2_some hf
        refine g_callS (As := [.int x2]) (rest := []) F hP (c_Md_needsOpen l X n  hk13) ⟨by decide, by decide, q_Md_needsOpen⟩ w_1078 w_11 w_1076 w_1077 ⟨rfl, rfl⟩ ⟨by decide, by decide⟩ hl.1 (Nat.le_of_ble_eq_true rfl) ⟨Nat.zero_le _, Nat.zero_le _⟩ d_Md_step_107 rfl (fun H locs hP => ?_)
        refine W.eq (g2 := F0 m 110 ls [.int r14]) rfl ?_
        obtain ⟨x15, σ16, hj18, hf⟩ := bn2_some hf
        have KJ17 : ∀ (ls : Array Slot) (H : Heap) (locs : List Loc), lv_has ls 6 [(0, .ref (xL X 9 0)), (1, .int x2), (2, .int x4), (3, .int x6)] → St X n σ16 s.heap H locs → WG l X n rm_Md_step σ' (some (.int r)) p e s m args below meth c H locs (F0 m 134 ls [.int x15]) := by
          intro ls H locs hl hP
          refine lv_istore F.1 F.2.1 d_Md_step_134 hl (by decide) rfl (fun ls hl => ?_)
          have hl : lv_has ls 6 [(5, .int x15), (0, .ref (xL X 9 0)), (1, .int x2), (2, .int x4), (3, .int x6)] := hl
          refine lv_aload_n F.1 F.2.1 d_Md_step_136 rfl (lv_at hl 1 rfl) ?_
          refine lv_iload F.1 F.2.1 d_Md_step_137 (lv_at hl 0 rfl) ?_
          obtain ⟨x26, σ27, hj29, hf⟩ := bn2_some hf
          have KJ28 : ∀ (ls : Array Slot) (H : Heap) (locs : List Loc), lv_has ls 6 [] → St X n σ27 s.heap H locs → WG l X n rm_Md_step σ' (some (.int r)) p e s m args below meth c H locs (F0 m 164 ls [.int x26, .ref (xL X 9 0)]) := by
            intro ls H locs hl hP
            obtain ⟨σ35, e_σ35, hf⟩ := lt_some hf
            refine g_puti F hP 9 18 0 (by decide) Nat.zero_lt_one (by decide) rfl rfl rfl rfl (Or.inl w_891) d_Md_step_164 e_σ35 (fun H locs hP => ?_)
            refine lv_iconst (v := 1) F.1 F.2.1 d_Md_step_167 (by decide) ?_
            cases hf
            exact g_zret F hP hr hlk zb1 d_Md_step_168
          refine lv_if_eq F.1 F.2.1 d_Md_step_139 rfl (fun hb34 => ?_) (fun hb34 => ?_)
          · rw [if_pos hb34] at hj29
            refine lv_aload_n F.1 F.2.1 d_Md_step_158 rfl (lv_at hl 1 rfl) ?_
            refine g_get F hP 9 18 0 (by decide) Nat.zero_lt_one (by decide) (v := .int (gi σ16 9 0 18)) rfl w_891 d_Md_step_159 ?_
            refine lv_iconst (v := 1) F.1 F.2.1 d_Md_step_162 (by decide) ?_
            refine lv_iadd F.1 F.2.1 d_Md_step_163 ?_
            cases hj29
            exact KJ28 _ _ _ (lv_sub hl [] rfl) hP
          · rw [if_neg hb34] at hj29
            refine lv_iload_n F.1 F.2.1 d_Md_step_142 rfl (lv_at hl 2 rfl) ?_
            obtain ⟨r32, σ30, hk31, hj29⟩ := bn2_some hj29
            refine g_callS (As := [.int x2]) (rest := [.ref (xL X 9 0)]) F hP (c_Md_goal l X n  hk31) ⟨by decide, by decide, q_Md_goal⟩ w_1067 w_11 w_1065 w_1066 ⟨rfl, rfl⟩ ⟨by decide, by decide⟩ hl.1 (Nat.le_of_ble_eq_true rfl) ⟨Nat.zero_le _, Nat.zero_le _⟩ d_Md_step_143 rfl (fun H locs hP => ?_)
            refine W.eq (g2 := F0 m 146 ls [.int r32, .ref (xL X 9 0)]) rfl ?_
            refine lv_iconst (v := 1) F.1 F.2.1 d_Md_step_146 (by decide) ?_
            refine lv_icmp_ne F.1 F.2.1 d_Md_step_147 rfl (fun hb33 => ?_) (fun hb33 => ?_)
            · rw [if_neg hb33] at hj29
              refine lv_iload_n F.1 F.2.1 d_Md_step_154 rfl (lv_at hl 4 rfl) ?_
              refine lv_goto F.1 F.2.1 d_Md_step_155 rfl ?_
              cases hj29
              exact KJ28 _ _ _ (lv_sub hl [] rfl) hP
            · rw [if_pos hb33] at hj29
              refine lv_iload_n F.1 F.2.1 d_Md_step_150 rfl (lv_at hl 3 rfl) ?_
              refine lv_goto F.1 F.2.1 d_Md_step_151 rfl ?_
              cases hj29
              exact KJ28 _ _ _ (lv_sub hl [] rfl) hP
        refine lv_if_eq F.1 F.2.1 d_Md_step_110 rfl (fun hb25 => ?_) (fun hb25 => ?_)
        · rw [if_pos hb25] at hj18
          refine lv_aload_n F.1 F.2.1 d_Md_step_125 rfl (lv_at hl 4 rfl) ?_
          refine lv_iload_n F.1 F.2.1 d_Md_step_126 rfl (lv_at hl 3 rfl) ?_
          refine lv_iload_n F.1 F.2.1 d_Md_step_127 rfl (lv_at hl 2 rfl) ?_
          refine lv_iload_n F.1 F.2.1 d_Md_step_128 rfl (lv_at hl 1 rfl) ?_
          refine lv_iload F.1 F.2.1 d_Md_step_129 (lv_at hl 0 rfl) ?_
          obtain ⟨r21, σ19, hk20, hj18⟩ := bn2_some hj18
          refine g_callV (As := [.int x2, .int x4, .int x6, .int x8]) (rest := []) F hP 9 0 (by decide) Nat.zero_lt_one (c_Md_without l X n  hk20) rfl q_Md_without w_1098 w_11 w_1095 w_1097 wp_49 ⟨rfl, rfl⟩ ⟨by decide, by decide⟩ hl.1 (Nat.le_of_ble_eq_true rfl) ⟨Nat.zero_le _, Nat.zero_le _⟩ d_Md_step_131 rfl (fun H locs hP => ?_)
          refine W.eq (g2 := F0 m 134 ls [.int r21]) rfl ?_
          cases hj18
          exact KJ17 _ _ _ (lv_sub hl [4, 3, 2, 1] rfl) hP
        · rw [if_neg hb25] at hj18
          refine lv_aload_n F.1 F.2.1 d_Md_step_113 rfl (lv_at hl 4 rfl) ?_
          refine lv_iload_n F.1 F.2.1 d_Md_step_114 rfl (lv_at hl 3 rfl) ?_
          refine lv_iload_n F.1 F.2.1 d_Md_step_115 rfl (lv_at hl 2 rfl) ?_
          refine lv_iload_n F.1 F.2.1 d_Md_step_116 rfl (lv_at hl 1 rfl) ?_
          refine lv_iload F.1 F.2.1 d_Md_step_117 (lv_at hl 0 rfl) ?_
          obtain ⟨r24, σ22, hk23, hj18⟩ := bn2_some hj18
          refine g_callV (As := [.int x2, .int x4, .int x6, .int x8]) (rest := []) F hP 9 0 (by decide) Nat.zero_lt_one (c_Md_withCursor l X n  hk23) rfl q_Md_withCursor w_1082 w_11 w_1079 w_1081 wp_45 ⟨rfl, rfl⟩ ⟨by decide, by decide⟩ hl.1 (Nat.le_of_ble_eq_true rfl) ⟨Nat.zero_le _, Nat.zero_le _⟩ d_Md_step_119 rfl (fun H locs hP => ?_)
          refine W.eq (g2 := F0 m 122 ls [.int r24]) rfl ?_
          refine lv_goto F.1 F.2.1 d_Md_step_122 rfl ?_
          cases hj18
          exact KJ17 _ _ _ (lv_sub hl [4, 3, 2, 1] rfl) hP
      · rw [if_pos hb62] at hf
        refine lv_aload_n F.1 F.2.1 d_Md_step_90 rfl (lv_at hl 4 rfl) ?_
        refine g_get F hP 9 19 0 (by decide) Nat.zero_lt_one (by decide) (v := .int (gi σ9 9 0 19)) rfl w_892 d_Md_step_91 ?_
        refine lv_bipush (v := 64) F.1 F.2.1 d_Md_step_94 (by decide) ?_
        refine lv_icmp_ne F.1 F.2.1 d_Md_step_96 rfl (fun hb61 => ?_) (fun hb61 => ?_)
        · rw [if_neg hb61] at hf
          refine lv_iload_n F.1 F.2.1 d_Md_step_106 rfl (lv_at hl 3 rfl) ?_
          obtain ⟨r38, σ36, hk37, hf⟩ := bn2_some hf
          refine g_callS (As := [.int x2]) (rest := []) F hP (c_Md_needsOpen l X n  hk37) ⟨by decide, by decide, q_Md_needsOpen⟩ w_1078 w_11 w_1076 w_1077 ⟨rfl, rfl⟩ ⟨by decide, by decide⟩ hl.1 (Nat.le_of_ble_eq_true rfl) ⟨Nat.zero_le _, Nat.zero_le _⟩ d_Md_step_107 rfl (fun H locs hP => ?_)
          refine W.eq (g2 := F0 m 110 ls [.int r38]) rfl ?_
          obtain ⟨x39, σ40, hj42, hf⟩ := bn2_some hf
          have KJ41 : ∀ (ls : Array Slot) (H : Heap) (locs : List Loc), lv_has ls 6 [(0, .ref (xL X 9 0)), (1, .int x2), (2, .int x4), (3, .int x6)] → St X n σ40 s.heap H locs → WG l X n rm_Md_step σ' (some (.int r)) p e s m args below meth c H locs (F0 m 134 ls [.int x39]) := by
            intro ls H locs hl hP
            refine lv_istore F.1 F.2.1 d_Md_step_134 hl (by decide) rfl (fun ls hl => ?_)
            have hl : lv_has ls 6 [(5, .int x39), (0, .ref (xL X 9 0)), (1, .int x2), (2, .int x4), (3, .int x6)] := hl
            refine lv_aload_n F.1 F.2.1 d_Md_step_136 rfl (lv_at hl 1 rfl) ?_
            refine lv_iload F.1 F.2.1 d_Md_step_137 (lv_at hl 0 rfl) ?_
            obtain ⟨x50, σ51, hj53, hf⟩ := bn2_some hf
            have KJ52 : ∀ (ls : Array Slot) (H : Heap) (locs : List Loc), lv_has ls 6 [] → St X n σ51 s.heap H locs → WG l X n rm_Md_step σ' (some (.int r)) p e s m args below meth c H locs (F0 m 164 ls [.int x50, .ref (xL X 9 0)]) := by
              intro ls H locs hl hP
              obtain ⟨σ59, e_σ59, hf⟩ := lt_some hf
              refine g_puti F hP 9 18 0 (by decide) Nat.zero_lt_one (by decide) rfl rfl rfl rfl (Or.inl w_891) d_Md_step_164 e_σ59 (fun H locs hP => ?_)
              refine lv_iconst (v := 1) F.1 F.2.1 d_Md_step_167 (by decide) ?_
              cases hf
              exact g_zret F hP hr hlk zb1 d_Md_step_168
            refine lv_if_eq F.1 F.2.1 d_Md_step_139 rfl (fun hb58 => ?_) (fun hb58 => ?_)
            · rw [if_pos hb58] at hj53
              refine lv_aload_n F.1 F.2.1 d_Md_step_158 rfl (lv_at hl 1 rfl) ?_
              refine g_get F hP 9 18 0 (by decide) Nat.zero_lt_one (by decide) (v := .int (gi σ40 9 0 18)) rfl w_891 d_Md_step_159 ?_
              refine lv_iconst (v := 1) F.1 F.2.1 d_Md_step_162 (by decide) ?_
              refine lv_iadd F.1 F.2.1 d_Md_step_163 ?_
              cases hj53
              exact KJ52 _ _ _ (lv_sub hl [] rfl) hP
            · rw [if_neg hb58] at hj53
              refine lv_iload_n F.1 F.2.1 d_Md_step_142 rfl (lv_at hl 2 rfl) ?_
              obtain ⟨r56, σ54, hk55, hj53⟩ := bn2_some hj53
              refine g_callS (As := [.int x2]) (rest := [.ref (xL X 9 0)]) F hP (c_Md_goal l X n  hk55) ⟨by decide, by decide, q_Md_goal⟩ w_1067 w_11 w_1065 w_1066 ⟨rfl, rfl⟩ ⟨by decide, by decide⟩ hl.1 (Nat.le_of_ble_eq_true rfl) ⟨Nat.zero_le _, Nat.zero_le _⟩ d_Md_step_143 rfl (fun H locs hP => ?_)
              refine W.eq (g2 := F0 m 146 ls [.int r56, .ref (xL X 9 0)]) rfl ?_
              refine lv_iconst (v := 1) F.1 F.2.1 d_Md_step_146 (by decide) ?_
              refine lv_icmp_ne F.1 F.2.1 d_Md_step_147 rfl (fun hb57 => ?_) (fun hb57 => ?_)
              · rw [if_neg hb57] at hj53
                refine lv_iload_n F.1 F.2.1 d_Md_step_154 rfl (lv_at hl 4 rfl) ?_
                refine lv_goto F.1 F.2.1 d_Md_step_155 rfl ?_
                cases hj53
                exact KJ52 _ _ _ (lv_sub hl [] rfl) hP
              · rw [if_pos hb57] at hj53
                refine lv_iload_n F.1 F.2.1 d_Md_step_150 rfl (lv_at hl 3 rfl) ?_
                refine lv_goto F.1 F.2.1 d_Md_step_151 rfl ?_
                cases hj53
                exact KJ52 _ _ _ (lv_sub hl [] rfl) hP
          refine lv_if_eq F.1 F.2.1 d_Md_step_110 rfl (fun hb49 => ?_) (fun hb49 => ?_)
          · rw [if_pos hb49] at hj42
            refine lv_aload_n F.1 F.2.1 d_Md_step_125 rfl (lv_at hl 4 rfl) ?_
            refine lv_iload_n F.1 F.2.1 d_Md_step_126 rfl (lv_at hl 3 rfl) ?_
            refine lv_iload_n F.1 F.2.1 d_Md_step_127 rfl (lv_at hl 2 rfl) ?_
            refine lv_iload_n F.1 F.2.1 d_Md_step_128 rfl (lv_at hl 1 rfl) ?_
            refine lv_iload F.1 F.2.1 d_Md_step_129 (lv_at hl 0 rfl) ?_
            obtain ⟨r45, σ43, hk44, hj42⟩ := bn2_some hj42
            refine g_callV (As := [.int x2, .int x4, .int x6, .int x8]) (rest := []) F hP 9 0 (by decide) Nat.zero_lt_one (c_Md_without l X n  hk44) rfl q_Md_without w_1098 w_11 w_1095 w_1097 wp_49 ⟨rfl, rfl⟩ ⟨by decide, by decide⟩ hl.1 (Nat.le_of_ble_eq_true rfl) ⟨Nat.zero_le _, Nat.zero_le _⟩ d_Md_step_131 rfl (fun H locs hP => ?_)
            refine W.eq (g2 := F0 m 134 ls [.int r45]) rfl ?_
            cases hj42
            exact KJ41 _ _ _ (lv_sub hl [4, 3, 2, 1] rfl) hP
          · rw [if_neg hb49] at hj42
            refine lv_aload_n F.1 F.2.1 d_Md_step_113 rfl (lv_at hl 4 rfl) ?_
            refine lv_iload_n F.1 F.2.1 d_Md_step_114 rfl (lv_at hl 3 rfl) ?_
            refine lv_iload_n F.1 F.2.1 d_Md_step_115 rfl (lv_at hl 2 rfl) ?_
            refine lv_iload_n F.1 F.2.1 d_Md_step_116 rfl (lv_at hl 1 rfl) ?_
            refine lv_iload F.1 F.2.1 d_Md_step_117 (lv_at hl 0 rfl) ?_
            obtain ⟨r48, σ46, hk47, hj42⟩ := bn2_some hj42
            refine g_callV (As := [.int x2, .int x4, .int x6, .int x8]) (rest := []) F hP 9 0 (by decide) Nat.zero_lt_one (c_Md_withCursor l X n  hk47) rfl q_Md_withCursor w_1082 w_11 w_1079 w_1081 wp_45 ⟨rfl, rfl⟩ ⟨by decide, by decide⟩ hl.1 (Nat.le_of_ble_eq_true rfl) ⟨Nat.zero_le _, Nat.zero_le _⟩ d_Md_step_119 rfl (fun H locs hP => ?_)
            refine W.eq (g2 := F0 m 122 ls [.int r48]) rfl ?_
            refine lv_goto F.1 F.2.1 d_Md_step_122 rfl ?_
            cases hj42
            exact KJ41 _ _ _ (lv_sub hl [4, 3, 2, 1] rfl) hP
        · rw [if_pos hb61] at hf
          refine lv_aload_n F.1 F.2.1 d_Md_step_99 rfl (lv_at hl 4 rfl) ?_
          refine lv_iconst (v := 2) F.1 F.2.1 d_Md_step_100 (by decide) ?_
          obtain ⟨σ60, e_σ60, hf⟩ := lt_some hf
          refine g_puti F hP 9 17 0 (by decide) Nat.zero_lt_one (by decide) rfl rfl rfl rfl (Or.inl w_890) d_Md_step_101 e_σ60 (fun H locs hP => ?_)
          refine lv_iconst (v := 0) F.1 F.2.1 d_Md_step_104 (by decide) ?_
          cases hf
          exact g_zret F hP hr hlk zb0 d_Md_step_105
    · rw [if_neg hb117] at hf
      refine lv_aload_n F.1 F.2.1 d_Md_step_68 rfl (lv_at hl 4 rfl) ?_
      refine g_get F hP 9 14 0 (by decide) Nat.zero_lt_one (by decide) (v := .ref (xL X 36 0)) rfl w_887 d_Md_step_69 ?_
      refine lv_iload_n F.1 F.2.1 d_Md_step_72 rfl (lv_at hl 2 rfl) ?_
      obtain ⟨hc63, hf⟩ := chk_some hf
      refine g_ald F hP 36 (by decide) (by decide) Nat.zero_lt_one rfl rfl hc63 d_Md_step_73 ?_
      refine lv_if_ge F.1 F.2.1 d_Md_step_74 rfl (fun hb116 => ?_) (fun hb116 => ?_)
      · rw [if_pos hb116] at hf
        refine lv_iload_n F.1 F.2.1 d_Md_step_84 rfl (lv_at hl 3 rfl) ?_
        refine lv_bipush (v := 18) F.1 F.2.1 d_Md_step_85 (by decide) ?_
        refine lv_icmp_ne F.1 F.2.1 d_Md_step_87 rfl (fun hb114 => ?_) (fun hb114 => ?_)
        · rw [if_neg hb114] at hf
          refine lv_iload_n F.1 F.2.1 d_Md_step_106 rfl (lv_at hl 3 rfl) ?_
          obtain ⟨r66, σ64, hk65, hf⟩ := bn2_some hf
          refine g_callS (As := [.int x2]) (rest := []) F hP (c_Md_needsOpen l X n  hk65) ⟨by decide, by decide, q_Md_needsOpen⟩ w_1078 w_11 w_1076 w_1077 ⟨rfl, rfl⟩ ⟨by decide, by decide⟩ hl.1 (Nat.le_of_ble_eq_true rfl) ⟨Nat.zero_le _, Nat.zero_le _⟩ d_Md_step_107 rfl (fun H locs hP => ?_)
          refine W.eq (g2 := F0 m 110 ls [.int r66]) rfl ?_
          obtain ⟨x67, σ68, hj70, hf⟩ := bn2_some hf
          have KJ69 : ∀ (ls : Array Slot) (H : Heap) (locs : List Loc), lv_has ls 6 [(0, .ref (xL X 9 0)), (1, .int x2), (2, .int x4), (3, .int x6)] → St X n σ68 s.heap H locs → WG l X n rm_Md_step σ' (some (.int r)) p e s m args below meth c H locs (F0 m 134 ls [.int x67]) := by
            intro ls H locs hl hP
            refine lv_istore F.1 F.2.1 d_Md_step_134 hl (by decide) rfl (fun ls hl => ?_)
            have hl : lv_has ls 6 [(5, .int x67), (0, .ref (xL X 9 0)), (1, .int x2), (2, .int x4), (3, .int x6)] := hl
            refine lv_aload_n F.1 F.2.1 d_Md_step_136 rfl (lv_at hl 1 rfl) ?_
            refine lv_iload F.1 F.2.1 d_Md_step_137 (lv_at hl 0 rfl) ?_
            obtain ⟨x78, σ79, hj81, hf⟩ := bn2_some hf
            have KJ80 : ∀ (ls : Array Slot) (H : Heap) (locs : List Loc), lv_has ls 6 [] → St X n σ79 s.heap H locs → WG l X n rm_Md_step σ' (some (.int r)) p e s m args below meth c H locs (F0 m 164 ls [.int x78, .ref (xL X 9 0)]) := by
              intro ls H locs hl hP
              obtain ⟨σ87, e_σ87, hf⟩ := lt_some hf
              refine g_puti F hP 9 18 0 (by decide) Nat.zero_lt_one (by decide) rfl rfl rfl rfl (Or.inl w_891) d_Md_step_164 e_σ87 (fun H locs hP => ?_)
              refine lv_iconst (v := 1) F.1 F.2.1 d_Md_step_167 (by decide) ?_
              cases hf
              exact g_zret F hP hr hlk zb1 d_Md_step_168
            refine lv_if_eq F.1 F.2.1 d_Md_step_139 rfl (fun hb86 => ?_) (fun hb86 => ?_)
            · rw [if_pos hb86] at hj81
              refine lv_aload_n F.1 F.2.1 d_Md_step_158 rfl (lv_at hl 1 rfl) ?_
              refine g_get F hP 9 18 0 (by decide) Nat.zero_lt_one (by decide) (v := .int (gi σ68 9 0 18)) rfl w_891 d_Md_step_159 ?_
              refine lv_iconst (v := 1) F.1 F.2.1 d_Md_step_162 (by decide) ?_
              refine lv_iadd F.1 F.2.1 d_Md_step_163 ?_
              cases hj81
              exact KJ80 _ _ _ (lv_sub hl [] rfl) hP
            · rw [if_neg hb86] at hj81
              refine lv_iload_n F.1 F.2.1 d_Md_step_142 rfl (lv_at hl 2 rfl) ?_
              obtain ⟨r84, σ82, hk83, hj81⟩ := bn2_some hj81
              refine g_callS (As := [.int x2]) (rest := [.ref (xL X 9 0)]) F hP (c_Md_goal l X n  hk83) ⟨by decide, by decide, q_Md_goal⟩ w_1067 w_11 w_1065 w_1066 ⟨rfl, rfl⟩ ⟨by decide, by decide⟩ hl.1 (Nat.le_of_ble_eq_true rfl) ⟨Nat.zero_le _, Nat.zero_le _⟩ d_Md_step_143 rfl (fun H locs hP => ?_)
              refine W.eq (g2 := F0 m 146 ls [.int r84, .ref (xL X 9 0)]) rfl ?_
              refine lv_iconst (v := 1) F.1 F.2.1 d_Md_step_146 (by decide) ?_
              refine lv_icmp_ne F.1 F.2.1 d_Md_step_147 rfl (fun hb85 => ?_) (fun hb85 => ?_)
              · rw [if_neg hb85] at hj81
                refine lv_iload_n F.1 F.2.1 d_Md_step_154 rfl (lv_at hl 4 rfl) ?_
                refine lv_goto F.1 F.2.1 d_Md_step_155 rfl ?_
                cases hj81
                exact KJ80 _ _ _ (lv_sub hl [] rfl) hP
              · rw [if_pos hb85] at hj81
                refine lv_iload_n F.1 F.2.1 d_Md_step_150 rfl (lv_at hl 3 rfl) ?_
                refine lv_goto F.1 F.2.1 d_Md_step_151 rfl ?_
                cases hj81
                exact KJ80 _ _ _ (lv_sub hl [] rfl) hP
          refine lv_if_eq F.1 F.2.1 d_Md_step_110 rfl (fun hb77 => ?_) (fun hb77 => ?_)
          · rw [if_pos hb77] at hj70
            refine lv_aload_n F.1 F.2.1 d_Md_step_125 rfl (lv_at hl 4 rfl) ?_
            refine lv_iload_n F.1 F.2.1 d_Md_step_126 rfl (lv_at hl 3 rfl) ?_
            refine lv_iload_n F.1 F.2.1 d_Md_step_127 rfl (lv_at hl 2 rfl) ?_
            refine lv_iload_n F.1 F.2.1 d_Md_step_128 rfl (lv_at hl 1 rfl) ?_
            refine lv_iload F.1 F.2.1 d_Md_step_129 (lv_at hl 0 rfl) ?_
            obtain ⟨r73, σ71, hk72, hj70⟩ := bn2_some hj70
            refine g_callV (As := [.int x2, .int x4, .int x6, .int x8]) (rest := []) F hP 9 0 (by decide) Nat.zero_lt_one (c_Md_without l X n  hk72) rfl q_Md_without w_1098 w_11 w_1095 w_1097 wp_49 ⟨rfl, rfl⟩ ⟨by decide, by decide⟩ hl.1 (Nat.le_of_ble_eq_true rfl) ⟨Nat.zero_le _, Nat.zero_le _⟩ d_Md_step_131 rfl (fun H locs hP => ?_)
            refine W.eq (g2 := F0 m 134 ls [.int r73]) rfl ?_
            cases hj70
            exact KJ69 _ _ _ (lv_sub hl [4, 3, 2, 1] rfl) hP
          · rw [if_neg hb77] at hj70
            refine lv_aload_n F.1 F.2.1 d_Md_step_113 rfl (lv_at hl 4 rfl) ?_
            refine lv_iload_n F.1 F.2.1 d_Md_step_114 rfl (lv_at hl 3 rfl) ?_
            refine lv_iload_n F.1 F.2.1 d_Md_step_115 rfl (lv_at hl 2 rfl) ?_
            refine lv_iload_n F.1 F.2.1 d_Md_step_116 rfl (lv_at hl 1 rfl) ?_
            refine lv_iload F.1 F.2.1 d_Md_step_117 (lv_at hl 0 rfl) ?_
            obtain ⟨r76, σ74, hk75, hj70⟩ := bn2_some hj70
            refine g_callV (As := [.int x2, .int x4, .int x6, .int x8]) (rest := []) F hP 9 0 (by decide) Nat.zero_lt_one (c_Md_withCursor l X n  hk75) rfl q_Md_withCursor w_1082 w_11 w_1079 w_1081 wp_45 ⟨rfl, rfl⟩ ⟨by decide, by decide⟩ hl.1 (Nat.le_of_ble_eq_true rfl) ⟨Nat.zero_le _, Nat.zero_le _⟩ d_Md_step_119 rfl (fun H locs hP => ?_)
            refine W.eq (g2 := F0 m 122 ls [.int r76]) rfl ?_
            refine lv_goto F.1 F.2.1 d_Md_step_122 rfl ?_
            cases hj70
            exact KJ69 _ _ _ (lv_sub hl [4, 3, 2, 1] rfl) hP
        · rw [if_pos hb114] at hf
          refine lv_aload_n F.1 F.2.1 d_Md_step_90 rfl (lv_at hl 4 rfl) ?_
          refine g_get F hP 9 19 0 (by decide) Nat.zero_lt_one (by decide) (v := .int (gi σ9 9 0 19)) rfl w_892 d_Md_step_91 ?_
          refine lv_bipush (v := 64) F.1 F.2.1 d_Md_step_94 (by decide) ?_
          refine lv_icmp_ne F.1 F.2.1 d_Md_step_96 rfl (fun hb113 => ?_) (fun hb113 => ?_)
          · rw [if_neg hb113] at hf
            refine lv_iload_n F.1 F.2.1 d_Md_step_106 rfl (lv_at hl 3 rfl) ?_
            obtain ⟨r90, σ88, hk89, hf⟩ := bn2_some hf
            refine g_callS (As := [.int x2]) (rest := []) F hP (c_Md_needsOpen l X n  hk89) ⟨by decide, by decide, q_Md_needsOpen⟩ w_1078 w_11 w_1076 w_1077 ⟨rfl, rfl⟩ ⟨by decide, by decide⟩ hl.1 (Nat.le_of_ble_eq_true rfl) ⟨Nat.zero_le _, Nat.zero_le _⟩ d_Md_step_107 rfl (fun H locs hP => ?_)
            refine W.eq (g2 := F0 m 110 ls [.int r90]) rfl ?_
            obtain ⟨x91, σ92, hj94, hf⟩ := bn2_some hf
            have KJ93 : ∀ (ls : Array Slot) (H : Heap) (locs : List Loc), lv_has ls 6 [(0, .ref (xL X 9 0)), (1, .int x2), (2, .int x4), (3, .int x6)] → St X n σ92 s.heap H locs → WG l X n rm_Md_step σ' (some (.int r)) p e s m args below meth c H locs (F0 m 134 ls [.int x91]) := by
              intro ls H locs hl hP
              refine lv_istore F.1 F.2.1 d_Md_step_134 hl (by decide) rfl (fun ls hl => ?_)
              have hl : lv_has ls 6 [(5, .int x91), (0, .ref (xL X 9 0)), (1, .int x2), (2, .int x4), (3, .int x6)] := hl
              refine lv_aload_n F.1 F.2.1 d_Md_step_136 rfl (lv_at hl 1 rfl) ?_
              refine lv_iload F.1 F.2.1 d_Md_step_137 (lv_at hl 0 rfl) ?_
              obtain ⟨x102, σ103, hj105, hf⟩ := bn2_some hf
              have KJ104 : ∀ (ls : Array Slot) (H : Heap) (locs : List Loc), lv_has ls 6 [] → St X n σ103 s.heap H locs → WG l X n rm_Md_step σ' (some (.int r)) p e s m args below meth c H locs (F0 m 164 ls [.int x102, .ref (xL X 9 0)]) := by
                intro ls H locs hl hP
                obtain ⟨σ111, e_σ111, hf⟩ := lt_some hf
                refine g_puti F hP 9 18 0 (by decide) Nat.zero_lt_one (by decide) rfl rfl rfl rfl (Or.inl w_891) d_Md_step_164 e_σ111 (fun H locs hP => ?_)
                refine lv_iconst (v := 1) F.1 F.2.1 d_Md_step_167 (by decide) ?_
                cases hf
                exact g_zret F hP hr hlk zb1 d_Md_step_168
              refine lv_if_eq F.1 F.2.1 d_Md_step_139 rfl (fun hb110 => ?_) (fun hb110 => ?_)
              · rw [if_pos hb110] at hj105
                refine lv_aload_n F.1 F.2.1 d_Md_step_158 rfl (lv_at hl 1 rfl) ?_
                refine g_get F hP 9 18 0 (by decide) Nat.zero_lt_one (by decide) (v := .int (gi σ92 9 0 18)) rfl w_891 d_Md_step_159 ?_
                refine lv_iconst (v := 1) F.1 F.2.1 d_Md_step_162 (by decide) ?_
                refine lv_iadd F.1 F.2.1 d_Md_step_163 ?_
                cases hj105
                exact KJ104 _ _ _ (lv_sub hl [] rfl) hP
              · rw [if_neg hb110] at hj105
                refine lv_iload_n F.1 F.2.1 d_Md_step_142 rfl (lv_at hl 2 rfl) ?_
                obtain ⟨r108, σ106, hk107, hj105⟩ := bn2_some hj105
                refine g_callS (As := [.int x2]) (rest := [.ref (xL X 9 0)]) F hP (c_Md_goal l X n  hk107) ⟨by decide, by decide, q_Md_goal⟩ w_1067 w_11 w_1065 w_1066 ⟨rfl, rfl⟩ ⟨by decide, by decide⟩ hl.1 (Nat.le_of_ble_eq_true rfl) ⟨Nat.zero_le _, Nat.zero_le _⟩ d_Md_step_143 rfl (fun H locs hP => ?_)
                refine W.eq (g2 := F0 m 146 ls [.int r108, .ref (xL X 9 0)]) rfl ?_
                refine lv_iconst (v := 1) F.1 F.2.1 d_Md_step_146 (by decide) ?_
                refine lv_icmp_ne F.1 F.2.1 d_Md_step_147 rfl (fun hb109 => ?_) (fun hb109 => ?_)
                · rw [if_neg hb109] at hj105
                  refine lv_iload_n F.1 F.2.1 d_Md_step_154 rfl (lv_at hl 4 rfl) ?_
                  refine lv_goto F.1 F.2.1 d_Md_step_155 rfl ?_
                  cases hj105
                  exact KJ104 _ _ _ (lv_sub hl [] rfl) hP
                · rw [if_pos hb109] at hj105
                  refine lv_iload_n F.1 F.2.1 d_Md_step_150 rfl (lv_at hl 3 rfl) ?_
                  refine lv_goto F.1 F.2.1 d_Md_step_151 rfl ?_
                  cases hj105
                  exact KJ104 _ _ _ (lv_sub hl [] rfl) hP
            refine lv_if_eq F.1 F.2.1 d_Md_step_110 rfl (fun hb101 => ?_) (fun hb101 => ?_)
            · rw [if_pos hb101] at hj94
              refine lv_aload_n F.1 F.2.1 d_Md_step_125 rfl (lv_at hl 4 rfl) ?_
              refine lv_iload_n F.1 F.2.1 d_Md_step_126 rfl (lv_at hl 3 rfl) ?_
              refine lv_iload_n F.1 F.2.1 d_Md_step_127 rfl (lv_at hl 2 rfl) ?_
              refine lv_iload_n F.1 F.2.1 d_Md_step_128 rfl (lv_at hl 1 rfl) ?_
              refine lv_iload F.1 F.2.1 d_Md_step_129 (lv_at hl 0 rfl) ?_
              obtain ⟨r97, σ95, hk96, hj94⟩ := bn2_some hj94
              refine g_callV (As := [.int x2, .int x4, .int x6, .int x8]) (rest := []) F hP 9 0 (by decide) Nat.zero_lt_one (c_Md_without l X n  hk96) rfl q_Md_without w_1098 w_11 w_1095 w_1097 wp_49 ⟨rfl, rfl⟩ ⟨by decide, by decide⟩ hl.1 (Nat.le_of_ble_eq_true rfl) ⟨Nat.zero_le _, Nat.zero_le _⟩ d_Md_step_131 rfl (fun H locs hP => ?_)
              refine W.eq (g2 := F0 m 134 ls [.int r97]) rfl ?_
              cases hj94
              exact KJ93 _ _ _ (lv_sub hl [4, 3, 2, 1] rfl) hP
            · rw [if_neg hb101] at hj94
              refine lv_aload_n F.1 F.2.1 d_Md_step_113 rfl (lv_at hl 4 rfl) ?_
              refine lv_iload_n F.1 F.2.1 d_Md_step_114 rfl (lv_at hl 3 rfl) ?_
              refine lv_iload_n F.1 F.2.1 d_Md_step_115 rfl (lv_at hl 2 rfl) ?_
              refine lv_iload_n F.1 F.2.1 d_Md_step_116 rfl (lv_at hl 1 rfl) ?_
              refine lv_iload F.1 F.2.1 d_Md_step_117 (lv_at hl 0 rfl) ?_
              obtain ⟨r100, σ98, hk99, hj94⟩ := bn2_some hj94
              refine g_callV (As := [.int x2, .int x4, .int x6, .int x8]) (rest := []) F hP 9 0 (by decide) Nat.zero_lt_one (c_Md_withCursor l X n  hk99) rfl q_Md_withCursor w_1082 w_11 w_1079 w_1081 wp_45 ⟨rfl, rfl⟩ ⟨by decide, by decide⟩ hl.1 (Nat.le_of_ble_eq_true rfl) ⟨Nat.zero_le _, Nat.zero_le _⟩ d_Md_step_119 rfl (fun H locs hP => ?_)
              refine W.eq (g2 := F0 m 122 ls [.int r100]) rfl ?_
              refine lv_goto F.1 F.2.1 d_Md_step_122 rfl ?_
              cases hj94
              exact KJ93 _ _ _ (lv_sub hl [4, 3, 2, 1] rfl) hP
          · rw [if_pos hb113] at hf
            refine lv_aload_n F.1 F.2.1 d_Md_step_99 rfl (lv_at hl 4 rfl) ?_
            refine lv_iconst (v := 2) F.1 F.2.1 d_Md_step_100 (by decide) ?_
            obtain ⟨σ112, e_σ112, hf⟩ := lt_some hf
            refine g_puti F hP 9 17 0 (by decide) Nat.zero_lt_one (by decide) rfl rfl rfl rfl (Or.inl w_890) d_Md_step_101 e_σ112 (fun H locs hP => ?_)
            refine lv_iconst (v := 0) F.1 F.2.1 d_Md_step_104 (by decide) ?_
            cases hf
            exact g_zret F hP hr hlk zb0 d_Md_step_105
      · rw [if_neg hb116] at hf
        refine lv_aload_n F.1 F.2.1 d_Md_step_77 rfl (lv_at hl 4 rfl) ?_
        refine lv_iconst (v := 3) F.1 F.2.1 d_Md_step_78 (by decide) ?_
        obtain ⟨σ115, e_σ115, hf⟩ := lt_some hf
        refine g_puti F hP 9 17 0 (by decide) Nat.zero_lt_one (by decide) rfl rfl rfl rfl (Or.inl w_890) d_Md_step_79 e_σ115 (fun H locs hP => ?_)
        refine lv_iconst (v := 0) F.1 F.2.1 d_Md_step_82 (by decide) ?_
        cases hf
        exact g_zret F hP hr hlk zb0 d_Md_step_83
  · rw [if_pos hb118] at hf
    refine lv_iconst (v := 0) F.1 F.2.1 d_Md_step_59 (by decide) ?_
    cases hf
    exact g_zret F hP hr hlk zb0 d_Md_step_60

theorem d_Md_run_0 : decode b_Md_run 0 = .ok (.aload_n 0, 1) := by decide +kernel
theorem d_Md_run_1 : decode b_Md_run 1 = .ok (.iload_n 1, 1) := by decide +kernel
theorem d_Md_run_2 : decode b_Md_run 2 = .ok (.ifCond .lt 17, 3) := by decide +kernel
theorem d_Md_run_5 : decode b_Md_run 5 = .ok (.iload_n 1, 1) := by decide +kernel
theorem d_Md_run_6 : decode b_Md_run 6 = .ok (.sipush 4000, 3) := by decide +kernel
theorem d_Md_run_9 : decode b_Md_run 9 = .ok (.if_icmp .gt 10, 3) := by decide +kernel
theorem d_Md_run_12 : decode b_Md_run 12 = .ok (.aload_n 0, 1) := by decide +kernel
theorem d_Md_run_13 : decode b_Md_run 13 = .ok (.invokevirtual 164, 3) := by decide +kernel
theorem d_Md_run_16 : decode b_Md_run 16 = .ok (.ifCond .ne 7, 3) := by decide +kernel
theorem d_Md_run_19 : decode b_Md_run 19 = .ok (.iconst 1, 1) := by decide +kernel
theorem d_Md_run_20 : decode b_Md_run 20 = .ok (.goto 4, 3) := by decide +kernel
theorem d_Md_run_23 : decode b_Md_run 23 = .ok (.iconst 0, 1) := by decide +kernel
theorem d_Md_run_24 : decode b_Md_run 24 = .ok (.putfield 73, 3) := by decide +kernel
theorem d_Md_run_27 : decode b_Md_run 27 = .ok (.aload_n 0, 1) := by decide +kernel
theorem d_Md_run_28 : decode b_Md_run 28 = .ok (.getfield 73, 3) := by decide +kernel
theorem d_Md_run_31 : decode b_Md_run 31 = .ok (.ifCond .le 5, 3) := by decide +kernel
theorem d_Md_run_34 : decode b_Md_run 34 = .ok (.iconst 0, 1) := by decide +kernel
theorem d_Md_run_35 : decode b_Md_run 35 = .ok (.ireturn, 1) := by decide +kernel
theorem d_Md_run_36 : decode b_Md_run 36 = .ok (.iconst 0, 1) := by decide +kernel
theorem d_Md_run_37 : decode b_Md_run 37 = .ok (.istore_n 2, 1) := by decide +kernel
theorem d_Md_run_38 : decode b_Md_run 38 = .ok (.iload_n 2, 1) := by decide +kernel
theorem d_Md_run_39 : decode b_Md_run 39 = .ok (.bipush 16, 2) := by decide +kernel
theorem d_Md_run_41 : decode b_Md_run 41 = .ok (.if_icmp .ge 16, 3) := by decide +kernel
theorem d_Md_run_44 : decode b_Md_run 44 = .ok (.aload_n 0, 1) := by decide +kernel
theorem d_Md_run_45 : decode b_Md_run 45 = .ok (.iload_n 2, 1) := by decide +kernel
theorem d_Md_run_46 : decode b_Md_run 46 = .ok (.iconst 0, 1) := by decide +kernel
theorem d_Md_run_47 : decode b_Md_run 47 = .ok (.lconst 0, 1) := by decide +kernel
theorem d_Md_run_48 : decode b_Md_run 48 = .ok (.invokevirtual 138, 3) := by decide +kernel
theorem d_Md_run_51 : decode b_Md_run 51 = .ok (.iinc 2 1, 3) := by decide +kernel
theorem d_Md_run_54 : decode b_Md_run 54 = .ok (.goto (-16), 3) := by decide +kernel
theorem d_Md_run_57 : decode b_Md_run 57 = .ok (.iconst 0, 1) := by decide +kernel
theorem d_Md_run_58 : decode b_Md_run 58 = .ok (.istore_n 2, 1) := by decide +kernel
theorem d_Md_run_59 : decode b_Md_run 59 = .ok (.iload_n 2, 1) := by decide +kernel
theorem d_Md_run_60 : decode b_Md_run 60 = .ok (.iconst 3, 1) := by decide +kernel
theorem d_Md_run_61 : decode b_Md_run 61 = .ok (.if_icmp .ge 23, 3) := by decide +kernel
theorem d_Md_run_64 : decode b_Md_run 64 = .ok (.aload_n 0, 1) := by decide +kernel
theorem d_Md_run_65 : decode b_Md_run 65 = .ok (.getfield 42, 3) := by decide +kernel
theorem d_Md_run_68 : decode b_Md_run 68 = .ok (.iload_n 2, 1) := by decide +kernel
theorem d_Md_run_69 : decode b_Md_run 69 = .ok (.iconst (-1), 1) := by decide +kernel
theorem d_Md_run_70 : decode b_Md_run 70 = .ok (.iastore, 1) := by decide +kernel
theorem d_Md_run_71 : decode b_Md_run 71 = .ok (.aload_n 0, 1) := by decide +kernel
theorem d_Md_run_72 : decode b_Md_run 72 = .ok (.getfield 45, 3) := by decide +kernel
theorem d_Md_run_75 : decode b_Md_run 75 = .ok (.iload_n 2, 1) := by decide +kernel
theorem d_Md_run_76 : decode b_Md_run 76 = .ok (.iconst 0, 1) := by decide +kernel
theorem d_Md_run_77 : decode b_Md_run 77 = .ok (.bastore, 1) := by decide +kernel
theorem d_Md_run_78 : decode b_Md_run 78 = .ok (.iinc 2 1, 3) := by decide +kernel
theorem d_Md_run_81 : decode b_Md_run 81 = .ok (.goto (-22), 3) := by decide +kernel
theorem d_Md_run_84 : decode b_Md_run 84 = .ok (.aload_n 0, 1) := by decide +kernel
theorem d_Md_run_85 : decode b_Md_run 85 = .ok (.iconst 0, 1) := by decide +kernel
theorem d_Md_run_86 : decode b_Md_run 86 = .ok (.putfield 142, 3) := by decide +kernel
theorem d_Md_run_89 : decode b_Md_run 89 = .ok (.aload_n 0, 1) := by decide +kernel
theorem d_Md_run_90 : decode b_Md_run 90 = .ok (.iconst 0, 1) := by decide +kernel
theorem d_Md_run_91 : decode b_Md_run 91 = .ok (.putfield 155, 3) := by decide +kernel
theorem d_Md_run_94 : decode b_Md_run 94 = .ok (.aload_n 0, 1) := by decide +kernel
theorem d_Md_run_95 : decode b_Md_run 95 = .ok (.iconst 0, 1) := by decide +kernel
theorem d_Md_run_96 : decode b_Md_run 96 = .ok (.putfield 149, 3) := by decide +kernel
theorem d_Md_run_99 : decode b_Md_run 99 = .ok (.iconst 0, 1) := by decide +kernel
theorem d_Md_run_100 : decode b_Md_run 100 = .ok (.istore_n 2, 1) := by decide +kernel
theorem d_Md_run_101 : decode b_Md_run 101 = .ok (.iconst 1, 1) := by decide +kernel
theorem d_Md_run_102 : decode b_Md_run 102 = .ok (.istore_n 3, 1) := by decide +kernel
theorem d_Md_run_103 : decode b_Md_run 103 = .ok (.iload_n 3, 1) := by decide +kernel
theorem d_Md_run_104 : decode b_Md_run 104 = .ok (.ifCond .eq 40, 3) := by decide +kernel
theorem d_Md_run_107 : decode b_Md_run 107 = .ok (.aload_n 0, 1) := by decide +kernel
theorem d_Md_run_108 : decode b_Md_run 108 = .ok (.getfield 149, 3) := by decide +kernel
theorem d_Md_run_111 : decode b_Md_run 111 = .ok (.aload_n 0, 1) := by decide +kernel
theorem d_Md_run_112 : decode b_Md_run 112 = .ok (.getfield 110, 3) := by decide +kernel
theorem d_Md_run_115 : decode b_Md_run 115 = .ok (.if_icmp .ge 29, 3) := by decide +kernel
theorem d_Md_run_118 : decode b_Md_run 118 = .ok (.iload_n 2, 1) := by decide +kernel
theorem d_Md_run_119 : decode b_Md_run 119 = .ok (.iload_n 1, 1) := by decide +kernel
theorem d_Md_run_120 : decode b_Md_run 120 = .ok (.if_icmp .ne 13, 3) := by decide +kernel
theorem d_Md_run_123 : decode b_Md_run 123 = .ok (.aload_n 0, 1) := by decide +kernel
theorem d_Md_run_124 : decode b_Md_run 124 = .ok (.iconst 1, 1) := by decide +kernel
theorem d_Md_run_125 : decode b_Md_run 125 = .ok (.putfield 155, 3) := by decide +kernel
theorem d_Md_run_128 : decode b_Md_run 128 = .ok (.aload_n 0, 1) := by decide +kernel
theorem d_Md_run_129 : decode b_Md_run 129 = .ok (.getfield 155, 3) := by decide +kernel
theorem d_Md_run_132 : decode b_Md_run 132 = .ok (.ireturn, 1) := by decide +kernel
theorem d_Md_run_133 : decode b_Md_run 133 = .ok (.aload_n 0, 1) := by decide +kernel
theorem d_Md_run_134 : decode b_Md_run 134 = .ok (.invokevirtual 168, 3) := by decide +kernel
theorem d_Md_run_137 : decode b_Md_run 137 = .ok (.istore_n 3, 1) := by decide +kernel
theorem d_Md_run_138 : decode b_Md_run 138 = .ok (.iinc 2 1, 3) := by decide +kernel
theorem d_Md_run_141 : decode b_Md_run 141 = .ok (.goto (-38), 3) := by decide +kernel
theorem d_Md_run_144 : decode b_Md_run 144 = .ok (.aload_n 0, 1) := by decide +kernel
theorem d_Md_run_145 : decode b_Md_run 145 = .ok (.getfield 155, 3) := by decide +kernel
theorem d_Md_run_148 : decode b_Md_run 148 = .ok (.ireturn, 1) := by decide +kernel
noncomputable def b_Md_run_38  (x12 : Int32) (σ13 : Sg) : Option ((Int32 × Sg) ⊕ (Sg)) :=
  (if 16 ≤ x12 then (some (.inr σ13)) else ((f_Md_keep x12 0 0 σ13).bind (fun σ17 => lt_ (x12 + 1 : Int32) (fun (x19 : Int32) => some (.inl (x19, σ17))))))
noncomputable def l_Md_run_38  (x12 : Int32) (σ13 : Sg) : Option (Sg) := lp (fun q => b_Md_run_38  q.1 q.2) FU (x12, σ13)
noncomputable def b_Md_run_59  (x24 : Int32) (σ25 : Sg) : Option ((Int32 × Sg) ⊕ (Sg)) :=
  (if 3 ≤ x24 then (some (.inr σ25)) else (chk (vp_in x24 3) (lt_ (si σ25 36 0 x24.toNatClampNeg (-1)) (fun σ30 => chk (vp_in x24 3) (lt_ (si σ30 37 0 x24.toNatClampNeg (vp_nar .boolean 0)) (fun σ32 => lt_ (x24 + 1 : Int32) (fun (x33 : Int32) => some (.inl (x33, σ32)))))))))
noncomputable def l_Md_run_59  (x24 : Int32) (σ25 : Sg) : Option (Sg) := lp (fun q => b_Md_run_59  q.1 q.2) FU (x24, σ25)
noncomputable def b_Md_run_103 (a1 : Int32) (x41 : Int32) (x42 : Int32) (σ43 : Sg) : Option ((Int32 × Int32 × Sg) ⊕ ((Sg) ⊕ (Sg))) :=
  (if x42 = 0 then (some (.inr (.inr σ43))) else (if (gi σ43 9 0 10) ≤ (gi σ43 9 0 18) then (some (.inr (.inr σ43))) else (if x41 = a1 then (some (.inr (.inl σ43))) else (bn2 (f_Md_step σ43) (fun r49 σ47 => lt_ (x41 + 1 : Int32) (fun (x50 : Int32) => some (.inl (x50, r49, σ47))))))))
noncomputable def l_Md_run_103 (a1 : Int32) (x41 : Int32) (x42 : Int32) (σ43 : Sg) : Option ((Sg) ⊕ (Sg)) := lp (fun q => b_Md_run_103 a1 q.1 q.2.1 q.2.2) FU (x41, x42, σ43)
noncomputable def f_Md_run (a1 : Int32) (σ : Sg) : Option (Int32 × Sg) :=
  bn2 (if a1 < 0 then (some (1, σ)) else (if 4000 < a1 then (some (1, σ)) else (bn2 (f_Md_sound σ) (fun r7 σ5 => (if r7 = 0 then (some (1, σ5)) else (some (0, σ5))))))) (fun (x1 : Int32) (σ2 : Sg) => lt_ (si σ2 9 0 0 x1) (fun σ11 => (if (gi σ11 9 0 0) ≤ 0 then ((l_Md_run_38  0 σ11).bind (fun σ21 => (l_Md_run_59  0 σ21).bind (fun σ35 => lt_ (si σ35 9 0 19 0) (fun σ38 => lt_ (si σ38 9 0 17 0) (fun σ39 => lt_ (si σ39 9 0 18 0) (fun σ40 => Option.bind (l_Md_run_103 a1 0 1 σ40) (sE (fun σ54 => lt_ (si σ54 9 0 17 1) (fun σ58 => some (gi σ58 9 0 17, σ58))) (fun σ55 => some (gi σ55 9 0 17, σ55))))))))) else (some (0, σ11)))))
abbrev rm_Md_run : Room := { frames := 4, cells := 0, slots := 0, locals := 98 }
set_option maxHeartbeats 4000000 in
set_option maxRecDepth 100000 in
theorem c_Md_run (l : Launch) (X : GX) (n : Nat) {σ σ' : Sg} {r : Int32} {a1 : Int32}  (hf : f_Md_run a1 σ = some (r, σ')) : Met l y_Md_run (cw y_Md_run b_Md_run 4 (some .int)) rm_Md_run (PcG X n σ [.ref (xL X 9 0), .int a1]) (QcG X n σ' (some (.int r))) 0 0 (fr X n) := by
  refine g_head (own := "TableMachineModel") (by decide) rfl (Nat.le_of_ble_eq_true rfl) ?_
  intro p e s m args below meth c ls F hr hlk hP hl
  have hl : lv_has ls 4 [(0, .ref (xL X 9 0)), (1, .int a1)] := hl
  show WG l X n rm_Md_run σ' (some (.int r)) p e s m args below meth c s.heap [] (F0 m 0 ls [])
  unfold f_Md_run at hf
  refine lv_aload_n F.1 F.2.1 d_Md_run_0 rfl (lv_at hl 0 rfl) ?_
  refine lv_iload_n F.1 F.2.1 d_Md_run_1 rfl (lv_at hl 1 rfl) ?_
  obtain ⟨x1, σ2, hj4, hf⟩ := bn2_some hf
  have KJ3 : ∀ (ls : Array Slot) (H : Heap) (locs : List Loc), lv_has ls 4 [(0, .ref (xL X 9 0)), (1, .int a1)] → St X n σ2 s.heap H locs → WG l X n rm_Md_run σ' (some (.int r)) p e s m args below meth c H locs (F0 m 24 ls [.int x1, .ref (xL X 9 0)]) := by
    intro ls H locs hl hP
    obtain ⟨σ11, e_σ11, hf⟩ := lt_some hf
    refine g_puti F hP 9 0 0 (by decide) Nat.zero_lt_one (by decide) rfl rfl rfl rfl (Or.inl w_873) d_Md_run_24 e_σ11 (fun H locs hP => ?_)
    refine lv_aload_n F.1 F.2.1 d_Md_run_27 rfl (lv_at hl 0 rfl) ?_
    refine g_get F hP 9 0 0 (by decide) Nat.zero_lt_one (by decide) (v := .int (gi σ11 9 0 0)) rfl w_873 d_Md_run_28 ?_
    refine lv_if_le F.1 F.2.1 d_Md_run_31 rfl (fun hb60 => ?_) (fun hb60 => ?_)
    · rw [if_pos hb60] at hf
      refine lv_iconst (v := 0) F.1 F.2.1 d_Md_run_36 (by decide) ?_
      refine lv_istore_n F.1 F.2.1 d_Md_run_37 rfl hl (by decide) rfl (fun ls hl => ?_)
      have hl : lv_has ls 4 [(2, .int 0), (0, .ref (xL X 9 0)), (1, .int a1)] := hl
      obtain ⟨σ21, hlp22, hf⟩ := bnd_some hf
      have KX23 : ∀ (ls : Array Slot) (H : Heap) (locs : List Loc), lv_has ls 4 [(0, .ref (xL X 9 0)), (1, .int a1)] → St X n σ21 s.heap H locs → WG l X n rm_Md_run σ' (some (.int r)) p e s m args below meth c H locs (F0 m 57 ls []) := by
        intro ls H locs hl hP
        refine lv_iconst (v := 0) F.1 F.2.1 d_Md_run_57 (by decide) ?_
        refine lv_istore_n F.1 F.2.1 d_Md_run_58 rfl hl (by decide) rfl (fun ls hl => ?_)
        have hl : lv_has ls 4 [(2, .int 0), (0, .ref (xL X 9 0)), (1, .int a1)] := hl
        obtain ⟨σ35, hlp36, hf⟩ := bnd_some hf
        have KX37 : ∀ (ls : Array Slot) (H : Heap) (locs : List Loc), lv_has ls 4 [(0, .ref (xL X 9 0)), (1, .int a1)] → St X n σ35 s.heap H locs → WG l X n rm_Md_run σ' (some (.int r)) p e s m args below meth c H locs (F0 m 84 ls []) := by
          intro ls H locs hl hP
          refine lv_aload_n F.1 F.2.1 d_Md_run_84 rfl (lv_at hl 0 rfl) ?_
          refine lv_iconst (v := 0) F.1 F.2.1 d_Md_run_85 (by decide) ?_
          obtain ⟨σ38, e_σ38, hf⟩ := lt_some hf
          refine g_puti F hP 9 19 0 (by decide) Nat.zero_lt_one (by decide) rfl rfl rfl rfl (Or.inl w_892) d_Md_run_86 e_σ38 (fun H locs hP => ?_)
          refine lv_aload_n F.1 F.2.1 d_Md_run_89 rfl (lv_at hl 0 rfl) ?_
          refine lv_iconst (v := 0) F.1 F.2.1 d_Md_run_90 (by decide) ?_
          obtain ⟨σ39, e_σ39, hf⟩ := lt_some hf
          refine g_puti F hP 9 17 0 (by decide) Nat.zero_lt_one (by decide) rfl rfl rfl rfl (Or.inl w_890) d_Md_run_91 e_σ39 (fun H locs hP => ?_)
          refine lv_aload_n F.1 F.2.1 d_Md_run_94 rfl (lv_at hl 0 rfl) ?_
          refine lv_iconst (v := 0) F.1 F.2.1 d_Md_run_95 (by decide) ?_
          obtain ⟨σ40, e_σ40, hf⟩ := lt_some hf
          refine g_puti F hP 9 18 0 (by decide) Nat.zero_lt_one (by decide) rfl rfl rfl rfl (Or.inl w_891) d_Md_run_96 e_σ40 (fun H locs hP => ?_)
          refine lv_iconst (v := 0) F.1 F.2.1 d_Md_run_99 (by decide) ?_
          refine lv_istore_n F.1 F.2.1 d_Md_run_100 rfl hl (by decide) rfl (fun ls hl => ?_)
          have hl : lv_has ls 4 [(2, .int 0), (0, .ref (xL X 9 0)), (1, .int a1)] := hl
          refine lv_iconst (v := 1) F.1 F.2.1 d_Md_run_101 (by decide) ?_
          refine lv_istore_n F.1 F.2.1 d_Md_run_102 rfl hl (by decide) rfl (fun ls hl => ?_)
          have hl : lv_has ls 4 [(3, .int 1), (2, .int 0), (0, .ref (xL X 9 0)), (1, .int a1)] := hl
          obtain ⟨ex59, hlp56, hf⟩ := bnd_some hf
          have KX57 : sP (fun q => ∀ (ls : Array Slot) (H : Heap) (locs : List Loc), lv_has ls 4 [(0, .ref (xL X 9 0))] → St X n q s.heap H locs → WG l X n rm_Md_run σ' (some (.int r)) p e s m args below meth c H locs (F0 m 123 ls [])) (fun q => ∀ (ls : Array Slot) (H : Heap) (locs : List Loc), lv_has ls 4 [(0, .ref (xL X 9 0))] → St X n q s.heap H locs → WG l X n rm_Md_run σ' (some (.int r)) p e s m args below meth c H locs (F0 m 144 ls [])) ex59 := by
            rcases ex59 with σ54 | σ55
            · rw [sE_l] at hf
              intro ls H locs hl hP
              refine lv_aload_n F.1 F.2.1 d_Md_run_123 rfl (lv_at hl 0 rfl) ?_
              refine lv_iconst (v := 1) F.1 F.2.1 d_Md_run_124 (by decide) ?_
              obtain ⟨σ58, e_σ58, hf⟩ := lt_some hf
              refine g_puti F hP 9 17 0 (by decide) Nat.zero_lt_one (by decide) rfl rfl rfl rfl (Or.inl w_890) d_Md_run_125 e_σ58 (fun H locs hP => ?_)
              refine lv_aload_n F.1 F.2.1 d_Md_run_128 rfl (lv_at hl 0 rfl) ?_
              refine g_get F hP 9 17 0 (by decide) Nat.zero_lt_one (by decide) (v := .int (gi σ58 9 0 17)) rfl w_890 d_Md_run_129 ?_
              cases hf
              exact g_iret F hP hr hlk d_Md_run_132
            · rw [sE_r] at hf
              intro ls H locs hl hP
              refine lv_aload_n F.1 F.2.1 d_Md_run_144 rfl (lv_at hl 0 rfl) ?_
              refine g_get F hP 9 17 0 (by decide) Nat.zero_lt_one (by decide) (v := .int (gi σ55 9 0 17)) rfl w_890 d_Md_run_145 ?_
              cases hf
              exact g_iret F hP hr hlk d_Md_run_148
          unfold l_Md_run_103 at hlp56
          refine lp_W (PW := fun q => ∀ (ls : Array Slot) (H : Heap) (locs : List Loc), lv_has ls 4 [(0, .ref (xL X 9 0)), (1, .int a1), (2, .int q.1), (3, .int q.2.1)] → St X n q.2.2 s.heap H locs → WG l X n rm_Md_run σ' (some (.int r)) p e s m args below meth c H locs (F0 m 103 ls [])) (PE := sP (fun q => ∀ (ls : Array Slot) (H : Heap) (locs : List Loc), lv_has ls 4 [(0, .ref (xL X 9 0))] → St X n q s.heap H locs → WG l X n rm_Md_run σ' (some (.int r)) p e s m args below meth c H locs (F0 m 123 ls [])) (fun q => ∀ (ls : Array Slot) (H : Heap) (locs : List Loc), lv_has ls 4 [(0, .ref (xL X 9 0))] → St X n q s.heap H locs → WG l X n rm_Md_run σ' (some (.int r)) p e s m args below meth c H locs (F0 m 144 ls []))) ?_ _ _ _ hlp56 KX57 _ _ _ (lv_sub hl [2, 3, 1, 0] rfl) hP
          rintro ⟨x41, x42, σ43⟩ rr44 hb_103 hI45 hE46 ls H locs hl hP
          replace hb_103 : b_Md_run_103 a1 x41 x42 σ43 = some rr44 := hb_103
          unfold b_Md_run_103 at hb_103
          refine lv_iload_n F.1 F.2.1 d_Md_run_103 rfl (lv_at hl 3 rfl) ?_
          refine lv_if_eq F.1 F.2.1 d_Md_run_104 rfl (fun hb53 => ?_) (fun hb53 => ?_)
          · rw [if_pos hb53] at hb_103
            cases hb_103
            exact hE46 _ rfl _ _ _ (lv_sub hl [0] rfl) hP
          · rw [if_neg hb53] at hb_103
            refine lv_aload_n F.1 F.2.1 d_Md_run_107 rfl (lv_at hl 0 rfl) ?_
            refine g_get F hP 9 18 0 (by decide) Nat.zero_lt_one (by decide) (v := .int (gi σ43 9 0 18)) rfl w_891 d_Md_run_108 ?_
            refine lv_aload_n F.1 F.2.1 d_Md_run_111 rfl (lv_at hl 0 rfl) ?_
            refine g_get F hP 9 10 0 (by decide) Nat.zero_lt_one (by decide) (v := .int (gi σ43 9 0 10)) rfl w_883 d_Md_run_112 ?_
            refine lv_icmp_ge F.1 F.2.1 d_Md_run_115 rfl (fun hb52 => ?_) (fun hb52 => ?_)
            · rw [if_pos hb52] at hb_103
              cases hb_103
              exact hE46 _ rfl _ _ _ (lv_sub hl [0] rfl) hP
            · rw [if_neg hb52] at hb_103
              refine lv_iload_n F.1 F.2.1 d_Md_run_118 rfl (lv_at hl 2 rfl) ?_
              refine lv_iload_n F.1 F.2.1 d_Md_run_119 rfl (lv_at hl 1 rfl) ?_
              refine lv_icmp_ne F.1 F.2.1 d_Md_run_120 rfl (fun hb51 => ?_) (fun hb51 => ?_)
              · rw [if_neg hb51] at hb_103
                refine lv_aload_n F.1 F.2.1 d_Md_run_133 rfl (lv_at hl 0 rfl) ?_
                obtain ⟨r49, σ47, hk48, hb_103⟩ := bn2_some hb_103
                refine g_callV (As := []) (rest := []) F hP 9 0 (by decide) Nat.zero_lt_one (c_Md_step l X n  hk48) rfl q_Md_step w_1075 w_11 w_1072 w_1074 wp_44 ⟨rfl, rfl⟩ ⟨by decide, by decide⟩ hl.1 (Nat.le_of_ble_eq_true rfl) ⟨Nat.zero_le _, Nat.zero_le _⟩ d_Md_run_134 rfl (fun H locs hP => ?_)
                refine W.eq (g2 := F0 m 137 ls [.int r49]) rfl ?_
                refine lv_istore_n F.1 F.2.1 d_Md_run_137 rfl hl (by decide) rfl (fun ls hl => ?_)
                have hl : lv_has ls 4 [(3, .int r49), (0, .ref (xL X 9 0)), (1, .int a1), (2, .int x41)] := hl
                obtain ⟨x50, e_x50, hb_103⟩ := lt_some hb_103
                refine lv_iinc (k := 3) (v := x50) F.1 F.2.1 d_Md_run_138 hl rfl (by rw [e_x50]; rfl) (by decide) rfl (fun ls hl => ?_)
                have hl : lv_has ls 4 [(2, .int x50), (3, .int r49), (0, .ref (xL X 9 0)), (1, .int a1)] := hl
                refine lv_goto F.1 F.2.1 d_Md_run_141 rfl ?_
                cases hb_103
                exact hI45 _ rfl _ _ _ (lv_sub hl [2, 3, 0, 1] rfl) hP
              · rw [if_pos hb51] at hb_103
                cases hb_103
                exact hE46 _ rfl _ _ _ (lv_sub hl [0] rfl) hP
        unfold l_Md_run_59 at hlp36
        refine lp_W (PW := fun q => ∀ (ls : Array Slot) (H : Heap) (locs : List Loc), lv_has ls 4 [(0, .ref (xL X 9 0)), (1, .int a1), (2, .int q.1)] → St X n q.2 s.heap H locs → WG l X n rm_Md_run σ' (some (.int r)) p e s m args below meth c H locs (F0 m 59 ls [])) (PE := fun q => ∀ (ls : Array Slot) (H : Heap) (locs : List Loc), lv_has ls 4 [(0, .ref (xL X 9 0)), (1, .int a1)] → St X n q s.heap H locs → WG l X n rm_Md_run σ' (some (.int r)) p e s m args below meth c H locs (F0 m 84 ls [])) ?_ _ _ _ hlp36 KX37 _ _ _ (lv_sub hl [1, 2, 0] rfl) hP
        rintro ⟨x24, σ25⟩ rr26 hb_59 hI27 hE28 ls H locs hl hP
        replace hb_59 : b_Md_run_59  x24 σ25 = some rr26 := hb_59
        unfold b_Md_run_59 at hb_59
        refine lv_iload_n F.1 F.2.1 d_Md_run_59 rfl (lv_at hl 2 rfl) ?_
        refine lv_iconst (v := 3) F.1 F.2.1 d_Md_run_60 (by decide) ?_
        refine lv_icmp_ge F.1 F.2.1 d_Md_run_61 rfl (fun hb34 => ?_) (fun hb34 => ?_)
        · rw [if_pos hb34] at hb_59
          cases hb_59
          exact hE28 _ rfl _ _ _ (lv_sub hl [0, 1] rfl) hP
        · rw [if_neg hb34] at hb_59
          refine lv_aload_n F.1 F.2.1 d_Md_run_64 rfl (lv_at hl 0 rfl) ?_
          refine g_get F hP 9 14 0 (by decide) Nat.zero_lt_one (by decide) (v := .ref (xL X 36 0)) rfl w_887 d_Md_run_65 ?_
          refine lv_iload_n F.1 F.2.1 d_Md_run_68 rfl (lv_at hl 2 rfl) ?_
          refine lv_iconst (v := (-1)) F.1 F.2.1 d_Md_run_69 (by decide) ?_
          obtain ⟨hc29, hb_59⟩ := chk_some hb_59
          obtain ⟨σ30, e_σ30, hb_59⟩ := lt_some hb_59
          refine g_ast F hP 36 (by decide) (by decide) Nat.zero_lt_one rfl rfl hc29 d_Md_run_70 e_σ30 (fun H locs hP => ?_)
          refine lv_aload_n F.1 F.2.1 d_Md_run_71 rfl (lv_at hl 0 rfl) ?_
          refine g_get F hP 9 15 0 (by decide) Nat.zero_lt_one (by decide) (v := .ref (xL X 37 0)) rfl w_888 d_Md_run_72 ?_
          refine lv_iload_n F.1 F.2.1 d_Md_run_75 rfl (lv_at hl 2 rfl) ?_
          refine lv_iconst (v := 0) F.1 F.2.1 d_Md_run_76 (by decide) ?_
          obtain ⟨hc31, hb_59⟩ := chk_some hb_59
          obtain ⟨σ32, e_σ32, hb_59⟩ := lt_some hb_59
          refine g_zst F hP 37 (by decide) (by decide) Nat.zero_lt_one rfl rfl hc31 d_Md_run_77 e_σ32 (fun H locs hP => ?_)
          obtain ⟨x33, e_x33, hb_59⟩ := lt_some hb_59
          refine lv_iinc (k := 2) (v := x33) F.1 F.2.1 d_Md_run_78 hl rfl (by rw [e_x33]; rfl) (by decide) rfl (fun ls hl => ?_)
          have hl : lv_has ls 4 [(2, .int x33), (0, .ref (xL X 9 0)), (1, .int a1)] := hl
          refine lv_goto F.1 F.2.1 d_Md_run_81 rfl ?_
          cases hb_59
          exact hI27 _ rfl _ _ _ (lv_sub hl [1, 2, 0] rfl) hP
      unfold l_Md_run_38 at hlp22
      refine lp_W (PW := fun q => ∀ (ls : Array Slot) (H : Heap) (locs : List Loc), lv_has ls 4 [(0, .ref (xL X 9 0)), (1, .int a1), (2, .int q.1)] → St X n q.2 s.heap H locs → WG l X n rm_Md_run σ' (some (.int r)) p e s m args below meth c H locs (F0 m 38 ls [])) (PE := fun q => ∀ (ls : Array Slot) (H : Heap) (locs : List Loc), lv_has ls 4 [(0, .ref (xL X 9 0)), (1, .int a1)] → St X n q s.heap H locs → WG l X n rm_Md_run σ' (some (.int r)) p e s m args below meth c H locs (F0 m 57 ls [])) ?_ _ _ _ hlp22 KX23 _ _ _ (lv_sub hl [1, 2, 0] rfl) hP
      rintro ⟨x12, σ13⟩ rr14 hb_38 hI15 hE16 ls H locs hl hP
      replace hb_38 : b_Md_run_38  x12 σ13 = some rr14 := hb_38
      unfold b_Md_run_38 at hb_38
      refine lv_iload_n F.1 F.2.1 d_Md_run_38 rfl (lv_at hl 2 rfl) ?_
      refine lv_bipush (v := 16) F.1 F.2.1 d_Md_run_39 (by decide) ?_
      refine lv_icmp_ge F.1 F.2.1 d_Md_run_41 rfl (fun hb20 => ?_) (fun hb20 => ?_)
      · rw [if_pos hb20] at hb_38
        cases hb_38
        exact hE16 _ rfl _ _ _ (lv_sub hl [0, 1] rfl) hP
      · rw [if_neg hb20] at hb_38
        refine lv_aload_n F.1 F.2.1 d_Md_run_44 rfl (lv_at hl 0 rfl) ?_
        refine lv_iload_n F.1 F.2.1 d_Md_run_45 rfl (lv_at hl 2 rfl) ?_
        refine lv_iconst (v := 0) F.1 F.2.1 d_Md_run_46 (by decide) ?_
        refine lv_lconst (v := 0) F.1 F.2.1 d_Md_run_47 (by decide) ?_
        obtain ⟨σ17, hk18, hb_38⟩ := bnd_some hb_38
        refine g_callV (As := [.int x12, .int 0, .long 0]) (rest := []) F hP 9 0 (by decide) Nat.zero_lt_one (c_Md_keep l X n  hk18) rfl q_Md_keep w_1071 w_11 w_1068 w_1070 wp_43 ⟨rfl, rfl⟩ ⟨by decide, by decide⟩ hl.1 (Nat.le_of_ble_eq_true rfl) ⟨Nat.zero_le _, Nat.zero_le _⟩ d_Md_run_48 rfl (fun H locs hP => ?_)
        refine W.eq (g2 := F0 m 51 ls []) rfl ?_
        obtain ⟨x19, e_x19, hb_38⟩ := lt_some hb_38
        refine lv_iinc (k := 2) (v := x19) F.1 F.2.1 d_Md_run_51 hl rfl (by rw [e_x19]; rfl) (by decide) rfl (fun ls hl => ?_)
        have hl : lv_has ls 4 [(2, .int x19), (0, .ref (xL X 9 0)), (1, .int a1)] := hl
        refine lv_goto F.1 F.2.1 d_Md_run_54 rfl ?_
        cases hb_38
        exact hI15 _ rfl _ _ _ (lv_sub hl [1, 2, 0] rfl) hP
    · rw [if_neg hb60] at hf
      refine lv_iconst (v := 0) F.1 F.2.1 d_Md_run_34 (by decide) ?_
      cases hf
      exact g_iret F hP hr hlk d_Md_run_35
  refine lv_if_lt F.1 F.2.1 d_Md_run_2 rfl (fun hb10 => ?_) (fun hb10 => ?_)
  · rw [if_pos hb10] at hj4
    refine lv_iconst (v := 1) F.1 F.2.1 d_Md_run_19 (by decide) ?_
    refine lv_goto F.1 F.2.1 d_Md_run_20 rfl ?_
    cases hj4
    exact KJ3 _ _ _ (lv_sub hl [0, 1] rfl) hP
  · rw [if_neg hb10] at hj4
    refine lv_iload_n F.1 F.2.1 d_Md_run_5 rfl (lv_at hl 1 rfl) ?_
    refine lv_sipush (v := 4000) F.1 F.2.1 d_Md_run_6 (by decide) ?_
    refine lv_icmp_gt F.1 F.2.1 d_Md_run_9 rfl (fun hb9 => ?_) (fun hb9 => ?_)
    · rw [if_pos hb9] at hj4
      refine lv_iconst (v := 1) F.1 F.2.1 d_Md_run_19 (by decide) ?_
      refine lv_goto F.1 F.2.1 d_Md_run_20 rfl ?_
      cases hj4
      exact KJ3 _ _ _ (lv_sub hl [0, 1] rfl) hP
    · rw [if_neg hb9] at hj4
      refine lv_aload_n F.1 F.2.1 d_Md_run_12 rfl (lv_at hl 0 rfl) ?_
      obtain ⟨r7, σ5, hk6, hj4⟩ := bn2_some hj4
      refine g_callV (As := []) (rest := [.ref (xL X 9 0)]) F hP 9 0 (by decide) Nat.zero_lt_one (c_Md_sound l X n  hk6) rfl q_Md_sound w_1064 w_11 w_1061 w_1063 wp_42 ⟨rfl, rfl⟩ ⟨by decide, by decide⟩ hl.1 (Nat.le_of_ble_eq_true rfl) ⟨Nat.zero_le _, Nat.zero_le _⟩ d_Md_run_13 rfl (fun H locs hP => ?_)
      refine W.eq (g2 := F0 m 16 ls [.int r7, .ref (xL X 9 0)]) rfl ?_
      refine lv_if_ne F.1 F.2.1 d_Md_run_16 rfl (fun hb8 => ?_) (fun hb8 => ?_)
      · rw [if_neg hb8] at hj4
        refine lv_iconst (v := 0) F.1 F.2.1 d_Md_run_23 (by decide) ?_
        cases hj4
        exact KJ3 _ _ _ (lv_sub hl [0, 1] rfl) hP
      · rw [if_pos hb8] at hj4
        refine lv_iconst (v := 1) F.1 F.2.1 d_Md_run_19 (by decide) ?_
        refine lv_goto F.1 F.2.1 d_Md_run_20 rfl ?_
        cases hj4
        exact KJ3 _ _ _ (lv_sub hl [0, 1] rfl) hP

theorem d_Md_result_0 : decode b_Md_result 0 = .ok (.aload_n 0, 1) := by decide +kernel
theorem d_Md_result_1 : decode b_Md_result 1 = .ok (.iconst 0, 1) := by decide +kernel
theorem d_Md_result_2 : decode b_Md_result 2 = .ok (.putfield 73, 3) := by decide +kernel
theorem d_Md_result_5 : decode b_Md_result 5 = .ok (.iload_n 1, 1) := by decide +kernel
theorem d_Md_result_6 : decode b_Md_result 6 = .ok (.iconst (-1), 1) := by decide +kernel
theorem d_Md_result_7 : decode b_Md_result 7 = .ok (.if_icmp .ne 9, 3) := by decide +kernel
theorem d_Md_result_10 : decode b_Md_result 10 = .ok (.aload_n 0, 1) := by decide +kernel
theorem d_Md_result_11 : decode b_Md_result 11 = .ok (.getfield 142, 3) := by decide +kernel
theorem d_Md_result_14 : decode b_Md_result 14 = .ok (.i2l, 1) := by decide +kernel
theorem d_Md_result_15 : decode b_Md_result 15 = .ok (.lreturn, 1) := by decide +kernel
theorem d_Md_result_16 : decode b_Md_result 16 = .ok (.aload_n 0, 1) := by decide +kernel
theorem d_Md_result_17 : decode b_Md_result 17 = .ok (.iload_n 1, 1) := by decide +kernel
theorem d_Md_result_18 : decode b_Md_result 18 = .ok (.ifCond .lt 11, 3) := by decide +kernel
theorem d_Md_result_21 : decode b_Md_result 21 = .ok (.iload_n 1, 1) := by decide +kernel
theorem d_Md_result_22 : decode b_Md_result 22 = .ok (.aload_n 0, 1) := by decide +kernel
theorem d_Md_result_23 : decode b_Md_result 23 = .ok (.getfield 142, 3) := by decide +kernel
theorem d_Md_result_26 : decode b_Md_result 26 = .ok (.if_icmp .lt 7, 3) := by decide +kernel
theorem d_Md_result_29 : decode b_Md_result 29 = .ok (.iconst 1, 1) := by decide +kernel
theorem d_Md_result_30 : decode b_Md_result 30 = .ok (.goto 4, 3) := by decide +kernel
theorem d_Md_result_33 : decode b_Md_result 33 = .ok (.iconst 0, 1) := by decide +kernel
theorem d_Md_result_34 : decode b_Md_result 34 = .ok (.putfield 73, 3) := by decide +kernel
theorem d_Md_result_37 : decode b_Md_result 37 = .ok (.aload_n 0, 1) := by decide +kernel
theorem d_Md_result_38 : decode b_Md_result 38 = .ok (.getfield 73, 3) := by decide +kernel
theorem d_Md_result_41 : decode b_Md_result 41 = .ok (.ifCond .le 5, 3) := by decide +kernel
theorem d_Md_result_44 : decode b_Md_result 44 = .ok (.lconst 0, 1) := by decide +kernel
theorem d_Md_result_45 : decode b_Md_result 45 = .ok (.lreturn, 1) := by decide +kernel
theorem d_Md_result_46 : decode b_Md_result 46 = .ok (.aload_n 0, 1) := by decide +kernel
theorem d_Md_result_47 : decode b_Md_result 47 = .ok (.iload_n 2, 1) := by decide +kernel
theorem d_Md_result_48 : decode b_Md_result 48 = .ok (.iconst (-1), 1) := by decide +kernel
theorem d_Md_result_49 : decode b_Md_result 49 = .ok (.if_icmp .lt 13, 3) := by decide +kernel
theorem d_Md_result_52 : decode b_Md_result 52 = .ok (.iload_n 2, 1) := by decide +kernel
theorem d_Md_result_53 : decode b_Md_result 53 = .ok (.aload_n 0, 1) := by decide +kernel
theorem d_Md_result_54 : decode b_Md_result 54 = .ok (.getfield 51, 3) := by decide +kernel
theorem d_Md_result_57 : decode b_Md_result 57 = .ok (.iload_n 1, 1) := by decide +kernel
theorem d_Md_result_58 : decode b_Md_result 58 = .ok (.iaload, 1) := by decide +kernel
theorem d_Md_result_59 : decode b_Md_result 59 = .ok (.if_icmp .lt 7, 3) := by decide +kernel
theorem d_Md_result_62 : decode b_Md_result 62 = .ok (.iconst 1, 1) := by decide +kernel
theorem d_Md_result_63 : decode b_Md_result 63 = .ok (.goto 4, 3) := by decide +kernel
theorem d_Md_result_66 : decode b_Md_result 66 = .ok (.iconst 0, 1) := by decide +kernel
theorem d_Md_result_67 : decode b_Md_result 67 = .ok (.putfield 73, 3) := by decide +kernel
theorem d_Md_result_70 : decode b_Md_result 70 = .ok (.aload_n 0, 1) := by decide +kernel
theorem d_Md_result_71 : decode b_Md_result 71 = .ok (.getfield 73, 3) := by decide +kernel
theorem d_Md_result_74 : decode b_Md_result 74 = .ok (.ifCond .le 7, 3) := by decide +kernel
theorem d_Md_result_77 : decode b_Md_result 77 = .ok (.lconst 0, 1) := by decide +kernel
theorem d_Md_result_78 : decode b_Md_result 78 = .ok (.goto 28, 3) := by decide +kernel
theorem d_Md_result_81 : decode b_Md_result 81 = .ok (.iload_n 2, 1) := by decide +kernel
theorem d_Md_result_82 : decode b_Md_result 82 = .ok (.iconst (-1), 1) := by decide +kernel
theorem d_Md_result_83 : decode b_Md_result 83 = .ok (.if_icmp .ne 13, 3) := by decide +kernel
theorem d_Md_result_86 : decode b_Md_result 86 = .ok (.aload_n 0, 1) := by decide +kernel
theorem d_Md_result_87 : decode b_Md_result 87 = .ok (.getfield 51, 3) := by decide +kernel
theorem d_Md_result_90 : decode b_Md_result 90 = .ok (.iload_n 1, 1) := by decide +kernel
theorem d_Md_result_91 : decode b_Md_result 91 = .ok (.iaload, 1) := by decide +kernel
theorem d_Md_result_92 : decode b_Md_result 92 = .ok (.i2l, 1) := by decide +kernel
theorem d_Md_result_93 : decode b_Md_result 93 = .ok (.goto 13, 3) := by decide +kernel
theorem d_Md_result_96 : decode b_Md_result 96 = .ok (.aload_n 0, 1) := by decide +kernel
theorem d_Md_result_97 : decode b_Md_result 97 = .ok (.getfield 54, 3) := by decide +kernel
theorem d_Md_result_100 : decode b_Md_result 100 = .ok (.iconst 4, 1) := by decide +kernel
theorem d_Md_result_101 : decode b_Md_result 101 = .ok (.iload_n 1, 1) := by decide +kernel
theorem d_Md_result_102 : decode b_Md_result 102 = .ok (.imul, 1) := by decide +kernel
theorem d_Md_result_103 : decode b_Md_result 103 = .ok (.iload_n 2, 1) := by decide +kernel
theorem d_Md_result_104 : decode b_Md_result 104 = .ok (.iadd, 1) := by decide +kernel
theorem d_Md_result_105 : decode b_Md_result 105 = .ok (.laload, 1) := by decide +kernel
theorem d_Md_result_106 : decode b_Md_result 106 = .ok (.lreturn, 1) := by decide +kernel
noncomputable def f_Md_result (a1 : Int32) (a2 : Int32) (σ : Sg) : Option (Int64 × Sg) :=
  lt_ (si σ 9 0 0 0) (fun σ1 => (if a1 = (-1) then (some ((gi σ1 9 0 19).toInt64, σ1)) else (lt_ ((if a1 < 0 then 1 else (if a1 < (gi σ1 9 0 19) then 0 else 1)) : Int32) (fun (x2 : Int32) => lt_ (si σ1 9 0 0 x2) (fun σ7 => (if (gi σ7 9 0 0) ≤ 0 then (Option.bind (if a2 < (-1) then (some (1)) else (chk (vp_in a1 64) ((if a2 < (gi σ7 39 0 a1.toNatClampNeg) then (some (0)) else (some (1)))))) (fun (x8 : Int32) => lt_ (si σ7 9 0 0 x8) (fun σ14 => Option.bind (if (gi σ14 9 0 0) ≤ 0 then (if a2 = (-1) then (chk (vp_in a1 64) (some ((gi σ14 39 0 a1.toNatClampNeg).toInt64))) else (chk (vp_in ((4 * a1) + a2) 256) (some (gj σ14 40 0 (((4 * a1) + a2).toNatClampNeg))))) else (some (0))) (fun (x15 : Int64) => some (x15, σ14))))) else (some (0, σ7))))))))
abbrev rm_Md_result : Room := { frames := 0, cells := 0, slots := 0, locals := 0 }
set_option maxHeartbeats 4000000 in
set_option maxRecDepth 100000 in
theorem c_Md_result (l : Launch) (X : GX) (n : Nat) {σ σ' : Sg} {r : Int64} {a1 : Int32} {a2 : Int32}  (hf : f_Md_result a1 a2 σ = some (r, σ')) : Met l y_Md_result (cw y_Md_result b_Md_result 3 (some .long)) rm_Md_result (PcG X n σ [.ref (xL X 9 0), .int a1, .int a2]) (QcG X n σ' (some (.long r))) 0 0 (fr X n) := by
  refine g_head (own := "TableMachineModel") (by decide) rfl (Nat.le_of_ble_eq_true rfl) ?_
  intro p e s m args below meth c ls F hr hlk hP hl
  have hl : lv_has ls 3 [(0, .ref (xL X 9 0)), (1, .int a1), (2, .int a2)] := hl
  show WG l X n rm_Md_result σ' (some (.long r)) p e s m args below meth c s.heap [] (F0 m 0 ls [])
  unfold f_Md_result at hf
  refine lv_aload_n F.1 F.2.1 d_Md_result_0 rfl (lv_at hl 0 rfl) ?_
  refine lv_iconst (v := 0) F.1 F.2.1 d_Md_result_1 (by decide) ?_
  obtain ⟨σ1, e_σ1, hf⟩ := lt_some hf
  refine g_puti F hP 9 0 0 (by decide) Nat.zero_lt_one (by decide) rfl rfl rfl rfl (Or.inl w_873) d_Md_result_2 e_σ1 (fun H locs hP => ?_)
  refine lv_iload_n F.1 F.2.1 d_Md_result_5 rfl (lv_at hl 1 rfl) ?_
  refine lv_iconst (v := (-1)) F.1 F.2.1 d_Md_result_6 (by decide) ?_
  refine lv_icmp_ne F.1 F.2.1 d_Md_result_7 rfl (fun hb23 => ?_) (fun hb23 => ?_)
  · rw [if_neg hb23] at hf
    refine lv_aload_n F.1 F.2.1 d_Md_result_16 rfl (lv_at hl 0 rfl) ?_
    refine lv_iload_n F.1 F.2.1 d_Md_result_17 rfl (lv_at hl 1 rfl) ?_
    obtain ⟨x2, hj4, hf⟩ := lt_some2 hf
    have KJ3 : ∀ (ls : Array Slot) (H : Heap) (locs : List Loc), lv_has ls 3 [(0, .ref (xL X 9 0)), (1, .int a1), (2, .int a2)] → St X n σ1 s.heap H locs → WG l X n rm_Md_result σ' (some (.long r)) p e s m args below meth c H locs (F0 m 34 ls [.int x2, .ref (xL X 9 0)]) := by
      intro ls H locs hl hP
      obtain ⟨σ7, e_σ7, hf⟩ := lt_some hf
      refine g_puti F hP 9 0 0 (by decide) Nat.zero_lt_one (by decide) rfl rfl rfl rfl (Or.inl w_873) d_Md_result_34 e_σ7 (fun H locs hP => ?_)
      refine lv_aload_n F.1 F.2.1 d_Md_result_37 rfl (lv_at hl 0 rfl) ?_
      refine g_get F hP 9 0 0 (by decide) Nat.zero_lt_one (by decide) (v := .int (gi σ7 9 0 0)) rfl w_873 d_Md_result_38 ?_
      refine lv_if_le F.1 F.2.1 d_Md_result_41 rfl (fun hb22 => ?_) (fun hb22 => ?_)
      · rw [if_pos hb22] at hf
        refine lv_aload_n F.1 F.2.1 d_Md_result_46 rfl (lv_at hl 0 rfl) ?_
        refine lv_iload_n F.1 F.2.1 d_Md_result_47 rfl (lv_at hl 2 rfl) ?_
        refine lv_iconst (v := (-1)) F.1 F.2.1 d_Md_result_48 (by decide) ?_
        obtain ⟨x8, hj10, hf⟩ := bnd_some hf
        have KJ9 : ∀ (ls : Array Slot) (H : Heap) (locs : List Loc), lv_has ls 3 [(0, .ref (xL X 9 0)), (1, .int a1), (2, .int a2)] → St X n σ7 s.heap H locs → WG l X n rm_Md_result σ' (some (.long r)) p e s m args below meth c H locs (F0 m 67 ls [.int x8, .ref (xL X 9 0)]) := by
          intro ls H locs hl hP
          obtain ⟨σ14, e_σ14, hf⟩ := lt_some hf
          refine g_puti F hP 9 0 0 (by decide) Nat.zero_lt_one (by decide) rfl rfl rfl rfl (Or.inl w_873) d_Md_result_67 e_σ14 (fun H locs hP => ?_)
          refine lv_aload_n F.1 F.2.1 d_Md_result_70 rfl (lv_at hl 0 rfl) ?_
          refine g_get F hP 9 0 0 (by decide) Nat.zero_lt_one (by decide) (v := .int (gi σ14 9 0 0)) rfl w_873 d_Md_result_71 ?_
          obtain ⟨x15, hj17, hf⟩ := bnd_some hf
          have KJ16 : ∀ (ls : Array Slot) (H : Heap) (locs : List Loc), lv_has ls 3 [] → St X n σ14 s.heap H locs → WG l X n rm_Md_result σ' (some (.long r)) p e s m args below meth c H locs (F0 m 106 ls [.long x15]) := by
            intro ls H locs hl hP
            cases hf
            exact g_lret F hP hr hlk d_Md_result_106
          refine lv_if_le F.1 F.2.1 d_Md_result_74 rfl (fun hb21 => ?_) (fun hb21 => ?_)
          · rw [if_pos hb21] at hj17
            refine lv_iload_n F.1 F.2.1 d_Md_result_81 rfl (lv_at hl 2 rfl) ?_
            refine lv_iconst (v := (-1)) F.1 F.2.1 d_Md_result_82 (by decide) ?_
            refine lv_icmp_ne F.1 F.2.1 d_Md_result_83 rfl (fun hb20 => ?_) (fun hb20 => ?_)
            · rw [if_neg hb20] at hj17
              refine lv_aload_n F.1 F.2.1 d_Md_result_96 rfl (lv_at hl 0 rfl) ?_
              refine g_get F hP 9 21 0 (by decide) Nat.zero_lt_one (by decide) (v := .ref (xL X 40 0)) rfl w_894 d_Md_result_97 ?_
              refine lv_iconst (v := 4) F.1 F.2.1 d_Md_result_100 (by decide) ?_
              refine lv_iload_n F.1 F.2.1 d_Md_result_101 rfl (lv_at hl 1 rfl) ?_
              refine lv_imul F.1 F.2.1 d_Md_result_102 ?_
              refine lv_iload_n F.1 F.2.1 d_Md_result_103 rfl (lv_at hl 2 rfl) ?_
              refine lv_iadd F.1 F.2.1 d_Md_result_104 ?_
              obtain ⟨hc18, hj17⟩ := chk_some hj17
              refine g_lld F hP 40 (by decide) (by decide) Nat.zero_lt_one rfl rfl hc18 d_Md_result_105 ?_
              cases hj17
              exact KJ16 _ _ _ (lv_sub hl [] rfl) hP
            · rw [if_pos hb20] at hj17
              refine lv_aload_n F.1 F.2.1 d_Md_result_86 rfl (lv_at hl 0 rfl) ?_
              refine g_get F hP 9 20 0 (by decide) Nat.zero_lt_one (by decide) (v := .ref (xL X 39 0)) rfl w_893 d_Md_result_87 ?_
              refine lv_iload_n F.1 F.2.1 d_Md_result_90 rfl (lv_at hl 1 rfl) ?_
              obtain ⟨hc19, hj17⟩ := chk_some hj17
              refine g_ald F hP 39 (by decide) (by decide) Nat.zero_lt_one rfl rfl hc19 d_Md_result_91 ?_
              refine lv_i2l F.1 F.2.1 d_Md_result_92 rfl ?_
              refine lv_goto F.1 F.2.1 d_Md_result_93 rfl ?_
              cases hj17
              exact KJ16 _ _ _ (lv_sub hl [] rfl) hP
          · rw [if_neg hb21] at hj17
            refine lv_lconst (v := 0) F.1 F.2.1 d_Md_result_77 (by decide) ?_
            refine lv_goto F.1 F.2.1 d_Md_result_78 rfl ?_
            cases hj17
            exact KJ16 _ _ _ (lv_sub hl [] rfl) hP
        refine lv_icmp_lt F.1 F.2.1 d_Md_result_49 rfl (fun hb13 => ?_) (fun hb13 => ?_)
        · rw [if_pos hb13] at hj10
          refine lv_iconst (v := 1) F.1 F.2.1 d_Md_result_62 (by decide) ?_
          refine lv_goto F.1 F.2.1 d_Md_result_63 rfl ?_
          cases hj10
          exact KJ9 _ _ _ (lv_sub hl [0, 1, 2] rfl) hP
        · rw [if_neg hb13] at hj10
          refine lv_iload_n F.1 F.2.1 d_Md_result_52 rfl (lv_at hl 2 rfl) ?_
          refine lv_aload_n F.1 F.2.1 d_Md_result_53 rfl (lv_at hl 0 rfl) ?_
          refine g_get F hP 9 20 0 (by decide) Nat.zero_lt_one (by decide) (v := .ref (xL X 39 0)) rfl w_893 d_Md_result_54 ?_
          refine lv_iload_n F.1 F.2.1 d_Md_result_57 rfl (lv_at hl 1 rfl) ?_
          obtain ⟨hc11, hj10⟩ := chk_some hj10
          refine g_ald F hP 39 (by decide) (by decide) Nat.zero_lt_one rfl rfl hc11 d_Md_result_58 ?_
          refine lv_icmp_lt F.1 F.2.1 d_Md_result_59 rfl (fun hb12 => ?_) (fun hb12 => ?_)
          · rw [if_pos hb12] at hj10
            refine lv_iconst (v := 0) F.1 F.2.1 d_Md_result_66 (by decide) ?_
            cases hj10
            exact KJ9 _ _ _ (lv_sub hl [0, 1, 2] rfl) hP
          · rw [if_neg hb12] at hj10
            refine lv_iconst (v := 1) F.1 F.2.1 d_Md_result_62 (by decide) ?_
            refine lv_goto F.1 F.2.1 d_Md_result_63 rfl ?_
            cases hj10
            exact KJ9 _ _ _ (lv_sub hl [0, 1, 2] rfl) hP
      · rw [if_neg hb22] at hf
        refine lv_lconst (v := 0) F.1 F.2.1 d_Md_result_44 (by decide) ?_
        cases hf
        exact g_lret F hP hr hlk d_Md_result_45
    refine lv_if_lt F.1 F.2.1 d_Md_result_18 rfl (fun hb6 => ?_) (fun hb6 => ?_)
    · rw [if_pos hb6] at hj4
      refine lv_iconst (v := 1) F.1 F.2.1 d_Md_result_29 (by decide) ?_
      refine lv_goto F.1 F.2.1 d_Md_result_30 rfl ?_
      subst hj4
      exact KJ3 _ _ _ (lv_sub hl [0, 1, 2] rfl) hP
    · rw [if_neg hb6] at hj4
      refine lv_iload_n F.1 F.2.1 d_Md_result_21 rfl (lv_at hl 1 rfl) ?_
      refine lv_aload_n F.1 F.2.1 d_Md_result_22 rfl (lv_at hl 0 rfl) ?_
      refine g_get F hP 9 19 0 (by decide) Nat.zero_lt_one (by decide) (v := .int (gi σ1 9 0 19)) rfl w_892 d_Md_result_23 ?_
      refine lv_icmp_lt F.1 F.2.1 d_Md_result_26 rfl (fun hb5 => ?_) (fun hb5 => ?_)
      · rw [if_pos hb5] at hj4
        refine lv_iconst (v := 0) F.1 F.2.1 d_Md_result_33 (by decide) ?_
        subst hj4
        exact KJ3 _ _ _ (lv_sub hl [0, 1, 2] rfl) hP
      · rw [if_neg hb5] at hj4
        refine lv_iconst (v := 1) F.1 F.2.1 d_Md_result_29 (by decide) ?_
        refine lv_goto F.1 F.2.1 d_Md_result_30 rfl ?_
        subst hj4
        exact KJ3 _ _ _ (lv_sub hl [0, 1, 2] rfl) hP
  · rw [if_pos hb23] at hf
    refine lv_aload_n F.1 F.2.1 d_Md_result_10 rfl (lv_at hl 0 rfl) ?_
    refine g_get F hP 9 19 0 (by decide) Nat.zero_lt_one (by decide) (v := .int (gi σ1 9 0 19)) rfl w_892 d_Md_result_11 ?_
    refine lv_i2l F.1 F.2.1 d_Md_result_14 rfl ?_
    cases hf
    exact g_lret F hP hr hlk d_Md_result_15

theorem d_Md_wasNull_0 : decode b_Md_wasNull 0 = .ok (.aload_n 0, 1) := by decide +kernel
theorem d_Md_wasNull_1 : decode b_Md_wasNull 1 = .ok (.iload_n 1, 1) := by decide +kernel
theorem d_Md_wasNull_2 : decode b_Md_wasNull 2 = .ok (.ifCond .lt 11, 3) := by decide +kernel
theorem d_Md_wasNull_5 : decode b_Md_wasNull 5 = .ok (.iload_n 1, 1) := by decide +kernel
theorem d_Md_wasNull_6 : decode b_Md_wasNull 6 = .ok (.aload_n 0, 1) := by decide +kernel
theorem d_Md_wasNull_7 : decode b_Md_wasNull 7 = .ok (.getfield 142, 3) := by decide +kernel
theorem d_Md_wasNull_10 : decode b_Md_wasNull 10 = .ok (.if_icmp .lt 7, 3) := by decide +kernel
theorem d_Md_wasNull_13 : decode b_Md_wasNull 13 = .ok (.iconst 1, 1) := by decide +kernel
theorem d_Md_wasNull_14 : decode b_Md_wasNull 14 = .ok (.goto 4, 3) := by decide +kernel
theorem d_Md_wasNull_17 : decode b_Md_wasNull 17 = .ok (.iconst 0, 1) := by decide +kernel
theorem d_Md_wasNull_18 : decode b_Md_wasNull 18 = .ok (.putfield 73, 3) := by decide +kernel
theorem d_Md_wasNull_21 : decode b_Md_wasNull 21 = .ok (.aload_n 0, 1) := by decide +kernel
theorem d_Md_wasNull_22 : decode b_Md_wasNull 22 = .ok (.getfield 73, 3) := by decide +kernel
theorem d_Md_wasNull_25 : decode b_Md_wasNull 25 = .ok (.ifCond .le 5, 3) := by decide +kernel
theorem d_Md_wasNull_28 : decode b_Md_wasNull 28 = .ok (.iconst 0, 1) := by decide +kernel
theorem d_Md_wasNull_29 : decode b_Md_wasNull 29 = .ok (.ireturn, 1) := by decide +kernel
theorem d_Md_wasNull_30 : decode b_Md_wasNull 30 = .ok (.aload_n 0, 1) := by decide +kernel
theorem d_Md_wasNull_31 : decode b_Md_wasNull 31 = .ok (.iload_n 2, 1) := by decide +kernel
theorem d_Md_wasNull_32 : decode b_Md_wasNull 32 = .ok (.ifCond .lt 13, 3) := by decide +kernel
theorem d_Md_wasNull_35 : decode b_Md_wasNull 35 = .ok (.iload_n 2, 1) := by decide +kernel
theorem d_Md_wasNull_36 : decode b_Md_wasNull 36 = .ok (.aload_n 0, 1) := by decide +kernel
theorem d_Md_wasNull_37 : decode b_Md_wasNull 37 = .ok (.getfield 51, 3) := by decide +kernel
theorem d_Md_wasNull_40 : decode b_Md_wasNull 40 = .ok (.iload_n 1, 1) := by decide +kernel
theorem d_Md_wasNull_41 : decode b_Md_wasNull 41 = .ok (.iaload, 1) := by decide +kernel
theorem d_Md_wasNull_42 : decode b_Md_wasNull 42 = .ok (.if_icmp .lt 7, 3) := by decide +kernel
theorem d_Md_wasNull_45 : decode b_Md_wasNull 45 = .ok (.iconst 1, 1) := by decide +kernel
theorem d_Md_wasNull_46 : decode b_Md_wasNull 46 = .ok (.goto 4, 3) := by decide +kernel
theorem d_Md_wasNull_49 : decode b_Md_wasNull 49 = .ok (.iconst 0, 1) := by decide +kernel
theorem d_Md_wasNull_50 : decode b_Md_wasNull 50 = .ok (.putfield 73, 3) := by decide +kernel
theorem d_Md_wasNull_53 : decode b_Md_wasNull 53 = .ok (.aload_n 0, 1) := by decide +kernel
theorem d_Md_wasNull_54 : decode b_Md_wasNull 54 = .ok (.getfield 73, 3) := by decide +kernel
theorem d_Md_wasNull_57 : decode b_Md_wasNull 57 = .ok (.ifCond .ne 20, 3) := by decide +kernel
theorem d_Md_wasNull_60 : decode b_Md_wasNull 60 = .ok (.aload_n 0, 1) := by decide +kernel
theorem d_Md_wasNull_61 : decode b_Md_wasNull 61 = .ok (.getfield 57, 3) := by decide +kernel
theorem d_Md_wasNull_64 : decode b_Md_wasNull 64 = .ok (.iconst 4, 1) := by decide +kernel
theorem d_Md_wasNull_65 : decode b_Md_wasNull 65 = .ok (.iload_n 1, 1) := by decide +kernel
theorem d_Md_wasNull_66 : decode b_Md_wasNull 66 = .ok (.imul, 1) := by decide +kernel
theorem d_Md_wasNull_67 : decode b_Md_wasNull 67 = .ok (.iload_n 2, 1) := by decide +kernel
theorem d_Md_wasNull_68 : decode b_Md_wasNull 68 = .ok (.iadd, 1) := by decide +kernel
theorem d_Md_wasNull_69 : decode b_Md_wasNull 69 = .ok (.baload, 1) := by decide +kernel
theorem d_Md_wasNull_70 : decode b_Md_wasNull 70 = .ok (.ifCond .ne 7, 3) := by decide +kernel
theorem d_Md_wasNull_73 : decode b_Md_wasNull 73 = .ok (.iconst 1, 1) := by decide +kernel
theorem d_Md_wasNull_74 : decode b_Md_wasNull 74 = .ok (.goto 4, 3) := by decide +kernel
theorem d_Md_wasNull_77 : decode b_Md_wasNull 77 = .ok (.iconst 0, 1) := by decide +kernel
theorem d_Md_wasNull_78 : decode b_Md_wasNull 78 = .ok (.ireturn, 1) := by decide +kernel
noncomputable def f_Md_wasNull (a1 : Int32) (a2 : Int32) (σ : Sg) : Option (Int32 × Sg) :=
  lt_ ((if a1 < 0 then 1 else (if a1 < (gi σ 9 0 19) then 0 else 1)) : Int32) (fun (x1 : Int32) => lt_ (si σ 9 0 0 x1) (fun σ6 => (if (gi σ6 9 0 0) ≤ 0 then (Option.bind (if a2 < 0 then (some (1)) else (chk (vp_in a1 64) ((if a2 < (gi σ6 39 0 a1.toNatClampNeg) then (some (0)) else (some (1)))))) (fun (x7 : Int32) => lt_ (si σ6 9 0 0 x7) (fun σ13 => Option.bind (if (gi σ13 9 0 0) = 0 then (chk (vp_in ((4 * a1) + a2) 256) ((if (gi σ13 41 0 (((4 * a1) + a2).toNatClampNeg)) = 0 then (some (1)) else (some (0))))) else (some (0))) (fun (x14 : Int32) => chk (zb x14) (some (x14, σ13)))))) else (some (0, σ6)))))
abbrev rm_Md_wasNull : Room := { frames := 0, cells := 0, slots := 0, locals := 0 }
set_option maxHeartbeats 4000000 in
set_option maxRecDepth 100000 in
theorem c_Md_wasNull (l : Launch) (X : GX) (n : Nat) {σ σ' : Sg} {r : Int32} {a1 : Int32} {a2 : Int32}  (hf : f_Md_wasNull a1 a2 σ = some (r, σ')) : Met l y_Md_wasNull (cw y_Md_wasNull b_Md_wasNull 3 (some .boolean)) rm_Md_wasNull (PcG X n σ [.ref (xL X 9 0), .int a1, .int a2]) (QcG X n σ' (some (.int r))) 0 0 (fr X n) := by
  refine g_head (own := "TableMachineModel") (by decide) rfl (Nat.le_of_ble_eq_true rfl) ?_
  intro p e s m args below meth c ls F hr hlk hP hl
  have hl : lv_has ls 3 [(0, .ref (xL X 9 0)), (1, .int a1), (2, .int a2)] := hl
  show WG l X n rm_Md_wasNull σ' (some (.int r)) p e s m args below meth c s.heap [] (F0 m 0 ls [])
  unfold f_Md_wasNull at hf
  refine lv_aload_n F.1 F.2.1 d_Md_wasNull_0 rfl (lv_at hl 0 rfl) ?_
  refine lv_iload_n F.1 F.2.1 d_Md_wasNull_1 rfl (lv_at hl 1 rfl) ?_
  obtain ⟨x1, hj3, hf⟩ := lt_some2 hf
  have KJ2 : ∀ (ls : Array Slot) (H : Heap) (locs : List Loc), lv_has ls 3 [(0, .ref (xL X 9 0)), (1, .int a1), (2, .int a2)] → St X n σ s.heap H locs → WG l X n rm_Md_wasNull σ' (some (.int r)) p e s m args below meth c H locs (F0 m 18 ls [.int x1, .ref (xL X 9 0)]) := by
    intro ls H locs hl hP
    obtain ⟨σ6, e_σ6, hf⟩ := lt_some hf
    refine g_puti F hP 9 0 0 (by decide) Nat.zero_lt_one (by decide) rfl rfl rfl rfl (Or.inl w_873) d_Md_wasNull_18 e_σ6 (fun H locs hP => ?_)
    refine lv_aload_n F.1 F.2.1 d_Md_wasNull_21 rfl (lv_at hl 0 rfl) ?_
    refine g_get F hP 9 0 0 (by decide) Nat.zero_lt_one (by decide) (v := .int (gi σ6 9 0 0)) rfl w_873 d_Md_wasNull_22 ?_
    refine lv_if_le F.1 F.2.1 d_Md_wasNull_25 rfl (fun hb21 => ?_) (fun hb21 => ?_)
    · rw [if_pos hb21] at hf
      refine lv_aload_n F.1 F.2.1 d_Md_wasNull_30 rfl (lv_at hl 0 rfl) ?_
      refine lv_iload_n F.1 F.2.1 d_Md_wasNull_31 rfl (lv_at hl 2 rfl) ?_
      obtain ⟨x7, hj9, hf⟩ := bnd_some hf
      have KJ8 : ∀ (ls : Array Slot) (H : Heap) (locs : List Loc), lv_has ls 3 [(0, .ref (xL X 9 0)), (1, .int a1), (2, .int a2)] → St X n σ6 s.heap H locs → WG l X n rm_Md_wasNull σ' (some (.int r)) p e s m args below meth c H locs (F0 m 50 ls [.int x7, .ref (xL X 9 0)]) := by
        intro ls H locs hl hP
        obtain ⟨σ13, e_σ13, hf⟩ := lt_some hf
        refine g_puti F hP 9 0 0 (by decide) Nat.zero_lt_one (by decide) rfl rfl rfl rfl (Or.inl w_873) d_Md_wasNull_50 e_σ13 (fun H locs hP => ?_)
        refine lv_aload_n F.1 F.2.1 d_Md_wasNull_53 rfl (lv_at hl 0 rfl) ?_
        refine g_get F hP 9 0 0 (by decide) Nat.zero_lt_one (by decide) (v := .int (gi σ13 9 0 0)) rfl w_873 d_Md_wasNull_54 ?_
        obtain ⟨x14, hj16, hf⟩ := bnd_some hf
        have KJ15 : ∀ (ls : Array Slot) (H : Heap) (locs : List Loc), lv_has ls 3 [] → St X n σ13 s.heap H locs → WG l X n rm_Md_wasNull σ' (some (.int r)) p e s m args below meth c H locs (F0 m 78 ls [.int x14]) := by
          intro ls H locs hl hP
          obtain ⟨hz20, hf⟩ := chk_some hf
          cases hf
          exact g_zret F hP hr hlk hz20 d_Md_wasNull_78
        refine lv_if_ne F.1 F.2.1 d_Md_wasNull_57 rfl (fun hb19 => ?_) (fun hb19 => ?_)
        · rw [if_neg hb19] at hj16
          refine lv_iconst (v := 0) F.1 F.2.1 d_Md_wasNull_77 (by decide) ?_
          cases hj16
          exact KJ15 _ _ _ (lv_sub hl [] rfl) hP
        · rw [if_pos hb19] at hj16
          refine lv_aload_n F.1 F.2.1 d_Md_wasNull_60 rfl (lv_at hl 0 rfl) ?_
          refine g_get F hP 9 22 0 (by decide) Nat.zero_lt_one (by decide) (v := .ref (xL X 41 0)) rfl w_895 d_Md_wasNull_61 ?_
          refine lv_iconst (v := 4) F.1 F.2.1 d_Md_wasNull_64 (by decide) ?_
          refine lv_iload_n F.1 F.2.1 d_Md_wasNull_65 rfl (lv_at hl 1 rfl) ?_
          refine lv_imul F.1 F.2.1 d_Md_wasNull_66 ?_
          refine lv_iload_n F.1 F.2.1 d_Md_wasNull_67 rfl (lv_at hl 2 rfl) ?_
          refine lv_iadd F.1 F.2.1 d_Md_wasNull_68 ?_
          obtain ⟨hc17, hj16⟩ := chk_some hj16
          refine g_zld F hP 41 (by decide) (by decide) Nat.zero_lt_one rfl rfl hc17 d_Md_wasNull_69 ?_
          refine lv_if_ne F.1 F.2.1 d_Md_wasNull_70 rfl (fun hb18 => ?_) (fun hb18 => ?_)
          · rw [if_neg hb18] at hj16
            refine lv_iconst (v := 0) F.1 F.2.1 d_Md_wasNull_77 (by decide) ?_
            cases hj16
            exact KJ15 _ _ _ (lv_sub hl [] rfl) hP
          · rw [if_pos hb18] at hj16
            refine lv_iconst (v := 1) F.1 F.2.1 d_Md_wasNull_73 (by decide) ?_
            refine lv_goto F.1 F.2.1 d_Md_wasNull_74 rfl ?_
            cases hj16
            exact KJ15 _ _ _ (lv_sub hl [] rfl) hP
      refine lv_if_lt F.1 F.2.1 d_Md_wasNull_32 rfl (fun hb12 => ?_) (fun hb12 => ?_)
      · rw [if_pos hb12] at hj9
        refine lv_iconst (v := 1) F.1 F.2.1 d_Md_wasNull_45 (by decide) ?_
        refine lv_goto F.1 F.2.1 d_Md_wasNull_46 rfl ?_
        cases hj9
        exact KJ8 _ _ _ (lv_sub hl [0, 1, 2] rfl) hP
      · rw [if_neg hb12] at hj9
        refine lv_iload_n F.1 F.2.1 d_Md_wasNull_35 rfl (lv_at hl 2 rfl) ?_
        refine lv_aload_n F.1 F.2.1 d_Md_wasNull_36 rfl (lv_at hl 0 rfl) ?_
        refine g_get F hP 9 20 0 (by decide) Nat.zero_lt_one (by decide) (v := .ref (xL X 39 0)) rfl w_893 d_Md_wasNull_37 ?_
        refine lv_iload_n F.1 F.2.1 d_Md_wasNull_40 rfl (lv_at hl 1 rfl) ?_
        obtain ⟨hc10, hj9⟩ := chk_some hj9
        refine g_ald F hP 39 (by decide) (by decide) Nat.zero_lt_one rfl rfl hc10 d_Md_wasNull_41 ?_
        refine lv_icmp_lt F.1 F.2.1 d_Md_wasNull_42 rfl (fun hb11 => ?_) (fun hb11 => ?_)
        · rw [if_pos hb11] at hj9
          refine lv_iconst (v := 0) F.1 F.2.1 d_Md_wasNull_49 (by decide) ?_
          cases hj9
          exact KJ8 _ _ _ (lv_sub hl [0, 1, 2] rfl) hP
        · rw [if_neg hb11] at hj9
          refine lv_iconst (v := 1) F.1 F.2.1 d_Md_wasNull_45 (by decide) ?_
          refine lv_goto F.1 F.2.1 d_Md_wasNull_46 rfl ?_
          cases hj9
          exact KJ8 _ _ _ (lv_sub hl [0, 1, 2] rfl) hP
    · rw [if_neg hb21] at hf
      refine lv_iconst (v := 0) F.1 F.2.1 d_Md_wasNull_28 (by decide) ?_
      cases hf
      exact g_zret F hP hr hlk zb0 d_Md_wasNull_29
  refine lv_if_lt F.1 F.2.1 d_Md_wasNull_2 rfl (fun hb5 => ?_) (fun hb5 => ?_)
  · rw [if_pos hb5] at hj3
    refine lv_iconst (v := 1) F.1 F.2.1 d_Md_wasNull_13 (by decide) ?_
    refine lv_goto F.1 F.2.1 d_Md_wasNull_14 rfl ?_
    subst hj3
    exact KJ2 _ _ _ (lv_sub hl [0, 1, 2] rfl) hP
  · rw [if_neg hb5] at hj3
    refine lv_iload_n F.1 F.2.1 d_Md_wasNull_5 rfl (lv_at hl 1 rfl) ?_
    refine lv_aload_n F.1 F.2.1 d_Md_wasNull_6 rfl (lv_at hl 0 rfl) ?_
    refine g_get F hP 9 19 0 (by decide) Nat.zero_lt_one (by decide) (v := .int (gi σ 9 0 19)) rfl w_892 d_Md_wasNull_7 ?_
    refine lv_icmp_lt F.1 F.2.1 d_Md_wasNull_10 rfl (fun hb4 => ?_) (fun hb4 => ?_)
    · rw [if_pos hb4] at hj3
      refine lv_iconst (v := 0) F.1 F.2.1 d_Md_wasNull_17 (by decide) ?_
      subst hj3
      exact KJ2 _ _ _ (lv_sub hl [0, 1, 2] rfl) hP
    · rw [if_neg hb4] at hj3
      refine lv_iconst (v := 1) F.1 F.2.1 d_Md_wasNull_13 (by decide) ?_
      refine lv_goto F.1 F.2.1 d_Md_wasNull_14 rfl ?_
      subst hj3
      exact KJ2 _ _ _ (lv_sub hl [0, 1, 2] rfl) hP

theorem d_Md_ask_0 : decode b_Md_ask 0 = .ok (.aload_n 0, 1) := by decide +kernel
theorem d_Md_ask_1 : decode b_Md_ask 1 = .ok (.iconst 0, 1) := by decide +kernel
theorem d_Md_ask_2 : decode b_Md_ask 2 = .ok (.putfield 73, 3) := by decide +kernel
theorem d_Md_ask_5 : decode b_Md_ask 5 = .ok (.aload_n 0, 1) := by decide +kernel
theorem d_Md_ask_6 : decode b_Md_ask 6 = .ok (.iload_n 1, 1) := by decide +kernel
theorem d_Md_ask_7 : decode b_Md_ask 7 = .ok (.invokevirtual 82, 3) := by decide +kernel
theorem d_Md_ask_10 : decode b_Md_ask 10 = .ok (.ifCond .eq 16, 3) := by decide +kernel
theorem d_Md_ask_13 : decode b_Md_ask 13 = .ok (.iload_n 2, 1) := by decide +kernel
theorem d_Md_ask_14 : decode b_Md_ask 14 = .ok (.iconst (-1), 1) := by decide +kernel
theorem d_Md_ask_15 : decode b_Md_ask 15 = .ok (.if_icmp .eq 13, 3) := by decide +kernel
theorem d_Md_ask_18 : decode b_Md_ask 18 = .ok (.aload_n 0, 1) := by decide +kernel
theorem d_Md_ask_19 : decode b_Md_ask 19 = .ok (.iload_n 2, 1) := by decide +kernel
theorem d_Md_ask_20 : decode b_Md_ask 20 = .ok (.invokevirtual 82, 3) := by decide +kernel
theorem d_Md_ask_23 : decode b_Md_ask 23 = .ok (.ifCond .ne 5, 3) := by decide +kernel
theorem d_Md_ask_26 : decode b_Md_ask 26 = .ok (.iconst 0, 1) := by decide +kernel
theorem d_Md_ask_27 : decode b_Md_ask 27 = .ok (.ireturn, 1) := by decide +kernel
theorem d_Md_ask_28 : decode b_Md_ask 28 = .ok (.aload_n 0, 1) := by decide +kernel
theorem d_Md_ask_29 : decode b_Md_ask 29 = .ok (.iload_n 1, 1) := by decide +kernel
theorem d_Md_ask_30 : decode b_Md_ask 30 = .ok (.putfield 60, 3) := by decide +kernel
theorem d_Md_ask_33 : decode b_Md_ask 33 = .ok (.aload_n 0, 1) := by decide +kernel
theorem d_Md_ask_34 : decode b_Md_ask 34 = .ok (.iload_n 2, 1) := by decide +kernel
theorem d_Md_ask_35 : decode b_Md_ask 35 = .ok (.putfield 64, 3) := by decide +kernel
theorem d_Md_ask_38 : decode b_Md_ask 38 = .ok (.aload_n 0, 1) := by decide +kernel
theorem d_Md_ask_39 : decode b_Md_ask 39 = .ok (.iconst 0, 1) := by decide +kernel
theorem d_Md_ask_40 : decode b_Md_ask 40 = .ok (.putfield 171, 3) := by decide +kernel
theorem d_Md_ask_43 : decode b_Md_ask 43 = .ok (.aload_n 0, 1) := by decide +kernel
theorem d_Md_ask_44 : decode b_Md_ask 44 = .ok (.iconst 0, 1) := by decide +kernel
theorem d_Md_ask_45 : decode b_Md_ask 45 = .ok (.putfield 174, 3) := by decide +kernel
theorem d_Md_ask_48 : decode b_Md_ask 48 = .ok (.aload_n 0, 1) := by decide +kernel
theorem d_Md_ask_49 : decode b_Md_ask 49 = .ok (.iconst 0, 1) := by decide +kernel
theorem d_Md_ask_50 : decode b_Md_ask 50 = .ok (.putfield 177, 3) := by decide +kernel
theorem d_Md_ask_53 : decode b_Md_ask 53 = .ok (.iconst 1, 1) := by decide +kernel
theorem d_Md_ask_54 : decode b_Md_ask 54 = .ok (.ireturn, 1) := by decide +kernel
noncomputable def f_Md_ask (a1 : Int32) (a2 : Int32) (σ : Sg) : Option (Int32 × Sg) :=
  lt_ (si σ 9 0 0 0) (fun σ1 => bn2 (f_Md_isTable a1 σ1) (fun r4 σ2 => (if r4 = 0 then (some (0, σ2)) else (if a2 = (-1) then (lt_ (si σ2 9 0 23 a1) (fun σ5 => lt_ (si σ5 9 0 24 a2) (fun σ6 => lt_ (si σ6 9 0 25 0) (fun σ7 => lt_ (si σ7 9 0 27 0) (fun σ8 => lt_ (si σ8 9 0 29 0) (fun σ9 => some (1, σ9))))))) else (bn2 (f_Md_isTable a2 σ2) (fun r12 σ10 => (if r12 = 0 then (some (0, σ10)) else (lt_ (si σ10 9 0 23 a1) (fun σ13 => lt_ (si σ13 9 0 24 a2) (fun σ14 => lt_ (si σ14 9 0 25 0) (fun σ15 => lt_ (si σ15 9 0 27 0) (fun σ16 => lt_ (si σ16 9 0 29 0) (fun σ17 => some (1, σ17))))))))))))))
abbrev rm_Md_ask : Room := { frames := 1, cells := 0, slots := 0, locals := 21 }
set_option maxHeartbeats 4000000 in
set_option maxRecDepth 100000 in
theorem c_Md_ask (l : Launch) (X : GX) (n : Nat) {σ σ' : Sg} {r : Int32} {a1 : Int32} {a2 : Int32}  (hf : f_Md_ask a1 a2 σ = some (r, σ')) : Met l y_Md_ask (cw y_Md_ask b_Md_ask 3 (some .boolean)) rm_Md_ask (PcG X n σ [.ref (xL X 9 0), .int a1, .int a2]) (QcG X n σ' (some (.int r))) 0 0 (fr X n) := by
  refine g_head (own := "TableMachineModel") (by decide) rfl (Nat.le_of_ble_eq_true rfl) ?_
  intro p e s m args below meth c ls F hr hlk hP hl
  have hl : lv_has ls 3 [(0, .ref (xL X 9 0)), (1, .int a1), (2, .int a2)] := hl
  show WG l X n rm_Md_ask σ' (some (.int r)) p e s m args below meth c s.heap [] (F0 m 0 ls [])
  unfold f_Md_ask at hf
  refine lv_aload_n F.1 F.2.1 d_Md_ask_0 rfl (lv_at hl 0 rfl) ?_
  refine lv_iconst (v := 0) F.1 F.2.1 d_Md_ask_1 (by decide) ?_
  obtain ⟨σ1, e_σ1, hf⟩ := lt_some hf
  refine g_puti F hP 9 0 0 (by decide) Nat.zero_lt_one (by decide) rfl rfl rfl rfl (Or.inl w_873) d_Md_ask_2 e_σ1 (fun H locs hP => ?_)
  refine lv_aload_n F.1 F.2.1 d_Md_ask_5 rfl (lv_at hl 0 rfl) ?_
  refine lv_iload_n F.1 F.2.1 d_Md_ask_6 rfl (lv_at hl 1 rfl) ?_
  obtain ⟨r4, σ2, hk3, hf⟩ := bn2_some hf
  refine g_callV (As := [.int a1]) (rest := []) F hP 9 0 (by decide) Nat.zero_lt_one (c_Md_isTable l X n  hk3) rfl q_Md_isTable w_991 w_11 w_988 w_990 wp_35 ⟨rfl, rfl⟩ ⟨by decide, by decide⟩ hl.1 (Nat.le_of_ble_eq_true rfl) ⟨Nat.zero_le _, Nat.zero_le _⟩ d_Md_ask_7 rfl (fun H locs hP => ?_)
  refine W.eq (g2 := F0 m 10 ls [.int r4]) rfl ?_
  refine lv_if_eq F.1 F.2.1 d_Md_ask_10 rfl (fun hb20 => ?_) (fun hb20 => ?_)
  · rw [if_pos hb20] at hf
    refine lv_iconst (v := 0) F.1 F.2.1 d_Md_ask_26 (by decide) ?_
    cases hf
    exact g_zret F hP hr hlk zb0 d_Md_ask_27
  · rw [if_neg hb20] at hf
    refine lv_iload_n F.1 F.2.1 d_Md_ask_13 rfl (lv_at hl 2 rfl) ?_
    refine lv_iconst (v := (-1)) F.1 F.2.1 d_Md_ask_14 (by decide) ?_
    refine lv_icmp_eq F.1 F.2.1 d_Md_ask_15 rfl (fun hb19 => ?_) (fun hb19 => ?_)
    · rw [if_pos hb19] at hf
      refine lv_aload_n F.1 F.2.1 d_Md_ask_28 rfl (lv_at hl 0 rfl) ?_
      refine lv_iload_n F.1 F.2.1 d_Md_ask_29 rfl (lv_at hl 1 rfl) ?_
      obtain ⟨σ5, e_σ5, hf⟩ := lt_some hf
      refine g_puti F hP 9 23 0 (by decide) Nat.zero_lt_one (by decide) rfl rfl rfl rfl (Or.inl w_896) d_Md_ask_30 e_σ5 (fun H locs hP => ?_)
      refine lv_aload_n F.1 F.2.1 d_Md_ask_33 rfl (lv_at hl 0 rfl) ?_
      refine lv_iload_n F.1 F.2.1 d_Md_ask_34 rfl (lv_at hl 2 rfl) ?_
      obtain ⟨σ6, e_σ6, hf⟩ := lt_some hf
      refine g_puti F hP 9 24 0 (by decide) Nat.zero_lt_one (by decide) rfl rfl rfl rfl (Or.inl w_897) d_Md_ask_35 e_σ6 (fun H locs hP => ?_)
      refine lv_aload_n F.1 F.2.1 d_Md_ask_38 rfl (lv_at hl 0 rfl) ?_
      refine lv_iconst (v := 0) F.1 F.2.1 d_Md_ask_39 (by decide) ?_
      obtain ⟨σ7, e_σ7, hf⟩ := lt_some hf
      refine g_puti F hP 9 25 0 (by decide) Nat.zero_lt_one (by decide) rfl rfl rfl rfl (Or.inl w_898) d_Md_ask_40 e_σ7 (fun H locs hP => ?_)
      refine lv_aload_n F.1 F.2.1 d_Md_ask_43 rfl (lv_at hl 0 rfl) ?_
      refine lv_iconst (v := 0) F.1 F.2.1 d_Md_ask_44 (by decide) ?_
      obtain ⟨σ8, e_σ8, hf⟩ := lt_some hf
      refine g_puti F hP 9 27 0 (by decide) Nat.zero_lt_one (by decide) rfl rfl rfl rfl (Or.inl w_900) d_Md_ask_45 e_σ8 (fun H locs hP => ?_)
      refine lv_aload_n F.1 F.2.1 d_Md_ask_48 rfl (lv_at hl 0 rfl) ?_
      refine lv_iconst (v := 0) F.1 F.2.1 d_Md_ask_49 (by decide) ?_
      obtain ⟨σ9, e_σ9, hf⟩ := lt_some hf
      refine g_puti F hP 9 29 0 (by decide) Nat.zero_lt_one (by decide) rfl rfl (zb_n zb0) (zb_f zb0) (Or.inl w_902) d_Md_ask_50 e_σ9 (fun H locs hP => ?_)
      refine lv_iconst (v := 1) F.1 F.2.1 d_Md_ask_53 (by decide) ?_
      cases hf
      exact g_zret F hP hr hlk zb1 d_Md_ask_54
    · rw [if_neg hb19] at hf
      refine lv_aload_n F.1 F.2.1 d_Md_ask_18 rfl (lv_at hl 0 rfl) ?_
      refine lv_iload_n F.1 F.2.1 d_Md_ask_19 rfl (lv_at hl 2 rfl) ?_
      obtain ⟨r12, σ10, hk11, hf⟩ := bn2_some hf
      refine g_callV (As := [.int a2]) (rest := []) F hP 9 0 (by decide) Nat.zero_lt_one (c_Md_isTable l X n  hk11) rfl q_Md_isTable w_991 w_11 w_988 w_990 wp_35 ⟨rfl, rfl⟩ ⟨by decide, by decide⟩ hl.1 (Nat.le_of_ble_eq_true rfl) ⟨Nat.zero_le _, Nat.zero_le _⟩ d_Md_ask_20 rfl (fun H locs hP => ?_)
      refine W.eq (g2 := F0 m 23 ls [.int r12]) rfl ?_
      refine lv_if_ne F.1 F.2.1 d_Md_ask_23 rfl (fun hb18 => ?_) (fun hb18 => ?_)
      · rw [if_neg hb18] at hf
        refine lv_aload_n F.1 F.2.1 d_Md_ask_28 rfl (lv_at hl 0 rfl) ?_
        refine lv_iload_n F.1 F.2.1 d_Md_ask_29 rfl (lv_at hl 1 rfl) ?_
        obtain ⟨σ13, e_σ13, hf⟩ := lt_some hf
        refine g_puti F hP 9 23 0 (by decide) Nat.zero_lt_one (by decide) rfl rfl rfl rfl (Or.inl w_896) d_Md_ask_30 e_σ13 (fun H locs hP => ?_)
        refine lv_aload_n F.1 F.2.1 d_Md_ask_33 rfl (lv_at hl 0 rfl) ?_
        refine lv_iload_n F.1 F.2.1 d_Md_ask_34 rfl (lv_at hl 2 rfl) ?_
        obtain ⟨σ14, e_σ14, hf⟩ := lt_some hf
        refine g_puti F hP 9 24 0 (by decide) Nat.zero_lt_one (by decide) rfl rfl rfl rfl (Or.inl w_897) d_Md_ask_35 e_σ14 (fun H locs hP => ?_)
        refine lv_aload_n F.1 F.2.1 d_Md_ask_38 rfl (lv_at hl 0 rfl) ?_
        refine lv_iconst (v := 0) F.1 F.2.1 d_Md_ask_39 (by decide) ?_
        obtain ⟨σ15, e_σ15, hf⟩ := lt_some hf
        refine g_puti F hP 9 25 0 (by decide) Nat.zero_lt_one (by decide) rfl rfl rfl rfl (Or.inl w_898) d_Md_ask_40 e_σ15 (fun H locs hP => ?_)
        refine lv_aload_n F.1 F.2.1 d_Md_ask_43 rfl (lv_at hl 0 rfl) ?_
        refine lv_iconst (v := 0) F.1 F.2.1 d_Md_ask_44 (by decide) ?_
        obtain ⟨σ16, e_σ16, hf⟩ := lt_some hf
        refine g_puti F hP 9 27 0 (by decide) Nat.zero_lt_one (by decide) rfl rfl rfl rfl (Or.inl w_900) d_Md_ask_45 e_σ16 (fun H locs hP => ?_)
        refine lv_aload_n F.1 F.2.1 d_Md_ask_48 rfl (lv_at hl 0 rfl) ?_
        refine lv_iconst (v := 0) F.1 F.2.1 d_Md_ask_49 (by decide) ?_
        obtain ⟨σ17, e_σ17, hf⟩ := lt_some hf
        refine g_puti F hP 9 29 0 (by decide) Nat.zero_lt_one (by decide) rfl rfl (zb_n zb0) (zb_f zb0) (Or.inl w_902) d_Md_ask_50 e_σ17 (fun H locs hP => ?_)
        refine lv_iconst (v := 1) F.1 F.2.1 d_Md_ask_53 (by decide) ?_
        cases hf
        exact g_zret F hP hr hlk zb1 d_Md_ask_54
      · rw [if_pos hb18] at hf
        refine lv_iconst (v := 0) F.1 F.2.1 d_Md_ask_26 (by decide) ?_
        cases hf
        exact g_zret F hP hr hlk zb0 d_Md_ask_27

theorem d_Md_tableOf_0 : decode b_Md_tableOf 0 = .ok (.iload_n 1, 1) := by decide +kernel
theorem d_Md_tableOf_1 : decode b_Md_tableOf 1 = .ok (.ifCond .ne 10, 3) := by decide +kernel
theorem d_Md_tableOf_4 : decode b_Md_tableOf 4 = .ok (.aload_n 0, 1) := by decide +kernel
theorem d_Md_tableOf_5 : decode b_Md_tableOf 5 = .ok (.getfield 60, 3) := by decide +kernel
theorem d_Md_tableOf_8 : decode b_Md_tableOf 8 = .ok (.goto 16, 3) := by decide +kernel
theorem d_Md_tableOf_11 : decode b_Md_tableOf 11 = .ok (.iload_n 1, 1) := by decide +kernel
theorem d_Md_tableOf_12 : decode b_Md_tableOf 12 = .ok (.iconst 1, 1) := by decide +kernel
theorem d_Md_tableOf_13 : decode b_Md_tableOf 13 = .ok (.if_icmp .ne 10, 3) := by decide +kernel
theorem d_Md_tableOf_16 : decode b_Md_tableOf 16 = .ok (.aload_n 0, 1) := by decide +kernel
theorem d_Md_tableOf_17 : decode b_Md_tableOf 17 = .ok (.getfield 64, 3) := by decide +kernel
theorem d_Md_tableOf_20 : decode b_Md_tableOf 20 = .ok (.goto 4, 3) := by decide +kernel
theorem d_Md_tableOf_23 : decode b_Md_tableOf 23 = .ok (.iconst (-1), 1) := by decide +kernel
theorem d_Md_tableOf_24 : decode b_Md_tableOf 24 = .ok (.ireturn, 1) := by decide +kernel
noncomputable def f_Md_tableOf (a1 : Int32) (σ : Sg) : Option (Int32 × Sg) :=
  lt_ ((if a1 = 0 then (gi σ 9 0 23) else (if a1 = 1 then (gi σ 9 0 24) else (-1))) : Int32) (fun (x1 : Int32) => some (x1, σ))
abbrev rm_Md_tableOf : Room := { frames := 0, cells := 0, slots := 0, locals := 0 }
set_option maxHeartbeats 4000000 in
set_option maxRecDepth 100000 in
theorem c_Md_tableOf (l : Launch) (X : GX) (n : Nat) {σ σ' : Sg} {r : Int32} {a1 : Int32}  (hf : f_Md_tableOf a1 σ = some (r, σ')) : Met l y_Md_tableOf (cw y_Md_tableOf b_Md_tableOf 2 (some .int)) rm_Md_tableOf (PcG X n σ [.ref (xL X 9 0), .int a1]) (QcG X n σ' (some (.int r))) 0 0 (fr X n) := by
  refine g_head (own := "TableMachineModel") (by decide) rfl (Nat.le_of_ble_eq_true rfl) ?_
  intro p e s m args below meth c ls F hr hlk hP hl
  have hl : lv_has ls 2 [(0, .ref (xL X 9 0)), (1, .int a1)] := hl
  show WG l X n rm_Md_tableOf σ' (some (.int r)) p e s m args below meth c s.heap [] (F0 m 0 ls [])
  unfold f_Md_tableOf at hf
  refine lv_iload_n F.1 F.2.1 d_Md_tableOf_0 rfl (lv_at hl 1 rfl) ?_
  obtain ⟨x1, hj3, hf⟩ := lt_some2 hf
  have KJ2 : ∀ (ls : Array Slot) (H : Heap) (locs : List Loc), lv_has ls 2 [] → St X n σ s.heap H locs → WG l X n rm_Md_tableOf σ' (some (.int r)) p e s m args below meth c H locs (F0 m 24 ls [.int x1]) := by
    intro ls H locs hl hP
    cases hf
    exact g_iret F hP hr hlk d_Md_tableOf_24
  refine lv_if_ne F.1 F.2.1 d_Md_tableOf_1 rfl (fun hb5 => ?_) (fun hb5 => ?_)
  · rw [if_neg hb5] at hj3
    refine lv_iload_n F.1 F.2.1 d_Md_tableOf_11 rfl (lv_at hl 1 rfl) ?_
    refine lv_iconst (v := 1) F.1 F.2.1 d_Md_tableOf_12 (by decide) ?_
    refine lv_icmp_ne F.1 F.2.1 d_Md_tableOf_13 rfl (fun hb4 => ?_) (fun hb4 => ?_)
    · rw [if_neg hb4] at hj3
      refine lv_iconst (v := (-1)) F.1 F.2.1 d_Md_tableOf_23 (by decide) ?_
      subst hj3
      exact KJ2 _ _ _ (lv_sub hl [] rfl) hP
    · rw [if_pos hb4] at hj3
      refine lv_aload_n F.1 F.2.1 d_Md_tableOf_16 rfl (lv_at hl 0 rfl) ?_
      refine g_get F hP 9 24 0 (by decide) Nat.zero_lt_one (by decide) (v := .int (gi σ 9 0 24)) rfl w_897 d_Md_tableOf_17 ?_
      refine lv_goto F.1 F.2.1 d_Md_tableOf_20 rfl ?_
      subst hj3
      exact KJ2 _ _ _ (lv_sub hl [] rfl) hP
  · rw [if_pos hb5] at hj3
    refine lv_aload_n F.1 F.2.1 d_Md_tableOf_4 rfl (lv_at hl 0 rfl) ?_
    refine g_get F hP 9 23 0 (by decide) Nat.zero_lt_one (by decide) (v := .int (gi σ 9 0 23)) rfl w_896 d_Md_tableOf_5 ?_
    refine lv_goto F.1 F.2.1 d_Md_tableOf_8 rfl ?_
    subst hj3
    exact KJ2 _ _ _ (lv_sub hl [] rfl) hP

theorem d_Md_isColumn_0 : decode b_Md_isColumn 0 = .ok (.aload_n 0, 1) := by decide +kernel
theorem d_Md_isColumn_1 : decode b_Md_isColumn 1 = .ok (.iload_n 1, 1) := by decide +kernel
theorem d_Md_isColumn_2 : decode b_Md_isColumn 2 = .ok (.invokevirtual 181, 3) := by decide +kernel
theorem d_Md_isColumn_5 : decode b_Md_isColumn 5 = .ok (.istore_n 3, 1) := by decide +kernel
theorem d_Md_isColumn_6 : decode b_Md_isColumn 6 = .ok (.iload_n 3, 1) := by decide +kernel
theorem d_Md_isColumn_7 : decode b_Md_isColumn 7 = .ok (.ifCond .lt 30, 3) := by decide +kernel
theorem d_Md_isColumn_10 : decode b_Md_isColumn 10 = .ok (.iload_n 2, 1) := by decide +kernel
theorem d_Md_isColumn_11 : decode b_Md_isColumn 11 = .ok (.iconst (-1), 1) := by decide +kernel
theorem d_Md_isColumn_12 : decode b_Md_isColumn 12 = .ok (.if_icmp .lt 25, 3) := by decide +kernel
theorem d_Md_isColumn_15 : decode b_Md_isColumn 15 = .ok (.iload_n 2, 1) := by decide +kernel
theorem d_Md_isColumn_16 : decode b_Md_isColumn 16 = .ok (.aload_n 0, 1) := by decide +kernel
theorem d_Md_isColumn_17 : decode b_Md_isColumn 17 = .ok (.getfield 7, 3) := by decide +kernel
theorem d_Md_isColumn_20 : decode b_Md_isColumn 20 = .ok (.iload_n 3, 1) := by decide +kernel
theorem d_Md_isColumn_21 : decode b_Md_isColumn 21 = .ok (.ifCond .ge 7, 3) := by decide +kernel
theorem d_Md_isColumn_24 : decode b_Md_isColumn 24 = .ok (.iconst 0, 1) := by decide +kernel
theorem d_Md_isColumn_25 : decode b_Md_isColumn 25 = .ok (.goto 4, 3) := by decide +kernel
theorem d_Md_isColumn_28 : decode b_Md_isColumn 28 = .ok (.iload_n 3, 1) := by decide +kernel
theorem d_Md_isColumn_29 : decode b_Md_isColumn 29 = .ok (.iaload, 1) := by decide +kernel
theorem d_Md_isColumn_30 : decode b_Md_isColumn 30 = .ok (.if_icmp .ge 7, 3) := by decide +kernel
theorem d_Md_isColumn_33 : decode b_Md_isColumn 33 = .ok (.iconst 1, 1) := by decide +kernel
theorem d_Md_isColumn_34 : decode b_Md_isColumn 34 = .ok (.goto 4, 3) := by decide +kernel
theorem d_Md_isColumn_37 : decode b_Md_isColumn 37 = .ok (.iconst 0, 1) := by decide +kernel
theorem d_Md_isColumn_38 : decode b_Md_isColumn 38 = .ok (.ireturn, 1) := by decide +kernel
noncomputable def f_Md_isColumn (a1 : Int32) (a2 : Int32) (σ : Sg) : Option (Int32 × Sg) :=
  bn2 (f_Md_tableOf a1 σ) (fun r3 σ1 => Option.bind (if r3 < 0 then (some (0)) else (if a2 < (-1) then (some (0)) else (lt_ ((if 0 ≤ r3 then r3 else 0) : Int32) (fun (x7 : Int32) => chk (vp_in x7 3) ((if (gi σ1 26 0 x7.toNatClampNeg) ≤ a2 then (some (0)) else (some (1)))))))) (fun (x4 : Int32) => chk (zb x4) (some (x4, σ1))))
abbrev rm_Md_isColumn : Room := { frames := 1, cells := 0, slots := 0, locals := 21 }
set_option maxHeartbeats 4000000 in
set_option maxRecDepth 100000 in
theorem c_Md_isColumn (l : Launch) (X : GX) (n : Nat) {σ σ' : Sg} {r : Int32} {a1 : Int32} {a2 : Int32}  (hf : f_Md_isColumn a1 a2 σ = some (r, σ')) : Met l y_Md_isColumn (cw y_Md_isColumn b_Md_isColumn 4 (some .boolean)) rm_Md_isColumn (PcG X n σ [.ref (xL X 9 0), .int a1, .int a2]) (QcG X n σ' (some (.int r))) 0 0 (fr X n) := by
  refine g_head (own := "TableMachineModel") (by decide) rfl (Nat.le_of_ble_eq_true rfl) ?_
  intro p e s m args below meth c ls F hr hlk hP hl
  have hl : lv_has ls 4 [(0, .ref (xL X 9 0)), (1, .int a1), (2, .int a2)] := hl
  show WG l X n rm_Md_isColumn σ' (some (.int r)) p e s m args below meth c s.heap [] (F0 m 0 ls [])
  unfold f_Md_isColumn at hf
  refine lv_aload_n F.1 F.2.1 d_Md_isColumn_0 rfl (lv_at hl 0 rfl) ?_
  refine lv_iload_n F.1 F.2.1 d_Md_isColumn_1 rfl (lv_at hl 1 rfl) ?_
  obtain ⟨r3, σ1, hk2, hf⟩ := bn2_some hf
  refine g_callV (As := [.int a1]) (rest := []) F hP 9 0 (by decide) Nat.zero_lt_one (c_Md_tableOf l X n  hk2) rfl q_Md_tableOf w_1126 w_11 w_1123 w_1125 wp_52 ⟨rfl, rfl⟩ ⟨by decide, by decide⟩ hl.1 (Nat.le_of_ble_eq_true rfl) ⟨Nat.zero_le _, Nat.zero_le _⟩ d_Md_isColumn_2 rfl (fun H locs hP => ?_)
  refine W.eq (g2 := F0 m 5 ls [.int r3]) rfl ?_
  refine lv_istore_n F.1 F.2.1 d_Md_isColumn_5 rfl hl (by decide) rfl (fun ls hl => ?_)
  have hl : lv_has ls 4 [(3, .int r3), (0, .ref (xL X 9 0)), (1, .int a1), (2, .int a2)] := hl
  refine lv_iload_n F.1 F.2.1 d_Md_isColumn_6 rfl (lv_at hl 0 rfl) ?_
  obtain ⟨x4, hj6, hf⟩ := bnd_some hf
  have KJ5 : ∀ (ls : Array Slot) (H : Heap) (locs : List Loc), lv_has ls 4 [] → St X n σ1 s.heap H locs → WG l X n rm_Md_isColumn σ' (some (.int r)) p e s m args below meth c H locs (F0 m 38 ls [.int x4]) := by
    intro ls H locs hl hP
    obtain ⟨hz15, hf⟩ := chk_some hf
    cases hf
    exact g_zret F hP hr hlk hz15 d_Md_isColumn_38
  refine lv_if_lt F.1 F.2.1 d_Md_isColumn_7 rfl (fun hb14 => ?_) (fun hb14 => ?_)
  · rw [if_pos hb14] at hj6
    refine lv_iconst (v := 0) F.1 F.2.1 d_Md_isColumn_37 (by decide) ?_
    cases hj6
    exact KJ5 _ _ _ (lv_sub hl [] rfl) hP
  · rw [if_neg hb14] at hj6
    refine lv_iload_n F.1 F.2.1 d_Md_isColumn_10 rfl (lv_at hl 3 rfl) ?_
    refine lv_iconst (v := (-1)) F.1 F.2.1 d_Md_isColumn_11 (by decide) ?_
    refine lv_icmp_lt F.1 F.2.1 d_Md_isColumn_12 rfl (fun hb13 => ?_) (fun hb13 => ?_)
    · rw [if_pos hb13] at hj6
      refine lv_iconst (v := 0) F.1 F.2.1 d_Md_isColumn_37 (by decide) ?_
      cases hj6
      exact KJ5 _ _ _ (lv_sub hl [] rfl) hP
    · rw [if_neg hb13] at hj6
      refine lv_iload_n F.1 F.2.1 d_Md_isColumn_15 rfl (lv_at hl 3 rfl) ?_
      refine lv_aload_n F.1 F.2.1 d_Md_isColumn_16 rfl (lv_at hl 1 rfl) ?_
      refine g_get F hP 9 2 0 (by decide) Nat.zero_lt_one (by decide) (v := .ref (xL X 26 0)) rfl w_875 d_Md_isColumn_17 ?_
      refine lv_iload_n F.1 F.2.1 d_Md_isColumn_20 rfl (lv_at hl 0 rfl) ?_
      obtain ⟨x7, hj9, hj6⟩ := lt_some2 hj6
      have KJ8 : ∀ (ls : Array Slot) (H : Heap) (locs : List Loc), lv_has ls 4 [] → St X n σ1 s.heap H locs → WG l X n rm_Md_isColumn σ' (some (.int r)) p e s m args below meth c H locs (F0 m 29 ls [.int x7, .ref (xL X 26 0), .int a2]) := by
        intro ls H locs hl hP
        obtain ⟨hc11, hj6⟩ := chk_some hj6
        refine g_ald F hP 26 (by decide) (by decide) Nat.zero_lt_one rfl rfl hc11 d_Md_isColumn_29 ?_
        refine lv_icmp_ge F.1 F.2.1 d_Md_isColumn_30 rfl (fun hb12 => ?_) (fun hb12 => ?_)
        · rw [if_pos hb12] at hj6
          refine lv_iconst (v := 0) F.1 F.2.1 d_Md_isColumn_37 (by decide) ?_
          cases hj6
          exact KJ5 _ _ _ (lv_sub hl [] rfl) hP
        · rw [if_neg hb12] at hj6
          refine lv_iconst (v := 1) F.1 F.2.1 d_Md_isColumn_33 (by decide) ?_
          refine lv_goto F.1 F.2.1 d_Md_isColumn_34 rfl ?_
          cases hj6
          exact KJ5 _ _ _ (lv_sub hl [] rfl) hP
      refine lv_if_ge F.1 F.2.1 d_Md_isColumn_21 rfl (fun hb10 => ?_) (fun hb10 => ?_)
      · rw [if_pos hb10] at hj9
        refine lv_iload_n F.1 F.2.1 d_Md_isColumn_28 rfl (lv_at hl 0 rfl) ?_
        subst hj9
        exact KJ8 _ _ _ (lv_sub hl [] rfl) hP
      · rw [if_neg hb10] at hj9
        refine lv_iconst (v := 0) F.1 F.2.1 d_Md_isColumn_24 (by decide) ?_
        refine lv_goto F.1 F.2.1 d_Md_isColumn_25 rfl ?_
        subst hj9
        exact KJ8 _ _ _ (lv_sub hl [] rfl) hP

theorem d_Md_output_0 : decode b_Md_output 0 = .ok (.aload_n 0, 1) := by decide +kernel
theorem d_Md_output_1 : decode b_Md_output 1 = .ok (.iconst 0, 1) := by decide +kernel
theorem d_Md_output_2 : decode b_Md_output 2 = .ok (.putfield 73, 3) := by decide +kernel
theorem d_Md_output_5 : decode b_Md_output 5 = .ok (.aload_n 0, 1) := by decide +kernel
theorem d_Md_output_6 : decode b_Md_output 6 = .ok (.getfield 171, 3) := by decide +kernel
theorem d_Md_output_9 : decode b_Md_output 9 = .ok (.iconst 4, 1) := by decide +kernel
theorem d_Md_output_10 : decode b_Md_output 10 = .ok (.if_icmp .eq 12, 3) := by decide +kernel
theorem d_Md_output_13 : decode b_Md_output 13 = .ok (.aload_n 0, 1) := by decide +kernel
theorem d_Md_output_14 : decode b_Md_output 14 = .ok (.iload_n 1, 1) := by decide +kernel
theorem d_Md_output_15 : decode b_Md_output 15 = .ok (.iload_n 2, 1) := by decide +kernel
theorem d_Md_output_16 : decode b_Md_output 16 = .ok (.invokevirtual 184, 3) := by decide +kernel
theorem d_Md_output_19 : decode b_Md_output 19 = .ok (.ifCond .ne 5, 3) := by decide +kernel
theorem d_Md_output_22 : decode b_Md_output 22 = .ok (.iconst 0, 1) := by decide +kernel
theorem d_Md_output_23 : decode b_Md_output 23 = .ok (.ireturn, 1) := by decide +kernel
theorem d_Md_output_24 : decode b_Md_output 24 = .ok (.aload_n 0, 1) := by decide +kernel
theorem d_Md_output_25 : decode b_Md_output 25 = .ok (.getfield 67, 3) := by decide +kernel
theorem d_Md_output_28 : decode b_Md_output 28 = .ok (.iconst 2, 1) := by decide +kernel
theorem d_Md_output_29 : decode b_Md_output 29 = .ok (.aload_n 0, 1) := by decide +kernel
theorem d_Md_output_30 : decode b_Md_output 30 = .ok (.getfield 171, 3) := by decide +kernel
theorem d_Md_output_33 : decode b_Md_output 33 = .ok (.imul, 1) := by decide +kernel
theorem d_Md_output_34 : decode b_Md_output 34 = .ok (.iload_n 1, 1) := by decide +kernel
theorem d_Md_output_35 : decode b_Md_output 35 = .ok (.iastore, 1) := by decide +kernel
theorem d_Md_output_36 : decode b_Md_output 36 = .ok (.aload_n 0, 1) := by decide +kernel
theorem d_Md_output_37 : decode b_Md_output 37 = .ok (.getfield 67, 3) := by decide +kernel
theorem d_Md_output_40 : decode b_Md_output 40 = .ok (.iconst 2, 1) := by decide +kernel
theorem d_Md_output_41 : decode b_Md_output 41 = .ok (.aload_n 0, 1) := by decide +kernel
theorem d_Md_output_42 : decode b_Md_output 42 = .ok (.getfield 171, 3) := by decide +kernel
theorem d_Md_output_45 : decode b_Md_output 45 = .ok (.imul, 1) := by decide +kernel
theorem d_Md_output_46 : decode b_Md_output 46 = .ok (.iconst 1, 1) := by decide +kernel
theorem d_Md_output_47 : decode b_Md_output 47 = .ok (.iadd, 1) := by decide +kernel
theorem d_Md_output_48 : decode b_Md_output 48 = .ok (.iload_n 2, 1) := by decide +kernel
theorem d_Md_output_49 : decode b_Md_output 49 = .ok (.iastore, 1) := by decide +kernel
theorem d_Md_output_50 : decode b_Md_output 50 = .ok (.aload_n 0, 1) := by decide +kernel
theorem d_Md_output_51 : decode b_Md_output 51 = .ok (.dup, 1) := by decide +kernel
theorem d_Md_output_52 : decode b_Md_output 52 = .ok (.getfield 171, 3) := by decide +kernel
theorem d_Md_output_55 : decode b_Md_output 55 = .ok (.iconst 1, 1) := by decide +kernel
theorem d_Md_output_56 : decode b_Md_output 56 = .ok (.iadd, 1) := by decide +kernel
theorem d_Md_output_57 : decode b_Md_output 57 = .ok (.putfield 171, 3) := by decide +kernel
theorem d_Md_output_60 : decode b_Md_output 60 = .ok (.iconst 1, 1) := by decide +kernel
theorem d_Md_output_61 : decode b_Md_output 61 = .ok (.ireturn, 1) := by decide +kernel
noncomputable def f_Md_output (a1 : Int32) (a2 : Int32) (σ : Sg) : Option (Int32 × Sg) :=
  lt_ (si σ 9 0 0 0) (fun σ1 => (if (gi σ1 9 0 25) = 4 then (some (0, σ1)) else (bn2 (f_Md_isColumn a1 a2 σ1) (fun r4 σ2 => (if r4 = 0 then (some (0, σ2)) else (chk (vp_in (2 * (gi σ2 9 0 25)) 8) (lt_ (si σ2 42 0 ((2 * (gi σ2 9 0 25)).toNatClampNeg) a1) (fun σ6 => chk (vp_in ((2 * (gi σ6 9 0 25)) + 1) 8) (lt_ (si σ6 42 0 (((2 * (gi σ6 9 0 25)) + 1).toNatClampNeg) a2) (fun σ8 => lt_ (si σ8 9 0 25 ((gi σ8 9 0 25) + 1)) (fun σ9 => some (1, σ9))))))))))))
abbrev rm_Md_output : Room := { frames := 2, cells := 0, slots := 0, locals := 44 }
set_option maxHeartbeats 4000000 in
set_option maxRecDepth 100000 in
theorem c_Md_output (l : Launch) (X : GX) (n : Nat) {σ σ' : Sg} {r : Int32} {a1 : Int32} {a2 : Int32}  (hf : f_Md_output a1 a2 σ = some (r, σ')) : Met l y_Md_output (cw y_Md_output b_Md_output 3 (some .boolean)) rm_Md_output (PcG X n σ [.ref (xL X 9 0), .int a1, .int a2]) (QcG X n σ' (some (.int r))) 0 0 (fr X n) := by
  refine g_head (own := "TableMachineModel") (by decide) rfl (Nat.le_of_ble_eq_true rfl) ?_
  intro p e s m args below meth c ls F hr hlk hP hl
  have hl : lv_has ls 3 [(0, .ref (xL X 9 0)), (1, .int a1), (2, .int a2)] := hl
  show WG l X n rm_Md_output σ' (some (.int r)) p e s m args below meth c s.heap [] (F0 m 0 ls [])
  unfold f_Md_output at hf
  refine lv_aload_n F.1 F.2.1 d_Md_output_0 rfl (lv_at hl 0 rfl) ?_
  refine lv_iconst (v := 0) F.1 F.2.1 d_Md_output_1 (by decide) ?_
  obtain ⟨σ1, e_σ1, hf⟩ := lt_some hf
  refine g_puti F hP 9 0 0 (by decide) Nat.zero_lt_one (by decide) rfl rfl rfl rfl (Or.inl w_873) d_Md_output_2 e_σ1 (fun H locs hP => ?_)
  refine lv_aload_n F.1 F.2.1 d_Md_output_5 rfl (lv_at hl 0 rfl) ?_
  refine g_get F hP 9 25 0 (by decide) Nat.zero_lt_one (by decide) (v := .int (gi σ1 9 0 25)) rfl w_898 d_Md_output_6 ?_
  refine lv_iconst (v := 4) F.1 F.2.1 d_Md_output_9 (by decide) ?_
  refine lv_icmp_eq F.1 F.2.1 d_Md_output_10 rfl (fun hb11 => ?_) (fun hb11 => ?_)
  · rw [if_pos hb11] at hf
    refine lv_iconst (v := 0) F.1 F.2.1 d_Md_output_22 (by decide) ?_
    cases hf
    exact g_zret F hP hr hlk zb0 d_Md_output_23
  · rw [if_neg hb11] at hf
    refine lv_aload_n F.1 F.2.1 d_Md_output_13 rfl (lv_at hl 0 rfl) ?_
    refine lv_iload_n F.1 F.2.1 d_Md_output_14 rfl (lv_at hl 1 rfl) ?_
    refine lv_iload_n F.1 F.2.1 d_Md_output_15 rfl (lv_at hl 2 rfl) ?_
    obtain ⟨r4, σ2, hk3, hf⟩ := bn2_some hf
    refine g_callV (As := [.int a1, .int a2]) (rest := []) F hP 9 0 (by decide) Nat.zero_lt_one (c_Md_isColumn l X n  hk3) rfl q_Md_isColumn w_1122 w_11 w_1119 w_1121 wp_51 ⟨rfl, rfl⟩ ⟨by decide, by decide⟩ hl.1 (Nat.le_of_ble_eq_true rfl) ⟨Nat.zero_le _, Nat.zero_le _⟩ d_Md_output_16 rfl (fun H locs hP => ?_)
    refine W.eq (g2 := F0 m 19 ls [.int r4]) rfl ?_
    refine lv_if_ne F.1 F.2.1 d_Md_output_19 rfl (fun hb10 => ?_) (fun hb10 => ?_)
    · rw [if_neg hb10] at hf
      refine lv_aload_n F.1 F.2.1 d_Md_output_24 rfl (lv_at hl 0 rfl) ?_
      refine g_get F hP 9 26 0 (by decide) Nat.zero_lt_one (by decide) (v := .ref (xL X 42 0)) rfl w_899 d_Md_output_25 ?_
      refine lv_iconst (v := 2) F.1 F.2.1 d_Md_output_28 (by decide) ?_
      refine lv_aload_n F.1 F.2.1 d_Md_output_29 rfl (lv_at hl 0 rfl) ?_
      refine g_get F hP 9 25 0 (by decide) Nat.zero_lt_one (by decide) (v := .int (gi σ2 9 0 25)) rfl w_898 d_Md_output_30 ?_
      refine lv_imul F.1 F.2.1 d_Md_output_33 ?_
      refine lv_iload_n F.1 F.2.1 d_Md_output_34 rfl (lv_at hl 1 rfl) ?_
      obtain ⟨hc5, hf⟩ := chk_some hf
      obtain ⟨σ6, e_σ6, hf⟩ := lt_some hf
      refine g_ast F hP 42 (by decide) (by decide) Nat.zero_lt_one rfl rfl hc5 d_Md_output_35 e_σ6 (fun H locs hP => ?_)
      refine lv_aload_n F.1 F.2.1 d_Md_output_36 rfl (lv_at hl 0 rfl) ?_
      refine g_get F hP 9 26 0 (by decide) Nat.zero_lt_one (by decide) (v := .ref (xL X 42 0)) rfl w_899 d_Md_output_37 ?_
      refine lv_iconst (v := 2) F.1 F.2.1 d_Md_output_40 (by decide) ?_
      refine lv_aload_n F.1 F.2.1 d_Md_output_41 rfl (lv_at hl 0 rfl) ?_
      refine g_get F hP 9 25 0 (by decide) Nat.zero_lt_one (by decide) (v := .int (gi σ6 9 0 25)) rfl w_898 d_Md_output_42 ?_
      refine lv_imul F.1 F.2.1 d_Md_output_45 ?_
      refine lv_iconst (v := 1) F.1 F.2.1 d_Md_output_46 (by decide) ?_
      refine lv_iadd F.1 F.2.1 d_Md_output_47 ?_
      refine lv_iload_n F.1 F.2.1 d_Md_output_48 rfl (lv_at hl 2 rfl) ?_
      obtain ⟨hc7, hf⟩ := chk_some hf
      obtain ⟨σ8, e_σ8, hf⟩ := lt_some hf
      refine g_ast F hP 42 (by decide) (by decide) Nat.zero_lt_one rfl rfl hc7 d_Md_output_49 e_σ8 (fun H locs hP => ?_)
      refine lv_aload_n F.1 F.2.1 d_Md_output_50 rfl (lv_at hl 0 rfl) ?_
      refine lv_dup F.1 F.2.1 d_Md_output_51 rfl ?_
      refine g_get F hP 9 25 0 (by decide) Nat.zero_lt_one (by decide) (v := .int (gi σ8 9 0 25)) rfl w_898 d_Md_output_52 ?_
      refine lv_iconst (v := 1) F.1 F.2.1 d_Md_output_55 (by decide) ?_
      refine lv_iadd F.1 F.2.1 d_Md_output_56 ?_
      obtain ⟨σ9, e_σ9, hf⟩ := lt_some hf
      refine g_puti F hP 9 25 0 (by decide) Nat.zero_lt_one (by decide) rfl rfl rfl rfl (Or.inl w_898) d_Md_output_57 e_σ9 (fun H locs hP => ?_)
      refine lv_iconst (v := 1) F.1 F.2.1 d_Md_output_60 (by decide) ?_
      cases hf
      exact g_zret F hP hr hlk zb1 d_Md_output_61
    · rw [if_pos hb10] at hf
      refine lv_iconst (v := 0) F.1 F.2.1 d_Md_output_22 (by decide) ?_
      cases hf
      exact g_zret F hP hr hlk zb0 d_Md_output_23

theorem d_Md_condition_0 : decode b_Md_condition 0 = .ok (.aload_n 0, 1) := by decide +kernel
theorem d_Md_condition_1 : decode b_Md_condition 1 = .ok (.iconst 0, 1) := by decide +kernel
theorem d_Md_condition_2 : decode b_Md_condition 2 = .ok (.putfield 73, 3) := by decide +kernel
theorem d_Md_condition_5 : decode b_Md_condition 5 = .ok (.aload_n 0, 1) := by decide +kernel
theorem d_Md_condition_6 : decode b_Md_condition 6 = .ok (.getfield 174, 3) := by decide +kernel
theorem d_Md_condition_9 : decode b_Md_condition 9 = .ok (.iconst 4, 1) := by decide +kernel
theorem d_Md_condition_10 : decode b_Md_condition 10 = .ok (.if_icmp .eq 22, 3) := by decide +kernel
theorem d_Md_condition_13 : decode b_Md_condition 13 = .ok (.aload_n 0, 1) := by decide +kernel
theorem d_Md_condition_14 : decode b_Md_condition 14 = .ok (.iload_n 1, 1) := by decide +kernel
theorem d_Md_condition_15 : decode b_Md_condition 15 = .ok (.iload_n 2, 1) := by decide +kernel
theorem d_Md_condition_16 : decode b_Md_condition 16 = .ok (.invokevirtual 184, 3) := by decide +kernel
theorem d_Md_condition_19 : decode b_Md_condition 19 = .ok (.ifCond .eq 13, 3) := by decide +kernel
theorem d_Md_condition_22 : decode b_Md_condition 22 = .ok (.iload_n 3, 1) := by decide +kernel
theorem d_Md_condition_23 : decode b_Md_condition 23 = .ok (.ifCond .lt 9, 3) := by decide +kernel
theorem d_Md_condition_26 : decode b_Md_condition 26 = .ok (.iload_n 3, 1) := by decide +kernel
theorem d_Md_condition_27 : decode b_Md_condition 27 = .ok (.bipush 7, 2) := by decide +kernel
theorem d_Md_condition_29 : decode b_Md_condition 29 = .ok (.if_icmp .le 5, 3) := by decide +kernel
theorem d_Md_condition_32 : decode b_Md_condition 32 = .ok (.iconst 0, 1) := by decide +kernel
theorem d_Md_condition_33 : decode b_Md_condition 33 = .ok (.ireturn, 1) := by decide +kernel
theorem d_Md_condition_34 : decode b_Md_condition 34 = .ok (.iconst 4, 1) := by decide +kernel
theorem d_Md_condition_35 : decode b_Md_condition 35 = .ok (.aload_n 0, 1) := by decide +kernel
theorem d_Md_condition_36 : decode b_Md_condition 36 = .ok (.getfield 174, 3) := by decide +kernel
theorem d_Md_condition_39 : decode b_Md_condition 39 = .ok (.imul, 1) := by decide +kernel
theorem d_Md_condition_40 : decode b_Md_condition 40 = .ok (.istore 5, 2) := by decide +kernel
theorem d_Md_condition_42 : decode b_Md_condition 42 = .ok (.aload_n 0, 1) := by decide +kernel
theorem d_Md_condition_43 : decode b_Md_condition 43 = .ok (.getfield 70, 3) := by decide +kernel
theorem d_Md_condition_46 : decode b_Md_condition 46 = .ok (.iload 5, 2) := by decide +kernel
theorem d_Md_condition_48 : decode b_Md_condition 48 = .ok (.iload_n 1, 1) := by decide +kernel
theorem d_Md_condition_49 : decode b_Md_condition 49 = .ok (.iastore, 1) := by decide +kernel
theorem d_Md_condition_50 : decode b_Md_condition 50 = .ok (.aload_n 0, 1) := by decide +kernel
theorem d_Md_condition_51 : decode b_Md_condition 51 = .ok (.getfield 70, 3) := by decide +kernel
theorem d_Md_condition_54 : decode b_Md_condition 54 = .ok (.iload 5, 2) := by decide +kernel
theorem d_Md_condition_56 : decode b_Md_condition 56 = .ok (.iconst 1, 1) := by decide +kernel
theorem d_Md_condition_57 : decode b_Md_condition 57 = .ok (.iadd, 1) := by decide +kernel
theorem d_Md_condition_58 : decode b_Md_condition 58 = .ok (.iload_n 2, 1) := by decide +kernel
theorem d_Md_condition_59 : decode b_Md_condition 59 = .ok (.iastore, 1) := by decide +kernel
theorem d_Md_condition_60 : decode b_Md_condition 60 = .ok (.aload_n 0, 1) := by decide +kernel
theorem d_Md_condition_61 : decode b_Md_condition 61 = .ok (.getfield 70, 3) := by decide +kernel
theorem d_Md_condition_64 : decode b_Md_condition 64 = .ok (.iload 5, 2) := by decide +kernel
theorem d_Md_condition_66 : decode b_Md_condition 66 = .ok (.iconst 2, 1) := by decide +kernel
theorem d_Md_condition_67 : decode b_Md_condition 67 = .ok (.iadd, 1) := by decide +kernel
theorem d_Md_condition_68 : decode b_Md_condition 68 = .ok (.iload_n 3, 1) := by decide +kernel
theorem d_Md_condition_69 : decode b_Md_condition 69 = .ok (.iastore, 1) := by decide +kernel
theorem d_Md_condition_70 : decode b_Md_condition 70 = .ok (.aload_n 0, 1) := by decide +kernel
theorem d_Md_condition_71 : decode b_Md_condition 71 = .ok (.getfield 70, 3) := by decide +kernel
theorem d_Md_condition_74 : decode b_Md_condition 74 = .ok (.iload 5, 2) := by decide +kernel
theorem d_Md_condition_76 : decode b_Md_condition 76 = .ok (.iconst 3, 1) := by decide +kernel
theorem d_Md_condition_77 : decode b_Md_condition 77 = .ok (.iadd, 1) := by decide +kernel
theorem d_Md_condition_78 : decode b_Md_condition 78 = .ok (.iload 4, 2) := by decide +kernel
theorem d_Md_condition_80 : decode b_Md_condition 80 = .ok (.iastore, 1) := by decide +kernel
theorem d_Md_condition_81 : decode b_Md_condition 81 = .ok (.aload_n 0, 1) := by decide +kernel
theorem d_Md_condition_82 : decode b_Md_condition 82 = .ok (.dup, 1) := by decide +kernel
theorem d_Md_condition_83 : decode b_Md_condition 83 = .ok (.getfield 174, 3) := by decide +kernel
theorem d_Md_condition_86 : decode b_Md_condition 86 = .ok (.iconst 1, 1) := by decide +kernel
theorem d_Md_condition_87 : decode b_Md_condition 87 = .ok (.iadd, 1) := by decide +kernel
theorem d_Md_condition_88 : decode b_Md_condition 88 = .ok (.putfield 174, 3) := by decide +kernel
theorem d_Md_condition_91 : decode b_Md_condition 91 = .ok (.iconst 1, 1) := by decide +kernel
theorem d_Md_condition_92 : decode b_Md_condition 92 = .ok (.ireturn, 1) := by decide +kernel
noncomputable def f_Md_condition (a1 : Int32) (a2 : Int32) (a3 : Int32) (a4 : Int32) (σ : Sg) : Option (Int32 × Sg) :=
  lt_ (si σ 9 0 0 0) (fun σ1 => (if (gi σ1 9 0 27) = 4 then (some (0, σ1)) else (bn2 (f_Md_isColumn a1 a2 σ1) (fun r4 σ2 => (if r4 = 0 then (some (0, σ2)) else (if a3 < 0 then (some (0, σ2)) else (if a3 ≤ 7 then (lt_ (4 * (gi σ2 9 0 27) : Int32) (fun (x5 : Int32) => chk (vp_in x5 16) (lt_ (si σ2 43 0 x5.toNatClampNeg a1) (fun σ7 => chk (vp_in (x5 + 1) 16) (lt_ (si σ7 43 0 ((x5 + 1).toNatClampNeg) a2) (fun σ9 => chk (vp_in (x5 + 2) 16) (lt_ (si σ9 43 0 ((x5 + 2).toNatClampNeg) a3) (fun σ11 => chk (vp_in (x5 + 3) 16) (lt_ (si σ11 43 0 ((x5 + 3).toNatClampNeg) a4) (fun σ13 => lt_ (si σ13 9 0 27 ((gi σ13 9 0 27) + 1)) (fun σ14 => some (1, σ14)))))))))))) else (some (0, σ2)))))))))
abbrev rm_Md_condition : Room := { frames := 2, cells := 0, slots := 0, locals := 44 }
set_option maxHeartbeats 4000000 in
set_option maxRecDepth 100000 in
theorem c_Md_condition (l : Launch) (X : GX) (n : Nat) {σ σ' : Sg} {r : Int32} {a1 : Int32} {a2 : Int32} {a3 : Int32} {a4 : Int32}  (hf : f_Md_condition a1 a2 a3 a4 σ = some (r, σ')) : Met l y_Md_condition (cw y_Md_condition b_Md_condition 6 (some .boolean)) rm_Md_condition (PcG X n σ [.ref (xL X 9 0), .int a1, .int a2, .int a3, .int a4]) (QcG X n σ' (some (.int r))) 0 0 (fr X n) := by
  refine g_head (own := "TableMachineModel") (by decide) rfl (Nat.le_of_ble_eq_true rfl) ?_
  intro p e s m args below meth c ls F hr hlk hP hl
  have hl : lv_has ls 6 [(0, .ref (xL X 9 0)), (1, .int a1), (2, .int a2), (3, .int a3), (4, .int a4)] := hl
  show WG l X n rm_Md_condition σ' (some (.int r)) p e s m args below meth c s.heap [] (F0 m 0 ls [])
  unfold f_Md_condition at hf
  refine lv_aload_n F.1 F.2.1 d_Md_condition_0 rfl (lv_at hl 0 rfl) ?_
  refine lv_iconst (v := 0) F.1 F.2.1 d_Md_condition_1 (by decide) ?_
  obtain ⟨σ1, e_σ1, hf⟩ := lt_some hf
  refine g_puti F hP 9 0 0 (by decide) Nat.zero_lt_one (by decide) rfl rfl rfl rfl (Or.inl w_873) d_Md_condition_2 e_σ1 (fun H locs hP => ?_)
  refine lv_aload_n F.1 F.2.1 d_Md_condition_5 rfl (lv_at hl 0 rfl) ?_
  refine g_get F hP 9 27 0 (by decide) Nat.zero_lt_one (by decide) (v := .int (gi σ1 9 0 27)) rfl w_900 d_Md_condition_6 ?_
  refine lv_iconst (v := 4) F.1 F.2.1 d_Md_condition_9 (by decide) ?_
  refine lv_icmp_eq F.1 F.2.1 d_Md_condition_10 rfl (fun hb18 => ?_) (fun hb18 => ?_)
  · rw [if_pos hb18] at hf
    refine lv_iconst (v := 0) F.1 F.2.1 d_Md_condition_32 (by decide) ?_
    cases hf
    exact g_zret F hP hr hlk zb0 d_Md_condition_33
  · rw [if_neg hb18] at hf
    refine lv_aload_n F.1 F.2.1 d_Md_condition_13 rfl (lv_at hl 0 rfl) ?_
    refine lv_iload_n F.1 F.2.1 d_Md_condition_14 rfl (lv_at hl 1 rfl) ?_
    refine lv_iload_n F.1 F.2.1 d_Md_condition_15 rfl (lv_at hl 2 rfl) ?_
    obtain ⟨r4, σ2, hk3, hf⟩ := bn2_some hf
    refine g_callV (As := [.int a1, .int a2]) (rest := []) F hP 9 0 (by decide) Nat.zero_lt_one (c_Md_isColumn l X n  hk3) rfl q_Md_isColumn w_1122 w_11 w_1119 w_1121 wp_51 ⟨rfl, rfl⟩ ⟨by decide, by decide⟩ hl.1 (Nat.le_of_ble_eq_true rfl) ⟨Nat.zero_le _, Nat.zero_le _⟩ d_Md_condition_16 rfl (fun H locs hP => ?_)
    refine W.eq (g2 := F0 m 19 ls [.int r4]) rfl ?_
    refine lv_if_eq F.1 F.2.1 d_Md_condition_19 rfl (fun hb17 => ?_) (fun hb17 => ?_)
    · rw [if_pos hb17] at hf
      refine lv_iconst (v := 0) F.1 F.2.1 d_Md_condition_32 (by decide) ?_
      cases hf
      exact g_zret F hP hr hlk zb0 d_Md_condition_33
    · rw [if_neg hb17] at hf
      refine lv_iload_n F.1 F.2.1 d_Md_condition_22 rfl (lv_at hl 3 rfl) ?_
      refine lv_if_lt F.1 F.2.1 d_Md_condition_23 rfl (fun hb16 => ?_) (fun hb16 => ?_)
      · rw [if_pos hb16] at hf
        refine lv_iconst (v := 0) F.1 F.2.1 d_Md_condition_32 (by decide) ?_
        cases hf
        exact g_zret F hP hr hlk zb0 d_Md_condition_33
      · rw [if_neg hb16] at hf
        refine lv_iload_n F.1 F.2.1 d_Md_condition_26 rfl (lv_at hl 3 rfl) ?_
        refine lv_bipush (v := 7) F.1 F.2.1 d_Md_condition_27 (by decide) ?_
        refine lv_icmp_le F.1 F.2.1 d_Md_condition_29 rfl (fun hb15 => ?_) (fun hb15 => ?_)
        · rw [if_pos hb15] at hf
          refine lv_iconst (v := 4) F.1 F.2.1 d_Md_condition_34 (by decide) ?_
          refine lv_aload_n F.1 F.2.1 d_Md_condition_35 rfl (lv_at hl 0 rfl) ?_
          refine g_get F hP 9 27 0 (by decide) Nat.zero_lt_one (by decide) (v := .int (gi σ2 9 0 27)) rfl w_900 d_Md_condition_36 ?_
          refine lv_imul F.1 F.2.1 d_Md_condition_39 ?_
          obtain ⟨x5, e_x5, hf⟩ := lt_some hf
          rw [← e_x5]
          refine lv_istore F.1 F.2.1 d_Md_condition_40 hl (by decide) rfl (fun ls hl => ?_)
          have hl : lv_has ls 6 [(5, .int x5), (0, .ref (xL X 9 0)), (1, .int a1), (2, .int a2), (3, .int a3), (4, .int a4)] := hl
          refine lv_aload_n F.1 F.2.1 d_Md_condition_42 rfl (lv_at hl 1 rfl) ?_
          refine g_get F hP 9 28 0 (by decide) Nat.zero_lt_one (by decide) (v := .ref (xL X 43 0)) rfl w_901 d_Md_condition_43 ?_
          refine lv_iload F.1 F.2.1 d_Md_condition_46 (lv_at hl 0 rfl) ?_
          refine lv_iload_n F.1 F.2.1 d_Md_condition_48 rfl (lv_at hl 2 rfl) ?_
          obtain ⟨hc6, hf⟩ := chk_some hf
          obtain ⟨σ7, e_σ7, hf⟩ := lt_some hf
          refine g_ast F hP 43 (by decide) (by decide) Nat.zero_lt_one rfl rfl hc6 d_Md_condition_49 e_σ7 (fun H locs hP => ?_)
          refine lv_aload_n F.1 F.2.1 d_Md_condition_50 rfl (lv_at hl 1 rfl) ?_
          refine g_get F hP 9 28 0 (by decide) Nat.zero_lt_one (by decide) (v := .ref (xL X 43 0)) rfl w_901 d_Md_condition_51 ?_
          refine lv_iload F.1 F.2.1 d_Md_condition_54 (lv_at hl 0 rfl) ?_
          refine lv_iconst (v := 1) F.1 F.2.1 d_Md_condition_56 (by decide) ?_
          refine lv_iadd F.1 F.2.1 d_Md_condition_57 ?_
          refine lv_iload_n F.1 F.2.1 d_Md_condition_58 rfl (lv_at hl 3 rfl) ?_
          obtain ⟨hc8, hf⟩ := chk_some hf
          obtain ⟨σ9, e_σ9, hf⟩ := lt_some hf
          refine g_ast F hP 43 (by decide) (by decide) Nat.zero_lt_one rfl rfl hc8 d_Md_condition_59 e_σ9 (fun H locs hP => ?_)
          refine lv_aload_n F.1 F.2.1 d_Md_condition_60 rfl (lv_at hl 1 rfl) ?_
          refine g_get F hP 9 28 0 (by decide) Nat.zero_lt_one (by decide) (v := .ref (xL X 43 0)) rfl w_901 d_Md_condition_61 ?_
          refine lv_iload F.1 F.2.1 d_Md_condition_64 (lv_at hl 0 rfl) ?_
          refine lv_iconst (v := 2) F.1 F.2.1 d_Md_condition_66 (by decide) ?_
          refine lv_iadd F.1 F.2.1 d_Md_condition_67 ?_
          refine lv_iload_n F.1 F.2.1 d_Md_condition_68 rfl (lv_at hl 4 rfl) ?_
          obtain ⟨hc10, hf⟩ := chk_some hf
          obtain ⟨σ11, e_σ11, hf⟩ := lt_some hf
          refine g_ast F hP 43 (by decide) (by decide) Nat.zero_lt_one rfl rfl hc10 d_Md_condition_69 e_σ11 (fun H locs hP => ?_)
          refine lv_aload_n F.1 F.2.1 d_Md_condition_70 rfl (lv_at hl 1 rfl) ?_
          refine g_get F hP 9 28 0 (by decide) Nat.zero_lt_one (by decide) (v := .ref (xL X 43 0)) rfl w_901 d_Md_condition_71 ?_
          refine lv_iload F.1 F.2.1 d_Md_condition_74 (lv_at hl 0 rfl) ?_
          refine lv_iconst (v := 3) F.1 F.2.1 d_Md_condition_76 (by decide) ?_
          refine lv_iadd F.1 F.2.1 d_Md_condition_77 ?_
          refine lv_iload F.1 F.2.1 d_Md_condition_78 (lv_at hl 5 rfl) ?_
          obtain ⟨hc12, hf⟩ := chk_some hf
          obtain ⟨σ13, e_σ13, hf⟩ := lt_some hf
          refine g_ast F hP 43 (by decide) (by decide) Nat.zero_lt_one rfl rfl hc12 d_Md_condition_80 e_σ13 (fun H locs hP => ?_)
          refine lv_aload_n F.1 F.2.1 d_Md_condition_81 rfl (lv_at hl 1 rfl) ?_
          refine lv_dup F.1 F.2.1 d_Md_condition_82 rfl ?_
          refine g_get F hP 9 27 0 (by decide) Nat.zero_lt_one (by decide) (v := .int (gi σ13 9 0 27)) rfl w_900 d_Md_condition_83 ?_
          refine lv_iconst (v := 1) F.1 F.2.1 d_Md_condition_86 (by decide) ?_
          refine lv_iadd F.1 F.2.1 d_Md_condition_87 ?_
          obtain ⟨σ14, e_σ14, hf⟩ := lt_some hf
          refine g_puti F hP 9 27 0 (by decide) Nat.zero_lt_one (by decide) rfl rfl rfl rfl (Or.inl w_900) d_Md_condition_88 e_σ14 (fun H locs hP => ?_)
          refine lv_iconst (v := 1) F.1 F.2.1 d_Md_condition_91 (by decide) ?_
          cases hf
          exact g_zret F hP hr hlk zb1 d_Md_condition_92
        · rw [if_neg hb15] at hf
          refine lv_iconst (v := 0) F.1 F.2.1 d_Md_condition_32 (by decide) ?_
          cases hf
          exact g_zret F hP hr hlk zb0 d_Md_condition_33

theorem d_Md_join_0 : decode b_Md_join 0 = .ok (.aload_n 0, 1) := by decide +kernel
theorem d_Md_join_1 : decode b_Md_join 1 = .ok (.iconst 0, 1) := by decide +kernel
theorem d_Md_join_2 : decode b_Md_join 2 = .ok (.putfield 73, 3) := by decide +kernel
theorem d_Md_join_5 : decode b_Md_join 5 = .ok (.aload_n 0, 1) := by decide +kernel
theorem d_Md_join_6 : decode b_Md_join 6 = .ok (.getfield 64, 3) := by decide +kernel
theorem d_Md_join_9 : decode b_Md_join 9 = .ok (.ifCond .lt 21, 3) := by decide +kernel
theorem d_Md_join_12 : decode b_Md_join 12 = .ok (.aload_n 0, 1) := by decide +kernel
theorem d_Md_join_13 : decode b_Md_join 13 = .ok (.iconst 0, 1) := by decide +kernel
theorem d_Md_join_14 : decode b_Md_join 14 = .ok (.iload_n 1, 1) := by decide +kernel
theorem d_Md_join_15 : decode b_Md_join 15 = .ok (.invokevirtual 184, 3) := by decide +kernel
theorem d_Md_join_18 : decode b_Md_join 18 = .ok (.ifCond .eq 12, 3) := by decide +kernel
theorem d_Md_join_21 : decode b_Md_join 21 = .ok (.aload_n 0, 1) := by decide +kernel
theorem d_Md_join_22 : decode b_Md_join 22 = .ok (.iconst 1, 1) := by decide +kernel
theorem d_Md_join_23 : decode b_Md_join 23 = .ok (.iload_n 2, 1) := by decide +kernel
theorem d_Md_join_24 : decode b_Md_join 24 = .ok (.invokevirtual 184, 3) := by decide +kernel
theorem d_Md_join_27 : decode b_Md_join 27 = .ok (.ifCond .ne 5, 3) := by decide +kernel
theorem d_Md_join_30 : decode b_Md_join 30 = .ok (.iconst 0, 1) := by decide +kernel
theorem d_Md_join_31 : decode b_Md_join 31 = .ok (.ireturn, 1) := by decide +kernel
theorem d_Md_join_32 : decode b_Md_join 32 = .ok (.aload_n 0, 1) := by decide +kernel
theorem d_Md_join_33 : decode b_Md_join 33 = .ok (.iconst 1, 1) := by decide +kernel
theorem d_Md_join_34 : decode b_Md_join 34 = .ok (.putfield 177, 3) := by decide +kernel
theorem d_Md_join_37 : decode b_Md_join 37 = .ok (.aload_n 0, 1) := by decide +kernel
theorem d_Md_join_38 : decode b_Md_join 38 = .ok (.iload_n 1, 1) := by decide +kernel
theorem d_Md_join_39 : decode b_Md_join 39 = .ok (.putfield 187, 3) := by decide +kernel
theorem d_Md_join_42 : decode b_Md_join 42 = .ok (.aload_n 0, 1) := by decide +kernel
theorem d_Md_join_43 : decode b_Md_join 43 = .ok (.iload_n 2, 1) := by decide +kernel
theorem d_Md_join_44 : decode b_Md_join 44 = .ok (.putfield 190, 3) := by decide +kernel
theorem d_Md_join_47 : decode b_Md_join 47 = .ok (.iconst 1, 1) := by decide +kernel
theorem d_Md_join_48 : decode b_Md_join 48 = .ok (.ireturn, 1) := by decide +kernel
noncomputable def f_Md_join (a1 : Int32) (a2 : Int32) (σ : Sg) : Option (Int32 × Sg) :=
  lt_ (si σ 9 0 0 0) (fun σ1 => (if (gi σ1 9 0 24) < 0 then (some (0, σ1)) else (bn2 (f_Md_isColumn 0 a1 σ1) (fun r4 σ2 => (if r4 = 0 then (some (0, σ2)) else (bn2 (f_Md_isColumn 1 a2 σ2) (fun r7 σ5 => (if r7 = 0 then (some (0, σ5)) else (lt_ (si σ5 9 0 29 1) (fun σ8 => lt_ (si σ8 9 0 30 a1) (fun σ9 => lt_ (si σ9 9 0 31 a2) (fun σ10 => some (1, σ10)))))))))))))
abbrev rm_Md_join : Room := { frames := 2, cells := 0, slots := 0, locals := 44 }
set_option maxHeartbeats 4000000 in
set_option maxRecDepth 100000 in
theorem c_Md_join (l : Launch) (X : GX) (n : Nat) {σ σ' : Sg} {r : Int32} {a1 : Int32} {a2 : Int32}  (hf : f_Md_join a1 a2 σ = some (r, σ')) : Met l y_Md_join (cw y_Md_join b_Md_join 3 (some .boolean)) rm_Md_join (PcG X n σ [.ref (xL X 9 0), .int a1, .int a2]) (QcG X n σ' (some (.int r))) 0 0 (fr X n) := by
  refine g_head (own := "TableMachineModel") (by decide) rfl (Nat.le_of_ble_eq_true rfl) ?_
  intro p e s m args below meth c ls F hr hlk hP hl
  have hl : lv_has ls 3 [(0, .ref (xL X 9 0)), (1, .int a1), (2, .int a2)] := hl
  show WG l X n rm_Md_join σ' (some (.int r)) p e s m args below meth c s.heap [] (F0 m 0 ls [])
  unfold f_Md_join at hf
  refine lv_aload_n F.1 F.2.1 d_Md_join_0 rfl (lv_at hl 0 rfl) ?_
  refine lv_iconst (v := 0) F.1 F.2.1 d_Md_join_1 (by decide) ?_
  obtain ⟨σ1, e_σ1, hf⟩ := lt_some hf
  refine g_puti F hP 9 0 0 (by decide) Nat.zero_lt_one (by decide) rfl rfl rfl rfl (Or.inl w_873) d_Md_join_2 e_σ1 (fun H locs hP => ?_)
  refine lv_aload_n F.1 F.2.1 d_Md_join_5 rfl (lv_at hl 0 rfl) ?_
  refine g_get F hP 9 24 0 (by decide) Nat.zero_lt_one (by decide) (v := .int (gi σ1 9 0 24)) rfl w_897 d_Md_join_6 ?_
  refine lv_if_lt F.1 F.2.1 d_Md_join_9 rfl (fun hb13 => ?_) (fun hb13 => ?_)
  · rw [if_pos hb13] at hf
    refine lv_iconst (v := 0) F.1 F.2.1 d_Md_join_30 (by decide) ?_
    cases hf
    exact g_zret F hP hr hlk zb0 d_Md_join_31
  · rw [if_neg hb13] at hf
    refine lv_aload_n F.1 F.2.1 d_Md_join_12 rfl (lv_at hl 0 rfl) ?_
    refine lv_iconst (v := 0) F.1 F.2.1 d_Md_join_13 (by decide) ?_
    refine lv_iload_n F.1 F.2.1 d_Md_join_14 rfl (lv_at hl 1 rfl) ?_
    obtain ⟨r4, σ2, hk3, hf⟩ := bn2_some hf
    refine g_callV (As := [.int 0, .int a1]) (rest := []) F hP 9 0 (by decide) Nat.zero_lt_one (c_Md_isColumn l X n  hk3) rfl q_Md_isColumn w_1122 w_11 w_1119 w_1121 wp_51 ⟨rfl, rfl⟩ ⟨by decide, by decide⟩ hl.1 (Nat.le_of_ble_eq_true rfl) ⟨Nat.zero_le _, Nat.zero_le _⟩ d_Md_join_15 rfl (fun H locs hP => ?_)
    refine W.eq (g2 := F0 m 18 ls [.int r4]) rfl ?_
    refine lv_if_eq F.1 F.2.1 d_Md_join_18 rfl (fun hb12 => ?_) (fun hb12 => ?_)
    · rw [if_pos hb12] at hf
      refine lv_iconst (v := 0) F.1 F.2.1 d_Md_join_30 (by decide) ?_
      cases hf
      exact g_zret F hP hr hlk zb0 d_Md_join_31
    · rw [if_neg hb12] at hf
      refine lv_aload_n F.1 F.2.1 d_Md_join_21 rfl (lv_at hl 0 rfl) ?_
      refine lv_iconst (v := 1) F.1 F.2.1 d_Md_join_22 (by decide) ?_
      refine lv_iload_n F.1 F.2.1 d_Md_join_23 rfl (lv_at hl 2 rfl) ?_
      obtain ⟨r7, σ5, hk6, hf⟩ := bn2_some hf
      refine g_callV (As := [.int 1, .int a2]) (rest := []) F hP 9 0 (by decide) Nat.zero_lt_one (c_Md_isColumn l X n  hk6) rfl q_Md_isColumn w_1122 w_11 w_1119 w_1121 wp_51 ⟨rfl, rfl⟩ ⟨by decide, by decide⟩ hl.1 (Nat.le_of_ble_eq_true rfl) ⟨Nat.zero_le _, Nat.zero_le _⟩ d_Md_join_24 rfl (fun H locs hP => ?_)
      refine W.eq (g2 := F0 m 27 ls [.int r7]) rfl ?_
      refine lv_if_ne F.1 F.2.1 d_Md_join_27 rfl (fun hb11 => ?_) (fun hb11 => ?_)
      · rw [if_neg hb11] at hf
        refine lv_aload_n F.1 F.2.1 d_Md_join_32 rfl (lv_at hl 0 rfl) ?_
        refine lv_iconst (v := 1) F.1 F.2.1 d_Md_join_33 (by decide) ?_
        obtain ⟨σ8, e_σ8, hf⟩ := lt_some hf
        refine g_puti F hP 9 29 0 (by decide) Nat.zero_lt_one (by decide) rfl rfl (zb_n zb1) (zb_f zb1) (Or.inl w_902) d_Md_join_34 e_σ8 (fun H locs hP => ?_)
        refine lv_aload_n F.1 F.2.1 d_Md_join_37 rfl (lv_at hl 0 rfl) ?_
        refine lv_iload_n F.1 F.2.1 d_Md_join_38 rfl (lv_at hl 1 rfl) ?_
        obtain ⟨σ9, e_σ9, hf⟩ := lt_some hf
        refine g_puti F hP 9 30 0 (by decide) Nat.zero_lt_one (by decide) rfl rfl rfl rfl (Or.inl w_903) d_Md_join_39 e_σ9 (fun H locs hP => ?_)
        refine lv_aload_n F.1 F.2.1 d_Md_join_42 rfl (lv_at hl 0 rfl) ?_
        refine lv_iload_n F.1 F.2.1 d_Md_join_43 rfl (lv_at hl 2 rfl) ?_
        obtain ⟨σ10, e_σ10, hf⟩ := lt_some hf
        refine g_puti F hP 9 31 0 (by decide) Nat.zero_lt_one (by decide) rfl rfl rfl rfl (Or.inl w_904) d_Md_join_44 e_σ10 (fun H locs hP => ?_)
        refine lv_iconst (v := 1) F.1 F.2.1 d_Md_join_47 (by decide) ?_
        cases hf
        exact g_zret F hP hr hlk zb1 d_Md_join_48
      · rw [if_pos hb11] at hf
        refine lv_iconst (v := 0) F.1 F.2.1 d_Md_join_30 (by decide) ?_
        cases hf
        exact g_zret F hP hr hlk zb0 d_Md_join_31

theorem d_Md_read_0 : decode b_Md_read 0 = .ok (.iload_n 2, 1) := by decide +kernel
theorem d_Md_read_1 : decode b_Md_read 1 = .ok (.iconst (-1), 1) := by decide +kernel
theorem d_Md_read_2 : decode b_Md_read 2 = .ok (.if_icmp .ne 14, 3) := by decide +kernel
theorem d_Md_read_5 : decode b_Md_read 5 = .ok (.aload_n 0, 1) := by decide +kernel
theorem d_Md_read_6 : decode b_Md_read 6 = .ok (.iconst 5, 1) := by decide +kernel
theorem d_Md_read_7 : decode b_Md_read 7 = .ok (.iload_n 1, 1) := by decide +kernel
theorem d_Md_read_8 : decode b_Md_read 8 = .ok (.iload_n 3, 1) := by decide +kernel
theorem d_Md_read_9 : decode b_Md_read 9 = .ok (.iconst 0, 1) := by decide +kernel
theorem d_Md_read_10 : decode b_Md_read 10 = .ok (.invokevirtual 121, 3) := by decide +kernel
theorem d_Md_read_13 : decode b_Md_read 13 = .ok (.goto 11, 3) := by decide +kernel
theorem d_Md_read_16 : decode b_Md_read 16 = .ok (.aload_n 0, 1) := by decide +kernel
theorem d_Md_read_17 : decode b_Md_read 17 = .ok (.iconst 4, 1) := by decide +kernel
theorem d_Md_read_18 : decode b_Md_read 18 = .ok (.iload_n 1, 1) := by decide +kernel
theorem d_Md_read_19 : decode b_Md_read 19 = .ok (.iload_n 2, 1) := by decide +kernel
theorem d_Md_read_20 : decode b_Md_read 20 = .ok (.iload_n 3, 1) := by decide +kernel
theorem d_Md_read_21 : decode b_Md_read 21 = .ok (.invokevirtual 121, 3) := by decide +kernel
theorem d_Md_read_24 : decode b_Md_read 24 = .ok (.return_, 1) := by decide +kernel
noncomputable def f_Md_read (a1 : Int32) (a2 : Int32) (a3 : Int32) (σ : Sg) : Option (Sg) :=
  Option.bind (if a2 = (-1) then ((f_Md_put 5 a1 a3 0 σ).bind (fun σ6 => some (σ6))) else ((f_Md_put 4 a1 a2 a3 σ).bind (fun σ4 => some (σ4)))) (fun (σ1 : Sg) => some σ1)
abbrev rm_Md_read : Room := { frames := 2, cells := 0, slots := 0, locals := 45 }
set_option maxHeartbeats 4000000 in
set_option maxRecDepth 100000 in
theorem c_Md_read (l : Launch) (X : GX) (n : Nat) {σ σ' : Sg} {a1 : Int32} {a2 : Int32} {a3 : Int32}  (hf : f_Md_read a1 a2 a3 σ = some σ') : Met l y_Md_read (cw y_Md_read b_Md_read 4 none) rm_Md_read (PcG X n σ [.ref (xL X 9 0), .int a1, .int a2, .int a3]) (QcG X n σ' none) 0 0 (fr X n) := by
  refine g_head (own := "TableMachineModel") (by decide) rfl (Nat.le_of_ble_eq_true rfl) ?_
  intro p e s m args below meth c ls F hr hlk hP hl
  have hl : lv_has ls 4 [(0, .ref (xL X 9 0)), (1, .int a1), (2, .int a2), (3, .int a3)] := hl
  show WG l X n rm_Md_read σ' none p e s m args below meth c s.heap [] (F0 m 0 ls [])
  unfold f_Md_read at hf
  refine lv_iload_n F.1 F.2.1 d_Md_read_0 rfl (lv_at hl 2 rfl) ?_
  refine lv_iconst (v := (-1)) F.1 F.2.1 d_Md_read_1 (by decide) ?_
  obtain ⟨σ1, hj3, hf⟩ := bnd_some hf
  have KJ2 : ∀ (ls : Array Slot) (H : Heap) (locs : List Loc), lv_has ls 4 [] → St X n σ1 s.heap H locs → WG l X n rm_Md_read σ' none p e s m args below meth c H locs (F0 m 24 ls []) := by
    intro ls H locs hl hP
    cases hf
    exact g_vret F hP hr hlk d_Md_read_24
  refine lv_icmp_ne F.1 F.2.1 d_Md_read_2 rfl (fun hb8 => ?_) (fun hb8 => ?_)
  · rw [if_neg hb8] at hj3
    refine lv_aload_n F.1 F.2.1 d_Md_read_16 rfl (lv_at hl 0 rfl) ?_
    refine lv_iconst (v := 4) F.1 F.2.1 d_Md_read_17 (by decide) ?_
    refine lv_iload_n F.1 F.2.1 d_Md_read_18 rfl (lv_at hl 1 rfl) ?_
    refine lv_iload_n F.1 F.2.1 d_Md_read_19 rfl (lv_at hl 2 rfl) ?_
    refine lv_iload_n F.1 F.2.1 d_Md_read_20 rfl (lv_at hl 3 rfl) ?_
    obtain ⟨σ4, hk5, hj3⟩ := bnd_some hj3
    refine g_callV (As := [.int 4, .int a1, .int a2, .int a3]) (rest := []) F hP 9 0 (by decide) Nat.zero_lt_one (c_Md_put l X n  hk5) rfl q_Md_put w_1045 w_11 w_1042 w_1044 wp_41 ⟨rfl, rfl⟩ ⟨by decide, by decide⟩ hl.1 (Nat.le_of_ble_eq_true rfl) ⟨Nat.zero_le _, Nat.zero_le _⟩ d_Md_read_21 rfl (fun H locs hP => ?_)
    refine W.eq (g2 := F0 m 24 ls []) rfl ?_
    cases hj3
    exact KJ2 _ _ _ (lv_sub hl [] rfl) hP
  · rw [if_pos hb8] at hj3
    refine lv_aload_n F.1 F.2.1 d_Md_read_5 rfl (lv_at hl 0 rfl) ?_
    refine lv_iconst (v := 5) F.1 F.2.1 d_Md_read_6 (by decide) ?_
    refine lv_iload_n F.1 F.2.1 d_Md_read_7 rfl (lv_at hl 1 rfl) ?_
    refine lv_iload_n F.1 F.2.1 d_Md_read_8 rfl (lv_at hl 3 rfl) ?_
    refine lv_iconst (v := 0) F.1 F.2.1 d_Md_read_9 (by decide) ?_
    obtain ⟨σ6, hk7, hj3⟩ := bnd_some hj3
    refine g_callV (As := [.int 5, .int a1, .int a3, .int 0]) (rest := []) F hP 9 0 (by decide) Nat.zero_lt_one (c_Md_put l X n  hk7) rfl q_Md_put w_1045 w_11 w_1042 w_1044 wp_41 ⟨rfl, rfl⟩ ⟨by decide, by decide⟩ hl.1 (Nat.le_of_ble_eq_true rfl) ⟨Nat.zero_le _, Nat.zero_le _⟩ d_Md_read_10 rfl (fun H locs hP => ?_)
    refine W.eq (g2 := F0 m 13 ls []) rfl ?_
    refine lv_goto F.1 F.2.1 d_Md_read_13 rfl ?_
    cases hj3
    exact KJ2 _ _ _ (lv_sub hl [] rfl) hP

theorem d_Md_seeker_0 : decode b_Md_seeker 0 = .ok (.iconst (-1), 1) := by decide +kernel
theorem d_Md_seeker_1 : decode b_Md_seeker 1 = .ok (.istore_n 2, 1) := by decide +kernel
theorem d_Md_seeker_2 : decode b_Md_seeker 2 = .ok (.aload_n 0, 1) := by decide +kernel
theorem d_Md_seeker_3 : decode b_Md_seeker 3 = .ok (.getfield 174, 3) := by decide +kernel
theorem d_Md_seeker_6 : decode b_Md_seeker 6 = .ok (.iconst 1, 1) := by decide +kernel
theorem d_Md_seeker_7 : decode b_Md_seeker 7 = .ok (.isub, 1) := by decide +kernel
theorem d_Md_seeker_8 : decode b_Md_seeker 8 = .ok (.istore_n 3, 1) := by decide +kernel
theorem d_Md_seeker_9 : decode b_Md_seeker 9 = .ok (.iload_n 3, 1) := by decide +kernel
theorem d_Md_seeker_10 : decode b_Md_seeker 10 = .ok (.ifCond .lt 82, 3) := by decide +kernel
theorem d_Md_seeker_13 : decode b_Md_seeker 13 = .ok (.aload_n 0, 1) := by decide +kernel
theorem d_Md_seeker_14 : decode b_Md_seeker 14 = .ok (.getfield 70, 3) := by decide +kernel
theorem d_Md_seeker_17 : decode b_Md_seeker 17 = .ok (.iconst 4, 1) := by decide +kernel
theorem d_Md_seeker_18 : decode b_Md_seeker 18 = .ok (.iload_n 3, 1) := by decide +kernel
theorem d_Md_seeker_19 : decode b_Md_seeker 19 = .ok (.imul, 1) := by decide +kernel
theorem d_Md_seeker_20 : decode b_Md_seeker 20 = .ok (.iconst 2, 1) := by decide +kernel
theorem d_Md_seeker_21 : decode b_Md_seeker 21 = .ok (.iadd, 1) := by decide +kernel
theorem d_Md_seeker_22 : decode b_Md_seeker 22 = .ok (.iaload, 1) := by decide +kernel
theorem d_Md_seeker_23 : decode b_Md_seeker 23 = .ok (.istore 4, 2) := by decide +kernel
theorem d_Md_seeker_25 : decode b_Md_seeker 25 = .ok (.aload_n 0, 1) := by decide +kernel
theorem d_Md_seeker_26 : decode b_Md_seeker 26 = .ok (.getfield 70, 3) := by decide +kernel
theorem d_Md_seeker_29 : decode b_Md_seeker 29 = .ok (.iconst 4, 1) := by decide +kernel
theorem d_Md_seeker_30 : decode b_Md_seeker 30 = .ok (.iload_n 3, 1) := by decide +kernel
theorem d_Md_seeker_31 : decode b_Md_seeker 31 = .ok (.imul, 1) := by decide +kernel
theorem d_Md_seeker_32 : decode b_Md_seeker 32 = .ok (.iaload, 1) := by decide +kernel
theorem d_Md_seeker_33 : decode b_Md_seeker 33 = .ok (.iload_n 1, 1) := by decide +kernel
theorem d_Md_seeker_34 : decode b_Md_seeker 34 = .ok (.if_icmp .ne 38, 3) := by decide +kernel
theorem d_Md_seeker_37 : decode b_Md_seeker 37 = .ok (.aload_n 0, 1) := by decide +kernel
theorem d_Md_seeker_38 : decode b_Md_seeker 38 = .ok (.getfield 70, 3) := by decide +kernel
theorem d_Md_seeker_41 : decode b_Md_seeker 41 = .ok (.iconst 4, 1) := by decide +kernel
theorem d_Md_seeker_42 : decode b_Md_seeker 42 = .ok (.iload_n 3, 1) := by decide +kernel
theorem d_Md_seeker_43 : decode b_Md_seeker 43 = .ok (.imul, 1) := by decide +kernel
theorem d_Md_seeker_44 : decode b_Md_seeker 44 = .ok (.iconst 1, 1) := by decide +kernel
theorem d_Md_seeker_45 : decode b_Md_seeker 45 = .ok (.iadd, 1) := by decide +kernel
theorem d_Md_seeker_46 : decode b_Md_seeker 46 = .ok (.iaload, 1) := by decide +kernel
theorem d_Md_seeker_47 : decode b_Md_seeker 47 = .ok (.iconst (-1), 1) := by decide +kernel
theorem d_Md_seeker_48 : decode b_Md_seeker 48 = .ok (.if_icmp .ne 24, 3) := by decide +kernel
theorem d_Md_seeker_51 : decode b_Md_seeker 51 = .ok (.iload 4, 2) := by decide +kernel
theorem d_Md_seeker_53 : decode b_Md_seeker 53 = .ok (.ifCond .eq 15, 3) := by decide +kernel
theorem d_Md_seeker_56 : decode b_Md_seeker 56 = .ok (.iload 4, 2) := by decide +kernel
theorem d_Md_seeker_58 : decode b_Md_seeker 58 = .ok (.iconst 4, 1) := by decide +kernel
theorem d_Md_seeker_59 : decode b_Md_seeker 59 = .ok (.if_icmp .eq 9, 3) := by decide +kernel
theorem d_Md_seeker_62 : decode b_Md_seeker 62 = .ok (.iload 4, 2) := by decide +kernel
theorem d_Md_seeker_64 : decode b_Md_seeker 64 = .ok (.iconst 5, 1) := by decide +kernel
theorem d_Md_seeker_65 : decode b_Md_seeker 65 = .ok (.if_icmp .ne 7, 3) := by decide +kernel
theorem d_Md_seeker_68 : decode b_Md_seeker 68 = .ok (.iconst 1, 1) := by decide +kernel
theorem d_Md_seeker_69 : decode b_Md_seeker 69 = .ok (.goto 4, 3) := by decide +kernel
theorem d_Md_seeker_72 : decode b_Md_seeker 72 = .ok (.iconst 0, 1) := by decide +kernel
theorem d_Md_seeker_73 : decode b_Md_seeker 73 = .ok (.istore 5, 2) := by decide +kernel
theorem d_Md_seeker_75 : decode b_Md_seeker 75 = .ok (.iload 5, 2) := by decide +kernel
theorem d_Md_seeker_77 : decode b_Md_seeker 77 = .ok (.ifCond .eq 7, 3) := by decide +kernel
theorem d_Md_seeker_80 : decode b_Md_seeker 80 = .ok (.iload_n 3, 1) := by decide +kernel
theorem d_Md_seeker_81 : decode b_Md_seeker 81 = .ok (.goto 4, 3) := by decide +kernel
theorem d_Md_seeker_84 : decode b_Md_seeker 84 = .ok (.iload_n 2, 1) := by decide +kernel
theorem d_Md_seeker_85 : decode b_Md_seeker 85 = .ok (.istore_n 2, 1) := by decide +kernel
theorem d_Md_seeker_86 : decode b_Md_seeker 86 = .ok (.iinc 3 (-1), 3) := by decide +kernel
theorem d_Md_seeker_89 : decode b_Md_seeker 89 = .ok (.goto (-80), 3) := by decide +kernel
theorem d_Md_seeker_92 : decode b_Md_seeker 92 = .ok (.iload_n 2, 1) := by decide +kernel
theorem d_Md_seeker_93 : decode b_Md_seeker 93 = .ok (.ireturn, 1) := by decide +kernel
noncomputable def b_Md_seeker_9 (a1 : Int32) (x3 : Int32) (x4 : Int32) (σ5 : Sg) : Option ((Int32 × Int32 × Sg) ⊕ (Int32 × Sg)) :=
  (if x4 < 0 then (some (.inr (x3, σ5))) else (chk (vp_in ((4 * x4) + 2) 16) (lt_ (gi σ5 43 0 (((4 * x4) + 2).toNatClampNeg) : Int32) (fun (x10 : Int32) => chk (vp_in (4 * x4) 16) (Option.bind (if (gi σ5 43 0 ((4 * x4).toNatClampNeg)) = a1 then (chk (vp_in ((4 * x4) + 1) 16) ((if (gi σ5 43 0 (((4 * x4) + 1).toNatClampNeg)) = (-1) then (if x10 = 0 then (some (1)) else (if x10 = 4 then (some (1)) else (if x10 = 5 then (some (1)) else (some (0))))) else (some (0))))) else (some (0))) (fun (x12 : Int32) => lt_ ((if x12 = 0 then x3 else x4) : Int32) (fun (x21 : Int32) => lt_ (x4 + (-1) : Int32) (fun (x25 : Int32) => some (.inl (x21, x25, σ5))))))))))
noncomputable def l_Md_seeker_9 (a1 : Int32) (x3 : Int32) (x4 : Int32) (σ5 : Sg) : Option (Int32 × Sg) := lp (fun q => b_Md_seeker_9 a1 q.1 q.2.1 q.2.2) FU (x3, x4, σ5)
noncomputable def f_Md_seeker (a1 : Int32) (σ : Sg) : Option (Int32 × Sg) :=
  lt_ ((-1) : Int32) (fun (x1 : Int32) => lt_ ((gi σ 9 0 27) - 1 : Int32) (fun (x2 : Int32) => bn2 (l_Md_seeker_9 a1 x1 x2 σ) (fun x27 σ28 => some (x27, σ28))))
abbrev rm_Md_seeker : Room := { frames := 0, cells := 0, slots := 0, locals := 0 }
set_option maxHeartbeats 4000000 in
set_option maxRecDepth 100000 in
theorem c_Md_seeker (l : Launch) (X : GX) (n : Nat) {σ σ' : Sg} {r : Int32} {a1 : Int32}  (hf : f_Md_seeker a1 σ = some (r, σ')) : Met l y_Md_seeker (cw y_Md_seeker b_Md_seeker 6 (some .int)) rm_Md_seeker (PcG X n σ [.ref (xL X 9 0), .int a1]) (QcG X n σ' (some (.int r))) 0 0 (fr X n) := by
  refine g_head (own := "TableMachineModel") (by decide) rfl (Nat.le_of_ble_eq_true rfl) ?_
  intro p e s m args below meth c ls F hr hlk hP hl
  have hl : lv_has ls 6 [(0, .ref (xL X 9 0)), (1, .int a1)] := hl
  show WG l X n rm_Md_seeker σ' (some (.int r)) p e s m args below meth c s.heap [] (F0 m 0 ls [])
  unfold f_Md_seeker at hf
  refine lv_iconst (v := (-1)) F.1 F.2.1 d_Md_seeker_0 (by decide) ?_
  obtain ⟨x1, e_x1, hf⟩ := lt_some hf
  rw [← e_x1]
  refine lv_istore_n F.1 F.2.1 d_Md_seeker_1 rfl hl (by decide) rfl (fun ls hl => ?_)
  have hl : lv_has ls 6 [(2, .int x1), (0, .ref (xL X 9 0)), (1, .int a1)] := hl
  refine lv_aload_n F.1 F.2.1 d_Md_seeker_2 rfl (lv_at hl 1 rfl) ?_
  refine g_get F hP 9 27 0 (by decide) Nat.zero_lt_one (by decide) (v := .int (gi σ 9 0 27)) rfl w_900 d_Md_seeker_3 ?_
  refine lv_iconst (v := 1) F.1 F.2.1 d_Md_seeker_6 (by decide) ?_
  refine lv_isub F.1 F.2.1 d_Md_seeker_7 ?_
  obtain ⟨x2, e_x2, hf⟩ := lt_some hf
  rw [← e_x2]
  refine lv_istore_n F.1 F.2.1 d_Md_seeker_8 rfl hl (by decide) rfl (fun ls hl => ?_)
  have hl : lv_has ls 6 [(3, .int x2), (2, .int x1), (0, .ref (xL X 9 0)), (1, .int a1)] := hl
  obtain ⟨x27, σ28, hlp29, hf⟩ := bn2_some hf
  have KX30 : ∀ (ls : Array Slot) (H : Heap) (locs : List Loc), lv_has ls 6 [(2, .int x27)] → St X n σ28 s.heap H locs → WG l X n rm_Md_seeker σ' (some (.int r)) p e s m args below meth c H locs (F0 m 92 ls []) := by
    intro ls H locs hl hP
    refine lv_iload_n F.1 F.2.1 d_Md_seeker_92 rfl (lv_at hl 0 rfl) ?_
    cases hf
    exact g_iret F hP hr hlk d_Md_seeker_93
  unfold l_Md_seeker_9 at hlp29
  refine lp_W (PW := fun q => ∀ (ls : Array Slot) (H : Heap) (locs : List Loc), lv_has ls 6 [(0, .ref (xL X 9 0)), (1, .int a1), (2, .int q.1), (3, .int q.2.1)] → St X n q.2.2 s.heap H locs → WG l X n rm_Md_seeker σ' (some (.int r)) p e s m args below meth c H locs (F0 m 9 ls [])) (PE := fun q => ∀ (ls : Array Slot) (H : Heap) (locs : List Loc), lv_has ls 6 [(2, .int q.1)] → St X n q.2 s.heap H locs → WG l X n rm_Md_seeker σ' (some (.int r)) p e s m args below meth c H locs (F0 m 92 ls [])) ?_ _ _ _ hlp29 KX30 _ _ _ (lv_sub hl [2, 3, 1, 0] rfl) hP
  rintro ⟨x3, x4, σ5⟩ rr6 hb_9 hI7 hE8 ls H locs hl hP
  replace hb_9 : b_Md_seeker_9 a1 x3 x4 σ5 = some rr6 := hb_9
  unfold b_Md_seeker_9 at hb_9
  refine lv_iload_n F.1 F.2.1 d_Md_seeker_9 rfl (lv_at hl 3 rfl) ?_
  refine lv_if_lt F.1 F.2.1 d_Md_seeker_10 rfl (fun hb26 => ?_) (fun hb26 => ?_)
  · rw [if_pos hb26] at hb_9
    cases hb_9
    exact hE8 _ rfl _ _ _ (lv_sub hl [2] rfl) hP
  · rw [if_neg hb26] at hb_9
    refine lv_aload_n F.1 F.2.1 d_Md_seeker_13 rfl (lv_at hl 0 rfl) ?_
    refine g_get F hP 9 28 0 (by decide) Nat.zero_lt_one (by decide) (v := .ref (xL X 43 0)) rfl w_901 d_Md_seeker_14 ?_
    refine lv_iconst (v := 4) F.1 F.2.1 d_Md_seeker_17 (by decide) ?_
    refine lv_iload_n F.1 F.2.1 d_Md_seeker_18 rfl (lv_at hl 3 rfl) ?_
    refine lv_imul F.1 F.2.1 d_Md_seeker_19 ?_
    refine lv_iconst (v := 2) F.1 F.2.1 d_Md_seeker_20 (by decide) ?_
    refine lv_iadd F.1 F.2.1 d_Md_seeker_21 ?_
    obtain ⟨hc9, hb_9⟩ := chk_some hb_9
    refine g_ald F hP 43 (by decide) (by decide) Nat.zero_lt_one rfl rfl hc9 d_Md_seeker_22 ?_
    obtain ⟨x10, e_x10, hb_9⟩ := lt_some hb_9
    rw [← e_x10]
    refine lv_istore F.1 F.2.1 d_Md_seeker_23 hl (by decide) rfl (fun ls hl => ?_)
    have hl : lv_has ls 6 [(4, .int x10), (0, .ref (xL X 9 0)), (1, .int a1), (2, .int x3), (3, .int x4)] := hl
    refine lv_aload_n F.1 F.2.1 d_Md_seeker_25 rfl (lv_at hl 1 rfl) ?_
    refine g_get F hP 9 28 0 (by decide) Nat.zero_lt_one (by decide) (v := .ref (xL X 43 0)) rfl w_901 d_Md_seeker_26 ?_
    refine lv_iconst (v := 4) F.1 F.2.1 d_Md_seeker_29 (by decide) ?_
    refine lv_iload_n F.1 F.2.1 d_Md_seeker_30 rfl (lv_at hl 4 rfl) ?_
    refine lv_imul F.1 F.2.1 d_Md_seeker_31 ?_
    obtain ⟨hc11, hb_9⟩ := chk_some hb_9
    refine g_ald F hP 43 (by decide) (by decide) Nat.zero_lt_one rfl rfl hc11 d_Md_seeker_32 ?_
    refine lv_iload_n F.1 F.2.1 d_Md_seeker_33 rfl (lv_at hl 2 rfl) ?_
    obtain ⟨x12, hj14, hb_9⟩ := bnd_some hb_9
    have KJ13 : ∀ (ls : Array Slot) (H : Heap) (locs : List Loc), lv_has ls 6 [(0, .ref (xL X 9 0)), (1, .int a1), (2, .int x3), (3, .int x4)] → St X n σ5 s.heap H locs → WG l X n rm_Md_seeker σ' (some (.int r)) p e s m args below meth c H locs (F0 m 73 ls [.int x12]) := by
      intro ls H locs hl hP
      refine lv_istore F.1 F.2.1 d_Md_seeker_73 hl (by decide) rfl (fun ls hl => ?_)
      have hl : lv_has ls 6 [(5, .int x12), (0, .ref (xL X 9 0)), (1, .int a1), (2, .int x3), (3, .int x4)] := hl
      refine lv_iload F.1 F.2.1 d_Md_seeker_75 (lv_at hl 0 rfl) ?_
      obtain ⟨x21, hj23, hb_9⟩ := lt_some2 hb_9
      have KJ22 : ∀ (ls : Array Slot) (H : Heap) (locs : List Loc), lv_has ls 6 [(0, .ref (xL X 9 0)), (1, .int a1), (3, .int x4)] → St X n σ5 s.heap H locs → WG l X n rm_Md_seeker σ' (some (.int r)) p e s m args below meth c H locs (F0 m 85 ls [.int x21]) := by
        intro ls H locs hl hP
        refine lv_istore_n F.1 F.2.1 d_Md_seeker_85 rfl hl (by decide) rfl (fun ls hl => ?_)
        have hl : lv_has ls 6 [(2, .int x21), (0, .ref (xL X 9 0)), (1, .int a1), (3, .int x4)] := hl
        obtain ⟨x25, e_x25, hb_9⟩ := lt_some hb_9
        refine lv_iinc (k := 3) (v := x25) F.1 F.2.1 d_Md_seeker_86 hl rfl (by rw [e_x25]; rfl) (by decide) rfl (fun ls hl => ?_)
        have hl : lv_has ls 6 [(3, .int x25), (2, .int x21), (0, .ref (xL X 9 0)), (1, .int a1)] := hl
        refine lv_goto F.1 F.2.1 d_Md_seeker_89 rfl ?_
        cases hb_9
        exact hI7 _ rfl _ _ _ (lv_sub hl [2, 3, 1, 0] rfl) hP
      refine lv_if_eq F.1 F.2.1 d_Md_seeker_77 rfl (fun hb24 => ?_) (fun hb24 => ?_)
      · rw [if_pos hb24] at hj23
        refine lv_iload_n F.1 F.2.1 d_Md_seeker_84 rfl (lv_at hl 3 rfl) ?_
        subst hj23
        exact KJ22 _ _ _ (lv_sub hl [1, 2, 4] rfl) hP
      · rw [if_neg hb24] at hj23
        refine lv_iload_n F.1 F.2.1 d_Md_seeker_80 rfl (lv_at hl 4 rfl) ?_
        refine lv_goto F.1 F.2.1 d_Md_seeker_81 rfl ?_
        subst hj23
        exact KJ22 _ _ _ (lv_sub hl [1, 2, 4] rfl) hP
    refine lv_icmp_ne F.1 F.2.1 d_Md_seeker_34 rfl (fun hb20 => ?_) (fun hb20 => ?_)
    · rw [if_neg hb20] at hj14
      refine lv_iconst (v := 0) F.1 F.2.1 d_Md_seeker_72 (by decide) ?_
      cases hj14
      exact KJ13 _ _ _ (lv_sub hl [1, 2, 3, 4] rfl) hP
    · rw [if_pos hb20] at hj14
      refine lv_aload_n F.1 F.2.1 d_Md_seeker_37 rfl (lv_at hl 1 rfl) ?_
      refine g_get F hP 9 28 0 (by decide) Nat.zero_lt_one (by decide) (v := .ref (xL X 43 0)) rfl w_901 d_Md_seeker_38 ?_
      refine lv_iconst (v := 4) F.1 F.2.1 d_Md_seeker_41 (by decide) ?_
      refine lv_iload_n F.1 F.2.1 d_Md_seeker_42 rfl (lv_at hl 4 rfl) ?_
      refine lv_imul F.1 F.2.1 d_Md_seeker_43 ?_
      refine lv_iconst (v := 1) F.1 F.2.1 d_Md_seeker_44 (by decide) ?_
      refine lv_iadd F.1 F.2.1 d_Md_seeker_45 ?_
      obtain ⟨hc15, hj14⟩ := chk_some hj14
      refine g_ald F hP 43 (by decide) (by decide) Nat.zero_lt_one rfl rfl hc15 d_Md_seeker_46 ?_
      refine lv_iconst (v := (-1)) F.1 F.2.1 d_Md_seeker_47 (by decide) ?_
      refine lv_icmp_ne F.1 F.2.1 d_Md_seeker_48 rfl (fun hb19 => ?_) (fun hb19 => ?_)
      · rw [if_neg hb19] at hj14
        refine lv_iconst (v := 0) F.1 F.2.1 d_Md_seeker_72 (by decide) ?_
        cases hj14
        exact KJ13 _ _ _ (lv_sub hl [1, 2, 3, 4] rfl) hP
      · rw [if_pos hb19] at hj14
        refine lv_iload F.1 F.2.1 d_Md_seeker_51 (lv_at hl 0 rfl) ?_
        refine lv_if_eq F.1 F.2.1 d_Md_seeker_53 rfl (fun hb18 => ?_) (fun hb18 => ?_)
        · rw [if_pos hb18] at hj14
          refine lv_iconst (v := 1) F.1 F.2.1 d_Md_seeker_68 (by decide) ?_
          refine lv_goto F.1 F.2.1 d_Md_seeker_69 rfl ?_
          cases hj14
          exact KJ13 _ _ _ (lv_sub hl [1, 2, 3, 4] rfl) hP
        · rw [if_neg hb18] at hj14
          refine lv_iload F.1 F.2.1 d_Md_seeker_56 (lv_at hl 0 rfl) ?_
          refine lv_iconst (v := 4) F.1 F.2.1 d_Md_seeker_58 (by decide) ?_
          refine lv_icmp_eq F.1 F.2.1 d_Md_seeker_59 rfl (fun hb17 => ?_) (fun hb17 => ?_)
          · rw [if_pos hb17] at hj14
            refine lv_iconst (v := 1) F.1 F.2.1 d_Md_seeker_68 (by decide) ?_
            refine lv_goto F.1 F.2.1 d_Md_seeker_69 rfl ?_
            cases hj14
            exact KJ13 _ _ _ (lv_sub hl [1, 2, 3, 4] rfl) hP
          · rw [if_neg hb17] at hj14
            refine lv_iload F.1 F.2.1 d_Md_seeker_62 (lv_at hl 0 rfl) ?_
            refine lv_iconst (v := 5) F.1 F.2.1 d_Md_seeker_64 (by decide) ?_
            refine lv_icmp_ne F.1 F.2.1 d_Md_seeker_65 rfl (fun hb16 => ?_) (fun hb16 => ?_)
            · rw [if_neg hb16] at hj14
              refine lv_iconst (v := 0) F.1 F.2.1 d_Md_seeker_72 (by decide) ?_
              cases hj14
              exact KJ13 _ _ _ (lv_sub hl [1, 2, 3, 4] rfl) hP
            · rw [if_pos hb16] at hj14
              refine lv_iconst (v := 1) F.1 F.2.1 d_Md_seeker_68 (by decide) ?_
              refine lv_goto F.1 F.2.1 d_Md_seeker_69 rfl ?_
              cases hj14
              exact KJ13 _ _ _ (lv_sub hl [1, 2, 3, 4] rfl) hP

theorem d_Md_length_0 : decode b_Md_length 0 = .ok (.aload_n 0, 1) := by decide +kernel
theorem d_Md_length_1 : decode b_Md_length 1 = .ok (.iload_n 1, 1) := by decide +kernel
theorem d_Md_length_2 : decode b_Md_length 2 = .ok (.invokevirtual 193, 3) := by decide +kernel
theorem d_Md_length_5 : decode b_Md_length 5 = .ok (.ifCond .ge 7, 3) := by decide +kernel
theorem d_Md_length_8 : decode b_Md_length 8 = .ok (.iconst 1, 1) := by decide +kernel
theorem d_Md_length_9 : decode b_Md_length 9 = .ok (.goto 4, 3) := by decide +kernel
theorem d_Md_length_12 : decode b_Md_length 12 = .ok (.iconst 2, 1) := by decide +kernel
theorem d_Md_length_13 : decode b_Md_length 13 = .ok (.istore_n 2, 1) := by decide +kernel
theorem d_Md_length_14 : decode b_Md_length 14 = .ok (.iconst 0, 1) := by decide +kernel
theorem d_Md_length_15 : decode b_Md_length 15 = .ok (.istore_n 3, 1) := by decide +kernel
theorem d_Md_length_16 : decode b_Md_length 16 = .ok (.iload_n 3, 1) := by decide +kernel
theorem d_Md_length_17 : decode b_Md_length 17 = .ok (.aload_n 0, 1) := by decide +kernel
theorem d_Md_length_18 : decode b_Md_length 18 = .ok (.getfield 174, 3) := by decide +kernel
theorem d_Md_length_21 : decode b_Md_length 21 = .ok (.if_icmp .ge 48, 3) := by decide +kernel
theorem d_Md_length_24 : decode b_Md_length 24 = .ok (.iload_n 2, 1) := by decide +kernel
theorem d_Md_length_25 : decode b_Md_length 25 = .ok (.aload_n 0, 1) := by decide +kernel
theorem d_Md_length_26 : decode b_Md_length 26 = .ok (.getfield 70, 3) := by decide +kernel
theorem d_Md_length_29 : decode b_Md_length 29 = .ok (.iconst 4, 1) := by decide +kernel
theorem d_Md_length_30 : decode b_Md_length 30 = .ok (.iload_n 3, 1) := by decide +kernel
theorem d_Md_length_31 : decode b_Md_length 31 = .ok (.imul, 1) := by decide +kernel
theorem d_Md_length_32 : decode b_Md_length 32 = .ok (.iaload, 1) := by decide +kernel
theorem d_Md_length_33 : decode b_Md_length 33 = .ok (.iload_n 1, 1) := by decide +kernel
theorem d_Md_length_34 : decode b_Md_length 34 = .ok (.if_icmp .eq 7, 3) := by decide +kernel
theorem d_Md_length_37 : decode b_Md_length 37 = .ok (.iconst 0, 1) := by decide +kernel
theorem d_Md_length_38 : decode b_Md_length 38 = .ok (.goto 23, 3) := by decide +kernel
theorem d_Md_length_41 : decode b_Md_length 41 = .ok (.aload_n 0, 1) := by decide +kernel
theorem d_Md_length_42 : decode b_Md_length 42 = .ok (.getfield 70, 3) := by decide +kernel
theorem d_Md_length_45 : decode b_Md_length 45 = .ok (.iconst 4, 1) := by decide +kernel
theorem d_Md_length_46 : decode b_Md_length 46 = .ok (.iload_n 3, 1) := by decide +kernel
theorem d_Md_length_47 : decode b_Md_length 47 = .ok (.imul, 1) := by decide +kernel
theorem d_Md_length_48 : decode b_Md_length 48 = .ok (.iconst 2, 1) := by decide +kernel
theorem d_Md_length_49 : decode b_Md_length 49 = .ok (.iadd, 1) := by decide +kernel
theorem d_Md_length_50 : decode b_Md_length 50 = .ok (.iaload, 1) := by decide +kernel
theorem d_Md_length_51 : decode b_Md_length 51 = .ok (.bipush 6, 2) := by decide +kernel
theorem d_Md_length_53 : decode b_Md_length 53 = .ok (.if_icmp .ge 7, 3) := by decide +kernel
theorem d_Md_length_56 : decode b_Md_length 56 = .ok (.iconst 4, 1) := by decide +kernel
theorem d_Md_length_57 : decode b_Md_length 57 = .ok (.goto 4, 3) := by decide +kernel
theorem d_Md_length_60 : decode b_Md_length 60 = .ok (.iconst 3, 1) := by decide +kernel
theorem d_Md_length_61 : decode b_Md_length 61 = .ok (.iadd, 1) := by decide +kernel
theorem d_Md_length_62 : decode b_Md_length 62 = .ok (.istore_n 2, 1) := by decide +kernel
theorem d_Md_length_63 : decode b_Md_length 63 = .ok (.iinc 3 1, 3) := by decide +kernel
theorem d_Md_length_66 : decode b_Md_length 66 = .ok (.goto (-50), 3) := by decide +kernel
theorem d_Md_length_69 : decode b_Md_length 69 = .ok (.iload_n 2, 1) := by decide +kernel
theorem d_Md_length_70 : decode b_Md_length 70 = .ok (.ireturn, 1) := by decide +kernel
noncomputable def b_Md_length_16 (a1 : Int32) (x8 : Int32) (x9 : Int32) (σ10 : Sg) : Option ((Int32 × Int32 × Sg) ⊕ (Int32 × Sg)) :=
  (if (gi σ10 9 0 27) ≤ x9 then (some (.inr (x8, σ10))) else (chk (vp_in (4 * x9) 16) (Option.bind (if (gi σ10 43 0 ((4 * x9).toNatClampNeg)) = a1 then (chk (vp_in ((4 * x9) + 2) 16) ((if 6 ≤ (gi σ10 43 0 (((4 * x9) + 2).toNatClampNeg)) then (some (3)) else (some (4))))) else (some (0))) (fun (x15 : Int32) => lt_ (x8 + x15 : Int32) (fun (x21 : Int32) => lt_ (x9 + 1 : Int32) (fun (x22 : Int32) => some (.inl (x21, x22, σ10))))))))
noncomputable def l_Md_length_16 (a1 : Int32) (x8 : Int32) (x9 : Int32) (σ10 : Sg) : Option (Int32 × Sg) := lp (fun q => b_Md_length_16 a1 q.1 q.2.1 q.2.2) FU (x8, x9, σ10)
noncomputable def f_Md_length (a1 : Int32) (σ : Sg) : Option (Int32 × Sg) :=
  bn2 (f_Md_seeker a1 σ) (fun r3 σ1 => lt_ ((if 0 ≤ r3 then 2 else 1) : Int32) (fun (x4 : Int32) => bn2 (l_Md_length_16 a1 x4 0 σ1) (fun x24 σ25 => some (x24, σ25))))
abbrev rm_Md_length : Room := { frames := 1, cells := 0, slots := 0, locals := 25 }
set_option maxHeartbeats 4000000 in
set_option maxRecDepth 100000 in
theorem c_Md_length (l : Launch) (X : GX) (n : Nat) {σ σ' : Sg} {r : Int32} {a1 : Int32}  (hf : f_Md_length a1 σ = some (r, σ')) : Met l y_Md_length (cw y_Md_length b_Md_length 4 (some .int)) rm_Md_length (PcG X n σ [.ref (xL X 9 0), .int a1]) (QcG X n σ' (some (.int r))) 0 0 (fr X n) := by
  refine g_head (own := "TableMachineModel") (by decide) rfl (Nat.le_of_ble_eq_true rfl) ?_
  intro p e s m args below meth c ls F hr hlk hP hl
  have hl : lv_has ls 4 [(0, .ref (xL X 9 0)), (1, .int a1)] := hl
  show WG l X n rm_Md_length σ' (some (.int r)) p e s m args below meth c s.heap [] (F0 m 0 ls [])
  unfold f_Md_length at hf
  refine lv_aload_n F.1 F.2.1 d_Md_length_0 rfl (lv_at hl 0 rfl) ?_
  refine lv_iload_n F.1 F.2.1 d_Md_length_1 rfl (lv_at hl 1 rfl) ?_
  obtain ⟨r3, σ1, hk2, hf⟩ := bn2_some hf
  refine g_callV (As := [.int a1]) (rest := []) F hP 9 0 (by decide) Nat.zero_lt_one (c_Md_seeker l X n  hk2) rfl q_Md_seeker w_1146 w_11 w_1143 w_1145 wp_54 ⟨rfl, rfl⟩ ⟨by decide, by decide⟩ hl.1 (Nat.le_of_ble_eq_true rfl) ⟨Nat.zero_le _, Nat.zero_le _⟩ d_Md_length_2 rfl (fun H locs hP => ?_)
  refine W.eq (g2 := F0 m 5 ls [.int r3]) rfl ?_
  obtain ⟨x4, hj6, hf⟩ := lt_some2 hf
  have KJ5 : ∀ (ls : Array Slot) (H : Heap) (locs : List Loc), lv_has ls 4 [(0, .ref (xL X 9 0)), (1, .int a1)] → St X n σ1 s.heap H locs → WG l X n rm_Md_length σ' (some (.int r)) p e s m args below meth c H locs (F0 m 13 ls [.int x4]) := by
    intro ls H locs hl hP
    refine lv_istore_n F.1 F.2.1 d_Md_length_13 rfl hl (by decide) rfl (fun ls hl => ?_)
    have hl : lv_has ls 4 [(2, .int x4), (0, .ref (xL X 9 0)), (1, .int a1)] := hl
    refine lv_iconst (v := 0) F.1 F.2.1 d_Md_length_14 (by decide) ?_
    refine lv_istore_n F.1 F.2.1 d_Md_length_15 rfl hl (by decide) rfl (fun ls hl => ?_)
    have hl : lv_has ls 4 [(3, .int 0), (2, .int x4), (0, .ref (xL X 9 0)), (1, .int a1)] := hl
    obtain ⟨x24, σ25, hlp26, hf⟩ := bn2_some hf
    have KX27 : ∀ (ls : Array Slot) (H : Heap) (locs : List Loc), lv_has ls 4 [(2, .int x24)] → St X n σ25 s.heap H locs → WG l X n rm_Md_length σ' (some (.int r)) p e s m args below meth c H locs (F0 m 69 ls []) := by
      intro ls H locs hl hP
      refine lv_iload_n F.1 F.2.1 d_Md_length_69 rfl (lv_at hl 0 rfl) ?_
      cases hf
      exact g_iret F hP hr hlk d_Md_length_70
    unfold l_Md_length_16 at hlp26
    refine lp_W (PW := fun q => ∀ (ls : Array Slot) (H : Heap) (locs : List Loc), lv_has ls 4 [(0, .ref (xL X 9 0)), (1, .int a1), (2, .int q.1), (3, .int q.2.1)] → St X n q.2.2 s.heap H locs → WG l X n rm_Md_length σ' (some (.int r)) p e s m args below meth c H locs (F0 m 16 ls [])) (PE := fun q => ∀ (ls : Array Slot) (H : Heap) (locs : List Loc), lv_has ls 4 [(2, .int q.1)] → St X n q.2 s.heap H locs → WG l X n rm_Md_length σ' (some (.int r)) p e s m args below meth c H locs (F0 m 69 ls [])) ?_ _ _ _ hlp26 KX27 _ _ _ (lv_sub hl [2, 3, 1, 0] rfl) hP
    rintro ⟨x8, x9, σ10⟩ rr11 hb_16 hI12 hE13 ls H locs hl hP
    replace hb_16 : b_Md_length_16 a1 x8 x9 σ10 = some rr11 := hb_16
    unfold b_Md_length_16 at hb_16
    refine lv_iload_n F.1 F.2.1 d_Md_length_16 rfl (lv_at hl 3 rfl) ?_
    refine lv_aload_n F.1 F.2.1 d_Md_length_17 rfl (lv_at hl 0 rfl) ?_
    refine g_get F hP 9 27 0 (by decide) Nat.zero_lt_one (by decide) (v := .int (gi σ10 9 0 27)) rfl w_900 d_Md_length_18 ?_
    refine lv_icmp_ge F.1 F.2.1 d_Md_length_21 rfl (fun hb23 => ?_) (fun hb23 => ?_)
    · rw [if_pos hb23] at hb_16
      cases hb_16
      exact hE13 _ rfl _ _ _ (lv_sub hl [2] rfl) hP
    · rw [if_neg hb23] at hb_16
      refine lv_iload_n F.1 F.2.1 d_Md_length_24 rfl (lv_at hl 2 rfl) ?_
      refine lv_aload_n F.1 F.2.1 d_Md_length_25 rfl (lv_at hl 0 rfl) ?_
      refine g_get F hP 9 28 0 (by decide) Nat.zero_lt_one (by decide) (v := .ref (xL X 43 0)) rfl w_901 d_Md_length_26 ?_
      refine lv_iconst (v := 4) F.1 F.2.1 d_Md_length_29 (by decide) ?_
      refine lv_iload_n F.1 F.2.1 d_Md_length_30 rfl (lv_at hl 3 rfl) ?_
      refine lv_imul F.1 F.2.1 d_Md_length_31 ?_
      obtain ⟨hc14, hb_16⟩ := chk_some hb_16
      refine g_ald F hP 43 (by decide) (by decide) Nat.zero_lt_one rfl rfl hc14 d_Md_length_32 ?_
      refine lv_iload_n F.1 F.2.1 d_Md_length_33 rfl (lv_at hl 1 rfl) ?_
      obtain ⟨x15, hj17, hb_16⟩ := bnd_some hb_16
      have KJ16 : ∀ (ls : Array Slot) (H : Heap) (locs : List Loc), lv_has ls 4 [(0, .ref (xL X 9 0)), (1, .int a1), (3, .int x9)] → St X n σ10 s.heap H locs → WG l X n rm_Md_length σ' (some (.int r)) p e s m args below meth c H locs (F0 m 61 ls [.int x15, .int x8]) := by
        intro ls H locs hl hP
        refine lv_iadd F.1 F.2.1 d_Md_length_61 ?_
        obtain ⟨x21, e_x21, hb_16⟩ := lt_some hb_16
        rw [← e_x21]
        refine lv_istore_n F.1 F.2.1 d_Md_length_62 rfl hl (by decide) rfl (fun ls hl => ?_)
        have hl : lv_has ls 4 [(2, .int x21), (0, .ref (xL X 9 0)), (1, .int a1), (3, .int x9)] := hl
        obtain ⟨x22, e_x22, hb_16⟩ := lt_some hb_16
        refine lv_iinc (k := 3) (v := x22) F.1 F.2.1 d_Md_length_63 hl rfl (by rw [e_x22]; rfl) (by decide) rfl (fun ls hl => ?_)
        have hl : lv_has ls 4 [(3, .int x22), (2, .int x21), (0, .ref (xL X 9 0)), (1, .int a1)] := hl
        refine lv_goto F.1 F.2.1 d_Md_length_66 rfl ?_
        cases hb_16
        exact hI12 _ rfl _ _ _ (lv_sub hl [2, 3, 1, 0] rfl) hP
      refine lv_icmp_eq F.1 F.2.1 d_Md_length_34 rfl (fun hb20 => ?_) (fun hb20 => ?_)
      · rw [if_pos hb20] at hj17
        refine lv_aload_n F.1 F.2.1 d_Md_length_41 rfl (lv_at hl 0 rfl) ?_
        refine g_get F hP 9 28 0 (by decide) Nat.zero_lt_one (by decide) (v := .ref (xL X 43 0)) rfl w_901 d_Md_length_42 ?_
        refine lv_iconst (v := 4) F.1 F.2.1 d_Md_length_45 (by decide) ?_
        refine lv_iload_n F.1 F.2.1 d_Md_length_46 rfl (lv_at hl 3 rfl) ?_
        refine lv_imul F.1 F.2.1 d_Md_length_47 ?_
        refine lv_iconst (v := 2) F.1 F.2.1 d_Md_length_48 (by decide) ?_
        refine lv_iadd F.1 F.2.1 d_Md_length_49 ?_
        obtain ⟨hc18, hj17⟩ := chk_some hj17
        refine g_ald F hP 43 (by decide) (by decide) Nat.zero_lt_one rfl rfl hc18 d_Md_length_50 ?_
        refine lv_bipush (v := 6) F.1 F.2.1 d_Md_length_51 (by decide) ?_
        refine lv_icmp_ge F.1 F.2.1 d_Md_length_53 rfl (fun hb19 => ?_) (fun hb19 => ?_)
        · rw [if_pos hb19] at hj17
          refine lv_iconst (v := 3) F.1 F.2.1 d_Md_length_60 (by decide) ?_
          cases hj17
          exact KJ16 _ _ _ (lv_sub hl [0, 1, 3] rfl) hP
        · rw [if_neg hb19] at hj17
          refine lv_iconst (v := 4) F.1 F.2.1 d_Md_length_56 (by decide) ?_
          refine lv_goto F.1 F.2.1 d_Md_length_57 rfl ?_
          cases hj17
          exact KJ16 _ _ _ (lv_sub hl [0, 1, 3] rfl) hP
      · rw [if_neg hb20] at hj17
        refine lv_iconst (v := 0) F.1 F.2.1 d_Md_length_37 (by decide) ?_
        refine lv_goto F.1 F.2.1 d_Md_length_38 rfl ?_
        cases hj17
        exact KJ16 _ _ _ (lv_sub hl [0, 1, 3] rfl) hP
  refine lv_if_ge F.1 F.2.1 d_Md_length_5 rfl (fun hb7 => ?_) (fun hb7 => ?_)
  · rw [if_pos hb7] at hj6
    refine lv_iconst (v := 2) F.1 F.2.1 d_Md_length_12 (by decide) ?_
    subst hj6
    exact KJ5 _ _ _ (lv_sub hl [0, 1] rfl) hP
  · rw [if_neg hb7] at hj6
    refine lv_iconst (v := 1) F.1 F.2.1 d_Md_length_8 (by decide) ?_
    refine lv_goto F.1 F.2.1 d_Md_length_9 rfl ?_
    subst hj6
    exact KJ5 _ _ _ (lv_sub hl [0, 1] rfl) hP

theorem d_Md_loop_0 : decode b_Md_loop 0 = .ok (.aload_n 0, 1) := by decide +kernel
theorem d_Md_loop_1 : decode b_Md_loop 1 = .ok (.iload_n 1, 1) := by decide +kernel
theorem d_Md_loop_2 : decode b_Md_loop 2 = .ok (.invokevirtual 193, 3) := by decide +kernel
theorem d_Md_loop_5 : decode b_Md_loop 5 = .ok (.istore 4, 2) := by decide +kernel
theorem d_Md_loop_7 : decode b_Md_loop 7 = .ok (.iload 4, 2) := by decide +kernel
theorem d_Md_loop_9 : decode b_Md_loop 9 = .ok (.ifCond .ge 14, 3) := by decide +kernel
theorem d_Md_loop_12 : decode b_Md_loop 12 = .ok (.aload_n 0, 1) := by decide +kernel
theorem d_Md_loop_13 : decode b_Md_loop 13 = .ok (.iconst 2, 1) := by decide +kernel
theorem d_Md_loop_14 : decode b_Md_loop 14 = .ok (.iload_n 1, 1) := by decide +kernel
theorem d_Md_loop_15 : decode b_Md_loop 15 = .ok (.iload_n 2, 1) := by decide +kernel
theorem d_Md_loop_16 : decode b_Md_loop 16 = .ok (.iconst 0, 1) := by decide +kernel
theorem d_Md_loop_17 : decode b_Md_loop 17 = .ok (.invokevirtual 121, 3) := by decide +kernel
theorem d_Md_loop_20 : decode b_Md_loop 20 = .ok (.goto 31, 3) := by decide +kernel
theorem d_Md_loop_23 : decode b_Md_loop 23 = .ok (.aload_n 0, 1) := by decide +kernel
theorem d_Md_loop_24 : decode b_Md_loop 24 = .ok (.bipush 6, 2) := by decide +kernel
theorem d_Md_loop_26 : decode b_Md_loop 26 = .ok (.aload_n 0, 1) := by decide +kernel
theorem d_Md_loop_27 : decode b_Md_loop 27 = .ok (.getfield 70, 3) := by decide +kernel
theorem d_Md_loop_30 : decode b_Md_loop 30 = .ok (.iconst 4, 1) := by decide +kernel
theorem d_Md_loop_31 : decode b_Md_loop 31 = .ok (.iload 4, 2) := by decide +kernel
theorem d_Md_loop_33 : decode b_Md_loop 33 = .ok (.imul, 1) := by decide +kernel
theorem d_Md_loop_34 : decode b_Md_loop 34 = .ok (.iconst 3, 1) := by decide +kernel
theorem d_Md_loop_35 : decode b_Md_loop 35 = .ok (.iadd, 1) := by decide +kernel
theorem d_Md_loop_36 : decode b_Md_loop 36 = .ok (.iaload, 1) := by decide +kernel
theorem d_Md_loop_37 : decode b_Md_loop 37 = .ok (.iconst 0, 1) := by decide +kernel
theorem d_Md_loop_38 : decode b_Md_loop 38 = .ok (.iconst 0, 1) := by decide +kernel
theorem d_Md_loop_39 : decode b_Md_loop 39 = .ok (.invokevirtual 121, 3) := by decide +kernel
theorem d_Md_loop_42 : decode b_Md_loop 42 = .ok (.aload_n 0, 1) := by decide +kernel
theorem d_Md_loop_43 : decode b_Md_loop 43 = .ok (.bipush 8, 2) := by decide +kernel
theorem d_Md_loop_45 : decode b_Md_loop 45 = .ok (.iload_n 1, 1) := by decide +kernel
theorem d_Md_loop_46 : decode b_Md_loop 46 = .ok (.iload_n 2, 1) := by decide +kernel
theorem d_Md_loop_47 : decode b_Md_loop 47 = .ok (.iconst 0, 1) := by decide +kernel
theorem d_Md_loop_48 : decode b_Md_loop 48 = .ok (.invokevirtual 121, 3) := by decide +kernel
theorem d_Md_loop_51 : decode b_Md_loop 51 = .ok (.aload_n 0, 1) := by decide +kernel
theorem d_Md_loop_52 : decode b_Md_loop 52 = .ok (.getfield 110, 3) := by decide +kernel
theorem d_Md_loop_55 : decode b_Md_loop 55 = .ok (.istore 5, 2) := by decide +kernel
theorem d_Md_loop_57 : decode b_Md_loop 57 = .ok (.iconst 0, 1) := by decide +kernel
theorem d_Md_loop_58 : decode b_Md_loop 58 = .ok (.istore 6, 2) := by decide +kernel
theorem d_Md_loop_60 : decode b_Md_loop 60 = .ok (.iload 6, 2) := by decide +kernel
theorem d_Md_loop_62 : decode b_Md_loop 62 = .ok (.aload_n 0, 1) := by decide +kernel
theorem d_Md_loop_63 : decode b_Md_loop 63 = .ok (.getfield 174, 3) := by decide +kernel
theorem d_Md_loop_66 : decode b_Md_loop 66 = .ok (.if_icmp .ge 104, 3) := by decide +kernel
theorem d_Md_loop_69 : decode b_Md_loop 69 = .ok (.aload_n 0, 1) := by decide +kernel
theorem d_Md_loop_70 : decode b_Md_loop 70 = .ok (.getfield 70, 3) := by decide +kernel
theorem d_Md_loop_73 : decode b_Md_loop 73 = .ok (.iconst 4, 1) := by decide +kernel
theorem d_Md_loop_74 : decode b_Md_loop 74 = .ok (.iload 6, 2) := by decide +kernel
theorem d_Md_loop_76 : decode b_Md_loop 76 = .ok (.imul, 1) := by decide +kernel
theorem d_Md_loop_77 : decode b_Md_loop 77 = .ok (.iaload, 1) := by decide +kernel
theorem d_Md_loop_78 : decode b_Md_loop 78 = .ok (.iload_n 1, 1) := by decide +kernel
theorem d_Md_loop_79 : decode b_Md_loop 79 = .ok (.if_icmp .ne 85, 3) := by decide +kernel
theorem d_Md_loop_82 : decode b_Md_loop 82 = .ok (.aload_n 0, 1) := by decide +kernel
theorem d_Md_loop_83 : decode b_Md_loop 83 = .ok (.getfield 70, 3) := by decide +kernel
theorem d_Md_loop_86 : decode b_Md_loop 86 = .ok (.iconst 4, 1) := by decide +kernel
theorem d_Md_loop_87 : decode b_Md_loop 87 = .ok (.iload 6, 2) := by decide +kernel
theorem d_Md_loop_89 : decode b_Md_loop 89 = .ok (.imul, 1) := by decide +kernel
theorem d_Md_loop_90 : decode b_Md_loop 90 = .ok (.iconst 2, 1) := by decide +kernel
theorem d_Md_loop_91 : decode b_Md_loop 91 = .ok (.iadd, 1) := by decide +kernel
theorem d_Md_loop_92 : decode b_Md_loop 92 = .ok (.iaload, 1) := by decide +kernel
theorem d_Md_loop_93 : decode b_Md_loop 93 = .ok (.istore 7, 2) := by decide +kernel
theorem d_Md_loop_95 : decode b_Md_loop 95 = .ok (.aload_n 0, 1) := by decide +kernel
theorem d_Md_loop_96 : decode b_Md_loop 96 = .ok (.iload_n 1, 1) := by decide +kernel
theorem d_Md_loop_97 : decode b_Md_loop 97 = .ok (.aload_n 0, 1) := by decide +kernel
theorem d_Md_loop_98 : decode b_Md_loop 98 = .ok (.getfield 70, 3) := by decide +kernel
theorem d_Md_loop_101 : decode b_Md_loop 101 = .ok (.iconst 4, 1) := by decide +kernel
theorem d_Md_loop_102 : decode b_Md_loop 102 = .ok (.iload 6, 2) := by decide +kernel
theorem d_Md_loop_104 : decode b_Md_loop 104 = .ok (.imul, 1) := by decide +kernel
theorem d_Md_loop_105 : decode b_Md_loop 105 = .ok (.iconst 1, 1) := by decide +kernel
theorem d_Md_loop_106 : decode b_Md_loop 106 = .ok (.iadd, 1) := by decide +kernel
theorem d_Md_loop_107 : decode b_Md_loop 107 = .ok (.iaload, 1) := by decide +kernel
theorem d_Md_loop_108 : decode b_Md_loop 108 = .ok (.iconst 0, 1) := by decide +kernel
theorem d_Md_loop_109 : decode b_Md_loop 109 = .ok (.invokevirtual 196, 3) := by decide +kernel
theorem d_Md_loop_112 : decode b_Md_loop 112 = .ok (.iload 7, 2) := by decide +kernel
theorem d_Md_loop_114 : decode b_Md_loop 114 = .ok (.bipush 6, 2) := by decide +kernel
theorem d_Md_loop_116 : decode b_Md_loop 116 = .ok (.if_icmp .ge 22, 3) := by decide +kernel
theorem d_Md_loop_119 : decode b_Md_loop 119 = .ok (.aload_n 0, 1) := by decide +kernel
theorem d_Md_loop_120 : decode b_Md_loop 120 = .ok (.bipush 6, 2) := by decide +kernel
theorem d_Md_loop_122 : decode b_Md_loop 122 = .ok (.aload_n 0, 1) := by decide +kernel
theorem d_Md_loop_123 : decode b_Md_loop 123 = .ok (.getfield 70, 3) := by decide +kernel
theorem d_Md_loop_126 : decode b_Md_loop 126 = .ok (.iconst 4, 1) := by decide +kernel
theorem d_Md_loop_127 : decode b_Md_loop 127 = .ok (.iload 6, 2) := by decide +kernel
theorem d_Md_loop_129 : decode b_Md_loop 129 = .ok (.imul, 1) := by decide +kernel
theorem d_Md_loop_130 : decode b_Md_loop 130 = .ok (.iconst 3, 1) := by decide +kernel
theorem d_Md_loop_131 : decode b_Md_loop 131 = .ok (.iadd, 1) := by decide +kernel
theorem d_Md_loop_132 : decode b_Md_loop 132 = .ok (.iaload, 1) := by decide +kernel
theorem d_Md_loop_133 : decode b_Md_loop 133 = .ok (.iconst 1, 1) := by decide +kernel
theorem d_Md_loop_134 : decode b_Md_loop 134 = .ok (.iconst 0, 1) := by decide +kernel
theorem d_Md_loop_135 : decode b_Md_loop 135 = .ok (.invokevirtual 121, 3) := by decide +kernel
theorem d_Md_loop_138 : decode b_Md_loop 138 = .ok (.aload_n 0, 1) := by decide +kernel
theorem d_Md_loop_139 : decode b_Md_loop 139 = .ok (.bipush 9, 2) := by decide +kernel
theorem d_Md_loop_141 : decode b_Md_loop 141 = .ok (.iload 7, 2) := by decide +kernel
theorem d_Md_loop_143 : decode b_Md_loop 143 = .ok (.iadd, 1) := by decide +kernel
theorem d_Md_loop_144 : decode b_Md_loop 144 = .ok (.iconst 0, 1) := by decide +kernel
theorem d_Md_loop_145 : decode b_Md_loop 145 = .ok (.aload_n 0, 1) := by decide +kernel
theorem d_Md_loop_146 : decode b_Md_loop 146 = .ok (.getfield 110, 3) := by decide +kernel
theorem d_Md_loop_149 : decode b_Md_loop 149 = .ok (.iconst 2, 1) := by decide +kernel
theorem d_Md_loop_150 : decode b_Md_loop 150 = .ok (.iadd, 1) := by decide +kernel
theorem d_Md_loop_151 : decode b_Md_loop 151 = .ok (.iconst 1, 1) := by decide +kernel
theorem d_Md_loop_152 : decode b_Md_loop 152 = .ok (.invokevirtual 121, 3) := by decide +kernel
theorem d_Md_loop_155 : decode b_Md_loop 155 = .ok (.aload_n 0, 1) := by decide +kernel
theorem d_Md_loop_156 : decode b_Md_loop 156 = .ok (.bipush 19, 2) := by decide +kernel
theorem d_Md_loop_158 : decode b_Md_loop 158 = .ok (.iload_n 3, 1) := by decide +kernel
theorem d_Md_loop_159 : decode b_Md_loop 159 = .ok (.iconst 0, 1) := by decide +kernel
theorem d_Md_loop_160 : decode b_Md_loop 160 = .ok (.iconst 0, 1) := by decide +kernel
theorem d_Md_loop_161 : decode b_Md_loop 161 = .ok (.invokevirtual 121, 3) := by decide +kernel
theorem d_Md_loop_164 : decode b_Md_loop 164 = .ok (.iinc 6 1, 3) := by decide +kernel
theorem d_Md_loop_167 : decode b_Md_loop 167 = .ok (.goto (-107), 3) := by decide +kernel
theorem d_Md_loop_170 : decode b_Md_loop 170 = .ok (.iload 5, 2) := by decide +kernel
theorem d_Md_loop_172 : decode b_Md_loop 172 = .ok (.ireturn, 1) := by decide +kernel
noncomputable def b_Md_loop_60 (a1 : Int32) (a3 : Int32) (x16 : Int32) (σ17 : Sg) : Option ((Int32 × Sg) ⊕ (Sg)) :=
  (if (gi σ17 9 0 27) ≤ x16 then (some (.inr σ17)) else (chk (vp_in (4 * x16) 16) (Option.bind (if (gi σ17 43 0 ((4 * x16).toNatClampNeg)) = a1 then (chk (vp_in ((4 * x16) + 2) 16) (lt_ (gi σ17 43 0 (((4 * x16) + 2).toNatClampNeg) : Int32) (fun (x26 : Int32) => chk (vp_in ((4 * x16) + 1) 16) ((f_Md_read a1 (gi σ17 43 0 (((4 * x16) + 1).toNatClampNeg)) 0 σ17).bind (fun σ28 => Option.bind (if 6 ≤ x26 then (some (σ28)) else (chk (vp_in ((4 * x16) + 3) 16) ((f_Md_put 6 (gi σ28 43 0 (((4 * x16) + 3).toNatClampNeg)) 1 0 σ28).bind (fun σ34 => some (σ34))))) (fun (σ30 : Sg) => (f_Md_put (9 + x26) 0 ((gi σ30 9 0 10) + 2) 1 σ30).bind (fun σ37 => (f_Md_put 19 a3 0 0 σ37).bind (fun σ39 => some (σ39))))))))) else (some (σ17))) (fun (σ22 : Sg) => lt_ (x16 + 1 : Int32) (fun (x42 : Int32) => some (.inl (x42, σ22)))))))
noncomputable def l_Md_loop_60 (a1 : Int32) (a3 : Int32) (x16 : Int32) (σ17 : Sg) : Option (Sg) := lp (fun q => b_Md_loop_60 a1 a3 q.1 q.2) FU (x16, σ17)
noncomputable def f_Md_loop (a1 : Int32) (a2 : Int32) (a3 : Int32) (σ : Sg) : Option (Int32 × Sg) :=
  bn2 (f_Md_seeker a1 σ) (fun r3 σ1 => Option.bind (if 0 ≤ r3 then (chk (vp_in ((4 * r3) + 3) 16) ((f_Md_put 6 (gi σ1 43 0 (((4 * r3) + 3).toNatClampNeg)) 0 0 σ1).bind (fun σ8 => (f_Md_put 8 a1 a2 0 σ8).bind (fun σ10 => some (σ10))))) else ((f_Md_put 2 a1 a2 0 σ1).bind (fun σ12 => some (σ12)))) (fun (σ4 : Sg) => lt_ (gi σ4 9 0 10 : Int32) (fun (x15 : Int32) => (l_Md_loop_60 a1 a3 0 σ4).bind (fun σ44 => some (x15, σ44)))))
abbrev rm_Md_loop : Room := { frames := 3, cells := 0, slots := 0, locals := 68 }
set_option maxHeartbeats 4000000 in
set_option maxRecDepth 100000 in
theorem c_Md_loop (l : Launch) (X : GX) (n : Nat) {σ σ' : Sg} {r : Int32} {a1 : Int32} {a2 : Int32} {a3 : Int32}  (hf : f_Md_loop a1 a2 a3 σ = some (r, σ')) : Met l y_Md_loop (cw y_Md_loop b_Md_loop 8 (some .int)) rm_Md_loop (PcG X n σ [.ref (xL X 9 0), .int a1, .int a2, .int a3]) (QcG X n σ' (some (.int r))) 0 0 (fr X n) := by
  refine g_head (own := "TableMachineModel") (by decide) rfl (Nat.le_of_ble_eq_true rfl) ?_
  intro p e s m args below meth c ls F hr hlk hP hl
  have hl : lv_has ls 8 [(0, .ref (xL X 9 0)), (1, .int a1), (2, .int a2), (3, .int a3)] := hl
  show WG l X n rm_Md_loop σ' (some (.int r)) p e s m args below meth c s.heap [] (F0 m 0 ls [])
  unfold f_Md_loop at hf
  refine lv_aload_n F.1 F.2.1 d_Md_loop_0 rfl (lv_at hl 0 rfl) ?_
  refine lv_iload_n F.1 F.2.1 d_Md_loop_1 rfl (lv_at hl 1 rfl) ?_
  obtain ⟨r3, σ1, hk2, hf⟩ := bn2_some hf
  refine g_callV (As := [.int a1]) (rest := []) F hP 9 0 (by decide) Nat.zero_lt_one (c_Md_seeker l X n  hk2) rfl q_Md_seeker w_1146 w_11 w_1143 w_1145 wp_54 ⟨rfl, rfl⟩ ⟨by decide, by decide⟩ hl.1 (Nat.le_of_ble_eq_true rfl) ⟨Nat.zero_le _, Nat.zero_le _⟩ d_Md_loop_2 rfl (fun H locs hP => ?_)
  refine W.eq (g2 := F0 m 5 ls [.int r3]) rfl ?_
  refine lv_istore F.1 F.2.1 d_Md_loop_5 hl (by decide) rfl (fun ls hl => ?_)
  have hl : lv_has ls 8 [(4, .int r3), (0, .ref (xL X 9 0)), (1, .int a1), (2, .int a2), (3, .int a3)] := hl
  refine lv_iload F.1 F.2.1 d_Md_loop_7 (lv_at hl 0 rfl) ?_
  obtain ⟨σ4, hj6, hf⟩ := bnd_some hf
  have KJ5 : ∀ (ls : Array Slot) (H : Heap) (locs : List Loc), lv_has ls 8 [(0, .ref (xL X 9 0)), (1, .int a1), (3, .int a3)] → St X n σ4 s.heap H locs → WG l X n rm_Md_loop σ' (some (.int r)) p e s m args below meth c H locs (F0 m 51 ls []) := by
    intro ls H locs hl hP
    refine lv_aload_n F.1 F.2.1 d_Md_loop_51 rfl (lv_at hl 0 rfl) ?_
    refine g_get F hP 9 10 0 (by decide) Nat.zero_lt_one (by decide) (v := .int (gi σ4 9 0 10)) rfl w_883 d_Md_loop_52 ?_
    obtain ⟨x15, e_x15, hf⟩ := lt_some hf
    rw [← e_x15]
    refine lv_istore F.1 F.2.1 d_Md_loop_55 hl (by decide) rfl (fun ls hl => ?_)
    have hl : lv_has ls 8 [(5, .int x15), (0, .ref (xL X 9 0)), (1, .int a1), (3, .int a3)] := hl
    refine lv_iconst (v := 0) F.1 F.2.1 d_Md_loop_57 (by decide) ?_
    refine lv_istore F.1 F.2.1 d_Md_loop_58 hl (by decide) rfl (fun ls hl => ?_)
    have hl : lv_has ls 8 [(6, .int 0), (5, .int x15), (0, .ref (xL X 9 0)), (1, .int a1), (3, .int a3)] := hl
    obtain ⟨σ44, hlp45, hf⟩ := bnd_some hf
    have KX46 : ∀ (ls : Array Slot) (H : Heap) (locs : List Loc), lv_has ls 8 [(5, .int x15)] → St X n σ44 s.heap H locs → WG l X n rm_Md_loop σ' (some (.int r)) p e s m args below meth c H locs (F0 m 170 ls []) := by
      intro ls H locs hl hP
      refine lv_iload F.1 F.2.1 d_Md_loop_170 (lv_at hl 0 rfl) ?_
      cases hf
      exact g_iret F hP hr hlk d_Md_loop_172
    unfold l_Md_loop_60 at hlp45
    refine lp_W (PW := fun q => ∀ (ls : Array Slot) (H : Heap) (locs : List Loc), lv_has ls 8 [(0, .ref (xL X 9 0)), (1, .int a1), (3, .int a3), (5, .int x15), (6, .int q.1)] → St X n q.2 s.heap H locs → WG l X n rm_Md_loop σ' (some (.int r)) p e s m args below meth c H locs (F0 m 60 ls [])) (PE := fun q => ∀ (ls : Array Slot) (H : Heap) (locs : List Loc), lv_has ls 8 [(5, .int x15)] → St X n q s.heap H locs → WG l X n rm_Md_loop σ' (some (.int r)) p e s m args below meth c H locs (F0 m 170 ls [])) ?_ _ _ _ hlp45 KX46 _ _ _ (lv_sub hl [2, 3, 4, 1, 0] rfl) hP
    rintro ⟨x16, σ17⟩ rr18 hb_60 hI19 hE20 ls H locs hl hP
    replace hb_60 : b_Md_loop_60 a1 a3 x16 σ17 = some rr18 := hb_60
    unfold b_Md_loop_60 at hb_60
    refine lv_iload F.1 F.2.1 d_Md_loop_60 (lv_at hl 4 rfl) ?_
    refine lv_aload_n F.1 F.2.1 d_Md_loop_62 rfl (lv_at hl 0 rfl) ?_
    refine g_get F hP 9 27 0 (by decide) Nat.zero_lt_one (by decide) (v := .int (gi σ17 9 0 27)) rfl w_900 d_Md_loop_63 ?_
    refine lv_icmp_ge F.1 F.2.1 d_Md_loop_66 rfl (fun hb43 => ?_) (fun hb43 => ?_)
    · rw [if_pos hb43] at hb_60
      cases hb_60
      exact hE20 _ rfl _ _ _ (lv_sub hl [3] rfl) hP
    · rw [if_neg hb43] at hb_60
      refine lv_aload_n F.1 F.2.1 d_Md_loop_69 rfl (lv_at hl 0 rfl) ?_
      refine g_get F hP 9 28 0 (by decide) Nat.zero_lt_one (by decide) (v := .ref (xL X 43 0)) rfl w_901 d_Md_loop_70 ?_
      refine lv_iconst (v := 4) F.1 F.2.1 d_Md_loop_73 (by decide) ?_
      refine lv_iload F.1 F.2.1 d_Md_loop_74 (lv_at hl 4 rfl) ?_
      refine lv_imul F.1 F.2.1 d_Md_loop_76 ?_
      obtain ⟨hc21, hb_60⟩ := chk_some hb_60
      refine g_ald F hP 43 (by decide) (by decide) Nat.zero_lt_one rfl rfl hc21 d_Md_loop_77 ?_
      refine lv_iload_n F.1 F.2.1 d_Md_loop_78 rfl (lv_at hl 1 rfl) ?_
      obtain ⟨σ22, hj24, hb_60⟩ := bnd_some hb_60
      have KJ23 : ∀ (ls : Array Slot) (H : Heap) (locs : List Loc), lv_has ls 8 [(0, .ref (xL X 9 0)), (1, .int a1), (3, .int a3), (5, .int x15), (6, .int x16)] → St X n σ22 s.heap H locs → WG l X n rm_Md_loop σ' (some (.int r)) p e s m args below meth c H locs (F0 m 164 ls []) := by
        intro ls H locs hl hP
        obtain ⟨x42, e_x42, hb_60⟩ := lt_some hb_60
        refine lv_iinc (k := 4) (v := x42) F.1 F.2.1 d_Md_loop_164 hl rfl (by rw [e_x42]; rfl) (by decide) rfl (fun ls hl => ?_)
        have hl : lv_has ls 8 [(6, .int x42), (0, .ref (xL X 9 0)), (1, .int a1), (3, .int a3), (5, .int x15)] := hl
        refine lv_goto F.1 F.2.1 d_Md_loop_167 rfl ?_
        cases hb_60
        exact hI19 _ rfl _ _ _ (lv_sub hl [1, 2, 3, 4, 0] rfl) hP
      refine lv_icmp_ne F.1 F.2.1 d_Md_loop_79 rfl (fun hb41 => ?_) (fun hb41 => ?_)
      · rw [if_neg hb41] at hj24
        cases hj24
        exact KJ23 _ _ _ (lv_sub hl [0, 1, 2, 3, 4] rfl) hP
      · rw [if_pos hb41] at hj24
        refine lv_aload_n F.1 F.2.1 d_Md_loop_82 rfl (lv_at hl 0 rfl) ?_
        refine g_get F hP 9 28 0 (by decide) Nat.zero_lt_one (by decide) (v := .ref (xL X 43 0)) rfl w_901 d_Md_loop_83 ?_
        refine lv_iconst (v := 4) F.1 F.2.1 d_Md_loop_86 (by decide) ?_
        refine lv_iload F.1 F.2.1 d_Md_loop_87 (lv_at hl 4 rfl) ?_
        refine lv_imul F.1 F.2.1 d_Md_loop_89 ?_
        refine lv_iconst (v := 2) F.1 F.2.1 d_Md_loop_90 (by decide) ?_
        refine lv_iadd F.1 F.2.1 d_Md_loop_91 ?_
        obtain ⟨hc25, hj24⟩ := chk_some hj24
        refine g_ald F hP 43 (by decide) (by decide) Nat.zero_lt_one rfl rfl hc25 d_Md_loop_92 ?_
        obtain ⟨x26, e_x26, hj24⟩ := lt_some hj24
        rw [← e_x26]
        refine lv_istore F.1 F.2.1 d_Md_loop_93 hl (by decide) rfl (fun ls hl => ?_)
        have hl : lv_has ls 8 [(7, .int x26), (0, .ref (xL X 9 0)), (1, .int a1), (3, .int a3), (5, .int x15), (6, .int x16)] := hl
        refine lv_aload_n F.1 F.2.1 d_Md_loop_95 rfl (lv_at hl 1 rfl) ?_
        refine lv_iload_n F.1 F.2.1 d_Md_loop_96 rfl (lv_at hl 2 rfl) ?_
        refine lv_aload_n F.1 F.2.1 d_Md_loop_97 rfl (lv_at hl 1 rfl) ?_
        refine g_get F hP 9 28 0 (by decide) Nat.zero_lt_one (by decide) (v := .ref (xL X 43 0)) rfl w_901 d_Md_loop_98 ?_
        refine lv_iconst (v := 4) F.1 F.2.1 d_Md_loop_101 (by decide) ?_
        refine lv_iload F.1 F.2.1 d_Md_loop_102 (lv_at hl 5 rfl) ?_
        refine lv_imul F.1 F.2.1 d_Md_loop_104 ?_
        refine lv_iconst (v := 1) F.1 F.2.1 d_Md_loop_105 (by decide) ?_
        refine lv_iadd F.1 F.2.1 d_Md_loop_106 ?_
        obtain ⟨hc27, hj24⟩ := chk_some hj24
        refine g_ald F hP 43 (by decide) (by decide) Nat.zero_lt_one rfl rfl hc27 d_Md_loop_107 ?_
        refine lv_iconst (v := 0) F.1 F.2.1 d_Md_loop_108 (by decide) ?_
        obtain ⟨σ28, hk29, hj24⟩ := bnd_some hj24
        refine g_callV (As := [.int a1, .int (gi σ17 43 0 (((4 * x16) + 1).toNatClampNeg)), .int 0]) (rest := []) F hP 9 0 (by decide) Nat.zero_lt_one (c_Md_read l X n  hk29) rfl q_Md_read w_1154 w_11 w_1151 w_1153 wp_56 ⟨rfl, rfl⟩ ⟨by decide, by decide⟩ hl.1 (Nat.le_of_ble_eq_true rfl) ⟨Nat.zero_le _, Nat.zero_le _⟩ d_Md_loop_109 rfl (fun H locs hP => ?_)
        refine W.eq (g2 := F0 m 112 ls []) rfl ?_
        refine lv_iload F.1 F.2.1 d_Md_loop_112 (lv_at hl 0 rfl) ?_
        refine lv_bipush (v := 6) F.1 F.2.1 d_Md_loop_114 (by decide) ?_
        obtain ⟨σ30, hj32, hj24⟩ := bnd_some hj24
        have KJ31 : ∀ (ls : Array Slot) (H : Heap) (locs : List Loc), lv_has ls 8 [(0, .ref (xL X 9 0)), (1, .int a1), (3, .int a3), (5, .int x15), (6, .int x16), (7, .int x26)] → St X n σ30 s.heap H locs → WG l X n rm_Md_loop σ' (some (.int r)) p e s m args below meth c H locs (F0 m 138 ls []) := by
          intro ls H locs hl hP
          refine lv_aload_n F.1 F.2.1 d_Md_loop_138 rfl (lv_at hl 0 rfl) ?_
          refine lv_bipush (v := 9) F.1 F.2.1 d_Md_loop_139 (by decide) ?_
          refine lv_iload F.1 F.2.1 d_Md_loop_141 (lv_at hl 5 rfl) ?_
          refine lv_iadd F.1 F.2.1 d_Md_loop_143 ?_
          refine lv_iconst (v := 0) F.1 F.2.1 d_Md_loop_144 (by decide) ?_
          refine lv_aload_n F.1 F.2.1 d_Md_loop_145 rfl (lv_at hl 0 rfl) ?_
          refine g_get F hP 9 10 0 (by decide) Nat.zero_lt_one (by decide) (v := .int (gi σ30 9 0 10)) rfl w_883 d_Md_loop_146 ?_
          refine lv_iconst (v := 2) F.1 F.2.1 d_Md_loop_149 (by decide) ?_
          refine lv_iadd F.1 F.2.1 d_Md_loop_150 ?_
          refine lv_iconst (v := 1) F.1 F.2.1 d_Md_loop_151 (by decide) ?_
          obtain ⟨σ37, hk38, hj24⟩ := bnd_some hj24
          refine g_callV (As := [.int (9 + x26), .int 0, .int ((gi σ30 9 0 10) + 2), .int 1]) (rest := []) F hP 9 0 (by decide) Nat.zero_lt_one (c_Md_put l X n  hk38) rfl q_Md_put w_1045 w_11 w_1042 w_1044 wp_41 ⟨rfl, rfl⟩ ⟨by decide, by decide⟩ hl.1 (Nat.le_of_ble_eq_true rfl) ⟨Nat.zero_le _, Nat.zero_le _⟩ d_Md_loop_152 rfl (fun H locs hP => ?_)
          refine W.eq (g2 := F0 m 155 ls []) rfl ?_
          refine lv_aload_n F.1 F.2.1 d_Md_loop_155 rfl (lv_at hl 0 rfl) ?_
          refine lv_bipush (v := 19) F.1 F.2.1 d_Md_loop_156 (by decide) ?_
          refine lv_iload_n F.1 F.2.1 d_Md_loop_158 rfl (lv_at hl 2 rfl) ?_
          refine lv_iconst (v := 0) F.1 F.2.1 d_Md_loop_159 (by decide) ?_
          refine lv_iconst (v := 0) F.1 F.2.1 d_Md_loop_160 (by decide) ?_
          obtain ⟨σ39, hk40, hj24⟩ := bnd_some hj24
          refine g_callV (As := [.int 19, .int a3, .int 0, .int 0]) (rest := []) F hP 9 0 (by decide) Nat.zero_lt_one (c_Md_put l X n  hk40) rfl q_Md_put w_1045 w_11 w_1042 w_1044 wp_41 ⟨rfl, rfl⟩ ⟨by decide, by decide⟩ hl.1 (Nat.le_of_ble_eq_true rfl) ⟨Nat.zero_le _, Nat.zero_le _⟩ d_Md_loop_161 rfl (fun H locs hP => ?_)
          refine W.eq (g2 := F0 m 164 ls []) rfl ?_
          cases hj24
          exact KJ23 _ _ _ (lv_sub hl [0, 1, 2, 3, 4] rfl) hP
        refine lv_icmp_ge F.1 F.2.1 d_Md_loop_116 rfl (fun hb36 => ?_) (fun hb36 => ?_)
        · rw [if_pos hb36] at hj32
          cases hj32
          exact KJ31 _ _ _ (lv_sub hl [1, 2, 3, 4, 5, 0] rfl) hP
        · rw [if_neg hb36] at hj32
          refine lv_aload_n F.1 F.2.1 d_Md_loop_119 rfl (lv_at hl 1 rfl) ?_
          refine lv_bipush (v := 6) F.1 F.2.1 d_Md_loop_120 (by decide) ?_
          refine lv_aload_n F.1 F.2.1 d_Md_loop_122 rfl (lv_at hl 1 rfl) ?_
          refine g_get F hP 9 28 0 (by decide) Nat.zero_lt_one (by decide) (v := .ref (xL X 43 0)) rfl w_901 d_Md_loop_123 ?_
          refine lv_iconst (v := 4) F.1 F.2.1 d_Md_loop_126 (by decide) ?_
          refine lv_iload F.1 F.2.1 d_Md_loop_127 (lv_at hl 5 rfl) ?_
          refine lv_imul F.1 F.2.1 d_Md_loop_129 ?_
          refine lv_iconst (v := 3) F.1 F.2.1 d_Md_loop_130 (by decide) ?_
          refine lv_iadd F.1 F.2.1 d_Md_loop_131 ?_
          obtain ⟨hc33, hj32⟩ := chk_some hj32
          refine g_ald F hP 43 (by decide) (by decide) Nat.zero_lt_one rfl rfl hc33 d_Md_loop_132 ?_
          refine lv_iconst (v := 1) F.1 F.2.1 d_Md_loop_133 (by decide) ?_
          refine lv_iconst (v := 0) F.1 F.2.1 d_Md_loop_134 (by decide) ?_
          obtain ⟨σ34, hk35, hj32⟩ := bnd_some hj32
          refine g_callV (As := [.int 6, .int (gi σ28 43 0 (((4 * x16) + 3).toNatClampNeg)), .int 1, .int 0]) (rest := []) F hP 9 0 (by decide) Nat.zero_lt_one (c_Md_put l X n  hk35) rfl q_Md_put w_1045 w_11 w_1042 w_1044 wp_41 ⟨rfl, rfl⟩ ⟨by decide, by decide⟩ hl.1 (Nat.le_of_ble_eq_true rfl) ⟨Nat.zero_le _, Nat.zero_le _⟩ d_Md_loop_135 rfl (fun H locs hP => ?_)
          refine W.eq (g2 := F0 m 138 ls []) rfl ?_
          cases hj32
          exact KJ31 _ _ _ (lv_sub hl [1, 2, 3, 4, 5, 0] rfl) hP
  refine lv_if_ge F.1 F.2.1 d_Md_loop_9 rfl (fun hb14 => ?_) (fun hb14 => ?_)
  · rw [if_pos hb14] at hj6
    refine lv_aload_n F.1 F.2.1 d_Md_loop_23 rfl (lv_at hl 1 rfl) ?_
    refine lv_bipush (v := 6) F.1 F.2.1 d_Md_loop_24 (by decide) ?_
    refine lv_aload_n F.1 F.2.1 d_Md_loop_26 rfl (lv_at hl 1 rfl) ?_
    refine g_get F hP 9 28 0 (by decide) Nat.zero_lt_one (by decide) (v := .ref (xL X 43 0)) rfl w_901 d_Md_loop_27 ?_
    refine lv_iconst (v := 4) F.1 F.2.1 d_Md_loop_30 (by decide) ?_
    refine lv_iload F.1 F.2.1 d_Md_loop_31 (lv_at hl 0 rfl) ?_
    refine lv_imul F.1 F.2.1 d_Md_loop_33 ?_
    refine lv_iconst (v := 3) F.1 F.2.1 d_Md_loop_34 (by decide) ?_
    refine lv_iadd F.1 F.2.1 d_Md_loop_35 ?_
    obtain ⟨hc7, hj6⟩ := chk_some hj6
    refine g_ald F hP 43 (by decide) (by decide) Nat.zero_lt_one rfl rfl hc7 d_Md_loop_36 ?_
    refine lv_iconst (v := 0) F.1 F.2.1 d_Md_loop_37 (by decide) ?_
    refine lv_iconst (v := 0) F.1 F.2.1 d_Md_loop_38 (by decide) ?_
    obtain ⟨σ8, hk9, hj6⟩ := bnd_some hj6
    refine g_callV (As := [.int 6, .int (gi σ1 43 0 (((4 * r3) + 3).toNatClampNeg)), .int 0, .int 0]) (rest := []) F hP 9 0 (by decide) Nat.zero_lt_one (c_Md_put l X n  hk9) rfl q_Md_put w_1045 w_11 w_1042 w_1044 wp_41 ⟨rfl, rfl⟩ ⟨by decide, by decide⟩ hl.1 (Nat.le_of_ble_eq_true rfl) ⟨Nat.zero_le _, Nat.zero_le _⟩ d_Md_loop_39 rfl (fun H locs hP => ?_)
    refine W.eq (g2 := F0 m 42 ls []) rfl ?_
    refine lv_aload_n F.1 F.2.1 d_Md_loop_42 rfl (lv_at hl 1 rfl) ?_
    refine lv_bipush (v := 8) F.1 F.2.1 d_Md_loop_43 (by decide) ?_
    refine lv_iload_n F.1 F.2.1 d_Md_loop_45 rfl (lv_at hl 2 rfl) ?_
    refine lv_iload_n F.1 F.2.1 d_Md_loop_46 rfl (lv_at hl 3 rfl) ?_
    refine lv_iconst (v := 0) F.1 F.2.1 d_Md_loop_47 (by decide) ?_
    obtain ⟨σ10, hk11, hj6⟩ := bnd_some hj6
    refine g_callV (As := [.int 8, .int a1, .int a2, .int 0]) (rest := []) F hP 9 0 (by decide) Nat.zero_lt_one (c_Md_put l X n  hk11) rfl q_Md_put w_1045 w_11 w_1042 w_1044 wp_41 ⟨rfl, rfl⟩ ⟨by decide, by decide⟩ hl.1 (Nat.le_of_ble_eq_true rfl) ⟨Nat.zero_le _, Nat.zero_le _⟩ d_Md_loop_48 rfl (fun H locs hP => ?_)
    refine W.eq (g2 := F0 m 51 ls []) rfl ?_
    cases hj6
    exact KJ5 _ _ _ (lv_sub hl [1, 2, 4] rfl) hP
  · rw [if_neg hb14] at hj6
    refine lv_aload_n F.1 F.2.1 d_Md_loop_12 rfl (lv_at hl 1 rfl) ?_
    refine lv_iconst (v := 2) F.1 F.2.1 d_Md_loop_13 (by decide) ?_
    refine lv_iload_n F.1 F.2.1 d_Md_loop_14 rfl (lv_at hl 2 rfl) ?_
    refine lv_iload_n F.1 F.2.1 d_Md_loop_15 rfl (lv_at hl 3 rfl) ?_
    refine lv_iconst (v := 0) F.1 F.2.1 d_Md_loop_16 (by decide) ?_
    obtain ⟨σ12, hk13, hj6⟩ := bnd_some hj6
    refine g_callV (As := [.int 2, .int a1, .int a2, .int 0]) (rest := []) F hP 9 0 (by decide) Nat.zero_lt_one (c_Md_put l X n  hk13) rfl q_Md_put w_1045 w_11 w_1042 w_1044 wp_41 ⟨rfl, rfl⟩ ⟨by decide, by decide⟩ hl.1 (Nat.le_of_ble_eq_true rfl) ⟨Nat.zero_le _, Nat.zero_le _⟩ d_Md_loop_17 rfl (fun H locs hP => ?_)
    refine W.eq (g2 := F0 m 20 ls []) rfl ?_
    refine lv_goto F.1 F.2.1 d_Md_loop_20 rfl ?_
    cases hj6
    exact KJ5 _ _ _ (lv_sub hl [1, 2, 4] rfl) hP

theorem d_Md_outputsAndResult_0 : decode b_Md_outputsAndResult 0 = .ok (.iconst 0, 1) := by decide +kernel
theorem d_Md_outputsAndResult_1 : decode b_Md_outputsAndResult 1 = .ok (.istore_n 1, 1) := by decide +kernel
theorem d_Md_outputsAndResult_2 : decode b_Md_outputsAndResult 2 = .ok (.iload_n 1, 1) := by decide +kernel
theorem d_Md_outputsAndResult_3 : decode b_Md_outputsAndResult 3 = .ok (.aload_n 0, 1) := by decide +kernel
theorem d_Md_outputsAndResult_4 : decode b_Md_outputsAndResult 4 = .ok (.getfield 171, 3) := by decide +kernel
theorem d_Md_outputsAndResult_7 : decode b_Md_outputsAndResult 7 = .ok (.if_icmp .ge 34, 3) := by decide +kernel
theorem d_Md_outputsAndResult_10 : decode b_Md_outputsAndResult 10 = .ok (.aload_n 0, 1) := by decide +kernel
theorem d_Md_outputsAndResult_11 : decode b_Md_outputsAndResult 11 = .ok (.aload_n 0, 1) := by decide +kernel
theorem d_Md_outputsAndResult_12 : decode b_Md_outputsAndResult 12 = .ok (.getfield 67, 3) := by decide +kernel
theorem d_Md_outputsAndResult_15 : decode b_Md_outputsAndResult 15 = .ok (.iconst 2, 1) := by decide +kernel
theorem d_Md_outputsAndResult_16 : decode b_Md_outputsAndResult 16 = .ok (.iload_n 1, 1) := by decide +kernel
theorem d_Md_outputsAndResult_17 : decode b_Md_outputsAndResult 17 = .ok (.imul, 1) := by decide +kernel
theorem d_Md_outputsAndResult_18 : decode b_Md_outputsAndResult 18 = .ok (.iaload, 1) := by decide +kernel
theorem d_Md_outputsAndResult_19 : decode b_Md_outputsAndResult 19 = .ok (.aload_n 0, 1) := by decide +kernel
theorem d_Md_outputsAndResult_20 : decode b_Md_outputsAndResult 20 = .ok (.getfield 67, 3) := by decide +kernel
theorem d_Md_outputsAndResult_23 : decode b_Md_outputsAndResult 23 = .ok (.iconst 2, 1) := by decide +kernel
theorem d_Md_outputsAndResult_24 : decode b_Md_outputsAndResult 24 = .ok (.iload_n 1, 1) := by decide +kernel
theorem d_Md_outputsAndResult_25 : decode b_Md_outputsAndResult 25 = .ok (.imul, 1) := by decide +kernel
theorem d_Md_outputsAndResult_26 : decode b_Md_outputsAndResult 26 = .ok (.iconst 1, 1) := by decide +kernel
theorem d_Md_outputsAndResult_27 : decode b_Md_outputsAndResult 27 = .ok (.iadd, 1) := by decide +kernel
theorem d_Md_outputsAndResult_28 : decode b_Md_outputsAndResult 28 = .ok (.iaload, 1) := by decide +kernel
theorem d_Md_outputsAndResult_29 : decode b_Md_outputsAndResult 29 = .ok (.iconst 2, 1) := by decide +kernel
theorem d_Md_outputsAndResult_30 : decode b_Md_outputsAndResult 30 = .ok (.iload_n 1, 1) := by decide +kernel
theorem d_Md_outputsAndResult_31 : decode b_Md_outputsAndResult 31 = .ok (.iadd, 1) := by decide +kernel
theorem d_Md_outputsAndResult_32 : decode b_Md_outputsAndResult 32 = .ok (.invokevirtual 196, 3) := by decide +kernel
theorem d_Md_outputsAndResult_35 : decode b_Md_outputsAndResult 35 = .ok (.iinc 1 1, 3) := by decide +kernel
theorem d_Md_outputsAndResult_38 : decode b_Md_outputsAndResult 38 = .ok (.goto (-36), 3) := by decide +kernel
theorem d_Md_outputsAndResult_41 : decode b_Md_outputsAndResult 41 = .ok (.aload_n 0, 1) := by decide +kernel
theorem d_Md_outputsAndResult_42 : decode b_Md_outputsAndResult 42 = .ok (.bipush 18, 2) := by decide +kernel
theorem d_Md_outputsAndResult_44 : decode b_Md_outputsAndResult 44 = .ok (.iconst 2, 1) := by decide +kernel
theorem d_Md_outputsAndResult_45 : decode b_Md_outputsAndResult 45 = .ok (.aload_n 0, 1) := by decide +kernel
theorem d_Md_outputsAndResult_46 : decode b_Md_outputsAndResult 46 = .ok (.getfield 171, 3) := by decide +kernel
theorem d_Md_outputsAndResult_49 : decode b_Md_outputsAndResult 49 = .ok (.iconst 0, 1) := by decide +kernel
theorem d_Md_outputsAndResult_50 : decode b_Md_outputsAndResult 50 = .ok (.invokevirtual 121, 3) := by decide +kernel
theorem d_Md_outputsAndResult_53 : decode b_Md_outputsAndResult 53 = .ok (.return_, 1) := by decide +kernel
noncomputable def b_Md_outputsAndResult_2  (x1 : Int32) (σ2 : Sg) : Option ((Int32 × Sg) ⊕ (Sg)) :=
  (if (gi σ2 9 0 25) ≤ x1 then (some (.inr σ2)) else (chk (vp_in (2 * x1) 8) (chk (vp_in ((2 * x1) + 1) 8) ((f_Md_read (gi σ2 42 0 ((2 * x1).toNatClampNeg)) (gi σ2 42 0 (((2 * x1) + 1).toNatClampNeg)) (2 + x1) σ2).bind (fun σ8 => lt_ (x1 + 1 : Int32) (fun (x10 : Int32) => some (.inl (x10, σ8))))))))
noncomputable def l_Md_outputsAndResult_2  (x1 : Int32) (σ2 : Sg) : Option (Sg) := lp (fun q => b_Md_outputsAndResult_2  q.1 q.2) FU (x1, σ2)
noncomputable def f_Md_outputsAndResult  (σ : Sg) : Option (Sg) :=
  (l_Md_outputsAndResult_2  0 σ).bind (fun σ12 => (f_Md_put 18 2 (gi σ12 9 0 25) 0 σ12).bind (fun σ15 => some σ15))
abbrev rm_Md_outputsAndResult : Room := { frames := 3, cells := 0, slots := 0, locals := 68 }
set_option maxHeartbeats 4000000 in
set_option maxRecDepth 100000 in
theorem c_Md_outputsAndResult (l : Launch) (X : GX) (n : Nat) {σ σ' : Sg}   (hf : f_Md_outputsAndResult  σ = some σ') : Met l y_Md_outputsAndResult (cw y_Md_outputsAndResult b_Md_outputsAndResult 2 none) rm_Md_outputsAndResult (PcG X n σ [.ref (xL X 9 0)]) (QcG X n σ' none) 0 0 (fr X n) := by
  refine g_head (own := "TableMachineModel") (by decide) rfl (Nat.le_of_ble_eq_true rfl) ?_
  intro p e s m args below meth c ls F hr hlk hP hl
  have hl : lv_has ls 2 [(0, .ref (xL X 9 0))] := hl
  show WG l X n rm_Md_outputsAndResult σ' none p e s m args below meth c s.heap [] (F0 m 0 ls [])
  unfold f_Md_outputsAndResult at hf
  refine lv_iconst (v := 0) F.1 F.2.1 d_Md_outputsAndResult_0 (by decide) ?_
  refine lv_istore_n F.1 F.2.1 d_Md_outputsAndResult_1 rfl hl (by decide) rfl (fun ls hl => ?_)
  have hl : lv_has ls 2 [(1, .int 0), (0, .ref (xL X 9 0))] := hl
  obtain ⟨σ12, hlp13, hf⟩ := bnd_some hf
  have KX14 : ∀ (ls : Array Slot) (H : Heap) (locs : List Loc), lv_has ls 2 [(0, .ref (xL X 9 0))] → St X n σ12 s.heap H locs → WG l X n rm_Md_outputsAndResult σ' none p e s m args below meth c H locs (F0 m 41 ls []) := by
    intro ls H locs hl hP
    refine lv_aload_n F.1 F.2.1 d_Md_outputsAndResult_41 rfl (lv_at hl 0 rfl) ?_
    refine lv_bipush (v := 18) F.1 F.2.1 d_Md_outputsAndResult_42 (by decide) ?_
    refine lv_iconst (v := 2) F.1 F.2.1 d_Md_outputsAndResult_44 (by decide) ?_
    refine lv_aload_n F.1 F.2.1 d_Md_outputsAndResult_45 rfl (lv_at hl 0 rfl) ?_
    refine g_get F hP 9 25 0 (by decide) Nat.zero_lt_one (by decide) (v := .int (gi σ12 9 0 25)) rfl w_898 d_Md_outputsAndResult_46 ?_
    refine lv_iconst (v := 0) F.1 F.2.1 d_Md_outputsAndResult_49 (by decide) ?_
    obtain ⟨σ15, hk16, hf⟩ := bnd_some hf
    refine g_callV (As := [.int 18, .int 2, .int (gi σ12 9 0 25), .int 0]) (rest := []) F hP 9 0 (by decide) Nat.zero_lt_one (c_Md_put l X n  hk16) rfl q_Md_put w_1045 w_11 w_1042 w_1044 wp_41 ⟨rfl, rfl⟩ ⟨by decide, by decide⟩ hl.1 (Nat.le_of_ble_eq_true rfl) ⟨Nat.zero_le _, Nat.zero_le _⟩ d_Md_outputsAndResult_50 rfl (fun H locs hP => ?_)
    refine W.eq (g2 := F0 m 53 ls []) rfl ?_
    cases hf
    exact g_vret F hP hr hlk d_Md_outputsAndResult_53
  unfold l_Md_outputsAndResult_2 at hlp13
  refine lp_W (PW := fun q => ∀ (ls : Array Slot) (H : Heap) (locs : List Loc), lv_has ls 2 [(0, .ref (xL X 9 0)), (1, .int q.1)] → St X n q.2 s.heap H locs → WG l X n rm_Md_outputsAndResult σ' none p e s m args below meth c H locs (F0 m 2 ls [])) (PE := fun q => ∀ (ls : Array Slot) (H : Heap) (locs : List Loc), lv_has ls 2 [(0, .ref (xL X 9 0))] → St X n q s.heap H locs → WG l X n rm_Md_outputsAndResult σ' none p e s m args below meth c H locs (F0 m 41 ls [])) ?_ _ _ _ hlp13 KX14 _ _ _ (lv_sub hl [1, 0] rfl) hP
  rintro ⟨x1, σ2⟩ rr3 hb_2 hI4 hE5 ls H locs hl hP
  replace hb_2 : b_Md_outputsAndResult_2  x1 σ2 = some rr3 := hb_2
  unfold b_Md_outputsAndResult_2 at hb_2
  refine lv_iload_n F.1 F.2.1 d_Md_outputsAndResult_2 rfl (lv_at hl 1 rfl) ?_
  refine lv_aload_n F.1 F.2.1 d_Md_outputsAndResult_3 rfl (lv_at hl 0 rfl) ?_
  refine g_get F hP 9 25 0 (by decide) Nat.zero_lt_one (by decide) (v := .int (gi σ2 9 0 25)) rfl w_898 d_Md_outputsAndResult_4 ?_
  refine lv_icmp_ge F.1 F.2.1 d_Md_outputsAndResult_7 rfl (fun hb11 => ?_) (fun hb11 => ?_)
  · rw [if_pos hb11] at hb_2
    cases hb_2
    exact hE5 _ rfl _ _ _ (lv_sub hl [0] rfl) hP
  · rw [if_neg hb11] at hb_2
    refine lv_aload_n F.1 F.2.1 d_Md_outputsAndResult_10 rfl (lv_at hl 0 rfl) ?_
    refine lv_aload_n F.1 F.2.1 d_Md_outputsAndResult_11 rfl (lv_at hl 0 rfl) ?_
    refine g_get F hP 9 26 0 (by decide) Nat.zero_lt_one (by decide) (v := .ref (xL X 42 0)) rfl w_899 d_Md_outputsAndResult_12 ?_
    refine lv_iconst (v := 2) F.1 F.2.1 d_Md_outputsAndResult_15 (by decide) ?_
    refine lv_iload_n F.1 F.2.1 d_Md_outputsAndResult_16 rfl (lv_at hl 1 rfl) ?_
    refine lv_imul F.1 F.2.1 d_Md_outputsAndResult_17 ?_
    obtain ⟨hc6, hb_2⟩ := chk_some hb_2
    refine g_ald F hP 42 (by decide) (by decide) Nat.zero_lt_one rfl rfl hc6 d_Md_outputsAndResult_18 ?_
    refine lv_aload_n F.1 F.2.1 d_Md_outputsAndResult_19 rfl (lv_at hl 0 rfl) ?_
    refine g_get F hP 9 26 0 (by decide) Nat.zero_lt_one (by decide) (v := .ref (xL X 42 0)) rfl w_899 d_Md_outputsAndResult_20 ?_
    refine lv_iconst (v := 2) F.1 F.2.1 d_Md_outputsAndResult_23 (by decide) ?_
    refine lv_iload_n F.1 F.2.1 d_Md_outputsAndResult_24 rfl (lv_at hl 1 rfl) ?_
    refine lv_imul F.1 F.2.1 d_Md_outputsAndResult_25 ?_
    refine lv_iconst (v := 1) F.1 F.2.1 d_Md_outputsAndResult_26 (by decide) ?_
    refine lv_iadd F.1 F.2.1 d_Md_outputsAndResult_27 ?_
    obtain ⟨hc7, hb_2⟩ := chk_some hb_2
    refine g_ald F hP 42 (by decide) (by decide) Nat.zero_lt_one rfl rfl hc7 d_Md_outputsAndResult_28 ?_
    refine lv_iconst (v := 2) F.1 F.2.1 d_Md_outputsAndResult_29 (by decide) ?_
    refine lv_iload_n F.1 F.2.1 d_Md_outputsAndResult_30 rfl (lv_at hl 1 rfl) ?_
    refine lv_iadd F.1 F.2.1 d_Md_outputsAndResult_31 ?_
    obtain ⟨σ8, hk9, hb_2⟩ := bnd_some hb_2
    refine g_callV (As := [.int (gi σ2 42 0 ((2 * x1).toNatClampNeg)), .int (gi σ2 42 0 (((2 * x1) + 1).toNatClampNeg)), .int (2 + x1)]) (rest := []) F hP 9 0 (by decide) Nat.zero_lt_one (c_Md_read l X n  hk9) rfl q_Md_read w_1154 w_11 w_1151 w_1153 wp_56 ⟨rfl, rfl⟩ ⟨by decide, by decide⟩ hl.1 (Nat.le_of_ble_eq_true rfl) ⟨Nat.zero_le _, Nat.zero_le _⟩ d_Md_outputsAndResult_32 rfl (fun H locs hP => ?_)
    refine W.eq (g2 := F0 m 35 ls []) rfl ?_
    obtain ⟨x10, e_x10, hb_2⟩ := lt_some hb_2
    refine lv_iinc (k := 1) (v := x10) F.1 F.2.1 d_Md_outputsAndResult_35 hl rfl (by rw [e_x10]; rfl) (by decide) rfl (fun ls hl => ?_)
    have hl : lv_has ls 2 [(1, .int x10), (0, .ref (xL X 9 0))] := hl
    refine lv_goto F.1 F.2.1 d_Md_outputsAndResult_38 rfl ?_
    cases hb_2
    exact hI4 _ rfl _ _ _ (lv_sub hl [1, 0] rfl) hP

theorem d_Md_compile_0 : decode b_Md_compile 0 = .ok (.aload_n 0, 1) := by decide +kernel
theorem d_Md_compile_1 : decode b_Md_compile 1 = .ok (.aload_n 0, 1) := by decide +kernel
theorem d_Md_compile_2 : decode b_Md_compile 2 = .ok (.getfield 60, 3) := by decide +kernel
theorem d_Md_compile_5 : decode b_Md_compile 5 = .ok (.ifCond .lt 10, 3) := by decide +kernel
theorem d_Md_compile_8 : decode b_Md_compile 8 = .ok (.aload_n 0, 1) := by decide +kernel
theorem d_Md_compile_9 : decode b_Md_compile 9 = .ok (.getfield 171, 3) := by decide +kernel
theorem d_Md_compile_12 : decode b_Md_compile 12 = .ok (.ifCond .ne 7, 3) := by decide +kernel
theorem d_Md_compile_15 : decode b_Md_compile 15 = .ok (.iconst 1, 1) := by decide +kernel
theorem d_Md_compile_16 : decode b_Md_compile 16 = .ok (.goto 4, 3) := by decide +kernel
theorem d_Md_compile_19 : decode b_Md_compile 19 = .ok (.iconst 0, 1) := by decide +kernel
theorem d_Md_compile_20 : decode b_Md_compile 20 = .ok (.putfield 73, 3) := by decide +kernel
theorem d_Md_compile_23 : decode b_Md_compile 23 = .ok (.aload_n 0, 1) := by decide +kernel
theorem d_Md_compile_24 : decode b_Md_compile 24 = .ok (.getfield 73, 3) := by decide +kernel
theorem d_Md_compile_27 : decode b_Md_compile 27 = .ok (.ifCond .le 5, 3) := by decide +kernel
theorem d_Md_compile_30 : decode b_Md_compile 30 = .ok (.iconst 0, 1) := by decide +kernel
theorem d_Md_compile_31 : decode b_Md_compile 31 = .ok (.ireturn, 1) := by decide +kernel
theorem d_Md_compile_32 : decode b_Md_compile 32 = .ok (.aload_n 0, 1) := by decide +kernel
theorem d_Md_compile_33 : decode b_Md_compile 33 = .ok (.getfield 64, 3) := by decide +kernel
theorem d_Md_compile_36 : decode b_Md_compile 36 = .ok (.ifCond .lt 7, 3) := by decide +kernel
theorem d_Md_compile_39 : decode b_Md_compile 39 = .ok (.iconst 1, 1) := by decide +kernel
theorem d_Md_compile_40 : decode b_Md_compile 40 = .ok (.goto 4, 3) := by decide +kernel
theorem d_Md_compile_43 : decode b_Md_compile 43 = .ok (.iconst 0, 1) := by decide +kernel
theorem d_Md_compile_44 : decode b_Md_compile 44 = .ok (.istore_n 1, 1) := by decide +kernel
theorem d_Md_compile_45 : decode b_Md_compile 45 = .ok (.aload_n 0, 1) := by decide +kernel
theorem d_Md_compile_46 : decode b_Md_compile 46 = .ok (.iconst 0, 1) := by decide +kernel
theorem d_Md_compile_47 : decode b_Md_compile 47 = .ok (.putfield 110, 3) := by decide +kernel
theorem d_Md_compile_50 : decode b_Md_compile 50 = .ok (.aload_n 0, 1) := by decide +kernel
theorem d_Md_compile_51 : decode b_Md_compile 51 = .ok (.iconst 1, 1) := by decide +kernel
theorem d_Md_compile_52 : decode b_Md_compile 52 = .ok (.iconst 0, 1) := by decide +kernel
theorem d_Md_compile_53 : decode b_Md_compile 53 = .ok (.aload_n 0, 1) := by decide +kernel
theorem d_Md_compile_54 : decode b_Md_compile 54 = .ok (.getfield 60, 3) := by decide +kernel
theorem d_Md_compile_57 : decode b_Md_compile 57 = .ok (.iconst 0, 1) := by decide +kernel
theorem d_Md_compile_58 : decode b_Md_compile 58 = .ok (.invokevirtual 121, 3) := by decide +kernel
theorem d_Md_compile_61 : decode b_Md_compile 61 = .ok (.iload_n 1, 1) := by decide +kernel
theorem d_Md_compile_62 : decode b_Md_compile 62 = .ok (.ifCond .eq 14, 3) := by decide +kernel
theorem d_Md_compile_65 : decode b_Md_compile 65 = .ok (.aload_n 0, 1) := by decide +kernel
theorem d_Md_compile_66 : decode b_Md_compile 66 = .ok (.iconst 1, 1) := by decide +kernel
theorem d_Md_compile_67 : decode b_Md_compile 67 = .ok (.iconst 1, 1) := by decide +kernel
theorem d_Md_compile_68 : decode b_Md_compile 68 = .ok (.aload_n 0, 1) := by decide +kernel
theorem d_Md_compile_69 : decode b_Md_compile 69 = .ok (.getfield 64, 3) := by decide +kernel
theorem d_Md_compile_72 : decode b_Md_compile 72 = .ok (.iconst 0, 1) := by decide +kernel
theorem d_Md_compile_73 : decode b_Md_compile 73 = .ok (.invokevirtual 121, 3) := by decide +kernel
theorem d_Md_compile_76 : decode b_Md_compile 76 = .ok (.aload_n 0, 1) := by decide +kernel
theorem d_Md_compile_77 : decode b_Md_compile 77 = .ok (.getfield 110, 3) := by decide +kernel
theorem d_Md_compile_80 : decode b_Md_compile 80 = .ok (.aload_n 0, 1) := by decide +kernel
theorem d_Md_compile_81 : decode b_Md_compile 81 = .ok (.iconst 0, 1) := by decide +kernel
theorem d_Md_compile_82 : decode b_Md_compile 82 = .ok (.invokevirtual 200, 3) := by decide +kernel
theorem d_Md_compile_85 : decode b_Md_compile 85 = .ok (.iadd, 1) := by decide +kernel
theorem d_Md_compile_86 : decode b_Md_compile 86 = .ok (.istore_n 2, 1) := by decide +kernel
theorem d_Md_compile_87 : decode b_Md_compile 87 = .ok (.iload_n 2, 1) := by decide +kernel
theorem d_Md_compile_88 : decode b_Md_compile 88 = .ok (.iload_n 1, 1) := by decide +kernel
theorem d_Md_compile_89 : decode b_Md_compile 89 = .ok (.ifCond .eq 24, 3) := by decide +kernel
theorem d_Md_compile_92 : decode b_Md_compile 92 = .ok (.aload_n 0, 1) := by decide +kernel
theorem d_Md_compile_93 : decode b_Md_compile 93 = .ok (.iconst 1, 1) := by decide +kernel
theorem d_Md_compile_94 : decode b_Md_compile 94 = .ok (.invokevirtual 200, 3) := by decide +kernel
theorem d_Md_compile_97 : decode b_Md_compile 97 = .ok (.aload_n 0, 1) := by decide +kernel
theorem d_Md_compile_98 : decode b_Md_compile 98 = .ok (.getfield 177, 3) := by decide +kernel
theorem d_Md_compile_101 : decode b_Md_compile 101 = .ok (.ifCond .eq 7, 3) := by decide +kernel
theorem d_Md_compile_104 : decode b_Md_compile 104 = .ok (.iconst 4, 1) := by decide +kernel
theorem d_Md_compile_105 : decode b_Md_compile 105 = .ok (.goto 4, 3) := by decide +kernel
theorem d_Md_compile_108 : decode b_Md_compile 108 = .ok (.iconst 0, 1) := by decide +kernel
theorem d_Md_compile_109 : decode b_Md_compile 109 = .ok (.iadd, 1) := by decide +kernel
theorem d_Md_compile_110 : decode b_Md_compile 110 = .ok (.goto 4, 3) := by decide +kernel
theorem d_Md_compile_113 : decode b_Md_compile 113 = .ok (.iconst 0, 1) := by decide +kernel
theorem d_Md_compile_114 : decode b_Md_compile 114 = .ok (.iadd, 1) := by decide +kernel
theorem d_Md_compile_115 : decode b_Md_compile 115 = .ok (.aload_n 0, 1) := by decide +kernel
theorem d_Md_compile_116 : decode b_Md_compile 116 = .ok (.getfield 171, 3) := by decide +kernel
theorem d_Md_compile_119 : decode b_Md_compile 119 = .ok (.iadd, 1) := by decide +kernel
theorem d_Md_compile_120 : decode b_Md_compile 120 = .ok (.iconst 1, 1) := by decide +kernel
theorem d_Md_compile_121 : decode b_Md_compile 121 = .ok (.iadd, 1) := by decide +kernel
theorem d_Md_compile_122 : decode b_Md_compile 122 = .ok (.istore_n 3, 1) := by decide +kernel
theorem d_Md_compile_123 : decode b_Md_compile 123 = .ok (.iload_n 1, 1) := by decide +kernel
theorem d_Md_compile_124 : decode b_Md_compile 124 = .ok (.ifCond .eq 9, 3) := by decide +kernel
theorem d_Md_compile_127 : decode b_Md_compile 127 = .ok (.iload_n 3, 1) := by decide +kernel
theorem d_Md_compile_128 : decode b_Md_compile 128 = .ok (.iconst 1, 1) := by decide +kernel
theorem d_Md_compile_129 : decode b_Md_compile 129 = .ok (.iadd, 1) := by decide +kernel
theorem d_Md_compile_130 : decode b_Md_compile 130 = .ok (.goto 4, 3) := by decide +kernel
theorem d_Md_compile_133 : decode b_Md_compile 133 = .ok (.iload_n 3, 1) := by decide +kernel
theorem d_Md_compile_134 : decode b_Md_compile 134 = .ok (.istore 4, 2) := by decide +kernel
theorem d_Md_compile_136 : decode b_Md_compile 136 = .ok (.aload_n 0, 1) := by decide +kernel
theorem d_Md_compile_137 : decode b_Md_compile 137 = .ok (.iconst 0, 1) := by decide +kernel
theorem d_Md_compile_138 : decode b_Md_compile 138 = .ok (.iload 4, 2) := by decide +kernel
theorem d_Md_compile_140 : decode b_Md_compile 140 = .ok (.iconst 1, 1) := by decide +kernel
theorem d_Md_compile_141 : decode b_Md_compile 141 = .ok (.iadd, 1) := by decide +kernel
theorem d_Md_compile_142 : decode b_Md_compile 142 = .ok (.iload 4, 2) := by decide +kernel
theorem d_Md_compile_144 : decode b_Md_compile 144 = .ok (.invokevirtual 203, 3) := by decide +kernel
theorem d_Md_compile_147 : decode b_Md_compile 147 = .ok (.istore 5, 2) := by decide +kernel
theorem d_Md_compile_149 : decode b_Md_compile 149 = .ok (.iload_n 1, 1) := by decide +kernel
theorem d_Md_compile_150 : decode b_Md_compile 150 = .ok (.ifCond .eq 79, 3) := by decide +kernel
theorem d_Md_compile_153 : decode b_Md_compile 153 = .ok (.aload_n 0, 1) := by decide +kernel
theorem d_Md_compile_154 : decode b_Md_compile 154 = .ok (.iconst 1, 1) := by decide +kernel
theorem d_Md_compile_155 : decode b_Md_compile 155 = .ok (.iload 4, 2) := by decide +kernel
theorem d_Md_compile_157 : decode b_Md_compile 157 = .ok (.iload_n 3, 1) := by decide +kernel
theorem d_Md_compile_158 : decode b_Md_compile 158 = .ok (.invokevirtual 203, 3) := by decide +kernel
theorem d_Md_compile_161 : decode b_Md_compile 161 = .ok (.istore 6, 2) := by decide +kernel
theorem d_Md_compile_163 : decode b_Md_compile 163 = .ok (.aload_n 0, 1) := by decide +kernel
theorem d_Md_compile_164 : decode b_Md_compile 164 = .ok (.getfield 177, 3) := by decide +kernel
theorem d_Md_compile_167 : decode b_Md_compile 167 = .ok (.ifCond .eq 46, 3) := by decide +kernel
theorem d_Md_compile_170 : decode b_Md_compile 170 = .ok (.aload_n 0, 1) := by decide +kernel
theorem d_Md_compile_171 : decode b_Md_compile 171 = .ok (.iconst 0, 1) := by decide +kernel
theorem d_Md_compile_172 : decode b_Md_compile 172 = .ok (.aload_n 0, 1) := by decide +kernel
theorem d_Md_compile_173 : decode b_Md_compile 173 = .ok (.getfield 187, 3) := by decide +kernel
theorem d_Md_compile_176 : decode b_Md_compile 176 = .ok (.iconst 0, 1) := by decide +kernel
theorem d_Md_compile_177 : decode b_Md_compile 177 = .ok (.invokevirtual 196, 3) := by decide +kernel
theorem d_Md_compile_180 : decode b_Md_compile 180 = .ok (.aload_n 0, 1) := by decide +kernel
theorem d_Md_compile_181 : decode b_Md_compile 181 = .ok (.iconst 1, 1) := by decide +kernel
theorem d_Md_compile_182 : decode b_Md_compile 182 = .ok (.aload_n 0, 1) := by decide +kernel
theorem d_Md_compile_183 : decode b_Md_compile 183 = .ok (.getfield 190, 3) := by decide +kernel
theorem d_Md_compile_186 : decode b_Md_compile 186 = .ok (.iconst 1, 1) := by decide +kernel
theorem d_Md_compile_187 : decode b_Md_compile 187 = .ok (.invokevirtual 196, 3) := by decide +kernel
theorem d_Md_compile_190 : decode b_Md_compile 190 = .ok (.aload_n 0, 1) := by decide +kernel
theorem d_Md_compile_191 : decode b_Md_compile 191 = .ok (.bipush 9, 2) := by decide +kernel
theorem d_Md_compile_193 : decode b_Md_compile 193 = .ok (.iconst 0, 1) := by decide +kernel
theorem d_Md_compile_194 : decode b_Md_compile 194 = .ok (.aload_n 0, 1) := by decide +kernel
theorem d_Md_compile_195 : decode b_Md_compile 195 = .ok (.getfield 110, 3) := by decide +kernel
theorem d_Md_compile_198 : decode b_Md_compile 198 = .ok (.iconst 2, 1) := by decide +kernel
theorem d_Md_compile_199 : decode b_Md_compile 199 = .ok (.iadd, 1) := by decide +kernel
theorem d_Md_compile_200 : decode b_Md_compile 200 = .ok (.iconst 1, 1) := by decide +kernel
theorem d_Md_compile_201 : decode b_Md_compile 201 = .ok (.invokevirtual 121, 3) := by decide +kernel
theorem d_Md_compile_204 : decode b_Md_compile 204 = .ok (.aload_n 0, 1) := by decide +kernel
theorem d_Md_compile_205 : decode b_Md_compile 205 = .ok (.bipush 19, 2) := by decide +kernel
theorem d_Md_compile_207 : decode b_Md_compile 207 = .ok (.iload_n 3, 1) := by decide +kernel
theorem d_Md_compile_208 : decode b_Md_compile 208 = .ok (.iconst 0, 1) := by decide +kernel
theorem d_Md_compile_209 : decode b_Md_compile 209 = .ok (.iconst 0, 1) := by decide +kernel
theorem d_Md_compile_210 : decode b_Md_compile 210 = .ok (.invokevirtual 121, 3) := by decide +kernel
theorem d_Md_compile_213 : decode b_Md_compile 213 = .ok (.aload_n 0, 1) := by decide +kernel
theorem d_Md_compile_214 : decode b_Md_compile 214 = .ok (.invokevirtual 207, 3) := by decide +kernel
theorem d_Md_compile_217 : decode b_Md_compile 217 = .ok (.aload_n 0, 1) := by decide +kernel
theorem d_Md_compile_218 : decode b_Md_compile 218 = .ok (.iconst 3, 1) := by decide +kernel
theorem d_Md_compile_219 : decode b_Md_compile 219 = .ok (.iconst 1, 1) := by decide +kernel
theorem d_Md_compile_220 : decode b_Md_compile 220 = .ok (.iload 6, 2) := by decide +kernel
theorem d_Md_compile_222 : decode b_Md_compile 222 = .ok (.iconst 0, 1) := by decide +kernel
theorem d_Md_compile_223 : decode b_Md_compile 223 = .ok (.invokevirtual 121, 3) := by decide +kernel
theorem d_Md_compile_226 : decode b_Md_compile 226 = .ok (.goto 7, 3) := by decide +kernel
theorem d_Md_compile_229 : decode b_Md_compile 229 = .ok (.aload_n 0, 1) := by decide +kernel
theorem d_Md_compile_230 : decode b_Md_compile 230 = .ok (.invokevirtual 207, 3) := by decide +kernel
theorem d_Md_compile_233 : decode b_Md_compile 233 = .ok (.aload_n 0, 1) := by decide +kernel
theorem d_Md_compile_234 : decode b_Md_compile 234 = .ok (.iconst 3, 1) := by decide +kernel
theorem d_Md_compile_235 : decode b_Md_compile 235 = .ok (.iconst 0, 1) := by decide +kernel
theorem d_Md_compile_236 : decode b_Md_compile 236 = .ok (.iload 5, 2) := by decide +kernel
theorem d_Md_compile_238 : decode b_Md_compile 238 = .ok (.iconst 0, 1) := by decide +kernel
theorem d_Md_compile_239 : decode b_Md_compile 239 = .ok (.invokevirtual 121, 3) := by decide +kernel
theorem d_Md_compile_242 : decode b_Md_compile 242 = .ok (.aload_n 0, 1) := by decide +kernel
theorem d_Md_compile_243 : decode b_Md_compile 243 = .ok (.iconst 0, 1) := by decide +kernel
theorem d_Md_compile_244 : decode b_Md_compile 244 = .ok (.iconst 0, 1) := by decide +kernel
theorem d_Md_compile_245 : decode b_Md_compile 245 = .ok (.iconst 0, 1) := by decide +kernel
theorem d_Md_compile_246 : decode b_Md_compile 246 = .ok (.iconst 0, 1) := by decide +kernel
theorem d_Md_compile_247 : decode b_Md_compile 247 = .ok (.invokevirtual 121, 3) := by decide +kernel
theorem d_Md_compile_250 : decode b_Md_compile 250 = .ok (.aload_n 0, 1) := by decide +kernel
theorem d_Md_compile_251 : decode b_Md_compile 251 = .ok (.getfield 110, 3) := by decide +kernel
theorem d_Md_compile_254 : decode b_Md_compile 254 = .ok (.ireturn, 1) := by decide +kernel
noncomputable def f_Md_compile  (σ : Sg) : Option (Int32 × Sg) :=
  lt_ ((if (gi σ 9 0 23) < 0 then 1 else (if (gi σ 9 0 25) = 0 then 1 else 0)) : Int32) (fun (x1 : Int32) => lt_ (si σ 9 0 0 x1) (fun σ6 => (if (gi σ6 9 0 0) ≤ 0 then (lt_ ((if (gi σ6 9 0 24) < 0 then 0 else 1) : Int32) (fun (x7 : Int32) => lt_ (si σ6 9 0 10 0) (fun σ11 => (f_Md_put 1 0 (gi σ11 9 0 23) 0 σ11).bind (fun σ12 => Option.bind (if x7 = 0 then (some (σ12)) else ((f_Md_put 1 1 (gi σ12 9 0 24) 0 σ12).bind (fun σ17 => some (σ17)))) (fun (σ14 : Sg) => bn2 (f_Md_length 0 σ14) (fun r22 σ20 => lt_ ((gi σ14 9 0 10) + r22 : Int32) (fun (x23 : Int32) => bn2 (if x7 = 0 then (some (0, σ20)) else (bn2 (f_Md_length 1 σ20) (fun r30 σ28 => lt_ ((if (gi σ28 9 0 29) = 0 then 0 else 4) : Int32) (fun (x31 : Int32) => some (r30 + x31, σ28))))) (fun (x24 : Int32) (σ25 : Sg) => lt_ (((x23 + x24) + (gi σ25 9 0 25)) + 1 : Int32) (fun (x36 : Int32) => lt_ ((if x7 = 0 then x36 else (x36 + 1)) : Int32) (fun (x37 : Int32) => bn2 (f_Md_loop 0 (x37 + 1) x37 σ25) (fun r43 σ41 => Option.bind (if x7 = 0 then ((f_Md_outputsAndResult σ41).bind (fun σ47 => some (σ47))) else (bn2 (f_Md_loop 1 x37 x36 σ41) (fun r51 σ49 => Option.bind (if (gi σ49 9 0 29) = 0 then (some (σ49)) else ((f_Md_read 0 (gi σ49 9 0 30) 0 σ49).bind (fun σ55 => (f_Md_read 1 (gi σ55 9 0 31) 1 σ55).bind (fun σ57 => (f_Md_put 9 0 ((gi σ57 9 0 10) + 2) 1 σ57).bind (fun σ59 => (f_Md_put 19 x36 0 0 σ59).bind (fun σ61 => some (σ61))))))) (fun (σ52 : Sg) => (f_Md_outputsAndResult σ52).bind (fun σ64 => (f_Md_put 3 1 r51 0 σ64).bind (fun σ66 => some (σ66))))))) (fun (σ44 : Sg) => (f_Md_put 3 0 r43 0 σ44).bind (fun σ69 => (f_Md_put 0 0 0 0 σ69).bind (fun σ71 => some (gi σ71 9 0 10, σ71))))))))))))))) else (some (0, σ6)))))
abbrev rm_Md_compile : Room := { frames := 4, cells := 0, slots := 0, locals := 95 }
set_option maxHeartbeats 4000000 in
set_option maxRecDepth 100000 in
theorem c_Md_compile (l : Launch) (X : GX) (n : Nat) {σ σ' : Sg} {r : Int32}   (hf : f_Md_compile  σ = some (r, σ')) : Met l y_Md_compile (cw y_Md_compile b_Md_compile 7 (some .int)) rm_Md_compile (PcG X n σ [.ref (xL X 9 0)]) (QcG X n σ' (some (.int r))) 0 0 (fr X n) := by
  refine g_head (own := "TableMachineModel") (by decide) rfl (Nat.le_of_ble_eq_true rfl) ?_
  intro p e s m args below meth c ls F hr hlk hP hl
  have hl : lv_has ls 7 [(0, .ref (xL X 9 0))] := hl
  show WG l X n rm_Md_compile σ' (some (.int r)) p e s m args below meth c s.heap [] (F0 m 0 ls [])
  unfold f_Md_compile at hf
  refine lv_aload_n F.1 F.2.1 d_Md_compile_0 rfl (lv_at hl 0 rfl) ?_
  refine lv_aload_n F.1 F.2.1 d_Md_compile_1 rfl (lv_at hl 0 rfl) ?_
  refine g_get F hP 9 23 0 (by decide) Nat.zero_lt_one (by decide) (v := .int (gi σ 9 0 23)) rfl w_896 d_Md_compile_2 ?_
  obtain ⟨x1, hj3, hf⟩ := lt_some2 hf
  have KJ2 : ∀ (ls : Array Slot) (H : Heap) (locs : List Loc), lv_has ls 7 [(0, .ref (xL X 9 0))] → St X n σ s.heap H locs → WG l X n rm_Md_compile σ' (some (.int r)) p e s m args below meth c H locs (F0 m 20 ls [.int x1, .ref (xL X 9 0)]) := by
    intro ls H locs hl hP
    obtain ⟨σ6, e_σ6, hf⟩ := lt_some hf
    refine g_puti F hP 9 0 0 (by decide) Nat.zero_lt_one (by decide) rfl rfl rfl rfl (Or.inl w_873) d_Md_compile_20 e_σ6 (fun H locs hP => ?_)
    refine lv_aload_n F.1 F.2.1 d_Md_compile_23 rfl (lv_at hl 0 rfl) ?_
    refine g_get F hP 9 0 0 (by decide) Nat.zero_lt_one (by decide) (v := .int (gi σ6 9 0 0)) rfl w_873 d_Md_compile_24 ?_
    refine lv_if_le F.1 F.2.1 d_Md_compile_27 rfl (fun hb73 => ?_) (fun hb73 => ?_)
    · rw [if_pos hb73] at hf
      refine lv_aload_n F.1 F.2.1 d_Md_compile_32 rfl (lv_at hl 0 rfl) ?_
      refine g_get F hP 9 24 0 (by decide) Nat.zero_lt_one (by decide) (v := .int (gi σ6 9 0 24)) rfl w_897 d_Md_compile_33 ?_
      obtain ⟨x7, hj9, hf⟩ := lt_some2 hf
      have KJ8 : ∀ (ls : Array Slot) (H : Heap) (locs : List Loc), lv_has ls 7 [(0, .ref (xL X 9 0))] → St X n σ6 s.heap H locs → WG l X n rm_Md_compile σ' (some (.int r)) p e s m args below meth c H locs (F0 m 44 ls [.int x7]) := by
        intro ls H locs hl hP
        refine lv_istore_n F.1 F.2.1 d_Md_compile_44 rfl hl (by decide) rfl (fun ls hl => ?_)
        have hl : lv_has ls 7 [(1, .int x7), (0, .ref (xL X 9 0))] := hl
        refine lv_aload_n F.1 F.2.1 d_Md_compile_45 rfl (lv_at hl 1 rfl) ?_
        refine lv_iconst (v := 0) F.1 F.2.1 d_Md_compile_46 (by decide) ?_
        obtain ⟨σ11, e_σ11, hf⟩ := lt_some hf
        refine g_puti F hP 9 10 0 (by decide) Nat.zero_lt_one (by decide) rfl rfl rfl rfl (Or.inl w_883) d_Md_compile_47 e_σ11 (fun H locs hP => ?_)
        refine lv_aload_n F.1 F.2.1 d_Md_compile_50 rfl (lv_at hl 1 rfl) ?_
        refine lv_iconst (v := 1) F.1 F.2.1 d_Md_compile_51 (by decide) ?_
        refine lv_iconst (v := 0) F.1 F.2.1 d_Md_compile_52 (by decide) ?_
        refine lv_aload_n F.1 F.2.1 d_Md_compile_53 rfl (lv_at hl 1 rfl) ?_
        refine g_get F hP 9 23 0 (by decide) Nat.zero_lt_one (by decide) (v := .int (gi σ11 9 0 23)) rfl w_896 d_Md_compile_54 ?_
        refine lv_iconst (v := 0) F.1 F.2.1 d_Md_compile_57 (by decide) ?_
        obtain ⟨σ12, hk13, hf⟩ := bnd_some hf
        refine g_callV (As := [.int 1, .int 0, .int (gi σ11 9 0 23), .int 0]) (rest := []) F hP 9 0 (by decide) Nat.zero_lt_one (c_Md_put l X n  hk13) rfl q_Md_put w_1045 w_11 w_1042 w_1044 wp_41 ⟨rfl, rfl⟩ ⟨by decide, by decide⟩ hl.1 (Nat.le_of_ble_eq_true rfl) ⟨Nat.zero_le _, Nat.zero_le _⟩ d_Md_compile_58 rfl (fun H locs hP => ?_)
        refine W.eq (g2 := F0 m 61 ls []) rfl ?_
        refine lv_iload_n F.1 F.2.1 d_Md_compile_61 rfl (lv_at hl 0 rfl) ?_
        obtain ⟨σ14, hj16, hf⟩ := bnd_some hf
        have KJ15 : ∀ (ls : Array Slot) (H : Heap) (locs : List Loc), lv_has ls 7 [(0, .ref (xL X 9 0)), (1, .int x7)] → St X n σ14 s.heap H locs → WG l X n rm_Md_compile σ' (some (.int r)) p e s m args below meth c H locs (F0 m 76 ls []) := by
          intro ls H locs hl hP
          refine lv_aload_n F.1 F.2.1 d_Md_compile_76 rfl (lv_at hl 0 rfl) ?_
          refine g_get F hP 9 10 0 (by decide) Nat.zero_lt_one (by decide) (v := .int (gi σ14 9 0 10)) rfl w_883 d_Md_compile_77 ?_
          refine lv_aload_n F.1 F.2.1 d_Md_compile_80 rfl (lv_at hl 0 rfl) ?_
          refine lv_iconst (v := 0) F.1 F.2.1 d_Md_compile_81 (by decide) ?_
          obtain ⟨r22, σ20, hk21, hf⟩ := bn2_some hf
          refine g_callV (As := [.int 0]) (rest := [.int (gi σ14 9 0 10)]) F hP 9 0 (by decide) Nat.zero_lt_one (c_Md_length l X n  hk21) rfl q_Md_length w_1142 w_11 w_1139 w_1141 wp_53 ⟨rfl, rfl⟩ ⟨by decide, by decide⟩ hl.1 (Nat.le_of_ble_eq_true rfl) ⟨Nat.zero_le _, Nat.zero_le _⟩ d_Md_compile_82 rfl (fun H locs hP => ?_)
          refine W.eq (g2 := F0 m 85 ls [.int r22, .int (gi σ14 9 0 10)]) rfl ?_
          refine lv_iadd F.1 F.2.1 d_Md_compile_85 ?_
          obtain ⟨x23, e_x23, hf⟩ := lt_some hf
          rw [← e_x23]
          refine lv_istore_n F.1 F.2.1 d_Md_compile_86 rfl hl (by decide) rfl (fun ls hl => ?_)
          have hl : lv_has ls 7 [(2, .int x23), (0, .ref (xL X 9 0)), (1, .int x7)] := hl
          refine lv_iload_n F.1 F.2.1 d_Md_compile_87 rfl (lv_at hl 0 rfl) ?_
          refine lv_iload_n F.1 F.2.1 d_Md_compile_88 rfl (lv_at hl 2 rfl) ?_
          obtain ⟨x24, σ25, hj27, hf⟩ := bn2_some hf
          have KJ26 : ∀ (ls : Array Slot) (H : Heap) (locs : List Loc), lv_has ls 7 [(0, .ref (xL X 9 0)), (1, .int x7)] → St X n σ25 s.heap H locs → WG l X n rm_Md_compile σ' (some (.int r)) p e s m args below meth c H locs (F0 m 114 ls [.int x24, .int x23]) := by
            intro ls H locs hl hP
            refine lv_iadd F.1 F.2.1 d_Md_compile_114 ?_
            refine lv_aload_n F.1 F.2.1 d_Md_compile_115 rfl (lv_at hl 0 rfl) ?_
            refine g_get F hP 9 25 0 (by decide) Nat.zero_lt_one (by decide) (v := .int (gi σ25 9 0 25)) rfl w_898 d_Md_compile_116 ?_
            refine lv_iadd F.1 F.2.1 d_Md_compile_119 ?_
            refine lv_iconst (v := 1) F.1 F.2.1 d_Md_compile_120 (by decide) ?_
            refine lv_iadd F.1 F.2.1 d_Md_compile_121 ?_
            obtain ⟨x36, e_x36, hf⟩ := lt_some hf
            rw [← e_x36]
            refine lv_istore_n F.1 F.2.1 d_Md_compile_122 rfl hl (by decide) rfl (fun ls hl => ?_)
            have hl : lv_has ls 7 [(3, .int x36), (0, .ref (xL X 9 0)), (1, .int x7)] := hl
            refine lv_iload_n F.1 F.2.1 d_Md_compile_123 rfl (lv_at hl 2 rfl) ?_
            obtain ⟨x37, hj39, hf⟩ := lt_some2 hf
            have KJ38 : ∀ (ls : Array Slot) (H : Heap) (locs : List Loc), lv_has ls 7 [(0, .ref (xL X 9 0)), (1, .int x7), (3, .int x36)] → St X n σ25 s.heap H locs → WG l X n rm_Md_compile σ' (some (.int r)) p e s m args below meth c H locs (F0 m 134 ls [.int x37]) := by
              intro ls H locs hl hP
              refine lv_istore F.1 F.2.1 d_Md_compile_134 hl (by decide) rfl (fun ls hl => ?_)
              have hl : lv_has ls 7 [(4, .int x37), (0, .ref (xL X 9 0)), (1, .int x7), (3, .int x36)] := hl
              refine lv_aload_n F.1 F.2.1 d_Md_compile_136 rfl (lv_at hl 1 rfl) ?_
              refine lv_iconst (v := 0) F.1 F.2.1 d_Md_compile_137 (by decide) ?_
              refine lv_iload F.1 F.2.1 d_Md_compile_138 (lv_at hl 0 rfl) ?_
              refine lv_iconst (v := 1) F.1 F.2.1 d_Md_compile_140 (by decide) ?_
              refine lv_iadd F.1 F.2.1 d_Md_compile_141 ?_
              refine lv_iload F.1 F.2.1 d_Md_compile_142 (lv_at hl 0 rfl) ?_
              obtain ⟨r43, σ41, hk42, hf⟩ := bn2_some hf
              refine g_callV (As := [.int 0, .int (x37 + 1), .int x37]) (rest := []) F hP 9 0 (by decide) Nat.zero_lt_one (c_Md_loop l X n  hk42) rfl q_Md_loop w_1150 w_11 w_1147 w_1149 wp_55 ⟨rfl, rfl⟩ ⟨by decide, by decide⟩ hl.1 (Nat.le_of_ble_eq_true rfl) ⟨Nat.zero_le _, Nat.zero_le _⟩ d_Md_compile_144 rfl (fun H locs hP => ?_)
              refine W.eq (g2 := F0 m 147 ls [.int r43]) rfl ?_
              refine lv_istore F.1 F.2.1 d_Md_compile_147 hl (by decide) rfl (fun ls hl => ?_)
              have hl : lv_has ls 7 [(5, .int r43), (4, .int x37), (0, .ref (xL X 9 0)), (1, .int x7), (3, .int x36)] := hl
              refine lv_iload_n F.1 F.2.1 d_Md_compile_149 rfl (lv_at hl 3 rfl) ?_
              obtain ⟨σ44, hj46, hf⟩ := bnd_some hf
              have KJ45 : ∀ (ls : Array Slot) (H : Heap) (locs : List Loc), lv_has ls 7 [(0, .ref (xL X 9 0)), (5, .int r43)] → St X n σ44 s.heap H locs → WG l X n rm_Md_compile σ' (some (.int r)) p e s m args below meth c H locs (F0 m 233 ls []) := by
                intro ls H locs hl hP
                refine lv_aload_n F.1 F.2.1 d_Md_compile_233 rfl (lv_at hl 0 rfl) ?_
                refine lv_iconst (v := 3) F.1 F.2.1 d_Md_compile_234 (by decide) ?_
                refine lv_iconst (v := 0) F.1 F.2.1 d_Md_compile_235 (by decide) ?_
                refine lv_iload F.1 F.2.1 d_Md_compile_236 (lv_at hl 1 rfl) ?_
                refine lv_iconst (v := 0) F.1 F.2.1 d_Md_compile_238 (by decide) ?_
                obtain ⟨σ69, hk70, hf⟩ := bnd_some hf
                refine g_callV (As := [.int 3, .int 0, .int r43, .int 0]) (rest := []) F hP 9 0 (by decide) Nat.zero_lt_one (c_Md_put l X n  hk70) rfl q_Md_put w_1045 w_11 w_1042 w_1044 wp_41 ⟨rfl, rfl⟩ ⟨by decide, by decide⟩ hl.1 (Nat.le_of_ble_eq_true rfl) ⟨Nat.zero_le _, Nat.zero_le _⟩ d_Md_compile_239 rfl (fun H locs hP => ?_)
                refine W.eq (g2 := F0 m 242 ls []) rfl ?_
                refine lv_aload_n F.1 F.2.1 d_Md_compile_242 rfl (lv_at hl 0 rfl) ?_
                refine lv_iconst (v := 0) F.1 F.2.1 d_Md_compile_243 (by decide) ?_
                refine lv_iconst (v := 0) F.1 F.2.1 d_Md_compile_244 (by decide) ?_
                refine lv_iconst (v := 0) F.1 F.2.1 d_Md_compile_245 (by decide) ?_
                refine lv_iconst (v := 0) F.1 F.2.1 d_Md_compile_246 (by decide) ?_
                obtain ⟨σ71, hk72, hf⟩ := bnd_some hf
                refine g_callV (As := [.int 0, .int 0, .int 0, .int 0]) (rest := []) F hP 9 0 (by decide) Nat.zero_lt_one (c_Md_put l X n  hk72) rfl q_Md_put w_1045 w_11 w_1042 w_1044 wp_41 ⟨rfl, rfl⟩ ⟨by decide, by decide⟩ hl.1 (Nat.le_of_ble_eq_true rfl) ⟨Nat.zero_le _, Nat.zero_le _⟩ d_Md_compile_247 rfl (fun H locs hP => ?_)
                refine W.eq (g2 := F0 m 250 ls []) rfl ?_
                refine lv_aload_n F.1 F.2.1 d_Md_compile_250 rfl (lv_at hl 0 rfl) ?_
                refine g_get F hP 9 10 0 (by decide) Nat.zero_lt_one (by decide) (v := .int (gi σ71 9 0 10)) rfl w_883 d_Md_compile_251 ?_
                cases hf
                exact g_iret F hP hr hlk d_Md_compile_254
              refine lv_if_eq F.1 F.2.1 d_Md_compile_150 rfl (fun hb68 => ?_) (fun hb68 => ?_)
              · rw [if_pos hb68] at hj46
                refine lv_aload_n F.1 F.2.1 d_Md_compile_229 rfl (lv_at hl 2 rfl) ?_
                obtain ⟨σ47, hk48, hj46⟩ := bnd_some hj46
                refine g_callV (As := []) (rest := []) F hP 9 0 (by decide) Nat.zero_lt_one (c_Md_outputsAndResult l X n  hk48) rfl q_Md_outputsAndResult w_1158 w_11 w_1155 w_1157 wp_57 ⟨rfl, rfl⟩ ⟨by decide, by decide⟩ hl.1 (Nat.le_of_ble_eq_true rfl) ⟨Nat.zero_le _, Nat.zero_le _⟩ d_Md_compile_230 rfl (fun H locs hP => ?_)
                refine W.eq (g2 := F0 m 233 ls []) rfl ?_
                cases hj46
                exact KJ45 _ _ _ (lv_sub hl [2, 0] rfl) hP
              · rw [if_neg hb68] at hj46
                refine lv_aload_n F.1 F.2.1 d_Md_compile_153 rfl (lv_at hl 2 rfl) ?_
                refine lv_iconst (v := 1) F.1 F.2.1 d_Md_compile_154 (by decide) ?_
                refine lv_iload F.1 F.2.1 d_Md_compile_155 (lv_at hl 1 rfl) ?_
                refine lv_iload_n F.1 F.2.1 d_Md_compile_157 rfl (lv_at hl 4 rfl) ?_
                obtain ⟨r51, σ49, hk50, hj46⟩ := bn2_some hj46
                refine g_callV (As := [.int 1, .int x37, .int x36]) (rest := []) F hP 9 0 (by decide) Nat.zero_lt_one (c_Md_loop l X n  hk50) rfl q_Md_loop w_1150 w_11 w_1147 w_1149 wp_55 ⟨rfl, rfl⟩ ⟨by decide, by decide⟩ hl.1 (Nat.le_of_ble_eq_true rfl) ⟨Nat.zero_le _, Nat.zero_le _⟩ d_Md_compile_158 rfl (fun H locs hP => ?_)
                refine W.eq (g2 := F0 m 161 ls [.int r51]) rfl ?_
                refine lv_istore F.1 F.2.1 d_Md_compile_161 hl (by decide) rfl (fun ls hl => ?_)
                have hl : lv_has ls 7 [(6, .int r51), (5, .int r43), (4, .int x37), (0, .ref (xL X 9 0)), (1, .int x7), (3, .int x36)] := hl
                refine lv_aload_n F.1 F.2.1 d_Md_compile_163 rfl (lv_at hl 3 rfl) ?_
                refine g_get F hP 9 29 0 (by decide) Nat.zero_lt_one (by decide) (v := .int (gi σ49 9 0 29)) rfl w_902 d_Md_compile_164 ?_
                obtain ⟨σ52, hj54, hj46⟩ := bnd_some hj46
                have KJ53 : ∀ (ls : Array Slot) (H : Heap) (locs : List Loc), lv_has ls 7 [(0, .ref (xL X 9 0)), (5, .int r43), (6, .int r51)] → St X n σ52 s.heap H locs → WG l X n rm_Md_compile σ' (some (.int r)) p e s m args below meth c H locs (F0 m 213 ls []) := by
                  intro ls H locs hl hP
                  refine lv_aload_n F.1 F.2.1 d_Md_compile_213 rfl (lv_at hl 0 rfl) ?_
                  obtain ⟨σ64, hk65, hj46⟩ := bnd_some hj46
                  refine g_callV (As := []) (rest := []) F hP 9 0 (by decide) Nat.zero_lt_one (c_Md_outputsAndResult l X n  hk65) rfl q_Md_outputsAndResult w_1158 w_11 w_1155 w_1157 wp_57 ⟨rfl, rfl⟩ ⟨by decide, by decide⟩ hl.1 (Nat.le_of_ble_eq_true rfl) ⟨Nat.zero_le _, Nat.zero_le _⟩ d_Md_compile_214 rfl (fun H locs hP => ?_)
                  refine W.eq (g2 := F0 m 217 ls []) rfl ?_
                  refine lv_aload_n F.1 F.2.1 d_Md_compile_217 rfl (lv_at hl 0 rfl) ?_
                  refine lv_iconst (v := 3) F.1 F.2.1 d_Md_compile_218 (by decide) ?_
                  refine lv_iconst (v := 1) F.1 F.2.1 d_Md_compile_219 (by decide) ?_
                  refine lv_iload F.1 F.2.1 d_Md_compile_220 (lv_at hl 2 rfl) ?_
                  refine lv_iconst (v := 0) F.1 F.2.1 d_Md_compile_222 (by decide) ?_
                  obtain ⟨σ66, hk67, hj46⟩ := bnd_some hj46
                  refine g_callV (As := [.int 3, .int 1, .int r51, .int 0]) (rest := []) F hP 9 0 (by decide) Nat.zero_lt_one (c_Md_put l X n  hk67) rfl q_Md_put w_1045 w_11 w_1042 w_1044 wp_41 ⟨rfl, rfl⟩ ⟨by decide, by decide⟩ hl.1 (Nat.le_of_ble_eq_true rfl) ⟨Nat.zero_le _, Nat.zero_le _⟩ d_Md_compile_223 rfl (fun H locs hP => ?_)
                  refine W.eq (g2 := F0 m 226 ls []) rfl ?_
                  refine lv_goto F.1 F.2.1 d_Md_compile_226 rfl ?_
                  cases hj46
                  exact KJ45 _ _ _ (lv_sub hl [0, 1] rfl) hP
                refine lv_if_eq F.1 F.2.1 d_Md_compile_167 rfl (fun hb63 => ?_) (fun hb63 => ?_)
                · rw [if_pos hb63] at hj54
                  cases hj54
                  exact KJ53 _ _ _ (lv_sub hl [3, 1, 0] rfl) hP
                · rw [if_neg hb63] at hj54
                  refine lv_aload_n F.1 F.2.1 d_Md_compile_170 rfl (lv_at hl 3 rfl) ?_
                  refine lv_iconst (v := 0) F.1 F.2.1 d_Md_compile_171 (by decide) ?_
                  refine lv_aload_n F.1 F.2.1 d_Md_compile_172 rfl (lv_at hl 3 rfl) ?_
                  refine g_get F hP 9 30 0 (by decide) Nat.zero_lt_one (by decide) (v := .int (gi σ49 9 0 30)) rfl w_903 d_Md_compile_173 ?_
                  refine lv_iconst (v := 0) F.1 F.2.1 d_Md_compile_176 (by decide) ?_
                  obtain ⟨σ55, hk56, hj54⟩ := bnd_some hj54
                  refine g_callV (As := [.int 0, .int (gi σ49 9 0 30), .int 0]) (rest := []) F hP 9 0 (by decide) Nat.zero_lt_one (c_Md_read l X n  hk56) rfl q_Md_read w_1154 w_11 w_1151 w_1153 wp_56 ⟨rfl, rfl⟩ ⟨by decide, by decide⟩ hl.1 (Nat.le_of_ble_eq_true rfl) ⟨Nat.zero_le _, Nat.zero_le _⟩ d_Md_compile_177 rfl (fun H locs hP => ?_)
                  refine W.eq (g2 := F0 m 180 ls []) rfl ?_
                  refine lv_aload_n F.1 F.2.1 d_Md_compile_180 rfl (lv_at hl 3 rfl) ?_
                  refine lv_iconst (v := 1) F.1 F.2.1 d_Md_compile_181 (by decide) ?_
                  refine lv_aload_n F.1 F.2.1 d_Md_compile_182 rfl (lv_at hl 3 rfl) ?_
                  refine g_get F hP 9 31 0 (by decide) Nat.zero_lt_one (by decide) (v := .int (gi σ55 9 0 31)) rfl w_904 d_Md_compile_183 ?_
                  refine lv_iconst (v := 1) F.1 F.2.1 d_Md_compile_186 (by decide) ?_
                  obtain ⟨σ57, hk58, hj54⟩ := bnd_some hj54
                  refine g_callV (As := [.int 1, .int (gi σ55 9 0 31), .int 1]) (rest := []) F hP 9 0 (by decide) Nat.zero_lt_one (c_Md_read l X n  hk58) rfl q_Md_read w_1154 w_11 w_1151 w_1153 wp_56 ⟨rfl, rfl⟩ ⟨by decide, by decide⟩ hl.1 (Nat.le_of_ble_eq_true rfl) ⟨Nat.zero_le _, Nat.zero_le _⟩ d_Md_compile_187 rfl (fun H locs hP => ?_)
                  refine W.eq (g2 := F0 m 190 ls []) rfl ?_
                  refine lv_aload_n F.1 F.2.1 d_Md_compile_190 rfl (lv_at hl 3 rfl) ?_
                  refine lv_bipush (v := 9) F.1 F.2.1 d_Md_compile_191 (by decide) ?_
                  refine lv_iconst (v := 0) F.1 F.2.1 d_Md_compile_193 (by decide) ?_
                  refine lv_aload_n F.1 F.2.1 d_Md_compile_194 rfl (lv_at hl 3 rfl) ?_
                  refine g_get F hP 9 10 0 (by decide) Nat.zero_lt_one (by decide) (v := .int (gi σ57 9 0 10)) rfl w_883 d_Md_compile_195 ?_
                  refine lv_iconst (v := 2) F.1 F.2.1 d_Md_compile_198 (by decide) ?_
                  refine lv_iadd F.1 F.2.1 d_Md_compile_199 ?_
                  refine lv_iconst (v := 1) F.1 F.2.1 d_Md_compile_200 (by decide) ?_
                  obtain ⟨σ59, hk60, hj54⟩ := bnd_some hj54
                  refine g_callV (As := [.int 9, .int 0, .int ((gi σ57 9 0 10) + 2), .int 1]) (rest := []) F hP 9 0 (by decide) Nat.zero_lt_one (c_Md_put l X n  hk60) rfl q_Md_put w_1045 w_11 w_1042 w_1044 wp_41 ⟨rfl, rfl⟩ ⟨by decide, by decide⟩ hl.1 (Nat.le_of_ble_eq_true rfl) ⟨Nat.zero_le _, Nat.zero_le _⟩ d_Md_compile_201 rfl (fun H locs hP => ?_)
                  refine W.eq (g2 := F0 m 204 ls []) rfl ?_
                  refine lv_aload_n F.1 F.2.1 d_Md_compile_204 rfl (lv_at hl 3 rfl) ?_
                  refine lv_bipush (v := 19) F.1 F.2.1 d_Md_compile_205 (by decide) ?_
                  refine lv_iload_n F.1 F.2.1 d_Md_compile_207 rfl (lv_at hl 5 rfl) ?_
                  refine lv_iconst (v := 0) F.1 F.2.1 d_Md_compile_208 (by decide) ?_
                  refine lv_iconst (v := 0) F.1 F.2.1 d_Md_compile_209 (by decide) ?_
                  obtain ⟨σ61, hk62, hj54⟩ := bnd_some hj54
                  refine g_callV (As := [.int 19, .int x36, .int 0, .int 0]) (rest := []) F hP 9 0 (by decide) Nat.zero_lt_one (c_Md_put l X n  hk62) rfl q_Md_put w_1045 w_11 w_1042 w_1044 wp_41 ⟨rfl, rfl⟩ ⟨by decide, by decide⟩ hl.1 (Nat.le_of_ble_eq_true rfl) ⟨Nat.zero_le _, Nat.zero_le _⟩ d_Md_compile_210 rfl (fun H locs hP => ?_)
                  refine W.eq (g2 := F0 m 213 ls []) rfl ?_
                  cases hj54
                  exact KJ53 _ _ _ (lv_sub hl [3, 1, 0] rfl) hP
            refine lv_if_eq F.1 F.2.1 d_Md_compile_124 rfl (fun hb40 => ?_) (fun hb40 => ?_)
            · rw [if_pos hb40] at hj39
              refine lv_iload_n F.1 F.2.1 d_Md_compile_133 rfl (lv_at hl 0 rfl) ?_
              subst hj39
              exact KJ38 _ _ _ (lv_sub hl [1, 2, 0] rfl) hP
            · rw [if_neg hb40] at hj39
              refine lv_iload_n F.1 F.2.1 d_Md_compile_127 rfl (lv_at hl 0 rfl) ?_
              refine lv_iconst (v := 1) F.1 F.2.1 d_Md_compile_128 (by decide) ?_
              refine lv_iadd F.1 F.2.1 d_Md_compile_129 ?_
              refine lv_goto F.1 F.2.1 d_Md_compile_130 rfl ?_
              subst hj39
              exact KJ38 _ _ _ (lv_sub hl [1, 2, 0] rfl) hP
          refine lv_if_eq F.1 F.2.1 d_Md_compile_89 rfl (fun hb35 => ?_) (fun hb35 => ?_)
          · rw [if_pos hb35] at hj27
            refine lv_iconst (v := 0) F.1 F.2.1 d_Md_compile_113 (by decide) ?_
            cases hj27
            exact KJ26 _ _ _ (lv_sub hl [1, 2] rfl) hP
          · rw [if_neg hb35] at hj27
            refine lv_aload_n F.1 F.2.1 d_Md_compile_92 rfl (lv_at hl 1 rfl) ?_
            refine lv_iconst (v := 1) F.1 F.2.1 d_Md_compile_93 (by decide) ?_
            obtain ⟨r30, σ28, hk29, hj27⟩ := bn2_some hj27
            refine g_callV (As := [.int 1]) (rest := [.int x23]) F hP 9 0 (by decide) Nat.zero_lt_one (c_Md_length l X n  hk29) rfl q_Md_length w_1142 w_11 w_1139 w_1141 wp_53 ⟨rfl, rfl⟩ ⟨by decide, by decide⟩ hl.1 (Nat.le_of_ble_eq_true rfl) ⟨Nat.zero_le _, Nat.zero_le _⟩ d_Md_compile_94 rfl (fun H locs hP => ?_)
            refine W.eq (g2 := F0 m 97 ls [.int r30, .int x23]) rfl ?_
            refine lv_aload_n F.1 F.2.1 d_Md_compile_97 rfl (lv_at hl 1 rfl) ?_
            refine g_get F hP 9 29 0 (by decide) Nat.zero_lt_one (by decide) (v := .int (gi σ28 9 0 29)) rfl w_902 d_Md_compile_98 ?_
            obtain ⟨x31, hj33, hj27⟩ := lt_some2 hj27
            have KJ32 : ∀ (ls : Array Slot) (H : Heap) (locs : List Loc), lv_has ls 7 [(0, .ref (xL X 9 0)), (1, .int x7)] → St X n σ28 s.heap H locs → WG l X n rm_Md_compile σ' (some (.int r)) p e s m args below meth c H locs (F0 m 109 ls [.int x31, .int r30, .int x23]) := by
              intro ls H locs hl hP
              refine lv_iadd F.1 F.2.1 d_Md_compile_109 ?_
              refine lv_goto F.1 F.2.1 d_Md_compile_110 rfl ?_
              cases hj27
              exact KJ26 _ _ _ (lv_sub hl [0, 1] rfl) hP
            refine lv_if_eq F.1 F.2.1 d_Md_compile_101 rfl (fun hb34 => ?_) (fun hb34 => ?_)
            · rw [if_pos hb34] at hj33
              refine lv_iconst (v := 0) F.1 F.2.1 d_Md_compile_108 (by decide) ?_
              subst hj33
              exact KJ32 _ _ _ (lv_sub hl [1, 2] rfl) hP
            · rw [if_neg hb34] at hj33
              refine lv_iconst (v := 4) F.1 F.2.1 d_Md_compile_104 (by decide) ?_
              refine lv_goto F.1 F.2.1 d_Md_compile_105 rfl ?_
              subst hj33
              exact KJ32 _ _ _ (lv_sub hl [1, 2] rfl) hP
        refine lv_if_eq F.1 F.2.1 d_Md_compile_62 rfl (fun hb19 => ?_) (fun hb19 => ?_)
        · rw [if_pos hb19] at hj16
          cases hj16
          exact KJ15 _ _ _ (lv_sub hl [1, 0] rfl) hP
        · rw [if_neg hb19] at hj16
          refine lv_aload_n F.1 F.2.1 d_Md_compile_65 rfl (lv_at hl 1 rfl) ?_
          refine lv_iconst (v := 1) F.1 F.2.1 d_Md_compile_66 (by decide) ?_
          refine lv_iconst (v := 1) F.1 F.2.1 d_Md_compile_67 (by decide) ?_
          refine lv_aload_n F.1 F.2.1 d_Md_compile_68 rfl (lv_at hl 1 rfl) ?_
          refine g_get F hP 9 24 0 (by decide) Nat.zero_lt_one (by decide) (v := .int (gi σ12 9 0 24)) rfl w_897 d_Md_compile_69 ?_
          refine lv_iconst (v := 0) F.1 F.2.1 d_Md_compile_72 (by decide) ?_
          obtain ⟨σ17, hk18, hj16⟩ := bnd_some hj16
          refine g_callV (As := [.int 1, .int 1, .int (gi σ12 9 0 24), .int 0]) (rest := []) F hP 9 0 (by decide) Nat.zero_lt_one (c_Md_put l X n  hk18) rfl q_Md_put w_1045 w_11 w_1042 w_1044 wp_41 ⟨rfl, rfl⟩ ⟨by decide, by decide⟩ hl.1 (Nat.le_of_ble_eq_true rfl) ⟨Nat.zero_le _, Nat.zero_le _⟩ d_Md_compile_73 rfl (fun H locs hP => ?_)
          refine W.eq (g2 := F0 m 76 ls []) rfl ?_
          cases hj16
          exact KJ15 _ _ _ (lv_sub hl [1, 0] rfl) hP
      refine lv_if_lt F.1 F.2.1 d_Md_compile_36 rfl (fun hb10 => ?_) (fun hb10 => ?_)
      · rw [if_pos hb10] at hj9
        refine lv_iconst (v := 0) F.1 F.2.1 d_Md_compile_43 (by decide) ?_
        subst hj9
        exact KJ8 _ _ _ (lv_sub hl [0] rfl) hP
      · rw [if_neg hb10] at hj9
        refine lv_iconst (v := 1) F.1 F.2.1 d_Md_compile_39 (by decide) ?_
        refine lv_goto F.1 F.2.1 d_Md_compile_40 rfl ?_
        subst hj9
        exact KJ8 _ _ _ (lv_sub hl [0] rfl) hP
    · rw [if_neg hb73] at hf
      refine lv_iconst (v := 0) F.1 F.2.1 d_Md_compile_30 (by decide) ?_
      cases hf
      exact g_iret F hP hr hlk d_Md_compile_31
  refine lv_if_lt F.1 F.2.1 d_Md_compile_5 rfl (fun hb5 => ?_) (fun hb5 => ?_)
  · rw [if_pos hb5] at hj3
    refine lv_iconst (v := 1) F.1 F.2.1 d_Md_compile_15 (by decide) ?_
    refine lv_goto F.1 F.2.1 d_Md_compile_16 rfl ?_
    subst hj3
    exact KJ2 _ _ _ (lv_sub hl [0] rfl) hP
  · rw [if_neg hb5] at hj3
    refine lv_aload_n F.1 F.2.1 d_Md_compile_8 rfl (lv_at hl 0 rfl) ?_
    refine g_get F hP 9 25 0 (by decide) Nat.zero_lt_one (by decide) (v := .int (gi σ 9 0 25)) rfl w_898 d_Md_compile_9 ?_
    refine lv_if_ne F.1 F.2.1 d_Md_compile_12 rfl (fun hb4 => ?_) (fun hb4 => ?_)
    · rw [if_neg hb4] at hj3
      refine lv_iconst (v := 0) F.1 F.2.1 d_Md_compile_19 (by decide) ?_
      subst hj3
      exact KJ2 _ _ _ (lv_sub hl [0] rfl) hP
    · rw [if_pos hb4] at hj3
      refine lv_iconst (v := 1) F.1 F.2.1 d_Md_compile_15 (by decide) ?_
      refine lv_goto F.1 F.2.1 d_Md_compile_16 rfl ?_
      subst hj3
      exact KJ2 _ _ _ (lv_sub hl [0] rfl) hP
