/-! printed by wip/gen: 14.tm -/
theorem d_TM_isTable_0 : decode b_TM_isTable 0 = .ok (.iload_n 1, 1) := by decide +kernel
theorem d_TM_isTable_1 : decode b_TM_isTable 1 = .ok (.ifCond .lt 15, 3) := by decide +kernel
theorem d_TM_isTable_4 : decode b_TM_isTable 4 = .ok (.iload_n 1, 1) := by decide +kernel
theorem d_TM_isTable_5 : decode b_TM_isTable 5 = .ok (.aload_n 0, 1) := by decide +kernel
theorem d_TM_isTable_6 : decode b_TM_isTable 6 = .ok (.getfield 96, 3) := by decide +kernel
theorem d_TM_isTable_9 : decode b_TM_isTable 9 = .ok (.if_icmp .ge 7, 3) := by decide +kernel
theorem d_TM_isTable_12 : decode b_TM_isTable 12 = .ok (.iconst 1, 1) := by decide +kernel
theorem d_TM_isTable_13 : decode b_TM_isTable 13 = .ok (.goto 4, 3) := by decide +kernel
theorem d_TM_isTable_16 : decode b_TM_isTable 16 = .ok (.iconst 0, 1) := by decide +kernel
theorem d_TM_isTable_17 : decode b_TM_isTable 17 = .ok (.ireturn, 1) := by decide +kernel
noncomputable def f_TM_isTable (a1 : Int32) (σ : Sg) : Option (Int32 × Sg) :=
  lt_ ((if a1 < 0 then 0 else (if (gi σ 0 0 2) ≤ a1 then 0 else 1)) : Int32) (fun (x1 : Int32) => chk (zb x1) (some (x1, σ)))
abbrev rm_TM_isTable : Room := { frames := 0, cells := 0, slots := 0, locals := 0 }
set_option maxHeartbeats 4000000 in
set_option maxRecDepth 100000 in
theorem c_TM_isTable (l : Launch) (X : GX) (n : Nat) {σ σ' : Sg} {r : Int32} {a1 : Int32}  (hf : f_TM_isTable a1 σ = some (r, σ')) : Met l y_TM_isTable (cw y_TM_isTable b_TM_isTable 2 (some .boolean)) rm_TM_isTable (PcG X n σ [.ref (xL X 0 0), .int a1]) (QcG X n σ' (some (.int r))) 0 0 (fr X n) := by
  refine g_head (own := "TableMachine") (by decide) rfl (Nat.le_of_ble_eq_true rfl) ?_
  intro p e s m args below meth c ls F hr hlk hP hl
  have hl : lv_has ls 2 [(0, .ref (xL X 0 0)), (1, .int a1)] := hl
  show WG l X n rm_TM_isTable σ' (some (.int r)) p e s m args below meth c s.heap [] (F0 m 0 ls [])
  unfold f_TM_isTable at hf
  refine lv_iload_n F.1 F.2.1 d_TM_isTable_0 rfl (lv_at hl 1 rfl) ?_
  obtain ⟨x1, hj3, hf⟩ := lt_some2 hf
  have KJ2 : ∀ (ls : Array Slot) (H : Heap) (locs : List Loc), lv_has ls 2 [] → St X n σ s.heap H locs → WG l X n rm_TM_isTable σ' (some (.int r)) p e s m args below meth c H locs (F0 m 17 ls [.int x1]) := by
    intro ls H locs hl hP
    obtain ⟨hz6, hf⟩ := chk_some hf
    cases hf
    exact g_zret F hP hr hlk hz6 d_TM_isTable_17
  refine lv_if_lt F.1 F.2.1 d_TM_isTable_1 rfl (fun hb5 => ?_) (fun hb5 => ?_)
  · rw [if_pos hb5] at hj3
    refine lv_iconst (v := 0) F.1 F.2.1 d_TM_isTable_16 (by decide) ?_
    subst hj3
    exact KJ2 _ _ _ (lv_sub hl [] rfl) hP
  · rw [if_neg hb5] at hj3
    refine lv_iload_n F.1 F.2.1 d_TM_isTable_4 rfl (lv_at hl 1 rfl) ?_
    refine lv_aload_n F.1 F.2.1 d_TM_isTable_5 rfl (lv_at hl 0 rfl) ?_
    refine g_get F hP 0 2 0 (by decide) Nat.zero_lt_one (by decide) (v := .int (gi σ 0 0 2)) rfl w_172 d_TM_isTable_6 ?_
    refine lv_icmp_ge F.1 F.2.1 d_TM_isTable_9 rfl (fun hb4 => ?_) (fun hb4 => ?_)
    · rw [if_pos hb4] at hj3
      refine lv_iconst (v := 0) F.1 F.2.1 d_TM_isTable_16 (by decide) ?_
      subst hj3
      exact KJ2 _ _ _ (lv_sub hl [] rfl) hP
    · rw [if_neg hb4] at hj3
      refine lv_iconst (v := 1) F.1 F.2.1 d_TM_isTable_12 (by decide) ?_
      refine lv_goto F.1 F.2.1 d_TM_isTable_13 rfl ?_
      subst hj3
      exact KJ2 _ _ _ (lv_sub hl [] rfl) hP

theorem d_TM_set_0 : decode b_TM_set 0 = .ok (.iload_n 1, 1) := by decide +kernel
theorem d_TM_set_1 : decode b_TM_set 1 = .ok (.ifCond .lt 8, 3) := by decide +kernel
theorem d_TM_set_4 : decode b_TM_set 4 = .ok (.iload_n 1, 1) := by decide +kernel
theorem d_TM_set_5 : decode b_TM_set 5 = .ok (.iconst 4, 1) := by decide +kernel
theorem d_TM_set_6 : decode b_TM_set 6 = .ok (.if_icmp .lt 5, 3) := by decide +kernel
theorem d_TM_set_9 : decode b_TM_set 9 = .ok (.iconst 0, 1) := by decide +kernel
theorem d_TM_set_10 : decode b_TM_set 10 = .ok (.ireturn, 1) := by decide +kernel
theorem d_TM_set_11 : decode b_TM_set 11 = .ok (.iload_n 2, 1) := by decide +kernel
theorem d_TM_set_12 : decode b_TM_set 12 = .ok (.ifCond .eq 19, 3) := by decide +kernel
theorem d_TM_set_15 : decode b_TM_set 15 = .ok (.aload_n 0, 1) := by decide +kernel
theorem d_TM_set_16 : decode b_TM_set 16 = .ok (.getfield 25, 3) := by decide +kernel
theorem d_TM_set_19 : decode b_TM_set 19 = .ok (.getfield 109, 3) := by decide +kernel
theorem d_TM_set_22 : decode b_TM_set 22 = .ok (.iload_n 1, 1) := by decide +kernel
theorem d_TM_set_23 : decode b_TM_set 23 = .ok (.aaload, 1) := by decide +kernel
theorem d_TM_set_24 : decode b_TM_set 24 = .ok (.lload_n 3, 1) := by decide +kernel
theorem d_TM_set_25 : decode b_TM_set 25 = .ok (.invokevirtual 111, 3) := by decide +kernel
theorem d_TM_set_28 : decode b_TM_set 28 = .ok (.goto 15, 3) := by decide +kernel
theorem d_TM_set_31 : decode b_TM_set 31 = .ok (.aload_n 0, 1) := by decide +kernel
theorem d_TM_set_32 : decode b_TM_set 32 = .ok (.getfield 25, 3) := by decide +kernel
theorem d_TM_set_35 : decode b_TM_set 35 = .ok (.getfield 109, 3) := by decide +kernel
theorem d_TM_set_38 : decode b_TM_set 38 = .ok (.iload_n 1, 1) := by decide +kernel
theorem d_TM_set_39 : decode b_TM_set 39 = .ok (.aaload, 1) := by decide +kernel
theorem d_TM_set_40 : decode b_TM_set 40 = .ok (.invokevirtual 115, 3) := by decide +kernel
theorem d_TM_set_43 : decode b_TM_set 43 = .ok (.iconst 1, 1) := by decide +kernel
theorem d_TM_set_44 : decode b_TM_set 44 = .ok (.ireturn, 1) := by decide +kernel
noncomputable def f_TM_set (a1 : Int32) (a2 : Int32) (a3 : Int64) (σ : Sg) : Option (Int32 × Sg) :=
  (if a1 < 0 then (some (0, σ)) else (if a1 < 4 then (Option.bind (if a2 = 0 then (chk (vp_in a1 4) ((f_Vl_none (4 * 0 + a1.toNatClampNeg) σ).bind (fun σ5 => some (σ5)))) else (chk (vp_in a1 4) ((f_Vl_to (4 * 0 + a1.toNatClampNeg) a3 σ).bind (fun σ8 => some (σ8))))) (fun (σ1 : Sg) => some (1, σ1))) else (some (0, σ))))
abbrev rm_TM_set : Room := { frames := 1, cells := 0, slots := 0, locals := 22 }
set_option maxHeartbeats 4000000 in
set_option maxRecDepth 100000 in
theorem c_TM_set (l : Launch) (X : GX) (n : Nat) {σ σ' : Sg} {r : Int32} {a1 : Int32} {a2 : Int32} {a3 : Int64}  (hf : f_TM_set a1 a2 a3 σ = some (r, σ')) : Met l y_TM_set (cw y_TM_set b_TM_set 5 (some .boolean)) rm_TM_set (PcG X n σ [.ref (xL X 0 0), .int a1, .int a2, .long a3]) (QcG X n σ' (some (.int r))) 0 0 (fr X n) := by
  refine g_head (own := "TableMachine") (by decide) rfl (Nat.le_of_ble_eq_true rfl) ?_
  intro p e s m args below meth c ls F hr hlk hP hl
  have hl : lv_has ls 5 [(0, .ref (xL X 0 0)), (1, .int a1), (2, .int a2), (3, .long a3)] := hl
  show WG l X n rm_TM_set σ' (some (.int r)) p e s m args below meth c s.heap [] (F0 m 0 ls [])
  unfold f_TM_set at hf
  refine lv_iload_n F.1 F.2.1 d_TM_set_0 rfl (lv_at hl 1 rfl) ?_
  refine lv_if_lt F.1 F.2.1 d_TM_set_1 rfl (fun hb12 => ?_) (fun hb12 => ?_)
  · rw [if_pos hb12] at hf
    refine lv_iconst (v := 0) F.1 F.2.1 d_TM_set_9 (by decide) ?_
    cases hf
    exact g_zret F hP hr hlk zb0 d_TM_set_10
  · rw [if_neg hb12] at hf
    refine lv_iload_n F.1 F.2.1 d_TM_set_4 rfl (lv_at hl 1 rfl) ?_
    refine lv_iconst (v := 4) F.1 F.2.1 d_TM_set_5 (by decide) ?_
    refine lv_icmp_lt F.1 F.2.1 d_TM_set_6 rfl (fun hb11 => ?_) (fun hb11 => ?_)
    · rw [if_pos hb11] at hf
      refine lv_iload_n F.1 F.2.1 d_TM_set_11 rfl (lv_at hl 2 rfl) ?_
      obtain ⟨σ1, hj3, hf⟩ := bnd_some hf
      have KJ2 : ∀ (ls : Array Slot) (H : Heap) (locs : List Loc), lv_has ls 5 [] → St X n σ1 s.heap H locs → WG l X n rm_TM_set σ' (some (.int r)) p e s m args below meth c H locs (F0 m 43 ls []) := by
        intro ls H locs hl hP
        refine lv_iconst (v := 1) F.1 F.2.1 d_TM_set_43 (by decide) ?_
        cases hf
        exact g_zret F hP hr hlk zb1 d_TM_set_44
      refine lv_if_eq F.1 F.2.1 d_TM_set_12 rfl (fun hb10 => ?_) (fun hb10 => ?_)
      · rw [if_pos hb10] at hj3
        refine lv_aload_n F.1 F.2.1 d_TM_set_31 rfl (lv_at hl 0 rfl) ?_
        refine g_get F hP 0 4 0 (by decide) Nat.zero_lt_one (by decide) (v := .ref (xL X 4 0)) rfl w_174 d_TM_set_32 ?_
        refine g_getN F hP 4 0 0 (by decide) o02 (by decide) (v := .ref (xL X 15 0)) rfl w_95 d_TM_set_35 ?_
        refine lv_iload_n F.1 F.2.1 d_TM_set_38 rfl (lv_at hl 1 rfl) ?_
        obtain ⟨hc4, hj3⟩ := chk_some hj3
        refine g_rld F hP 15 (by decide) (by decide) o02 rfl hc4 (v := .ref (xL X 5 (4 * 0 + a1.toNatClampNeg))) rfl d_TM_set_39 ?_
        obtain ⟨σ5, hk6, hj3⟩ := bnd_some hj3
        refine g_callV (As := []) (rest := []) F hP 5 (4 * 0 + a1.toNatClampNeg) (by decide) (ve15 o02 hc4) (c_Vl_none l X n (ve15 o02 hc4) hk6) rfl q_Vl_none w_254 w_5 w_251 w_252 w_253 ⟨rfl, rfl⟩ ⟨by decide, by decide⟩ hl.1 (Nat.le_of_ble_eq_true rfl) ⟨Nat.zero_le _, Nat.zero_le _⟩ d_TM_set_40 rfl (fun H locs hP => ?_)
        refine W.eq (g2 := F0 m 43 ls []) rfl ?_
        cases hj3
        exact KJ2 _ _ _ (lv_sub hl [] rfl) hP
      · rw [if_neg hb10] at hj3
        refine lv_aload_n F.1 F.2.1 d_TM_set_15 rfl (lv_at hl 0 rfl) ?_
        refine g_get F hP 0 4 0 (by decide) Nat.zero_lt_one (by decide) (v := .ref (xL X 4 0)) rfl w_174 d_TM_set_16 ?_
        refine g_getN F hP 4 0 0 (by decide) o02 (by decide) (v := .ref (xL X 15 0)) rfl w_95 d_TM_set_19 ?_
        refine lv_iload_n F.1 F.2.1 d_TM_set_22 rfl (lv_at hl 1 rfl) ?_
        obtain ⟨hc7, hj3⟩ := chk_some hj3
        refine g_rld F hP 15 (by decide) (by decide) o02 rfl hc7 (v := .ref (xL X 5 (4 * 0 + a1.toNatClampNeg))) rfl d_TM_set_23 ?_
        refine lv_lload_n F.1 F.2.1 d_TM_set_24 rfl (lv_at hl 3 rfl) ?_
        obtain ⟨σ8, hk9, hj3⟩ := bnd_some hj3
        refine g_callV (As := [.long a3]) (rest := []) F hP 5 (4 * 0 + a1.toNatClampNeg) (by decide) (ve15 o02 hc7) (c_Vl_to l X n (ve15 o02 hc7) hk9) rfl q_Vl_to w_250 w_5 w_247 w_248 w_249 ⟨rfl, rfl⟩ ⟨by decide, by decide⟩ hl.1 (Nat.le_of_ble_eq_true rfl) ⟨Nat.zero_le _, Nat.zero_le _⟩ d_TM_set_25 rfl (fun H locs hP => ?_)
        refine W.eq (g2 := F0 m 28 ls []) rfl ?_
        refine lv_goto F.1 F.2.1 d_TM_set_28 rfl ?_
        cases hj3
        exact KJ2 _ _ _ (lv_sub hl [] rfl) hP
    · rw [if_neg hb11] at hf
      refine lv_iconst (v := 0) F.1 F.2.1 d_TM_set_9 (by decide) ?_
      cases hf
      exact g_zret F hP hr hlk zb0 d_TM_set_10

theorem d_TM_count_0 : decode b_TM_count 0 = .ok (.aload_n 0, 1) := by decide +kernel
theorem d_TM_count_1 : decode b_TM_count 1 = .ok (.iload_n 1, 1) := by decide +kernel
theorem d_TM_count_2 : decode b_TM_count 2 = .ok (.invokevirtual 118, 3) := by decide +kernel
theorem d_TM_count_5 : decode b_TM_count 5 = .ok (.ifCond .eq 15, 3) := by decide +kernel
theorem d_TM_count_8 : decode b_TM_count 8 = .ok (.aload_n 0, 1) := by decide +kernel
theorem d_TM_count_9 : decode b_TM_count 9 = .ok (.getfield 18, 3) := by decide +kernel
theorem d_TM_count_12 : decode b_TM_count 12 = .ok (.iload_n 1, 1) := by decide +kernel
theorem d_TM_count_13 : decode b_TM_count 13 = .ok (.aaload, 1) := by decide +kernel
theorem d_TM_count_14 : decode b_TM_count 14 = .ok (.getfield 136, 3) := by decide +kernel
theorem d_TM_count_17 : decode b_TM_count 17 = .ok (.goto 4, 3) := by decide +kernel
theorem d_TM_count_20 : decode b_TM_count 20 = .ok (.iconst (-1), 1) := by decide +kernel
theorem d_TM_count_21 : decode b_TM_count 21 = .ok (.ireturn, 1) := by decide +kernel
noncomputable def f_TM_count (a1 : Int32) (σ : Sg) : Option (Int32 × Sg) :=
  bn2 (f_TM_isTable a1 σ) (fun r3 σ1 => Option.bind (if r3 = 0 then (some ((-1))) else (chk (vp_in a1 3) (chk (a1.toNatClampNeg < nt σ1) (some (gi σ1 3 a1.toNatClampNeg 3))))) (fun (x4 : Int32) => some (x4, σ1)))
abbrev rm_TM_count : Room := { frames := 1, cells := 0, slots := 0, locals := 21 }
set_option maxHeartbeats 4000000 in
set_option maxRecDepth 100000 in
theorem c_TM_count (l : Launch) (X : GX) (n : Nat) {σ σ' : Sg} {r : Int32} {a1 : Int32}  (hf : f_TM_count a1 σ = some (r, σ')) : Met l y_TM_count (cw y_TM_count b_TM_count 2 (some .int)) rm_TM_count (PcG X n σ [.ref (xL X 0 0), .int a1]) (QcG X n σ' (some (.int r))) 0 0 (fr X n) := by
  refine g_head (own := "TableMachine") (by decide) rfl (Nat.le_of_ble_eq_true rfl) ?_
  intro p e s m args below meth c ls F hr hlk hP hl
  have hl : lv_has ls 2 [(0, .ref (xL X 0 0)), (1, .int a1)] := hl
  show WG l X n rm_TM_count σ' (some (.int r)) p e s m args below meth c s.heap [] (F0 m 0 ls [])
  unfold f_TM_count at hf
  refine lv_aload_n F.1 F.2.1 d_TM_count_0 rfl (lv_at hl 0 rfl) ?_
  refine lv_iload_n F.1 F.2.1 d_TM_count_1 rfl (lv_at hl 1 rfl) ?_
  obtain ⟨r3, σ1, hk2, hf⟩ := bn2_some hf
  refine g_callV (As := [.int a1]) (rest := []) F hP 0 0 (by decide) Nat.zero_lt_one (c_TM_isTable l X n  hk2) rfl q_TM_isTable w_262 w_1 w_259 w_261 wp_0 ⟨rfl, rfl⟩ ⟨by decide, by decide⟩ hl.1 (Nat.le_of_ble_eq_true rfl) ⟨Nat.zero_le _, Nat.zero_le _⟩ d_TM_count_2 rfl (fun H locs hP => ?_)
  refine W.eq (g2 := F0 m 5 ls [.int r3]) rfl ?_
  obtain ⟨x4, hj6, hf⟩ := bnd_some hf
  have KJ5 : ∀ (ls : Array Slot) (H : Heap) (locs : List Loc), lv_has ls 2 [] → St X n σ1 s.heap H locs → WG l X n rm_TM_count σ' (some (.int r)) p e s m args below meth c H locs (F0 m 21 ls [.int x4]) := by
    intro ls H locs hl hP
    cases hf
    exact g_iret F hP hr hlk d_TM_count_21
  refine lv_if_eq F.1 F.2.1 d_TM_count_5 rfl (fun hb10 => ?_) (fun hb10 => ?_)
  · rw [if_pos hb10] at hj6
    refine lv_iconst (v := (-1)) F.1 F.2.1 d_TM_count_20 (by decide) ?_
    cases hj6
    exact KJ5 _ _ _ (lv_sub hl [] rfl) hP
  · rw [if_neg hb10] at hj6
    refine lv_aload_n F.1 F.2.1 d_TM_count_8 rfl (lv_at hl 0 rfl) ?_
    refine g_get F hP 0 1 0 (by decide) Nat.zero_lt_one (by decide) (v := .ref (xL X 17 0)) rfl w_171 d_TM_count_9 ?_
    refine lv_iload_n F.1 F.2.1 d_TM_count_12 rfl (lv_at hl 1 rfl) ?_
    obtain ⟨hc7, hj6⟩ := chk_some hj6
    obtain ⟨hc8, hj6⟩ := chk_some hj6
    have hv9 : a1.toNatClampNeg < cnt n 3 := hP.lt hc8
    refine g_rld F hP 17 (by decide) (by decide) Nat.zero_lt_one rfl hc7 (v := .ref (xL X 3 a1.toNatClampNeg)) (av_tab hc8) d_TM_count_13 ?_
    refine g_getN F hP 3 3 a1.toNatClampNeg (by decide) hv9 (by decide) (v := .int (gi σ1 3 a1.toNatClampNeg 3)) rfl w_400 d_TM_count_14 ?_
    refine lv_goto F.1 F.2.1 d_TM_count_17 rfl ?_
    cases hj6
    exact KJ5 _ _ _ (lv_sub hl [] rfl) hP

theorem d_TM_fits_0 : decode b_TM_fits 0 = .ok (.iload_n 0, 1) := by decide +kernel
theorem d_TM_fits_1 : decode b_TM_fits 1 = .ok (.tableswitch 196 99 116 #[87, 196, 196, 196, 196, 196, 148, 180, 117, 196, 196, 164, 196, 196, 196, 132, 196, 102], 87) := by decide +kernel
theorem d_TM_fits_88 : decode b_TM_fits 88 = .ok (.iload_n 1, 1) := by decide +kernel
theorem d_TM_fits_89 : decode b_TM_fits 89 = .ok (.ifCond .lt 12, 3) := by decide +kernel
theorem d_TM_fits_92 : decode b_TM_fits 92 = .ok (.iload_n 1, 1) := by decide +kernel
theorem d_TM_fits_93 : decode b_TM_fits 93 = .ok (.iconst 3, 1) := by decide +kernel
theorem d_TM_fits_94 : decode b_TM_fits 94 = .ok (.if_icmp .ge 7, 3) := by decide +kernel
theorem d_TM_fits_97 : decode b_TM_fits 97 = .ok (.iconst 1, 1) := by decide +kernel
theorem d_TM_fits_98 : decode b_TM_fits 98 = .ok (.goto 4, 3) := by decide +kernel
theorem d_TM_fits_101 : decode b_TM_fits 101 = .ok (.iconst 0, 1) := by decide +kernel
theorem d_TM_fits_102 : decode b_TM_fits 102 = .ok (.ireturn, 1) := by decide +kernel
theorem d_TM_fits_103 : decode b_TM_fits 103 = .ok (.iload_n 1, 1) := by decide +kernel
theorem d_TM_fits_104 : decode b_TM_fits 104 = .ok (.ifCond .lt 12, 3) := by decide +kernel
theorem d_TM_fits_107 : decode b_TM_fits 107 = .ok (.iload_n 1, 1) := by decide +kernel
theorem d_TM_fits_108 : decode b_TM_fits 108 = .ok (.iconst 3, 1) := by decide +kernel
theorem d_TM_fits_109 : decode b_TM_fits 109 = .ok (.if_icmp .ge 7, 3) := by decide +kernel
theorem d_TM_fits_112 : decode b_TM_fits 112 = .ok (.iconst 1, 1) := by decide +kernel
theorem d_TM_fits_113 : decode b_TM_fits 113 = .ok (.goto 4, 3) := by decide +kernel
theorem d_TM_fits_116 : decode b_TM_fits 116 = .ok (.iconst 0, 1) := by decide +kernel
theorem d_TM_fits_117 : decode b_TM_fits 117 = .ok (.ireturn, 1) := by decide +kernel
theorem d_TM_fits_118 : decode b_TM_fits 118 = .ok (.iload_n 1, 1) := by decide +kernel
theorem d_TM_fits_119 : decode b_TM_fits 119 = .ok (.ifCond .lt 12, 3) := by decide +kernel
theorem d_TM_fits_122 : decode b_TM_fits 122 = .ok (.iload_n 1, 1) := by decide +kernel
theorem d_TM_fits_123 : decode b_TM_fits 123 = .ok (.iconst 4, 1) := by decide +kernel
theorem d_TM_fits_124 : decode b_TM_fits 124 = .ok (.if_icmp .ge 7, 3) := by decide +kernel
theorem d_TM_fits_127 : decode b_TM_fits 127 = .ok (.iconst 1, 1) := by decide +kernel
theorem d_TM_fits_128 : decode b_TM_fits 128 = .ok (.goto 4, 3) := by decide +kernel
theorem d_TM_fits_131 : decode b_TM_fits 131 = .ok (.iconst 0, 1) := by decide +kernel
theorem d_TM_fits_132 : decode b_TM_fits 132 = .ok (.ireturn, 1) := by decide +kernel
theorem d_TM_fits_133 : decode b_TM_fits 133 = .ok (.iload_n 1, 1) := by decide +kernel
theorem d_TM_fits_134 : decode b_TM_fits 134 = .ok (.ifCond .lt 13, 3) := by decide +kernel
theorem d_TM_fits_137 : decode b_TM_fits 137 = .ok (.iload_n 1, 1) := by decide +kernel
theorem d_TM_fits_138 : decode b_TM_fits 138 = .ok (.bipush 16, 2) := by decide +kernel
theorem d_TM_fits_140 : decode b_TM_fits 140 = .ok (.if_icmp .ge 7, 3) := by decide +kernel
theorem d_TM_fits_143 : decode b_TM_fits 143 = .ok (.iconst 1, 1) := by decide +kernel
theorem d_TM_fits_144 : decode b_TM_fits 144 = .ok (.goto 4, 3) := by decide +kernel
theorem d_TM_fits_147 : decode b_TM_fits 147 = .ok (.iconst 0, 1) := by decide +kernel
theorem d_TM_fits_148 : decode b_TM_fits 148 = .ok (.ireturn, 1) := by decide +kernel
theorem d_TM_fits_149 : decode b_TM_fits 149 = .ok (.iload_n 1, 1) := by decide +kernel
theorem d_TM_fits_150 : decode b_TM_fits 150 = .ok (.ifCond .lt 13, 3) := by decide +kernel
theorem d_TM_fits_153 : decode b_TM_fits 153 = .ok (.iload_n 1, 1) := by decide +kernel
theorem d_TM_fits_154 : decode b_TM_fits 154 = .ok (.bipush 12, 2) := by decide +kernel
theorem d_TM_fits_156 : decode b_TM_fits 156 = .ok (.if_icmp .ge 7, 3) := by decide +kernel
theorem d_TM_fits_159 : decode b_TM_fits 159 = .ok (.iconst 1, 1) := by decide +kernel
theorem d_TM_fits_160 : decode b_TM_fits 160 = .ok (.goto 4, 3) := by decide +kernel
theorem d_TM_fits_163 : decode b_TM_fits 163 = .ok (.iconst 0, 1) := by decide +kernel
theorem d_TM_fits_164 : decode b_TM_fits 164 = .ok (.ireturn, 1) := by decide +kernel
theorem d_TM_fits_165 : decode b_TM_fits 165 = .ok (.iload_n 1, 1) := by decide +kernel
theorem d_TM_fits_166 : decode b_TM_fits 166 = .ok (.iconst 1, 1) := by decide +kernel
theorem d_TM_fits_167 : decode b_TM_fits 167 = .ok (.if_icmp .lt 12, 3) := by decide +kernel
theorem d_TM_fits_170 : decode b_TM_fits 170 = .ok (.iload_n 1, 1) := by decide +kernel
theorem d_TM_fits_171 : decode b_TM_fits 171 = .ok (.iconst 4, 1) := by decide +kernel
theorem d_TM_fits_172 : decode b_TM_fits 172 = .ok (.if_icmp .gt 7, 3) := by decide +kernel
theorem d_TM_fits_175 : decode b_TM_fits 175 = .ok (.iconst 1, 1) := by decide +kernel
theorem d_TM_fits_176 : decode b_TM_fits 176 = .ok (.goto 4, 3) := by decide +kernel
theorem d_TM_fits_179 : decode b_TM_fits 179 = .ok (.iconst 0, 1) := by decide +kernel
theorem d_TM_fits_180 : decode b_TM_fits 180 = .ok (.ireturn, 1) := by decide +kernel
theorem d_TM_fits_181 : decode b_TM_fits 181 = .ok (.iload_n 1, 1) := by decide +kernel
theorem d_TM_fits_182 : decode b_TM_fits 182 = .ok (.ifCond .lt 13, 3) := by decide +kernel
theorem d_TM_fits_185 : decode b_TM_fits 185 = .ok (.iload_n 1, 1) := by decide +kernel
theorem d_TM_fits_186 : decode b_TM_fits 186 = .ok (.bipush 60, 2) := by decide +kernel
theorem d_TM_fits_188 : decode b_TM_fits 188 = .ok (.if_icmp .gt 7, 3) := by decide +kernel
theorem d_TM_fits_191 : decode b_TM_fits 191 = .ok (.iconst 1, 1) := by decide +kernel
theorem d_TM_fits_192 : decode b_TM_fits 192 = .ok (.goto 4, 3) := by decide +kernel
theorem d_TM_fits_195 : decode b_TM_fits 195 = .ok (.iconst 0, 1) := by decide +kernel
theorem d_TM_fits_196 : decode b_TM_fits 196 = .ok (.ireturn, 1) := by decide +kernel
theorem d_TM_fits_197 : decode b_TM_fits 197 = .ok (.iconst 1, 1) := by decide +kernel
theorem d_TM_fits_198 : decode b_TM_fits 198 = .ok (.ireturn, 1) := by decide +kernel
noncomputable def f_TM_fits (a0 : Int32) (a1 : Int32) (σ : Sg) : Option (Int32 × Sg) :=
  (if a0 = 99 then (lt_ ((if a1 < 0 then 0 else (if 3 ≤ a1 then 0 else 1)) : Int32) (fun (x2 : Int32) => chk (zb x2) (some (x2, σ)))) else (if a0 = 105 then (lt_ ((if a1 < 0 then 0 else (if 12 ≤ a1 then 0 else 1)) : Int32) (fun (x8 : Int32) => chk (zb x8) (some (x8, σ)))) else (if a0 = 106 then (lt_ ((if a1 < 0 then 0 else (if 60 < a1 then 0 else 1)) : Int32) (fun (x14 : Int32) => chk (zb x14) (some (x14, σ)))) else (if a0 = 107 then (lt_ ((if a1 < 0 then 0 else (if 4 ≤ a1 then 0 else 1)) : Int32) (fun (x20 : Int32) => chk (zb x20) (some (x20, σ)))) else (if a0 = 110 then (lt_ ((if a1 < 1 then 0 else (if 4 < a1 then 0 else 1)) : Int32) (fun (x26 : Int32) => chk (zb x26) (some (x26, σ)))) else (if a0 = 114 then (lt_ ((if a1 < 0 then 0 else (if 16 ≤ a1 then 0 else 1)) : Int32) (fun (x32 : Int32) => chk (zb x32) (some (x32, σ)))) else (if a0 = 116 then (lt_ ((if a1 < 0 then 0 else (if 3 ≤ a1 then 0 else 1)) : Int32) (fun (x38 : Int32) => chk (zb x38) (some (x38, σ)))) else (some (1, σ)))))))))
abbrev rm_TM_fits : Room := { frames := 0, cells := 0, slots := 0, locals := 0 }
set_option maxHeartbeats 4000000 in
set_option maxRecDepth 100000 in
theorem c_TM_fits (l : Launch) (X : GX) (n : Nat) {σ σ' : Sg} {r : Int32} {a0 : Int32} {a1 : Int32}  (hf : f_TM_fits a0 a1 σ = some (r, σ')) : Met l y_TM_fits (cw y_TM_fits b_TM_fits 2 (some .boolean)) rm_TM_fits (PcG X n σ [.int a0, .int a1]) (QcG X n σ' (some (.int r))) 0 0 (fr X n) := by
  refine g_head (own := "TableMachine") (by decide) rfl (Nat.le_of_ble_eq_true rfl) ?_
  intro p e s m args below meth c ls F hr hlk hP hl
  have hl : lv_has ls 2 [(0, .int a0), (1, .int a1)] := hl
  show WG l X n rm_TM_fits σ' (some (.int r)) p e s m args below meth c s.heap [] (F0 m 0 ls [])
  unfold f_TM_fits at hf
  refine lv_iload_n F.1 F.2.1 d_TM_fits_0 rfl (lv_at hl 0 rfl) ?_
  by_cases hs1_99 : a0 = 99
  · rw [if_pos hs1_99] at hf
    refine lv_tableIn F.1 F.2.1 d_TM_fits_1 (by rw [hs1_99]; decide) (by rw [hs1_99]; decide) (off := 87) (by rw [hs1_99]; decide) rfl ?_
    refine lv_iload_n F.1 F.2.1 d_TM_fits_88 rfl (lv_at hl 1 rfl) ?_
    obtain ⟨x2, hj4, hf⟩ := lt_some2 hf
    have KJ3 : ∀ (ls : Array Slot) (H : Heap) (locs : List Loc), lv_has ls 2 [] → St X n σ s.heap H locs → WG l X n rm_TM_fits σ' (some (.int r)) p e s m args below meth c H locs (F0 m 102 ls [.int x2]) := by
      intro ls H locs hl hP
      obtain ⟨hz7, hf⟩ := chk_some hf
      cases hf
      exact g_zret F hP hr hlk hz7 d_TM_fits_102
    refine lv_if_lt F.1 F.2.1 d_TM_fits_89 rfl (fun hb6 => ?_) (fun hb6 => ?_)
    · rw [if_pos hb6] at hj4
      refine lv_iconst (v := 0) F.1 F.2.1 d_TM_fits_101 (by decide) ?_
      subst hj4
      exact KJ3 _ _ _ (lv_sub hl [] rfl) hP
    · rw [if_neg hb6] at hj4
      refine lv_iload_n F.1 F.2.1 d_TM_fits_92 rfl (lv_at hl 1 rfl) ?_
      refine lv_iconst (v := 3) F.1 F.2.1 d_TM_fits_93 (by decide) ?_
      refine lv_icmp_ge F.1 F.2.1 d_TM_fits_94 rfl (fun hb5 => ?_) (fun hb5 => ?_)
      · rw [if_pos hb5] at hj4
        refine lv_iconst (v := 0) F.1 F.2.1 d_TM_fits_101 (by decide) ?_
        subst hj4
        exact KJ3 _ _ _ (lv_sub hl [] rfl) hP
      · rw [if_neg hb5] at hj4
        refine lv_iconst (v := 1) F.1 F.2.1 d_TM_fits_97 (by decide) ?_
        refine lv_goto F.1 F.2.1 d_TM_fits_98 rfl ?_
        subst hj4
        exact KJ3 _ _ _ (lv_sub hl [] rfl) hP
  rw [if_neg hs1_99] at hf
  by_cases hs1_105 : a0 = 105
  · rw [if_pos hs1_105] at hf
    refine lv_tableIn F.1 F.2.1 d_TM_fits_1 (by rw [hs1_105]; decide) (by rw [hs1_105]; decide) (off := 148) (by rw [hs1_105]; decide) rfl ?_
    refine lv_iload_n F.1 F.2.1 d_TM_fits_149 rfl (lv_at hl 1 rfl) ?_
    obtain ⟨x8, hj10, hf⟩ := lt_some2 hf
    have KJ9 : ∀ (ls : Array Slot) (H : Heap) (locs : List Loc), lv_has ls 2 [] → St X n σ s.heap H locs → WG l X n rm_TM_fits σ' (some (.int r)) p e s m args below meth c H locs (F0 m 164 ls [.int x8]) := by
      intro ls H locs hl hP
      obtain ⟨hz13, hf⟩ := chk_some hf
      cases hf
      exact g_zret F hP hr hlk hz13 d_TM_fits_164
    refine lv_if_lt F.1 F.2.1 d_TM_fits_150 rfl (fun hb12 => ?_) (fun hb12 => ?_)
    · rw [if_pos hb12] at hj10
      refine lv_iconst (v := 0) F.1 F.2.1 d_TM_fits_163 (by decide) ?_
      subst hj10
      exact KJ9 _ _ _ (lv_sub hl [] rfl) hP
    · rw [if_neg hb12] at hj10
      refine lv_iload_n F.1 F.2.1 d_TM_fits_153 rfl (lv_at hl 1 rfl) ?_
      refine lv_bipush (v := 12) F.1 F.2.1 d_TM_fits_154 (by decide) ?_
      refine lv_icmp_ge F.1 F.2.1 d_TM_fits_156 rfl (fun hb11 => ?_) (fun hb11 => ?_)
      · rw [if_pos hb11] at hj10
        refine lv_iconst (v := 0) F.1 F.2.1 d_TM_fits_163 (by decide) ?_
        subst hj10
        exact KJ9 _ _ _ (lv_sub hl [] rfl) hP
      · rw [if_neg hb11] at hj10
        refine lv_iconst (v := 1) F.1 F.2.1 d_TM_fits_159 (by decide) ?_
        refine lv_goto F.1 F.2.1 d_TM_fits_160 rfl ?_
        subst hj10
        exact KJ9 _ _ _ (lv_sub hl [] rfl) hP
  rw [if_neg hs1_105] at hf
  by_cases hs1_106 : a0 = 106
  · rw [if_pos hs1_106] at hf
    refine lv_tableIn F.1 F.2.1 d_TM_fits_1 (by rw [hs1_106]; decide) (by rw [hs1_106]; decide) (off := 180) (by rw [hs1_106]; decide) rfl ?_
    refine lv_iload_n F.1 F.2.1 d_TM_fits_181 rfl (lv_at hl 1 rfl) ?_
    obtain ⟨x14, hj16, hf⟩ := lt_some2 hf
    have KJ15 : ∀ (ls : Array Slot) (H : Heap) (locs : List Loc), lv_has ls 2 [] → St X n σ s.heap H locs → WG l X n rm_TM_fits σ' (some (.int r)) p e s m args below meth c H locs (F0 m 196 ls [.int x14]) := by
      intro ls H locs hl hP
      obtain ⟨hz19, hf⟩ := chk_some hf
      cases hf
      exact g_zret F hP hr hlk hz19 d_TM_fits_196
    refine lv_if_lt F.1 F.2.1 d_TM_fits_182 rfl (fun hb18 => ?_) (fun hb18 => ?_)
    · rw [if_pos hb18] at hj16
      refine lv_iconst (v := 0) F.1 F.2.1 d_TM_fits_195 (by decide) ?_
      subst hj16
      exact KJ15 _ _ _ (lv_sub hl [] rfl) hP
    · rw [if_neg hb18] at hj16
      refine lv_iload_n F.1 F.2.1 d_TM_fits_185 rfl (lv_at hl 1 rfl) ?_
      refine lv_bipush (v := 60) F.1 F.2.1 d_TM_fits_186 (by decide) ?_
      refine lv_icmp_gt F.1 F.2.1 d_TM_fits_188 rfl (fun hb17 => ?_) (fun hb17 => ?_)
      · rw [if_pos hb17] at hj16
        refine lv_iconst (v := 0) F.1 F.2.1 d_TM_fits_195 (by decide) ?_
        subst hj16
        exact KJ15 _ _ _ (lv_sub hl [] rfl) hP
      · rw [if_neg hb17] at hj16
        refine lv_iconst (v := 1) F.1 F.2.1 d_TM_fits_191 (by decide) ?_
        refine lv_goto F.1 F.2.1 d_TM_fits_192 rfl ?_
        subst hj16
        exact KJ15 _ _ _ (lv_sub hl [] rfl) hP
  rw [if_neg hs1_106] at hf
  by_cases hs1_107 : a0 = 107
  · rw [if_pos hs1_107] at hf
    refine lv_tableIn F.1 F.2.1 d_TM_fits_1 (by rw [hs1_107]; decide) (by rw [hs1_107]; decide) (off := 117) (by rw [hs1_107]; decide) rfl ?_
    refine lv_iload_n F.1 F.2.1 d_TM_fits_118 rfl (lv_at hl 1 rfl) ?_
    obtain ⟨x20, hj22, hf⟩ := lt_some2 hf
    have KJ21 : ∀ (ls : Array Slot) (H : Heap) (locs : List Loc), lv_has ls 2 [] → St X n σ s.heap H locs → WG l X n rm_TM_fits σ' (some (.int r)) p e s m args below meth c H locs (F0 m 132 ls [.int x20]) := by
      intro ls H locs hl hP
      obtain ⟨hz25, hf⟩ := chk_some hf
      cases hf
      exact g_zret F hP hr hlk hz25 d_TM_fits_132
    refine lv_if_lt F.1 F.2.1 d_TM_fits_119 rfl (fun hb24 => ?_) (fun hb24 => ?_)
    · rw [if_pos hb24] at hj22
      refine lv_iconst (v := 0) F.1 F.2.1 d_TM_fits_131 (by decide) ?_
      subst hj22
      exact KJ21 _ _ _ (lv_sub hl [] rfl) hP
    · rw [if_neg hb24] at hj22
      refine lv_iload_n F.1 F.2.1 d_TM_fits_122 rfl (lv_at hl 1 rfl) ?_
      refine lv_iconst (v := 4) F.1 F.2.1 d_TM_fits_123 (by decide) ?_
      refine lv_icmp_ge F.1 F.2.1 d_TM_fits_124 rfl (fun hb23 => ?_) (fun hb23 => ?_)
      · rw [if_pos hb23] at hj22
        refine lv_iconst (v := 0) F.1 F.2.1 d_TM_fits_131 (by decide) ?_
        subst hj22
        exact KJ21 _ _ _ (lv_sub hl [] rfl) hP
      · rw [if_neg hb23] at hj22
        refine lv_iconst (v := 1) F.1 F.2.1 d_TM_fits_127 (by decide) ?_
        refine lv_goto F.1 F.2.1 d_TM_fits_128 rfl ?_
        subst hj22
        exact KJ21 _ _ _ (lv_sub hl [] rfl) hP
  rw [if_neg hs1_107] at hf
  by_cases hs1_110 : a0 = 110
  · rw [if_pos hs1_110] at hf
    refine lv_tableIn F.1 F.2.1 d_TM_fits_1 (by rw [hs1_110]; decide) (by rw [hs1_110]; decide) (off := 164) (by rw [hs1_110]; decide) rfl ?_
    refine lv_iload_n F.1 F.2.1 d_TM_fits_165 rfl (lv_at hl 1 rfl) ?_
    refine lv_iconst (v := 1) F.1 F.2.1 d_TM_fits_166 (by decide) ?_
    obtain ⟨x26, hj28, hf⟩ := lt_some2 hf
    have KJ27 : ∀ (ls : Array Slot) (H : Heap) (locs : List Loc), lv_has ls 2 [] → St X n σ s.heap H locs → WG l X n rm_TM_fits σ' (some (.int r)) p e s m args below meth c H locs (F0 m 180 ls [.int x26]) := by
      intro ls H locs hl hP
      obtain ⟨hz31, hf⟩ := chk_some hf
      cases hf
      exact g_zret F hP hr hlk hz31 d_TM_fits_180
    refine lv_icmp_lt F.1 F.2.1 d_TM_fits_167 rfl (fun hb30 => ?_) (fun hb30 => ?_)
    · rw [if_pos hb30] at hj28
      refine lv_iconst (v := 0) F.1 F.2.1 d_TM_fits_179 (by decide) ?_
      subst hj28
      exact KJ27 _ _ _ (lv_sub hl [] rfl) hP
    · rw [if_neg hb30] at hj28
      refine lv_iload_n F.1 F.2.1 d_TM_fits_170 rfl (lv_at hl 1 rfl) ?_
      refine lv_iconst (v := 4) F.1 F.2.1 d_TM_fits_171 (by decide) ?_
      refine lv_icmp_gt F.1 F.2.1 d_TM_fits_172 rfl (fun hb29 => ?_) (fun hb29 => ?_)
      · rw [if_pos hb29] at hj28
        refine lv_iconst (v := 0) F.1 F.2.1 d_TM_fits_179 (by decide) ?_
        subst hj28
        exact KJ27 _ _ _ (lv_sub hl [] rfl) hP
      · rw [if_neg hb29] at hj28
        refine lv_iconst (v := 1) F.1 F.2.1 d_TM_fits_175 (by decide) ?_
        refine lv_goto F.1 F.2.1 d_TM_fits_176 rfl ?_
        subst hj28
        exact KJ27 _ _ _ (lv_sub hl [] rfl) hP
  rw [if_neg hs1_110] at hf
  by_cases hs1_114 : a0 = 114
  · rw [if_pos hs1_114] at hf
    refine lv_tableIn F.1 F.2.1 d_TM_fits_1 (by rw [hs1_114]; decide) (by rw [hs1_114]; decide) (off := 132) (by rw [hs1_114]; decide) rfl ?_
    refine lv_iload_n F.1 F.2.1 d_TM_fits_133 rfl (lv_at hl 1 rfl) ?_
    obtain ⟨x32, hj34, hf⟩ := lt_some2 hf
    have KJ33 : ∀ (ls : Array Slot) (H : Heap) (locs : List Loc), lv_has ls 2 [] → St X n σ s.heap H locs → WG l X n rm_TM_fits σ' (some (.int r)) p e s m args below meth c H locs (F0 m 148 ls [.int x32]) := by
      intro ls H locs hl hP
      obtain ⟨hz37, hf⟩ := chk_some hf
      cases hf
      exact g_zret F hP hr hlk hz37 d_TM_fits_148
    refine lv_if_lt F.1 F.2.1 d_TM_fits_134 rfl (fun hb36 => ?_) (fun hb36 => ?_)
    · rw [if_pos hb36] at hj34
      refine lv_iconst (v := 0) F.1 F.2.1 d_TM_fits_147 (by decide) ?_
      subst hj34
      exact KJ33 _ _ _ (lv_sub hl [] rfl) hP
    · rw [if_neg hb36] at hj34
      refine lv_iload_n F.1 F.2.1 d_TM_fits_137 rfl (lv_at hl 1 rfl) ?_
      refine lv_bipush (v := 16) F.1 F.2.1 d_TM_fits_138 (by decide) ?_
      refine lv_icmp_ge F.1 F.2.1 d_TM_fits_140 rfl (fun hb35 => ?_) (fun hb35 => ?_)
      · rw [if_pos hb35] at hj34
        refine lv_iconst (v := 0) F.1 F.2.1 d_TM_fits_147 (by decide) ?_
        subst hj34
        exact KJ33 _ _ _ (lv_sub hl [] rfl) hP
      · rw [if_neg hb35] at hj34
        refine lv_iconst (v := 1) F.1 F.2.1 d_TM_fits_143 (by decide) ?_
        refine lv_goto F.1 F.2.1 d_TM_fits_144 rfl ?_
        subst hj34
        exact KJ33 _ _ _ (lv_sub hl [] rfl) hP
  rw [if_neg hs1_114] at hf
  by_cases hs1_116 : a0 = 116
  · rw [if_pos hs1_116] at hf
    refine lv_tableIn F.1 F.2.1 d_TM_fits_1 (by rw [hs1_116]; decide) (by rw [hs1_116]; decide) (off := 102) (by rw [hs1_116]; decide) rfl ?_
    refine lv_iload_n F.1 F.2.1 d_TM_fits_103 rfl (lv_at hl 1 rfl) ?_
    obtain ⟨x38, hj40, hf⟩ := lt_some2 hf
    have KJ39 : ∀ (ls : Array Slot) (H : Heap) (locs : List Loc), lv_has ls 2 [] → St X n σ s.heap H locs → WG l X n rm_TM_fits σ' (some (.int r)) p e s m args below meth c H locs (F0 m 117 ls [.int x38]) := by
      intro ls H locs hl hP
      obtain ⟨hz43, hf⟩ := chk_some hf
      cases hf
      exact g_zret F hP hr hlk hz43 d_TM_fits_117
    refine lv_if_lt F.1 F.2.1 d_TM_fits_104 rfl (fun hb42 => ?_) (fun hb42 => ?_)
    · rw [if_pos hb42] at hj40
      refine lv_iconst (v := 0) F.1 F.2.1 d_TM_fits_116 (by decide) ?_
      subst hj40
      exact KJ39 _ _ _ (lv_sub hl [] rfl) hP
    · rw [if_neg hb42] at hj40
      refine lv_iload_n F.1 F.2.1 d_TM_fits_107 rfl (lv_at hl 1 rfl) ?_
      refine lv_iconst (v := 3) F.1 F.2.1 d_TM_fits_108 (by decide) ?_
      refine lv_icmp_ge F.1 F.2.1 d_TM_fits_109 rfl (fun hb41 => ?_) (fun hb41 => ?_)
      · rw [if_pos hb41] at hj40
        refine lv_iconst (v := 0) F.1 F.2.1 d_TM_fits_116 (by decide) ?_
        subst hj40
        exact KJ39 _ _ _ (lv_sub hl [] rfl) hP
      · rw [if_neg hb41] at hj40
        refine lv_iconst (v := 1) F.1 F.2.1 d_TM_fits_112 (by decide) ?_
        refine lv_goto F.1 F.2.1 d_TM_fits_113 rfl ?_
        subst hj40
        exact KJ39 _ _ _ (lv_sub hl [] rfl) hP
  rw [if_neg hs1_116] at hf
  have KD44 : ∀ (ls : Array Slot) (H : Heap) (locs : List Loc), lv_has ls 2 [(0, .int a0), (1, .int a1)] → St X n σ s.heap H locs → WG l X n rm_TM_fits σ' (some (.int r)) p e s m args below meth c H locs (F0 m 197 ls []) := by
    intro ls H locs hl hP
    refine lv_iconst (v := 1) F.1 F.2.1 d_TM_fits_197 (by decide) ?_
    cases hf
    exact g_zret F hP hr hlk zb1 d_TM_fits_198
  by_cases hs1_g100 : a0 = 100
  · exact lv_tableIn F.1 F.2.1 d_TM_fits_1 (by rw [hs1_g100]; decide) (by rw [hs1_g100]; decide) (off := 196) (by rw [hs1_g100]; decide) rfl (KD44 _ _ _ hl hP)
  by_cases hs1_g101 : a0 = 101
  · exact lv_tableIn F.1 F.2.1 d_TM_fits_1 (by rw [hs1_g101]; decide) (by rw [hs1_g101]; decide) (off := 196) (by rw [hs1_g101]; decide) rfl (KD44 _ _ _ hl hP)
  by_cases hs1_g102 : a0 = 102
  · exact lv_tableIn F.1 F.2.1 d_TM_fits_1 (by rw [hs1_g102]; decide) (by rw [hs1_g102]; decide) (off := 196) (by rw [hs1_g102]; decide) rfl (KD44 _ _ _ hl hP)
  by_cases hs1_g103 : a0 = 103
  · exact lv_tableIn F.1 F.2.1 d_TM_fits_1 (by rw [hs1_g103]; decide) (by rw [hs1_g103]; decide) (off := 196) (by rw [hs1_g103]; decide) rfl (KD44 _ _ _ hl hP)
  by_cases hs1_g104 : a0 = 104
  · exact lv_tableIn F.1 F.2.1 d_TM_fits_1 (by rw [hs1_g104]; decide) (by rw [hs1_g104]; decide) (off := 196) (by rw [hs1_g104]; decide) rfl (KD44 _ _ _ hl hP)
  by_cases hs1_g108 : a0 = 108
  · exact lv_tableIn F.1 F.2.1 d_TM_fits_1 (by rw [hs1_g108]; decide) (by rw [hs1_g108]; decide) (off := 196) (by rw [hs1_g108]; decide) rfl (KD44 _ _ _ hl hP)
  by_cases hs1_g109 : a0 = 109
  · exact lv_tableIn F.1 F.2.1 d_TM_fits_1 (by rw [hs1_g109]; decide) (by rw [hs1_g109]; decide) (off := 196) (by rw [hs1_g109]; decide) rfl (KD44 _ _ _ hl hP)
  by_cases hs1_g111 : a0 = 111
  · exact lv_tableIn F.1 F.2.1 d_TM_fits_1 (by rw [hs1_g111]; decide) (by rw [hs1_g111]; decide) (off := 196) (by rw [hs1_g111]; decide) rfl (KD44 _ _ _ hl hP)
  by_cases hs1_g112 : a0 = 112
  · exact lv_tableIn F.1 F.2.1 d_TM_fits_1 (by rw [hs1_g112]; decide) (by rw [hs1_g112]; decide) (off := 196) (by rw [hs1_g112]; decide) rfl (KD44 _ _ _ hl hP)
  by_cases hs1_g113 : a0 = 113
  · exact lv_tableIn F.1 F.2.1 d_TM_fits_1 (by rw [hs1_g113]; decide) (by rw [hs1_g113]; decide) (off := 196) (by rw [hs1_g113]; decide) rfl (KD44 _ _ _ hl hP)
  by_cases hs1_g115 : a0 = 115
  · exact lv_tableIn F.1 F.2.1 d_TM_fits_1 (by rw [hs1_g115]; decide) (by rw [hs1_g115]; decide) (off := 196) (by rw [hs1_g115]; decide) rfl (KD44 _ _ _ hl hP)
  have z99 := lv_neT hs1_99 (k := 99) (a := 99) rfl
  have z100 := lv_neT hs1_g100 (k := 100) (a := 100) rfl
  have z101 := lv_neT hs1_g101 (k := 101) (a := 101) rfl
  have z102 := lv_neT hs1_g102 (k := 102) (a := 102) rfl
  have z103 := lv_neT hs1_g103 (k := 103) (a := 103) rfl
  have z104 := lv_neT hs1_g104 (k := 104) (a := 104) rfl
  have z105 := lv_neT hs1_105 (k := 105) (a := 105) rfl
  have z106 := lv_neT hs1_106 (k := 106) (a := 106) rfl
  have z107 := lv_neT hs1_107 (k := 107) (a := 107) rfl
  have z108 := lv_neT hs1_g108 (k := 108) (a := 108) rfl
  have z109 := lv_neT hs1_g109 (k := 109) (a := 109) rfl
  have z110 := lv_neT hs1_110 (k := 110) (a := 110) rfl
  have z111 := lv_neT hs1_g111 (k := 111) (a := 111) rfl
  have z112 := lv_neT hs1_g112 (k := 112) (a := 112) rfl
  have z113 := lv_neT hs1_g113 (k := 113) (a := 113) rfl
  have z114 := lv_neT hs1_114 (k := 114) (a := 114) rfl
  have z115 := lv_neT hs1_g115 (k := 115) (a := 115) rfl
  have z116 := lv_neT hs1_116 (k := 116) (a := 116) rfl
  exact lv_tableOut F.1 F.2.1 d_TM_fits_1 (by omega) rfl (KD44 _ _ _ hl hP)

theorem d_TM_emit_0 : decode b_TM_emit 0 = .ok (.aload_n 0, 1) := by decide +kernel
theorem d_TM_emit_1 : decode b_TM_emit 1 = .ok (.getfield 44, 3) := by decide +kernel
theorem d_TM_emit_4 : decode b_TM_emit 4 = .ok (.aload_n 0, 1) := by decide +kernel
theorem d_TM_emit_5 : decode b_TM_emit 5 = .ok (.getfield 166, 3) := by decide +kernel
theorem d_TM_emit_8 : decode b_TM_emit 8 = .ok (.aaload, 1) := by decide +kernel
theorem d_TM_emit_9 : decode b_TM_emit 9 = .ok (.astore 5, 2) := by decide +kernel
theorem d_TM_emit_11 : decode b_TM_emit 11 = .ok (.aload 5, 2) := by decide +kernel
theorem d_TM_emit_13 : decode b_TM_emit 13 = .ok (.aload_n 1, 1) := by decide +kernel
theorem d_TM_emit_14 : decode b_TM_emit 14 = .ok (.putfield 169, 3) := by decide +kernel
theorem d_TM_emit_17 : decode b_TM_emit 17 = .ok (.aload 5, 2) := by decide +kernel
theorem d_TM_emit_19 : decode b_TM_emit 19 = .ok (.getfield 173, 3) := by decide +kernel
theorem d_TM_emit_22 : decode b_TM_emit 22 = .ok (.iconst 0, 1) := by decide +kernel
theorem d_TM_emit_23 : decode b_TM_emit 23 = .ok (.aload_n 1, 1) := by decide +kernel
theorem d_TM_emit_24 : decode b_TM_emit 24 = .ok (.getfield 176, 3) := by decide +kernel
theorem d_TM_emit_27 : decode b_TM_emit 27 = .ok (.iconst 0, 1) := by decide +kernel
theorem d_TM_emit_28 : decode b_TM_emit 28 = .ok (.invokevirtual 180, 3) := by decide +kernel
theorem d_TM_emit_31 : decode b_TM_emit 31 = .ok (.bipush 46, 2) := by decide +kernel
theorem d_TM_emit_33 : decode b_TM_emit 33 = .ok (.if_icmp .ne 7, 3) := by decide +kernel
theorem d_TM_emit_36 : decode b_TM_emit 36 = .ok (.iconst 0, 1) := by decide +kernel
theorem d_TM_emit_37 : decode b_TM_emit 37 = .ok (.goto 4, 3) := by decide +kernel
theorem d_TM_emit_40 : decode b_TM_emit 40 = .ok (.iload_n 2, 1) := by decide +kernel
theorem d_TM_emit_41 : decode b_TM_emit 41 = .ok (.iastore, 1) := by decide +kernel
theorem d_TM_emit_42 : decode b_TM_emit 42 = .ok (.aload 5, 2) := by decide +kernel
theorem d_TM_emit_44 : decode b_TM_emit 44 = .ok (.getfield 173, 3) := by decide +kernel
theorem d_TM_emit_47 : decode b_TM_emit 47 = .ok (.iconst 1, 1) := by decide +kernel
theorem d_TM_emit_48 : decode b_TM_emit 48 = .ok (.aload_n 1, 1) := by decide +kernel
theorem d_TM_emit_49 : decode b_TM_emit 49 = .ok (.getfield 176, 3) := by decide +kernel
theorem d_TM_emit_52 : decode b_TM_emit 52 = .ok (.iconst 1, 1) := by decide +kernel
theorem d_TM_emit_53 : decode b_TM_emit 53 = .ok (.invokevirtual 180, 3) := by decide +kernel
theorem d_TM_emit_56 : decode b_TM_emit 56 = .ok (.bipush 46, 2) := by decide +kernel
theorem d_TM_emit_58 : decode b_TM_emit 58 = .ok (.if_icmp .ne 7, 3) := by decide +kernel
theorem d_TM_emit_61 : decode b_TM_emit 61 = .ok (.iconst 0, 1) := by decide +kernel
theorem d_TM_emit_62 : decode b_TM_emit 62 = .ok (.goto 4, 3) := by decide +kernel
theorem d_TM_emit_65 : decode b_TM_emit 65 = .ok (.iload_n 3, 1) := by decide +kernel
theorem d_TM_emit_66 : decode b_TM_emit 66 = .ok (.iastore, 1) := by decide +kernel
theorem d_TM_emit_67 : decode b_TM_emit 67 = .ok (.aload 5, 2) := by decide +kernel
theorem d_TM_emit_69 : decode b_TM_emit 69 = .ok (.getfield 173, 3) := by decide +kernel
theorem d_TM_emit_72 : decode b_TM_emit 72 = .ok (.iconst 2, 1) := by decide +kernel
theorem d_TM_emit_73 : decode b_TM_emit 73 = .ok (.aload_n 1, 1) := by decide +kernel
theorem d_TM_emit_74 : decode b_TM_emit 74 = .ok (.getfield 176, 3) := by decide +kernel
theorem d_TM_emit_77 : decode b_TM_emit 77 = .ok (.iconst 2, 1) := by decide +kernel
theorem d_TM_emit_78 : decode b_TM_emit 78 = .ok (.invokevirtual 180, 3) := by decide +kernel
theorem d_TM_emit_81 : decode b_TM_emit 81 = .ok (.bipush 46, 2) := by decide +kernel
theorem d_TM_emit_83 : decode b_TM_emit 83 = .ok (.if_icmp .ne 7, 3) := by decide +kernel
theorem d_TM_emit_86 : decode b_TM_emit 86 = .ok (.iconst 0, 1) := by decide +kernel
theorem d_TM_emit_87 : decode b_TM_emit 87 = .ok (.goto 5, 3) := by decide +kernel
theorem d_TM_emit_90 : decode b_TM_emit 90 = .ok (.iload 4, 2) := by decide +kernel
theorem d_TM_emit_92 : decode b_TM_emit 92 = .ok (.iastore, 1) := by decide +kernel
theorem d_TM_emit_93 : decode b_TM_emit 93 = .ok (.aload_n 0, 1) := by decide +kernel
theorem d_TM_emit_94 : decode b_TM_emit 94 = .ok (.dup, 1) := by decide +kernel
theorem d_TM_emit_95 : decode b_TM_emit 95 = .ok (.getfield 166, 3) := by decide +kernel
theorem d_TM_emit_98 : decode b_TM_emit 98 = .ok (.iconst 1, 1) := by decide +kernel
theorem d_TM_emit_99 : decode b_TM_emit 99 = .ok (.iadd, 1) := by decide +kernel
theorem d_TM_emit_100 : decode b_TM_emit 100 = .ok (.putfield 166, 3) := by decide +kernel
theorem d_TM_emit_103 : decode b_TM_emit 103 = .ok (.return_, 1) := by decide +kernel
noncomputable def f_TM_emit (i1 : Nat) (a2 : Int32) (a3 : Int32) (a4 : Int32) (σ : Sg) : Option (Sg) :=
  chk (vp_in (gi σ 0 0 8) 60) (lt_ (sr σ 6 ((gi σ 0 0 8).toNatClampNeg) 0 (some i1)) (fun σ2 => chk (vp_in 0 3) (lt_ ((if (chr i1 ((0 : Int32).toNatClampNeg)) = 46 then 0 else a2) : Int32) (fun (x4 : Int32) => chk (vp_in 0 3) (lt_ (si σ2 16 ((gi σ 0 0 8).toNatClampNeg) ((0 : Int32).toNatClampNeg) x4) (fun σ9 => chk (vp_in 1 3) (lt_ ((if (chr i1 ((1 : Int32).toNatClampNeg)) = 46 then 0 else a3) : Int32) (fun (x11 : Int32) => chk (vp_in 1 3) (lt_ (si σ9 16 ((gi σ 0 0 8).toNatClampNeg) ((1 : Int32).toNatClampNeg) x11) (fun σ16 => chk (vp_in 2 3) (lt_ ((if (chr i1 ((2 : Int32).toNatClampNeg)) = 46 then 0 else a4) : Int32) (fun (x18 : Int32) => chk (vp_in 2 3) (lt_ (si σ16 16 ((gi σ 0 0 8).toNatClampNeg) ((2 : Int32).toNatClampNeg) x18) (fun σ23 => lt_ (si σ23 0 0 8 ((gi σ23 0 0 8) + 1)) (fun σ24 => some σ24)))))))))))))))
abbrev rm_TM_emit : Room := { frames := 4, cells := 0, slots := 0, locals := 85 }
set_option maxHeartbeats 4000000 in
set_option maxRecDepth 100000 in
theorem c_TM_emit (l : Launch) (X : GX) (n : Nat) {σ σ' : Sg} {i1 : Nat} {a2 : Int32} {a3 : Int32} {a4 : Int32} (h_i1 : i1 < 22) (hf : f_TM_emit i1 a2 a3 a4 σ = some σ') : Met l y_TM_emit (cw y_TM_emit b_TM_emit 6 none) rm_TM_emit (PcG X n σ [.ref (xL X 0 0), .ref (xad X i1), .int a2, .int a3, .int a4]) (QcG X n σ' none) 0 0 (fr X n) := by
  refine g_head (own := "TableMachine") (by decide) rfl (Nat.le_of_ble_eq_true rfl) ?_
  intro p e s m args below meth c ls F hr hlk hP hl
  have hl : lv_has ls 6 [(0, .ref (xL X 0 0)), (1, .ref (xad X i1)), (2, .int a2), (3, .int a3), (4, .int a4)] := hl
  show WG l X n rm_TM_emit σ' none p e s m args below meth c s.heap [] (F0 m 0 ls [])
  unfold f_TM_emit at hf
  refine lv_aload_n F.1 F.2.1 d_TM_emit_0 rfl (lv_at hl 0 rfl) ?_
  refine g_get F hP 0 7 0 (by decide) Nat.zero_lt_one (by decide) (v := .ref (xL X 19 0)) rfl w_177 d_TM_emit_1 ?_
  refine lv_aload_n F.1 F.2.1 d_TM_emit_4 rfl (lv_at hl 0 rfl) ?_
  refine g_get F hP 0 8 0 (by decide) Nat.zero_lt_one (by decide) (v := .int (gi σ 0 0 8)) rfl w_178 d_TM_emit_5 ?_
  obtain ⟨hc1, hf⟩ := chk_some hf
  refine g_rld F hP 19 (by decide) (by decide) Nat.zero_lt_one rfl hc1 (v := .ref (xL X 6 (gi σ 0 0 8).toNatClampNeg)) rfl d_TM_emit_8 ?_
  refine lv_astore F.1 F.2.1 d_TM_emit_9 hl (by decide) rfl (fun ls hl => ?_)
  have hl : lv_has ls 6 [(5, .ref (xL X 6 (gi σ 0 0 8).toNatClampNeg)), (0, .ref (xL X 0 0)), (1, .ref (xad X i1)), (2, .int a2), (3, .int a3), (4, .int a4)] := hl
  refine lv_aload F.1 F.2.1 d_TM_emit_11 (lv_at hl 0 rfl) ?_
  refine lv_aload_n F.1 F.2.1 d_TM_emit_13 rfl (lv_at hl 2 rfl) ?_
  obtain ⟨σ2, e_σ2, hf⟩ := lt_some hf
  refine g_putO F hP ((gi σ 0 0 8).toNatClampNeg) (vin_lt hc1) (Or.inr w_125) d_TM_emit_14 e_σ2 (fun H locs hP => ?_)
  refine lv_aload F.1 F.2.1 d_TM_emit_17 (lv_at hl 0 rfl) ?_
  refine g_getN F hP 6 1 ((gi σ 0 0 8).toNatClampNeg) (by decide) (vin_lt hc1) (by decide) (v := .ref (xL X 16 (gi σ 0 0 8).toNatClampNeg)) rfl w_127 d_TM_emit_19 ?_
  refine lv_iconst (v := 0) F.1 F.2.1 d_TM_emit_22 (by decide) ?_
  refine lv_aload_n F.1 F.2.1 d_TM_emit_23 rfl (lv_at hl 2 rfl) ?_
  refine g_what F hP h_i1 w_1161 d_TM_emit_24 ?_
  refine lv_iconst (v := 0) F.1 F.2.1 d_TM_emit_27 (by decide) ?_
  obtain ⟨hc3, hf⟩ := chk_some hf
  refine g_charAt (rest := [.int 0, .ref (xL X 16 (gi σ 0 0 8).toNatClampNeg)]) F hP h_i1 hc3 w_648 ⟨by decide, by decide⟩ hl.1 (Nat.le_of_ble_eq_true rfl) ⟨Nat.zero_le _, Nat.zero_le _⟩ d_TM_emit_28 (fun H locs hP => ?_)
  refine lv_bipush (v := 46) F.1 F.2.1 d_TM_emit_31 (by decide) ?_
  obtain ⟨x4, hj6, hf⟩ := lt_some2 hf
  have KJ5 : ∀ (ls : Array Slot) (H : Heap) (locs : List Loc), lv_has ls 6 [(0, .ref (xL X 0 0)), (1, .ref (xad X i1)), (3, .int a3), (4, .int a4), (5, .ref (xL X 6 (gi σ 0 0 8).toNatClampNeg))] → St X n σ2 s.heap H locs → WG l X n rm_TM_emit σ' none p e s m args below meth c H locs (F0 m 41 ls [.int x4, .int 0, .ref (xL X 16 (gi σ 0 0 8).toNatClampNeg)]) := by
    intro ls H locs hl hP
    obtain ⟨hc8, hf⟩ := chk_some hf
    obtain ⟨σ9, e_σ9, hf⟩ := lt_some hf
    refine g_ast F hP 16 (by decide) (by decide) (vin_lt hc1) rfl rfl hc8 d_TM_emit_41 e_σ9 (fun H locs hP => ?_)
    refine lv_aload F.1 F.2.1 d_TM_emit_42 (lv_at hl 4 rfl) ?_
    refine g_getN F hP 6 1 ((gi σ 0 0 8).toNatClampNeg) (by decide) (vin_lt hc1) (by decide) (v := .ref (xL X 16 (gi σ 0 0 8).toNatClampNeg)) rfl w_127 d_TM_emit_44 ?_
    refine lv_iconst (v := 1) F.1 F.2.1 d_TM_emit_47 (by decide) ?_
    refine lv_aload_n F.1 F.2.1 d_TM_emit_48 rfl (lv_at hl 1 rfl) ?_
    refine g_what F hP h_i1 w_1161 d_TM_emit_49 ?_
    refine lv_iconst (v := 1) F.1 F.2.1 d_TM_emit_52 (by decide) ?_
    obtain ⟨hc10, hf⟩ := chk_some hf
    refine g_charAt (rest := [.int 1, .ref (xL X 16 (gi σ 0 0 8).toNatClampNeg)]) F hP h_i1 hc10 w_648 ⟨by decide, by decide⟩ hl.1 (Nat.le_of_ble_eq_true rfl) ⟨Nat.zero_le _, Nat.zero_le _⟩ d_TM_emit_53 (fun H locs hP => ?_)
    refine lv_bipush (v := 46) F.1 F.2.1 d_TM_emit_56 (by decide) ?_
    obtain ⟨x11, hj13, hf⟩ := lt_some2 hf
    have KJ12 : ∀ (ls : Array Slot) (H : Heap) (locs : List Loc), lv_has ls 6 [(0, .ref (xL X 0 0)), (1, .ref (xad X i1)), (4, .int a4), (5, .ref (xL X 6 (gi σ 0 0 8).toNatClampNeg))] → St X n σ9 s.heap H locs → WG l X n rm_TM_emit σ' none p e s m args below meth c H locs (F0 m 66 ls [.int x11, .int 1, .ref (xL X 16 (gi σ 0 0 8).toNatClampNeg)]) := by
      intro ls H locs hl hP
      obtain ⟨hc15, hf⟩ := chk_some hf
      obtain ⟨σ16, e_σ16, hf⟩ := lt_some hf
      refine g_ast F hP 16 (by decide) (by decide) (vin_lt hc1) rfl rfl hc15 d_TM_emit_66 e_σ16 (fun H locs hP => ?_)
      refine lv_aload F.1 F.2.1 d_TM_emit_67 (lv_at hl 3 rfl) ?_
      refine g_getN F hP 6 1 ((gi σ 0 0 8).toNatClampNeg) (by decide) (vin_lt hc1) (by decide) (v := .ref (xL X 16 (gi σ 0 0 8).toNatClampNeg)) rfl w_127 d_TM_emit_69 ?_
      refine lv_iconst (v := 2) F.1 F.2.1 d_TM_emit_72 (by decide) ?_
      refine lv_aload_n F.1 F.2.1 d_TM_emit_73 rfl (lv_at hl 1 rfl) ?_
      refine g_what F hP h_i1 w_1161 d_TM_emit_74 ?_
      refine lv_iconst (v := 2) F.1 F.2.1 d_TM_emit_77 (by decide) ?_
      obtain ⟨hc17, hf⟩ := chk_some hf
      refine g_charAt (rest := [.int 2, .ref (xL X 16 (gi σ 0 0 8).toNatClampNeg)]) F hP h_i1 hc17 w_648 ⟨by decide, by decide⟩ hl.1 (Nat.le_of_ble_eq_true rfl) ⟨Nat.zero_le _, Nat.zero_le _⟩ d_TM_emit_78 (fun H locs hP => ?_)
      refine lv_bipush (v := 46) F.1 F.2.1 d_TM_emit_81 (by decide) ?_
      obtain ⟨x18, hj20, hf⟩ := lt_some2 hf
      have KJ19 : ∀ (ls : Array Slot) (H : Heap) (locs : List Loc), lv_has ls 6 [(0, .ref (xL X 0 0))] → St X n σ16 s.heap H locs → WG l X n rm_TM_emit σ' none p e s m args below meth c H locs (F0 m 92 ls [.int x18, .int 2, .ref (xL X 16 (gi σ 0 0 8).toNatClampNeg)]) := by
        intro ls H locs hl hP
        obtain ⟨hc22, hf⟩ := chk_some hf
        obtain ⟨σ23, e_σ23, hf⟩ := lt_some hf
        refine g_ast F hP 16 (by decide) (by decide) (vin_lt hc1) rfl rfl hc22 d_TM_emit_92 e_σ23 (fun H locs hP => ?_)
        refine lv_aload_n F.1 F.2.1 d_TM_emit_93 rfl (lv_at hl 0 rfl) ?_
        refine lv_dup F.1 F.2.1 d_TM_emit_94 rfl ?_
        refine g_get F hP 0 8 0 (by decide) Nat.zero_lt_one (by decide) (v := .int (gi σ23 0 0 8)) rfl w_178 d_TM_emit_95 ?_
        refine lv_iconst (v := 1) F.1 F.2.1 d_TM_emit_98 (by decide) ?_
        refine lv_iadd F.1 F.2.1 d_TM_emit_99 ?_
        obtain ⟨σ24, e_σ24, hf⟩ := lt_some hf
        refine g_puti F hP 0 8 0 (by decide) Nat.zero_lt_one (by decide) rfl rfl rfl rfl (Or.inl w_178) d_TM_emit_100 e_σ24 (fun H locs hP => ?_)
        cases hf
        exact g_vret F hP hr hlk d_TM_emit_103
      refine lv_icmp_ne F.1 F.2.1 d_TM_emit_83 rfl (fun hb21 => ?_) (fun hb21 => ?_)
      · rw [if_neg hb21] at hj20
        refine lv_iload F.1 F.2.1 d_TM_emit_90 (lv_at hl 2 rfl) ?_
        subst hj20
        exact KJ19 _ _ _ (lv_sub hl [0] rfl) hP
      · rw [if_pos hb21] at hj20
        refine lv_iconst (v := 0) F.1 F.2.1 d_TM_emit_86 (by decide) ?_
        refine lv_goto F.1 F.2.1 d_TM_emit_87 rfl ?_
        subst hj20
        exact KJ19 _ _ _ (lv_sub hl [0] rfl) hP
    refine lv_icmp_ne F.1 F.2.1 d_TM_emit_58 rfl (fun hb14 => ?_) (fun hb14 => ?_)
    · rw [if_neg hb14] at hj13
      refine lv_iload_n F.1 F.2.1 d_TM_emit_65 rfl (lv_at hl 2 rfl) ?_
      subst hj13
      exact KJ12 _ _ _ (lv_sub hl [0, 1, 3, 4] rfl) hP
    · rw [if_pos hb14] at hj13
      refine lv_iconst (v := 0) F.1 F.2.1 d_TM_emit_61 (by decide) ?_
      refine lv_goto F.1 F.2.1 d_TM_emit_62 rfl ?_
      subst hj13
      exact KJ12 _ _ _ (lv_sub hl [0, 1, 3, 4] rfl) hP
  refine lv_icmp_ne F.1 F.2.1 d_TM_emit_33 rfl (fun hb7 => ?_) (fun hb7 => ?_)
  · rw [if_neg hb7] at hj6
    refine lv_iload_n F.1 F.2.1 d_TM_emit_40 rfl (lv_at hl 3 rfl) ?_
    subst hj6
    exact KJ5 _ _ _ (lv_sub hl [1, 2, 4, 5, 0] rfl) hP
  · rw [if_pos hb7] at hj6
    refine lv_iconst (v := 0) F.1 F.2.1 d_TM_emit_36 (by decide) ?_
    refine lv_goto F.1 F.2.1 d_TM_emit_37 rfl ?_
    subst hj6
    exact KJ5 _ _ _ (lv_sub hl [1, 2, 4, 5, 0] rfl) hP

theorem d_TM_wipe_0 : decode b_TM_wipe 0 = .ok (.aload_n 0, 1) := by decide +kernel
theorem d_TM_wipe_1 : decode b_TM_wipe 1 = .ok (.iconst 0, 1) := by decide +kernel
theorem d_TM_wipe_2 : decode b_TM_wipe 2 = .ok (.putfield 166, 3) := by decide +kernel
theorem d_TM_wipe_5 : decode b_TM_wipe 5 = .ok (.return_, 1) := by decide +kernel
noncomputable def f_TM_wipe  (σ : Sg) : Option (Sg) :=
  lt_ (si σ 0 0 8 0) (fun σ1 => some σ1)
abbrev rm_TM_wipe : Room := { frames := 0, cells := 0, slots := 0, locals := 0 }
set_option maxHeartbeats 4000000 in
set_option maxRecDepth 100000 in
theorem c_TM_wipe (l : Launch) (X : GX) (n : Nat) {σ σ' : Sg}   (hf : f_TM_wipe  σ = some σ') : Met l y_TM_wipe (cw y_TM_wipe b_TM_wipe 1 none) rm_TM_wipe (PcG X n σ [.ref (xL X 0 0)]) (QcG X n σ' none) 0 0 (fr X n) := by
  refine g_head (own := "TableMachine") (by decide) rfl (Nat.le_of_ble_eq_true rfl) ?_
  intro p e s m args below meth c ls F hr hlk hP hl
  have hl : lv_has ls 1 [(0, .ref (xL X 0 0))] := hl
  show WG l X n rm_TM_wipe σ' none p e s m args below meth c s.heap [] (F0 m 0 ls [])
  unfold f_TM_wipe at hf
  refine lv_aload_n F.1 F.2.1 d_TM_wipe_0 rfl (lv_at hl 0 rfl) ?_
  refine lv_iconst (v := 0) F.1 F.2.1 d_TM_wipe_1 (by decide) ?_
  obtain ⟨σ1, e_σ1, hf⟩ := lt_some hf
  refine g_puti F hP 0 8 0 (by decide) Nat.zero_lt_one (by decide) rfl rfl rfl rfl (Or.inl w_178) d_TM_wipe_2 e_σ1 (fun H locs hP => ?_)
  cases hf
  exact g_vret F hP hr hlk d_TM_wipe_5

theorem d_TM_compares_0 : decode b_TM_compares 0 = .ok (.aload_n 0, 1) := by decide +kernel
theorem d_TM_compares_1 : decode b_TM_compares 1 = .ok (.invokevirtual 200, 3) := by decide +kernel
theorem d_TM_compares_4 : decode b_TM_compares 4 = .ok (.tableswitch 96 9 13 #[36, 48, 60, 72, 84], 36) := by decide +kernel
theorem d_TM_compares_40 : decode b_TM_compares 40 = .ok (.lload_n 1, 1) := by decide +kernel
theorem d_TM_compares_41 : decode b_TM_compares 41 = .ok (.lload_n 3, 1) := by decide +kernel
theorem d_TM_compares_42 : decode b_TM_compares 42 = .ok (.lcmp, 1) := by decide +kernel
theorem d_TM_compares_43 : decode b_TM_compares 43 = .ok (.ifCond .ne 7, 3) := by decide +kernel
theorem d_TM_compares_46 : decode b_TM_compares 46 = .ok (.iconst 1, 1) := by decide +kernel
theorem d_TM_compares_47 : decode b_TM_compares 47 = .ok (.goto 4, 3) := by decide +kernel
theorem d_TM_compares_50 : decode b_TM_compares 50 = .ok (.iconst 0, 1) := by decide +kernel
theorem d_TM_compares_51 : decode b_TM_compares 51 = .ok (.ireturn, 1) := by decide +kernel
theorem d_TM_compares_52 : decode b_TM_compares 52 = .ok (.lload_n 1, 1) := by decide +kernel
theorem d_TM_compares_53 : decode b_TM_compares 53 = .ok (.lload_n 3, 1) := by decide +kernel
theorem d_TM_compares_54 : decode b_TM_compares 54 = .ok (.lcmp, 1) := by decide +kernel
theorem d_TM_compares_55 : decode b_TM_compares 55 = .ok (.ifCond .eq 7, 3) := by decide +kernel
theorem d_TM_compares_58 : decode b_TM_compares 58 = .ok (.iconst 1, 1) := by decide +kernel
theorem d_TM_compares_59 : decode b_TM_compares 59 = .ok (.goto 4, 3) := by decide +kernel
theorem d_TM_compares_62 : decode b_TM_compares 62 = .ok (.iconst 0, 1) := by decide +kernel
theorem d_TM_compares_63 : decode b_TM_compares 63 = .ok (.ireturn, 1) := by decide +kernel
theorem d_TM_compares_64 : decode b_TM_compares 64 = .ok (.lload_n 1, 1) := by decide +kernel
theorem d_TM_compares_65 : decode b_TM_compares 65 = .ok (.lload_n 3, 1) := by decide +kernel
theorem d_TM_compares_66 : decode b_TM_compares 66 = .ok (.lcmp, 1) := by decide +kernel
theorem d_TM_compares_67 : decode b_TM_compares 67 = .ok (.ifCond .ge 7, 3) := by decide +kernel
theorem d_TM_compares_70 : decode b_TM_compares 70 = .ok (.iconst 1, 1) := by decide +kernel
theorem d_TM_compares_71 : decode b_TM_compares 71 = .ok (.goto 4, 3) := by decide +kernel
theorem d_TM_compares_74 : decode b_TM_compares 74 = .ok (.iconst 0, 1) := by decide +kernel
theorem d_TM_compares_75 : decode b_TM_compares 75 = .ok (.ireturn, 1) := by decide +kernel
theorem d_TM_compares_76 : decode b_TM_compares 76 = .ok (.lload_n 1, 1) := by decide +kernel
theorem d_TM_compares_77 : decode b_TM_compares 77 = .ok (.lload_n 3, 1) := by decide +kernel
theorem d_TM_compares_78 : decode b_TM_compares 78 = .ok (.lcmp, 1) := by decide +kernel
theorem d_TM_compares_79 : decode b_TM_compares 79 = .ok (.ifCond .gt 7, 3) := by decide +kernel
theorem d_TM_compares_82 : decode b_TM_compares 82 = .ok (.iconst 1, 1) := by decide +kernel
theorem d_TM_compares_83 : decode b_TM_compares 83 = .ok (.goto 4, 3) := by decide +kernel
theorem d_TM_compares_86 : decode b_TM_compares 86 = .ok (.iconst 0, 1) := by decide +kernel
theorem d_TM_compares_87 : decode b_TM_compares 87 = .ok (.ireturn, 1) := by decide +kernel
theorem d_TM_compares_88 : decode b_TM_compares 88 = .ok (.lload_n 1, 1) := by decide +kernel
theorem d_TM_compares_89 : decode b_TM_compares 89 = .ok (.lload_n 3, 1) := by decide +kernel
theorem d_TM_compares_90 : decode b_TM_compares 90 = .ok (.lcmp, 1) := by decide +kernel
theorem d_TM_compares_91 : decode b_TM_compares 91 = .ok (.ifCond .le 7, 3) := by decide +kernel
theorem d_TM_compares_94 : decode b_TM_compares 94 = .ok (.iconst 1, 1) := by decide +kernel
theorem d_TM_compares_95 : decode b_TM_compares 95 = .ok (.goto 4, 3) := by decide +kernel
theorem d_TM_compares_98 : decode b_TM_compares 98 = .ok (.iconst 0, 1) := by decide +kernel
theorem d_TM_compares_99 : decode b_TM_compares 99 = .ok (.ireturn, 1) := by decide +kernel
theorem d_TM_compares_100 : decode b_TM_compares 100 = .ok (.lload_n 1, 1) := by decide +kernel
theorem d_TM_compares_101 : decode b_TM_compares 101 = .ok (.lload_n 3, 1) := by decide +kernel
theorem d_TM_compares_102 : decode b_TM_compares 102 = .ok (.lcmp, 1) := by decide +kernel
theorem d_TM_compares_103 : decode b_TM_compares 103 = .ok (.ifCond .lt 7, 3) := by decide +kernel
theorem d_TM_compares_106 : decode b_TM_compares 106 = .ok (.iconst 1, 1) := by decide +kernel
theorem d_TM_compares_107 : decode b_TM_compares 107 = .ok (.goto 4, 3) := by decide +kernel
theorem d_TM_compares_110 : decode b_TM_compares 110 = .ok (.iconst 0, 1) := by decide +kernel
theorem d_TM_compares_111 : decode b_TM_compares 111 = .ok (.ireturn, 1) := by decide +kernel
noncomputable def f_TM_compares (i0 : Nat) (a1 : Int64) (a3 : Int64) (σ : Sg) : Option (Int32 × Sg) :=
  (if nI i0 = 9 then (lt_ ((if a1 = a3 then 1 else 0) : Int32) (fun (x2 : Int32) => chk (zb x2) (some (x2, σ)))) else (if nI i0 = 10 then (lt_ ((if a1 = a3 then 0 else 1) : Int32) (fun (x7 : Int32) => chk (zb x7) (some (x7, σ)))) else (if nI i0 = 11 then (lt_ ((if a3 ≤ a1 then 0 else 1) : Int32) (fun (x12 : Int32) => chk (zb x12) (some (x12, σ)))) else (if nI i0 = 12 then (lt_ ((if a3 < a1 then 0 else 1) : Int32) (fun (x17 : Int32) => chk (zb x17) (some (x17, σ)))) else (if nI i0 = 13 then (lt_ ((if a1 ≤ a3 then 0 else 1) : Int32) (fun (x22 : Int32) => chk (zb x22) (some (x22, σ)))) else (lt_ ((if a1 < a3 then 0 else 1) : Int32) (fun (x27 : Int32) => chk (zb x27) (some (x27, σ)))))))))
abbrev rm_TM_compares : Room := { frames := 1, cells := 0, slots := 0, locals := 20 }
set_option maxHeartbeats 4000000 in
set_option maxRecDepth 100000 in
theorem c_TM_compares (l : Launch) (X : GX) (n : Nat) {σ σ' : Sg} {r : Int32} {i0 : Nat} {a1 : Int64} {a3 : Int64} (h_i0 : i0 < 22) (hf : f_TM_compares i0 a1 a3 σ = some (r, σ')) : Met l y_TM_compares (cw y_TM_compares b_TM_compares 5 (some .boolean)) rm_TM_compares (PcG X n σ [.ref (xad X i0), .long a1, .long a3]) (QcG X n σ' (some (.int r))) 0 0 (fr X n) := by
  refine g_head (own := "TableMachine") (by decide) rfl (Nat.le_of_ble_eq_true rfl) ?_
  intro p e s m args below meth c ls F hr hlk hP hl
  have hl : lv_has ls 5 [(0, .ref (xad X i0)), (1, .long a1), (3, .long a3)] := hl
  show WG l X n rm_TM_compares σ' (some (.int r)) p e s m args below meth c s.heap [] (F0 m 0 ls [])
  unfold f_TM_compares at hf
  refine lv_aload_n F.1 F.2.1 d_TM_compares_0 rfl (lv_at hl 0 rfl) ?_
  refine g_ord (rest := []) F hP h_i0 w_723 ⟨by decide, by decide⟩ hl.1 (Nat.le_of_ble_eq_true rfl) ⟨Nat.zero_le _, Nat.zero_le _⟩ d_TM_compares_1 (fun H locs hP => ?_)
  by_cases hs1_9 : nI i0 = 9
  · rw [if_pos hs1_9] at hf
    refine lv_tableIn F.1 F.2.1 d_TM_compares_4 (by rw [hs1_9]; decide) (by rw [hs1_9]; decide) (off := 36) (by rw [hs1_9]; decide) rfl ?_
    refine lv_lload_n F.1 F.2.1 d_TM_compares_40 rfl (lv_at hl 1 rfl) ?_
    refine lv_lload_n F.1 F.2.1 d_TM_compares_41 rfl (lv_at hl 2 rfl) ?_
    obtain ⟨x2, hj4, hf⟩ := lt_some2 hf
    have KJ3 : ∀ (ls : Array Slot) (H : Heap) (locs : List Loc), lv_has ls 5 [] → St X n σ s.heap H locs → WG l X n rm_TM_compares σ' (some (.int r)) p e s m args below meth c H locs (F0 m 51 ls [.int x2]) := by
      intro ls H locs hl hP
      obtain ⟨hz6, hf⟩ := chk_some hf
      cases hf
      exact g_zret F hP hr hlk hz6 d_TM_compares_51
    refine g_lc_ne F d_TM_compares_42 d_TM_compares_43 rfl (fun hb5 => ?_) (fun hb5 => ?_)
    · rw [if_neg hb5] at hj4
      refine lv_iconst (v := 0) F.1 F.2.1 d_TM_compares_50 (by decide) ?_
      subst hj4
      exact KJ3 _ _ _ (lv_sub hl [] rfl) hP
    · rw [if_pos hb5] at hj4
      refine lv_iconst (v := 1) F.1 F.2.1 d_TM_compares_46 (by decide) ?_
      refine lv_goto F.1 F.2.1 d_TM_compares_47 rfl ?_
      subst hj4
      exact KJ3 _ _ _ (lv_sub hl [] rfl) hP
  rw [if_neg hs1_9] at hf
  by_cases hs1_10 : nI i0 = 10
  · rw [if_pos hs1_10] at hf
    refine lv_tableIn F.1 F.2.1 d_TM_compares_4 (by rw [hs1_10]; decide) (by rw [hs1_10]; decide) (off := 48) (by rw [hs1_10]; decide) rfl ?_
    refine lv_lload_n F.1 F.2.1 d_TM_compares_52 rfl (lv_at hl 1 rfl) ?_
    refine lv_lload_n F.1 F.2.1 d_TM_compares_53 rfl (lv_at hl 2 rfl) ?_
    obtain ⟨x7, hj9, hf⟩ := lt_some2 hf
    have KJ8 : ∀ (ls : Array Slot) (H : Heap) (locs : List Loc), lv_has ls 5 [] → St X n σ s.heap H locs → WG l X n rm_TM_compares σ' (some (.int r)) p e s m args below meth c H locs (F0 m 63 ls [.int x7]) := by
      intro ls H locs hl hP
      obtain ⟨hz11, hf⟩ := chk_some hf
      cases hf
      exact g_zret F hP hr hlk hz11 d_TM_compares_63
    refine g_lc_eq F d_TM_compares_54 d_TM_compares_55 rfl (fun hb10 => ?_) (fun hb10 => ?_)
    · rw [if_pos hb10] at hj9
      refine lv_iconst (v := 0) F.1 F.2.1 d_TM_compares_62 (by decide) ?_
      subst hj9
      exact KJ8 _ _ _ (lv_sub hl [] rfl) hP
    · rw [if_neg hb10] at hj9
      refine lv_iconst (v := 1) F.1 F.2.1 d_TM_compares_58 (by decide) ?_
      refine lv_goto F.1 F.2.1 d_TM_compares_59 rfl ?_
      subst hj9
      exact KJ8 _ _ _ (lv_sub hl [] rfl) hP
  rw [if_neg hs1_10] at hf
  by_cases hs1_11 : nI i0 = 11
  · rw [if_pos hs1_11] at hf
    refine lv_tableIn F.1 F.2.1 d_TM_compares_4 (by rw [hs1_11]; decide) (by rw [hs1_11]; decide) (off := 60) (by rw [hs1_11]; decide) rfl ?_
    refine lv_lload_n F.1 F.2.1 d_TM_compares_64 rfl (lv_at hl 1 rfl) ?_
    refine lv_lload_n F.1 F.2.1 d_TM_compares_65 rfl (lv_at hl 2 rfl) ?_
    obtain ⟨x12, hj14, hf⟩ := lt_some2 hf
    have KJ13 : ∀ (ls : Array Slot) (H : Heap) (locs : List Loc), lv_has ls 5 [] → St X n σ s.heap H locs → WG l X n rm_TM_compares σ' (some (.int r)) p e s m args below meth c H locs (F0 m 75 ls [.int x12]) := by
      intro ls H locs hl hP
      obtain ⟨hz16, hf⟩ := chk_some hf
      cases hf
      exact g_zret F hP hr hlk hz16 d_TM_compares_75
    refine g_lc_ge F d_TM_compares_66 d_TM_compares_67 rfl (fun hb15 => ?_) (fun hb15 => ?_)
    · rw [if_pos hb15] at hj14
      refine lv_iconst (v := 0) F.1 F.2.1 d_TM_compares_74 (by decide) ?_
      subst hj14
      exact KJ13 _ _ _ (lv_sub hl [] rfl) hP
    · rw [if_neg hb15] at hj14
      refine lv_iconst (v := 1) F.1 F.2.1 d_TM_compares_70 (by decide) ?_
      refine lv_goto F.1 F.2.1 d_TM_compares_71 rfl ?_
      subst hj14
      exact KJ13 _ _ _ (lv_sub hl [] rfl) hP
  rw [if_neg hs1_11] at hf
  by_cases hs1_12 : nI i0 = 12
  · rw [if_pos hs1_12] at hf
    refine lv_tableIn F.1 F.2.1 d_TM_compares_4 (by rw [hs1_12]; decide) (by rw [hs1_12]; decide) (off := 72) (by rw [hs1_12]; decide) rfl ?_
    refine lv_lload_n F.1 F.2.1 d_TM_compares_76 rfl (lv_at hl 1 rfl) ?_
    refine lv_lload_n F.1 F.2.1 d_TM_compares_77 rfl (lv_at hl 2 rfl) ?_
    obtain ⟨x17, hj19, hf⟩ := lt_some2 hf
    have KJ18 : ∀ (ls : Array Slot) (H : Heap) (locs : List Loc), lv_has ls 5 [] → St X n σ s.heap H locs → WG l X n rm_TM_compares σ' (some (.int r)) p e s m args below meth c H locs (F0 m 87 ls [.int x17]) := by
      intro ls H locs hl hP
      obtain ⟨hz21, hf⟩ := chk_some hf
      cases hf
      exact g_zret F hP hr hlk hz21 d_TM_compares_87
    refine g_lc_gt F d_TM_compares_78 d_TM_compares_79 rfl (fun hb20 => ?_) (fun hb20 => ?_)
    · rw [if_pos hb20] at hj19
      refine lv_iconst (v := 0) F.1 F.2.1 d_TM_compares_86 (by decide) ?_
      subst hj19
      exact KJ18 _ _ _ (lv_sub hl [] rfl) hP
    · rw [if_neg hb20] at hj19
      refine lv_iconst (v := 1) F.1 F.2.1 d_TM_compares_82 (by decide) ?_
      refine lv_goto F.1 F.2.1 d_TM_compares_83 rfl ?_
      subst hj19
      exact KJ18 _ _ _ (lv_sub hl [] rfl) hP
  rw [if_neg hs1_12] at hf
  by_cases hs1_13 : nI i0 = 13
  · rw [if_pos hs1_13] at hf
    refine lv_tableIn F.1 F.2.1 d_TM_compares_4 (by rw [hs1_13]; decide) (by rw [hs1_13]; decide) (off := 84) (by rw [hs1_13]; decide) rfl ?_
    refine lv_lload_n F.1 F.2.1 d_TM_compares_88 rfl (lv_at hl 1 rfl) ?_
    refine lv_lload_n F.1 F.2.1 d_TM_compares_89 rfl (lv_at hl 2 rfl) ?_
    obtain ⟨x22, hj24, hf⟩ := lt_some2 hf
    have KJ23 : ∀ (ls : Array Slot) (H : Heap) (locs : List Loc), lv_has ls 5 [] → St X n σ s.heap H locs → WG l X n rm_TM_compares σ' (some (.int r)) p e s m args below meth c H locs (F0 m 99 ls [.int x22]) := by
      intro ls H locs hl hP
      obtain ⟨hz26, hf⟩ := chk_some hf
      cases hf
      exact g_zret F hP hr hlk hz26 d_TM_compares_99
    refine g_lc_le F d_TM_compares_90 d_TM_compares_91 rfl (fun hb25 => ?_) (fun hb25 => ?_)
    · rw [if_pos hb25] at hj24
      refine lv_iconst (v := 0) F.1 F.2.1 d_TM_compares_98 (by decide) ?_
      subst hj24
      exact KJ23 _ _ _ (lv_sub hl [] rfl) hP
    · rw [if_neg hb25] at hj24
      refine lv_iconst (v := 1) F.1 F.2.1 d_TM_compares_94 (by decide) ?_
      refine lv_goto F.1 F.2.1 d_TM_compares_95 rfl ?_
      subst hj24
      exact KJ23 _ _ _ (lv_sub hl [] rfl) hP
  rw [if_neg hs1_13] at hf
  have KD32 : ∀ (ls : Array Slot) (H : Heap) (locs : List Loc), lv_has ls 5 [(0, .ref (xad X i0)), (1, .long a1), (3, .long a3)] → St X n σ s.heap H locs → WG l X n rm_TM_compares σ' (some (.int r)) p e s m args below meth c H locs (F0 m 100 ls []) := by
    intro ls H locs hl hP
    refine lv_lload_n F.1 F.2.1 d_TM_compares_100 rfl (lv_at hl 1 rfl) ?_
    refine lv_lload_n F.1 F.2.1 d_TM_compares_101 rfl (lv_at hl 2 rfl) ?_
    obtain ⟨x27, hj29, hf⟩ := lt_some2 hf
    have KJ28 : ∀ (ls : Array Slot) (H : Heap) (locs : List Loc), lv_has ls 5 [] → St X n σ s.heap H locs → WG l X n rm_TM_compares σ' (some (.int r)) p e s m args below meth c H locs (F0 m 111 ls [.int x27]) := by
      intro ls H locs hl hP
      obtain ⟨hz31, hf⟩ := chk_some hf
      cases hf
      exact g_zret F hP hr hlk hz31 d_TM_compares_111
    refine g_lc_lt F d_TM_compares_102 d_TM_compares_103 rfl (fun hb30 => ?_) (fun hb30 => ?_)
    · rw [if_pos hb30] at hj29
      refine lv_iconst (v := 0) F.1 F.2.1 d_TM_compares_110 (by decide) ?_
      subst hj29
      exact KJ28 _ _ _ (lv_sub hl [] rfl) hP
    · rw [if_neg hb30] at hj29
      refine lv_iconst (v := 1) F.1 F.2.1 d_TM_compares_106 (by decide) ?_
      refine lv_goto F.1 F.2.1 d_TM_compares_107 rfl ?_
      subst hj29
      exact KJ28 _ _ _ (lv_sub hl [] rfl) hP
  have z9 := lv_neT hs1_9 (k := 9) (a := 9) rfl
  have z10 := lv_neT hs1_10 (k := 10) (a := 10) rfl
  have z11 := lv_neT hs1_11 (k := 11) (a := 11) rfl
  have z12 := lv_neT hs1_12 (k := 12) (a := 12) rfl
  have z13 := lv_neT hs1_13 (k := 13) (a := 13) rfl
  exact lv_tableOut F.1 F.2.1 d_TM_compares_4 (by omega) rfl (KD32 _ _ _ hl hP)

theorem d_TM_column_0 : decode b_TM_column 0 = .ok (.iload_n 2, 1) := by decide +kernel
theorem d_TM_column_1 : decode b_TM_column 1 = .ok (.aload_n 1, 1) := by decide +kernel
theorem d_TM_column_2 : decode b_TM_column 2 = .ok (.getfield 204, 3) := by decide +kernel
theorem d_TM_column_5 : decode b_TM_column 5 = .ok (.getfield 148, 3) := by decide +kernel
theorem d_TM_column_8 : decode b_TM_column 8 = .ok (.if_icmp .ge 41, 3) := by decide +kernel
theorem d_TM_column_11 : decode b_TM_column 11 = .ok (.aload_n 1, 1) := by decide +kernel
theorem d_TM_column_12 : decode b_TM_column 12 = .ok (.invokevirtual 224, 3) := by decide +kernel
theorem d_TM_column_15 : decode b_TM_column 15 = .ok (.ifCond .eq 34, 3) := by decide +kernel
theorem d_TM_column_18 : decode b_TM_column 18 = .ok (.aload_n 1, 1) := by decide +kernel
theorem d_TM_column_19 : decode b_TM_column 19 = .ok (.getfield 204, 3) := by decide +kernel
theorem d_TM_column_22 : decode b_TM_column 22 = .ok (.aload_n 1, 1) := by decide +kernel
theorem d_TM_column_23 : decode b_TM_column 23 = .ok (.getfield 218, 3) := by decide +kernel
theorem d_TM_column_26 : decode b_TM_column 26 = .ok (.aload_n 0, 1) := by decide +kernel
theorem d_TM_column_27 : decode b_TM_column 27 = .ok (.getfield 29, 3) := by decide +kernel
theorem d_TM_column_30 : decode b_TM_column 30 = .ok (.invokevirtual 151, 3) := by decide +kernel
theorem d_TM_column_33 : decode b_TM_column 33 = .ok (.aload_n 3, 1) := by decide +kernel
theorem d_TM_column_34 : decode b_TM_column 34 = .ok (.aload_n 0, 1) := by decide +kernel
theorem d_TM_column_35 : decode b_TM_column 35 = .ok (.getfield 29, 3) := by decide +kernel
theorem d_TM_column_38 : decode b_TM_column 38 = .ok (.getfield 109, 3) := by decide +kernel
theorem d_TM_column_41 : decode b_TM_column 41 = .ok (.iload_n 2, 1) := by decide +kernel
theorem d_TM_column_42 : decode b_TM_column 42 = .ok (.aaload, 1) := by decide +kernel
theorem d_TM_column_43 : decode b_TM_column 43 = .ok (.invokevirtual 231, 3) := by decide +kernel
theorem d_TM_column_46 : decode b_TM_column 46 = .ok (.goto 7, 3) := by decide +kernel
theorem d_TM_column_49 : decode b_TM_column 49 = .ok (.aload_n 3, 1) := by decide +kernel
theorem d_TM_column_50 : decode b_TM_column 50 = .ok (.invokevirtual 115, 3) := by decide +kernel
theorem d_TM_column_53 : decode b_TM_column 53 = .ok (.return_, 1) := by decide +kernel
noncomputable def f_TM_column (i1 : Nat) (a2 : Int32) (i3 : Nat) (σ : Sg) : Option (Sg) :=
  (gr σ 7 i1 0).bind (fun t1 => chk (t1 < nt σ) (Option.bind (if (gi σ 3 t1 2) ≤ a2 then ((f_Vl_none i3 σ).bind (fun σ7 => some (σ7))) else (bn2 (f_Cu_at i1 σ) (fun r11 σ9 => (if r11 = 0 then ((f_Vl_none i3 σ9).bind (fun σ12 => some (σ12))) else ((gr σ9 7 i1 0).bind (fun t14 => chk (t14 < nt σ9) ((f_Tr_read t14 (gj σ9 7 i1 2) 1 σ9).bind (fun σ17 => chk (vp_in a2 4) ((f_Vl_like i3 (4 * 1 + a2.toNatClampNeg) σ17).bind (fun σ20 => some (σ20))))))))))) (fun (σ4 : Sg) => some σ4)))
abbrev rm_TM_column : Room := { frames := 6, cells := 0, slots := 0, locals := 142 }
set_option maxHeartbeats 4000000 in
set_option maxRecDepth 100000 in
theorem c_TM_column (l : Launch) (X : GX) (n : Nat) {σ σ' : Sg} {i1 : Nat} {a2 : Int32} {i3 : Nat} (h_i1 : i1 < cnt n 7) (h_i3 : i3 < cnt n 5) (hf : f_TM_column i1 a2 i3 σ = some σ') : Met l y_TM_column (cw y_TM_column b_TM_column 4 none) rm_TM_column (PcG X n σ [.ref (xL X 0 0), .ref (xL X 7 i1), .int a2, .ref (xL X 5 i3)]) (QcG X n σ' none) 0 0 (fr X n) := by
  refine g_head (own := "TableMachine") (by decide) rfl (Nat.le_of_ble_eq_true rfl) ?_
  intro p e s m args below meth c ls F hr hlk hP hl
  have hl : lv_has ls 4 [(0, .ref (xL X 0 0)), (1, .ref (xL X 7 i1)), (2, .int a2), (3, .ref (xL X 5 i3))] := hl
  show WG l X n rm_TM_column σ' none p e s m args below meth c s.heap [] (F0 m 0 ls [])
  unfold f_TM_column at hf
  refine lv_iload_n F.1 F.2.1 d_TM_column_0 rfl (lv_at hl 2 rfl) ?_
  refine lv_aload_n F.1 F.2.1 d_TM_column_1 rfl (lv_at hl 1 rfl) ?_
  obtain ⟨t1, e_t1, hf⟩ := bnd_some hf
  obtain ⟨hc2, hf⟩ := chk_some hf
  have hv3 : t1 < cnt n 3 := hP.lt hc2
  refine g_getN F hP 7 0 i1 (by decide) h_i1 (by decide) (v := .ref (xL X 3 t1)) (fv_on e_t1) w_140 d_TM_column_2 ?_
  refine g_getN F hP 3 2 t1 (by decide) hv3 (by decide) (v := .int (gi σ 3 t1 2)) rfl w_399 d_TM_column_5 ?_
  obtain ⟨σ4, hj6, hf⟩ := bnd_some hf
  have KJ5 : ∀ (ls : Array Slot) (H : Heap) (locs : List Loc), lv_has ls 4 [] → St X n σ4 s.heap H locs → WG l X n rm_TM_column σ' none p e s m args below meth c H locs (F0 m 53 ls []) := by
    intro ls H locs hl hP
    cases hf
    exact g_vret F hP hr hlk d_TM_column_53
  refine lv_icmp_ge F.1 F.2.1 d_TM_column_8 rfl (fun hb23 => ?_) (fun hb23 => ?_)
  · rw [if_pos hb23] at hj6
    refine lv_aload_n F.1 F.2.1 d_TM_column_49 rfl (lv_at hl 3 rfl) ?_
    obtain ⟨σ7, hk8, hj6⟩ := bnd_some hj6
    refine g_callV (As := []) (rest := []) F hP 5 i3 (by decide) h_i3 (c_Vl_none l X n h_i3 hk8) rfl q_Vl_none w_254 w_5 w_251 w_252 w_253 ⟨rfl, rfl⟩ ⟨by decide, by decide⟩ hl.1 (Nat.le_of_ble_eq_true rfl) ⟨Nat.zero_le _, Nat.zero_le _⟩ d_TM_column_50 rfl (fun H locs hP => ?_)
    refine W.eq (g2 := F0 m 53 ls []) rfl ?_
    cases hj6
    exact KJ5 _ _ _ (lv_sub hl [] rfl) hP
  · rw [if_neg hb23] at hj6
    refine lv_aload_n F.1 F.2.1 d_TM_column_11 rfl (lv_at hl 1 rfl) ?_
    obtain ⟨r11, σ9, hk10, hj6⟩ := bn2_some hj6
    refine g_callV (As := []) (rest := []) F hP 7 i1 (by decide) h_i1 (c_Cu_at l X n h_i1 hk10) rfl q_Cu_at w_780 w_9 w_777 w_778 w_779 ⟨rfl, rfl⟩ ⟨by decide, by decide⟩ hl.1 (Nat.le_of_ble_eq_true rfl) ⟨Nat.zero_le _, Nat.zero_le _⟩ d_TM_column_12 rfl (fun H locs hP => ?_)
    refine W.eq (g2 := F0 m 15 ls [.int r11]) rfl ?_
    refine lv_if_eq F.1 F.2.1 d_TM_column_15 rfl (fun hb22 => ?_) (fun hb22 => ?_)
    · rw [if_pos hb22] at hj6
      refine lv_aload_n F.1 F.2.1 d_TM_column_49 rfl (lv_at hl 3 rfl) ?_
      obtain ⟨σ12, hk13, hj6⟩ := bnd_some hj6
      refine g_callV (As := []) (rest := []) F hP 5 i3 (by decide) h_i3 (c_Vl_none l X n h_i3 hk13) rfl q_Vl_none w_254 w_5 w_251 w_252 w_253 ⟨rfl, rfl⟩ ⟨by decide, by decide⟩ hl.1 (Nat.le_of_ble_eq_true rfl) ⟨Nat.zero_le _, Nat.zero_le _⟩ d_TM_column_50 rfl (fun H locs hP => ?_)
      refine W.eq (g2 := F0 m 53 ls []) rfl ?_
      cases hj6
      exact KJ5 _ _ _ (lv_sub hl [] rfl) hP
    · rw [if_neg hb22] at hj6
      refine lv_aload_n F.1 F.2.1 d_TM_column_18 rfl (lv_at hl 1 rfl) ?_
      obtain ⟨t14, e_t14, hj6⟩ := bnd_some hj6
      obtain ⟨hc15, hj6⟩ := chk_some hj6
      have hv16 : t14 < cnt n 3 := hP.lt hc15
      refine g_getN F hP 7 0 i1 (by decide) h_i1 (by decide) (v := .ref (xL X 3 t14)) (fv_on e_t14) w_140 d_TM_column_19 ?_
      refine lv_aload_n F.1 F.2.1 d_TM_column_22 rfl (lv_at hl 1 rfl) ?_
      refine g_getN F hP 7 2 i1 (by decide) h_i1 (by decide) (v := .long (gj σ9 7 i1 2)) rfl w_144 d_TM_column_23 ?_
      refine lv_aload_n F.1 F.2.1 d_TM_column_26 rfl (lv_at hl 0 rfl) ?_
      refine g_get F hP 0 5 0 (by decide) Nat.zero_lt_one (by decide) (v := .ref (xL X 4 1)) rfl w_175 d_TM_column_27 ?_
      obtain ⟨σ17, hk18, hj6⟩ := bnd_some hj6
      refine g_callV (As := [.long (gj σ9 7 i1 2), .ref (xL X 4 1)]) (rest := []) F hP 3 t14 (by decide) hv16 (c_Tr_read l X n hv16 o12 hk18) rfl q_Tr_read w_625 w_17 w_622 w_623 w_624 ⟨rfl, rfl⟩ ⟨by decide, by decide⟩ hl.1 (Nat.le_of_ble_eq_true rfl) ⟨Nat.zero_le _, Nat.zero_le _⟩ d_TM_column_30 rfl (fun H locs hP => ?_)
      refine W.eq (g2 := F0 m 33 ls []) rfl ?_
      refine lv_aload_n F.1 F.2.1 d_TM_column_33 rfl (lv_at hl 3 rfl) ?_
      refine lv_aload_n F.1 F.2.1 d_TM_column_34 rfl (lv_at hl 0 rfl) ?_
      refine g_get F hP 0 5 0 (by decide) Nat.zero_lt_one (by decide) (v := .ref (xL X 4 1)) rfl w_175 d_TM_column_35 ?_
      refine g_getN F hP 4 0 1 (by decide) o12 (by decide) (v := .ref (xL X 15 1)) rfl w_95 d_TM_column_38 ?_
      refine lv_iload_n F.1 F.2.1 d_TM_column_41 rfl (lv_at hl 2 rfl) ?_
      obtain ⟨hc19, hj6⟩ := chk_some hj6
      refine g_rld F hP 15 (by decide) (by decide) o12 rfl hc19 (v := .ref (xL X 5 (4 * 1 + a2.toNatClampNeg))) rfl d_TM_column_42 ?_
      obtain ⟨σ20, hk21, hj6⟩ := bnd_some hj6
      refine g_callV (As := [.ref (xL X 5 (4 * 1 + a2.toNatClampNeg))]) (rest := []) F hP 5 i3 (by decide) h_i3 (c_Vl_like l X n h_i3 (ve15 o12 hc19) hk21) rfl q_Vl_like w_785 w_5 w_782 w_783 w_784 ⟨rfl, rfl⟩ ⟨by decide, by decide⟩ hl.1 (Nat.le_of_ble_eq_true rfl) ⟨Nat.zero_le _, Nat.zero_le _⟩ d_TM_column_43 rfl (fun H locs hP => ?_)
      refine W.eq (g2 := F0 m 46 ls []) rfl ?_
      refine lv_goto F.1 F.2.1 d_TM_column_46 rfl ?_
      cases hj6
      exact KJ5 _ _ _ (lv_sub hl [] rfl) hP

theorem d_TM_comes_0 : decode b_TM_comes 0 = .ok (.aload_n 0, 1) := by decide +kernel
theorem d_TM_comes_1 : decode b_TM_comes 1 = .ok (.getfield 50, 3) := by decide +kernel
theorem d_TM_comes_4 : decode b_TM_comes 4 = .ok (.iload_n 2, 1) := by decide +kernel
theorem d_TM_comes_5 : decode b_TM_comes 5 = .ok (.aaload, 1) := by decide +kernel
theorem d_TM_comes_6 : decode b_TM_comes 6 = .ok (.getfield 162, 3) := by decide +kernel
theorem d_TM_comes_9 : decode b_TM_comes 9 = .ok (.ifCond .eq 28, 3) := by decide +kernel
theorem d_TM_comes_12 : decode b_TM_comes 12 = .ok (.aload_n 0, 1) := by decide +kernel
theorem d_TM_comes_13 : decode b_TM_comes 13 = .ok (.getfield 122, 3) := by decide +kernel
theorem d_TM_comes_16 : decode b_TM_comes 16 = .ok (.bipush 90, 2) := by decide +kernel
theorem d_TM_comes_18 : decode b_TM_comes 18 = .ok (.if_icmp .eq 19, 3) := by decide +kernel
theorem d_TM_comes_21 : decode b_TM_comes 21 = .ok (.aload_n 1, 1) := by decide +kernel
theorem d_TM_comes_22 : decode b_TM_comes 22 = .ok (.aload_n 0, 1) := by decide +kernel
theorem d_TM_comes_23 : decode b_TM_comes 23 = .ok (.getfield 50, 3) := by decide +kernel
theorem d_TM_comes_26 : decode b_TM_comes 26 = .ok (.iload_n 2, 1) := by decide +kernel
theorem d_TM_comes_27 : decode b_TM_comes 27 = .ok (.aaload, 1) := by decide +kernel
theorem d_TM_comes_28 : decode b_TM_comes 28 = .ok (.getfield 158, 3) := by decide +kernel
theorem d_TM_comes_31 : decode b_TM_comes 31 = .ok (.invokevirtual 125, 3) := by decide +kernel
theorem d_TM_comes_34 : decode b_TM_comes 34 = .ok (.ifCond .eq 5, 3) := by decide +kernel
theorem d_TM_comes_37 : decode b_TM_comes 37 = .ok (.iconst 0, 1) := by decide +kernel
theorem d_TM_comes_38 : decode b_TM_comes 38 = .ok (.ireturn, 1) := by decide +kernel
theorem d_TM_comes_39 : decode b_TM_comes 39 = .ok (.iconst 0, 1) := by decide +kernel
theorem d_TM_comes_40 : decode b_TM_comes 40 = .ok (.istore_n 3, 1) := by decide +kernel
theorem d_TM_comes_41 : decode b_TM_comes 41 = .ok (.iload_n 3, 1) := by decide +kernel
theorem d_TM_comes_42 : decode b_TM_comes 42 = .ok (.aload_n 1, 1) := by decide +kernel
theorem d_TM_comes_43 : decode b_TM_comes 43 = .ok (.getfield 148, 3) := by decide +kernel
theorem d_TM_comes_46 : decode b_TM_comes 46 = .ok (.if_icmp .ge 31, 3) := by decide +kernel
theorem d_TM_comes_49 : decode b_TM_comes 49 = .ok (.aload_n 0, 1) := by decide +kernel
theorem d_TM_comes_50 : decode b_TM_comes 50 = .ok (.getfield 29, 3) := by decide +kernel
theorem d_TM_comes_53 : decode b_TM_comes 53 = .ok (.getfield 109, 3) := by decide +kernel
theorem d_TM_comes_56 : decode b_TM_comes 56 = .ok (.iload_n 3, 1) := by decide +kernel
theorem d_TM_comes_57 : decode b_TM_comes 57 = .ok (.aaload, 1) := by decide +kernel
theorem d_TM_comes_58 : decode b_TM_comes 58 = .ok (.aload_n 0, 1) := by decide +kernel
theorem d_TM_comes_59 : decode b_TM_comes 59 = .ok (.getfield 50, 3) := by decide +kernel
theorem d_TM_comes_62 : decode b_TM_comes 62 = .ok (.iload_n 2, 1) := by decide +kernel
theorem d_TM_comes_63 : decode b_TM_comes 63 = .ok (.iconst 1, 1) := by decide +kernel
theorem d_TM_comes_64 : decode b_TM_comes 64 = .ok (.iadd, 1) := by decide +kernel
theorem d_TM_comes_65 : decode b_TM_comes 65 = .ok (.iload_n 3, 1) := by decide +kernel
theorem d_TM_comes_66 : decode b_TM_comes 66 = .ok (.iadd, 1) := by decide +kernel
theorem d_TM_comes_67 : decode b_TM_comes 67 = .ok (.aaload, 1) := by decide +kernel
theorem d_TM_comes_68 : decode b_TM_comes 68 = .ok (.invokevirtual 231, 3) := by decide +kernel
theorem d_TM_comes_71 : decode b_TM_comes 71 = .ok (.iinc 3 1, 3) := by decide +kernel
theorem d_TM_comes_74 : decode b_TM_comes 74 = .ok (.goto (-33), 3) := by decide +kernel
theorem d_TM_comes_77 : decode b_TM_comes 77 = .ok (.aload_n 1, 1) := by decide +kernel
theorem d_TM_comes_78 : decode b_TM_comes 78 = .ok (.aload_n 0, 1) := by decide +kernel
theorem d_TM_comes_79 : decode b_TM_comes 79 = .ok (.getfield 50, 3) := by decide +kernel
theorem d_TM_comes_82 : decode b_TM_comes 82 = .ok (.iload_n 2, 1) := by decide +kernel
theorem d_TM_comes_83 : decode b_TM_comes 83 = .ok (.aaload, 1) := by decide +kernel
theorem d_TM_comes_84 : decode b_TM_comes 84 = .ok (.getfield 158, 3) := by decide +kernel
theorem d_TM_comes_87 : decode b_TM_comes 87 = .ok (.aload_n 0, 1) := by decide +kernel
theorem d_TM_comes_88 : decode b_TM_comes 88 = .ok (.getfield 29, 3) := by decide +kernel
theorem d_TM_comes_91 : decode b_TM_comes 91 = .ok (.invokevirtual 129, 3) := by decide +kernel
theorem d_TM_comes_94 : decode b_TM_comes 94 = .ok (.aload_n 0, 1) := by decide +kernel
theorem d_TM_comes_95 : decode b_TM_comes 95 = .ok (.dup, 1) := by decide +kernel
theorem d_TM_comes_96 : decode b_TM_comes 96 = .ok (.getfield 122, 3) := by decide +kernel
theorem d_TM_comes_99 : decode b_TM_comes 99 = .ok (.iconst 1, 1) := by decide +kernel
theorem d_TM_comes_100 : decode b_TM_comes 100 = .ok (.iadd, 1) := by decide +kernel
theorem d_TM_comes_101 : decode b_TM_comes 101 = .ok (.putfield 122, 3) := by decide +kernel
theorem d_TM_comes_104 : decode b_TM_comes 104 = .ok (.iconst 1, 1) := by decide +kernel
theorem d_TM_comes_105 : decode b_TM_comes 105 = .ok (.ireturn, 1) := by decide +kernel
noncomputable def b_TM_comes_41 (i1 : Nat) (a2 : Int32) (x6 : Int32) (σ7 : Sg) : Option ((Int32 × Sg) ⊕ (Sg)) :=
  (if (gi σ7 3 i1 2) ≤ x6 then (some (.inr σ7)) else (chk (vp_in x6 4) (chk (vp_in ((a2 + 1) + x6) 16) ((f_Vl_like (4 * 1 + x6.toNatClampNeg) (8 + ((a2 + 1) + x6).toNatClampNeg) σ7).bind (fun σ13 => lt_ (x6 + 1 : Int32) (fun (x15 : Int32) => some (.inl (x15, σ13))))))))
noncomputable def l_TM_comes_41 (i1 : Nat) (a2 : Int32) (x6 : Int32) (σ7 : Sg) : Option (Sg) := lp (fun q => b_TM_comes_41 i1 a2 q.1 q.2) FU (x6, σ7)
noncomputable def f_TM_comes (i1 : Nat) (a2 : Int32) (σ : Sg) : Option (Int32 × Sg) :=
  chk (vp_in a2 16) ((if (gi σ 5 (8 + a2.toNatClampNeg) 0) = 0 then (some (0, σ)) else (if (gi σ 0 0 3) = 90 then (some (0, σ)) else (chk (vp_in a2 16) (bn2 (f_Tr_has i1 (gj σ 5 (8 + a2.toNatClampNeg) 1) σ) (fun r5 σ3 => (if r5 = 0 then ((l_TM_comes_41 i1 a2 0 σ3).bind (fun σ17 => chk (vp_in a2 16) ((f_Tr_place i1 (gj σ17 5 (8 + a2.toNatClampNeg) 1) 1 σ17).bind (fun σ21 => lt_ (si σ21 0 0 3 ((gi σ21 0 0 3) + 1)) (fun σ23 => some (1, σ23)))))) else (some (0, σ3)))))))))
abbrev rm_TM_comes : Room := { frames := 9, cells := 0, slots := 0, locals := 225 }
set_option maxHeartbeats 4000000 in
set_option maxRecDepth 100000 in
theorem c_TM_comes (l : Launch) (X : GX) (n : Nat) {σ σ' : Sg} {r : Int32} {i1 : Nat} {a2 : Int32} (h_i1 : i1 < cnt n 3) (hf : f_TM_comes i1 a2 σ = some (r, σ')) : Met l y_TM_comes (cw y_TM_comes b_TM_comes 4 (some .boolean)) rm_TM_comes (PcG X n σ [.ref (xL X 0 0), .ref (xL X 3 i1), .int a2]) (QcG X n σ' (some (.int r))) 0 0 (fr X n) := by
  refine g_head (own := "TableMachine") (by decide) rfl (Nat.le_of_ble_eq_true rfl) ?_
  intro p e s m args below meth c ls F hr hlk hP hl
  have hl : lv_has ls 4 [(0, .ref (xL X 0 0)), (1, .ref (xL X 3 i1)), (2, .int a2)] := hl
  show WG l X n rm_TM_comes σ' (some (.int r)) p e s m args below meth c s.heap [] (F0 m 0 ls [])
  unfold f_TM_comes at hf
  refine lv_aload_n F.1 F.2.1 d_TM_comes_0 rfl (lv_at hl 0 rfl) ?_
  refine g_get F hP 0 9 0 (by decide) Nat.zero_lt_one (by decide) (v := .ref (xL X 20 0)) rfl w_179 d_TM_comes_1 ?_
  refine lv_iload_n F.1 F.2.1 d_TM_comes_4 rfl (lv_at hl 2 rfl) ?_
  obtain ⟨hc1, hf⟩ := chk_some hf
  refine g_rld F hP 20 (by decide) (by decide) Nat.zero_lt_one rfl hc1 (v := .ref (xL X 5 (8 + a2.toNatClampNeg))) rfl d_TM_comes_5 ?_
  refine g_getN F hP 5 0 (8 + a2.toNatClampNeg) (by decide) (ve20 hc1) (by decide) (v := .int (gi σ 5 (8 + a2.toNatClampNeg) 0)) rfl w_85 d_TM_comes_6 ?_
  refine lv_if_eq F.1 F.2.1 d_TM_comes_9 rfl (fun hb26 => ?_) (fun hb26 => ?_)
  · rw [if_pos hb26] at hf
    refine lv_iconst (v := 0) F.1 F.2.1 d_TM_comes_37 (by decide) ?_
    cases hf
    exact g_zret F hP hr hlk zb0 d_TM_comes_38
  · rw [if_neg hb26] at hf
    refine lv_aload_n F.1 F.2.1 d_TM_comes_12 rfl (lv_at hl 0 rfl) ?_
    refine g_get F hP 0 3 0 (by decide) Nat.zero_lt_one (by decide) (v := .int (gi σ 0 0 3)) rfl w_173 d_TM_comes_13 ?_
    refine lv_bipush (v := 90) F.1 F.2.1 d_TM_comes_16 (by decide) ?_
    refine lv_icmp_eq F.1 F.2.1 d_TM_comes_18 rfl (fun hb25 => ?_) (fun hb25 => ?_)
    · rw [if_pos hb25] at hf
      refine lv_iconst (v := 0) F.1 F.2.1 d_TM_comes_37 (by decide) ?_
      cases hf
      exact g_zret F hP hr hlk zb0 d_TM_comes_38
    · rw [if_neg hb25] at hf
      refine lv_aload_n F.1 F.2.1 d_TM_comes_21 rfl (lv_at hl 1 rfl) ?_
      refine lv_aload_n F.1 F.2.1 d_TM_comes_22 rfl (lv_at hl 0 rfl) ?_
      refine g_get F hP 0 9 0 (by decide) Nat.zero_lt_one (by decide) (v := .ref (xL X 20 0)) rfl w_179 d_TM_comes_23 ?_
      refine lv_iload_n F.1 F.2.1 d_TM_comes_26 rfl (lv_at hl 2 rfl) ?_
      obtain ⟨hc2, hf⟩ := chk_some hf
      refine g_rld F hP 20 (by decide) (by decide) Nat.zero_lt_one rfl hc2 (v := .ref (xL X 5 (8 + a2.toNatClampNeg))) rfl d_TM_comes_27 ?_
      refine g_getN F hP 5 1 (8 + a2.toNatClampNeg) (by decide) (ve20 hc2) (by decide) (v := .long (gj σ 5 (8 + a2.toNatClampNeg) 1)) rfl w_88 d_TM_comes_28 ?_
      obtain ⟨r5, σ3, hk4, hf⟩ := bn2_some hf
      refine g_callV (As := [.long (gj σ 5 (8 + a2.toNatClampNeg) 1)]) (rest := []) F hP 3 i1 (by decide) h_i1 (c_Tr_has l X n h_i1 hk4) rfl q_Tr_has w_451 w_17 w_448 w_449 w_450 ⟨rfl, rfl⟩ ⟨by decide, by decide⟩ hl.1 (Nat.le_of_ble_eq_true rfl) ⟨Nat.zero_le _, Nat.zero_le _⟩ d_TM_comes_31 rfl (fun H locs hP => ?_)
      refine W.eq (g2 := F0 m 34 ls [.int r5]) rfl ?_
      refine lv_if_eq F.1 F.2.1 d_TM_comes_34 rfl (fun hb24 => ?_) (fun hb24 => ?_)
      · rw [if_pos hb24] at hf
        refine lv_iconst (v := 0) F.1 F.2.1 d_TM_comes_39 (by decide) ?_
        refine lv_istore_n F.1 F.2.1 d_TM_comes_40 rfl hl (by decide) rfl (fun ls hl => ?_)
        have hl : lv_has ls 4 [(3, .int 0), (0, .ref (xL X 0 0)), (1, .ref (xL X 3 i1)), (2, .int a2)] := hl
        obtain ⟨σ17, hlp18, hf⟩ := bnd_some hf
        have KX19 : ∀ (ls : Array Slot) (H : Heap) (locs : List Loc), lv_has ls 4 [(0, .ref (xL X 0 0)), (1, .ref (xL X 3 i1)), (2, .int a2)] → St X n σ17 s.heap H locs → WG l X n rm_TM_comes σ' (some (.int r)) p e s m args below meth c H locs (F0 m 77 ls []) := by
          intro ls H locs hl hP
          refine lv_aload_n F.1 F.2.1 d_TM_comes_77 rfl (lv_at hl 1 rfl) ?_
          refine lv_aload_n F.1 F.2.1 d_TM_comes_78 rfl (lv_at hl 0 rfl) ?_
          refine g_get F hP 0 9 0 (by decide) Nat.zero_lt_one (by decide) (v := .ref (xL X 20 0)) rfl w_179 d_TM_comes_79 ?_
          refine lv_iload_n F.1 F.2.1 d_TM_comes_82 rfl (lv_at hl 2 rfl) ?_
          obtain ⟨hc20, hf⟩ := chk_some hf
          refine g_rld F hP 20 (by decide) (by decide) Nat.zero_lt_one rfl hc20 (v := .ref (xL X 5 (8 + a2.toNatClampNeg))) rfl d_TM_comes_83 ?_
          refine g_getN F hP 5 1 (8 + a2.toNatClampNeg) (by decide) (ve20 hc20) (by decide) (v := .long (gj σ17 5 (8 + a2.toNatClampNeg) 1)) rfl w_88 d_TM_comes_84 ?_
          refine lv_aload_n F.1 F.2.1 d_TM_comes_87 rfl (lv_at hl 0 rfl) ?_
          refine g_get F hP 0 5 0 (by decide) Nat.zero_lt_one (by decide) (v := .ref (xL X 4 1)) rfl w_175 d_TM_comes_88 ?_
          obtain ⟨σ21, hk22, hf⟩ := bnd_some hf
          refine g_callV (As := [.long (gj σ17 5 (8 + a2.toNatClampNeg) 1), .ref (xL X 4 1)]) (rest := []) F hP 3 i1 (by decide) h_i1 (c_Tr_place l X n h_i1 o12 hk22) rfl q_Tr_place w_488 w_17 w_485 w_486 w_487 ⟨rfl, rfl⟩ ⟨by decide, by decide⟩ hl.1 (Nat.le_of_ble_eq_true rfl) ⟨Nat.zero_le _, Nat.zero_le _⟩ d_TM_comes_91 rfl (fun H locs hP => ?_)
          refine W.eq (g2 := F0 m 94 ls []) rfl ?_
          refine lv_aload_n F.1 F.2.1 d_TM_comes_94 rfl (lv_at hl 0 rfl) ?_
          refine lv_dup F.1 F.2.1 d_TM_comes_95 rfl ?_
          refine g_get F hP 0 3 0 (by decide) Nat.zero_lt_one (by decide) (v := .int (gi σ21 0 0 3)) rfl w_173 d_TM_comes_96 ?_
          refine lv_iconst (v := 1) F.1 F.2.1 d_TM_comes_99 (by decide) ?_
          refine lv_iadd F.1 F.2.1 d_TM_comes_100 ?_
          obtain ⟨σ23, e_σ23, hf⟩ := lt_some hf
          refine g_puti F hP 0 3 0 (by decide) Nat.zero_lt_one (by decide) rfl rfl rfl rfl (Or.inl w_173) d_TM_comes_101 e_σ23 (fun H locs hP => ?_)
          refine lv_iconst (v := 1) F.1 F.2.1 d_TM_comes_104 (by decide) ?_
          cases hf
          exact g_zret F hP hr hlk zb1 d_TM_comes_105
        unfold l_TM_comes_41 at hlp18
        refine lp_W (PW := fun q => ∀ (ls : Array Slot) (H : Heap) (locs : List Loc), lv_has ls 4 [(0, .ref (xL X 0 0)), (1, .ref (xL X 3 i1)), (2, .int a2), (3, .int q.1)] → St X n q.2 s.heap H locs → WG l X n rm_TM_comes σ' (some (.int r)) p e s m args below meth c H locs (F0 m 41 ls [])) (PE := fun q => ∀ (ls : Array Slot) (H : Heap) (locs : List Loc), lv_has ls 4 [(0, .ref (xL X 0 0)), (1, .ref (xL X 3 i1)), (2, .int a2)] → St X n q s.heap H locs → WG l X n rm_TM_comes σ' (some (.int r)) p e s m args below meth c H locs (F0 m 77 ls [])) ?_ _ _ _ hlp18 KX19 _ _ _ (lv_sub hl [1, 2, 3, 0] rfl) hP
        rintro ⟨x6, σ7⟩ rr8 hb_41 hI9 hE10 ls H locs hl hP
        replace hb_41 : b_TM_comes_41 i1 a2 x6 σ7 = some rr8 := hb_41
        unfold b_TM_comes_41 at hb_41
        refine lv_iload_n F.1 F.2.1 d_TM_comes_41 rfl (lv_at hl 3 rfl) ?_
        refine lv_aload_n F.1 F.2.1 d_TM_comes_42 rfl (lv_at hl 1 rfl) ?_
        refine g_getN F hP 3 2 i1 (by decide) h_i1 (by decide) (v := .int (gi σ7 3 i1 2)) rfl w_399 d_TM_comes_43 ?_
        refine lv_icmp_ge F.1 F.2.1 d_TM_comes_46 rfl (fun hb16 => ?_) (fun hb16 => ?_)
        · rw [if_pos hb16] at hb_41
          cases hb_41
          exact hE10 _ rfl _ _ _ (lv_sub hl [0, 1, 2] rfl) hP
        · rw [if_neg hb16] at hb_41
          refine lv_aload_n F.1 F.2.1 d_TM_comes_49 rfl (lv_at hl 0 rfl) ?_
          refine g_get F hP 0 5 0 (by decide) Nat.zero_lt_one (by decide) (v := .ref (xL X 4 1)) rfl w_175 d_TM_comes_50 ?_
          refine g_getN F hP 4 0 1 (by decide) o12 (by decide) (v := .ref (xL X 15 1)) rfl w_95 d_TM_comes_53 ?_
          refine lv_iload_n F.1 F.2.1 d_TM_comes_56 rfl (lv_at hl 3 rfl) ?_
          obtain ⟨hc11, hb_41⟩ := chk_some hb_41
          refine g_rld F hP 15 (by decide) (by decide) o12 rfl hc11 (v := .ref (xL X 5 (4 * 1 + x6.toNatClampNeg))) rfl d_TM_comes_57 ?_
          refine lv_aload_n F.1 F.2.1 d_TM_comes_58 rfl (lv_at hl 0 rfl) ?_
          refine g_get F hP 0 9 0 (by decide) Nat.zero_lt_one (by decide) (v := .ref (xL X 20 0)) rfl w_179 d_TM_comes_59 ?_
          refine lv_iload_n F.1 F.2.1 d_TM_comes_62 rfl (lv_at hl 2 rfl) ?_
          refine lv_iconst (v := 1) F.1 F.2.1 d_TM_comes_63 (by decide) ?_
          refine lv_iadd F.1 F.2.1 d_TM_comes_64 ?_
          refine lv_iload_n F.1 F.2.1 d_TM_comes_65 rfl (lv_at hl 3 rfl) ?_
          refine lv_iadd F.1 F.2.1 d_TM_comes_66 ?_
          obtain ⟨hc12, hb_41⟩ := chk_some hb_41
          refine g_rld F hP 20 (by decide) (by decide) Nat.zero_lt_one rfl hc12 (v := .ref (xL X 5 (8 + ((a2 + 1) + x6).toNatClampNeg))) rfl d_TM_comes_67 ?_
          obtain ⟨σ13, hk14, hb_41⟩ := bnd_some hb_41
          refine g_callV (As := [.ref (xL X 5 (8 + ((a2 + 1) + x6).toNatClampNeg))]) (rest := []) F hP 5 (4 * 1 + x6.toNatClampNeg) (by decide) (ve15 o12 hc11) (c_Vl_like l X n (ve15 o12 hc11) (ve20 hc12) hk14) rfl q_Vl_like w_785 w_5 w_782 w_783 w_784 ⟨rfl, rfl⟩ ⟨by decide, by decide⟩ hl.1 (Nat.le_of_ble_eq_true rfl) ⟨Nat.zero_le _, Nat.zero_le _⟩ d_TM_comes_68 rfl (fun H locs hP => ?_)
          refine W.eq (g2 := F0 m 71 ls []) rfl ?_
          obtain ⟨x15, e_x15, hb_41⟩ := lt_some hb_41
          refine lv_iinc (k := 3) (v := x15) F.1 F.2.1 d_TM_comes_71 hl rfl (by rw [e_x15]; rfl) (by decide) rfl (fun ls hl => ?_)
          have hl : lv_has ls 4 [(3, .int x15), (0, .ref (xL X 0 0)), (1, .ref (xL X 3 i1)), (2, .int a2)] := hl
          refine lv_goto F.1 F.2.1 d_TM_comes_74 rfl ?_
          cases hb_41
          exact hI9 _ rfl _ _ _ (lv_sub hl [1, 2, 3, 0] rfl) hP
      · rw [if_neg hb24] at hf
        refine lv_iconst (v := 0) F.1 F.2.1 d_TM_comes_37 (by decide) ?_
        cases hf
        exact g_zret F hP hr hlk zb0 d_TM_comes_38

theorem d_TM_moves_0 : decode b_TM_moves 0 = .ok (.aload_n 1, 1) := by decide +kernel
theorem d_TM_moves_1 : decode b_TM_moves 1 = .ok (.getfield 169, 3) := by decide +kernel
theorem d_TM_moves_4 : decode b_TM_moves 4 = .ok (.invokevirtual 200, 3) := by decide +kernel
theorem d_TM_moves_7 : decode b_TM_moves 7 = .ok (.tableswitch 296 2 20 #[89, 109, 145, 169, 296, 296, 213, 296, 296, 296, 296, 296, 296, 296, 296, 296, 296, 296, 273], 89) := by decide +kernel
theorem d_TM_moves_96 : decode b_TM_moves 96 = .ok (.aload_n 2, 1) := by decide +kernel
theorem d_TM_moves_97 : decode b_TM_moves 97 = .ok (.aload_n 2, 1) := by decide +kernel
theorem d_TM_moves_98 : decode b_TM_moves 98 = .ok (.getfield 204, 3) := by decide +kernel
theorem d_TM_moves_101 : decode b_TM_moves 101 = .ok (.invokevirtual 208, 3) := by decide +kernel
theorem d_TM_moves_104 : decode b_TM_moves 104 = .ok (.invokevirtual 212, 3) := by decide +kernel
theorem d_TM_moves_107 : decode b_TM_moves 107 = .ok (.ifCond .ne 7, 3) := by decide +kernel
theorem d_TM_moves_110 : decode b_TM_moves 110 = .ok (.iconst 1, 1) := by decide +kernel
theorem d_TM_moves_111 : decode b_TM_moves 111 = .ok (.goto 4, 3) := by decide +kernel
theorem d_TM_moves_114 : decode b_TM_moves 114 = .ok (.iconst 0, 1) := by decide +kernel
theorem d_TM_moves_115 : decode b_TM_moves 115 = .ok (.ireturn, 1) := by decide +kernel
theorem d_TM_moves_116 : decode b_TM_moves 116 = .ok (.aload_n 2, 1) := by decide +kernel
theorem d_TM_moves_117 : decode b_TM_moves 117 = .ok (.getfield 216, 3) := by decide +kernel
theorem d_TM_moves_120 : decode b_TM_moves 120 = .ok (.ifCond .eq 30, 3) := by decide +kernel
theorem d_TM_moves_123 : decode b_TM_moves 123 = .ok (.aload_n 2, 1) := by decide +kernel
theorem d_TM_moves_124 : decode b_TM_moves 124 = .ok (.getfield 204, 3) := by decide +kernel
theorem d_TM_moves_127 : decode b_TM_moves 127 = .ok (.aload_n 2, 1) := by decide +kernel
theorem d_TM_moves_128 : decode b_TM_moves 128 = .ok (.getfield 218, 3) := by decide +kernel
theorem d_TM_moves_131 : decode b_TM_moves 131 = .ok (.iconst 1, 1) := by decide +kernel
theorem d_TM_moves_132 : decode b_TM_moves 132 = .ok (.invokevirtual 137, 3) := by decide +kernel
theorem d_TM_moves_135 : decode b_TM_moves 135 = .ok (.ifCond .eq 15, 3) := by decide +kernel
theorem d_TM_moves_138 : decode b_TM_moves 138 = .ok (.aload_n 2, 1) := by decide +kernel
theorem d_TM_moves_139 : decode b_TM_moves 139 = .ok (.iconst 1, 1) := by decide +kernel
theorem d_TM_moves_140 : decode b_TM_moves 140 = .ok (.invokevirtual 212, 3) := by decide +kernel
theorem d_TM_moves_143 : decode b_TM_moves 143 = .ok (.ifCond .eq 7, 3) := by decide +kernel
theorem d_TM_moves_146 : decode b_TM_moves 146 = .ok (.iconst 1, 1) := by decide +kernel
theorem d_TM_moves_147 : decode b_TM_moves 147 = .ok (.goto 4, 3) := by decide +kernel
theorem d_TM_moves_150 : decode b_TM_moves 150 = .ok (.iconst 0, 1) := by decide +kernel
theorem d_TM_moves_151 : decode b_TM_moves 151 = .ok (.ireturn, 1) := by decide +kernel
theorem d_TM_moves_152 : decode b_TM_moves 152 = .ok (.aload_n 0, 1) := by decide +kernel
theorem d_TM_moves_153 : decode b_TM_moves 153 = .ok (.aload_n 2, 1) := by decide +kernel
theorem d_TM_moves_154 : decode b_TM_moves 154 = .ok (.aload_n 1, 1) := by decide +kernel
theorem d_TM_moves_155 : decode b_TM_moves 155 = .ok (.getfield 173, 3) := by decide +kernel
theorem d_TM_moves_158 : decode b_TM_moves 158 = .ok (.iconst 1, 1) := by decide +kernel
theorem d_TM_moves_159 : decode b_TM_moves 159 = .ok (.iaload, 1) := by decide +kernel
theorem d_TM_moves_160 : decode b_TM_moves 160 = .ok (.aload_n 0, 1) := by decide +kernel
theorem d_TM_moves_161 : decode b_TM_moves 161 = .ok (.getfield 50, 3) := by decide +kernel
theorem d_TM_moves_164 : decode b_TM_moves 164 = .ok (.aload_n 1, 1) := by decide +kernel
theorem d_TM_moves_165 : decode b_TM_moves 165 = .ok (.getfield 173, 3) := by decide +kernel
theorem d_TM_moves_168 : decode b_TM_moves 168 = .ok (.iconst 2, 1) := by decide +kernel
theorem d_TM_moves_169 : decode b_TM_moves 169 = .ok (.iaload, 1) := by decide +kernel
theorem d_TM_moves_170 : decode b_TM_moves 170 = .ok (.aaload, 1) := by decide +kernel
theorem d_TM_moves_171 : decode b_TM_moves 171 = .ok (.invokevirtual 220, 3) := by decide +kernel
theorem d_TM_moves_174 : decode b_TM_moves 174 = .ok (.iconst 0, 1) := by decide +kernel
theorem d_TM_moves_175 : decode b_TM_moves 175 = .ok (.ireturn, 1) := by decide +kernel
theorem d_TM_moves_176 : decode b_TM_moves 176 = .ok (.aload_n 2, 1) := by decide +kernel
theorem d_TM_moves_177 : decode b_TM_moves 177 = .ok (.invokevirtual 224, 3) := by decide +kernel
theorem d_TM_moves_180 : decode b_TM_moves 180 = .ok (.ifCond .eq 24, 3) := by decide +kernel
theorem d_TM_moves_183 : decode b_TM_moves 183 = .ok (.aload_n 0, 1) := by decide +kernel
theorem d_TM_moves_184 : decode b_TM_moves 184 = .ok (.getfield 50, 3) := by decide +kernel
theorem d_TM_moves_187 : decode b_TM_moves 187 = .ok (.aload_n 1, 1) := by decide +kernel
theorem d_TM_moves_188 : decode b_TM_moves 188 = .ok (.getfield 173, 3) := by decide +kernel
theorem d_TM_moves_191 : decode b_TM_moves 191 = .ok (.iconst 1, 1) := by decide +kernel
theorem d_TM_moves_192 : decode b_TM_moves 192 = .ok (.iaload, 1) := by decide +kernel
theorem d_TM_moves_193 : decode b_TM_moves 193 = .ok (.aaload, 1) := by decide +kernel
theorem d_TM_moves_194 : decode b_TM_moves 194 = .ok (.aload_n 2, 1) := by decide +kernel
theorem d_TM_moves_195 : decode b_TM_moves 195 = .ok (.getfield 218, 3) := by decide +kernel
theorem d_TM_moves_198 : decode b_TM_moves 198 = .ok (.invokevirtual 111, 3) := by decide +kernel
theorem d_TM_moves_201 : decode b_TM_moves 201 = .ok (.goto 17, 3) := by decide +kernel
theorem d_TM_moves_204 : decode b_TM_moves 204 = .ok (.aload_n 0, 1) := by decide +kernel
theorem d_TM_moves_205 : decode b_TM_moves 205 = .ok (.getfield 50, 3) := by decide +kernel
theorem d_TM_moves_208 : decode b_TM_moves 208 = .ok (.aload_n 1, 1) := by decide +kernel
theorem d_TM_moves_209 : decode b_TM_moves 209 = .ok (.getfield 173, 3) := by decide +kernel
theorem d_TM_moves_212 : decode b_TM_moves 212 = .ok (.iconst 1, 1) := by decide +kernel
theorem d_TM_moves_213 : decode b_TM_moves 213 = .ok (.iaload, 1) := by decide +kernel
theorem d_TM_moves_214 : decode b_TM_moves 214 = .ok (.aaload, 1) := by decide +kernel
theorem d_TM_moves_215 : decode b_TM_moves 215 = .ok (.invokevirtual 115, 3) := by decide +kernel
theorem d_TM_moves_218 : decode b_TM_moves 218 = .ok (.iconst 0, 1) := by decide +kernel
theorem d_TM_moves_219 : decode b_TM_moves 219 = .ok (.ireturn, 1) := by decide +kernel
theorem d_TM_moves_220 : decode b_TM_moves 220 = .ok (.aload_n 2, 1) := by decide +kernel
theorem d_TM_moves_221 : decode b_TM_moves 221 = .ok (.aload_n 0, 1) := by decide +kernel
theorem d_TM_moves_222 : decode b_TM_moves 222 = .ok (.getfield 50, 3) := by decide +kernel
theorem d_TM_moves_225 : decode b_TM_moves 225 = .ok (.aload_n 1, 1) := by decide +kernel
theorem d_TM_moves_226 : decode b_TM_moves 226 = .ok (.getfield 173, 3) := by decide +kernel
theorem d_TM_moves_229 : decode b_TM_moves 229 = .ok (.iconst 2, 1) := by decide +kernel
theorem d_TM_moves_230 : decode b_TM_moves 230 = .ok (.iaload, 1) := by decide +kernel
theorem d_TM_moves_231 : decode b_TM_moves 231 = .ok (.aaload, 1) := by decide +kernel
theorem d_TM_moves_232 : decode b_TM_moves 232 = .ok (.getfield 162, 3) := by decide +kernel
theorem d_TM_moves_235 : decode b_TM_moves 235 = .ok (.ifCond .eq 32, 3) := by decide +kernel
theorem d_TM_moves_238 : decode b_TM_moves 238 = .ok (.aload_n 2, 1) := by decide +kernel
theorem d_TM_moves_239 : decode b_TM_moves 239 = .ok (.getfield 204, 3) := by decide +kernel
theorem d_TM_moves_242 : decode b_TM_moves 242 = .ok (.aload_n 0, 1) := by decide +kernel
theorem d_TM_moves_243 : decode b_TM_moves 243 = .ok (.getfield 50, 3) := by decide +kernel
theorem d_TM_moves_246 : decode b_TM_moves 246 = .ok (.aload_n 1, 1) := by decide +kernel
theorem d_TM_moves_247 : decode b_TM_moves 247 = .ok (.getfield 173, 3) := by decide +kernel
theorem d_TM_moves_250 : decode b_TM_moves 250 = .ok (.iconst 2, 1) := by decide +kernel
theorem d_TM_moves_251 : decode b_TM_moves 251 = .ok (.iaload, 1) := by decide +kernel
theorem d_TM_moves_252 : decode b_TM_moves 252 = .ok (.aaload, 1) := by decide +kernel
theorem d_TM_moves_253 : decode b_TM_moves 253 = .ok (.getfield 158, 3) := by decide +kernel
theorem d_TM_moves_256 : decode b_TM_moves 256 = .ok (.iconst 0, 1) := by decide +kernel
theorem d_TM_moves_257 : decode b_TM_moves 257 = .ok (.invokevirtual 137, 3) := by decide +kernel
theorem d_TM_moves_260 : decode b_TM_moves 260 = .ok (.ifCond .eq 7, 3) := by decide +kernel
theorem d_TM_moves_263 : decode b_TM_moves 263 = .ok (.iconst 1, 1) := by decide +kernel
theorem d_TM_moves_264 : decode b_TM_moves 264 = .ok (.goto 4, 3) := by decide +kernel
theorem d_TM_moves_267 : decode b_TM_moves 267 = .ok (.iconst 0, 1) := by decide +kernel
theorem d_TM_moves_268 : decode b_TM_moves 268 = .ok (.invokevirtual 212, 3) := by decide +kernel
theorem d_TM_moves_271 : decode b_TM_moves 271 = .ok (.ifCond .ne 7, 3) := by decide +kernel
theorem d_TM_moves_274 : decode b_TM_moves 274 = .ok (.iconst 1, 1) := by decide +kernel
theorem d_TM_moves_275 : decode b_TM_moves 275 = .ok (.goto 4, 3) := by decide +kernel
theorem d_TM_moves_278 : decode b_TM_moves 278 = .ok (.iconst 0, 1) := by decide +kernel
theorem d_TM_moves_279 : decode b_TM_moves 279 = .ok (.ireturn, 1) := by decide +kernel
theorem d_TM_moves_280 : decode b_TM_moves 280 = .ok (.aload_n 0, 1) := by decide +kernel
theorem d_TM_moves_281 : decode b_TM_moves 281 = .ok (.aload_n 2, 1) := by decide +kernel
theorem d_TM_moves_282 : decode b_TM_moves 282 = .ok (.getfield 204, 3) := by decide +kernel
theorem d_TM_moves_285 : decode b_TM_moves 285 = .ok (.aload_n 1, 1) := by decide +kernel
theorem d_TM_moves_286 : decode b_TM_moves 286 = .ok (.getfield 173, 3) := by decide +kernel
theorem d_TM_moves_289 : decode b_TM_moves 289 = .ok (.iconst 2, 1) := by decide +kernel
theorem d_TM_moves_290 : decode b_TM_moves 290 = .ok (.iaload, 1) := by decide +kernel
theorem d_TM_moves_291 : decode b_TM_moves 291 = .ok (.invokevirtual 227, 3) := by decide +kernel
theorem d_TM_moves_294 : decode b_TM_moves 294 = .ok (.ifCond .ne 7, 3) := by decide +kernel
theorem d_TM_moves_297 : decode b_TM_moves 297 = .ok (.iconst 1, 1) := by decide +kernel
theorem d_TM_moves_298 : decode b_TM_moves 298 = .ok (.goto 4, 3) := by decide +kernel
theorem d_TM_moves_301 : decode b_TM_moves 301 = .ok (.iconst 0, 1) := by decide +kernel
theorem d_TM_moves_302 : decode b_TM_moves 302 = .ok (.ireturn, 1) := by decide +kernel
theorem d_TM_moves_303 : decode b_TM_moves 303 = .ok (.aload_n 2, 1) := by decide +kernel
theorem d_TM_moves_304 : decode b_TM_moves 304 = .ok (.invokevirtual 224, 3) := by decide +kernel
theorem d_TM_moves_307 : decode b_TM_moves 307 = .ok (.ifCond .eq 24, 3) := by decide +kernel
theorem d_TM_moves_310 : decode b_TM_moves 310 = .ok (.aload_n 2, 1) := by decide +kernel
theorem d_TM_moves_311 : decode b_TM_moves 311 = .ok (.getfield 204, 3) := by decide +kernel
theorem d_TM_moves_314 : decode b_TM_moves 314 = .ok (.aload_n 2, 1) := by decide +kernel
theorem d_TM_moves_315 : decode b_TM_moves 315 = .ok (.getfield 218, 3) := by decide +kernel
theorem d_TM_moves_318 : decode b_TM_moves 318 = .ok (.invokevirtual 133, 3) := by decide +kernel
theorem d_TM_moves_321 : decode b_TM_moves 321 = .ok (.aload_n 0, 1) := by decide +kernel
theorem d_TM_moves_322 : decode b_TM_moves 322 = .ok (.dup, 1) := by decide +kernel
theorem d_TM_moves_323 : decode b_TM_moves 323 = .ok (.getfield 122, 3) := by decide +kernel
theorem d_TM_moves_326 : decode b_TM_moves 326 = .ok (.iconst 1, 1) := by decide +kernel
theorem d_TM_moves_327 : decode b_TM_moves 327 = .ok (.isub, 1) := by decide +kernel
theorem d_TM_moves_328 : decode b_TM_moves 328 = .ok (.putfield 122, 3) := by decide +kernel
theorem d_TM_moves_331 : decode b_TM_moves 331 = .ok (.iconst 0, 1) := by decide +kernel
theorem d_TM_moves_332 : decode b_TM_moves 332 = .ok (.ireturn, 1) := by decide +kernel
noncomputable def f_TM_moves (i1 : Nat) (i2 : Nat) (σ : Sg) : Option (Int32 × Sg) :=
  (gr σ 6 i1 0).bind (fun o1 => chk (o1 < 22) ((if nI o1 = 2 then ((gr σ 7 i2 0).bind (fun t4 => chk (t4 < nt σ) (bn2 (f_Tr_first t4 σ) (fun r9 σ7 => bn2 (f_Cu_take i2 r9 σ7) (fun r12 σ10 => lt_ ((if r12 = 0 then 1 else 0) : Int32) (fun (x13 : Int32) => chk (zb x13) (some (x13, σ10)))))))) else (if nI o1 = 3 then (bn2 (if (gi σ 7 i2 1) = 0 then (some (0, σ)) else ((gr σ 7 i2 0).bind (fun t22 => chk (t22 < nt σ) (bn2 (f_Tr_seek t22 (gj σ 7 i2 2) 1 σ) (fun r27 σ25 => (if r27 = 0 then (some (0, σ25)) else (bn2 (f_Cu_take i2 1 σ25) (fun r30 σ28 => (if r30 = 0 then (some (0, σ28)) else (some (1, σ28))))))))))) (fun (x18 : Int32) (σ19 : Sg) => chk (zb x18) (some (x18, σ19)))) else (if nI o1 = 4 then (chk (vp_in 1 3) (chk (vp_in 2 3) (chk (vp_in (gi σ 16 i1 ((2 : Int32).toNatClampNeg)) 16) ((f_TM_column i2 (gi σ 16 i1 ((1 : Int32).toNatClampNeg)) (8 + (gi σ 16 i1 ((2 : Int32).toNatClampNeg)).toNatClampNeg) σ).bind (fun σ38 => some (0, σ38)))))) else (if nI o1 = 5 then (bn2 (f_Cu_at i2 σ) (fun r42 σ40 => Option.bind (if r42 = 0 then (chk (vp_in 1 3) (chk (vp_in (gi σ40 16 i1 ((1 : Int32).toNatClampNeg)) 16) ((f_Vl_none (8 + (gi σ40 16 i1 ((1 : Int32).toNatClampNeg)).toNatClampNeg) σ40).bind (fun σ48 => some (σ48))))) else (chk (vp_in 1 3) (chk (vp_in (gi σ40 16 i1 ((1 : Int32).toNatClampNeg)) 16) ((f_Vl_to (8 + (gi σ40 16 i1 ((1 : Int32).toNatClampNeg)).toNatClampNeg) (gj σ40 7 i2 2) σ40).bind (fun σ52 => some (σ52)))))) (fun (σ43 : Sg) => some (0, σ43)))) else (if nI o1 = 8 then (chk (vp_in 2 3) (chk (vp_in (gi σ 16 i1 ((2 : Int32).toNatClampNeg)) 16) (bn2 (if (gi σ 5 (8 + (gi σ 16 i1 ((2 : Int32).toNatClampNeg)).toNatClampNeg) 0) = 0 then (some (0, σ)) else ((gr σ 7 i2 0).bind (fun t61 => chk (t61 < nt σ) (chk (vp_in 2 3) (chk (vp_in (gi σ 16 i1 ((2 : Int32).toNatClampNeg)) 16) (bn2 (f_Tr_seek t61 (gj σ 5 (8 + (gi σ 16 i1 ((2 : Int32).toNatClampNeg)).toNatClampNeg) 1) 0 σ) (fun r68 σ66 => (if r68 = 0 then (some (0, σ66)) else (some (1, σ66)))))))))) (fun (x57 : Int32) (σ58 : Sg) => bn2 (f_Cu_take i2 x57 σ58) (fun r73 σ71 => lt_ ((if r73 = 0 then 1 else 0) : Int32) (fun (x74 : Int32) => chk (zb x74) (some (x74, σ71)))))))) else (if nI o1 = 20 then ((gr σ 7 i2 0).bind (fun t79 => chk (t79 < nt σ) (chk (vp_in 2 3) (bn2 (f_TM_comes t79 (gi σ 16 i1 ((2 : Int32).toNatClampNeg)) σ) (fun r85 σ83 => lt_ ((if r85 = 0 then 1 else 0) : Int32) (fun (x86 : Int32) => chk (zb x86) (some (x86, σ83)))))))) else (bn2 (f_Cu_at i2 σ) (fun r93 σ91 => Option.bind (if r93 = 0 then (some (σ91)) else ((gr σ91 7 i2 0).bind (fun t97 => chk (t97 < nt σ91) ((f_Tr_remove t97 (gj σ91 7 i2 2) σ91).bind (fun σ100 => lt_ (si σ100 0 0 3 ((gi σ100 0 0 3) - 1)) (fun σ102 => some (σ102))))))) (fun (σ94 : Sg) => some (0, σ94))))))))))))
abbrev rm_TM_moves : Room := { frames := 10, cells := 0, slots := 0, locals := 248 }
set_option maxHeartbeats 4000000 in
set_option maxRecDepth 100000 in
theorem c_TM_moves (l : Launch) (X : GX) (n : Nat) {σ σ' : Sg} {r : Int32} {i1 : Nat} {i2 : Nat} (h_i1 : i1 < cnt n 6) (h_i2 : i2 < cnt n 7) (hf : f_TM_moves i1 i2 σ = some (r, σ')) : Met l y_TM_moves (cw y_TM_moves b_TM_moves 3 (some .boolean)) rm_TM_moves (PcG X n σ [.ref (xL X 0 0), .ref (xL X 6 i1), .ref (xL X 7 i2)]) (QcG X n σ' (some (.int r))) 0 0 (fr X n) := by
  refine g_head (own := "TableMachine") (by decide) rfl (Nat.le_of_ble_eq_true rfl) ?_
  intro p e s m args below meth c ls F hr hlk hP hl
  have hl : lv_has ls 3 [(0, .ref (xL X 0 0)), (1, .ref (xL X 6 i1)), (2, .ref (xL X 7 i2))] := hl
  show WG l X n rm_TM_moves σ' (some (.int r)) p e s m args below meth c s.heap [] (F0 m 0 ls [])
  unfold f_TM_moves at hf
  refine lv_aload_n F.1 F.2.1 d_TM_moves_0 rfl (lv_at hl 1 rfl) ?_
  obtain ⟨o1, e_o1, hf⟩ := bnd_some hf
  obtain ⟨hc2, hf⟩ := chk_some hf
  refine g_getN F hP 6 0 i1 (by decide) h_i1 (by decide) (v := .ref (xad X o1)) (fv_op e_o1) w_125 d_TM_moves_1 ?_
  refine g_ord (rest := []) F hP hc2 w_723 ⟨by decide, by decide⟩ hl.1 (Nat.le_of_ble_eq_true rfl) ⟨Nat.zero_le _, Nat.zero_le _⟩ d_TM_moves_4 (fun H locs hP => ?_)
  by_cases hs3_2 : nI o1 = 2
  · rw [if_pos hs3_2] at hf
    refine lv_tableIn F.1 F.2.1 d_TM_moves_7 (by rw [hs3_2]; decide) (by rw [hs3_2]; decide) (off := 89) (by rw [hs3_2]; decide) rfl ?_
    refine lv_aload_n F.1 F.2.1 d_TM_moves_96 rfl (lv_at hl 2 rfl) ?_
    refine lv_aload_n F.1 F.2.1 d_TM_moves_97 rfl (lv_at hl 2 rfl) ?_
    obtain ⟨t4, e_t4, hf⟩ := bnd_some hf
    obtain ⟨hc5, hf⟩ := chk_some hf
    have hv6 : t4 < cnt n 3 := hP.lt hc5
    refine g_getN F hP 7 0 i2 (by decide) h_i2 (by decide) (v := .ref (xL X 3 t4)) (fv_on e_t4) w_140 d_TM_moves_98 ?_
    obtain ⟨r9, σ7, hk8, hf⟩ := bn2_some hf
    refine g_callV (As := []) (rest := [.ref (xL X 7 i2)]) F hP 3 t4 (by decide) hv6 (c_Tr_first l X n hv6 hk8) rfl q_Tr_first w_765 w_17 w_762 w_763 w_764 ⟨rfl, rfl⟩ ⟨by decide, by decide⟩ hl.1 (Nat.le_of_ble_eq_true rfl) ⟨Nat.zero_le _, Nat.zero_le _⟩ d_TM_moves_101 rfl (fun H locs hP => ?_)
    refine W.eq (g2 := F0 m 104 ls [.int r9, .ref (xL X 7 i2)]) rfl ?_
    obtain ⟨r12, σ10, hk11, hf⟩ := bn2_some hf
    refine g_callV (As := [.int r9]) (rest := []) F hP 7 i2 (by decide) h_i2 (c_Cu_take l X n h_i2 hk11) rfl q_Cu_take w_771 w_9 w_768 w_769 w_770 ⟨rfl, rfl⟩ ⟨by decide, by decide⟩ hl.1 (Nat.le_of_ble_eq_true rfl) ⟨Nat.zero_le _, Nat.zero_le _⟩ d_TM_moves_104 rfl (fun H locs hP => ?_)
    refine W.eq (g2 := F0 m 107 ls [.int r12]) rfl ?_
    obtain ⟨x13, hj15, hf⟩ := lt_some2 hf
    have KJ14 : ∀ (ls : Array Slot) (H : Heap) (locs : List Loc), lv_has ls 3 [] → St X n σ10 s.heap H locs → WG l X n rm_TM_moves σ' (some (.int r)) p e s m args below meth c H locs (F0 m 115 ls [.int x13]) := by
      intro ls H locs hl hP
      obtain ⟨hz17, hf⟩ := chk_some hf
      cases hf
      exact g_zret F hP hr hlk hz17 d_TM_moves_115
    refine lv_if_ne F.1 F.2.1 d_TM_moves_107 rfl (fun hb16 => ?_) (fun hb16 => ?_)
    · rw [if_neg hb16] at hj15
      refine lv_iconst (v := 0) F.1 F.2.1 d_TM_moves_114 (by decide) ?_
      subst hj15
      exact KJ14 _ _ _ (lv_sub hl [] rfl) hP
    · rw [if_pos hb16] at hj15
      refine lv_iconst (v := 1) F.1 F.2.1 d_TM_moves_110 (by decide) ?_
      refine lv_goto F.1 F.2.1 d_TM_moves_111 rfl ?_
      subst hj15
      exact KJ14 _ _ _ (lv_sub hl [] rfl) hP
  rw [if_neg hs3_2] at hf
  by_cases hs3_3 : nI o1 = 3
  · rw [if_pos hs3_3] at hf
    refine lv_tableIn F.1 F.2.1 d_TM_moves_7 (by rw [hs3_3]; decide) (by rw [hs3_3]; decide) (off := 109) (by rw [hs3_3]; decide) rfl ?_
    refine lv_aload_n F.1 F.2.1 d_TM_moves_116 rfl (lv_at hl 2 rfl) ?_
    refine g_getN F hP 7 1 i2 (by decide) h_i2 (by decide) (v := .int (gi σ 7 i2 1)) rfl w_142 d_TM_moves_117 ?_
    obtain ⟨x18, σ19, hj21, hf⟩ := bn2_some hf
    have KJ20 : ∀ (ls : Array Slot) (H : Heap) (locs : List Loc), lv_has ls 3 [] → St X n σ19 s.heap H locs → WG l X n rm_TM_moves σ' (some (.int r)) p e s m args below meth c H locs (F0 m 151 ls [.int x18]) := by
      intro ls H locs hl hP
      obtain ⟨hz34, hf⟩ := chk_some hf
      cases hf
      exact g_zret F hP hr hlk hz34 d_TM_moves_151
    refine lv_if_eq F.1 F.2.1 d_TM_moves_120 rfl (fun hb33 => ?_) (fun hb33 => ?_)
    · rw [if_pos hb33] at hj21
      refine lv_iconst (v := 0) F.1 F.2.1 d_TM_moves_150 (by decide) ?_
      cases hj21
      exact KJ20 _ _ _ (lv_sub hl [] rfl) hP
    · rw [if_neg hb33] at hj21
      refine lv_aload_n F.1 F.2.1 d_TM_moves_123 rfl (lv_at hl 2 rfl) ?_
      obtain ⟨t22, e_t22, hj21⟩ := bnd_some hj21
      obtain ⟨hc23, hj21⟩ := chk_some hj21
      have hv24 : t22 < cnt n 3 := hP.lt hc23
      refine g_getN F hP 7 0 i2 (by decide) h_i2 (by decide) (v := .ref (xL X 3 t22)) (fv_on e_t22) w_140 d_TM_moves_124 ?_
      refine lv_aload_n F.1 F.2.1 d_TM_moves_127 rfl (lv_at hl 2 rfl) ?_
      refine g_getN F hP 7 2 i2 (by decide) h_i2 (by decide) (v := .long (gj σ 7 i2 2)) rfl w_144 d_TM_moves_128 ?_
      refine lv_iconst (v := 1) F.1 F.2.1 d_TM_moves_131 (by decide) ?_
      obtain ⟨r27, σ25, hk26, hj21⟩ := bn2_some hj21
      refine g_callV (As := [.long (gj σ 7 i2 2), .int 1]) (rest := []) F hP 3 t22 (by decide) hv24 (c_Tr_seek l X n hv24 hk26) rfl q_Tr_seek w_587 w_17 w_584 w_585 w_586 ⟨rfl, rfl⟩ ⟨by decide, by decide⟩ hl.1 (Nat.le_of_ble_eq_true rfl) ⟨Nat.zero_le _, Nat.zero_le _⟩ d_TM_moves_132 rfl (fun H locs hP => ?_)
      refine W.eq (g2 := F0 m 135 ls [.int r27]) rfl ?_
      refine lv_if_eq F.1 F.2.1 d_TM_moves_135 rfl (fun hb32 => ?_) (fun hb32 => ?_)
      · rw [if_pos hb32] at hj21
        refine lv_iconst (v := 0) F.1 F.2.1 d_TM_moves_150 (by decide) ?_
        cases hj21
        exact KJ20 _ _ _ (lv_sub hl [] rfl) hP
      · rw [if_neg hb32] at hj21
        refine lv_aload_n F.1 F.2.1 d_TM_moves_138 rfl (lv_at hl 2 rfl) ?_
        refine lv_iconst (v := 1) F.1 F.2.1 d_TM_moves_139 (by decide) ?_
        obtain ⟨r30, σ28, hk29, hj21⟩ := bn2_some hj21
        refine g_callV (As := [.int 1]) (rest := []) F hP 7 i2 (by decide) h_i2 (c_Cu_take l X n h_i2 hk29) rfl q_Cu_take w_771 w_9 w_768 w_769 w_770 ⟨rfl, rfl⟩ ⟨by decide, by decide⟩ hl.1 (Nat.le_of_ble_eq_true rfl) ⟨Nat.zero_le _, Nat.zero_le _⟩ d_TM_moves_140 rfl (fun H locs hP => ?_)
        refine W.eq (g2 := F0 m 143 ls [.int r30]) rfl ?_
        refine lv_if_eq F.1 F.2.1 d_TM_moves_143 rfl (fun hb31 => ?_) (fun hb31 => ?_)
        · rw [if_pos hb31] at hj21
          refine lv_iconst (v := 0) F.1 F.2.1 d_TM_moves_150 (by decide) ?_
          cases hj21
          exact KJ20 _ _ _ (lv_sub hl [] rfl) hP
        · rw [if_neg hb31] at hj21
          refine lv_iconst (v := 1) F.1 F.2.1 d_TM_moves_146 (by decide) ?_
          refine lv_goto F.1 F.2.1 d_TM_moves_147 rfl ?_
          cases hj21
          exact KJ20 _ _ _ (lv_sub hl [] rfl) hP
  rw [if_neg hs3_3] at hf
  by_cases hs3_4 : nI o1 = 4
  · rw [if_pos hs3_4] at hf
    refine lv_tableIn F.1 F.2.1 d_TM_moves_7 (by rw [hs3_4]; decide) (by rw [hs3_4]; decide) (off := 145) (by rw [hs3_4]; decide) rfl ?_
    refine lv_aload_n F.1 F.2.1 d_TM_moves_152 rfl (lv_at hl 0 rfl) ?_
    refine lv_aload_n F.1 F.2.1 d_TM_moves_153 rfl (lv_at hl 2 rfl) ?_
    refine lv_aload_n F.1 F.2.1 d_TM_moves_154 rfl (lv_at hl 1 rfl) ?_
    refine g_getN F hP 6 1 i1 (by decide) h_i1 (by decide) (v := .ref (xL X 16 i1)) rfl w_127 d_TM_moves_155 ?_
    refine lv_iconst (v := 1) F.1 F.2.1 d_TM_moves_158 (by decide) ?_
    obtain ⟨hc35, hf⟩ := chk_some hf
    refine g_ald F hP 16 (by decide) (by decide) h_i1 rfl rfl hc35 d_TM_moves_159 ?_
    refine lv_aload_n F.1 F.2.1 d_TM_moves_160 rfl (lv_at hl 0 rfl) ?_
    refine g_get F hP 0 9 0 (by decide) Nat.zero_lt_one (by decide) (v := .ref (xL X 20 0)) rfl w_179 d_TM_moves_161 ?_
    refine lv_aload_n F.1 F.2.1 d_TM_moves_164 rfl (lv_at hl 1 rfl) ?_
    refine g_getN F hP 6 1 i1 (by decide) h_i1 (by decide) (v := .ref (xL X 16 i1)) rfl w_127 d_TM_moves_165 ?_
    refine lv_iconst (v := 2) F.1 F.2.1 d_TM_moves_168 (by decide) ?_
    obtain ⟨hc36, hf⟩ := chk_some hf
    refine g_ald F hP 16 (by decide) (by decide) h_i1 rfl rfl hc36 d_TM_moves_169 ?_
    obtain ⟨hc37, hf⟩ := chk_some hf
    refine g_rld F hP 20 (by decide) (by decide) Nat.zero_lt_one rfl hc37 (v := .ref (xL X 5 (8 + (gi σ 16 i1 ((2 : Int32).toNatClampNeg)).toNatClampNeg))) rfl d_TM_moves_170 ?_
    obtain ⟨σ38, hk39, hf⟩ := bnd_some hf
    refine g_callV (As := [.ref (xL X 7 i2), .int (gi σ 16 i1 ((1 : Int32).toNatClampNeg)), .ref (xL X 5 (8 + (gi σ 16 i1 ((2 : Int32).toNatClampNeg)).toNatClampNeg))]) (rest := []) F hP 0 0 (by decide) Nat.zero_lt_one (c_TM_column l X n h_i2 (ve20 hc37) hk39) rfl q_TM_column w_776 w_1 w_773 w_775 wp_25 ⟨rfl, rfl⟩ ⟨by decide, by decide⟩ hl.1 (Nat.le_of_ble_eq_true rfl) ⟨Nat.zero_le _, Nat.zero_le _⟩ d_TM_moves_171 rfl (fun H locs hP => ?_)
    refine W.eq (g2 := F0 m 174 ls []) rfl ?_
    refine lv_iconst (v := 0) F.1 F.2.1 d_TM_moves_174 (by decide) ?_
    cases hf
    exact g_zret F hP hr hlk zb0 d_TM_moves_175
  rw [if_neg hs3_4] at hf
  by_cases hs3_5 : nI o1 = 5
  · rw [if_pos hs3_5] at hf
    refine lv_tableIn F.1 F.2.1 d_TM_moves_7 (by rw [hs3_5]; decide) (by rw [hs3_5]; decide) (off := 169) (by rw [hs3_5]; decide) rfl ?_
    refine lv_aload_n F.1 F.2.1 d_TM_moves_176 rfl (lv_at hl 2 rfl) ?_
    obtain ⟨r42, σ40, hk41, hf⟩ := bn2_some hf
    refine g_callV (As := []) (rest := []) F hP 7 i2 (by decide) h_i2 (c_Cu_at l X n h_i2 hk41) rfl q_Cu_at w_780 w_9 w_777 w_778 w_779 ⟨rfl, rfl⟩ ⟨by decide, by decide⟩ hl.1 (Nat.le_of_ble_eq_true rfl) ⟨Nat.zero_le _, Nat.zero_le _⟩ d_TM_moves_177 rfl (fun H locs hP => ?_)
    refine W.eq (g2 := F0 m 180 ls [.int r42]) rfl ?_
    obtain ⟨σ43, hj45, hf⟩ := bnd_some hf
    have KJ44 : ∀ (ls : Array Slot) (H : Heap) (locs : List Loc), lv_has ls 3 [] → St X n σ43 s.heap H locs → WG l X n rm_TM_moves σ' (some (.int r)) p e s m args below meth c H locs (F0 m 218 ls []) := by
      intro ls H locs hl hP
      refine lv_iconst (v := 0) F.1 F.2.1 d_TM_moves_218 (by decide) ?_
      cases hf
      exact g_zret F hP hr hlk zb0 d_TM_moves_219
    refine lv_if_eq F.1 F.2.1 d_TM_moves_180 rfl (fun hb54 => ?_) (fun hb54 => ?_)
    · rw [if_pos hb54] at hj45
      refine lv_aload_n F.1 F.2.1 d_TM_moves_204 rfl (lv_at hl 0 rfl) ?_
      refine g_get F hP 0 9 0 (by decide) Nat.zero_lt_one (by decide) (v := .ref (xL X 20 0)) rfl w_179 d_TM_moves_205 ?_
      refine lv_aload_n F.1 F.2.1 d_TM_moves_208 rfl (lv_at hl 1 rfl) ?_
      refine g_getN F hP 6 1 i1 (by decide) h_i1 (by decide) (v := .ref (xL X 16 i1)) rfl w_127 d_TM_moves_209 ?_
      refine lv_iconst (v := 1) F.1 F.2.1 d_TM_moves_212 (by decide) ?_
      obtain ⟨hc46, hj45⟩ := chk_some hj45
      refine g_ald F hP 16 (by decide) (by decide) h_i1 rfl rfl hc46 d_TM_moves_213 ?_
      obtain ⟨hc47, hj45⟩ := chk_some hj45
      refine g_rld F hP 20 (by decide) (by decide) Nat.zero_lt_one rfl hc47 (v := .ref (xL X 5 (8 + (gi σ40 16 i1 ((1 : Int32).toNatClampNeg)).toNatClampNeg))) rfl d_TM_moves_214 ?_
      obtain ⟨σ48, hk49, hj45⟩ := bnd_some hj45
      refine g_callV (As := []) (rest := []) F hP 5 (8 + (gi σ40 16 i1 ((1 : Int32).toNatClampNeg)).toNatClampNeg) (by decide) (ve20 hc47) (c_Vl_none l X n (ve20 hc47) hk49) rfl q_Vl_none w_254 w_5 w_251 w_252 w_253 ⟨rfl, rfl⟩ ⟨by decide, by decide⟩ hl.1 (Nat.le_of_ble_eq_true rfl) ⟨Nat.zero_le _, Nat.zero_le _⟩ d_TM_moves_215 rfl (fun H locs hP => ?_)
      refine W.eq (g2 := F0 m 218 ls []) rfl ?_
      cases hj45
      exact KJ44 _ _ _ (lv_sub hl [] rfl) hP
    · rw [if_neg hb54] at hj45
      refine lv_aload_n F.1 F.2.1 d_TM_moves_183 rfl (lv_at hl 0 rfl) ?_
      refine g_get F hP 0 9 0 (by decide) Nat.zero_lt_one (by decide) (v := .ref (xL X 20 0)) rfl w_179 d_TM_moves_184 ?_
      refine lv_aload_n F.1 F.2.1 d_TM_moves_187 rfl (lv_at hl 1 rfl) ?_
      refine g_getN F hP 6 1 i1 (by decide) h_i1 (by decide) (v := .ref (xL X 16 i1)) rfl w_127 d_TM_moves_188 ?_
      refine lv_iconst (v := 1) F.1 F.2.1 d_TM_moves_191 (by decide) ?_
      obtain ⟨hc50, hj45⟩ := chk_some hj45
      refine g_ald F hP 16 (by decide) (by decide) h_i1 rfl rfl hc50 d_TM_moves_192 ?_
      obtain ⟨hc51, hj45⟩ := chk_some hj45
      refine g_rld F hP 20 (by decide) (by decide) Nat.zero_lt_one rfl hc51 (v := .ref (xL X 5 (8 + (gi σ40 16 i1 ((1 : Int32).toNatClampNeg)).toNatClampNeg))) rfl d_TM_moves_193 ?_
      refine lv_aload_n F.1 F.2.1 d_TM_moves_194 rfl (lv_at hl 2 rfl) ?_
      refine g_getN F hP 7 2 i2 (by decide) h_i2 (by decide) (v := .long (gj σ40 7 i2 2)) rfl w_144 d_TM_moves_195 ?_
      obtain ⟨σ52, hk53, hj45⟩ := bnd_some hj45
      refine g_callV (As := [.long (gj σ40 7 i2 2)]) (rest := []) F hP 5 (8 + (gi σ40 16 i1 ((1 : Int32).toNatClampNeg)).toNatClampNeg) (by decide) (ve20 hc51) (c_Vl_to l X n (ve20 hc51) hk53) rfl q_Vl_to w_250 w_5 w_247 w_248 w_249 ⟨rfl, rfl⟩ ⟨by decide, by decide⟩ hl.1 (Nat.le_of_ble_eq_true rfl) ⟨Nat.zero_le _, Nat.zero_le _⟩ d_TM_moves_198 rfl (fun H locs hP => ?_)
      refine W.eq (g2 := F0 m 201 ls []) rfl ?_
      refine lv_goto F.1 F.2.1 d_TM_moves_201 rfl ?_
      cases hj45
      exact KJ44 _ _ _ (lv_sub hl [] rfl) hP
  rw [if_neg hs3_5] at hf
  by_cases hs3_8 : nI o1 = 8
  · rw [if_pos hs3_8] at hf
    refine lv_tableIn F.1 F.2.1 d_TM_moves_7 (by rw [hs3_8]; decide) (by rw [hs3_8]; decide) (off := 213) (by rw [hs3_8]; decide) rfl ?_
    refine lv_aload_n F.1 F.2.1 d_TM_moves_220 rfl (lv_at hl 2 rfl) ?_
    refine lv_aload_n F.1 F.2.1 d_TM_moves_221 rfl (lv_at hl 0 rfl) ?_
    refine g_get F hP 0 9 0 (by decide) Nat.zero_lt_one (by decide) (v := .ref (xL X 20 0)) rfl w_179 d_TM_moves_222 ?_
    refine lv_aload_n F.1 F.2.1 d_TM_moves_225 rfl (lv_at hl 1 rfl) ?_
    refine g_getN F hP 6 1 i1 (by decide) h_i1 (by decide) (v := .ref (xL X 16 i1)) rfl w_127 d_TM_moves_226 ?_
    refine lv_iconst (v := 2) F.1 F.2.1 d_TM_moves_229 (by decide) ?_
    obtain ⟨hc55, hf⟩ := chk_some hf
    refine g_ald F hP 16 (by decide) (by decide) h_i1 rfl rfl hc55 d_TM_moves_230 ?_
    obtain ⟨hc56, hf⟩ := chk_some hf
    refine g_rld F hP 20 (by decide) (by decide) Nat.zero_lt_one rfl hc56 (v := .ref (xL X 5 (8 + (gi σ 16 i1 ((2 : Int32).toNatClampNeg)).toNatClampNeg))) rfl d_TM_moves_231 ?_
    refine g_getN F hP 5 0 (8 + (gi σ 16 i1 ((2 : Int32).toNatClampNeg)).toNatClampNeg) (by decide) (ve20 hc56) (by decide) (v := .int (gi σ 5 (8 + (gi σ 16 i1 ((2 : Int32).toNatClampNeg)).toNatClampNeg) 0)) rfl w_85 d_TM_moves_232 ?_
    obtain ⟨x57, σ58, hj60, hf⟩ := bn2_some hf
    have KJ59 : ∀ (ls : Array Slot) (H : Heap) (locs : List Loc), lv_has ls 3 [] → St X n σ58 s.heap H locs → WG l X n rm_TM_moves σ' (some (.int r)) p e s m args below meth c H locs (F0 m 268 ls [.int x57, .ref (xL X 7 i2)]) := by
      intro ls H locs hl hP
      obtain ⟨r73, σ71, hk72, hf⟩ := bn2_some hf
      refine g_callV (As := [.int x57]) (rest := []) F hP 7 i2 (by decide) h_i2 (c_Cu_take l X n h_i2 hk72) rfl q_Cu_take w_771 w_9 w_768 w_769 w_770 ⟨rfl, rfl⟩ ⟨by decide, by decide⟩ hl.1 (Nat.le_of_ble_eq_true rfl) ⟨Nat.zero_le _, Nat.zero_le _⟩ d_TM_moves_268 rfl (fun H locs hP => ?_)
      refine W.eq (g2 := F0 m 271 ls [.int r73]) rfl ?_
      obtain ⟨x74, hj76, hf⟩ := lt_some2 hf
      have KJ75 : ∀ (ls : Array Slot) (H : Heap) (locs : List Loc), lv_has ls 3 [] → St X n σ71 s.heap H locs → WG l X n rm_TM_moves σ' (some (.int r)) p e s m args below meth c H locs (F0 m 279 ls [.int x74]) := by
        intro ls H locs hl hP
        obtain ⟨hz78, hf⟩ := chk_some hf
        cases hf
        exact g_zret F hP hr hlk hz78 d_TM_moves_279
      refine lv_if_ne F.1 F.2.1 d_TM_moves_271 rfl (fun hb77 => ?_) (fun hb77 => ?_)
      · rw [if_neg hb77] at hj76
        refine lv_iconst (v := 0) F.1 F.2.1 d_TM_moves_278 (by decide) ?_
        subst hj76
        exact KJ75 _ _ _ (lv_sub hl [] rfl) hP
      · rw [if_pos hb77] at hj76
        refine lv_iconst (v := 1) F.1 F.2.1 d_TM_moves_274 (by decide) ?_
        refine lv_goto F.1 F.2.1 d_TM_moves_275 rfl ?_
        subst hj76
        exact KJ75 _ _ _ (lv_sub hl [] rfl) hP
    refine lv_if_eq F.1 F.2.1 d_TM_moves_235 rfl (fun hb70 => ?_) (fun hb70 => ?_)
    · rw [if_pos hb70] at hj60
      refine lv_iconst (v := 0) F.1 F.2.1 d_TM_moves_267 (by decide) ?_
      cases hj60
      exact KJ59 _ _ _ (lv_sub hl [] rfl) hP
    · rw [if_neg hb70] at hj60
      refine lv_aload_n F.1 F.2.1 d_TM_moves_238 rfl (lv_at hl 2 rfl) ?_
      obtain ⟨t61, e_t61, hj60⟩ := bnd_some hj60
      obtain ⟨hc62, hj60⟩ := chk_some hj60
      have hv63 : t61 < cnt n 3 := hP.lt hc62
      refine g_getN F hP 7 0 i2 (by decide) h_i2 (by decide) (v := .ref (xL X 3 t61)) (fv_on e_t61) w_140 d_TM_moves_239 ?_
      refine lv_aload_n F.1 F.2.1 d_TM_moves_242 rfl (lv_at hl 0 rfl) ?_
      refine g_get F hP 0 9 0 (by decide) Nat.zero_lt_one (by decide) (v := .ref (xL X 20 0)) rfl w_179 d_TM_moves_243 ?_
      refine lv_aload_n F.1 F.2.1 d_TM_moves_246 rfl (lv_at hl 1 rfl) ?_
      refine g_getN F hP 6 1 i1 (by decide) h_i1 (by decide) (v := .ref (xL X 16 i1)) rfl w_127 d_TM_moves_247 ?_
      refine lv_iconst (v := 2) F.1 F.2.1 d_TM_moves_250 (by decide) ?_
      obtain ⟨hc64, hj60⟩ := chk_some hj60
      refine g_ald F hP 16 (by decide) (by decide) h_i1 rfl rfl hc64 d_TM_moves_251 ?_
      obtain ⟨hc65, hj60⟩ := chk_some hj60
      refine g_rld F hP 20 (by decide) (by decide) Nat.zero_lt_one rfl hc65 (v := .ref (xL X 5 (8 + (gi σ 16 i1 ((2 : Int32).toNatClampNeg)).toNatClampNeg))) rfl d_TM_moves_252 ?_
      refine g_getN F hP 5 1 (8 + (gi σ 16 i1 ((2 : Int32).toNatClampNeg)).toNatClampNeg) (by decide) (ve20 hc65) (by decide) (v := .long (gj σ 5 (8 + (gi σ 16 i1 ((2 : Int32).toNatClampNeg)).toNatClampNeg) 1)) rfl w_88 d_TM_moves_253 ?_
      refine lv_iconst (v := 0) F.1 F.2.1 d_TM_moves_256 (by decide) ?_
      obtain ⟨r68, σ66, hk67, hj60⟩ := bn2_some hj60
      refine g_callV (As := [.long (gj σ 5 (8 + (gi σ 16 i1 ((2 : Int32).toNatClampNeg)).toNatClampNeg) 1), .int 0]) (rest := [.ref (xL X 7 i2)]) F hP 3 t61 (by decide) hv63 (c_Tr_seek l X n hv63 hk67) rfl q_Tr_seek w_587 w_17 w_584 w_585 w_586 ⟨rfl, rfl⟩ ⟨by decide, by decide⟩ hl.1 (Nat.le_of_ble_eq_true rfl) ⟨Nat.zero_le _, Nat.zero_le _⟩ d_TM_moves_257 rfl (fun H locs hP => ?_)
      refine W.eq (g2 := F0 m 260 ls [.int r68, .ref (xL X 7 i2)]) rfl ?_
      refine lv_if_eq F.1 F.2.1 d_TM_moves_260 rfl (fun hb69 => ?_) (fun hb69 => ?_)
      · rw [if_pos hb69] at hj60
        refine lv_iconst (v := 0) F.1 F.2.1 d_TM_moves_267 (by decide) ?_
        cases hj60
        exact KJ59 _ _ _ (lv_sub hl [] rfl) hP
      · rw [if_neg hb69] at hj60
        refine lv_iconst (v := 1) F.1 F.2.1 d_TM_moves_263 (by decide) ?_
        refine lv_goto F.1 F.2.1 d_TM_moves_264 rfl ?_
        cases hj60
        exact KJ59 _ _ _ (lv_sub hl [] rfl) hP
  rw [if_neg hs3_8] at hf
  by_cases hs3_20 : nI o1 = 20
  · rw [if_pos hs3_20] at hf
    refine lv_tableIn F.1 F.2.1 d_TM_moves_7 (by rw [hs3_20]; decide) (by rw [hs3_20]; decide) (off := 273) (by rw [hs3_20]; decide) rfl ?_
    refine lv_aload_n F.1 F.2.1 d_TM_moves_280 rfl (lv_at hl 0 rfl) ?_
    refine lv_aload_n F.1 F.2.1 d_TM_moves_281 rfl (lv_at hl 2 rfl) ?_
    obtain ⟨t79, e_t79, hf⟩ := bnd_some hf
    obtain ⟨hc80, hf⟩ := chk_some hf
    have hv81 : t79 < cnt n 3 := hP.lt hc80
    refine g_getN F hP 7 0 i2 (by decide) h_i2 (by decide) (v := .ref (xL X 3 t79)) (fv_on e_t79) w_140 d_TM_moves_282 ?_
    refine lv_aload_n F.1 F.2.1 d_TM_moves_285 rfl (lv_at hl 1 rfl) ?_
    refine g_getN F hP 6 1 i1 (by decide) h_i1 (by decide) (v := .ref (xL X 16 i1)) rfl w_127 d_TM_moves_286 ?_
    refine lv_iconst (v := 2) F.1 F.2.1 d_TM_moves_289 (by decide) ?_
    obtain ⟨hc82, hf⟩ := chk_some hf
    refine g_ald F hP 16 (by decide) (by decide) h_i1 rfl rfl hc82 d_TM_moves_290 ?_
    obtain ⟨r85, σ83, hk84, hf⟩ := bn2_some hf
    refine g_callV (As := [.ref (xL X 3 t79), .int (gi σ 16 i1 ((2 : Int32).toNatClampNeg))]) (rest := []) F hP 0 0 (by decide) Nat.zero_lt_one (c_TM_comes l X n hv81 hk84) rfl q_TM_comes w_789 w_1 w_786 w_788 wp_26 ⟨rfl, rfl⟩ ⟨by decide, by decide⟩ hl.1 (Nat.le_of_ble_eq_true rfl) ⟨Nat.zero_le _, Nat.zero_le _⟩ d_TM_moves_291 rfl (fun H locs hP => ?_)
    refine W.eq (g2 := F0 m 294 ls [.int r85]) rfl ?_
    obtain ⟨x86, hj88, hf⟩ := lt_some2 hf
    have KJ87 : ∀ (ls : Array Slot) (H : Heap) (locs : List Loc), lv_has ls 3 [] → St X n σ83 s.heap H locs → WG l X n rm_TM_moves σ' (some (.int r)) p e s m args below meth c H locs (F0 m 302 ls [.int x86]) := by
      intro ls H locs hl hP
      obtain ⟨hz90, hf⟩ := chk_some hf
      cases hf
      exact g_zret F hP hr hlk hz90 d_TM_moves_302
    refine lv_if_ne F.1 F.2.1 d_TM_moves_294 rfl (fun hb89 => ?_) (fun hb89 => ?_)
    · rw [if_neg hb89] at hj88
      refine lv_iconst (v := 0) F.1 F.2.1 d_TM_moves_301 (by decide) ?_
      subst hj88
      exact KJ87 _ _ _ (lv_sub hl [] rfl) hP
    · rw [if_pos hb89] at hj88
      refine lv_iconst (v := 1) F.1 F.2.1 d_TM_moves_297 (by decide) ?_
      refine lv_goto F.1 F.2.1 d_TM_moves_298 rfl ?_
      subst hj88
      exact KJ87 _ _ _ (lv_sub hl [] rfl) hP
  rw [if_neg hs3_20] at hf
  have KD104 : ∀ (ls : Array Slot) (H : Heap) (locs : List Loc), lv_has ls 3 [(0, .ref (xL X 0 0)), (1, .ref (xL X 6 i1)), (2, .ref (xL X 7 i2))] → St X n σ s.heap H locs → WG l X n rm_TM_moves σ' (some (.int r)) p e s m args below meth c H locs (F0 m 303 ls []) := by
    intro ls H locs hl hP
    refine lv_aload_n F.1 F.2.1 d_TM_moves_303 rfl (lv_at hl 2 rfl) ?_
    obtain ⟨r93, σ91, hk92, hf⟩ := bn2_some hf
    refine g_callV (As := []) (rest := []) F hP 7 i2 (by decide) h_i2 (c_Cu_at l X n h_i2 hk92) rfl q_Cu_at w_780 w_9 w_777 w_778 w_779 ⟨rfl, rfl⟩ ⟨by decide, by decide⟩ hl.1 (Nat.le_of_ble_eq_true rfl) ⟨Nat.zero_le _, Nat.zero_le _⟩ d_TM_moves_304 rfl (fun H locs hP => ?_)
    refine W.eq (g2 := F0 m 307 ls [.int r93]) rfl ?_
    obtain ⟨σ94, hj96, hf⟩ := bnd_some hf
    have KJ95 : ∀ (ls : Array Slot) (H : Heap) (locs : List Loc), lv_has ls 3 [] → St X n σ94 s.heap H locs → WG l X n rm_TM_moves σ' (some (.int r)) p e s m args below meth c H locs (F0 m 331 ls []) := by
      intro ls H locs hl hP
      refine lv_iconst (v := 0) F.1 F.2.1 d_TM_moves_331 (by decide) ?_
      cases hf
      exact g_zret F hP hr hlk zb0 d_TM_moves_332
    refine lv_if_eq F.1 F.2.1 d_TM_moves_307 rfl (fun hb103 => ?_) (fun hb103 => ?_)
    · rw [if_pos hb103] at hj96
      cases hj96
      exact KJ95 _ _ _ (lv_sub hl [] rfl) hP
    · rw [if_neg hb103] at hj96
      refine lv_aload_n F.1 F.2.1 d_TM_moves_310 rfl (lv_at hl 2 rfl) ?_
      obtain ⟨t97, e_t97, hj96⟩ := bnd_some hj96
      obtain ⟨hc98, hj96⟩ := chk_some hj96
      have hv99 : t97 < cnt n 3 := hP.lt hc98
      refine g_getN F hP 7 0 i2 (by decide) h_i2 (by decide) (v := .ref (xL X 3 t97)) (fv_on e_t97) w_140 d_TM_moves_311 ?_
      refine lv_aload_n F.1 F.2.1 d_TM_moves_314 rfl (lv_at hl 2 rfl) ?_
      refine g_getN F hP 7 2 i2 (by decide) h_i2 (by decide) (v := .long (gj σ91 7 i2 2)) rfl w_144 d_TM_moves_315 ?_
      obtain ⟨σ100, hk101, hj96⟩ := bnd_some hj96
      refine g_callV (As := [.long (gj σ91 7 i2 2)]) (rest := []) F hP 3 t97 (by decide) hv99 (c_Tr_remove l X n hv99 hk101) rfl q_Tr_remove w_555 w_17 w_552 w_553 w_554 ⟨rfl, rfl⟩ ⟨by decide, by decide⟩ hl.1 (Nat.le_of_ble_eq_true rfl) ⟨Nat.zero_le _, Nat.zero_le _⟩ d_TM_moves_318 rfl (fun H locs hP => ?_)
      refine W.eq (g2 := F0 m 321 ls []) rfl ?_
      refine lv_aload_n F.1 F.2.1 d_TM_moves_321 rfl (lv_at hl 0 rfl) ?_
      refine lv_dup F.1 F.2.1 d_TM_moves_322 rfl ?_
      refine g_get F hP 0 3 0 (by decide) Nat.zero_lt_one (by decide) (v := .int (gi σ100 0 0 3)) rfl w_173 d_TM_moves_323 ?_
      refine lv_iconst (v := 1) F.1 F.2.1 d_TM_moves_326 (by decide) ?_
      refine lv_isub F.1 F.2.1 d_TM_moves_327 ?_
      obtain ⟨σ102, e_σ102, hj96⟩ := lt_some hj96
      refine g_puti F hP 0 3 0 (by decide) Nat.zero_lt_one (by decide) rfl rfl rfl rfl (Or.inl w_173) d_TM_moves_328 e_σ102 (fun H locs hP => ?_)
      cases hj96
      exact KJ95 _ _ _ (lv_sub hl [] rfl) hP
  by_cases hs3_g6 : nI o1 = 6
  · exact lv_tableIn F.1 F.2.1 d_TM_moves_7 (by rw [hs3_g6]; decide) (by rw [hs3_g6]; decide) (off := 296) (by rw [hs3_g6]; decide) rfl (KD104 _ _ _ hl hP)
  by_cases hs3_g7 : nI o1 = 7
  · exact lv_tableIn F.1 F.2.1 d_TM_moves_7 (by rw [hs3_g7]; decide) (by rw [hs3_g7]; decide) (off := 296) (by rw [hs3_g7]; decide) rfl (KD104 _ _ _ hl hP)
  by_cases hs3_g9 : nI o1 = 9
  · exact lv_tableIn F.1 F.2.1 d_TM_moves_7 (by rw [hs3_g9]; decide) (by rw [hs3_g9]; decide) (off := 296) (by rw [hs3_g9]; decide) rfl (KD104 _ _ _ hl hP)
  by_cases hs3_g10 : nI o1 = 10
  · exact lv_tableIn F.1 F.2.1 d_TM_moves_7 (by rw [hs3_g10]; decide) (by rw [hs3_g10]; decide) (off := 296) (by rw [hs3_g10]; decide) rfl (KD104 _ _ _ hl hP)
  by_cases hs3_g11 : nI o1 = 11
  · exact lv_tableIn F.1 F.2.1 d_TM_moves_7 (by rw [hs3_g11]; decide) (by rw [hs3_g11]; decide) (off := 296) (by rw [hs3_g11]; decide) rfl (KD104 _ _ _ hl hP)
  by_cases hs3_g12 : nI o1 = 12
  · exact lv_tableIn F.1 F.2.1 d_TM_moves_7 (by rw [hs3_g12]; decide) (by rw [hs3_g12]; decide) (off := 296) (by rw [hs3_g12]; decide) rfl (KD104 _ _ _ hl hP)
  by_cases hs3_g13 : nI o1 = 13
  · exact lv_tableIn F.1 F.2.1 d_TM_moves_7 (by rw [hs3_g13]; decide) (by rw [hs3_g13]; decide) (off := 296) (by rw [hs3_g13]; decide) rfl (KD104 _ _ _ hl hP)
  by_cases hs3_g14 : nI o1 = 14
  · exact lv_tableIn F.1 F.2.1 d_TM_moves_7 (by rw [hs3_g14]; decide) (by rw [hs3_g14]; decide) (off := 296) (by rw [hs3_g14]; decide) rfl (KD104 _ _ _ hl hP)
  by_cases hs3_g15 : nI o1 = 15
  · exact lv_tableIn F.1 F.2.1 d_TM_moves_7 (by rw [hs3_g15]; decide) (by rw [hs3_g15]; decide) (off := 296) (by rw [hs3_g15]; decide) rfl (KD104 _ _ _ hl hP)
  by_cases hs3_g16 : nI o1 = 16
  · exact lv_tableIn F.1 F.2.1 d_TM_moves_7 (by rw [hs3_g16]; decide) (by rw [hs3_g16]; decide) (off := 296) (by rw [hs3_g16]; decide) rfl (KD104 _ _ _ hl hP)
  by_cases hs3_g17 : nI o1 = 17
  · exact lv_tableIn F.1 F.2.1 d_TM_moves_7 (by rw [hs3_g17]; decide) (by rw [hs3_g17]; decide) (off := 296) (by rw [hs3_g17]; decide) rfl (KD104 _ _ _ hl hP)
  by_cases hs3_g18 : nI o1 = 18
  · exact lv_tableIn F.1 F.2.1 d_TM_moves_7 (by rw [hs3_g18]; decide) (by rw [hs3_g18]; decide) (off := 296) (by rw [hs3_g18]; decide) rfl (KD104 _ _ _ hl hP)
  by_cases hs3_g19 : nI o1 = 19
  · exact lv_tableIn F.1 F.2.1 d_TM_moves_7 (by rw [hs3_g19]; decide) (by rw [hs3_g19]; decide) (off := 296) (by rw [hs3_g19]; decide) rfl (KD104 _ _ _ hl hP)
  have z2 := lv_neT hs3_2 (k := 2) (a := 2) rfl
  have z3 := lv_neT hs3_3 (k := 3) (a := 3) rfl
  have z4 := lv_neT hs3_4 (k := 4) (a := 4) rfl
  have z5 := lv_neT hs3_5 (k := 5) (a := 5) rfl
  have z6 := lv_neT hs3_g6 (k := 6) (a := 6) rfl
  have z7 := lv_neT hs3_g7 (k := 7) (a := 7) rfl
  have z8 := lv_neT hs3_8 (k := 8) (a := 8) rfl
  have z9 := lv_neT hs3_g9 (k := 9) (a := 9) rfl
  have z10 := lv_neT hs3_g10 (k := 10) (a := 10) rfl
  have z11 := lv_neT hs3_g11 (k := 11) (a := 11) rfl
  have z12 := lv_neT hs3_g12 (k := 12) (a := 12) rfl
  have z13 := lv_neT hs3_g13 (k := 13) (a := 13) rfl
  have z14 := lv_neT hs3_g14 (k := 14) (a := 14) rfl
  have z15 := lv_neT hs3_g15 (k := 15) (a := 15) rfl
  have z16 := lv_neT hs3_g16 (k := 16) (a := 16) rfl
  have z17 := lv_neT hs3_g17 (k := 17) (a := 17) rfl
  have z18 := lv_neT hs3_g18 (k := 18) (a := 18) rfl
  have z19 := lv_neT hs3_g19 (k := 19) (a := 19) rfl
  have z20 := lv_neT hs3_20 (k := 20) (a := 20) rfl
  exact lv_tableOut F.1 F.2.1 d_TM_moves_7 (by omega) rfl (KD104 _ _ _ hl hP)

theorem d_TM_tell_0 : decode b_TM_tell 0 = .ok (.aload_n 0, 1) := by decide +kernel
theorem d_TM_tell_1 : decode b_TM_tell 1 = .ok (.getfield 235, 3) := by decide +kernel
theorem d_TM_tell_4 : decode b_TM_tell 4 = .ok (.bipush 64, 2) := by decide +kernel
theorem d_TM_tell_6 : decode b_TM_tell 6 = .ok (.if_icmp .ne 9, 3) := by decide +kernel
theorem d_TM_tell_9 : decode b_TM_tell 9 = .ok (.aload_n 0, 1) := by decide +kernel
theorem d_TM_tell_10 : decode b_TM_tell 10 = .ok (.iconst 2, 1) := by decide +kernel
theorem d_TM_tell_11 : decode b_TM_tell 11 = .ok (.putfield 238, 3) := by decide +kernel
theorem d_TM_tell_14 : decode b_TM_tell 14 = .ok (.return_, 1) := by decide +kernel
theorem d_TM_tell_15 : decode b_TM_tell 15 = .ok (.iconst 0, 1) := by decide +kernel
theorem d_TM_tell_16 : decode b_TM_tell 16 = .ok (.istore_n 3, 1) := by decide +kernel
theorem d_TM_tell_17 : decode b_TM_tell 17 = .ok (.iload_n 3, 1) := by decide +kernel
theorem d_TM_tell_18 : decode b_TM_tell 18 = .ok (.iload_n 2, 1) := by decide +kernel
theorem d_TM_tell_19 : decode b_TM_tell 19 = .ok (.if_icmp .ge 33, 3) := by decide +kernel
theorem d_TM_tell_22 : decode b_TM_tell 22 = .ok (.aload_n 0, 1) := by decide +kernel
theorem d_TM_tell_23 : decode b_TM_tell 23 = .ok (.getfield 60, 3) := by decide +kernel
theorem d_TM_tell_26 : decode b_TM_tell 26 = .ok (.iconst 4, 1) := by decide +kernel
theorem d_TM_tell_27 : decode b_TM_tell 27 = .ok (.aload_n 0, 1) := by decide +kernel
theorem d_TM_tell_28 : decode b_TM_tell 28 = .ok (.getfield 235, 3) := by decide +kernel
theorem d_TM_tell_31 : decode b_TM_tell 31 = .ok (.imul, 1) := by decide +kernel
theorem d_TM_tell_32 : decode b_TM_tell 32 = .ok (.iload_n 3, 1) := by decide +kernel
theorem d_TM_tell_33 : decode b_TM_tell 33 = .ok (.iadd, 1) := by decide +kernel
theorem d_TM_tell_34 : decode b_TM_tell 34 = .ok (.aaload, 1) := by decide +kernel
theorem d_TM_tell_35 : decode b_TM_tell 35 = .ok (.aload_n 0, 1) := by decide +kernel
theorem d_TM_tell_36 : decode b_TM_tell 36 = .ok (.getfield 50, 3) := by decide +kernel
theorem d_TM_tell_39 : decode b_TM_tell 39 = .ok (.iload_n 1, 1) := by decide +kernel
theorem d_TM_tell_40 : decode b_TM_tell 40 = .ok (.iload_n 3, 1) := by decide +kernel
theorem d_TM_tell_41 : decode b_TM_tell 41 = .ok (.iadd, 1) := by decide +kernel
theorem d_TM_tell_42 : decode b_TM_tell 42 = .ok (.aaload, 1) := by decide +kernel
theorem d_TM_tell_43 : decode b_TM_tell 43 = .ok (.invokevirtual 231, 3) := by decide +kernel
theorem d_TM_tell_46 : decode b_TM_tell 46 = .ok (.iinc 3 1, 3) := by decide +kernel
theorem d_TM_tell_49 : decode b_TM_tell 49 = .ok (.goto (-32), 3) := by decide +kernel
theorem d_TM_tell_52 : decode b_TM_tell 52 = .ok (.aload_n 0, 1) := by decide +kernel
theorem d_TM_tell_53 : decode b_TM_tell 53 = .ok (.getfield 63, 3) := by decide +kernel
theorem d_TM_tell_56 : decode b_TM_tell 56 = .ok (.aload_n 0, 1) := by decide +kernel
theorem d_TM_tell_57 : decode b_TM_tell 57 = .ok (.getfield 235, 3) := by decide +kernel
theorem d_TM_tell_60 : decode b_TM_tell 60 = .ok (.iload_n 2, 1) := by decide +kernel
theorem d_TM_tell_61 : decode b_TM_tell 61 = .ok (.iastore, 1) := by decide +kernel
theorem d_TM_tell_62 : decode b_TM_tell 62 = .ok (.aload_n 0, 1) := by decide +kernel
theorem d_TM_tell_63 : decode b_TM_tell 63 = .ok (.dup, 1) := by decide +kernel
theorem d_TM_tell_64 : decode b_TM_tell 64 = .ok (.getfield 235, 3) := by decide +kernel
theorem d_TM_tell_67 : decode b_TM_tell 67 = .ok (.iconst 1, 1) := by decide +kernel
theorem d_TM_tell_68 : decode b_TM_tell 68 = .ok (.iadd, 1) := by decide +kernel
theorem d_TM_tell_69 : decode b_TM_tell 69 = .ok (.putfield 235, 3) := by decide +kernel
theorem d_TM_tell_72 : decode b_TM_tell 72 = .ok (.return_, 1) := by decide +kernel
noncomputable def b_TM_tell_17 (a1 : Int32) (a2 : Int32) (x1 : Int32) (σ2 : Sg) : Option ((Int32 × Sg) ⊕ (Sg)) :=
  (if a2 ≤ x1 then (some (.inr σ2)) else (chk (vp_in ((4 * (gi σ2 0 0 13)) + x1) 256) (chk (vp_in (a1 + x1) 16) ((f_Vl_like (24 + ((4 * (gi σ2 0 0 13)) + x1).toNatClampNeg) (8 + (a1 + x1).toNatClampNeg) σ2).bind (fun σ8 => lt_ (x1 + 1 : Int32) (fun (x10 : Int32) => some (.inl (x10, σ8))))))))
noncomputable def l_TM_tell_17 (a1 : Int32) (a2 : Int32) (x1 : Int32) (σ2 : Sg) : Option (Sg) := lp (fun q => b_TM_tell_17 a1 a2 q.1 q.2) FU (x1, σ2)
noncomputable def f_TM_tell (a1 : Int32) (a2 : Int32) (σ : Sg) : Option (Sg) :=
  (if (gi σ 0 0 13) = 64 then (lt_ (si σ 0 0 14 2) (fun σ18 => some σ18)) else ((l_TM_tell_17 a1 a2 0 σ).bind (fun σ12 => chk (vp_in (gi σ12 0 0 13) 64) (lt_ (si σ12 23 0 ((gi σ12 0 0 13).toNatClampNeg) a2) (fun σ16 => lt_ (si σ16 0 0 13 ((gi σ16 0 0 13) + 1)) (fun σ17 => some σ17))))))
abbrev rm_TM_tell : Room := { frames := 1, cells := 0, slots := 0, locals := 21 }
set_option maxHeartbeats 4000000 in
set_option maxRecDepth 100000 in
theorem c_TM_tell (l : Launch) (X : GX) (n : Nat) {σ σ' : Sg} {a1 : Int32} {a2 : Int32}  (hf : f_TM_tell a1 a2 σ = some σ') : Met l y_TM_tell (cw y_TM_tell b_TM_tell 4 none) rm_TM_tell (PcG X n σ [.ref (xL X 0 0), .int a1, .int a2]) (QcG X n σ' none) 0 0 (fr X n) := by
  refine g_head (own := "TableMachine") (by decide) rfl (Nat.le_of_ble_eq_true rfl) ?_
  intro p e s m args below meth c ls F hr hlk hP hl
  have hl : lv_has ls 4 [(0, .ref (xL X 0 0)), (1, .int a1), (2, .int a2)] := hl
  show WG l X n rm_TM_tell σ' none p e s m args below meth c s.heap [] (F0 m 0 ls [])
  unfold f_TM_tell at hf
  refine lv_aload_n F.1 F.2.1 d_TM_tell_0 rfl (lv_at hl 0 rfl) ?_
  refine g_get F hP 0 13 0 (by decide) Nat.zero_lt_one (by decide) (v := .int (gi σ 0 0 13)) rfl w_183 d_TM_tell_1 ?_
  refine lv_bipush (v := 64) F.1 F.2.1 d_TM_tell_4 (by decide) ?_
  refine lv_icmp_ne F.1 F.2.1 d_TM_tell_6 rfl (fun hb19 => ?_) (fun hb19 => ?_)
  · rw [if_neg hb19] at hf
    refine lv_iconst (v := 0) F.1 F.2.1 d_TM_tell_15 (by decide) ?_
    refine lv_istore_n F.1 F.2.1 d_TM_tell_16 rfl hl (by decide) rfl (fun ls hl => ?_)
    have hl : lv_has ls 4 [(3, .int 0), (0, .ref (xL X 0 0)), (1, .int a1), (2, .int a2)] := hl
    obtain ⟨σ12, hlp13, hf⟩ := bnd_some hf
    have KX14 : ∀ (ls : Array Slot) (H : Heap) (locs : List Loc), lv_has ls 4 [(0, .ref (xL X 0 0)), (2, .int a2)] → St X n σ12 s.heap H locs → WG l X n rm_TM_tell σ' none p e s m args below meth c H locs (F0 m 52 ls []) := by
      intro ls H locs hl hP
      refine lv_aload_n F.1 F.2.1 d_TM_tell_52 rfl (lv_at hl 0 rfl) ?_
      refine g_get F hP 0 12 0 (by decide) Nat.zero_lt_one (by decide) (v := .ref (xL X 23 0)) rfl w_182 d_TM_tell_53 ?_
      refine lv_aload_n F.1 F.2.1 d_TM_tell_56 rfl (lv_at hl 0 rfl) ?_
      refine g_get F hP 0 13 0 (by decide) Nat.zero_lt_one (by decide) (v := .int (gi σ12 0 0 13)) rfl w_183 d_TM_tell_57 ?_
      refine lv_iload_n F.1 F.2.1 d_TM_tell_60 rfl (lv_at hl 1 rfl) ?_
      obtain ⟨hc15, hf⟩ := chk_some hf
      obtain ⟨σ16, e_σ16, hf⟩ := lt_some hf
      refine g_ast F hP 23 (by decide) (by decide) Nat.zero_lt_one rfl rfl hc15 d_TM_tell_61 e_σ16 (fun H locs hP => ?_)
      refine lv_aload_n F.1 F.2.1 d_TM_tell_62 rfl (lv_at hl 0 rfl) ?_
      refine lv_dup F.1 F.2.1 d_TM_tell_63 rfl ?_
      refine g_get F hP 0 13 0 (by decide) Nat.zero_lt_one (by decide) (v := .int (gi σ16 0 0 13)) rfl w_183 d_TM_tell_64 ?_
      refine lv_iconst (v := 1) F.1 F.2.1 d_TM_tell_67 (by decide) ?_
      refine lv_iadd F.1 F.2.1 d_TM_tell_68 ?_
      obtain ⟨σ17, e_σ17, hf⟩ := lt_some hf
      refine g_puti F hP 0 13 0 (by decide) Nat.zero_lt_one (by decide) rfl rfl rfl rfl (Or.inl w_183) d_TM_tell_69 e_σ17 (fun H locs hP => ?_)
      cases hf
      exact g_vret F hP hr hlk d_TM_tell_72
    unfold l_TM_tell_17 at hlp13
    refine lp_W (PW := fun q => ∀ (ls : Array Slot) (H : Heap) (locs : List Loc), lv_has ls 4 [(0, .ref (xL X 0 0)), (1, .int a1), (2, .int a2), (3, .int q.1)] → St X n q.2 s.heap H locs → WG l X n rm_TM_tell σ' none p e s m args below meth c H locs (F0 m 17 ls [])) (PE := fun q => ∀ (ls : Array Slot) (H : Heap) (locs : List Loc), lv_has ls 4 [(0, .ref (xL X 0 0)), (2, .int a2)] → St X n q s.heap H locs → WG l X n rm_TM_tell σ' none p e s m args below meth c H locs (F0 m 52 ls [])) ?_ _ _ _ hlp13 KX14 _ _ _ (lv_sub hl [1, 2, 3, 0] rfl) hP
    rintro ⟨x1, σ2⟩ rr3 hb_17 hI4 hE5 ls H locs hl hP
    replace hb_17 : b_TM_tell_17 a1 a2 x1 σ2 = some rr3 := hb_17
    unfold b_TM_tell_17 at hb_17
    refine lv_iload_n F.1 F.2.1 d_TM_tell_17 rfl (lv_at hl 3 rfl) ?_
    refine lv_iload_n F.1 F.2.1 d_TM_tell_18 rfl (lv_at hl 2 rfl) ?_
    refine lv_icmp_ge F.1 F.2.1 d_TM_tell_19 rfl (fun hb11 => ?_) (fun hb11 => ?_)
    · rw [if_pos hb11] at hb_17
      cases hb_17
      exact hE5 _ rfl _ _ _ (lv_sub hl [0, 2] rfl) hP
    · rw [if_neg hb11] at hb_17
      refine lv_aload_n F.1 F.2.1 d_TM_tell_22 rfl (lv_at hl 0 rfl) ?_
      refine g_get F hP 0 11 0 (by decide) Nat.zero_lt_one (by decide) (v := .ref (xL X 22 0)) rfl w_181 d_TM_tell_23 ?_
      refine lv_iconst (v := 4) F.1 F.2.1 d_TM_tell_26 (by decide) ?_
      refine lv_aload_n F.1 F.2.1 d_TM_tell_27 rfl (lv_at hl 0 rfl) ?_
      refine g_get F hP 0 13 0 (by decide) Nat.zero_lt_one (by decide) (v := .int (gi σ2 0 0 13)) rfl w_183 d_TM_tell_28 ?_
      refine lv_imul F.1 F.2.1 d_TM_tell_31 ?_
      refine lv_iload_n F.1 F.2.1 d_TM_tell_32 rfl (lv_at hl 3 rfl) ?_
      refine lv_iadd F.1 F.2.1 d_TM_tell_33 ?_
      obtain ⟨hc6, hb_17⟩ := chk_some hb_17
      refine g_rld F hP 22 (by decide) (by decide) Nat.zero_lt_one rfl hc6 (v := .ref (xL X 5 (24 + ((4 * (gi σ2 0 0 13)) + x1).toNatClampNeg))) rfl d_TM_tell_34 ?_
      refine lv_aload_n F.1 F.2.1 d_TM_tell_35 rfl (lv_at hl 0 rfl) ?_
      refine g_get F hP 0 9 0 (by decide) Nat.zero_lt_one (by decide) (v := .ref (xL X 20 0)) rfl w_179 d_TM_tell_36 ?_
      refine lv_iload_n F.1 F.2.1 d_TM_tell_39 rfl (lv_at hl 1 rfl) ?_
      refine lv_iload_n F.1 F.2.1 d_TM_tell_40 rfl (lv_at hl 3 rfl) ?_
      refine lv_iadd F.1 F.2.1 d_TM_tell_41 ?_
      obtain ⟨hc7, hb_17⟩ := chk_some hb_17
      refine g_rld F hP 20 (by decide) (by decide) Nat.zero_lt_one rfl hc7 (v := .ref (xL X 5 (8 + (a1 + x1).toNatClampNeg))) rfl d_TM_tell_42 ?_
      obtain ⟨σ8, hk9, hb_17⟩ := bnd_some hb_17
      refine g_callV (As := [.ref (xL X 5 (8 + (a1 + x1).toNatClampNeg))]) (rest := []) F hP 5 (24 + ((4 * (gi σ2 0 0 13)) + x1).toNatClampNeg) (by decide) (ve22 hc6) (c_Vl_like l X n (ve22 hc6) (ve20 hc7) hk9) rfl q_Vl_like w_785 w_5 w_782 w_783 w_784 ⟨rfl, rfl⟩ ⟨by decide, by decide⟩ hl.1 (Nat.le_of_ble_eq_true rfl) ⟨Nat.zero_le _, Nat.zero_le _⟩ d_TM_tell_43 rfl (fun H locs hP => ?_)
      refine W.eq (g2 := F0 m 46 ls []) rfl ?_
      obtain ⟨x10, e_x10, hb_17⟩ := lt_some hb_17
      refine lv_iinc (k := 3) (v := x10) F.1 F.2.1 d_TM_tell_46 hl rfl (by rw [e_x10]; rfl) (by decide) rfl (fun ls hl => ?_)
      have hl : lv_has ls 4 [(3, .int x10), (0, .ref (xL X 0 0)), (1, .int a1), (2, .int a2)] := hl
      refine lv_goto F.1 F.2.1 d_TM_tell_49 rfl ?_
      cases hb_17
      exact hI4 _ rfl _ _ _ (lv_sub hl [1, 2, 3, 0] rfl) hP
  · rw [if_pos hb19] at hf
    refine lv_aload_n F.1 F.2.1 d_TM_tell_9 rfl (lv_at hl 0 rfl) ?_
    refine lv_iconst (v := 2) F.1 F.2.1 d_TM_tell_10 (by decide) ?_
    obtain ⟨σ18, e_σ18, hf⟩ := lt_some hf
    refine g_puti F hP 0 14 0 (by decide) Nat.zero_lt_one (by decide) rfl rfl rfl rfl (Or.inl w_184) d_TM_tell_11 e_σ18 (fun H locs hP => ?_)
    cases hf
    exact g_vret F hP hr hlk d_TM_tell_14

theorem d_TM_sum_0 : decode b_TM_sum 0 = .ok (.aload_n 0, 1) := by decide +kernel
theorem d_TM_sum_1 : decode b_TM_sum 1 = .ok (.getfield 162, 3) := by decide +kernel
theorem d_TM_sum_4 : decode b_TM_sum 4 = .ok (.ifCond .eq 26, 3) := by decide +kernel
theorem d_TM_sum_7 : decode b_TM_sum 7 = .ok (.aload_n 1, 1) := by decide +kernel
theorem d_TM_sum_8 : decode b_TM_sum 8 = .ok (.getfield 162, 3) := by decide +kernel
theorem d_TM_sum_11 : decode b_TM_sum 11 = .ok (.ifCond .eq 19, 3) := by decide +kernel
theorem d_TM_sum_14 : decode b_TM_sum 14 = .ok (.aload_n 2, 1) := by decide +kernel
theorem d_TM_sum_15 : decode b_TM_sum 15 = .ok (.aload_n 0, 1) := by decide +kernel
theorem d_TM_sum_16 : decode b_TM_sum 16 = .ok (.getfield 158, 3) := by decide +kernel
theorem d_TM_sum_19 : decode b_TM_sum 19 = .ok (.aload_n 1, 1) := by decide +kernel
theorem d_TM_sum_20 : decode b_TM_sum 20 = .ok (.getfield 158, 3) := by decide +kernel
theorem d_TM_sum_23 : decode b_TM_sum 23 = .ok (.ladd, 1) := by decide +kernel
theorem d_TM_sum_24 : decode b_TM_sum 24 = .ok (.invokevirtual 111, 3) := by decide +kernel
theorem d_TM_sum_27 : decode b_TM_sum 27 = .ok (.goto 7, 3) := by decide +kernel
theorem d_TM_sum_30 : decode b_TM_sum 30 = .ok (.aload_n 2, 1) := by decide +kernel
theorem d_TM_sum_31 : decode b_TM_sum 31 = .ok (.invokevirtual 115, 3) := by decide +kernel
theorem d_TM_sum_34 : decode b_TM_sum 34 = .ok (.return_, 1) := by decide +kernel
noncomputable def f_TM_sum (i0 : Nat) (i1 : Nat) (i2 : Nat) (σ : Sg) : Option (Sg) :=
  Option.bind (if (gi σ 5 i0 0) = 0 then ((f_Vl_none i2 σ).bind (fun σ4 => some (σ4))) else (if (gi σ 5 i1 0) = 0 then ((f_Vl_none i2 σ).bind (fun σ6 => some (σ6))) else ((f_Vl_to i2 ((gj σ 5 i0 1) + (gj σ 5 i1 1)) σ).bind (fun σ8 => some (σ8))))) (fun (σ1 : Sg) => some σ1)
abbrev rm_TM_sum : Room := { frames := 1, cells := 0, slots := 0, locals := 22 }
set_option maxHeartbeats 4000000 in
set_option maxRecDepth 100000 in
theorem c_TM_sum (l : Launch) (X : GX) (n : Nat) {σ σ' : Sg} {i0 : Nat} {i1 : Nat} {i2 : Nat} (h_i0 : i0 < cnt n 5) (h_i1 : i1 < cnt n 5) (h_i2 : i2 < cnt n 5) (hf : f_TM_sum i0 i1 i2 σ = some σ') : Met l y_TM_sum (cw y_TM_sum b_TM_sum 3 none) rm_TM_sum (PcG X n σ [.ref (xL X 5 i0), .ref (xL X 5 i1), .ref (xL X 5 i2)]) (QcG X n σ' none) 0 0 (fr X n) := by
  refine g_head (own := "TableMachine") (by decide) rfl (Nat.le_of_ble_eq_true rfl) ?_
  intro p e s m args below meth c ls F hr hlk hP hl
  have hl : lv_has ls 3 [(0, .ref (xL X 5 i0)), (1, .ref (xL X 5 i1)), (2, .ref (xL X 5 i2))] := hl
  show WG l X n rm_TM_sum σ' none p e s m args below meth c s.heap [] (F0 m 0 ls [])
  unfold f_TM_sum at hf
  refine lv_aload_n F.1 F.2.1 d_TM_sum_0 rfl (lv_at hl 0 rfl) ?_
  refine g_getN F hP 5 0 i0 (by decide) h_i0 (by decide) (v := .int (gi σ 5 i0 0)) rfl w_85 d_TM_sum_1 ?_
  obtain ⟨σ1, hj3, hf⟩ := bnd_some hf
  have KJ2 : ∀ (ls : Array Slot) (H : Heap) (locs : List Loc), lv_has ls 3 [] → St X n σ1 s.heap H locs → WG l X n rm_TM_sum σ' none p e s m args below meth c H locs (F0 m 34 ls []) := by
    intro ls H locs hl hP
    cases hf
    exact g_vret F hP hr hlk d_TM_sum_34
  refine lv_if_eq F.1 F.2.1 d_TM_sum_4 rfl (fun hb11 => ?_) (fun hb11 => ?_)
  · rw [if_pos hb11] at hj3
    refine lv_aload_n F.1 F.2.1 d_TM_sum_30 rfl (lv_at hl 2 rfl) ?_
    obtain ⟨σ4, hk5, hj3⟩ := bnd_some hj3
    refine g_callV (As := []) (rest := []) F hP 5 i2 (by decide) h_i2 (c_Vl_none l X n h_i2 hk5) rfl q_Vl_none w_254 w_5 w_251 w_252 w_253 ⟨rfl, rfl⟩ ⟨by decide, by decide⟩ hl.1 (Nat.le_of_ble_eq_true rfl) ⟨Nat.zero_le _, Nat.zero_le _⟩ d_TM_sum_31 rfl (fun H locs hP => ?_)
    refine W.eq (g2 := F0 m 34 ls []) rfl ?_
    cases hj3
    exact KJ2 _ _ _ (lv_sub hl [] rfl) hP
  · rw [if_neg hb11] at hj3
    refine lv_aload_n F.1 F.2.1 d_TM_sum_7 rfl (lv_at hl 1 rfl) ?_
    refine g_getN F hP 5 0 i1 (by decide) h_i1 (by decide) (v := .int (gi σ 5 i1 0)) rfl w_85 d_TM_sum_8 ?_
    refine lv_if_eq F.1 F.2.1 d_TM_sum_11 rfl (fun hb10 => ?_) (fun hb10 => ?_)
    · rw [if_pos hb10] at hj3
      refine lv_aload_n F.1 F.2.1 d_TM_sum_30 rfl (lv_at hl 2 rfl) ?_
      obtain ⟨σ6, hk7, hj3⟩ := bnd_some hj3
      refine g_callV (As := []) (rest := []) F hP 5 i2 (by decide) h_i2 (c_Vl_none l X n h_i2 hk7) rfl q_Vl_none w_254 w_5 w_251 w_252 w_253 ⟨rfl, rfl⟩ ⟨by decide, by decide⟩ hl.1 (Nat.le_of_ble_eq_true rfl) ⟨Nat.zero_le _, Nat.zero_le _⟩ d_TM_sum_31 rfl (fun H locs hP => ?_)
      refine W.eq (g2 := F0 m 34 ls []) rfl ?_
      cases hj3
      exact KJ2 _ _ _ (lv_sub hl [] rfl) hP
    · rw [if_neg hb10] at hj3
      refine lv_aload_n F.1 F.2.1 d_TM_sum_14 rfl (lv_at hl 2 rfl) ?_
      refine lv_aload_n F.1 F.2.1 d_TM_sum_15 rfl (lv_at hl 0 rfl) ?_
      refine g_getN F hP 5 1 i0 (by decide) h_i0 (by decide) (v := .long (gj σ 5 i0 1)) rfl w_88 d_TM_sum_16 ?_
      refine lv_aload_n F.1 F.2.1 d_TM_sum_19 rfl (lv_at hl 1 rfl) ?_
      refine g_getN F hP 5 1 i1 (by decide) h_i1 (by decide) (v := .long (gj σ 5 i1 1)) rfl w_88 d_TM_sum_20 ?_
      refine lv_ladd F.1 F.2.1 d_TM_sum_23 ?_
      obtain ⟨σ8, hk9, hj3⟩ := bnd_some hj3
      refine g_callV (As := [.long ((gj σ 5 i0 1) + (gj σ 5 i1 1))]) (rest := []) F hP 5 i2 (by decide) h_i2 (c_Vl_to l X n h_i2 hk9) rfl q_Vl_to w_250 w_5 w_247 w_248 w_249 ⟨rfl, rfl⟩ ⟨by decide, by decide⟩ hl.1 (Nat.le_of_ble_eq_true rfl) ⟨Nat.zero_le _, Nat.zero_le _⟩ d_TM_sum_24 rfl (fun H locs hP => ?_)
      refine W.eq (g2 := F0 m 27 ls []) rfl ?_
      refine lv_goto F.1 F.2.1 d_TM_sum_27 rfl ?_
      cases hj3
      exact KJ2 _ _ _ (lv_sub hl [] rfl) hP

theorem d_TM_works_0 : decode b_TM_works 0 = .ok (.aload_n 1, 1) := by decide +kernel
theorem d_TM_works_1 : decode b_TM_works 1 = .ok (.getfield 173, 3) := by decide +kernel
theorem d_TM_works_4 : decode b_TM_works 4 = .ok (.iconst 0, 1) := by decide +kernel
theorem d_TM_works_5 : decode b_TM_works 5 = .ok (.iaload, 1) := by decide +kernel
theorem d_TM_works_6 : decode b_TM_works 6 = .ok (.istore_n 2, 1) := by decide +kernel
theorem d_TM_works_7 : decode b_TM_works 7 = .ok (.aload_n 1, 1) := by decide +kernel
theorem d_TM_works_8 : decode b_TM_works 8 = .ok (.getfield 173, 3) := by decide +kernel
theorem d_TM_works_11 : decode b_TM_works 11 = .ok (.iconst 1, 1) := by decide +kernel
theorem d_TM_works_12 : decode b_TM_works 12 = .ok (.iaload, 1) := by decide +kernel
theorem d_TM_works_13 : decode b_TM_works 13 = .ok (.istore_n 3, 1) := by decide +kernel
theorem d_TM_works_14 : decode b_TM_works 14 = .ok (.aload_n 1, 1) := by decide +kernel
theorem d_TM_works_15 : decode b_TM_works 15 = .ok (.getfield 169, 3) := by decide +kernel
theorem d_TM_works_18 : decode b_TM_works 18 = .ok (.invokevirtual 200, 3) := by decide +kernel
theorem d_TM_works_21 : decode b_TM_works 21 = .ok (.tableswitch 218 0 19 #[95, 102, 218, 218, 218, 218, 128, 141, 218, 218, 218, 218, 218, 218, 218, 152, 170, 180, 208, 216], 95) := by decide +kernel
theorem d_TM_works_116 : decode b_TM_works 116 = .ok (.aload_n 0, 1) := by decide +kernel
theorem d_TM_works_117 : decode b_TM_works 117 = .ok (.iconst 0, 1) := by decide +kernel
theorem d_TM_works_118 : decode b_TM_works 118 = .ok (.putfield 238, 3) := by decide +kernel
theorem d_TM_works_121 : decode b_TM_works 121 = .ok (.iconst 0, 1) := by decide +kernel
theorem d_TM_works_122 : decode b_TM_works 122 = .ok (.ireturn, 1) := by decide +kernel
theorem d_TM_works_123 : decode b_TM_works 123 = .ok (.aload_n 0, 1) := by decide +kernel
theorem d_TM_works_124 : decode b_TM_works 124 = .ok (.getfield 56, 3) := by decide +kernel
theorem d_TM_works_127 : decode b_TM_works 127 = .ok (.iload_n 2, 1) := by decide +kernel
theorem d_TM_works_128 : decode b_TM_works 128 = .ok (.aaload, 1) := by decide +kernel
theorem d_TM_works_129 : decode b_TM_works 129 = .ok (.aload_n 0, 1) := by decide +kernel
theorem d_TM_works_130 : decode b_TM_works 130 = .ok (.getfield 18, 3) := by decide +kernel
theorem d_TM_works_133 : decode b_TM_works 133 = .ok (.iload_n 3, 1) := by decide +kernel
theorem d_TM_works_134 : decode b_TM_works 134 = .ok (.aaload, 1) := by decide +kernel
theorem d_TM_works_135 : decode b_TM_works 135 = .ok (.putfield 204, 3) := by decide +kernel
theorem d_TM_works_138 : decode b_TM_works 138 = .ok (.aload_n 0, 1) := by decide +kernel
theorem d_TM_works_139 : decode b_TM_works 139 = .ok (.getfield 56, 3) := by decide +kernel
theorem d_TM_works_142 : decode b_TM_works 142 = .ok (.iload_n 2, 1) := by decide +kernel
theorem d_TM_works_143 : decode b_TM_works 143 = .ok (.aaload, 1) := by decide +kernel
theorem d_TM_works_144 : decode b_TM_works 144 = .ok (.invokevirtual 241, 3) := by decide +kernel
theorem d_TM_works_147 : decode b_TM_works 147 = .ok (.iconst 0, 1) := by decide +kernel
theorem d_TM_works_148 : decode b_TM_works 148 = .ok (.ireturn, 1) := by decide +kernel
theorem d_TM_works_149 : decode b_TM_works 149 = .ok (.aload_n 0, 1) := by decide +kernel
theorem d_TM_works_150 : decode b_TM_works 150 = .ok (.getfield 50, 3) := by decide +kernel
theorem d_TM_works_153 : decode b_TM_works 153 = .ok (.iload_n 3, 1) := by decide +kernel
theorem d_TM_works_154 : decode b_TM_works 154 = .ok (.aaload, 1) := by decide +kernel
theorem d_TM_works_155 : decode b_TM_works 155 = .ok (.iload_n 2, 1) := by decide +kernel
theorem d_TM_works_156 : decode b_TM_works 156 = .ok (.i2l, 1) := by decide +kernel
theorem d_TM_works_157 : decode b_TM_works 157 = .ok (.invokevirtual 111, 3) := by decide +kernel
theorem d_TM_works_160 : decode b_TM_works 160 = .ok (.iconst 0, 1) := by decide +kernel
theorem d_TM_works_161 : decode b_TM_works 161 = .ok (.ireturn, 1) := by decide +kernel
theorem d_TM_works_162 : decode b_TM_works 162 = .ok (.aload_n 0, 1) := by decide +kernel
theorem d_TM_works_163 : decode b_TM_works 163 = .ok (.getfield 50, 3) := by decide +kernel
theorem d_TM_works_166 : decode b_TM_works 166 = .ok (.iload_n 2, 1) := by decide +kernel
theorem d_TM_works_167 : decode b_TM_works 167 = .ok (.aaload, 1) := by decide +kernel
theorem d_TM_works_168 : decode b_TM_works 168 = .ok (.invokevirtual 115, 3) := by decide +kernel
theorem d_TM_works_171 : decode b_TM_works 171 = .ok (.iconst 0, 1) := by decide +kernel
theorem d_TM_works_172 : decode b_TM_works 172 = .ok (.ireturn, 1) := by decide +kernel
theorem d_TM_works_173 : decode b_TM_works 173 = .ok (.aload_n 0, 1) := by decide +kernel
theorem d_TM_works_174 : decode b_TM_works 174 = .ok (.getfield 50, 3) := by decide +kernel
theorem d_TM_works_177 : decode b_TM_works 177 = .ok (.iload_n 2, 1) := by decide +kernel
theorem d_TM_works_178 : decode b_TM_works 178 = .ok (.aaload, 1) := by decide +kernel
theorem d_TM_works_179 : decode b_TM_works 179 = .ok (.getfield 162, 3) := by decide +kernel
theorem d_TM_works_182 : decode b_TM_works 182 = .ok (.ifCond .ne 7, 3) := by decide +kernel
theorem d_TM_works_185 : decode b_TM_works 185 = .ok (.iconst 1, 1) := by decide +kernel
theorem d_TM_works_186 : decode b_TM_works 186 = .ok (.goto 4, 3) := by decide +kernel
theorem d_TM_works_189 : decode b_TM_works 189 = .ok (.iconst 0, 1) := by decide +kernel
theorem d_TM_works_190 : decode b_TM_works 190 = .ok (.ireturn, 1) := by decide +kernel
theorem d_TM_works_191 : decode b_TM_works 191 = .ok (.aload_n 0, 1) := by decide +kernel
theorem d_TM_works_192 : decode b_TM_works 192 = .ok (.getfield 50, 3) := by decide +kernel
theorem d_TM_works_195 : decode b_TM_works 195 = .ok (.iload_n 2, 1) := by decide +kernel
theorem d_TM_works_196 : decode b_TM_works 196 = .ok (.aaload, 1) := by decide +kernel
theorem d_TM_works_197 : decode b_TM_works 197 = .ok (.getfield 162, 3) := by decide +kernel
theorem d_TM_works_200 : decode b_TM_works 200 = .ok (.ireturn, 1) := by decide +kernel
theorem d_TM_works_201 : decode b_TM_works 201 = .ok (.aload_n 0, 1) := by decide +kernel
theorem d_TM_works_202 : decode b_TM_works 202 = .ok (.getfield 50, 3) := by decide +kernel
theorem d_TM_works_205 : decode b_TM_works 205 = .ok (.iload_n 2, 1) := by decide +kernel
theorem d_TM_works_206 : decode b_TM_works 206 = .ok (.aaload, 1) := by decide +kernel
theorem d_TM_works_207 : decode b_TM_works 207 = .ok (.aload_n 0, 1) := by decide +kernel
theorem d_TM_works_208 : decode b_TM_works 208 = .ok (.getfield 50, 3) := by decide +kernel
theorem d_TM_works_211 : decode b_TM_works 211 = .ok (.iload_n 3, 1) := by decide +kernel
theorem d_TM_works_212 : decode b_TM_works 212 = .ok (.aaload, 1) := by decide +kernel
theorem d_TM_works_213 : decode b_TM_works 213 = .ok (.aload_n 0, 1) := by decide +kernel
theorem d_TM_works_214 : decode b_TM_works 214 = .ok (.getfield 50, 3) := by decide +kernel
theorem d_TM_works_217 : decode b_TM_works 217 = .ok (.aload_n 1, 1) := by decide +kernel
theorem d_TM_works_218 : decode b_TM_works 218 = .ok (.getfield 173, 3) := by decide +kernel
theorem d_TM_works_221 : decode b_TM_works 221 = .ok (.iconst 2, 1) := by decide +kernel
theorem d_TM_works_222 : decode b_TM_works 222 = .ok (.iaload, 1) := by decide +kernel
theorem d_TM_works_223 : decode b_TM_works 223 = .ok (.aaload, 1) := by decide +kernel
theorem d_TM_works_224 : decode b_TM_works 224 = .ok (.invokestatic 244, 3) := by decide +kernel
theorem d_TM_works_227 : decode b_TM_works 227 = .ok (.iconst 0, 1) := by decide +kernel
theorem d_TM_works_228 : decode b_TM_works 228 = .ok (.ireturn, 1) := by decide +kernel
theorem d_TM_works_229 : decode b_TM_works 229 = .ok (.aload_n 0, 1) := by decide +kernel
theorem d_TM_works_230 : decode b_TM_works 230 = .ok (.iload_n 2, 1) := by decide +kernel
theorem d_TM_works_231 : decode b_TM_works 231 = .ok (.iload_n 3, 1) := by decide +kernel
theorem d_TM_works_232 : decode b_TM_works 232 = .ok (.invokevirtual 248, 3) := by decide +kernel
theorem d_TM_works_235 : decode b_TM_works 235 = .ok (.iconst 0, 1) := by decide +kernel
theorem d_TM_works_236 : decode b_TM_works 236 = .ok (.ireturn, 1) := by decide +kernel
theorem d_TM_works_237 : decode b_TM_works 237 = .ok (.iconst 1, 1) := by decide +kernel
theorem d_TM_works_238 : decode b_TM_works 238 = .ok (.ireturn, 1) := by decide +kernel
theorem d_TM_works_239 : decode b_TM_works 239 = .ok (.aload_n 0, 1) := by decide +kernel
theorem d_TM_works_240 : decode b_TM_works 240 = .ok (.getfield 50, 3) := by decide +kernel
theorem d_TM_works_243 : decode b_TM_works 243 = .ok (.iload_n 2, 1) := by decide +kernel
theorem d_TM_works_244 : decode b_TM_works 244 = .ok (.aaload, 1) := by decide +kernel
theorem d_TM_works_245 : decode b_TM_works 245 = .ok (.getfield 162, 3) := by decide +kernel
theorem d_TM_works_248 : decode b_TM_works 248 = .ok (.ifCond .eq 57, 3) := by decide +kernel
theorem d_TM_works_251 : decode b_TM_works 251 = .ok (.aload_n 0, 1) := by decide +kernel
theorem d_TM_works_252 : decode b_TM_works 252 = .ok (.getfield 50, 3) := by decide +kernel
theorem d_TM_works_255 : decode b_TM_works 255 = .ok (.aload_n 1, 1) := by decide +kernel
theorem d_TM_works_256 : decode b_TM_works 256 = .ok (.getfield 173, 3) := by decide +kernel
theorem d_TM_works_259 : decode b_TM_works 259 = .ok (.iconst 2, 1) := by decide +kernel
theorem d_TM_works_260 : decode b_TM_works 260 = .ok (.iaload, 1) := by decide +kernel
theorem d_TM_works_261 : decode b_TM_works 261 = .ok (.aaload, 1) := by decide +kernel
theorem d_TM_works_262 : decode b_TM_works 262 = .ok (.getfield 162, 3) := by decide +kernel
theorem d_TM_works_265 : decode b_TM_works 265 = .ok (.ifCond .eq 40, 3) := by decide +kernel
theorem d_TM_works_268 : decode b_TM_works 268 = .ok (.aload_n 1, 1) := by decide +kernel
theorem d_TM_works_269 : decode b_TM_works 269 = .ok (.getfield 169, 3) := by decide +kernel
theorem d_TM_works_272 : decode b_TM_works 272 = .ok (.aload_n 0, 1) := by decide +kernel
theorem d_TM_works_273 : decode b_TM_works 273 = .ok (.getfield 50, 3) := by decide +kernel
theorem d_TM_works_276 : decode b_TM_works 276 = .ok (.iload_n 2, 1) := by decide +kernel
theorem d_TM_works_277 : decode b_TM_works 277 = .ok (.aaload, 1) := by decide +kernel
theorem d_TM_works_278 : decode b_TM_works 278 = .ok (.getfield 158, 3) := by decide +kernel
theorem d_TM_works_281 : decode b_TM_works 281 = .ok (.aload_n 0, 1) := by decide +kernel
theorem d_TM_works_282 : decode b_TM_works 282 = .ok (.getfield 50, 3) := by decide +kernel
theorem d_TM_works_285 : decode b_TM_works 285 = .ok (.aload_n 1, 1) := by decide +kernel
theorem d_TM_works_286 : decode b_TM_works 286 = .ok (.getfield 173, 3) := by decide +kernel
theorem d_TM_works_289 : decode b_TM_works 289 = .ok (.iconst 2, 1) := by decide +kernel
theorem d_TM_works_290 : decode b_TM_works 290 = .ok (.iaload, 1) := by decide +kernel
theorem d_TM_works_291 : decode b_TM_works 291 = .ok (.aaload, 1) := by decide +kernel
theorem d_TM_works_292 : decode b_TM_works 292 = .ok (.getfield 158, 3) := by decide +kernel
theorem d_TM_works_295 : decode b_TM_works 295 = .ok (.invokestatic 252, 3) := by decide +kernel
theorem d_TM_works_298 : decode b_TM_works 298 = .ok (.ifCond .eq 7, 3) := by decide +kernel
theorem d_TM_works_301 : decode b_TM_works 301 = .ok (.iconst 1, 1) := by decide +kernel
theorem d_TM_works_302 : decode b_TM_works 302 = .ok (.goto 4, 3) := by decide +kernel
theorem d_TM_works_305 : decode b_TM_works 305 = .ok (.iconst 0, 1) := by decide +kernel
theorem d_TM_works_306 : decode b_TM_works 306 = .ok (.ireturn, 1) := by decide +kernel
noncomputable def f_TM_works (i1 : Nat) (σ : Sg) : Option (Int32 × Sg) :=
  chk (vp_in 0 3) (lt_ (gi σ 16 i1 ((0 : Int32).toNatClampNeg) : Int32) (fun (x2 : Int32) => chk (vp_in 1 3) (lt_ (gi σ 16 i1 ((1 : Int32).toNatClampNeg) : Int32) (fun (x4 : Int32) => (gr σ 6 i1 0).bind (fun o5 => chk (o5 < 22) ((if nI o5 = 0 then (lt_ (si σ 0 0 14 0) (fun σ8 => some (0, σ8))) else (if nI o5 = 1 then (chk (vp_in x2 3) (chk (vp_in x4 3) (chk (x4.toNatClampNeg < nt σ) (lt_ (sr σ 7 x2.toNatClampNeg 0 (some x4.toNatClampNeg)) (fun σ13 => chk (vp_in x2 3) ((f_Cu_clear x2.toNatClampNeg σ13).bind (fun σ15 => some (0, σ15)))))))) else (if nI o5 = 6 then (chk (vp_in x4 16) ((f_Vl_to (8 + x4.toNatClampNeg) x2.toInt64 σ).bind (fun σ18 => some (0, σ18)))) else (if nI o5 = 7 then (chk (vp_in x2 16) ((f_Vl_none (8 + x2.toNatClampNeg) σ).bind (fun σ21 => some (0, σ21)))) else (if nI o5 = 15 then (chk (vp_in x2 16) (lt_ ((if (gi σ 5 (8 + x2.toNatClampNeg) 0) = 0 then 1 else 0) : Int32) (fun (x24 : Int32) => chk (zb x24) (some (x24, σ))))) else (if nI o5 = 16 then (chk (vp_in x2 16) (chk (zb (gi σ 5 (8 + x2.toNatClampNeg) 0)) (some (gi σ 5 (8 + x2.toNatClampNeg) 0, σ)))) else (if nI o5 = 17 then (chk (vp_in x2 16) (chk (vp_in x4 16) (chk (vp_in 2 3) (chk (vp_in (gi σ 16 i1 ((2 : Int32).toNatClampNeg)) 16) ((f_TM_sum (8 + x2.toNatClampNeg) (8 + x4.toNatClampNeg) (8 + (gi σ 16 i1 ((2 : Int32).toNatClampNeg)).toNatClampNeg) σ).bind (fun σ35 => some (0, σ35))))))) else (if nI o5 = 18 then ((f_TM_tell x2 x4 σ).bind (fun σ37 => some (0, σ37))) else (if nI o5 = 19 then (some (1, σ)) else (chk (vp_in x2 16) (bn2 (if (gi σ 5 (8 + x2.toNatClampNeg) 0) = 0 then (some (0, σ)) else (chk (vp_in 2 3) (chk (vp_in (gi σ 16 i1 ((2 : Int32).toNatClampNeg)) 16) ((if (gi σ 5 (8 + (gi σ 16 i1 ((2 : Int32).toNatClampNeg)).toNatClampNeg) 0) = 0 then (some (0, σ)) else ((gr σ 6 i1 0).bind (fun o46 => chk (o46 < 22) (chk (vp_in x2 16) (chk (vp_in 2 3) (chk (vp_in (gi σ 16 i1 ((2 : Int32).toNatClampNeg)) 16) (bn2 (f_TM_compares o46 (gj σ 5 (8 + x2.toNatClampNeg) 1) (gj σ 5 (8 + (gi σ 16 i1 ((2 : Int32).toNatClampNeg)).toNatClampNeg) 1) σ) (fun r53 σ51 => (if r53 = 0 then (some (0, σ51)) else (some (1, σ51))))))))))))))) (fun (x40 : Int32) (σ41 : Sg) => chk (zb x40) (some (x40, σ41))))))))))))))))))))
abbrev rm_TM_works : Room := { frames := 2, cells := 0, slots := 0, locals := 44 }
set_option maxHeartbeats 4000000 in
set_option maxRecDepth 100000 in
theorem c_TM_works (l : Launch) (X : GX) (n : Nat) {σ σ' : Sg} {r : Int32} {i1 : Nat} (h_i1 : i1 < cnt n 6) (hf : f_TM_works i1 σ = some (r, σ')) : Met l y_TM_works (cw y_TM_works b_TM_works 4 (some .boolean)) rm_TM_works (PcG X n σ [.ref (xL X 0 0), .ref (xL X 6 i1)]) (QcG X n σ' (some (.int r))) 0 0 (fr X n) := by
  refine g_head (own := "TableMachine") (by decide) rfl (Nat.le_of_ble_eq_true rfl) ?_
  intro p e s m args below meth c ls F hr hlk hP hl
  have hl : lv_has ls 4 [(0, .ref (xL X 0 0)), (1, .ref (xL X 6 i1))] := hl
  show WG l X n rm_TM_works σ' (some (.int r)) p e s m args below meth c s.heap [] (F0 m 0 ls [])
  unfold f_TM_works at hf
  refine lv_aload_n F.1 F.2.1 d_TM_works_0 rfl (lv_at hl 1 rfl) ?_
  refine g_getN F hP 6 1 i1 (by decide) h_i1 (by decide) (v := .ref (xL X 16 i1)) rfl w_127 d_TM_works_1 ?_
  refine lv_iconst (v := 0) F.1 F.2.1 d_TM_works_4 (by decide) ?_
  obtain ⟨hc1, hf⟩ := chk_some hf
  refine g_ald F hP 16 (by decide) (by decide) h_i1 rfl rfl hc1 d_TM_works_5 ?_
  obtain ⟨x2, e_x2, hf⟩ := lt_some hf
  rw [← e_x2]
  refine lv_istore_n F.1 F.2.1 d_TM_works_6 rfl hl (by decide) rfl (fun ls hl => ?_)
  have hl : lv_has ls 4 [(2, .int x2), (0, .ref (xL X 0 0)), (1, .ref (xL X 6 i1))] := hl
  refine lv_aload_n F.1 F.2.1 d_TM_works_7 rfl (lv_at hl 2 rfl) ?_
  refine g_getN F hP 6 1 i1 (by decide) h_i1 (by decide) (v := .ref (xL X 16 i1)) rfl w_127 d_TM_works_8 ?_
  refine lv_iconst (v := 1) F.1 F.2.1 d_TM_works_11 (by decide) ?_
  obtain ⟨hc3, hf⟩ := chk_some hf
  refine g_ald F hP 16 (by decide) (by decide) h_i1 rfl rfl hc3 d_TM_works_12 ?_
  obtain ⟨x4, e_x4, hf⟩ := lt_some hf
  rw [← e_x4]
  refine lv_istore_n F.1 F.2.1 d_TM_works_13 rfl hl (by decide) rfl (fun ls hl => ?_)
  have hl : lv_has ls 4 [(3, .int x4), (2, .int x2), (0, .ref (xL X 0 0)), (1, .ref (xL X 6 i1))] := hl
  refine lv_aload_n F.1 F.2.1 d_TM_works_14 rfl (lv_at hl 3 rfl) ?_
  obtain ⟨o5, e_o5, hf⟩ := bnd_some hf
  obtain ⟨hc6, hf⟩ := chk_some hf
  refine g_getN F hP 6 0 i1 (by decide) h_i1 (by decide) (v := .ref (xad X o5)) (fv_op e_o5) w_125 d_TM_works_15 ?_
  refine g_ord (rest := []) F hP hc6 w_723 ⟨by decide, by decide⟩ hl.1 (Nat.le_of_ble_eq_true rfl) ⟨Nat.zero_le _, Nat.zero_le _⟩ d_TM_works_18 (fun H locs hP => ?_)
  by_cases hs7_0 : nI o5 = 0
  · rw [if_pos hs7_0] at hf
    refine lv_tableIn F.1 F.2.1 d_TM_works_21 (by rw [hs7_0]; decide) (by rw [hs7_0]; decide) (off := 95) (by rw [hs7_0]; decide) rfl ?_
    refine lv_aload_n F.1 F.2.1 d_TM_works_116 rfl (lv_at hl 2 rfl) ?_
    refine lv_iconst (v := 0) F.1 F.2.1 d_TM_works_117 (by decide) ?_
    obtain ⟨σ8, e_σ8, hf⟩ := lt_some hf
    refine g_puti F hP 0 14 0 (by decide) Nat.zero_lt_one (by decide) rfl rfl rfl rfl (Or.inl w_184) d_TM_works_118 e_σ8 (fun H locs hP => ?_)
    refine lv_iconst (v := 0) F.1 F.2.1 d_TM_works_121 (by decide) ?_
    cases hf
    exact g_zret F hP hr hlk zb0 d_TM_works_122
  rw [if_neg hs7_0] at hf
  by_cases hs7_1 : nI o5 = 1
  · rw [if_pos hs7_1] at hf
    refine lv_tableIn F.1 F.2.1 d_TM_works_21 (by rw [hs7_1]; decide) (by rw [hs7_1]; decide) (off := 102) (by rw [hs7_1]; decide) rfl ?_
    refine lv_aload_n F.1 F.2.1 d_TM_works_123 rfl (lv_at hl 2 rfl) ?_
    refine g_get F hP 0 10 0 (by decide) Nat.zero_lt_one (by decide) (v := .ref (xL X 21 0)) rfl w_180 d_TM_works_124 ?_
    refine lv_iload_n F.1 F.2.1 d_TM_works_127 rfl (lv_at hl 1 rfl) ?_
    obtain ⟨hc9, hf⟩ := chk_some hf
    refine g_rld F hP 21 (by decide) (by decide) Nat.zero_lt_one rfl hc9 (v := .ref (xL X 7 x2.toNatClampNeg)) rfl d_TM_works_128 ?_
    refine lv_aload_n F.1 F.2.1 d_TM_works_129 rfl (lv_at hl 2 rfl) ?_
    refine g_get F hP 0 1 0 (by decide) Nat.zero_lt_one (by decide) (v := .ref (xL X 17 0)) rfl w_171 d_TM_works_130 ?_
    refine lv_iload_n F.1 F.2.1 d_TM_works_133 rfl (lv_at hl 0 rfl) ?_
    obtain ⟨hc10, hf⟩ := chk_some hf
    obtain ⟨hc11, hf⟩ := chk_some hf
    have hv12 : x4.toNatClampNeg < cnt n 3 := hP.lt hc11
    refine g_rld F hP 17 (by decide) (by decide) Nat.zero_lt_one rfl hc10 (v := .ref (xL X 3 x4.toNatClampNeg)) (av_tab hc11) d_TM_works_134 ?_
    obtain ⟨σ13, e_σ13, hf⟩ := lt_some hf
    refine g_putT F hP x2.toNatClampNeg (vin_lt hc9) (x := (some x4.toNatClampNeg)) rfl (Or.inr w_140) d_TM_works_135 e_σ13 (fun H locs hP => ?_)
    refine lv_aload_n F.1 F.2.1 d_TM_works_138 rfl (lv_at hl 2 rfl) ?_
    refine g_get F hP 0 10 0 (by decide) Nat.zero_lt_one (by decide) (v := .ref (xL X 21 0)) rfl w_180 d_TM_works_139 ?_
    refine lv_iload_n F.1 F.2.1 d_TM_works_142 rfl (lv_at hl 1 rfl) ?_
    obtain ⟨hc14, hf⟩ := chk_some hf
    refine g_rld F hP 21 (by decide) (by decide) Nat.zero_lt_one rfl hc14 (v := .ref (xL X 7 x2.toNatClampNeg)) rfl d_TM_works_143 ?_
    obtain ⟨σ15, hk16, hf⟩ := bnd_some hf
    refine g_callV (As := []) (rest := []) F hP 7 x2.toNatClampNeg (by decide) (vin_lt hc14) (c_Cu_clear l X n (vin_lt hc14) hk16) rfl q_Cu_clear w_750 w_9 w_747 w_748 w_749 ⟨rfl, rfl⟩ ⟨by decide, by decide⟩ hl.1 (Nat.le_of_ble_eq_true rfl) ⟨Nat.zero_le _, Nat.zero_le _⟩ d_TM_works_144 rfl (fun H locs hP => ?_)
    refine W.eq (g2 := F0 m 147 ls []) rfl ?_
    refine lv_iconst (v := 0) F.1 F.2.1 d_TM_works_147 (by decide) ?_
    cases hf
    exact g_zret F hP hr hlk zb0 d_TM_works_148
  rw [if_neg hs7_1] at hf
  by_cases hs7_6 : nI o5 = 6
  · rw [if_pos hs7_6] at hf
    refine lv_tableIn F.1 F.2.1 d_TM_works_21 (by rw [hs7_6]; decide) (by rw [hs7_6]; decide) (off := 128) (by rw [hs7_6]; decide) rfl ?_
    refine lv_aload_n F.1 F.2.1 d_TM_works_149 rfl (lv_at hl 2 rfl) ?_
    refine g_get F hP 0 9 0 (by decide) Nat.zero_lt_one (by decide) (v := .ref (xL X 20 0)) rfl w_179 d_TM_works_150 ?_
    refine lv_iload_n F.1 F.2.1 d_TM_works_153 rfl (lv_at hl 0 rfl) ?_
    obtain ⟨hc17, hf⟩ := chk_some hf
    refine g_rld F hP 20 (by decide) (by decide) Nat.zero_lt_one rfl hc17 (v := .ref (xL X 5 (8 + x4.toNatClampNeg))) rfl d_TM_works_154 ?_
    refine lv_iload_n F.1 F.2.1 d_TM_works_155 rfl (lv_at hl 1 rfl) ?_
    refine lv_i2l F.1 F.2.1 d_TM_works_156 rfl ?_
    obtain ⟨σ18, hk19, hf⟩ := bnd_some hf
    refine g_callV (As := [.long x2.toInt64]) (rest := []) F hP 5 (8 + x4.toNatClampNeg) (by decide) (ve20 hc17) (c_Vl_to l X n (ve20 hc17) hk19) rfl q_Vl_to w_250 w_5 w_247 w_248 w_249 ⟨rfl, rfl⟩ ⟨by decide, by decide⟩ hl.1 (Nat.le_of_ble_eq_true rfl) ⟨Nat.zero_le _, Nat.zero_le _⟩ d_TM_works_157 rfl (fun H locs hP => ?_)
    refine W.eq (g2 := F0 m 160 ls []) rfl ?_
    refine lv_iconst (v := 0) F.1 F.2.1 d_TM_works_160 (by decide) ?_
    cases hf
    exact g_zret F hP hr hlk zb0 d_TM_works_161
  rw [if_neg hs7_6] at hf
  by_cases hs7_7 : nI o5 = 7
  · rw [if_pos hs7_7] at hf
    refine lv_tableIn F.1 F.2.1 d_TM_works_21 (by rw [hs7_7]; decide) (by rw [hs7_7]; decide) (off := 141) (by rw [hs7_7]; decide) rfl ?_
    refine lv_aload_n F.1 F.2.1 d_TM_works_162 rfl (lv_at hl 2 rfl) ?_
    refine g_get F hP 0 9 0 (by decide) Nat.zero_lt_one (by decide) (v := .ref (xL X 20 0)) rfl w_179 d_TM_works_163 ?_
    refine lv_iload_n F.1 F.2.1 d_TM_works_166 rfl (lv_at hl 1 rfl) ?_
    obtain ⟨hc20, hf⟩ := chk_some hf
    refine g_rld F hP 20 (by decide) (by decide) Nat.zero_lt_one rfl hc20 (v := .ref (xL X 5 (8 + x2.toNatClampNeg))) rfl d_TM_works_167 ?_
    obtain ⟨σ21, hk22, hf⟩ := bnd_some hf
    refine g_callV (As := []) (rest := []) F hP 5 (8 + x2.toNatClampNeg) (by decide) (ve20 hc20) (c_Vl_none l X n (ve20 hc20) hk22) rfl q_Vl_none w_254 w_5 w_251 w_252 w_253 ⟨rfl, rfl⟩ ⟨by decide, by decide⟩ hl.1 (Nat.le_of_ble_eq_true rfl) ⟨Nat.zero_le _, Nat.zero_le _⟩ d_TM_works_168 rfl (fun H locs hP => ?_)
    refine W.eq (g2 := F0 m 171 ls []) rfl ?_
    refine lv_iconst (v := 0) F.1 F.2.1 d_TM_works_171 (by decide) ?_
    cases hf
    exact g_zret F hP hr hlk zb0 d_TM_works_172
  rw [if_neg hs7_7] at hf
  by_cases hs7_15 : nI o5 = 15
  · rw [if_pos hs7_15] at hf
    refine lv_tableIn F.1 F.2.1 d_TM_works_21 (by rw [hs7_15]; decide) (by rw [hs7_15]; decide) (off := 152) (by rw [hs7_15]; decide) rfl ?_
    refine lv_aload_n F.1 F.2.1 d_TM_works_173 rfl (lv_at hl 2 rfl) ?_
    refine g_get F hP 0 9 0 (by decide) Nat.zero_lt_one (by decide) (v := .ref (xL X 20 0)) rfl w_179 d_TM_works_174 ?_
    refine lv_iload_n F.1 F.2.1 d_TM_works_177 rfl (lv_at hl 1 rfl) ?_
    obtain ⟨hc23, hf⟩ := chk_some hf
    refine g_rld F hP 20 (by decide) (by decide) Nat.zero_lt_one rfl hc23 (v := .ref (xL X 5 (8 + x2.toNatClampNeg))) rfl d_TM_works_178 ?_
    refine g_getN F hP 5 0 (8 + x2.toNatClampNeg) (by decide) (ve20 hc23) (by decide) (v := .int (gi σ 5 (8 + x2.toNatClampNeg) 0)) rfl w_85 d_TM_works_179 ?_
    obtain ⟨x24, hj26, hf⟩ := lt_some2 hf
    have KJ25 : ∀ (ls : Array Slot) (H : Heap) (locs : List Loc), lv_has ls 4 [] → St X n σ s.heap H locs → WG l X n rm_TM_works σ' (some (.int r)) p e s m args below meth c H locs (F0 m 190 ls [.int x24]) := by
      intro ls H locs hl hP
      obtain ⟨hz28, hf⟩ := chk_some hf
      cases hf
      exact g_zret F hP hr hlk hz28 d_TM_works_190
    refine lv_if_ne F.1 F.2.1 d_TM_works_182 rfl (fun hb27 => ?_) (fun hb27 => ?_)
    · rw [if_neg hb27] at hj26
      refine lv_iconst (v := 0) F.1 F.2.1 d_TM_works_189 (by decide) ?_
      subst hj26
      exact KJ25 _ _ _ (lv_sub hl [] rfl) hP
    · rw [if_pos hb27] at hj26
      refine lv_iconst (v := 1) F.1 F.2.1 d_TM_works_185 (by decide) ?_
      refine lv_goto F.1 F.2.1 d_TM_works_186 rfl ?_
      subst hj26
      exact KJ25 _ _ _ (lv_sub hl [] rfl) hP
  rw [if_neg hs7_15] at hf
  by_cases hs7_16 : nI o5 = 16
  · rw [if_pos hs7_16] at hf
    refine lv_tableIn F.1 F.2.1 d_TM_works_21 (by rw [hs7_16]; decide) (by rw [hs7_16]; decide) (off := 170) (by rw [hs7_16]; decide) rfl ?_
    refine lv_aload_n F.1 F.2.1 d_TM_works_191 rfl (lv_at hl 2 rfl) ?_
    refine g_get F hP 0 9 0 (by decide) Nat.zero_lt_one (by decide) (v := .ref (xL X 20 0)) rfl w_179 d_TM_works_192 ?_
    refine lv_iload_n F.1 F.2.1 d_TM_works_195 rfl (lv_at hl 1 rfl) ?_
    obtain ⟨hc29, hf⟩ := chk_some hf
    refine g_rld F hP 20 (by decide) (by decide) Nat.zero_lt_one rfl hc29 (v := .ref (xL X 5 (8 + x2.toNatClampNeg))) rfl d_TM_works_196 ?_
    refine g_getN F hP 5 0 (8 + x2.toNatClampNeg) (by decide) (ve20 hc29) (by decide) (v := .int (gi σ 5 (8 + x2.toNatClampNeg) 0)) rfl w_85 d_TM_works_197 ?_
    obtain ⟨hz30, hf⟩ := chk_some hf
    cases hf
    exact g_zret F hP hr hlk hz30 d_TM_works_200
  rw [if_neg hs7_16] at hf
  by_cases hs7_17 : nI o5 = 17
  · rw [if_pos hs7_17] at hf
    refine lv_tableIn F.1 F.2.1 d_TM_works_21 (by rw [hs7_17]; decide) (by rw [hs7_17]; decide) (off := 180) (by rw [hs7_17]; decide) rfl ?_
    refine lv_aload_n F.1 F.2.1 d_TM_works_201 rfl (lv_at hl 2 rfl) ?_
    refine g_get F hP 0 9 0 (by decide) Nat.zero_lt_one (by decide) (v := .ref (xL X 20 0)) rfl w_179 d_TM_works_202 ?_
    refine lv_iload_n F.1 F.2.1 d_TM_works_205 rfl (lv_at hl 1 rfl) ?_
    obtain ⟨hc31, hf⟩ := chk_some hf
    refine g_rld F hP 20 (by decide) (by decide) Nat.zero_lt_one rfl hc31 (v := .ref (xL X 5 (8 + x2.toNatClampNeg))) rfl d_TM_works_206 ?_
    refine lv_aload_n F.1 F.2.1 d_TM_works_207 rfl (lv_at hl 2 rfl) ?_
    refine g_get F hP 0 9 0 (by decide) Nat.zero_lt_one (by decide) (v := .ref (xL X 20 0)) rfl w_179 d_TM_works_208 ?_
    refine lv_iload_n F.1 F.2.1 d_TM_works_211 rfl (lv_at hl 0 rfl) ?_
    obtain ⟨hc32, hf⟩ := chk_some hf
    refine g_rld F hP 20 (by decide) (by decide) Nat.zero_lt_one rfl hc32 (v := .ref (xL X 5 (8 + x4.toNatClampNeg))) rfl d_TM_works_212 ?_
    refine lv_aload_n F.1 F.2.1 d_TM_works_213 rfl (lv_at hl 2 rfl) ?_
    refine g_get F hP 0 9 0 (by decide) Nat.zero_lt_one (by decide) (v := .ref (xL X 20 0)) rfl w_179 d_TM_works_214 ?_
    refine lv_aload_n F.1 F.2.1 d_TM_works_217 rfl (lv_at hl 3 rfl) ?_
    refine g_getN F hP 6 1 i1 (by decide) h_i1 (by decide) (v := .ref (xL X 16 i1)) rfl w_127 d_TM_works_218 ?_
    refine lv_iconst (v := 2) F.1 F.2.1 d_TM_works_221 (by decide) ?_
    obtain ⟨hc33, hf⟩ := chk_some hf
    refine g_ald F hP 16 (by decide) (by decide) h_i1 rfl rfl hc33 d_TM_works_222 ?_
    obtain ⟨hc34, hf⟩ := chk_some hf
    refine g_rld F hP 20 (by decide) (by decide) Nat.zero_lt_one rfl hc34 (v := .ref (xL X 5 (8 + (gi σ 16 i1 ((2 : Int32).toNatClampNeg)).toNatClampNeg))) rfl d_TM_works_223 ?_
    obtain ⟨σ35, hk36, hf⟩ := bnd_some hf
    refine g_callS (As := [.ref (xL X 5 (8 + x2.toNatClampNeg)), .ref (xL X 5 (8 + x4.toNatClampNeg)), .ref (xL X 5 (8 + (gi σ 16 i1 ((2 : Int32).toNatClampNeg)).toNatClampNeg))]) (rest := []) F hP (c_TM_sum l X n (ve20 hc31) (ve20 hc32) (ve20 hc34) hk36) ⟨by decide, by decide, q_TM_sum⟩ w_796 w_1 w_794 w_795 ⟨rfl, rfl⟩ ⟨by decide, by decide⟩ hl.1 (Nat.le_of_ble_eq_true rfl) ⟨Nat.zero_le _, Nat.zero_le _⟩ d_TM_works_224 rfl (fun H locs hP => ?_)
    refine W.eq (g2 := F0 m 227 ls []) rfl ?_
    refine lv_iconst (v := 0) F.1 F.2.1 d_TM_works_227 (by decide) ?_
    cases hf
    exact g_zret F hP hr hlk zb0 d_TM_works_228
  rw [if_neg hs7_17] at hf
  by_cases hs7_18 : nI o5 = 18
  · rw [if_pos hs7_18] at hf
    refine lv_tableIn F.1 F.2.1 d_TM_works_21 (by rw [hs7_18]; decide) (by rw [hs7_18]; decide) (off := 208) (by rw [hs7_18]; decide) rfl ?_
    refine lv_aload_n F.1 F.2.1 d_TM_works_229 rfl (lv_at hl 2 rfl) ?_
    refine lv_iload_n F.1 F.2.1 d_TM_works_230 rfl (lv_at hl 1 rfl) ?_
    refine lv_iload_n F.1 F.2.1 d_TM_works_231 rfl (lv_at hl 0 rfl) ?_
    obtain ⟨σ37, hk38, hf⟩ := bnd_some hf
    refine g_callV (As := [.int x2, .int x4]) (rest := []) F hP 0 0 (by decide) Nat.zero_lt_one (c_TM_tell l X n  hk38) rfl q_TM_tell w_800 w_1 w_797 w_799 wp_28 ⟨rfl, rfl⟩ ⟨by decide, by decide⟩ hl.1 (Nat.le_of_ble_eq_true rfl) ⟨Nat.zero_le _, Nat.zero_le _⟩ d_TM_works_232 rfl (fun H locs hP => ?_)
    refine W.eq (g2 := F0 m 235 ls []) rfl ?_
    refine lv_iconst (v := 0) F.1 F.2.1 d_TM_works_235 (by decide) ?_
    cases hf
    exact g_zret F hP hr hlk zb0 d_TM_works_236
  rw [if_neg hs7_18] at hf
  by_cases hs7_19 : nI o5 = 19
  · rw [if_pos hs7_19] at hf
    refine lv_tableIn F.1 F.2.1 d_TM_works_21 (by rw [hs7_19]; decide) (by rw [hs7_19]; decide) (off := 216) (by rw [hs7_19]; decide) rfl ?_
    refine lv_iconst (v := 1) F.1 F.2.1 d_TM_works_237 (by decide) ?_
    cases hf
    exact g_zret F hP hr hlk zb1 d_TM_works_238
  rw [if_neg hs7_19] at hf
  have KD58 : ∀ (ls : Array Slot) (H : Heap) (locs : List Loc), lv_has ls 4 [(3, .int x4), (2, .int x2), (0, .ref (xL X 0 0)), (1, .ref (xL X 6 i1))] → St X n σ s.heap H locs → WG l X n rm_TM_works σ' (some (.int r)) p e s m args below meth c H locs (F0 m 239 ls []) := by
    intro ls H locs hl hP
    refine lv_aload_n F.1 F.2.1 d_TM_works_239 rfl (lv_at hl 2 rfl) ?_
    refine g_get F hP 0 9 0 (by decide) Nat.zero_lt_one (by decide) (v := .ref (xL X 20 0)) rfl w_179 d_TM_works_240 ?_
    refine lv_iload_n F.1 F.2.1 d_TM_works_243 rfl (lv_at hl 1 rfl) ?_
    obtain ⟨hc39, hf⟩ := chk_some hf
    refine g_rld F hP 20 (by decide) (by decide) Nat.zero_lt_one rfl hc39 (v := .ref (xL X 5 (8 + x2.toNatClampNeg))) rfl d_TM_works_244 ?_
    refine g_getN F hP 5 0 (8 + x2.toNatClampNeg) (by decide) (ve20 hc39) (by decide) (v := .int (gi σ 5 (8 + x2.toNatClampNeg) 0)) rfl w_85 d_TM_works_245 ?_
    obtain ⟨x40, σ41, hj43, hf⟩ := bn2_some hf
    have KJ42 : ∀ (ls : Array Slot) (H : Heap) (locs : List Loc), lv_has ls 4 [] → St X n σ41 s.heap H locs → WG l X n rm_TM_works σ' (some (.int r)) p e s m args below meth c H locs (F0 m 306 ls [.int x40]) := by
      intro ls H locs hl hP
      obtain ⟨hz57, hf⟩ := chk_some hf
      cases hf
      exact g_zret F hP hr hlk hz57 d_TM_works_306
    refine lv_if_eq F.1 F.2.1 d_TM_works_248 rfl (fun hb56 => ?_) (fun hb56 => ?_)
    · rw [if_pos hb56] at hj43
      refine lv_iconst (v := 0) F.1 F.2.1 d_TM_works_305 (by decide) ?_
      cases hj43
      exact KJ42 _ _ _ (lv_sub hl [] rfl) hP
    · rw [if_neg hb56] at hj43
      refine lv_aload_n F.1 F.2.1 d_TM_works_251 rfl (lv_at hl 2 rfl) ?_
      refine g_get F hP 0 9 0 (by decide) Nat.zero_lt_one (by decide) (v := .ref (xL X 20 0)) rfl w_179 d_TM_works_252 ?_
      refine lv_aload_n F.1 F.2.1 d_TM_works_255 rfl (lv_at hl 3 rfl) ?_
      refine g_getN F hP 6 1 i1 (by decide) h_i1 (by decide) (v := .ref (xL X 16 i1)) rfl w_127 d_TM_works_256 ?_
      refine lv_iconst (v := 2) F.1 F.2.1 d_TM_works_259 (by decide) ?_
      obtain ⟨hc44, hj43⟩ := chk_some hj43
      refine g_ald F hP 16 (by decide) (by decide) h_i1 rfl rfl hc44 d_TM_works_260 ?_
      obtain ⟨hc45, hj43⟩ := chk_some hj43
      refine g_rld F hP 20 (by decide) (by decide) Nat.zero_lt_one rfl hc45 (v := .ref (xL X 5 (8 + (gi σ 16 i1 ((2 : Int32).toNatClampNeg)).toNatClampNeg))) rfl d_TM_works_261 ?_
      refine g_getN F hP 5 0 (8 + (gi σ 16 i1 ((2 : Int32).toNatClampNeg)).toNatClampNeg) (by decide) (ve20 hc45) (by decide) (v := .int (gi σ 5 (8 + (gi σ 16 i1 ((2 : Int32).toNatClampNeg)).toNatClampNeg) 0)) rfl w_85 d_TM_works_262 ?_
      refine lv_if_eq F.1 F.2.1 d_TM_works_265 rfl (fun hb55 => ?_) (fun hb55 => ?_)
      · rw [if_pos hb55] at hj43
        refine lv_iconst (v := 0) F.1 F.2.1 d_TM_works_305 (by decide) ?_
        cases hj43
        exact KJ42 _ _ _ (lv_sub hl [] rfl) hP
      · rw [if_neg hb55] at hj43
        refine lv_aload_n F.1 F.2.1 d_TM_works_268 rfl (lv_at hl 3 rfl) ?_
        obtain ⟨o46, e_o46, hj43⟩ := bnd_some hj43
        obtain ⟨hc47, hj43⟩ := chk_some hj43
        refine g_getN F hP 6 0 i1 (by decide) h_i1 (by decide) (v := .ref (xad X o46)) (fv_op e_o46) w_125 d_TM_works_269 ?_
        refine lv_aload_n F.1 F.2.1 d_TM_works_272 rfl (lv_at hl 2 rfl) ?_
        refine g_get F hP 0 9 0 (by decide) Nat.zero_lt_one (by decide) (v := .ref (xL X 20 0)) rfl w_179 d_TM_works_273 ?_
        refine lv_iload_n F.1 F.2.1 d_TM_works_276 rfl (lv_at hl 1 rfl) ?_
        obtain ⟨hc48, hj43⟩ := chk_some hj43
        refine g_rld F hP 20 (by decide) (by decide) Nat.zero_lt_one rfl hc48 (v := .ref (xL X 5 (8 + x2.toNatClampNeg))) rfl d_TM_works_277 ?_
        refine g_getN F hP 5 1 (8 + x2.toNatClampNeg) (by decide) (ve20 hc48) (by decide) (v := .long (gj σ 5 (8 + x2.toNatClampNeg) 1)) rfl w_88 d_TM_works_278 ?_
        refine lv_aload_n F.1 F.2.1 d_TM_works_281 rfl (lv_at hl 2 rfl) ?_
        refine g_get F hP 0 9 0 (by decide) Nat.zero_lt_one (by decide) (v := .ref (xL X 20 0)) rfl w_179 d_TM_works_282 ?_
        refine lv_aload_n F.1 F.2.1 d_TM_works_285 rfl (lv_at hl 3 rfl) ?_
        refine g_getN F hP 6 1 i1 (by decide) h_i1 (by decide) (v := .ref (xL X 16 i1)) rfl w_127 d_TM_works_286 ?_
        refine lv_iconst (v := 2) F.1 F.2.1 d_TM_works_289 (by decide) ?_
        obtain ⟨hc49, hj43⟩ := chk_some hj43
        refine g_ald F hP 16 (by decide) (by decide) h_i1 rfl rfl hc49 d_TM_works_290 ?_
        obtain ⟨hc50, hj43⟩ := chk_some hj43
        refine g_rld F hP 20 (by decide) (by decide) Nat.zero_lt_one rfl hc50 (v := .ref (xL X 5 (8 + (gi σ 16 i1 ((2 : Int32).toNatClampNeg)).toNatClampNeg))) rfl d_TM_works_291 ?_
        refine g_getN F hP 5 1 (8 + (gi σ 16 i1 ((2 : Int32).toNatClampNeg)).toNatClampNeg) (by decide) (ve20 hc50) (by decide) (v := .long (gj σ 5 (8 + (gi σ 16 i1 ((2 : Int32).toNatClampNeg)).toNatClampNeg) 1)) rfl w_88 d_TM_works_292 ?_
        obtain ⟨r53, σ51, hk52, hj43⟩ := bn2_some hj43
        refine g_callS (As := [.ref (xad X o46), .long (gj σ 5 (8 + x2.toNatClampNeg) 1), .long (gj σ 5 (8 + (gi σ 16 i1 ((2 : Int32).toNatClampNeg)).toNatClampNeg) 1)]) (rest := []) F hP (c_TM_compares l X n hc47 hk52) ⟨by decide, by decide, q_TM_compares⟩ w_803 w_1 w_801 w_802 ⟨rfl, rfl⟩ ⟨by decide, by decide⟩ hl.1 (Nat.le_of_ble_eq_true rfl) ⟨Nat.zero_le _, Nat.zero_le _⟩ d_TM_works_295 rfl (fun H locs hP => ?_)
        refine W.eq (g2 := F0 m 298 ls [.int r53]) rfl ?_
        refine lv_if_eq F.1 F.2.1 d_TM_works_298 rfl (fun hb54 => ?_) (fun hb54 => ?_)
        · rw [if_pos hb54] at hj43
          refine lv_iconst (v := 0) F.1 F.2.1 d_TM_works_305 (by decide) ?_
          cases hj43
          exact KJ42 _ _ _ (lv_sub hl [] rfl) hP
        · rw [if_neg hb54] at hj43
          refine lv_iconst (v := 1) F.1 F.2.1 d_TM_works_301 (by decide) ?_
          refine lv_goto F.1 F.2.1 d_TM_works_302 rfl ?_
          cases hj43
          exact KJ42 _ _ _ (lv_sub hl [] rfl) hP
  by_cases hs7_g2 : nI o5 = 2
  · exact lv_tableIn F.1 F.2.1 d_TM_works_21 (by rw [hs7_g2]; decide) (by rw [hs7_g2]; decide) (off := 218) (by rw [hs7_g2]; decide) rfl (KD58 _ _ _ hl hP)
  by_cases hs7_g3 : nI o5 = 3
  · exact lv_tableIn F.1 F.2.1 d_TM_works_21 (by rw [hs7_g3]; decide) (by rw [hs7_g3]; decide) (off := 218) (by rw [hs7_g3]; decide) rfl (KD58 _ _ _ hl hP)
  by_cases hs7_g4 : nI o5 = 4
  · exact lv_tableIn F.1 F.2.1 d_TM_works_21 (by rw [hs7_g4]; decide) (by rw [hs7_g4]; decide) (off := 218) (by rw [hs7_g4]; decide) rfl (KD58 _ _ _ hl hP)
  by_cases hs7_g5 : nI o5 = 5
  · exact lv_tableIn F.1 F.2.1 d_TM_works_21 (by rw [hs7_g5]; decide) (by rw [hs7_g5]; decide) (off := 218) (by rw [hs7_g5]; decide) rfl (KD58 _ _ _ hl hP)
  by_cases hs7_g8 : nI o5 = 8
  · exact lv_tableIn F.1 F.2.1 d_TM_works_21 (by rw [hs7_g8]; decide) (by rw [hs7_g8]; decide) (off := 218) (by rw [hs7_g8]; decide) rfl (KD58 _ _ _ hl hP)
  by_cases hs7_g9 : nI o5 = 9
  · exact lv_tableIn F.1 F.2.1 d_TM_works_21 (by rw [hs7_g9]; decide) (by rw [hs7_g9]; decide) (off := 218) (by rw [hs7_g9]; decide) rfl (KD58 _ _ _ hl hP)
  by_cases hs7_g10 : nI o5 = 10
  · exact lv_tableIn F.1 F.2.1 d_TM_works_21 (by rw [hs7_g10]; decide) (by rw [hs7_g10]; decide) (off := 218) (by rw [hs7_g10]; decide) rfl (KD58 _ _ _ hl hP)
  by_cases hs7_g11 : nI o5 = 11
  · exact lv_tableIn F.1 F.2.1 d_TM_works_21 (by rw [hs7_g11]; decide) (by rw [hs7_g11]; decide) (off := 218) (by rw [hs7_g11]; decide) rfl (KD58 _ _ _ hl hP)
  by_cases hs7_g12 : nI o5 = 12
  · exact lv_tableIn F.1 F.2.1 d_TM_works_21 (by rw [hs7_g12]; decide) (by rw [hs7_g12]; decide) (off := 218) (by rw [hs7_g12]; decide) rfl (KD58 _ _ _ hl hP)
  by_cases hs7_g13 : nI o5 = 13
  · exact lv_tableIn F.1 F.2.1 d_TM_works_21 (by rw [hs7_g13]; decide) (by rw [hs7_g13]; decide) (off := 218) (by rw [hs7_g13]; decide) rfl (KD58 _ _ _ hl hP)
  by_cases hs7_g14 : nI o5 = 14
  · exact lv_tableIn F.1 F.2.1 d_TM_works_21 (by rw [hs7_g14]; decide) (by rw [hs7_g14]; decide) (off := 218) (by rw [hs7_g14]; decide) rfl (KD58 _ _ _ hl hP)
  have z0 := lv_neT hs7_0 (k := 0) (a := 0) rfl
  have z1 := lv_neT hs7_1 (k := 1) (a := 1) rfl
  have z2 := lv_neT hs7_g2 (k := 2) (a := 2) rfl
  have z3 := lv_neT hs7_g3 (k := 3) (a := 3) rfl
  have z4 := lv_neT hs7_g4 (k := 4) (a := 4) rfl
  have z5 := lv_neT hs7_g5 (k := 5) (a := 5) rfl
  have z6 := lv_neT hs7_6 (k := 6) (a := 6) rfl
  have z7 := lv_neT hs7_7 (k := 7) (a := 7) rfl
  have z8 := lv_neT hs7_g8 (k := 8) (a := 8) rfl
  have z9 := lv_neT hs7_g9 (k := 9) (a := 9) rfl
  have z10 := lv_neT hs7_g10 (k := 10) (a := 10) rfl
  have z11 := lv_neT hs7_g11 (k := 11) (a := 11) rfl
  have z12 := lv_neT hs7_g12 (k := 12) (a := 12) rfl
  have z13 := lv_neT hs7_g13 (k := 13) (a := 13) rfl
  have z14 := lv_neT hs7_g14 (k := 14) (a := 14) rfl
  have z15 := lv_neT hs7_15 (k := 15) (a := 15) rfl
  have z16 := lv_neT hs7_16 (k := 16) (a := 16) rfl
  have z17 := lv_neT hs7_17 (k := 17) (a := 17) rfl
  have z18 := lv_neT hs7_18 (k := 18) (a := 18) rfl
  have z19 := lv_neT hs7_19 (k := 19) (a := 19) rfl
  exact lv_tableOut F.1 F.2.1 d_TM_works_21 (by omega) rfl (KD58 _ _ _ hl hP)

theorem d_TM_needsCursor_0 : decode b_TM_needsCursor 0 = .ok (.aload_n 0, 1) := by decide +kernel
theorem d_TM_needsCursor_1 : decode b_TM_needsCursor 1 = .ok (.getstatic 256, 3) := by decide +kernel
theorem d_TM_needsCursor_4 : decode b_TM_needsCursor 4 = .ok (.if_acmp .eq 20, 3) := by decide +kernel
theorem d_TM_needsCursor_7 : decode b_TM_needsCursor 7 = .ok (.aload_n 0, 1) := by decide +kernel
theorem d_TM_needsCursor_8 : decode b_TM_needsCursor 8 = .ok (.getfield 176, 3) := by decide +kernel
theorem d_TM_needsCursor_11 : decode b_TM_needsCursor 11 = .ok (.iconst 0, 1) := by decide +kernel
theorem d_TM_needsCursor_12 : decode b_TM_needsCursor 12 = .ok (.invokevirtual 180, 3) := by decide +kernel
theorem d_TM_needsCursor_15 : decode b_TM_needsCursor 15 = .ok (.bipush 99, 2) := by decide +kernel
theorem d_TM_needsCursor_17 : decode b_TM_needsCursor 17 = .ok (.if_icmp .ne 7, 3) := by decide +kernel
theorem d_TM_needsCursor_20 : decode b_TM_needsCursor 20 = .ok (.iconst 1, 1) := by decide +kernel
theorem d_TM_needsCursor_21 : decode b_TM_needsCursor 21 = .ok (.goto 4, 3) := by decide +kernel
theorem d_TM_needsCursor_24 : decode b_TM_needsCursor 24 = .ok (.iconst 0, 1) := by decide +kernel
theorem d_TM_needsCursor_25 : decode b_TM_needsCursor 25 = .ok (.ireturn, 1) := by decide +kernel
noncomputable def f_TM_needsCursor (i0 : Nat) (σ : Sg) : Option (Int32 × Sg) :=
  Option.bind (if i0 = 1 then (some (0)) else (chk (vp_in 0 3) ((if (chr i0 ((0 : Int32).toNatClampNeg)) = 99 then (some (1)) else (some (0)))))) (fun (x1 : Int32) => chk (zb x1) (some (x1, σ)))
abbrev rm_TM_needsCursor : Room := { frames := 4, cells := 0, slots := 0, locals := 85 }
set_option maxHeartbeats 4000000 in
set_option maxRecDepth 100000 in
theorem c_TM_needsCursor (l : Launch) (X : GX) (n : Nat) {σ σ' : Sg} {r : Int32} {i0 : Nat} (h_i0 : i0 < 22) (hf : f_TM_needsCursor i0 σ = some (r, σ')) : Met l y_TM_needsCursor (cw y_TM_needsCursor b_TM_needsCursor 1 (some .boolean)) rm_TM_needsCursor (PcG X n σ [.ref (xad X i0)]) (QcG X n σ' (some (.int r))) 0 0 (fr X n) := by
  refine g_head (own := "TableMachine") (by decide) rfl (Nat.le_of_ble_eq_true rfl) ?_
  intro p e s m args below meth c ls F hr hlk hP hl
  have hl : lv_has ls 1 [(0, .ref (xad X i0))] := hl
  show WG l X n rm_TM_needsCursor σ' (some (.int r)) p e s m args below meth c s.heap [] (F0 m 0 ls [])
  unfold f_TM_needsCursor at hf
  refine lv_aload_n F.1 F.2.1 d_TM_needsCursor_0 rfl (lv_at hl 0 rfl) ?_
  refine g_enum F hP 1 (by decide) w_745 d_TM_needsCursor_1 ?_
  obtain ⟨x1, hj3, hf⟩ := bnd_some hf
  have KJ2 : ∀ (ls : Array Slot) (H : Heap) (locs : List Loc), lv_has ls 1 [] → St X n σ s.heap H locs → WG l X n rm_TM_needsCursor σ' (some (.int r)) p e s m args below meth c H locs (F0 m 25 ls [.int x1]) := by
    intro ls H locs hl hP
    obtain ⟨hz7, hf⟩ := chk_some hf
    cases hf
    exact g_zret F hP hr hlk hz7 d_TM_needsCursor_25
  refine g_acmp_eq F h_i0 (by decide) d_TM_needsCursor_4 rfl (fun hb6 => ?_) (fun hb6 => ?_)
  · rw [if_pos hb6] at hj3
    refine lv_iconst (v := 0) F.1 F.2.1 d_TM_needsCursor_24 (by decide) ?_
    cases hj3
    exact KJ2 _ _ _ (lv_sub hl [] rfl) hP
  · rw [if_neg hb6] at hj3
    refine lv_aload_n F.1 F.2.1 d_TM_needsCursor_7 rfl (lv_at hl 0 rfl) ?_
    refine g_what F hP h_i0 w_1161 d_TM_needsCursor_8 ?_
    refine lv_iconst (v := 0) F.1 F.2.1 d_TM_needsCursor_11 (by decide) ?_
    obtain ⟨hc4, hj3⟩ := chk_some hj3
    refine g_charAt (rest := []) F hP h_i0 hc4 w_648 ⟨by decide, by decide⟩ hl.1 (Nat.le_of_ble_eq_true rfl) ⟨Nat.zero_le _, Nat.zero_le _⟩ d_TM_needsCursor_12 (fun H locs hP => ?_)
    refine lv_bipush (v := 99) F.1 F.2.1 d_TM_needsCursor_15 (by decide) ?_
    refine lv_icmp_ne F.1 F.2.1 d_TM_needsCursor_17 rfl (fun hb5 => ?_) (fun hb5 => ?_)
    · rw [if_neg hb5] at hj3
      refine lv_iconst (v := 0) F.1 F.2.1 d_TM_needsCursor_24 (by decide) ?_
      cases hj3
      exact KJ2 _ _ _ (lv_sub hl [] rfl) hP
    · rw [if_pos hb5] at hj3
      refine lv_iconst (v := 1) F.1 F.2.1 d_TM_needsCursor_20 (by decide) ?_
      refine lv_goto F.1 F.2.1 d_TM_needsCursor_21 rfl ?_
      cases hj3
      exact KJ2 _ _ _ (lv_sub hl [] rfl) hP

theorem d_TM_step_0 : decode b_TM_step 0 = .ok (.aload_n 0, 1) := by decide +kernel
theorem d_TM_step_1 : decode b_TM_step 1 = .ok (.getfield 44, 3) := by decide +kernel
theorem d_TM_step_4 : decode b_TM_step 4 = .ok (.iload_n 1, 1) := by decide +kernel
theorem d_TM_step_5 : decode b_TM_step 5 = .ok (.aaload, 1) := by decide +kernel
theorem d_TM_step_6 : decode b_TM_step 6 = .ok (.astore_n 2, 1) := by decide +kernel
theorem d_TM_step_7 : decode b_TM_step 7 = .ok (.aload_n 2, 1) := by decide +kernel
theorem d_TM_step_8 : decode b_TM_step 8 = .ok (.getfield 169, 3) := by decide +kernel
theorem d_TM_step_11 : decode b_TM_step 11 = .ok (.invokestatic 259, 3) := by decide +kernel
theorem d_TM_step_14 : decode b_TM_step 14 = .ok (.ifCond .eq 27, 3) := by decide +kernel
theorem d_TM_step_17 : decode b_TM_step 17 = .ok (.aload_n 0, 1) := by decide +kernel
theorem d_TM_step_18 : decode b_TM_step 18 = .ok (.getfield 56, 3) := by decide +kernel
theorem d_TM_step_21 : decode b_TM_step 21 = .ok (.aload_n 2, 1) := by decide +kernel
theorem d_TM_step_22 : decode b_TM_step 22 = .ok (.getfield 173, 3) := by decide +kernel
theorem d_TM_step_25 : decode b_TM_step 25 = .ok (.iconst 0, 1) := by decide +kernel
theorem d_TM_step_26 : decode b_TM_step 26 = .ok (.iaload, 1) := by decide +kernel
theorem d_TM_step_27 : decode b_TM_step 27 = .ok (.aaload, 1) := by decide +kernel
theorem d_TM_step_28 : decode b_TM_step 28 = .ok (.getfield 204, 3) := by decide +kernel
theorem d_TM_step_31 : decode b_TM_step 31 = .ok (.ifnonnull 10, 3) := by decide +kernel
theorem d_TM_step_34 : decode b_TM_step 34 = .ok (.aload_n 0, 1) := by decide +kernel
theorem d_TM_step_35 : decode b_TM_step 35 = .ok (.iconst 3, 1) := by decide +kernel
theorem d_TM_step_36 : decode b_TM_step 36 = .ok (.putfield 238, 3) := by decide +kernel
theorem d_TM_step_39 : decode b_TM_step 39 = .ok (.iload_n 1, 1) := by decide +kernel
theorem d_TM_step_40 : decode b_TM_step 40 = .ok (.ireturn, 1) := by decide +kernel
theorem d_TM_step_41 : decode b_TM_step 41 = .ok (.aload_n 2, 1) := by decide +kernel
theorem d_TM_step_42 : decode b_TM_step 42 = .ok (.getfield 169, 3) := by decide +kernel
theorem d_TM_step_45 : decode b_TM_step 45 = .ok (.invokestatic 259, 3) := by decide +kernel
theorem d_TM_step_48 : decode b_TM_step 48 = .ok (.ifCond .eq 22, 3) := by decide +kernel
theorem d_TM_step_51 : decode b_TM_step 51 = .ok (.aload_n 0, 1) := by decide +kernel
theorem d_TM_step_52 : decode b_TM_step 52 = .ok (.aload_n 2, 1) := by decide +kernel
theorem d_TM_step_53 : decode b_TM_step 53 = .ok (.aload_n 0, 1) := by decide +kernel
theorem d_TM_step_54 : decode b_TM_step 54 = .ok (.getfield 56, 3) := by decide +kernel
theorem d_TM_step_57 : decode b_TM_step 57 = .ok (.aload_n 2, 1) := by decide +kernel
theorem d_TM_step_58 : decode b_TM_step 58 = .ok (.getfield 173, 3) := by decide +kernel
theorem d_TM_step_61 : decode b_TM_step 61 = .ok (.iconst 0, 1) := by decide +kernel
theorem d_TM_step_62 : decode b_TM_step 62 = .ok (.iaload, 1) := by decide +kernel
theorem d_TM_step_63 : decode b_TM_step 63 = .ok (.aaload, 1) := by decide +kernel
theorem d_TM_step_64 : decode b_TM_step 64 = .ok (.invokevirtual 263, 3) := by decide +kernel
theorem d_TM_step_67 : decode b_TM_step 67 = .ok (.goto 8, 3) := by decide +kernel
theorem d_TM_step_70 : decode b_TM_step 70 = .ok (.aload_n 0, 1) := by decide +kernel
theorem d_TM_step_71 : decode b_TM_step 71 = .ok (.aload_n 2, 1) := by decide +kernel
theorem d_TM_step_72 : decode b_TM_step 72 = .ok (.invokevirtual 267, 3) := by decide +kernel
theorem d_TM_step_75 : decode b_TM_step 75 = .ok (.istore_n 3, 1) := by decide +kernel
theorem d_TM_step_76 : decode b_TM_step 76 = .ok (.iload_n 3, 1) := by decide +kernel
theorem d_TM_step_77 : decode b_TM_step 77 = .ok (.ifCond .eq 10, 3) := by decide +kernel
theorem d_TM_step_80 : decode b_TM_step 80 = .ok (.aload_n 2, 1) := by decide +kernel
theorem d_TM_step_81 : decode b_TM_step 81 = .ok (.invokevirtual 271, 3) := by decide +kernel
theorem d_TM_step_84 : decode b_TM_step 84 = .ok (.goto 6, 3) := by decide +kernel
theorem d_TM_step_87 : decode b_TM_step 87 = .ok (.iload_n 1, 1) := by decide +kernel
theorem d_TM_step_88 : decode b_TM_step 88 = .ok (.iconst 1, 1) := by decide +kernel
theorem d_TM_step_89 : decode b_TM_step 89 = .ok (.iadd, 1) := by decide +kernel
theorem d_TM_step_90 : decode b_TM_step 90 = .ok (.ireturn, 1) := by decide +kernel
noncomputable def f_TM_step (a1 : Int32) (σ : Sg) : Option (Int32 × Sg) :=
  chk (vp_in a1 60) ((gr σ 6 a1.toNatClampNeg 0).bind (fun o2 => chk (o2 < 22) (bn2 (f_TM_needsCursor o2 σ) (fun r6 σ4 => (if r6 = 0 then ((gr σ4 6 a1.toNatClampNeg 0).bind (fun o7 => chk (o7 < 22) (bn2 (f_TM_needsCursor o7 σ4) (fun r11 σ9 => bn2 (if r11 = 0 then (bn2 (f_TM_works a1.toNatClampNeg σ9) (fun r18 σ16 => some (r18, σ16))) else (chk (vp_in 0 3) (chk (vp_in (gi σ9 16 a1.toNatClampNeg ((0 : Int32).toNatClampNeg)) 3) (bn2 (f_TM_moves a1.toNatClampNeg ((gi σ9 16 a1.toNatClampNeg ((0 : Int32).toNatClampNeg)).toNatClampNeg) σ9) (fun r23 σ21 => some (r23, σ21)))))) (fun (x12 : Int32) (σ13 : Sg) => bn2 (if x12 = 0 then (some (a1 + 1, σ13)) else (bn2 (f_In_goal a1.toNatClampNeg σ13) (fun r31 σ29 => some (r31, σ29)))) (fun (x25 : Int32) (σ26 : Sg) => some (x25, σ26))))))) else (chk (vp_in 0 3) (chk (vp_in (gi σ4 16 a1.toNatClampNeg ((0 : Int32).toNatClampNeg)) 3) ((if (gr σ4 7 ((gi σ4 16 a1.toNatClampNeg ((0 : Int32).toNatClampNeg)).toNatClampNeg) 0) = none then (lt_ (si σ4 0 0 14 3) (fun σ61 => some (a1, σ61))) else ((gr σ4 6 a1.toNatClampNeg 0).bind (fun o35 => chk (o35 < 22) (bn2 (f_TM_needsCursor o35 σ4) (fun r39 σ37 => bn2 (if r39 = 0 then (bn2 (f_TM_works a1.toNatClampNeg σ37) (fun r46 σ44 => some (r46, σ44))) else (chk (vp_in 0 3) (chk (vp_in (gi σ37 16 a1.toNatClampNeg ((0 : Int32).toNatClampNeg)) 3) (bn2 (f_TM_moves a1.toNatClampNeg ((gi σ37 16 a1.toNatClampNeg ((0 : Int32).toNatClampNeg)).toNatClampNeg) σ37) (fun r51 σ49 => some (r51, σ49)))))) (fun (x40 : Int32) (σ41 : Sg) => bn2 (if x40 = 0 then (some (a1 + 1, σ41)) else (bn2 (f_In_goal a1.toNatClampNeg σ41) (fun r59 σ57 => some (r59, σ57)))) (fun (x53 : Int32) (σ54 : Sg) => some (x53, σ54))))))))))))))))
abbrev rm_TM_step : Room := { frames := 11, cells := 0, slots := 0, locals := 270 }
set_option maxHeartbeats 4000000 in
set_option maxRecDepth 100000 in
theorem c_TM_step (l : Launch) (X : GX) (n : Nat) {σ σ' : Sg} {r : Int32} {a1 : Int32}  (hf : f_TM_step a1 σ = some (r, σ')) : Met l y_TM_step (cw y_TM_step b_TM_step 4 (some .int)) rm_TM_step (PcG X n σ [.ref (xL X 0 0), .int a1]) (QcG X n σ' (some (.int r))) 0 0 (fr X n) := by
  refine g_head (own := "TableMachine") (by decide) rfl (Nat.le_of_ble_eq_true rfl) ?_
  intro p e s m args below meth c ls F hr hlk hP hl
  have hl : lv_has ls 4 [(0, .ref (xL X 0 0)), (1, .int a1)] := hl
  show WG l X n rm_TM_step σ' (some (.int r)) p e s m args below meth c s.heap [] (F0 m 0 ls [])
  unfold f_TM_step at hf
  refine lv_aload_n F.1 F.2.1 d_TM_step_0 rfl (lv_at hl 0 rfl) ?_
  refine g_get F hP 0 7 0 (by decide) Nat.zero_lt_one (by decide) (v := .ref (xL X 19 0)) rfl w_177 d_TM_step_1 ?_
  refine lv_iload_n F.1 F.2.1 d_TM_step_4 rfl (lv_at hl 1 rfl) ?_
  obtain ⟨hc1, hf⟩ := chk_some hf
  refine g_rld F hP 19 (by decide) (by decide) Nat.zero_lt_one rfl hc1 (v := .ref (xL X 6 a1.toNatClampNeg)) rfl d_TM_step_5 ?_
  refine lv_astore_n F.1 F.2.1 d_TM_step_6 rfl hl (by decide) rfl (fun ls hl => ?_)
  have hl : lv_has ls 4 [(2, .ref (xL X 6 a1.toNatClampNeg)), (0, .ref (xL X 0 0)), (1, .int a1)] := hl
  refine lv_aload_n F.1 F.2.1 d_TM_step_7 rfl (lv_at hl 0 rfl) ?_
  obtain ⟨o2, e_o2, hf⟩ := bnd_some hf
  obtain ⟨hc3, hf⟩ := chk_some hf
  refine g_getN F hP 6 0 a1.toNatClampNeg (by decide) (vin_lt hc1) (by decide) (v := .ref (xad X o2)) (fv_op e_o2) w_125 d_TM_step_8 ?_
  obtain ⟨r6, σ4, hk5, hf⟩ := bn2_some hf
  refine g_callS (As := [.ref (xad X o2)]) (rest := []) F hP (c_TM_needsCursor l X n hc3 hk5) ⟨by decide, by decide, q_TM_needsCursor⟩ w_757 w_1 w_755 w_756 ⟨rfl, rfl⟩ ⟨by decide, by decide⟩ hl.1 (Nat.le_of_ble_eq_true rfl) ⟨Nat.zero_le _, Nat.zero_le _⟩ d_TM_step_11 rfl (fun H locs hP => ?_)
  refine W.eq (g2 := F0 m 14 ls [.int r6]) rfl ?_
  refine lv_if_eq F.1 F.2.1 d_TM_step_14 rfl (fun hb63 => ?_) (fun hb63 => ?_)
  · rw [if_pos hb63] at hf
    refine lv_aload_n F.1 F.2.1 d_TM_step_41 rfl (lv_at hl 0 rfl) ?_
    obtain ⟨o7, e_o7, hf⟩ := bnd_some hf
    obtain ⟨hc8, hf⟩ := chk_some hf
    refine g_getN F hP 6 0 a1.toNatClampNeg (by decide) (vin_lt hc1) (by decide) (v := .ref (xad X o7)) (fv_op e_o7) w_125 d_TM_step_42 ?_
    obtain ⟨r11, σ9, hk10, hf⟩ := bn2_some hf
    refine g_callS (As := [.ref (xad X o7)]) (rest := []) F hP (c_TM_needsCursor l X n hc8 hk10) ⟨by decide, by decide, q_TM_needsCursor⟩ w_757 w_1 w_755 w_756 ⟨rfl, rfl⟩ ⟨by decide, by decide⟩ hl.1 (Nat.le_of_ble_eq_true rfl) ⟨Nat.zero_le _, Nat.zero_le _⟩ d_TM_step_45 rfl (fun H locs hP => ?_)
    refine W.eq (g2 := F0 m 48 ls [.int r11]) rfl ?_
    obtain ⟨x12, σ13, hj15, hf⟩ := bn2_some hf
    have KJ14 : ∀ (ls : Array Slot) (H : Heap) (locs : List Loc), lv_has ls 4 [(1, .int a1), (2, .ref (xL X 6 a1.toNatClampNeg))] → St X n σ13 s.heap H locs → WG l X n rm_TM_step σ' (some (.int r)) p e s m args below meth c H locs (F0 m 75 ls [.int x12]) := by
      intro ls H locs hl hP
      refine lv_istore_n F.1 F.2.1 d_TM_step_75 rfl hl (by decide) rfl (fun ls hl => ?_)
      have hl : lv_has ls 4 [(3, .int x12), (1, .int a1), (2, .ref (xL X 6 a1.toNatClampNeg))] := hl
      refine lv_iload_n F.1 F.2.1 d_TM_step_76 rfl (lv_at hl 0 rfl) ?_
      obtain ⟨x25, σ26, hj28, hf⟩ := bn2_some hf
      have KJ27 : ∀ (ls : Array Slot) (H : Heap) (locs : List Loc), lv_has ls 4 [] → St X n σ26 s.heap H locs → WG l X n rm_TM_step σ' (some (.int r)) p e s m args below meth c H locs (F0 m 90 ls [.int x25]) := by
        intro ls H locs hl hP
        cases hf
        exact g_iret F hP hr hlk d_TM_step_90
      refine lv_if_eq F.1 F.2.1 d_TM_step_77 rfl (fun hb32 => ?_) (fun hb32 => ?_)
      · rw [if_pos hb32] at hj28
        refine lv_iload_n F.1 F.2.1 d_TM_step_87 rfl (lv_at hl 1 rfl) ?_
        refine lv_iconst (v := 1) F.1 F.2.1 d_TM_step_88 (by decide) ?_
        refine lv_iadd F.1 F.2.1 d_TM_step_89 ?_
        cases hj28
        exact KJ27 _ _ _ (lv_sub hl [] rfl) hP
      · rw [if_neg hb32] at hj28
        refine lv_aload_n F.1 F.2.1 d_TM_step_80 rfl (lv_at hl 2 rfl) ?_
        obtain ⟨r31, σ29, hk30, hj28⟩ := bn2_some hj28
        refine g_callV (As := []) (rest := []) F hP 6 a1.toNatClampNeg (by decide) (vin_lt hc1) (c_In_goal l X n (vin_lt hc1) hk30) rfl q_In_goal w_743 w_8 w_740 w_741 w_742 ⟨rfl, rfl⟩ ⟨by decide, by decide⟩ hl.1 (Nat.le_of_ble_eq_true rfl) ⟨Nat.zero_le _, Nat.zero_le _⟩ d_TM_step_81 rfl (fun H locs hP => ?_)
        refine W.eq (g2 := F0 m 84 ls [.int r31]) rfl ?_
        refine lv_goto F.1 F.2.1 d_TM_step_84 rfl ?_
        cases hj28
        exact KJ27 _ _ _ (lv_sub hl [] rfl) hP
    refine lv_if_eq F.1 F.2.1 d_TM_step_48 rfl (fun hb24 => ?_) (fun hb24 => ?_)
    · rw [if_pos hb24] at hj15
      refine lv_aload_n F.1 F.2.1 d_TM_step_70 rfl (lv_at hl 1 rfl) ?_
      refine lv_aload_n F.1 F.2.1 d_TM_step_71 rfl (lv_at hl 0 rfl) ?_
      obtain ⟨r18, σ16, hk17, hj15⟩ := bn2_some hj15
      refine g_callV (As := [.ref (xL X 6 a1.toNatClampNeg)]) (rest := []) F hP 0 0 (by decide) Nat.zero_lt_one (c_TM_works l X n (vin_lt hc1) hk17) rfl q_TM_works w_793 w_1 w_790 w_792 wp_27 ⟨rfl, rfl⟩ ⟨by decide, by decide⟩ hl.1 (Nat.le_of_ble_eq_true rfl) ⟨Nat.zero_le _, Nat.zero_le _⟩ d_TM_step_72 rfl (fun H locs hP => ?_)
      refine W.eq (g2 := F0 m 75 ls [.int r18]) rfl ?_
      cases hj15
      exact KJ14 _ _ _ (lv_sub hl [2, 0] rfl) hP
    · rw [if_neg hb24] at hj15
      refine lv_aload_n F.1 F.2.1 d_TM_step_51 rfl (lv_at hl 1 rfl) ?_
      refine lv_aload_n F.1 F.2.1 d_TM_step_52 rfl (lv_at hl 0 rfl) ?_
      refine lv_aload_n F.1 F.2.1 d_TM_step_53 rfl (lv_at hl 1 rfl) ?_
      refine g_get F hP 0 10 0 (by decide) Nat.zero_lt_one (by decide) (v := .ref (xL X 21 0)) rfl w_180 d_TM_step_54 ?_
      refine lv_aload_n F.1 F.2.1 d_TM_step_57 rfl (lv_at hl 0 rfl) ?_
      refine g_getN F hP 6 1 a1.toNatClampNeg (by decide) (vin_lt hc1) (by decide) (v := .ref (xL X 16 a1.toNatClampNeg)) rfl w_127 d_TM_step_58 ?_
      refine lv_iconst (v := 0) F.1 F.2.1 d_TM_step_61 (by decide) ?_
      obtain ⟨hc19, hj15⟩ := chk_some hj15
      refine g_ald F hP 16 (by decide) (by decide) (vin_lt hc1) rfl rfl hc19 d_TM_step_62 ?_
      obtain ⟨hc20, hj15⟩ := chk_some hj15
      refine g_rld F hP 21 (by decide) (by decide) Nat.zero_lt_one rfl hc20 (v := .ref (xL X 7 (gi σ9 16 a1.toNatClampNeg ((0 : Int32).toNatClampNeg)).toNatClampNeg)) rfl d_TM_step_63 ?_
      obtain ⟨r23, σ21, hk22, hj15⟩ := bn2_some hj15
      refine g_callV (As := [.ref (xL X 6 a1.toNatClampNeg), .ref (xL X 7 (gi σ9 16 a1.toNatClampNeg ((0 : Int32).toNatClampNeg)).toNatClampNeg)]) (rest := []) F hP 0 0 (by decide) Nat.zero_lt_one (c_TM_moves l X n (vin_lt hc1) (vin_lt hc20) hk22) rfl q_TM_moves w_761 w_1 w_758 w_760 wp_24 ⟨rfl, rfl⟩ ⟨by decide, by decide⟩ hl.1 (Nat.le_of_ble_eq_true rfl) ⟨Nat.zero_le _, Nat.zero_le _⟩ d_TM_step_64 rfl (fun H locs hP => ?_)
      refine W.eq (g2 := F0 m 67 ls [.int r23]) rfl ?_
      refine lv_goto F.1 F.2.1 d_TM_step_67 rfl ?_
      cases hj15
      exact KJ14 _ _ _ (lv_sub hl [2, 0] rfl) hP
  · rw [if_neg hb63] at hf
    refine lv_aload_n F.1 F.2.1 d_TM_step_17 rfl (lv_at hl 1 rfl) ?_
    refine g_get F hP 0 10 0 (by decide) Nat.zero_lt_one (by decide) (v := .ref (xL X 21 0)) rfl w_180 d_TM_step_18 ?_
    refine lv_aload_n F.1 F.2.1 d_TM_step_21 rfl (lv_at hl 0 rfl) ?_
    refine g_getN F hP 6 1 a1.toNatClampNeg (by decide) (vin_lt hc1) (by decide) (v := .ref (xL X 16 a1.toNatClampNeg)) rfl w_127 d_TM_step_22 ?_
    refine lv_iconst (v := 0) F.1 F.2.1 d_TM_step_25 (by decide) ?_
    obtain ⟨hc33, hf⟩ := chk_some hf
    refine g_ald F hP 16 (by decide) (by decide) (vin_lt hc1) rfl rfl hc33 d_TM_step_26 ?_
    obtain ⟨hc34, hf⟩ := chk_some hf
    refine g_rld F hP 21 (by decide) (by decide) Nat.zero_lt_one rfl hc34 (v := .ref (xL X 7 (gi σ4 16 a1.toNatClampNeg ((0 : Int32).toNatClampNeg)).toNatClampNeg)) rfl d_TM_step_27 ?_
    refine g_getN F hP 7 0 ((gi σ4 16 a1.toNatClampNeg ((0 : Int32).toNatClampNeg)).toNatClampNeg) (by decide) (vin_lt hc34) (by decide) (v := va_rf (Option.map (xL X 3) (gr σ4 7 ((gi σ4 16 a1.toNatClampNeg ((0 : Int32).toNatClampNeg)).toNatClampNeg) 0))) rfl w_140 d_TM_step_28 ?_
    refine g_ifnn F d_TM_step_31 rfl (fun hb62 => ?_) (fun hb62 => ?_)
    · rw [if_neg hb62] at hf
      refine lv_aload_n F.1 F.2.1 d_TM_step_41 rfl (lv_at hl 0 rfl) ?_
      obtain ⟨o35, e_o35, hf⟩ := bnd_some hf
      obtain ⟨hc36, hf⟩ := chk_some hf
      refine g_getN F hP 6 0 a1.toNatClampNeg (by decide) (vin_lt hc1) (by decide) (v := .ref (xad X o35)) (fv_op e_o35) w_125 d_TM_step_42 ?_
      obtain ⟨r39, σ37, hk38, hf⟩ := bn2_some hf
      refine g_callS (As := [.ref (xad X o35)]) (rest := []) F hP (c_TM_needsCursor l X n hc36 hk38) ⟨by decide, by decide, q_TM_needsCursor⟩ w_757 w_1 w_755 w_756 ⟨rfl, rfl⟩ ⟨by decide, by decide⟩ hl.1 (Nat.le_of_ble_eq_true rfl) ⟨Nat.zero_le _, Nat.zero_le _⟩ d_TM_step_45 rfl (fun H locs hP => ?_)
      refine W.eq (g2 := F0 m 48 ls [.int r39]) rfl ?_
      obtain ⟨x40, σ41, hj43, hf⟩ := bn2_some hf
      have KJ42 : ∀ (ls : Array Slot) (H : Heap) (locs : List Loc), lv_has ls 4 [(1, .int a1), (2, .ref (xL X 6 a1.toNatClampNeg))] → St X n σ41 s.heap H locs → WG l X n rm_TM_step σ' (some (.int r)) p e s m args below meth c H locs (F0 m 75 ls [.int x40]) := by
        intro ls H locs hl hP
        refine lv_istore_n F.1 F.2.1 d_TM_step_75 rfl hl (by decide) rfl (fun ls hl => ?_)
        have hl : lv_has ls 4 [(3, .int x40), (1, .int a1), (2, .ref (xL X 6 a1.toNatClampNeg))] := hl
        refine lv_iload_n F.1 F.2.1 d_TM_step_76 rfl (lv_at hl 0 rfl) ?_
        obtain ⟨x53, σ54, hj56, hf⟩ := bn2_some hf
        have KJ55 : ∀ (ls : Array Slot) (H : Heap) (locs : List Loc), lv_has ls 4 [] → St X n σ54 s.heap H locs → WG l X n rm_TM_step σ' (some (.int r)) p e s m args below meth c H locs (F0 m 90 ls [.int x53]) := by
          intro ls H locs hl hP
          cases hf
          exact g_iret F hP hr hlk d_TM_step_90
        refine lv_if_eq F.1 F.2.1 d_TM_step_77 rfl (fun hb60 => ?_) (fun hb60 => ?_)
        · rw [if_pos hb60] at hj56
          refine lv_iload_n F.1 F.2.1 d_TM_step_87 rfl (lv_at hl 1 rfl) ?_
          refine lv_iconst (v := 1) F.1 F.2.1 d_TM_step_88 (by decide) ?_
          refine lv_iadd F.1 F.2.1 d_TM_step_89 ?_
          cases hj56
          exact KJ55 _ _ _ (lv_sub hl [] rfl) hP
        · rw [if_neg hb60] at hj56
          refine lv_aload_n F.1 F.2.1 d_TM_step_80 rfl (lv_at hl 2 rfl) ?_
          obtain ⟨r59, σ57, hk58, hj56⟩ := bn2_some hj56
          refine g_callV (As := []) (rest := []) F hP 6 a1.toNatClampNeg (by decide) (vin_lt hc1) (c_In_goal l X n (vin_lt hc1) hk58) rfl q_In_goal w_743 w_8 w_740 w_741 w_742 ⟨rfl, rfl⟩ ⟨by decide, by decide⟩ hl.1 (Nat.le_of_ble_eq_true rfl) ⟨Nat.zero_le _, Nat.zero_le _⟩ d_TM_step_81 rfl (fun H locs hP => ?_)
          refine W.eq (g2 := F0 m 84 ls [.int r59]) rfl ?_
          refine lv_goto F.1 F.2.1 d_TM_step_84 rfl ?_
          cases hj56
          exact KJ55 _ _ _ (lv_sub hl [] rfl) hP
      refine lv_if_eq F.1 F.2.1 d_TM_step_48 rfl (fun hb52 => ?_) (fun hb52 => ?_)
      · rw [if_pos hb52] at hj43
        refine lv_aload_n F.1 F.2.1 d_TM_step_70 rfl (lv_at hl 1 rfl) ?_
        refine lv_aload_n F.1 F.2.1 d_TM_step_71 rfl (lv_at hl 0 rfl) ?_
        obtain ⟨r46, σ44, hk45, hj43⟩ := bn2_some hj43
        refine g_callV (As := [.ref (xL X 6 a1.toNatClampNeg)]) (rest := []) F hP 0 0 (by decide) Nat.zero_lt_one (c_TM_works l X n (vin_lt hc1) hk45) rfl q_TM_works w_793 w_1 w_790 w_792 wp_27 ⟨rfl, rfl⟩ ⟨by decide, by decide⟩ hl.1 (Nat.le_of_ble_eq_true rfl) ⟨Nat.zero_le _, Nat.zero_le _⟩ d_TM_step_72 rfl (fun H locs hP => ?_)
        refine W.eq (g2 := F0 m 75 ls [.int r46]) rfl ?_
        cases hj43
        exact KJ42 _ _ _ (lv_sub hl [2, 0] rfl) hP
      · rw [if_neg hb52] at hj43
        refine lv_aload_n F.1 F.2.1 d_TM_step_51 rfl (lv_at hl 1 rfl) ?_
        refine lv_aload_n F.1 F.2.1 d_TM_step_52 rfl (lv_at hl 0 rfl) ?_
        refine lv_aload_n F.1 F.2.1 d_TM_step_53 rfl (lv_at hl 1 rfl) ?_
        refine g_get F hP 0 10 0 (by decide) Nat.zero_lt_one (by decide) (v := .ref (xL X 21 0)) rfl w_180 d_TM_step_54 ?_
        refine lv_aload_n F.1 F.2.1 d_TM_step_57 rfl (lv_at hl 0 rfl) ?_
        refine g_getN F hP 6 1 a1.toNatClampNeg (by decide) (vin_lt hc1) (by decide) (v := .ref (xL X 16 a1.toNatClampNeg)) rfl w_127 d_TM_step_58 ?_
        refine lv_iconst (v := 0) F.1 F.2.1 d_TM_step_61 (by decide) ?_
        obtain ⟨hc47, hj43⟩ := chk_some hj43
        refine g_ald F hP 16 (by decide) (by decide) (vin_lt hc1) rfl rfl hc47 d_TM_step_62 ?_
        obtain ⟨hc48, hj43⟩ := chk_some hj43
        refine g_rld F hP 21 (by decide) (by decide) Nat.zero_lt_one rfl hc48 (v := .ref (xL X 7 (gi σ37 16 a1.toNatClampNeg ((0 : Int32).toNatClampNeg)).toNatClampNeg)) rfl d_TM_step_63 ?_
        obtain ⟨r51, σ49, hk50, hj43⟩ := bn2_some hj43
        refine g_callV (As := [.ref (xL X 6 a1.toNatClampNeg), .ref (xL X 7 (gi σ37 16 a1.toNatClampNeg ((0 : Int32).toNatClampNeg)).toNatClampNeg)]) (rest := []) F hP 0 0 (by decide) Nat.zero_lt_one (c_TM_moves l X n (vin_lt hc1) (vin_lt hc48) hk50) rfl q_TM_moves w_761 w_1 w_758 w_760 wp_24 ⟨rfl, rfl⟩ ⟨by decide, by decide⟩ hl.1 (Nat.le_of_ble_eq_true rfl) ⟨Nat.zero_le _, Nat.zero_le _⟩ d_TM_step_64 rfl (fun H locs hP => ?_)
        refine W.eq (g2 := F0 m 67 ls [.int r51]) rfl ?_
        refine lv_goto F.1 F.2.1 d_TM_step_67 rfl ?_
        cases hj43
        exact KJ42 _ _ _ (lv_sub hl [2, 0] rfl) hP
    · rw [if_pos hb62] at hf
      refine lv_aload_n F.1 F.2.1 d_TM_step_34 rfl (lv_at hl 1 rfl) ?_
      refine lv_iconst (v := 3) F.1 F.2.1 d_TM_step_35 (by decide) ?_
      obtain ⟨σ61, e_σ61, hf⟩ := lt_some hf
      refine g_puti F hP 0 14 0 (by decide) Nat.zero_lt_one (by decide) rfl rfl rfl rfl (Or.inl w_184) d_TM_step_36 e_σ61 (fun H locs hP => ?_)
      refine lv_iload_n F.1 F.2.1 d_TM_step_39 rfl (lv_at hl 2 rfl) ?_
      cases hf
      exact g_iret F hP hr hlk d_TM_step_40

theorem d_TM_isSound_0 : decode b_TM_isSound 0 = .ok (.iconst 1, 1) := by decide +kernel
theorem d_TM_isSound_1 : decode b_TM_isSound 1 = .ok (.istore_n 1, 1) := by decide +kernel
theorem d_TM_isSound_2 : decode b_TM_isSound 2 = .ok (.iconst 0, 1) := by decide +kernel
theorem d_TM_isSound_3 : decode b_TM_isSound 3 = .ok (.istore_n 2, 1) := by decide +kernel
theorem d_TM_isSound_4 : decode b_TM_isSound 4 = .ok (.iload_n 2, 1) := by decide +kernel
theorem d_TM_isSound_5 : decode b_TM_isSound 5 = .ok (.aload_n 0, 1) := by decide +kernel
theorem d_TM_isSound_6 : decode b_TM_isSound 6 = .ok (.getfield 166, 3) := by decide +kernel
theorem d_TM_isSound_9 : decode b_TM_isSound 9 = .ok (.if_icmp .ge 68, 3) := by decide +kernel
theorem d_TM_isSound_12 : decode b_TM_isSound 12 = .ok (.iload_n 1, 1) := by decide +kernel
theorem d_TM_isSound_13 : decode b_TM_isSound 13 = .ok (.ifCond .eq 56, 3) := by decide +kernel
theorem d_TM_isSound_16 : decode b_TM_isSound 16 = .ok (.aload_n 0, 1) := by decide +kernel
theorem d_TM_isSound_17 : decode b_TM_isSound 17 = .ok (.getfield 44, 3) := by decide +kernel
theorem d_TM_isSound_20 : decode b_TM_isSound 20 = .ok (.iload_n 2, 1) := by decide +kernel
theorem d_TM_isSound_21 : decode b_TM_isSound 21 = .ok (.aaload, 1) := by decide +kernel
theorem d_TM_isSound_22 : decode b_TM_isSound 22 = .ok (.invokevirtual 271, 3) := by decide +kernel
theorem d_TM_isSound_25 : decode b_TM_isSound 25 = .ok (.aload_n 0, 1) := by decide +kernel
theorem d_TM_isSound_26 : decode b_TM_isSound 26 = .ok (.getfield 166, 3) := by decide +kernel
theorem d_TM_isSound_29 : decode b_TM_isSound 29 = .ok (.if_icmp .gt 40, 3) := by decide +kernel
theorem d_TM_isSound_32 : decode b_TM_isSound 32 = .ok (.aload_n 0, 1) := by decide +kernel
theorem d_TM_isSound_33 : decode b_TM_isSound 33 = .ok (.getfield 44, 3) := by decide +kernel
theorem d_TM_isSound_36 : decode b_TM_isSound 36 = .ok (.iload_n 2, 1) := by decide +kernel
theorem d_TM_isSound_37 : decode b_TM_isSound 37 = .ok (.aaload, 1) := by decide +kernel
theorem d_TM_isSound_38 : decode b_TM_isSound 38 = .ok (.getfield 169, 3) := by decide +kernel
theorem d_TM_isSound_41 : decode b_TM_isSound 41 = .ok (.getstatic 256, 3) := by decide +kernel
theorem d_TM_isSound_44 : decode b_TM_isSound 44 = .ok (.if_acmp .ne 21, 3) := by decide +kernel
theorem d_TM_isSound_47 : decode b_TM_isSound 47 = .ok (.aload_n 0, 1) := by decide +kernel
theorem d_TM_isSound_48 : decode b_TM_isSound 48 = .ok (.aload_n 0, 1) := by decide +kernel
theorem d_TM_isSound_49 : decode b_TM_isSound 49 = .ok (.getfield 44, 3) := by decide +kernel
theorem d_TM_isSound_52 : decode b_TM_isSound 52 = .ok (.iload_n 2, 1) := by decide +kernel
theorem d_TM_isSound_53 : decode b_TM_isSound 53 = .ok (.aaload, 1) := by decide +kernel
theorem d_TM_isSound_54 : decode b_TM_isSound 54 = .ok (.getfield 173, 3) := by decide +kernel
theorem d_TM_isSound_57 : decode b_TM_isSound 57 = .ok (.iconst 1, 1) := by decide +kernel
theorem d_TM_isSound_58 : decode b_TM_isSound 58 = .ok (.iaload, 1) := by decide +kernel
theorem d_TM_isSound_59 : decode b_TM_isSound 59 = .ok (.invokevirtual 118, 3) := by decide +kernel
theorem d_TM_isSound_62 : decode b_TM_isSound 62 = .ok (.ifCond .eq 7, 3) := by decide +kernel
theorem d_TM_isSound_65 : decode b_TM_isSound 65 = .ok (.iconst 1, 1) := by decide +kernel
theorem d_TM_isSound_66 : decode b_TM_isSound 66 = .ok (.goto 4, 3) := by decide +kernel
theorem d_TM_isSound_69 : decode b_TM_isSound 69 = .ok (.iconst 0, 1) := by decide +kernel
theorem d_TM_isSound_70 : decode b_TM_isSound 70 = .ok (.istore_n 1, 1) := by decide +kernel
theorem d_TM_isSound_71 : decode b_TM_isSound 71 = .ok (.iinc 2 1, 3) := by decide +kernel
theorem d_TM_isSound_74 : decode b_TM_isSound 74 = .ok (.goto (-70), 3) := by decide +kernel
theorem d_TM_isSound_77 : decode b_TM_isSound 77 = .ok (.iload_n 1, 1) := by decide +kernel
theorem d_TM_isSound_78 : decode b_TM_isSound 78 = .ok (.ireturn, 1) := by decide +kernel
noncomputable def b_TM_isSound_4  (x1 : Int32) (x2 : Int32) (σ3 : Sg) : Option ((Int32 × Int32 × Sg) ⊕ (Int32 × Sg)) :=
  (if (gi σ3 0 0 8) ≤ x2 then (some (.inr (x1, σ3))) else (bn2 (if x1 = 0 then (some (0, σ3)) else (chk (vp_in x2 60) (bn2 (f_In_goal x2.toNatClampNeg σ3) (fun r14 σ12 => (if (gi σ12 0 0 8) < r14 then (some (0, σ12)) else (chk (vp_in x2 60) ((gr σ12 6 x2.toNatClampNeg 0).bind (fun o16 => chk (o16 < 22) ((if o16 = 1 then (chk (vp_in x2 60) (chk (vp_in 1 3) (bn2 (f_TM_isTable (gi σ12 16 x2.toNatClampNeg ((1 : Int32).toNatClampNeg)) σ12) (fun r22 σ20 => (if r22 = 0 then (some (0, σ20)) else (some (1, σ20))))))) else (some (1, σ12)))))))))))) (fun (x7 : Int32) (σ8 : Sg) => lt_ (x2 + 1 : Int32) (fun (x27 : Int32) => some (.inl (x7, x27, σ8))))))
noncomputable def l_TM_isSound_4  (x1 : Int32) (x2 : Int32) (σ3 : Sg) : Option (Int32 × Sg) := lp (fun q => b_TM_isSound_4  q.1 q.2.1 q.2.2) FU (x1, x2, σ3)
noncomputable def f_TM_isSound  (σ : Sg) : Option (Int32 × Sg) :=
  bn2 (l_TM_isSound_4  1 0 σ) (fun x29 σ30 => chk (zb x29) (some (x29, σ30)))
abbrev rm_TM_isSound : Room := { frames := 5, cells := 0, slots := 0, locals := 107 }
set_option maxHeartbeats 4000000 in
set_option maxRecDepth 100000 in
theorem c_TM_isSound (l : Launch) (X : GX) (n : Nat) {σ σ' : Sg} {r : Int32}   (hf : f_TM_isSound  σ = some (r, σ')) : Met l y_TM_isSound (cw y_TM_isSound b_TM_isSound 3 (some .boolean)) rm_TM_isSound (PcG X n σ [.ref (xL X 0 0)]) (QcG X n σ' (some (.int r))) 0 0 (fr X n) := by
  refine g_head (own := "TableMachine") (by decide) rfl (Nat.le_of_ble_eq_true rfl) ?_
  intro p e s m args below meth c ls F hr hlk hP hl
  have hl : lv_has ls 3 [(0, .ref (xL X 0 0))] := hl
  show WG l X n rm_TM_isSound σ' (some (.int r)) p e s m args below meth c s.heap [] (F0 m 0 ls [])
  unfold f_TM_isSound at hf
  refine lv_iconst (v := 1) F.1 F.2.1 d_TM_isSound_0 (by decide) ?_
  refine lv_istore_n F.1 F.2.1 d_TM_isSound_1 rfl hl (by decide) rfl (fun ls hl => ?_)
  have hl : lv_has ls 3 [(1, .int 1), (0, .ref (xL X 0 0))] := hl
  refine lv_iconst (v := 0) F.1 F.2.1 d_TM_isSound_2 (by decide) ?_
  refine lv_istore_n F.1 F.2.1 d_TM_isSound_3 rfl hl (by decide) rfl (fun ls hl => ?_)
  have hl : lv_has ls 3 [(2, .int 0), (1, .int 1), (0, .ref (xL X 0 0))] := hl
  obtain ⟨x29, σ30, hlp31, hf⟩ := bn2_some hf
  have KX32 : ∀ (ls : Array Slot) (H : Heap) (locs : List Loc), lv_has ls 3 [(1, .int x29)] → St X n σ30 s.heap H locs → WG l X n rm_TM_isSound σ' (some (.int r)) p e s m args below meth c H locs (F0 m 77 ls []) := by
    intro ls H locs hl hP
    refine lv_iload_n F.1 F.2.1 d_TM_isSound_77 rfl (lv_at hl 0 rfl) ?_
    obtain ⟨hz33, hf⟩ := chk_some hf
    cases hf
    exact g_zret F hP hr hlk hz33 d_TM_isSound_78
  unfold l_TM_isSound_4 at hlp31
  refine lp_W (PW := fun q => ∀ (ls : Array Slot) (H : Heap) (locs : List Loc), lv_has ls 3 [(0, .ref (xL X 0 0)), (1, .int q.1), (2, .int q.2.1)] → St X n q.2.2 s.heap H locs → WG l X n rm_TM_isSound σ' (some (.int r)) p e s m args below meth c H locs (F0 m 4 ls [])) (PE := fun q => ∀ (ls : Array Slot) (H : Heap) (locs : List Loc), lv_has ls 3 [(1, .int q.1)] → St X n q.2 s.heap H locs → WG l X n rm_TM_isSound σ' (some (.int r)) p e s m args below meth c H locs (F0 m 77 ls [])) ?_ _ _ _ hlp31 KX32 _ _ _ (lv_sub hl [2, 1, 0] rfl) hP
  rintro ⟨x1, x2, σ3⟩ rr4 hb_4 hI5 hE6 ls H locs hl hP
  replace hb_4 : b_TM_isSound_4  x1 x2 σ3 = some rr4 := hb_4
  unfold b_TM_isSound_4 at hb_4
  refine lv_iload_n F.1 F.2.1 d_TM_isSound_4 rfl (lv_at hl 2 rfl) ?_
  refine lv_aload_n F.1 F.2.1 d_TM_isSound_5 rfl (lv_at hl 0 rfl) ?_
  refine g_get F hP 0 8 0 (by decide) Nat.zero_lt_one (by decide) (v := .int (gi σ3 0 0 8)) rfl w_178 d_TM_isSound_6 ?_
  refine lv_icmp_ge F.1 F.2.1 d_TM_isSound_9 rfl (fun hb28 => ?_) (fun hb28 => ?_)
  · rw [if_pos hb28] at hb_4
    cases hb_4
    exact hE6 _ rfl _ _ _ (lv_sub hl [1] rfl) hP
  · rw [if_neg hb28] at hb_4
    refine lv_iload_n F.1 F.2.1 d_TM_isSound_12 rfl (lv_at hl 1 rfl) ?_
    obtain ⟨x7, σ8, hj10, hb_4⟩ := bn2_some hb_4
    have KJ9 : ∀ (ls : Array Slot) (H : Heap) (locs : List Loc), lv_has ls 3 [(0, .ref (xL X 0 0)), (2, .int x2)] → St X n σ8 s.heap H locs → WG l X n rm_TM_isSound σ' (some (.int r)) p e s m args below meth c H locs (F0 m 70 ls [.int x7]) := by
      intro ls H locs hl hP
      refine lv_istore_n F.1 F.2.1 d_TM_isSound_70 rfl hl (by decide) rfl (fun ls hl => ?_)
      have hl : lv_has ls 3 [(1, .int x7), (0, .ref (xL X 0 0)), (2, .int x2)] := hl
      obtain ⟨x27, e_x27, hb_4⟩ := lt_some hb_4
      refine lv_iinc (k := 2) (v := x27) F.1 F.2.1 d_TM_isSound_71 hl rfl (by rw [e_x27]; rfl) (by decide) rfl (fun ls hl => ?_)
      have hl : lv_has ls 3 [(2, .int x27), (1, .int x7), (0, .ref (xL X 0 0))] := hl
      refine lv_goto F.1 F.2.1 d_TM_isSound_74 rfl ?_
      cases hb_4
      exact hI5 _ rfl _ _ _ (lv_sub hl [2, 1, 0] rfl) hP
    refine lv_if_eq F.1 F.2.1 d_TM_isSound_13 rfl (fun hb26 => ?_) (fun hb26 => ?_)
    · rw [if_pos hb26] at hj10
      refine lv_iconst (v := 0) F.1 F.2.1 d_TM_isSound_69 (by decide) ?_
      cases hj10
      exact KJ9 _ _ _ (lv_sub hl [0, 2] rfl) hP
    · rw [if_neg hb26] at hj10
      refine lv_aload_n F.1 F.2.1 d_TM_isSound_16 rfl (lv_at hl 0 rfl) ?_
      refine g_get F hP 0 7 0 (by decide) Nat.zero_lt_one (by decide) (v := .ref (xL X 19 0)) rfl w_177 d_TM_isSound_17 ?_
      refine lv_iload_n F.1 F.2.1 d_TM_isSound_20 rfl (lv_at hl 2 rfl) ?_
      obtain ⟨hc11, hj10⟩ := chk_some hj10
      refine g_rld F hP 19 (by decide) (by decide) Nat.zero_lt_one rfl hc11 (v := .ref (xL X 6 x2.toNatClampNeg)) rfl d_TM_isSound_21 ?_
      obtain ⟨r14, σ12, hk13, hj10⟩ := bn2_some hj10
      refine g_callV (As := []) (rest := []) F hP 6 x2.toNatClampNeg (by decide) (vin_lt hc11) (c_In_goal l X n (vin_lt hc11) hk13) rfl q_In_goal w_743 w_8 w_740 w_741 w_742 ⟨rfl, rfl⟩ ⟨by decide, by decide⟩ hl.1 (Nat.le_of_ble_eq_true rfl) ⟨Nat.zero_le _, Nat.zero_le _⟩ d_TM_isSound_22 rfl (fun H locs hP => ?_)
      refine W.eq (g2 := F0 m 25 ls [.int r14]) rfl ?_
      refine lv_aload_n F.1 F.2.1 d_TM_isSound_25 rfl (lv_at hl 0 rfl) ?_
      refine g_get F hP 0 8 0 (by decide) Nat.zero_lt_one (by decide) (v := .int (gi σ12 0 0 8)) rfl w_178 d_TM_isSound_26 ?_
      refine lv_icmp_gt F.1 F.2.1 d_TM_isSound_29 rfl (fun hb25 => ?_) (fun hb25 => ?_)
      · rw [if_pos hb25] at hj10
        refine lv_iconst (v := 0) F.1 F.2.1 d_TM_isSound_69 (by decide) ?_
        cases hj10
        exact KJ9 _ _ _ (lv_sub hl [0, 2] rfl) hP
      · rw [if_neg hb25] at hj10
        refine lv_aload_n F.1 F.2.1 d_TM_isSound_32 rfl (lv_at hl 0 rfl) ?_
        refine g_get F hP 0 7 0 (by decide) Nat.zero_lt_one (by decide) (v := .ref (xL X 19 0)) rfl w_177 d_TM_isSound_33 ?_
        refine lv_iload_n F.1 F.2.1 d_TM_isSound_36 rfl (lv_at hl 2 rfl) ?_
        obtain ⟨hc15, hj10⟩ := chk_some hj10
        refine g_rld F hP 19 (by decide) (by decide) Nat.zero_lt_one rfl hc15 (v := .ref (xL X 6 x2.toNatClampNeg)) rfl d_TM_isSound_37 ?_
        obtain ⟨o16, e_o16, hj10⟩ := bnd_some hj10
        obtain ⟨hc17, hj10⟩ := chk_some hj10
        refine g_getN F hP 6 0 x2.toNatClampNeg (by decide) (vin_lt hc15) (by decide) (v := .ref (xad X o16)) (fv_op e_o16) w_125 d_TM_isSound_38 ?_
        refine g_enum F hP 1 (by decide) w_745 d_TM_isSound_41 ?_
        refine g_acmp_ne F hc17 (by decide) d_TM_isSound_44 rfl (fun hb24 => ?_) (fun hb24 => ?_)
        · rw [if_neg hb24] at hj10
          refine lv_iconst (v := 1) F.1 F.2.1 d_TM_isSound_65 (by decide) ?_
          refine lv_goto F.1 F.2.1 d_TM_isSound_66 rfl ?_
          cases hj10
          exact KJ9 _ _ _ (lv_sub hl [0, 2] rfl) hP
        · rw [if_pos hb24] at hj10
          refine lv_aload_n F.1 F.2.1 d_TM_isSound_47 rfl (lv_at hl 0 rfl) ?_
          refine lv_aload_n F.1 F.2.1 d_TM_isSound_48 rfl (lv_at hl 0 rfl) ?_
          refine g_get F hP 0 7 0 (by decide) Nat.zero_lt_one (by decide) (v := .ref (xL X 19 0)) rfl w_177 d_TM_isSound_49 ?_
          refine lv_iload_n F.1 F.2.1 d_TM_isSound_52 rfl (lv_at hl 2 rfl) ?_
          obtain ⟨hc18, hj10⟩ := chk_some hj10
          refine g_rld F hP 19 (by decide) (by decide) Nat.zero_lt_one rfl hc18 (v := .ref (xL X 6 x2.toNatClampNeg)) rfl d_TM_isSound_53 ?_
          refine g_getN F hP 6 1 x2.toNatClampNeg (by decide) (vin_lt hc18) (by decide) (v := .ref (xL X 16 x2.toNatClampNeg)) rfl w_127 d_TM_isSound_54 ?_
          refine lv_iconst (v := 1) F.1 F.2.1 d_TM_isSound_57 (by decide) ?_
          obtain ⟨hc19, hj10⟩ := chk_some hj10
          refine g_ald F hP 16 (by decide) (by decide) (vin_lt hc18) rfl rfl hc19 d_TM_isSound_58 ?_
          obtain ⟨r22, σ20, hk21, hj10⟩ := bn2_some hj10
          refine g_callV (As := [.int (gi σ12 16 x2.toNatClampNeg ((1 : Int32).toNatClampNeg))]) (rest := []) F hP 0 0 (by decide) Nat.zero_lt_one (c_TM_isTable l X n  hk21) rfl q_TM_isTable w_262 w_1 w_259 w_261 wp_0 ⟨rfl, rfl⟩ ⟨by decide, by decide⟩ hl.1 (Nat.le_of_ble_eq_true rfl) ⟨Nat.zero_le _, Nat.zero_le _⟩ d_TM_isSound_59 rfl (fun H locs hP => ?_)
          refine W.eq (g2 := F0 m 62 ls [.int r22]) rfl ?_
          refine lv_if_eq F.1 F.2.1 d_TM_isSound_62 rfl (fun hb23 => ?_) (fun hb23 => ?_)
          · rw [if_pos hb23] at hj10
            refine lv_iconst (v := 0) F.1 F.2.1 d_TM_isSound_69 (by decide) ?_
            cases hj10
            exact KJ9 _ _ _ (lv_sub hl [0, 2] rfl) hP
          · rw [if_neg hb23] at hj10
            refine lv_iconst (v := 1) F.1 F.2.1 d_TM_isSound_65 (by decide) ?_
            refine lv_goto F.1 F.2.1 d_TM_isSound_66 rfl ?_
            cases hj10
            exact KJ9 _ _ _ (lv_sub hl [0, 2] rfl) hP

theorem d_TM_ask_0 : decode b_TM_ask 0 = .ok (.aload_n 0, 1) := by decide +kernel
theorem d_TM_ask_1 : decode b_TM_ask 1 = .ok (.iload_n 1, 1) := by decide +kernel
theorem d_TM_ask_2 : decode b_TM_ask 2 = .ok (.invokevirtual 118, 3) := by decide +kernel
theorem d_TM_ask_5 : decode b_TM_ask 5 = .ok (.ifCond .eq 16, 3) := by decide +kernel
theorem d_TM_ask_8 : decode b_TM_ask 8 = .ok (.iload_n 2, 1) := by decide +kernel
theorem d_TM_ask_9 : decode b_TM_ask 9 = .ok (.iconst (-1), 1) := by decide +kernel
theorem d_TM_ask_10 : decode b_TM_ask 10 = .ok (.if_icmp .eq 13, 3) := by decide +kernel
theorem d_TM_ask_13 : decode b_TM_ask 13 = .ok (.aload_n 0, 1) := by decide +kernel
theorem d_TM_ask_14 : decode b_TM_ask 14 = .ok (.iload_n 2, 1) := by decide +kernel
theorem d_TM_ask_15 : decode b_TM_ask 15 = .ok (.invokevirtual 118, 3) := by decide +kernel
theorem d_TM_ask_18 : decode b_TM_ask 18 = .ok (.ifCond .ne 5, 3) := by decide +kernel
theorem d_TM_ask_21 : decode b_TM_ask 21 = .ok (.iconst 0, 1) := by decide +kernel
theorem d_TM_ask_22 : decode b_TM_ask 22 = .ok (.ireturn, 1) := by decide +kernel
theorem d_TM_ask_23 : decode b_TM_ask 23 = .ok (.aload_n 0, 1) := by decide +kernel
theorem d_TM_ask_24 : decode b_TM_ask 24 = .ok (.iload_n 1, 1) := by decide +kernel
theorem d_TM_ask_25 : decode b_TM_ask 25 = .ok (.putfield 67, 3) := by decide +kernel
theorem d_TM_ask_28 : decode b_TM_ask 28 = .ok (.aload_n 0, 1) := by decide +kernel
theorem d_TM_ask_29 : decode b_TM_ask 29 = .ok (.iload_n 2, 1) := by decide +kernel
theorem d_TM_ask_30 : decode b_TM_ask 30 = .ok (.putfield 71, 3) := by decide +kernel
theorem d_TM_ask_33 : decode b_TM_ask 33 = .ok (.aload_n 0, 1) := by decide +kernel
theorem d_TM_ask_34 : decode b_TM_ask 34 = .ok (.iconst 0, 1) := by decide +kernel
theorem d_TM_ask_35 : decode b_TM_ask 35 = .ok (.putfield 281, 3) := by decide +kernel
theorem d_TM_ask_38 : decode b_TM_ask 38 = .ok (.aload_n 0, 1) := by decide +kernel
theorem d_TM_ask_39 : decode b_TM_ask 39 = .ok (.iconst 0, 1) := by decide +kernel
theorem d_TM_ask_40 : decode b_TM_ask 40 = .ok (.putfield 284, 3) := by decide +kernel
theorem d_TM_ask_43 : decode b_TM_ask 43 = .ok (.aload_n 0, 1) := by decide +kernel
theorem d_TM_ask_44 : decode b_TM_ask 44 = .ok (.iconst 0, 1) := by decide +kernel
theorem d_TM_ask_45 : decode b_TM_ask 45 = .ok (.putfield 287, 3) := by decide +kernel
theorem d_TM_ask_48 : decode b_TM_ask 48 = .ok (.iconst 1, 1) := by decide +kernel
theorem d_TM_ask_49 : decode b_TM_ask 49 = .ok (.ireturn, 1) := by decide +kernel
noncomputable def f_TM_ask (a1 : Int32) (a2 : Int32) (σ : Sg) : Option (Int32 × Sg) :=
  bn2 (f_TM_isTable a1 σ) (fun r3 σ1 => (if r3 = 0 then (some (0, σ1)) else (if a2 = (-1) then (lt_ (si σ1 0 0 15 a1) (fun σ4 => lt_ (si σ4 0 0 16 a2) (fun σ5 => lt_ (si σ5 0 0 18 0) (fun σ6 => lt_ (si σ6 0 0 20 0) (fun σ7 => lt_ (si σ7 0 0 21 0) (fun σ8 => some (1, σ8))))))) else (bn2 (f_TM_isTable a2 σ1) (fun r11 σ9 => (if r11 = 0 then (some (0, σ9)) else (lt_ (si σ9 0 0 15 a1) (fun σ12 => lt_ (si σ12 0 0 16 a2) (fun σ13 => lt_ (si σ13 0 0 18 0) (fun σ14 => lt_ (si σ14 0 0 20 0) (fun σ15 => lt_ (si σ15 0 0 21 0) (fun σ16 => some (1, σ16)))))))))))))
abbrev rm_TM_ask : Room := { frames := 1, cells := 0, slots := 0, locals := 21 }
set_option maxHeartbeats 4000000 in
set_option maxRecDepth 100000 in
theorem c_TM_ask (l : Launch) (X : GX) (n : Nat) {σ σ' : Sg} {r : Int32} {a1 : Int32} {a2 : Int32}  (hf : f_TM_ask a1 a2 σ = some (r, σ')) : Met l y_TM_ask (cw y_TM_ask b_TM_ask 3 (some .boolean)) rm_TM_ask (PcG X n σ [.ref (xL X 0 0), .int a1, .int a2]) (QcG X n σ' (some (.int r))) 0 0 (fr X n) := by
  refine g_head (own := "TableMachine") (by decide) rfl (Nat.le_of_ble_eq_true rfl) ?_
  intro p e s m args below meth c ls F hr hlk hP hl
  have hl : lv_has ls 3 [(0, .ref (xL X 0 0)), (1, .int a1), (2, .int a2)] := hl
  show WG l X n rm_TM_ask σ' (some (.int r)) p e s m args below meth c s.heap [] (F0 m 0 ls [])
  unfold f_TM_ask at hf
  refine lv_aload_n F.1 F.2.1 d_TM_ask_0 rfl (lv_at hl 0 rfl) ?_
  refine lv_iload_n F.1 F.2.1 d_TM_ask_1 rfl (lv_at hl 1 rfl) ?_
  obtain ⟨r3, σ1, hk2, hf⟩ := bn2_some hf
  refine g_callV (As := [.int a1]) (rest := []) F hP 0 0 (by decide) Nat.zero_lt_one (c_TM_isTable l X n  hk2) rfl q_TM_isTable w_262 w_1 w_259 w_261 wp_0 ⟨rfl, rfl⟩ ⟨by decide, by decide⟩ hl.1 (Nat.le_of_ble_eq_true rfl) ⟨Nat.zero_le _, Nat.zero_le _⟩ d_TM_ask_2 rfl (fun H locs hP => ?_)
  refine W.eq (g2 := F0 m 5 ls [.int r3]) rfl ?_
  refine lv_if_eq F.1 F.2.1 d_TM_ask_5 rfl (fun hb19 => ?_) (fun hb19 => ?_)
  · rw [if_pos hb19] at hf
    refine lv_iconst (v := 0) F.1 F.2.1 d_TM_ask_21 (by decide) ?_
    cases hf
    exact g_zret F hP hr hlk zb0 d_TM_ask_22
  · rw [if_neg hb19] at hf
    refine lv_iload_n F.1 F.2.1 d_TM_ask_8 rfl (lv_at hl 2 rfl) ?_
    refine lv_iconst (v := (-1)) F.1 F.2.1 d_TM_ask_9 (by decide) ?_
    refine lv_icmp_eq F.1 F.2.1 d_TM_ask_10 rfl (fun hb18 => ?_) (fun hb18 => ?_)
    · rw [if_pos hb18] at hf
      refine lv_aload_n F.1 F.2.1 d_TM_ask_23 rfl (lv_at hl 0 rfl) ?_
      refine lv_iload_n F.1 F.2.1 d_TM_ask_24 rfl (lv_at hl 1 rfl) ?_
      obtain ⟨σ4, e_σ4, hf⟩ := lt_some hf
      refine g_puti F hP 0 15 0 (by decide) Nat.zero_lt_one (by decide) rfl rfl rfl rfl (Or.inl w_185) d_TM_ask_25 e_σ4 (fun H locs hP => ?_)
      refine lv_aload_n F.1 F.2.1 d_TM_ask_28 rfl (lv_at hl 0 rfl) ?_
      refine lv_iload_n F.1 F.2.1 d_TM_ask_29 rfl (lv_at hl 2 rfl) ?_
      obtain ⟨σ5, e_σ5, hf⟩ := lt_some hf
      refine g_puti F hP 0 16 0 (by decide) Nat.zero_lt_one (by decide) rfl rfl rfl rfl (Or.inl w_186) d_TM_ask_30 e_σ5 (fun H locs hP => ?_)
      refine lv_aload_n F.1 F.2.1 d_TM_ask_33 rfl (lv_at hl 0 rfl) ?_
      refine lv_iconst (v := 0) F.1 F.2.1 d_TM_ask_34 (by decide) ?_
      obtain ⟨σ6, e_σ6, hf⟩ := lt_some hf
      refine g_puti F hP 0 18 0 (by decide) Nat.zero_lt_one (by decide) rfl rfl rfl rfl (Or.inl w_188) d_TM_ask_35 e_σ6 (fun H locs hP => ?_)
      refine lv_aload_n F.1 F.2.1 d_TM_ask_38 rfl (lv_at hl 0 rfl) ?_
      refine lv_iconst (v := 0) F.1 F.2.1 d_TM_ask_39 (by decide) ?_
      obtain ⟨σ7, e_σ7, hf⟩ := lt_some hf
      refine g_puti F hP 0 20 0 (by decide) Nat.zero_lt_one (by decide) rfl rfl rfl rfl (Or.inl w_190) d_TM_ask_40 e_σ7 (fun H locs hP => ?_)
      refine lv_aload_n F.1 F.2.1 d_TM_ask_43 rfl (lv_at hl 0 rfl) ?_
      refine lv_iconst (v := 0) F.1 F.2.1 d_TM_ask_44 (by decide) ?_
      obtain ⟨σ8, e_σ8, hf⟩ := lt_some hf
      refine g_puti F hP 0 21 0 (by decide) Nat.zero_lt_one (by decide) rfl rfl (zb_n zb0) (zb_f zb0) (Or.inl w_191) d_TM_ask_45 e_σ8 (fun H locs hP => ?_)
      refine lv_iconst (v := 1) F.1 F.2.1 d_TM_ask_48 (by decide) ?_
      cases hf
      exact g_zret F hP hr hlk zb1 d_TM_ask_49
    · rw [if_neg hb18] at hf
      refine lv_aload_n F.1 F.2.1 d_TM_ask_13 rfl (lv_at hl 0 rfl) ?_
      refine lv_iload_n F.1 F.2.1 d_TM_ask_14 rfl (lv_at hl 2 rfl) ?_
      obtain ⟨r11, σ9, hk10, hf⟩ := bn2_some hf
      refine g_callV (As := [.int a2]) (rest := []) F hP 0 0 (by decide) Nat.zero_lt_one (c_TM_isTable l X n  hk10) rfl q_TM_isTable w_262 w_1 w_259 w_261 wp_0 ⟨rfl, rfl⟩ ⟨by decide, by decide⟩ hl.1 (Nat.le_of_ble_eq_true rfl) ⟨Nat.zero_le _, Nat.zero_le _⟩ d_TM_ask_15 rfl (fun H locs hP => ?_)
      refine W.eq (g2 := F0 m 18 ls [.int r11]) rfl ?_
      refine lv_if_ne F.1 F.2.1 d_TM_ask_18 rfl (fun hb17 => ?_) (fun hb17 => ?_)
      · rw [if_neg hb17] at hf
        refine lv_aload_n F.1 F.2.1 d_TM_ask_23 rfl (lv_at hl 0 rfl) ?_
        refine lv_iload_n F.1 F.2.1 d_TM_ask_24 rfl (lv_at hl 1 rfl) ?_
        obtain ⟨σ12, e_σ12, hf⟩ := lt_some hf
        refine g_puti F hP 0 15 0 (by decide) Nat.zero_lt_one (by decide) rfl rfl rfl rfl (Or.inl w_185) d_TM_ask_25 e_σ12 (fun H locs hP => ?_)
        refine lv_aload_n F.1 F.2.1 d_TM_ask_28 rfl (lv_at hl 0 rfl) ?_
        refine lv_iload_n F.1 F.2.1 d_TM_ask_29 rfl (lv_at hl 2 rfl) ?_
        obtain ⟨σ13, e_σ13, hf⟩ := lt_some hf
        refine g_puti F hP 0 16 0 (by decide) Nat.zero_lt_one (by decide) rfl rfl rfl rfl (Or.inl w_186) d_TM_ask_30 e_σ13 (fun H locs hP => ?_)
        refine lv_aload_n F.1 F.2.1 d_TM_ask_33 rfl (lv_at hl 0 rfl) ?_
        refine lv_iconst (v := 0) F.1 F.2.1 d_TM_ask_34 (by decide) ?_
        obtain ⟨σ14, e_σ14, hf⟩ := lt_some hf
        refine g_puti F hP 0 18 0 (by decide) Nat.zero_lt_one (by decide) rfl rfl rfl rfl (Or.inl w_188) d_TM_ask_35 e_σ14 (fun H locs hP => ?_)
        refine lv_aload_n F.1 F.2.1 d_TM_ask_38 rfl (lv_at hl 0 rfl) ?_
        refine lv_iconst (v := 0) F.1 F.2.1 d_TM_ask_39 (by decide) ?_
        obtain ⟨σ15, e_σ15, hf⟩ := lt_some hf
        refine g_puti F hP 0 20 0 (by decide) Nat.zero_lt_one (by decide) rfl rfl rfl rfl (Or.inl w_190) d_TM_ask_40 e_σ15 (fun H locs hP => ?_)
        refine lv_aload_n F.1 F.2.1 d_TM_ask_43 rfl (lv_at hl 0 rfl) ?_
        refine lv_iconst (v := 0) F.1 F.2.1 d_TM_ask_44 (by decide) ?_
        obtain ⟨σ16, e_σ16, hf⟩ := lt_some hf
        refine g_puti F hP 0 21 0 (by decide) Nat.zero_lt_one (by decide) rfl rfl (zb_n zb0) (zb_f zb0) (Or.inl w_191) d_TM_ask_45 e_σ16 (fun H locs hP => ?_)
        refine lv_iconst (v := 1) F.1 F.2.1 d_TM_ask_48 (by decide) ?_
        cases hf
        exact g_zret F hP hr hlk zb1 d_TM_ask_49
      · rw [if_pos hb17] at hf
        refine lv_iconst (v := 0) F.1 F.2.1 d_TM_ask_21 (by decide) ?_
        cases hf
        exact g_zret F hP hr hlk zb0 d_TM_ask_22

theorem d_TM_isColumn_0 : decode b_TM_isColumn 0 = .ok (.iload_n 1, 1) := by decide +kernel
theorem d_TM_isColumn_1 : decode b_TM_isColumn 1 = .ok (.ifCond .ne 10, 3) := by decide +kernel
theorem d_TM_isColumn_4 : decode b_TM_isColumn 4 = .ok (.aload_n 0, 1) := by decide +kernel
theorem d_TM_isColumn_5 : decode b_TM_isColumn 5 = .ok (.getfield 67, 3) := by decide +kernel
theorem d_TM_isColumn_8 : decode b_TM_isColumn 8 = .ok (.goto 16, 3) := by decide +kernel
theorem d_TM_isColumn_11 : decode b_TM_isColumn 11 = .ok (.iload_n 1, 1) := by decide +kernel
theorem d_TM_isColumn_12 : decode b_TM_isColumn 12 = .ok (.iconst 1, 1) := by decide +kernel
theorem d_TM_isColumn_13 : decode b_TM_isColumn 13 = .ok (.if_icmp .ne 10, 3) := by decide +kernel
theorem d_TM_isColumn_16 : decode b_TM_isColumn 16 = .ok (.aload_n 0, 1) := by decide +kernel
theorem d_TM_isColumn_17 : decode b_TM_isColumn 17 = .ok (.getfield 71, 3) := by decide +kernel
theorem d_TM_isColumn_20 : decode b_TM_isColumn 20 = .ok (.goto 4, 3) := by decide +kernel
theorem d_TM_isColumn_23 : decode b_TM_isColumn 23 = .ok (.iconst (-1), 1) := by decide +kernel
theorem d_TM_isColumn_24 : decode b_TM_isColumn 24 = .ok (.istore_n 3, 1) := by decide +kernel
theorem d_TM_isColumn_25 : decode b_TM_isColumn 25 = .ok (.iload_n 3, 1) := by decide +kernel
theorem d_TM_isColumn_26 : decode b_TM_isColumn 26 = .ok (.iconst (-1), 1) := by decide +kernel
theorem d_TM_isColumn_27 : decode b_TM_isColumn 27 = .ok (.if_icmp .eq 25, 3) := by decide +kernel
theorem d_TM_isColumn_30 : decode b_TM_isColumn 30 = .ok (.iload_n 2, 1) := by decide +kernel
theorem d_TM_isColumn_31 : decode b_TM_isColumn 31 = .ok (.iconst (-1), 1) := by decide +kernel
theorem d_TM_isColumn_32 : decode b_TM_isColumn 32 = .ok (.if_icmp .lt 20, 3) := by decide +kernel
theorem d_TM_isColumn_35 : decode b_TM_isColumn 35 = .ok (.iload_n 2, 1) := by decide +kernel
theorem d_TM_isColumn_36 : decode b_TM_isColumn 36 = .ok (.aload_n 0, 1) := by decide +kernel
theorem d_TM_isColumn_37 : decode b_TM_isColumn 37 = .ok (.getfield 18, 3) := by decide +kernel
theorem d_TM_isColumn_40 : decode b_TM_isColumn 40 = .ok (.iload_n 3, 1) := by decide +kernel
theorem d_TM_isColumn_41 : decode b_TM_isColumn 41 = .ok (.aaload, 1) := by decide +kernel
theorem d_TM_isColumn_42 : decode b_TM_isColumn 42 = .ok (.getfield 148, 3) := by decide +kernel
theorem d_TM_isColumn_45 : decode b_TM_isColumn 45 = .ok (.if_icmp .ge 7, 3) := by decide +kernel
theorem d_TM_isColumn_48 : decode b_TM_isColumn 48 = .ok (.iconst 1, 1) := by decide +kernel
theorem d_TM_isColumn_49 : decode b_TM_isColumn 49 = .ok (.goto 4, 3) := by decide +kernel
theorem d_TM_isColumn_52 : decode b_TM_isColumn 52 = .ok (.iconst 0, 1) := by decide +kernel
theorem d_TM_isColumn_53 : decode b_TM_isColumn 53 = .ok (.ireturn, 1) := by decide +kernel
noncomputable def f_TM_isColumn (a1 : Int32) (a2 : Int32) (σ : Sg) : Option (Int32 × Sg) :=
  lt_ ((if a1 = 0 then (gi σ 0 0 15) else (if a1 = 1 then (gi σ 0 0 16) else (-1))) : Int32) (fun (x1 : Int32) => Option.bind (if x1 = (-1) then (some (0)) else (if a2 < (-1) then (some (0)) else (chk (vp_in x1 3) (chk (x1.toNatClampNeg < nt σ) ((if (gi σ 3 x1.toNatClampNeg 2) ≤ a2 then (some (0)) else (some (1)))))))) (fun (x6 : Int32) => chk (zb x6) (some (x6, σ))))
abbrev rm_TM_isColumn : Room := { frames := 0, cells := 0, slots := 0, locals := 0 }
set_option maxHeartbeats 4000000 in
set_option maxRecDepth 100000 in
theorem c_TM_isColumn (l : Launch) (X : GX) (n : Nat) {σ σ' : Sg} {r : Int32} {a1 : Int32} {a2 : Int32}  (hf : f_TM_isColumn a1 a2 σ = some (r, σ')) : Met l y_TM_isColumn (cw y_TM_isColumn b_TM_isColumn 4 (some .boolean)) rm_TM_isColumn (PcG X n σ [.ref (xL X 0 0), .int a1, .int a2]) (QcG X n σ' (some (.int r))) 0 0 (fr X n) := by
  refine g_head (own := "TableMachine") (by decide) rfl (Nat.le_of_ble_eq_true rfl) ?_
  intro p e s m args below meth c ls F hr hlk hP hl
  have hl : lv_has ls 4 [(0, .ref (xL X 0 0)), (1, .int a1), (2, .int a2)] := hl
  show WG l X n rm_TM_isColumn σ' (some (.int r)) p e s m args below meth c s.heap [] (F0 m 0 ls [])
  unfold f_TM_isColumn at hf
  refine lv_iload_n F.1 F.2.1 d_TM_isColumn_0 rfl (lv_at hl 1 rfl) ?_
  obtain ⟨x1, hj3, hf⟩ := lt_some2 hf
  have KJ2 : ∀ (ls : Array Slot) (H : Heap) (locs : List Loc), lv_has ls 4 [(0, .ref (xL X 0 0)), (2, .int a2)] → St X n σ s.heap H locs → WG l X n rm_TM_isColumn σ' (some (.int r)) p e s m args below meth c H locs (F0 m 24 ls [.int x1]) := by
    intro ls H locs hl hP
    refine lv_istore_n F.1 F.2.1 d_TM_isColumn_24 rfl hl (by decide) rfl (fun ls hl => ?_)
    have hl : lv_has ls 4 [(3, .int x1), (0, .ref (xL X 0 0)), (2, .int a2)] := hl
    refine lv_iload_n F.1 F.2.1 d_TM_isColumn_25 rfl (lv_at hl 0 rfl) ?_
    refine lv_iconst (v := (-1)) F.1 F.2.1 d_TM_isColumn_26 (by decide) ?_
    obtain ⟨x6, hj8, hf⟩ := bnd_some hf
    have KJ7 : ∀ (ls : Array Slot) (H : Heap) (locs : List Loc), lv_has ls 4 [] → St X n σ s.heap H locs → WG l X n rm_TM_isColumn σ' (some (.int r)) p e s m args below meth c H locs (F0 m 53 ls [.int x6]) := by
      intro ls H locs hl hP
      obtain ⟨hz15, hf⟩ := chk_some hf
      cases hf
      exact g_zret F hP hr hlk hz15 d_TM_isColumn_53
    refine lv_icmp_eq F.1 F.2.1 d_TM_isColumn_27 rfl (fun hb14 => ?_) (fun hb14 => ?_)
    · rw [if_pos hb14] at hj8
      refine lv_iconst (v := 0) F.1 F.2.1 d_TM_isColumn_52 (by decide) ?_
      cases hj8
      exact KJ7 _ _ _ (lv_sub hl [] rfl) hP
    · rw [if_neg hb14] at hj8
      refine lv_iload_n F.1 F.2.1 d_TM_isColumn_30 rfl (lv_at hl 2 rfl) ?_
      refine lv_iconst (v := (-1)) F.1 F.2.1 d_TM_isColumn_31 (by decide) ?_
      refine lv_icmp_lt F.1 F.2.1 d_TM_isColumn_32 rfl (fun hb13 => ?_) (fun hb13 => ?_)
      · rw [if_pos hb13] at hj8
        refine lv_iconst (v := 0) F.1 F.2.1 d_TM_isColumn_52 (by decide) ?_
        cases hj8
        exact KJ7 _ _ _ (lv_sub hl [] rfl) hP
      · rw [if_neg hb13] at hj8
        refine lv_iload_n F.1 F.2.1 d_TM_isColumn_35 rfl (lv_at hl 2 rfl) ?_
        refine lv_aload_n F.1 F.2.1 d_TM_isColumn_36 rfl (lv_at hl 1 rfl) ?_
        refine g_get F hP 0 1 0 (by decide) Nat.zero_lt_one (by decide) (v := .ref (xL X 17 0)) rfl w_171 d_TM_isColumn_37 ?_
        refine lv_iload_n F.1 F.2.1 d_TM_isColumn_40 rfl (lv_at hl 0 rfl) ?_
        obtain ⟨hc9, hj8⟩ := chk_some hj8
        obtain ⟨hc10, hj8⟩ := chk_some hj8
        have hv11 : x1.toNatClampNeg < cnt n 3 := hP.lt hc10
        refine g_rld F hP 17 (by decide) (by decide) Nat.zero_lt_one rfl hc9 (v := .ref (xL X 3 x1.toNatClampNeg)) (av_tab hc10) d_TM_isColumn_41 ?_
        refine g_getN F hP 3 2 x1.toNatClampNeg (by decide) hv11 (by decide) (v := .int (gi σ 3 x1.toNatClampNeg 2)) rfl w_399 d_TM_isColumn_42 ?_
        refine lv_icmp_ge F.1 F.2.1 d_TM_isColumn_45 rfl (fun hb12 => ?_) (fun hb12 => ?_)
        · rw [if_pos hb12] at hj8
          refine lv_iconst (v := 0) F.1 F.2.1 d_TM_isColumn_52 (by decide) ?_
          cases hj8
          exact KJ7 _ _ _ (lv_sub hl [] rfl) hP
        · rw [if_neg hb12] at hj8
          refine lv_iconst (v := 1) F.1 F.2.1 d_TM_isColumn_48 (by decide) ?_
          refine lv_goto F.1 F.2.1 d_TM_isColumn_49 rfl ?_
          cases hj8
          exact KJ7 _ _ _ (lv_sub hl [] rfl) hP
  refine lv_if_ne F.1 F.2.1 d_TM_isColumn_1 rfl (fun hb5 => ?_) (fun hb5 => ?_)
  · rw [if_neg hb5] at hj3
    refine lv_iload_n F.1 F.2.1 d_TM_isColumn_11 rfl (lv_at hl 1 rfl) ?_
    refine lv_iconst (v := 1) F.1 F.2.1 d_TM_isColumn_12 (by decide) ?_
    refine lv_icmp_ne F.1 F.2.1 d_TM_isColumn_13 rfl (fun hb4 => ?_) (fun hb4 => ?_)
    · rw [if_neg hb4] at hj3
      refine lv_iconst (v := (-1)) F.1 F.2.1 d_TM_isColumn_23 (by decide) ?_
      subst hj3
      exact KJ2 _ _ _ (lv_sub hl [0, 2] rfl) hP
    · rw [if_pos hb4] at hj3
      refine lv_aload_n F.1 F.2.1 d_TM_isColumn_16 rfl (lv_at hl 0 rfl) ?_
      refine g_get F hP 0 16 0 (by decide) Nat.zero_lt_one (by decide) (v := .int (gi σ 0 0 16)) rfl w_186 d_TM_isColumn_17 ?_
      refine lv_goto F.1 F.2.1 d_TM_isColumn_20 rfl ?_
      subst hj3
      exact KJ2 _ _ _ (lv_sub hl [0, 2] rfl) hP
  · rw [if_pos hb5] at hj3
    refine lv_aload_n F.1 F.2.1 d_TM_isColumn_4 rfl (lv_at hl 0 rfl) ?_
    refine g_get F hP 0 15 0 (by decide) Nat.zero_lt_one (by decide) (v := .int (gi σ 0 0 15)) rfl w_185 d_TM_isColumn_5 ?_
    refine lv_goto F.1 F.2.1 d_TM_isColumn_8 rfl ?_
    subst hj3
    exact KJ2 _ _ _ (lv_sub hl [0, 2] rfl) hP

theorem d_TM_output_0 : decode b_TM_output 0 = .ok (.aload_n 0, 1) := by decide +kernel
theorem d_TM_output_1 : decode b_TM_output 1 = .ok (.getfield 284, 3) := by decide +kernel
theorem d_TM_output_4 : decode b_TM_output 4 = .ok (.iconst 4, 1) := by decide +kernel
theorem d_TM_output_5 : decode b_TM_output 5 = .ok (.if_icmp .eq 12, 3) := by decide +kernel
theorem d_TM_output_8 : decode b_TM_output 8 = .ok (.aload_n 0, 1) := by decide +kernel
theorem d_TM_output_9 : decode b_TM_output 9 = .ok (.iload_n 1, 1) := by decide +kernel
theorem d_TM_output_10 : decode b_TM_output 10 = .ok (.iload_n 2, 1) := by decide +kernel
theorem d_TM_output_11 : decode b_TM_output 11 = .ok (.invokevirtual 290, 3) := by decide +kernel
theorem d_TM_output_14 : decode b_TM_output 14 = .ok (.ifCond .ne 5, 3) := by decide +kernel
theorem d_TM_output_17 : decode b_TM_output 17 = .ok (.iconst 0, 1) := by decide +kernel
theorem d_TM_output_18 : decode b_TM_output 18 = .ok (.ireturn, 1) := by decide +kernel
theorem d_TM_output_19 : decode b_TM_output 19 = .ok (.aload_n 0, 1) := by decide +kernel
theorem d_TM_output_20 : decode b_TM_output 20 = .ok (.getfield 80, 3) := by decide +kernel
theorem d_TM_output_23 : decode b_TM_output 23 = .ok (.iconst 2, 1) := by decide +kernel
theorem d_TM_output_24 : decode b_TM_output 24 = .ok (.aload_n 0, 1) := by decide +kernel
theorem d_TM_output_25 : decode b_TM_output 25 = .ok (.getfield 284, 3) := by decide +kernel
theorem d_TM_output_28 : decode b_TM_output 28 = .ok (.imul, 1) := by decide +kernel
theorem d_TM_output_29 : decode b_TM_output 29 = .ok (.iload_n 1, 1) := by decide +kernel
theorem d_TM_output_30 : decode b_TM_output 30 = .ok (.iastore, 1) := by decide +kernel
theorem d_TM_output_31 : decode b_TM_output 31 = .ok (.aload_n 0, 1) := by decide +kernel
theorem d_TM_output_32 : decode b_TM_output 32 = .ok (.getfield 80, 3) := by decide +kernel
theorem d_TM_output_35 : decode b_TM_output 35 = .ok (.iconst 2, 1) := by decide +kernel
theorem d_TM_output_36 : decode b_TM_output 36 = .ok (.aload_n 0, 1) := by decide +kernel
theorem d_TM_output_37 : decode b_TM_output 37 = .ok (.getfield 284, 3) := by decide +kernel
theorem d_TM_output_40 : decode b_TM_output 40 = .ok (.imul, 1) := by decide +kernel
theorem d_TM_output_41 : decode b_TM_output 41 = .ok (.iconst 1, 1) := by decide +kernel
theorem d_TM_output_42 : decode b_TM_output 42 = .ok (.iadd, 1) := by decide +kernel
theorem d_TM_output_43 : decode b_TM_output 43 = .ok (.iload_n 2, 1) := by decide +kernel
theorem d_TM_output_44 : decode b_TM_output 44 = .ok (.iastore, 1) := by decide +kernel
theorem d_TM_output_45 : decode b_TM_output 45 = .ok (.aload_n 0, 1) := by decide +kernel
theorem d_TM_output_46 : decode b_TM_output 46 = .ok (.dup, 1) := by decide +kernel
theorem d_TM_output_47 : decode b_TM_output 47 = .ok (.getfield 284, 3) := by decide +kernel
theorem d_TM_output_50 : decode b_TM_output 50 = .ok (.iconst 1, 1) := by decide +kernel
theorem d_TM_output_51 : decode b_TM_output 51 = .ok (.iadd, 1) := by decide +kernel
theorem d_TM_output_52 : decode b_TM_output 52 = .ok (.putfield 284, 3) := by decide +kernel
theorem d_TM_output_55 : decode b_TM_output 55 = .ok (.iconst 1, 1) := by decide +kernel
theorem d_TM_output_56 : decode b_TM_output 56 = .ok (.ireturn, 1) := by decide +kernel
noncomputable def f_TM_output (a1 : Int32) (a2 : Int32) (σ : Sg) : Option (Int32 × Sg) :=
  (if (gi σ 0 0 20) = 4 then (some (0, σ)) else (bn2 (f_TM_isColumn a1 a2 σ) (fun r3 σ1 => (if r3 = 0 then (some (0, σ1)) else (chk (vp_in (2 * (gi σ1 0 0 20)) 8) (lt_ (si σ1 25 0 ((2 * (gi σ1 0 0 20)).toNatClampNeg) a1) (fun σ5 => chk (vp_in ((2 * (gi σ5 0 0 20)) + 1) 8) (lt_ (si σ5 25 0 (((2 * (gi σ5 0 0 20)) + 1).toNatClampNeg) a2) (fun σ7 => lt_ (si σ7 0 0 20 ((gi σ7 0 0 20) + 1)) (fun σ8 => some (1, σ8)))))))))))
abbrev rm_TM_output : Room := { frames := 1, cells := 0, slots := 0, locals := 23 }
set_option maxHeartbeats 4000000 in
set_option maxRecDepth 100000 in
theorem c_TM_output (l : Launch) (X : GX) (n : Nat) {σ σ' : Sg} {r : Int32} {a1 : Int32} {a2 : Int32}  (hf : f_TM_output a1 a2 σ = some (r, σ')) : Met l y_TM_output (cw y_TM_output b_TM_output 3 (some .boolean)) rm_TM_output (PcG X n σ [.ref (xL X 0 0), .int a1, .int a2]) (QcG X n σ' (some (.int r))) 0 0 (fr X n) := by
  refine g_head (own := "TableMachine") (by decide) rfl (Nat.le_of_ble_eq_true rfl) ?_
  intro p e s m args below meth c ls F hr hlk hP hl
  have hl : lv_has ls 3 [(0, .ref (xL X 0 0)), (1, .int a1), (2, .int a2)] := hl
  show WG l X n rm_TM_output σ' (some (.int r)) p e s m args below meth c s.heap [] (F0 m 0 ls [])
  unfold f_TM_output at hf
  refine lv_aload_n F.1 F.2.1 d_TM_output_0 rfl (lv_at hl 0 rfl) ?_
  refine g_get F hP 0 20 0 (by decide) Nat.zero_lt_one (by decide) (v := .int (gi σ 0 0 20)) rfl w_190 d_TM_output_1 ?_
  refine lv_iconst (v := 4) F.1 F.2.1 d_TM_output_4 (by decide) ?_
  refine lv_icmp_eq F.1 F.2.1 d_TM_output_5 rfl (fun hb10 => ?_) (fun hb10 => ?_)
  · rw [if_pos hb10] at hf
    refine lv_iconst (v := 0) F.1 F.2.1 d_TM_output_17 (by decide) ?_
    cases hf
    exact g_zret F hP hr hlk zb0 d_TM_output_18
  · rw [if_neg hb10] at hf
    refine lv_aload_n F.1 F.2.1 d_TM_output_8 rfl (lv_at hl 0 rfl) ?_
    refine lv_iload_n F.1 F.2.1 d_TM_output_9 rfl (lv_at hl 1 rfl) ?_
    refine lv_iload_n F.1 F.2.1 d_TM_output_10 rfl (lv_at hl 2 rfl) ?_
    obtain ⟨r3, σ1, hk2, hf⟩ := bn2_some hf
    refine g_callV (As := [.int a1, .int a2]) (rest := []) F hP 0 0 (by decide) Nat.zero_lt_one (c_TM_isColumn l X n  hk2) rfl q_TM_isColumn w_278 w_1 w_275 w_277 wp_1 ⟨rfl, rfl⟩ ⟨by decide, by decide⟩ hl.1 (Nat.le_of_ble_eq_true rfl) ⟨Nat.zero_le _, Nat.zero_le _⟩ d_TM_output_11 rfl (fun H locs hP => ?_)
    refine W.eq (g2 := F0 m 14 ls [.int r3]) rfl ?_
    refine lv_if_ne F.1 F.2.1 d_TM_output_14 rfl (fun hb9 => ?_) (fun hb9 => ?_)
    · rw [if_neg hb9] at hf
      refine lv_aload_n F.1 F.2.1 d_TM_output_19 rfl (lv_at hl 0 rfl) ?_
      refine g_get F hP 0 19 0 (by decide) Nat.zero_lt_one (by decide) (v := .ref (xL X 25 0)) rfl w_189 d_TM_output_20 ?_
      refine lv_iconst (v := 2) F.1 F.2.1 d_TM_output_23 (by decide) ?_
      refine lv_aload_n F.1 F.2.1 d_TM_output_24 rfl (lv_at hl 0 rfl) ?_
      refine g_get F hP 0 20 0 (by decide) Nat.zero_lt_one (by decide) (v := .int (gi σ1 0 0 20)) rfl w_190 d_TM_output_25 ?_
      refine lv_imul F.1 F.2.1 d_TM_output_28 ?_
      refine lv_iload_n F.1 F.2.1 d_TM_output_29 rfl (lv_at hl 1 rfl) ?_
      obtain ⟨hc4, hf⟩ := chk_some hf
      obtain ⟨σ5, e_σ5, hf⟩ := lt_some hf
      refine g_ast F hP 25 (by decide) (by decide) Nat.zero_lt_one rfl rfl hc4 d_TM_output_30 e_σ5 (fun H locs hP => ?_)
      refine lv_aload_n F.1 F.2.1 d_TM_output_31 rfl (lv_at hl 0 rfl) ?_
      refine g_get F hP 0 19 0 (by decide) Nat.zero_lt_one (by decide) (v := .ref (xL X 25 0)) rfl w_189 d_TM_output_32 ?_
      refine lv_iconst (v := 2) F.1 F.2.1 d_TM_output_35 (by decide) ?_
      refine lv_aload_n F.1 F.2.1 d_TM_output_36 rfl (lv_at hl 0 rfl) ?_
      refine g_get F hP 0 20 0 (by decide) Nat.zero_lt_one (by decide) (v := .int (gi σ5 0 0 20)) rfl w_190 d_TM_output_37 ?_
      refine lv_imul F.1 F.2.1 d_TM_output_40 ?_
      refine lv_iconst (v := 1) F.1 F.2.1 d_TM_output_41 (by decide) ?_
      refine lv_iadd F.1 F.2.1 d_TM_output_42 ?_
      refine lv_iload_n F.1 F.2.1 d_TM_output_43 rfl (lv_at hl 2 rfl) ?_
      obtain ⟨hc6, hf⟩ := chk_some hf
      obtain ⟨σ7, e_σ7, hf⟩ := lt_some hf
      refine g_ast F hP 25 (by decide) (by decide) Nat.zero_lt_one rfl rfl hc6 d_TM_output_44 e_σ7 (fun H locs hP => ?_)
      refine lv_aload_n F.1 F.2.1 d_TM_output_45 rfl (lv_at hl 0 rfl) ?_
      refine lv_dup F.1 F.2.1 d_TM_output_46 rfl ?_
      refine g_get F hP 0 20 0 (by decide) Nat.zero_lt_one (by decide) (v := .int (gi σ7 0 0 20)) rfl w_190 d_TM_output_47 ?_
      refine lv_iconst (v := 1) F.1 F.2.1 d_TM_output_50 (by decide) ?_
      refine lv_iadd F.1 F.2.1 d_TM_output_51 ?_
      obtain ⟨σ8, e_σ8, hf⟩ := lt_some hf
      refine g_puti F hP 0 20 0 (by decide) Nat.zero_lt_one (by decide) rfl rfl rfl rfl (Or.inl w_190) d_TM_output_52 e_σ8 (fun H locs hP => ?_)
      refine lv_iconst (v := 1) F.1 F.2.1 d_TM_output_55 (by decide) ?_
      cases hf
      exact g_zret F hP hr hlk zb1 d_TM_output_56
    · rw [if_pos hb9] at hf
      refine lv_iconst (v := 0) F.1 F.2.1 d_TM_output_17 (by decide) ?_
      cases hf
      exact g_zret F hP hr hlk zb0 d_TM_output_18

theorem d_TM_condition_0 : decode b_TM_condition 0 = .ok (.aload_n 0, 1) := by decide +kernel
theorem d_TM_condition_1 : decode b_TM_condition 1 = .ok (.getfield 281, 3) := by decide +kernel
theorem d_TM_condition_4 : decode b_TM_condition 4 = .ok (.iconst 4, 1) := by decide +kernel
theorem d_TM_condition_5 : decode b_TM_condition 5 = .ok (.if_icmp .eq 22, 3) := by decide +kernel
theorem d_TM_condition_8 : decode b_TM_condition 8 = .ok (.aload_n 0, 1) := by decide +kernel
theorem d_TM_condition_9 : decode b_TM_condition 9 = .ok (.iload_n 1, 1) := by decide +kernel
theorem d_TM_condition_10 : decode b_TM_condition 10 = .ok (.iload_n 2, 1) := by decide +kernel
theorem d_TM_condition_11 : decode b_TM_condition 11 = .ok (.invokevirtual 290, 3) := by decide +kernel
theorem d_TM_condition_14 : decode b_TM_condition 14 = .ok (.ifCond .eq 13, 3) := by decide +kernel
theorem d_TM_condition_17 : decode b_TM_condition 17 = .ok (.iload_n 3, 1) := by decide +kernel
theorem d_TM_condition_18 : decode b_TM_condition 18 = .ok (.ifCond .lt 9, 3) := by decide +kernel
theorem d_TM_condition_21 : decode b_TM_condition 21 = .ok (.iload_n 3, 1) := by decide +kernel
theorem d_TM_condition_22 : decode b_TM_condition 22 = .ok (.bipush 7, 2) := by decide +kernel
theorem d_TM_condition_24 : decode b_TM_condition 24 = .ok (.if_icmp .le 5, 3) := by decide +kernel
theorem d_TM_condition_27 : decode b_TM_condition 27 = .ok (.iconst 0, 1) := by decide +kernel
theorem d_TM_condition_28 : decode b_TM_condition 28 = .ok (.ireturn, 1) := by decide +kernel
theorem d_TM_condition_29 : decode b_TM_condition 29 = .ok (.aload_n 0, 1) := by decide +kernel
theorem d_TM_condition_30 : decode b_TM_condition 30 = .ok (.getfield 76, 3) := by decide +kernel
theorem d_TM_condition_33 : decode b_TM_condition 33 = .ok (.aload_n 0, 1) := by decide +kernel
theorem d_TM_condition_34 : decode b_TM_condition 34 = .ok (.getfield 281, 3) := by decide +kernel
theorem d_TM_condition_37 : decode b_TM_condition 37 = .ok (.aaload, 1) := by decide +kernel
theorem d_TM_condition_38 : decode b_TM_condition 38 = .ok (.astore 5, 2) := by decide +kernel
theorem d_TM_condition_40 : decode b_TM_condition 40 = .ok (.aload 5, 2) := by decide +kernel
theorem d_TM_condition_42 : decode b_TM_condition 42 = .ok (.iload_n 1, 1) := by decide +kernel
theorem d_TM_condition_43 : decode b_TM_condition 43 = .ok (.putfield 294, 3) := by decide +kernel
theorem d_TM_condition_46 : decode b_TM_condition 46 = .ok (.aload 5, 2) := by decide +kernel
theorem d_TM_condition_48 : decode b_TM_condition 48 = .ok (.iload_n 2, 1) := by decide +kernel
theorem d_TM_condition_49 : decode b_TM_condition 49 = .ok (.putfield 297, 3) := by decide +kernel
theorem d_TM_condition_52 : decode b_TM_condition 52 = .ok (.aload 5, 2) := by decide +kernel
theorem d_TM_condition_54 : decode b_TM_condition 54 = .ok (.iload_n 3, 1) := by decide +kernel
theorem d_TM_condition_55 : decode b_TM_condition 55 = .ok (.putfield 299, 3) := by decide +kernel
theorem d_TM_condition_58 : decode b_TM_condition 58 = .ok (.aload 5, 2) := by decide +kernel
theorem d_TM_condition_60 : decode b_TM_condition 60 = .ok (.iload 4, 2) := by decide +kernel
theorem d_TM_condition_62 : decode b_TM_condition 62 = .ok (.putfield 302, 3) := by decide +kernel
theorem d_TM_condition_65 : decode b_TM_condition 65 = .ok (.aload_n 0, 1) := by decide +kernel
theorem d_TM_condition_66 : decode b_TM_condition 66 = .ok (.dup, 1) := by decide +kernel
theorem d_TM_condition_67 : decode b_TM_condition 67 = .ok (.getfield 281, 3) := by decide +kernel
theorem d_TM_condition_70 : decode b_TM_condition 70 = .ok (.iconst 1, 1) := by decide +kernel
theorem d_TM_condition_71 : decode b_TM_condition 71 = .ok (.iadd, 1) := by decide +kernel
theorem d_TM_condition_72 : decode b_TM_condition 72 = .ok (.putfield 281, 3) := by decide +kernel
theorem d_TM_condition_75 : decode b_TM_condition 75 = .ok (.iconst 1, 1) := by decide +kernel
theorem d_TM_condition_76 : decode b_TM_condition 76 = .ok (.ireturn, 1) := by decide +kernel
noncomputable def f_TM_condition (a1 : Int32) (a2 : Int32) (a3 : Int32) (a4 : Int32) (σ : Sg) : Option (Int32 × Sg) :=
  (if (gi σ 0 0 18) = 4 then (some (0, σ)) else (bn2 (f_TM_isColumn a1 a2 σ) (fun r3 σ1 => (if r3 = 0 then (some (0, σ1)) else (if a3 < 0 then (some (0, σ1)) else (if a3 ≤ 7 then (chk (vp_in (gi σ1 0 0 18) 4) (lt_ (si σ1 8 ((gi σ1 0 0 18).toNatClampNeg) 0 a1) (fun σ5 => lt_ (si σ5 8 ((gi σ1 0 0 18).toNatClampNeg) 1 a2) (fun σ6 => lt_ (si σ6 8 ((gi σ1 0 0 18).toNatClampNeg) 2 a3) (fun σ7 => lt_ (si σ7 8 ((gi σ1 0 0 18).toNatClampNeg) 3 a4) (fun σ8 => lt_ (si σ8 0 0 18 ((gi σ8 0 0 18) + 1)) (fun σ9 => some (1, σ9)))))))) else (some (0, σ1))))))))
abbrev rm_TM_condition : Room := { frames := 1, cells := 0, slots := 0, locals := 23 }
set_option maxHeartbeats 4000000 in
set_option maxRecDepth 100000 in
theorem c_TM_condition (l : Launch) (X : GX) (n : Nat) {σ σ' : Sg} {r : Int32} {a1 : Int32} {a2 : Int32} {a3 : Int32} {a4 : Int32}  (hf : f_TM_condition a1 a2 a3 a4 σ = some (r, σ')) : Met l y_TM_condition (cw y_TM_condition b_TM_condition 6 (some .boolean)) rm_TM_condition (PcG X n σ [.ref (xL X 0 0), .int a1, .int a2, .int a3, .int a4]) (QcG X n σ' (some (.int r))) 0 0 (fr X n) := by
  refine g_head (own := "TableMachine") (by decide) rfl (Nat.le_of_ble_eq_true rfl) ?_
  intro p e s m args below meth c ls F hr hlk hP hl
  have hl : lv_has ls 6 [(0, .ref (xL X 0 0)), (1, .int a1), (2, .int a2), (3, .int a3), (4, .int a4)] := hl
  show WG l X n rm_TM_condition σ' (some (.int r)) p e s m args below meth c s.heap [] (F0 m 0 ls [])
  unfold f_TM_condition at hf
  refine lv_aload_n F.1 F.2.1 d_TM_condition_0 rfl (lv_at hl 0 rfl) ?_
  refine g_get F hP 0 18 0 (by decide) Nat.zero_lt_one (by decide) (v := .int (gi σ 0 0 18)) rfl w_188 d_TM_condition_1 ?_
  refine lv_iconst (v := 4) F.1 F.2.1 d_TM_condition_4 (by decide) ?_
  refine lv_icmp_eq F.1 F.2.1 d_TM_condition_5 rfl (fun hb13 => ?_) (fun hb13 => ?_)
  · rw [if_pos hb13] at hf
    refine lv_iconst (v := 0) F.1 F.2.1 d_TM_condition_27 (by decide) ?_
    cases hf
    exact g_zret F hP hr hlk zb0 d_TM_condition_28
  · rw [if_neg hb13] at hf
    refine lv_aload_n F.1 F.2.1 d_TM_condition_8 rfl (lv_at hl 0 rfl) ?_
    refine lv_iload_n F.1 F.2.1 d_TM_condition_9 rfl (lv_at hl 1 rfl) ?_
    refine lv_iload_n F.1 F.2.1 d_TM_condition_10 rfl (lv_at hl 2 rfl) ?_
    obtain ⟨r3, σ1, hk2, hf⟩ := bn2_some hf
    refine g_callV (As := [.int a1, .int a2]) (rest := []) F hP 0 0 (by decide) Nat.zero_lt_one (c_TM_isColumn l X n  hk2) rfl q_TM_isColumn w_278 w_1 w_275 w_277 wp_1 ⟨rfl, rfl⟩ ⟨by decide, by decide⟩ hl.1 (Nat.le_of_ble_eq_true rfl) ⟨Nat.zero_le _, Nat.zero_le _⟩ d_TM_condition_11 rfl (fun H locs hP => ?_)
    refine W.eq (g2 := F0 m 14 ls [.int r3]) rfl ?_
    refine lv_if_eq F.1 F.2.1 d_TM_condition_14 rfl (fun hb12 => ?_) (fun hb12 => ?_)
    · rw [if_pos hb12] at hf
      refine lv_iconst (v := 0) F.1 F.2.1 d_TM_condition_27 (by decide) ?_
      cases hf
      exact g_zret F hP hr hlk zb0 d_TM_condition_28
    · rw [if_neg hb12] at hf
      refine lv_iload_n F.1 F.2.1 d_TM_condition_17 rfl (lv_at hl 3 rfl) ?_
      refine lv_if_lt F.1 F.2.1 d_TM_condition_18 rfl (fun hb11 => ?_) (fun hb11 => ?_)
      · rw [if_pos hb11] at hf
        refine lv_iconst (v := 0) F.1 F.2.1 d_TM_condition_27 (by decide) ?_
        cases hf
        exact g_zret F hP hr hlk zb0 d_TM_condition_28
      · rw [if_neg hb11] at hf
        refine lv_iload_n F.1 F.2.1 d_TM_condition_21 rfl (lv_at hl 3 rfl) ?_
        refine lv_bipush (v := 7) F.1 F.2.1 d_TM_condition_22 (by decide) ?_
        refine lv_icmp_le F.1 F.2.1 d_TM_condition_24 rfl (fun hb10 => ?_) (fun hb10 => ?_)
        · rw [if_pos hb10] at hf
          refine lv_aload_n F.1 F.2.1 d_TM_condition_29 rfl (lv_at hl 0 rfl) ?_
          refine g_get F hP 0 17 0 (by decide) Nat.zero_lt_one (by decide) (v := .ref (xL X 24 0)) rfl w_187 d_TM_condition_30 ?_
          refine lv_aload_n F.1 F.2.1 d_TM_condition_33 rfl (lv_at hl 0 rfl) ?_
          refine g_get F hP 0 18 0 (by decide) Nat.zero_lt_one (by decide) (v := .int (gi σ1 0 0 18)) rfl w_188 d_TM_condition_34 ?_
          obtain ⟨hc4, hf⟩ := chk_some hf
          refine g_rld F hP 24 (by decide) (by decide) Nat.zero_lt_one rfl hc4 (v := .ref (xL X 8 (gi σ1 0 0 18).toNatClampNeg)) rfl d_TM_condition_37 ?_
          refine lv_astore F.1 F.2.1 d_TM_condition_38 hl (by decide) rfl (fun ls hl => ?_)
          have hl : lv_has ls 6 [(5, .ref (xL X 8 (gi σ1 0 0 18).toNatClampNeg)), (0, .ref (xL X 0 0)), (1, .int a1), (2, .int a2), (3, .int a3), (4, .int a4)] := hl
          refine lv_aload F.1 F.2.1 d_TM_condition_40 (lv_at hl 0 rfl) ?_
          refine lv_iload_n F.1 F.2.1 d_TM_condition_42 rfl (lv_at hl 2 rfl) ?_
          obtain ⟨σ5, e_σ5, hf⟩ := lt_some hf
          refine g_puti F hP 8 0 ((gi σ1 0 0 18).toNatClampNeg) (by decide) (vin_lt hc4) (by decide) rfl rfl rfl rfl (Or.inr w_157) d_TM_condition_43 e_σ5 (fun H locs hP => ?_)
          refine lv_aload F.1 F.2.1 d_TM_condition_46 (lv_at hl 0 rfl) ?_
          refine lv_iload_n F.1 F.2.1 d_TM_condition_48 rfl (lv_at hl 3 rfl) ?_
          obtain ⟨σ6, e_σ6, hf⟩ := lt_some hf
          refine g_puti F hP 8 1 ((gi σ1 0 0 18).toNatClampNeg) (by decide) (vin_lt hc4) (by decide) rfl rfl rfl rfl (Or.inr w_158) d_TM_condition_49 e_σ6 (fun H locs hP => ?_)
          refine lv_aload F.1 F.2.1 d_TM_condition_52 (lv_at hl 0 rfl) ?_
          refine lv_iload_n F.1 F.2.1 d_TM_condition_54 rfl (lv_at hl 4 rfl) ?_
          obtain ⟨σ7, e_σ7, hf⟩ := lt_some hf
          refine g_puti F hP 8 2 ((gi σ1 0 0 18).toNatClampNeg) (by decide) (vin_lt hc4) (by decide) rfl rfl rfl rfl (Or.inr w_159) d_TM_condition_55 e_σ7 (fun H locs hP => ?_)
          refine lv_aload F.1 F.2.1 d_TM_condition_58 (lv_at hl 0 rfl) ?_
          refine lv_iload F.1 F.2.1 d_TM_condition_60 (lv_at hl 5 rfl) ?_
          obtain ⟨σ8, e_σ8, hf⟩ := lt_some hf
          refine g_puti F hP 8 3 ((gi σ1 0 0 18).toNatClampNeg) (by decide) (vin_lt hc4) (by decide) rfl rfl rfl rfl (Or.inr w_160) d_TM_condition_62 e_σ8 (fun H locs hP => ?_)
          refine lv_aload_n F.1 F.2.1 d_TM_condition_65 rfl (lv_at hl 1 rfl) ?_
          refine lv_dup F.1 F.2.1 d_TM_condition_66 rfl ?_
          refine g_get F hP 0 18 0 (by decide) Nat.zero_lt_one (by decide) (v := .int (gi σ8 0 0 18)) rfl w_188 d_TM_condition_67 ?_
          refine lv_iconst (v := 1) F.1 F.2.1 d_TM_condition_70 (by decide) ?_
          refine lv_iadd F.1 F.2.1 d_TM_condition_71 ?_
          obtain ⟨σ9, e_σ9, hf⟩ := lt_some hf
          refine g_puti F hP 0 18 0 (by decide) Nat.zero_lt_one (by decide) rfl rfl rfl rfl (Or.inl w_188) d_TM_condition_72 e_σ9 (fun H locs hP => ?_)
          refine lv_iconst (v := 1) F.1 F.2.1 d_TM_condition_75 (by decide) ?_
          cases hf
          exact g_zret F hP hr hlk zb1 d_TM_condition_76
        · rw [if_neg hb10] at hf
          refine lv_iconst (v := 0) F.1 F.2.1 d_TM_condition_27 (by decide) ?_
          cases hf
          exact g_zret F hP hr hlk zb0 d_TM_condition_28

theorem d_TM_join_0 : decode b_TM_join 0 = .ok (.aload_n 0, 1) := by decide +kernel
theorem d_TM_join_1 : decode b_TM_join 1 = .ok (.getfield 67, 3) := by decide +kernel
theorem d_TM_join_4 : decode b_TM_join 4 = .ok (.iconst (-1), 1) := by decide +kernel
theorem d_TM_join_5 : decode b_TM_join 5 = .ok (.if_icmp .eq 29, 3) := by decide +kernel
theorem d_TM_join_8 : decode b_TM_join 8 = .ok (.aload_n 0, 1) := by decide +kernel
theorem d_TM_join_9 : decode b_TM_join 9 = .ok (.getfield 71, 3) := by decide +kernel
theorem d_TM_join_12 : decode b_TM_join 12 = .ok (.iconst (-1), 1) := by decide +kernel
theorem d_TM_join_13 : decode b_TM_join 13 = .ok (.if_icmp .eq 21, 3) := by decide +kernel
theorem d_TM_join_16 : decode b_TM_join 16 = .ok (.aload_n 0, 1) := by decide +kernel
theorem d_TM_join_17 : decode b_TM_join 17 = .ok (.iconst 0, 1) := by decide +kernel
theorem d_TM_join_18 : decode b_TM_join 18 = .ok (.iload_n 1, 1) := by decide +kernel
theorem d_TM_join_19 : decode b_TM_join 19 = .ok (.invokevirtual 290, 3) := by decide +kernel
theorem d_TM_join_22 : decode b_TM_join 22 = .ok (.ifCond .eq 12, 3) := by decide +kernel
theorem d_TM_join_25 : decode b_TM_join 25 = .ok (.aload_n 0, 1) := by decide +kernel
theorem d_TM_join_26 : decode b_TM_join 26 = .ok (.iconst 1, 1) := by decide +kernel
theorem d_TM_join_27 : decode b_TM_join 27 = .ok (.iload_n 2, 1) := by decide +kernel
theorem d_TM_join_28 : decode b_TM_join 28 = .ok (.invokevirtual 290, 3) := by decide +kernel
theorem d_TM_join_31 : decode b_TM_join 31 = .ok (.ifCond .ne 5, 3) := by decide +kernel
theorem d_TM_join_34 : decode b_TM_join 34 = .ok (.iconst 0, 1) := by decide +kernel
theorem d_TM_join_35 : decode b_TM_join 35 = .ok (.ireturn, 1) := by decide +kernel
theorem d_TM_join_36 : decode b_TM_join 36 = .ok (.aload_n 0, 1) := by decide +kernel
theorem d_TM_join_37 : decode b_TM_join 37 = .ok (.iconst 1, 1) := by decide +kernel
theorem d_TM_join_38 : decode b_TM_join 38 = .ok (.putfield 287, 3) := by decide +kernel
theorem d_TM_join_41 : decode b_TM_join 41 = .ok (.aload_n 0, 1) := by decide +kernel
theorem d_TM_join_42 : decode b_TM_join 42 = .ok (.iload_n 1, 1) := by decide +kernel
theorem d_TM_join_43 : decode b_TM_join 43 = .ok (.putfield 305, 3) := by decide +kernel
theorem d_TM_join_46 : decode b_TM_join 46 = .ok (.aload_n 0, 1) := by decide +kernel
theorem d_TM_join_47 : decode b_TM_join 47 = .ok (.iload_n 2, 1) := by decide +kernel
theorem d_TM_join_48 : decode b_TM_join 48 = .ok (.putfield 308, 3) := by decide +kernel
theorem d_TM_join_51 : decode b_TM_join 51 = .ok (.iconst 1, 1) := by decide +kernel
theorem d_TM_join_52 : decode b_TM_join 52 = .ok (.ireturn, 1) := by decide +kernel
noncomputable def f_TM_join (a1 : Int32) (a2 : Int32) (σ : Sg) : Option (Int32 × Sg) :=
  (if (gi σ 0 0 15) = (-1) then (some (0, σ)) else (if (gi σ 0 0 16) = (-1) then (some (0, σ)) else (bn2 (f_TM_isColumn 0 a1 σ) (fun r3 σ1 => (if r3 = 0 then (some (0, σ1)) else (bn2 (f_TM_isColumn 1 a2 σ1) (fun r6 σ4 => (if r6 = 0 then (some (0, σ4)) else (lt_ (si σ4 0 0 21 1) (fun σ7 => lt_ (si σ7 0 0 22 a1) (fun σ8 => lt_ (si σ8 0 0 23 a2) (fun σ9 => some (1, σ9)))))))))))))
abbrev rm_TM_join : Room := { frames := 1, cells := 0, slots := 0, locals := 23 }
set_option maxHeartbeats 4000000 in
set_option maxRecDepth 100000 in
theorem c_TM_join (l : Launch) (X : GX) (n : Nat) {σ σ' : Sg} {r : Int32} {a1 : Int32} {a2 : Int32}  (hf : f_TM_join a1 a2 σ = some (r, σ')) : Met l y_TM_join (cw y_TM_join b_TM_join 3 (some .boolean)) rm_TM_join (PcG X n σ [.ref (xL X 0 0), .int a1, .int a2]) (QcG X n σ' (some (.int r))) 0 0 (fr X n) := by
  refine g_head (own := "TableMachine") (by decide) rfl (Nat.le_of_ble_eq_true rfl) ?_
  intro p e s m args below meth c ls F hr hlk hP hl
  have hl : lv_has ls 3 [(0, .ref (xL X 0 0)), (1, .int a1), (2, .int a2)] := hl
  show WG l X n rm_TM_join σ' (some (.int r)) p e s m args below meth c s.heap [] (F0 m 0 ls [])
  unfold f_TM_join at hf
  refine lv_aload_n F.1 F.2.1 d_TM_join_0 rfl (lv_at hl 0 rfl) ?_
  refine g_get F hP 0 15 0 (by decide) Nat.zero_lt_one (by decide) (v := .int (gi σ 0 0 15)) rfl w_185 d_TM_join_1 ?_
  refine lv_iconst (v := (-1)) F.1 F.2.1 d_TM_join_4 (by decide) ?_
  refine lv_icmp_eq F.1 F.2.1 d_TM_join_5 rfl (fun hb13 => ?_) (fun hb13 => ?_)
  · rw [if_pos hb13] at hf
    refine lv_iconst (v := 0) F.1 F.2.1 d_TM_join_34 (by decide) ?_
    cases hf
    exact g_zret F hP hr hlk zb0 d_TM_join_35
  · rw [if_neg hb13] at hf
    refine lv_aload_n F.1 F.2.1 d_TM_join_8 rfl (lv_at hl 0 rfl) ?_
    refine g_get F hP 0 16 0 (by decide) Nat.zero_lt_one (by decide) (v := .int (gi σ 0 0 16)) rfl w_186 d_TM_join_9 ?_
    refine lv_iconst (v := (-1)) F.1 F.2.1 d_TM_join_12 (by decide) ?_
    refine lv_icmp_eq F.1 F.2.1 d_TM_join_13 rfl (fun hb12 => ?_) (fun hb12 => ?_)
    · rw [if_pos hb12] at hf
      refine lv_iconst (v := 0) F.1 F.2.1 d_TM_join_34 (by decide) ?_
      cases hf
      exact g_zret F hP hr hlk zb0 d_TM_join_35
    · rw [if_neg hb12] at hf
      refine lv_aload_n F.1 F.2.1 d_TM_join_16 rfl (lv_at hl 0 rfl) ?_
      refine lv_iconst (v := 0) F.1 F.2.1 d_TM_join_17 (by decide) ?_
      refine lv_iload_n F.1 F.2.1 d_TM_join_18 rfl (lv_at hl 1 rfl) ?_
      obtain ⟨r3, σ1, hk2, hf⟩ := bn2_some hf
      refine g_callV (As := [.int 0, .int a1]) (rest := []) F hP 0 0 (by decide) Nat.zero_lt_one (c_TM_isColumn l X n  hk2) rfl q_TM_isColumn w_278 w_1 w_275 w_277 wp_1 ⟨rfl, rfl⟩ ⟨by decide, by decide⟩ hl.1 (Nat.le_of_ble_eq_true rfl) ⟨Nat.zero_le _, Nat.zero_le _⟩ d_TM_join_19 rfl (fun H locs hP => ?_)
      refine W.eq (g2 := F0 m 22 ls [.int r3]) rfl ?_
      refine lv_if_eq F.1 F.2.1 d_TM_join_22 rfl (fun hb11 => ?_) (fun hb11 => ?_)
      · rw [if_pos hb11] at hf
        refine lv_iconst (v := 0) F.1 F.2.1 d_TM_join_34 (by decide) ?_
        cases hf
        exact g_zret F hP hr hlk zb0 d_TM_join_35
      · rw [if_neg hb11] at hf
        refine lv_aload_n F.1 F.2.1 d_TM_join_25 rfl (lv_at hl 0 rfl) ?_
        refine lv_iconst (v := 1) F.1 F.2.1 d_TM_join_26 (by decide) ?_
        refine lv_iload_n F.1 F.2.1 d_TM_join_27 rfl (lv_at hl 2 rfl) ?_
        obtain ⟨r6, σ4, hk5, hf⟩ := bn2_some hf
        refine g_callV (As := [.int 1, .int a2]) (rest := []) F hP 0 0 (by decide) Nat.zero_lt_one (c_TM_isColumn l X n  hk5) rfl q_TM_isColumn w_278 w_1 w_275 w_277 wp_1 ⟨rfl, rfl⟩ ⟨by decide, by decide⟩ hl.1 (Nat.le_of_ble_eq_true rfl) ⟨Nat.zero_le _, Nat.zero_le _⟩ d_TM_join_28 rfl (fun H locs hP => ?_)
        refine W.eq (g2 := F0 m 31 ls [.int r6]) rfl ?_
        refine lv_if_ne F.1 F.2.1 d_TM_join_31 rfl (fun hb10 => ?_) (fun hb10 => ?_)
        · rw [if_neg hb10] at hf
          refine lv_aload_n F.1 F.2.1 d_TM_join_36 rfl (lv_at hl 0 rfl) ?_
          refine lv_iconst (v := 1) F.1 F.2.1 d_TM_join_37 (by decide) ?_
          obtain ⟨σ7, e_σ7, hf⟩ := lt_some hf
          refine g_puti F hP 0 21 0 (by decide) Nat.zero_lt_one (by decide) rfl rfl (zb_n zb1) (zb_f zb1) (Or.inl w_191) d_TM_join_38 e_σ7 (fun H locs hP => ?_)
          refine lv_aload_n F.1 F.2.1 d_TM_join_41 rfl (lv_at hl 0 rfl) ?_
          refine lv_iload_n F.1 F.2.1 d_TM_join_42 rfl (lv_at hl 1 rfl) ?_
          obtain ⟨σ8, e_σ8, hf⟩ := lt_some hf
          refine g_puti F hP 0 22 0 (by decide) Nat.zero_lt_one (by decide) rfl rfl rfl rfl (Or.inl w_192) d_TM_join_43 e_σ8 (fun H locs hP => ?_)
          refine lv_aload_n F.1 F.2.1 d_TM_join_46 rfl (lv_at hl 0 rfl) ?_
          refine lv_iload_n F.1 F.2.1 d_TM_join_47 rfl (lv_at hl 2 rfl) ?_
          obtain ⟨σ9, e_σ9, hf⟩ := lt_some hf
          refine g_puti F hP 0 23 0 (by decide) Nat.zero_lt_one (by decide) rfl rfl rfl rfl (Or.inl w_193) d_TM_join_48 e_σ9 (fun H locs hP => ?_)
          refine lv_iconst (v := 1) F.1 F.2.1 d_TM_join_51 (by decide) ?_
          cases hf
          exact g_zret F hP hr hlk zb1 d_TM_join_52
        · rw [if_pos hb10] at hf
          refine lv_iconst (v := 0) F.1 F.2.1 d_TM_join_34 (by decide) ?_
          cases hf
          exact g_zret F hP hr hlk zb0 d_TM_join_35

theorem d_TM_fetch_0 : decode b_TM_fetch 0 = .ok (.iload_n 2, 1) := by decide +kernel
theorem d_TM_fetch_1 : decode b_TM_fetch 1 = .ok (.iconst (-1), 1) := by decide +kernel
theorem d_TM_fetch_2 : decode b_TM_fetch 2 = .ok (.if_icmp .ne 16, 3) := by decide +kernel
theorem d_TM_fetch_5 : decode b_TM_fetch 5 = .ok (.aload_n 0, 1) := by decide +kernel
theorem d_TM_fetch_6 : decode b_TM_fetch 6 = .ok (.getstatic 311, 3) := by decide +kernel
theorem d_TM_fetch_9 : decode b_TM_fetch 9 = .ok (.iload_n 1, 1) := by decide +kernel
theorem d_TM_fetch_10 : decode b_TM_fetch 10 = .ok (.iload_n 3, 1) := by decide +kernel
theorem d_TM_fetch_11 : decode b_TM_fetch 11 = .ok (.iconst 0, 1) := by decide +kernel
theorem d_TM_fetch_12 : decode b_TM_fetch 12 = .ok (.invokevirtual 193, 3) := by decide +kernel
theorem d_TM_fetch_15 : decode b_TM_fetch 15 = .ok (.goto 13, 3) := by decide +kernel
theorem d_TM_fetch_18 : decode b_TM_fetch 18 = .ok (.aload_n 0, 1) := by decide +kernel
theorem d_TM_fetch_19 : decode b_TM_fetch 19 = .ok (.getstatic 314, 3) := by decide +kernel
theorem d_TM_fetch_22 : decode b_TM_fetch 22 = .ok (.iload_n 1, 1) := by decide +kernel
theorem d_TM_fetch_23 : decode b_TM_fetch 23 = .ok (.iload_n 2, 1) := by decide +kernel
theorem d_TM_fetch_24 : decode b_TM_fetch 24 = .ok (.iload_n 3, 1) := by decide +kernel
theorem d_TM_fetch_25 : decode b_TM_fetch 25 = .ok (.invokevirtual 193, 3) := by decide +kernel
theorem d_TM_fetch_28 : decode b_TM_fetch 28 = .ok (.return_, 1) := by decide +kernel
noncomputable def f_TM_fetch (a1 : Int32) (a2 : Int32) (a3 : Int32) (σ : Sg) : Option (Sg) :=
  Option.bind (if a2 = (-1) then ((f_TM_emit 5 a1 a3 0 σ).bind (fun σ6 => some (σ6))) else ((f_TM_emit 4 a1 a2 a3 σ).bind (fun σ4 => some (σ4)))) (fun (σ1 : Sg) => some σ1)
abbrev rm_TM_fetch : Room := { frames := 5, cells := 0, slots := 0, locals := 110 }
set_option maxHeartbeats 4000000 in
set_option maxRecDepth 100000 in
theorem c_TM_fetch (l : Launch) (X : GX) (n : Nat) {σ σ' : Sg} {a1 : Int32} {a2 : Int32} {a3 : Int32}  (hf : f_TM_fetch a1 a2 a3 σ = some σ') : Met l y_TM_fetch (cw y_TM_fetch b_TM_fetch 4 none) rm_TM_fetch (PcG X n σ [.ref (xL X 0 0), .int a1, .int a2, .int a3]) (QcG X n σ' none) 0 0 (fr X n) := by
  refine g_head (own := "TableMachine") (by decide) rfl (Nat.le_of_ble_eq_true rfl) ?_
  intro p e s m args below meth c ls F hr hlk hP hl
  have hl : lv_has ls 4 [(0, .ref (xL X 0 0)), (1, .int a1), (2, .int a2), (3, .int a3)] := hl
  show WG l X n rm_TM_fetch σ' none p e s m args below meth c s.heap [] (F0 m 0 ls [])
  unfold f_TM_fetch at hf
  refine lv_iload_n F.1 F.2.1 d_TM_fetch_0 rfl (lv_at hl 2 rfl) ?_
  refine lv_iconst (v := (-1)) F.1 F.2.1 d_TM_fetch_1 (by decide) ?_
  obtain ⟨σ1, hj3, hf⟩ := bnd_some hf
  have KJ2 : ∀ (ls : Array Slot) (H : Heap) (locs : List Loc), lv_has ls 4 [] → St X n σ1 s.heap H locs → WG l X n rm_TM_fetch σ' none p e s m args below meth c H locs (F0 m 28 ls []) := by
    intro ls H locs hl hP
    cases hf
    exact g_vret F hP hr hlk d_TM_fetch_28
  refine lv_icmp_ne F.1 F.2.1 d_TM_fetch_2 rfl (fun hb8 => ?_) (fun hb8 => ?_)
  · rw [if_neg hb8] at hj3
    refine lv_aload_n F.1 F.2.1 d_TM_fetch_18 rfl (lv_at hl 0 rfl) ?_
    refine g_enum F hP 4 (by decide) w_845 d_TM_fetch_19 ?_
    refine lv_iload_n F.1 F.2.1 d_TM_fetch_22 rfl (lv_at hl 1 rfl) ?_
    refine lv_iload_n F.1 F.2.1 d_TM_fetch_23 rfl (lv_at hl 2 rfl) ?_
    refine lv_iload_n F.1 F.2.1 d_TM_fetch_24 rfl (lv_at hl 3 rfl) ?_
    obtain ⟨σ4, hk5, hj3⟩ := bnd_some hj3
    refine g_callV (As := [.ref (xad X 4), .int a1, .int a2, .int a3]) (rest := []) F hP 0 0 (by decide) Nat.zero_lt_one (c_TM_emit l X n (by decide) hk5) rfl q_TM_emit w_696 w_1 w_693 w_695 wp_21 ⟨rfl, rfl⟩ ⟨by decide, by decide⟩ hl.1 (Nat.le_of_ble_eq_true rfl) ⟨Nat.zero_le _, Nat.zero_le _⟩ d_TM_fetch_25 rfl (fun H locs hP => ?_)
    refine W.eq (g2 := F0 m 28 ls []) rfl ?_
    cases hj3
    exact KJ2 _ _ _ (lv_sub hl [] rfl) hP
  · rw [if_pos hb8] at hj3
    refine lv_aload_n F.1 F.2.1 d_TM_fetch_5 rfl (lv_at hl 0 rfl) ?_
    refine g_enum F hP 5 (by decide) w_843 d_TM_fetch_6 ?_
    refine lv_iload_n F.1 F.2.1 d_TM_fetch_9 rfl (lv_at hl 1 rfl) ?_
    refine lv_iload_n F.1 F.2.1 d_TM_fetch_10 rfl (lv_at hl 3 rfl) ?_
    refine lv_iconst (v := 0) F.1 F.2.1 d_TM_fetch_11 (by decide) ?_
    obtain ⟨σ6, hk7, hj3⟩ := bnd_some hj3
    refine g_callV (As := [.ref (xad X 5), .int a1, .int a3, .int 0]) (rest := []) F hP 0 0 (by decide) Nat.zero_lt_one (c_TM_emit l X n (by decide) hk7) rfl q_TM_emit w_696 w_1 w_693 w_695 wp_21 ⟨rfl, rfl⟩ ⟨by decide, by decide⟩ hl.1 (Nat.le_of_ble_eq_true rfl) ⟨Nat.zero_le _, Nat.zero_le _⟩ d_TM_fetch_12 rfl (fun H locs hP => ?_)
    refine W.eq (g2 := F0 m 15 ls []) rfl ?_
    refine lv_goto F.1 F.2.1 d_TM_fetch_15 rfl ?_
    cases hj3
    exact KJ2 _ _ _ (lv_sub hl [] rfl) hP

theorem d_TM_orElse_0 : decode b_TM_orElse 0 = .ok (.aload_n 0, 1) := by decide +kernel
theorem d_TM_orElse_1 : decode b_TM_orElse 1 = .ok (.aload_n 1, 1) := by decide +kernel
theorem d_TM_orElse_2 : decode b_TM_orElse 2 = .ok (.iconst 0, 1) := by decide +kernel
theorem d_TM_orElse_3 : decode b_TM_orElse 3 = .ok (.aload_n 0, 1) := by decide +kernel
theorem d_TM_orElse_4 : decode b_TM_orElse 4 = .ok (.getfield 166, 3) := by decide +kernel
theorem d_TM_orElse_7 : decode b_TM_orElse 7 = .ok (.iconst 2, 1) := by decide +kernel
theorem d_TM_orElse_8 : decode b_TM_orElse 8 = .ok (.iadd, 1) := by decide +kernel
theorem d_TM_orElse_9 : decode b_TM_orElse 9 = .ok (.iconst 1, 1) := by decide +kernel
theorem d_TM_orElse_10 : decode b_TM_orElse 10 = .ok (.invokevirtual 193, 3) := by decide +kernel
theorem d_TM_orElse_13 : decode b_TM_orElse 13 = .ok (.aload_n 0, 1) := by decide +kernel
theorem d_TM_orElse_14 : decode b_TM_orElse 14 = .ok (.getstatic 317, 3) := by decide +kernel
theorem d_TM_orElse_17 : decode b_TM_orElse 17 = .ok (.iconst (-1), 1) := by decide +kernel
theorem d_TM_orElse_18 : decode b_TM_orElse 18 = .ok (.iconst 0, 1) := by decide +kernel
theorem d_TM_orElse_19 : decode b_TM_orElse 19 = .ok (.iconst 0, 1) := by decide +kernel
theorem d_TM_orElse_20 : decode b_TM_orElse 20 = .ok (.invokevirtual 193, 3) := by decide +kernel
theorem d_TM_orElse_23 : decode b_TM_orElse 23 = .ok (.return_, 1) := by decide +kernel
noncomputable def f_TM_orElse (i1 : Nat) (σ : Sg) : Option (Sg) :=
  (f_TM_emit i1 0 ((gi σ 0 0 8) + 2) 1 σ).bind (fun σ1 => (f_TM_emit 19 (-1) 0 0 σ1).bind (fun σ3 => some σ3))
abbrev rm_TM_orElse : Room := { frames := 5, cells := 0, slots := 0, locals := 110 }
set_option maxHeartbeats 4000000 in
set_option maxRecDepth 100000 in
theorem c_TM_orElse (l : Launch) (X : GX) (n : Nat) {σ σ' : Sg} {i1 : Nat} (h_i1 : i1 < 22) (hf : f_TM_orElse i1 σ = some σ') : Met l y_TM_orElse (cw y_TM_orElse b_TM_orElse 2 none) rm_TM_orElse (PcG X n σ [.ref (xL X 0 0), .ref (xad X i1)]) (QcG X n σ' none) 0 0 (fr X n) := by
  refine g_head (own := "TableMachine") (by decide) rfl (Nat.le_of_ble_eq_true rfl) ?_
  intro p e s m args below meth c ls F hr hlk hP hl
  have hl : lv_has ls 2 [(0, .ref (xL X 0 0)), (1, .ref (xad X i1))] := hl
  show WG l X n rm_TM_orElse σ' none p e s m args below meth c s.heap [] (F0 m 0 ls [])
  unfold f_TM_orElse at hf
  refine lv_aload_n F.1 F.2.1 d_TM_orElse_0 rfl (lv_at hl 0 rfl) ?_
  refine lv_aload_n F.1 F.2.1 d_TM_orElse_1 rfl (lv_at hl 1 rfl) ?_
  refine lv_iconst (v := 0) F.1 F.2.1 d_TM_orElse_2 (by decide) ?_
  refine lv_aload_n F.1 F.2.1 d_TM_orElse_3 rfl (lv_at hl 0 rfl) ?_
  refine g_get F hP 0 8 0 (by decide) Nat.zero_lt_one (by decide) (v := .int (gi σ 0 0 8)) rfl w_178 d_TM_orElse_4 ?_
  refine lv_iconst (v := 2) F.1 F.2.1 d_TM_orElse_7 (by decide) ?_
  refine lv_iadd F.1 F.2.1 d_TM_orElse_8 ?_
  refine lv_iconst (v := 1) F.1 F.2.1 d_TM_orElse_9 (by decide) ?_
  obtain ⟨σ1, hk2, hf⟩ := bnd_some hf
  refine g_callV (As := [.ref (xad X i1), .int 0, .int ((gi σ 0 0 8) + 2), .int 1]) (rest := []) F hP 0 0 (by decide) Nat.zero_lt_one (c_TM_emit l X n h_i1 hk2) rfl q_TM_emit w_696 w_1 w_693 w_695 wp_21 ⟨rfl, rfl⟩ ⟨by decide, by decide⟩ hl.1 (Nat.le_of_ble_eq_true rfl) ⟨Nat.zero_le _, Nat.zero_le _⟩ d_TM_orElse_10 rfl (fun H locs hP => ?_)
  refine W.eq (g2 := F0 m 13 ls []) rfl ?_
  refine lv_aload_n F.1 F.2.1 d_TM_orElse_13 rfl (lv_at hl 0 rfl) ?_
  refine g_enum F hP 19 (by decide) w_853 d_TM_orElse_14 ?_
  refine lv_iconst (v := (-1)) F.1 F.2.1 d_TM_orElse_17 (by decide) ?_
  refine lv_iconst (v := 0) F.1 F.2.1 d_TM_orElse_18 (by decide) ?_
  refine lv_iconst (v := 0) F.1 F.2.1 d_TM_orElse_19 (by decide) ?_
  obtain ⟨σ3, hk4, hf⟩ := bnd_some hf
  refine g_callV (As := [.ref (xad X 19), .int (-1), .int 0, .int 0]) (rest := []) F hP 0 0 (by decide) Nat.zero_lt_one (c_TM_emit l X n (by decide) hk4) rfl q_TM_emit w_696 w_1 w_693 w_695 wp_21 ⟨rfl, rfl⟩ ⟨by decide, by decide⟩ hl.1 (Nat.le_of_ble_eq_true rfl) ⟨Nat.zero_le _, Nat.zero_le _⟩ d_TM_orElse_20 rfl (fun H locs hP => ?_)
  refine W.eq (g2 := F0 m 23 ls []) rfl ?_
  cases hf
  exact g_vret F hP hr hlk d_TM_orElse_23

theorem d_TM_opens_0 : decode b_TM_opens 0 = .ok (.iconst (-1), 1) := by decide +kernel
theorem d_TM_opens_1 : decode b_TM_opens 1 = .ok (.istore_n 2, 1) := by decide +kernel
theorem d_TM_opens_2 : decode b_TM_opens 2 = .ok (.aload_n 0, 1) := by decide +kernel
theorem d_TM_opens_3 : decode b_TM_opens 3 = .ok (.getfield 281, 3) := by decide +kernel
theorem d_TM_opens_6 : decode b_TM_opens 6 = .ok (.iconst 1, 1) := by decide +kernel
theorem d_TM_opens_7 : decode b_TM_opens 7 = .ok (.isub, 1) := by decide +kernel
theorem d_TM_opens_8 : decode b_TM_opens 8 = .ok (.istore_n 3, 1) := by decide +kernel
theorem d_TM_opens_9 : decode b_TM_opens 9 = .ok (.iload_n 3, 1) := by decide +kernel
theorem d_TM_opens_10 : decode b_TM_opens 10 = .ok (.ifCond .lt 79, 3) := by decide +kernel
theorem d_TM_opens_13 : decode b_TM_opens 13 = .ok (.aload_n 0, 1) := by decide +kernel
theorem d_TM_opens_14 : decode b_TM_opens 14 = .ok (.getfield 76, 3) := by decide +kernel
theorem d_TM_opens_17 : decode b_TM_opens 17 = .ok (.iload_n 3, 1) := by decide +kernel
theorem d_TM_opens_18 : decode b_TM_opens 18 = .ok (.aaload, 1) := by decide +kernel
theorem d_TM_opens_19 : decode b_TM_opens 19 = .ok (.astore 4, 2) := by decide +kernel
theorem d_TM_opens_21 : decode b_TM_opens 21 = .ok (.aload 4, 2) := by decide +kernel
theorem d_TM_opens_23 : decode b_TM_opens 23 = .ok (.getfield 299, 3) := by decide +kernel
theorem d_TM_opens_26 : decode b_TM_opens 26 = .ok (.ifCond .eq 21, 3) := by decide +kernel
theorem d_TM_opens_29 : decode b_TM_opens 29 = .ok (.aload 4, 2) := by decide +kernel
theorem d_TM_opens_31 : decode b_TM_opens 31 = .ok (.getfield 299, 3) := by decide +kernel
theorem d_TM_opens_34 : decode b_TM_opens 34 = .ok (.iconst 4, 1) := by decide +kernel
theorem d_TM_opens_35 : decode b_TM_opens 35 = .ok (.if_icmp .eq 12, 3) := by decide +kernel
theorem d_TM_opens_38 : decode b_TM_opens 38 = .ok (.aload 4, 2) := by decide +kernel
theorem d_TM_opens_40 : decode b_TM_opens 40 = .ok (.getfield 299, 3) := by decide +kernel
theorem d_TM_opens_43 : decode b_TM_opens 43 = .ok (.iconst 5, 1) := by decide +kernel
theorem d_TM_opens_44 : decode b_TM_opens 44 = .ok (.if_icmp .ne 7, 3) := by decide +kernel
theorem d_TM_opens_47 : decode b_TM_opens 47 = .ok (.iconst 1, 1) := by decide +kernel
theorem d_TM_opens_48 : decode b_TM_opens 48 = .ok (.goto 4, 3) := by decide +kernel
theorem d_TM_opens_51 : decode b_TM_opens 51 = .ok (.iconst 0, 1) := by decide +kernel
theorem d_TM_opens_52 : decode b_TM_opens 52 = .ok (.istore 5, 2) := by decide +kernel
theorem d_TM_opens_54 : decode b_TM_opens 54 = .ok (.aload 4, 2) := by decide +kernel
theorem d_TM_opens_56 : decode b_TM_opens 56 = .ok (.getfield 294, 3) := by decide +kernel
theorem d_TM_opens_59 : decode b_TM_opens 59 = .ok (.iload_n 1, 1) := by decide +kernel
theorem d_TM_opens_60 : decode b_TM_opens 60 = .ok (.if_icmp .ne 21, 3) := by decide +kernel
theorem d_TM_opens_63 : decode b_TM_opens 63 = .ok (.aload 4, 2) := by decide +kernel
theorem d_TM_opens_65 : decode b_TM_opens 65 = .ok (.getfield 297, 3) := by decide +kernel
theorem d_TM_opens_68 : decode b_TM_opens 68 = .ok (.iconst (-1), 1) := by decide +kernel
theorem d_TM_opens_69 : decode b_TM_opens 69 = .ok (.if_icmp .ne 12, 3) := by decide +kernel
theorem d_TM_opens_72 : decode b_TM_opens 72 = .ok (.iload 5, 2) := by decide +kernel
theorem d_TM_opens_74 : decode b_TM_opens 74 = .ok (.ifCond .eq 7, 3) := by decide +kernel
theorem d_TM_opens_77 : decode b_TM_opens 77 = .ok (.iload_n 3, 1) := by decide +kernel
theorem d_TM_opens_78 : decode b_TM_opens 78 = .ok (.goto 4, 3) := by decide +kernel
theorem d_TM_opens_81 : decode b_TM_opens 81 = .ok (.iload_n 2, 1) := by decide +kernel
theorem d_TM_opens_82 : decode b_TM_opens 82 = .ok (.istore_n 2, 1) := by decide +kernel
theorem d_TM_opens_83 : decode b_TM_opens 83 = .ok (.iinc 3 (-1), 3) := by decide +kernel
theorem d_TM_opens_86 : decode b_TM_opens 86 = .ok (.goto (-77), 3) := by decide +kernel
theorem d_TM_opens_89 : decode b_TM_opens 89 = .ok (.iload_n 2, 1) := by decide +kernel
theorem d_TM_opens_90 : decode b_TM_opens 90 = .ok (.iconst (-1), 1) := by decide +kernel
theorem d_TM_opens_91 : decode b_TM_opens 91 = .ok (.if_icmp .ne 16, 3) := by decide +kernel
theorem d_TM_opens_94 : decode b_TM_opens 94 = .ok (.aload_n 0, 1) := by decide +kernel
theorem d_TM_opens_95 : decode b_TM_opens 95 = .ok (.getstatic 320, 3) := by decide +kernel
theorem d_TM_opens_98 : decode b_TM_opens 98 = .ok (.iload_n 1, 1) := by decide +kernel
theorem d_TM_opens_99 : decode b_TM_opens 99 = .ok (.iconst (-1), 1) := by decide +kernel
theorem d_TM_opens_100 : decode b_TM_opens 100 = .ok (.iconst 0, 1) := by decide +kernel
theorem d_TM_opens_101 : decode b_TM_opens 101 = .ok (.invokevirtual 193, 3) := by decide +kernel
theorem d_TM_opens_104 : decode b_TM_opens 104 = .ok (.goto 31, 3) := by decide +kernel
theorem d_TM_opens_107 : decode b_TM_opens 107 = .ok (.aload_n 0, 1) := by decide +kernel
theorem d_TM_opens_108 : decode b_TM_opens 108 = .ok (.getstatic 323, 3) := by decide +kernel
theorem d_TM_opens_111 : decode b_TM_opens 111 = .ok (.aload_n 0, 1) := by decide +kernel
theorem d_TM_opens_112 : decode b_TM_opens 112 = .ok (.getfield 76, 3) := by decide +kernel
theorem d_TM_opens_115 : decode b_TM_opens 115 = .ok (.iload_n 2, 1) := by decide +kernel
theorem d_TM_opens_116 : decode b_TM_opens 116 = .ok (.aaload, 1) := by decide +kernel
theorem d_TM_opens_117 : decode b_TM_opens 117 = .ok (.getfield 302, 3) := by decide +kernel
theorem d_TM_opens_120 : decode b_TM_opens 120 = .ok (.iconst 0, 1) := by decide +kernel
theorem d_TM_opens_121 : decode b_TM_opens 121 = .ok (.iconst 0, 1) := by decide +kernel
theorem d_TM_opens_122 : decode b_TM_opens 122 = .ok (.invokevirtual 193, 3) := by decide +kernel
theorem d_TM_opens_125 : decode b_TM_opens 125 = .ok (.aload_n 0, 1) := by decide +kernel
theorem d_TM_opens_126 : decode b_TM_opens 126 = .ok (.getstatic 326, 3) := by decide +kernel
theorem d_TM_opens_129 : decode b_TM_opens 129 = .ok (.iload_n 1, 1) := by decide +kernel
theorem d_TM_opens_130 : decode b_TM_opens 130 = .ok (.iconst (-1), 1) := by decide +kernel
theorem d_TM_opens_131 : decode b_TM_opens 131 = .ok (.iconst 0, 1) := by decide +kernel
theorem d_TM_opens_132 : decode b_TM_opens 132 = .ok (.invokevirtual 193, 3) := by decide +kernel
theorem d_TM_opens_135 : decode b_TM_opens 135 = .ok (.return_, 1) := by decide +kernel
noncomputable def b_TM_opens_9 (a1 : Int32) (x3 : Int32) (x4 : Int32) (σ5 : Sg) : Option ((Int32 × Int32 × Sg) ⊕ (Int32 × Sg)) :=
  (if x4 < 0 then (some (.inr (x3, σ5))) else (chk (vp_in x4 4) (lt_ ((if (gi σ5 8 x4.toNatClampNeg 2) = 0 then 1 else (if (gi σ5 8 x4.toNatClampNeg 2) = 4 then 1 else (if (gi σ5 8 x4.toNatClampNeg 2) = 5 then 1 else 0))) : Int32) (fun (x10 : Int32) => lt_ ((if (gi σ5 8 x4.toNatClampNeg 0) = a1 then (if (gi σ5 8 x4.toNatClampNeg 1) = (-1) then (if x10 = 0 then x3 else x4) else x3) else x3) : Int32) (fun (x16 : Int32) => lt_ (x4 + (-1) : Int32) (fun (x22 : Int32) => some (.inl (x16, x22, σ5))))))))
noncomputable def l_TM_opens_9 (a1 : Int32) (x3 : Int32) (x4 : Int32) (σ5 : Sg) : Option (Int32 × Sg) := lp (fun q => b_TM_opens_9 a1 q.1 q.2.1 q.2.2) FU (x3, x4, σ5)
noncomputable def f_TM_opens (a1 : Int32) (σ : Sg) : Option (Sg) :=
  lt_ ((-1) : Int32) (fun (x1 : Int32) => lt_ ((gi σ 0 0 18) - 1 : Int32) (fun (x2 : Int32) => bn2 (l_TM_opens_9 a1 x1 x2 σ) (fun x24 σ25 => Option.bind (if x24 = (-1) then ((f_TM_emit 2 a1 (-1) 0 σ25).bind (fun σ36 => some (σ36))) else (chk (vp_in x24 4) ((f_TM_emit 6 (gi σ25 8 x24.toNatClampNeg 3) 0 0 σ25).bind (fun σ32 => (f_TM_emit 8 a1 (-1) 0 σ32).bind (fun σ34 => some (σ34)))))) (fun (σ28 : Sg) => some σ28))))
abbrev rm_TM_opens : Room := { frames := 5, cells := 0, slots := 0, locals := 110 }
set_option maxHeartbeats 4000000 in
set_option maxRecDepth 100000 in
theorem c_TM_opens (l : Launch) (X : GX) (n : Nat) {σ σ' : Sg} {a1 : Int32}  (hf : f_TM_opens a1 σ = some σ') : Met l y_TM_opens (cw y_TM_opens b_TM_opens 6 none) rm_TM_opens (PcG X n σ [.ref (xL X 0 0), .int a1]) (QcG X n σ' none) 0 0 (fr X n) := by
  refine g_head (own := "TableMachine") (by decide) rfl (Nat.le_of_ble_eq_true rfl) ?_
  intro p e s m args below meth c ls F hr hlk hP hl
  have hl : lv_has ls 6 [(0, .ref (xL X 0 0)), (1, .int a1)] := hl
  show WG l X n rm_TM_opens σ' none p e s m args below meth c s.heap [] (F0 m 0 ls [])
  unfold f_TM_opens at hf
  refine lv_iconst (v := (-1)) F.1 F.2.1 d_TM_opens_0 (by decide) ?_
  obtain ⟨x1, e_x1, hf⟩ := lt_some hf
  rw [← e_x1]
  refine lv_istore_n F.1 F.2.1 d_TM_opens_1 rfl hl (by decide) rfl (fun ls hl => ?_)
  have hl : lv_has ls 6 [(2, .int x1), (0, .ref (xL X 0 0)), (1, .int a1)] := hl
  refine lv_aload_n F.1 F.2.1 d_TM_opens_2 rfl (lv_at hl 1 rfl) ?_
  refine g_get F hP 0 18 0 (by decide) Nat.zero_lt_one (by decide) (v := .int (gi σ 0 0 18)) rfl w_188 d_TM_opens_3 ?_
  refine lv_iconst (v := 1) F.1 F.2.1 d_TM_opens_6 (by decide) ?_
  refine lv_isub F.1 F.2.1 d_TM_opens_7 ?_
  obtain ⟨x2, e_x2, hf⟩ := lt_some hf
  rw [← e_x2]
  refine lv_istore_n F.1 F.2.1 d_TM_opens_8 rfl hl (by decide) rfl (fun ls hl => ?_)
  have hl : lv_has ls 6 [(3, .int x2), (2, .int x1), (0, .ref (xL X 0 0)), (1, .int a1)] := hl
  obtain ⟨x24, σ25, hlp26, hf⟩ := bn2_some hf
  have KX27 : ∀ (ls : Array Slot) (H : Heap) (locs : List Loc), lv_has ls 6 [(0, .ref (xL X 0 0)), (1, .int a1), (2, .int x24)] → St X n σ25 s.heap H locs → WG l X n rm_TM_opens σ' none p e s m args below meth c H locs (F0 m 89 ls []) := by
    intro ls H locs hl hP
    refine lv_iload_n F.1 F.2.1 d_TM_opens_89 rfl (lv_at hl 2 rfl) ?_
    refine lv_iconst (v := (-1)) F.1 F.2.1 d_TM_opens_90 (by decide) ?_
    obtain ⟨σ28, hj30, hf⟩ := bnd_some hf
    have KJ29 : ∀ (ls : Array Slot) (H : Heap) (locs : List Loc), lv_has ls 6 [] → St X n σ28 s.heap H locs → WG l X n rm_TM_opens σ' none p e s m args below meth c H locs (F0 m 135 ls []) := by
      intro ls H locs hl hP
      cases hf
      exact g_vret F hP hr hlk d_TM_opens_135
    refine lv_icmp_ne F.1 F.2.1 d_TM_opens_91 rfl (fun hb38 => ?_) (fun hb38 => ?_)
    · rw [if_neg hb38] at hj30
      refine lv_aload_n F.1 F.2.1 d_TM_opens_107 rfl (lv_at hl 0 rfl) ?_
      refine g_enum F hP 6 (by decide) w_831 d_TM_opens_108 ?_
      refine lv_aload_n F.1 F.2.1 d_TM_opens_111 rfl (lv_at hl 0 rfl) ?_
      refine g_get F hP 0 17 0 (by decide) Nat.zero_lt_one (by decide) (v := .ref (xL X 24 0)) rfl w_187 d_TM_opens_112 ?_
      refine lv_iload_n F.1 F.2.1 d_TM_opens_115 rfl (lv_at hl 2 rfl) ?_
      obtain ⟨hc31, hj30⟩ := chk_some hj30
      refine g_rld F hP 24 (by decide) (by decide) Nat.zero_lt_one rfl hc31 (v := .ref (xL X 8 x24.toNatClampNeg)) rfl d_TM_opens_116 ?_
      refine g_getN F hP 8 3 x24.toNatClampNeg (by decide) (vin_lt hc31) (by decide) (v := .int (gi σ25 8 x24.toNatClampNeg 3)) rfl w_160 d_TM_opens_117 ?_
      refine lv_iconst (v := 0) F.1 F.2.1 d_TM_opens_120 (by decide) ?_
      refine lv_iconst (v := 0) F.1 F.2.1 d_TM_opens_121 (by decide) ?_
      obtain ⟨σ32, hk33, hj30⟩ := bnd_some hj30
      refine g_callV (As := [.ref (xad X 6), .int (gi σ25 8 x24.toNatClampNeg 3), .int 0, .int 0]) (rest := []) F hP 0 0 (by decide) Nat.zero_lt_one (c_TM_emit l X n (by decide) hk33) rfl q_TM_emit w_696 w_1 w_693 w_695 wp_21 ⟨rfl, rfl⟩ ⟨by decide, by decide⟩ hl.1 (Nat.le_of_ble_eq_true rfl) ⟨Nat.zero_le _, Nat.zero_le _⟩ d_TM_opens_122 rfl (fun H locs hP => ?_)
      refine W.eq (g2 := F0 m 125 ls []) rfl ?_
      refine lv_aload_n F.1 F.2.1 d_TM_opens_125 rfl (lv_at hl 0 rfl) ?_
      refine g_enum F hP 8 (by decide) w_833 d_TM_opens_126 ?_
      refine lv_iload_n F.1 F.2.1 d_TM_opens_129 rfl (lv_at hl 1 rfl) ?_
      refine lv_iconst (v := (-1)) F.1 F.2.1 d_TM_opens_130 (by decide) ?_
      refine lv_iconst (v := 0) F.1 F.2.1 d_TM_opens_131 (by decide) ?_
      obtain ⟨σ34, hk35, hj30⟩ := bnd_some hj30
      refine g_callV (As := [.ref (xad X 8), .int a1, .int (-1), .int 0]) (rest := []) F hP 0 0 (by decide) Nat.zero_lt_one (c_TM_emit l X n (by decide) hk35) rfl q_TM_emit w_696 w_1 w_693 w_695 wp_21 ⟨rfl, rfl⟩ ⟨by decide, by decide⟩ hl.1 (Nat.le_of_ble_eq_true rfl) ⟨Nat.zero_le _, Nat.zero_le _⟩ d_TM_opens_132 rfl (fun H locs hP => ?_)
      refine W.eq (g2 := F0 m 135 ls []) rfl ?_
      cases hj30
      exact KJ29 _ _ _ (lv_sub hl [] rfl) hP
    · rw [if_pos hb38] at hj30
      refine lv_aload_n F.1 F.2.1 d_TM_opens_94 rfl (lv_at hl 0 rfl) ?_
      refine g_enum F hP 2 (by decide) w_829 d_TM_opens_95 ?_
      refine lv_iload_n F.1 F.2.1 d_TM_opens_98 rfl (lv_at hl 1 rfl) ?_
      refine lv_iconst (v := (-1)) F.1 F.2.1 d_TM_opens_99 (by decide) ?_
      refine lv_iconst (v := 0) F.1 F.2.1 d_TM_opens_100 (by decide) ?_
      obtain ⟨σ36, hk37, hj30⟩ := bnd_some hj30
      refine g_callV (As := [.ref (xad X 2), .int a1, .int (-1), .int 0]) (rest := []) F hP 0 0 (by decide) Nat.zero_lt_one (c_TM_emit l X n (by decide) hk37) rfl q_TM_emit w_696 w_1 w_693 w_695 wp_21 ⟨rfl, rfl⟩ ⟨by decide, by decide⟩ hl.1 (Nat.le_of_ble_eq_true rfl) ⟨Nat.zero_le _, Nat.zero_le _⟩ d_TM_opens_101 rfl (fun H locs hP => ?_)
      refine W.eq (g2 := F0 m 104 ls []) rfl ?_
      refine lv_goto F.1 F.2.1 d_TM_opens_104 rfl ?_
      cases hj30
      exact KJ29 _ _ _ (lv_sub hl [] rfl) hP
  unfold l_TM_opens_9 at hlp26
  refine lp_W (PW := fun q => ∀ (ls : Array Slot) (H : Heap) (locs : List Loc), lv_has ls 6 [(0, .ref (xL X 0 0)), (1, .int a1), (2, .int q.1), (3, .int q.2.1)] → St X n q.2.2 s.heap H locs → WG l X n rm_TM_opens σ' none p e s m args below meth c H locs (F0 m 9 ls [])) (PE := fun q => ∀ (ls : Array Slot) (H : Heap) (locs : List Loc), lv_has ls 6 [(0, .ref (xL X 0 0)), (1, .int a1), (2, .int q.1)] → St X n q.2 s.heap H locs → WG l X n rm_TM_opens σ' none p e s m args below meth c H locs (F0 m 89 ls [])) ?_ _ _ _ hlp26 KX27 _ _ _ (lv_sub hl [2, 3, 1, 0] rfl) hP
  rintro ⟨x3, x4, σ5⟩ rr6 hb_9 hI7 hE8 ls H locs hl hP
  replace hb_9 : b_TM_opens_9 a1 x3 x4 σ5 = some rr6 := hb_9
  unfold b_TM_opens_9 at hb_9
  refine lv_iload_n F.1 F.2.1 d_TM_opens_9 rfl (lv_at hl 3 rfl) ?_
  refine lv_if_lt F.1 F.2.1 d_TM_opens_10 rfl (fun hb23 => ?_) (fun hb23 => ?_)
  · rw [if_pos hb23] at hb_9
    cases hb_9
    exact hE8 _ rfl _ _ _ (lv_sub hl [0, 1, 2] rfl) hP
  · rw [if_neg hb23] at hb_9
    refine lv_aload_n F.1 F.2.1 d_TM_opens_13 rfl (lv_at hl 0 rfl) ?_
    refine g_get F hP 0 17 0 (by decide) Nat.zero_lt_one (by decide) (v := .ref (xL X 24 0)) rfl w_187 d_TM_opens_14 ?_
    refine lv_iload_n F.1 F.2.1 d_TM_opens_17 rfl (lv_at hl 3 rfl) ?_
    obtain ⟨hc9, hb_9⟩ := chk_some hb_9
    refine g_rld F hP 24 (by decide) (by decide) Nat.zero_lt_one rfl hc9 (v := .ref (xL X 8 x4.toNatClampNeg)) rfl d_TM_opens_18 ?_
    refine lv_astore F.1 F.2.1 d_TM_opens_19 hl (by decide) rfl (fun ls hl => ?_)
    have hl : lv_has ls 6 [(4, .ref (xL X 8 x4.toNatClampNeg)), (0, .ref (xL X 0 0)), (1, .int a1), (2, .int x3), (3, .int x4)] := hl
    refine lv_aload F.1 F.2.1 d_TM_opens_21 (lv_at hl 0 rfl) ?_
    refine g_getN F hP 8 2 x4.toNatClampNeg (by decide) (vin_lt hc9) (by decide) (v := .int (gi σ5 8 x4.toNatClampNeg 2)) rfl w_159 d_TM_opens_23 ?_
    obtain ⟨x10, hj12, hb_9⟩ := lt_some2 hb_9
    have KJ11 : ∀ (ls : Array Slot) (H : Heap) (locs : List Loc), lv_has ls 6 [(0, .ref (xL X 0 0)), (1, .int a1), (2, .int x3), (3, .int x4), (4, .ref (xL X 8 x4.toNatClampNeg))] → St X n σ5 s.heap H locs → WG l X n rm_TM_opens σ' none p e s m args below meth c H locs (F0 m 52 ls [.int x10]) := by
      intro ls H locs hl hP
      refine lv_istore F.1 F.2.1 d_TM_opens_52 hl (by decide) rfl (fun ls hl => ?_)
      have hl : lv_has ls 6 [(5, .int x10), (0, .ref (xL X 0 0)), (1, .int a1), (2, .int x3), (3, .int x4), (4, .ref (xL X 8 x4.toNatClampNeg))] := hl
      refine lv_aload F.1 F.2.1 d_TM_opens_54 (lv_at hl 5 rfl) ?_
      refine g_getN F hP 8 0 x4.toNatClampNeg (by decide) (vin_lt hc9) (by decide) (v := .int (gi σ5 8 x4.toNatClampNeg 0)) rfl w_157 d_TM_opens_56 ?_
      refine lv_iload_n F.1 F.2.1 d_TM_opens_59 rfl (lv_at hl 2 rfl) ?_
      obtain ⟨x16, hj18, hb_9⟩ := lt_some2 hb_9
      have KJ17 : ∀ (ls : Array Slot) (H : Heap) (locs : List Loc), lv_has ls 6 [(0, .ref (xL X 0 0)), (1, .int a1), (3, .int x4)] → St X n σ5 s.heap H locs → WG l X n rm_TM_opens σ' none p e s m args below meth c H locs (F0 m 82 ls [.int x16]) := by
        intro ls H locs hl hP
        refine lv_istore_n F.1 F.2.1 d_TM_opens_82 rfl hl (by decide) rfl (fun ls hl => ?_)
        have hl : lv_has ls 6 [(2, .int x16), (0, .ref (xL X 0 0)), (1, .int a1), (3, .int x4)] := hl
        obtain ⟨x22, e_x22, hb_9⟩ := lt_some hb_9
        refine lv_iinc (k := 3) (v := x22) F.1 F.2.1 d_TM_opens_83 hl rfl (by rw [e_x22]; rfl) (by decide) rfl (fun ls hl => ?_)
        have hl : lv_has ls 6 [(3, .int x22), (2, .int x16), (0, .ref (xL X 0 0)), (1, .int a1)] := hl
        refine lv_goto F.1 F.2.1 d_TM_opens_86 rfl ?_
        cases hb_9
        exact hI7 _ rfl _ _ _ (lv_sub hl [2, 3, 1, 0] rfl) hP
      refine lv_icmp_ne F.1 F.2.1 d_TM_opens_60 rfl (fun hb21 => ?_) (fun hb21 => ?_)
      · rw [if_neg hb21] at hj18
        refine lv_iload_n F.1 F.2.1 d_TM_opens_81 rfl (lv_at hl 3 rfl) ?_
        subst hj18
        exact KJ17 _ _ _ (lv_sub hl [1, 2, 4] rfl) hP
      · rw [if_pos hb21] at hj18
        refine lv_aload F.1 F.2.1 d_TM_opens_63 (lv_at hl 5 rfl) ?_
        refine g_getN F hP 8 1 x4.toNatClampNeg (by decide) (vin_lt hc9) (by decide) (v := .int (gi σ5 8 x4.toNatClampNeg 1)) rfl w_158 d_TM_opens_65 ?_
        refine lv_iconst (v := (-1)) F.1 F.2.1 d_TM_opens_68 (by decide) ?_
        refine lv_icmp_ne F.1 F.2.1 d_TM_opens_69 rfl (fun hb20 => ?_) (fun hb20 => ?_)
        · rw [if_neg hb20] at hj18
          refine lv_iload_n F.1 F.2.1 d_TM_opens_81 rfl (lv_at hl 3 rfl) ?_
          subst hj18
          exact KJ17 _ _ _ (lv_sub hl [1, 2, 4] rfl) hP
        · rw [if_pos hb20] at hj18
          refine lv_iload F.1 F.2.1 d_TM_opens_72 (lv_at hl 0 rfl) ?_
          refine lv_if_eq F.1 F.2.1 d_TM_opens_74 rfl (fun hb19 => ?_) (fun hb19 => ?_)
          · rw [if_pos hb19] at hj18
            refine lv_iload_n F.1 F.2.1 d_TM_opens_81 rfl (lv_at hl 3 rfl) ?_
            subst hj18
            exact KJ17 _ _ _ (lv_sub hl [1, 2, 4] rfl) hP
          · rw [if_neg hb19] at hj18
            refine lv_iload_n F.1 F.2.1 d_TM_opens_77 rfl (lv_at hl 4 rfl) ?_
            refine lv_goto F.1 F.2.1 d_TM_opens_78 rfl ?_
            subst hj18
            exact KJ17 _ _ _ (lv_sub hl [1, 2, 4] rfl) hP
    refine lv_if_eq F.1 F.2.1 d_TM_opens_26 rfl (fun hb15 => ?_) (fun hb15 => ?_)
    · rw [if_pos hb15] at hj12
      refine lv_iconst (v := 1) F.1 F.2.1 d_TM_opens_47 (by decide) ?_
      refine lv_goto F.1 F.2.1 d_TM_opens_48 rfl ?_
      subst hj12
      exact KJ11 _ _ _ (lv_sub hl [1, 2, 3, 4, 0] rfl) hP
    · rw [if_neg hb15] at hj12
      refine lv_aload F.1 F.2.1 d_TM_opens_29 (lv_at hl 0 rfl) ?_
      refine g_getN F hP 8 2 x4.toNatClampNeg (by decide) (vin_lt hc9) (by decide) (v := .int (gi σ5 8 x4.toNatClampNeg 2)) rfl w_159 d_TM_opens_31 ?_
      refine lv_iconst (v := 4) F.1 F.2.1 d_TM_opens_34 (by decide) ?_
      refine lv_icmp_eq F.1 F.2.1 d_TM_opens_35 rfl (fun hb14 => ?_) (fun hb14 => ?_)
      · rw [if_pos hb14] at hj12
        refine lv_iconst (v := 1) F.1 F.2.1 d_TM_opens_47 (by decide) ?_
        refine lv_goto F.1 F.2.1 d_TM_opens_48 rfl ?_
        subst hj12
        exact KJ11 _ _ _ (lv_sub hl [1, 2, 3, 4, 0] rfl) hP
      · rw [if_neg hb14] at hj12
        refine lv_aload F.1 F.2.1 d_TM_opens_38 (lv_at hl 0 rfl) ?_
        refine g_getN F hP 8 2 x4.toNatClampNeg (by decide) (vin_lt hc9) (by decide) (v := .int (gi σ5 8 x4.toNatClampNeg 2)) rfl w_159 d_TM_opens_40 ?_
        refine lv_iconst (v := 5) F.1 F.2.1 d_TM_opens_43 (by decide) ?_
        refine lv_icmp_ne F.1 F.2.1 d_TM_opens_44 rfl (fun hb13 => ?_) (fun hb13 => ?_)
        · rw [if_neg hb13] at hj12
          refine lv_iconst (v := 0) F.1 F.2.1 d_TM_opens_51 (by decide) ?_
          subst hj12
          exact KJ11 _ _ _ (lv_sub hl [1, 2, 3, 4, 0] rfl) hP
        · rw [if_pos hb13] at hj12
          refine lv_iconst (v := 1) F.1 F.2.1 d_TM_opens_47 (by decide) ?_
          refine lv_goto F.1 F.2.1 d_TM_opens_48 rfl ?_
          subst hj12
          exact KJ11 _ _ _ (lv_sub hl [1, 2, 3, 4, 0] rfl) hP

theorem d_TM_asksAll_0 : decode b_TM_asksAll 0 = .ok (.iconst 0, 1) := by decide +kernel
theorem d_TM_asksAll_1 : decode b_TM_asksAll 1 = .ok (.istore_n 2, 1) := by decide +kernel
theorem d_TM_asksAll_2 : decode b_TM_asksAll 2 = .ok (.iload_n 2, 1) := by decide +kernel
theorem d_TM_asksAll_3 : decode b_TM_asksAll 3 = .ok (.aload_n 0, 1) := by decide +kernel
theorem d_TM_asksAll_4 : decode b_TM_asksAll 4 = .ok (.getfield 281, 3) := by decide +kernel
theorem d_TM_asksAll_7 : decode b_TM_asksAll 7 = .ok (.if_icmp .ge 76, 3) := by decide +kernel
theorem d_TM_asksAll_10 : decode b_TM_asksAll 10 = .ok (.aload_n 0, 1) := by decide +kernel
theorem d_TM_asksAll_11 : decode b_TM_asksAll 11 = .ok (.getfield 76, 3) := by decide +kernel
theorem d_TM_asksAll_14 : decode b_TM_asksAll 14 = .ok (.iload_n 2, 1) := by decide +kernel
theorem d_TM_asksAll_15 : decode b_TM_asksAll 15 = .ok (.aaload, 1) := by decide +kernel
theorem d_TM_asksAll_16 : decode b_TM_asksAll 16 = .ok (.astore_n 3, 1) := by decide +kernel
theorem d_TM_asksAll_17 : decode b_TM_asksAll 17 = .ok (.aload_n 3, 1) := by decide +kernel
theorem d_TM_asksAll_18 : decode b_TM_asksAll 18 = .ok (.getfield 294, 3) := by decide +kernel
theorem d_TM_asksAll_21 : decode b_TM_asksAll 21 = .ok (.iload_n 1, 1) := by decide +kernel
theorem d_TM_asksAll_22 : decode b_TM_asksAll 22 = .ok (.if_icmp .ne 55, 3) := by decide +kernel
theorem d_TM_asksAll_25 : decode b_TM_asksAll 25 = .ok (.aload_n 0, 1) := by decide +kernel
theorem d_TM_asksAll_26 : decode b_TM_asksAll 26 = .ok (.iload_n 1, 1) := by decide +kernel
theorem d_TM_asksAll_27 : decode b_TM_asksAll 27 = .ok (.aload_n 3, 1) := by decide +kernel
theorem d_TM_asksAll_28 : decode b_TM_asksAll 28 = .ok (.getfield 297, 3) := by decide +kernel
theorem d_TM_asksAll_31 : decode b_TM_asksAll 31 = .ok (.iconst 0, 1) := by decide +kernel
theorem d_TM_asksAll_32 : decode b_TM_asksAll 32 = .ok (.invokevirtual 329, 3) := by decide +kernel
theorem d_TM_asksAll_35 : decode b_TM_asksAll 35 = .ok (.aload_n 3, 1) := by decide +kernel
theorem d_TM_asksAll_36 : decode b_TM_asksAll 36 = .ok (.getfield 299, 3) := by decide +kernel
theorem d_TM_asksAll_39 : decode b_TM_asksAll 39 = .ok (.bipush 6, 2) := by decide +kernel
theorem d_TM_asksAll_41 : decode b_TM_asksAll 41 = .ok (.if_icmp .ge 16, 3) := by decide +kernel
theorem d_TM_asksAll_44 : decode b_TM_asksAll 44 = .ok (.aload_n 0, 1) := by decide +kernel
theorem d_TM_asksAll_45 : decode b_TM_asksAll 45 = .ok (.getstatic 323, 3) := by decide +kernel
theorem d_TM_asksAll_48 : decode b_TM_asksAll 48 = .ok (.aload_n 3, 1) := by decide +kernel
theorem d_TM_asksAll_49 : decode b_TM_asksAll 49 = .ok (.getfield 302, 3) := by decide +kernel
theorem d_TM_asksAll_52 : decode b_TM_asksAll 52 = .ok (.iconst 1, 1) := by decide +kernel
theorem d_TM_asksAll_53 : decode b_TM_asksAll 53 = .ok (.iconst 0, 1) := by decide +kernel
theorem d_TM_asksAll_54 : decode b_TM_asksAll 54 = .ok (.invokevirtual 193, 3) := by decide +kernel
theorem d_TM_asksAll_57 : decode b_TM_asksAll 57 = .ok (.aload_n 0, 1) := by decide +kernel
theorem d_TM_asksAll_58 : decode b_TM_asksAll 58 = .ok (.aload_n 0, 1) := by decide +kernel
theorem d_TM_asksAll_59 : decode b_TM_asksAll 59 = .ok (.getfield 38, 3) := by decide +kernel
theorem d_TM_asksAll_62 : decode b_TM_asksAll 62 = .ok (.getstatic 333, 3) := by decide +kernel
theorem d_TM_asksAll_65 : decode b_TM_asksAll 65 = .ok (.invokevirtual 200, 3) := by decide +kernel
theorem d_TM_asksAll_68 : decode b_TM_asksAll 68 = .ok (.aload_n 3, 1) := by decide +kernel
theorem d_TM_asksAll_69 : decode b_TM_asksAll 69 = .ok (.getfield 299, 3) := by decide +kernel
theorem d_TM_asksAll_72 : decode b_TM_asksAll 72 = .ok (.iadd, 1) := by decide +kernel
theorem d_TM_asksAll_73 : decode b_TM_asksAll 73 = .ok (.aaload, 1) := by decide +kernel
theorem d_TM_asksAll_74 : decode b_TM_asksAll 74 = .ok (.invokevirtual 336, 3) := by decide +kernel
theorem d_TM_asksAll_77 : decode b_TM_asksAll 77 = .ok (.iinc 2 1, 3) := by decide +kernel
theorem d_TM_asksAll_80 : decode b_TM_asksAll 80 = .ok (.goto (-78), 3) := by decide +kernel
theorem d_TM_asksAll_83 : decode b_TM_asksAll 83 = .ok (.return_, 1) := by decide +kernel
noncomputable def b_TM_asksAll_2 (a1 : Int32) (x1 : Int32) (σ2 : Sg) : Option ((Int32 × Sg) ⊕ (Sg)) :=
  (if (gi σ2 0 0 18) ≤ x1 then (some (.inr σ2)) else (chk (vp_in x1 4) (Option.bind (if (gi σ2 8 x1.toNatClampNeg 0) = a1 then ((f_TM_fetch a1 (gi σ2 8 x1.toNatClampNeg 1) 0 σ2).bind (fun σ10 => Option.bind (if 6 ≤ (gi σ10 8 x1.toNatClampNeg 2) then (some (σ10)) else ((f_TM_emit 6 (gi σ10 8 x1.toNatClampNeg 3) 1 0 σ10).bind (fun σ15 => some (σ15)))) (fun (σ12 : Sg) => chk (vp_in ((nI 9) + (gi σ12 8 x1.toNatClampNeg 2)) 22) ((f_TM_orElse (((nI 9) + (gi σ12 8 x1.toNatClampNeg 2)).toNatClampNeg) σ12).bind (fun σ19 => some (σ19)))))) else (some (σ2))) (fun (σ7 : Sg) => lt_ (x1 + 1 : Int32) (fun (x22 : Int32) => some (.inl (x22, σ7)))))))
noncomputable def l_TM_asksAll_2 (a1 : Int32) (x1 : Int32) (σ2 : Sg) : Option (Sg) := lp (fun q => b_TM_asksAll_2 a1 q.1 q.2) FU (x1, σ2)
noncomputable def f_TM_asksAll (a1 : Int32) (σ : Sg) : Option (Sg) :=
  (l_TM_asksAll_2 a1 0 σ).bind (fun σ24 => some σ24)
abbrev rm_TM_asksAll : Room := { frames := 6, cells := 0, slots := 0, locals := 133 }
set_option maxHeartbeats 4000000 in
set_option maxRecDepth 100000 in
theorem c_TM_asksAll (l : Launch) (X : GX) (n : Nat) {σ σ' : Sg} {a1 : Int32}  (hf : f_TM_asksAll a1 σ = some σ') : Met l y_TM_asksAll (cw y_TM_asksAll b_TM_asksAll 4 none) rm_TM_asksAll (PcG X n σ [.ref (xL X 0 0), .int a1]) (QcG X n σ' none) 0 0 (fr X n) := by
  refine g_head (own := "TableMachine") (by decide) rfl (Nat.le_of_ble_eq_true rfl) ?_
  intro p e s m args below meth c ls F hr hlk hP hl
  have hl : lv_has ls 4 [(0, .ref (xL X 0 0)), (1, .int a1)] := hl
  show WG l X n rm_TM_asksAll σ' none p e s m args below meth c s.heap [] (F0 m 0 ls [])
  unfold f_TM_asksAll at hf
  refine lv_iconst (v := 0) F.1 F.2.1 d_TM_asksAll_0 (by decide) ?_
  refine lv_istore_n F.1 F.2.1 d_TM_asksAll_1 rfl hl (by decide) rfl (fun ls hl => ?_)
  have hl : lv_has ls 4 [(2, .int 0), (0, .ref (xL X 0 0)), (1, .int a1)] := hl
  obtain ⟨σ24, hlp25, hf⟩ := bnd_some hf
  have KX26 : ∀ (ls : Array Slot) (H : Heap) (locs : List Loc), lv_has ls 4 [] → St X n σ24 s.heap H locs → WG l X n rm_TM_asksAll σ' none p e s m args below meth c H locs (F0 m 83 ls []) := by
    intro ls H locs hl hP
    cases hf
    exact g_vret F hP hr hlk d_TM_asksAll_83
  unfold l_TM_asksAll_2 at hlp25
  refine lp_W (PW := fun q => ∀ (ls : Array Slot) (H : Heap) (locs : List Loc), lv_has ls 4 [(0, .ref (xL X 0 0)), (1, .int a1), (2, .int q.1)] → St X n q.2 s.heap H locs → WG l X n rm_TM_asksAll σ' none p e s m args below meth c H locs (F0 m 2 ls [])) (PE := fun q => ∀ (ls : Array Slot) (H : Heap) (locs : List Loc), lv_has ls 4 [] → St X n q s.heap H locs → WG l X n rm_TM_asksAll σ' none p e s m args below meth c H locs (F0 m 83 ls [])) ?_ _ _ _ hlp25 KX26 _ _ _ (lv_sub hl [1, 2, 0] rfl) hP
  rintro ⟨x1, σ2⟩ rr3 hb_2 hI4 hE5 ls H locs hl hP
  replace hb_2 : b_TM_asksAll_2 a1 x1 σ2 = some rr3 := hb_2
  unfold b_TM_asksAll_2 at hb_2
  refine lv_iload_n F.1 F.2.1 d_TM_asksAll_2 rfl (lv_at hl 2 rfl) ?_
  refine lv_aload_n F.1 F.2.1 d_TM_asksAll_3 rfl (lv_at hl 0 rfl) ?_
  refine g_get F hP 0 18 0 (by decide) Nat.zero_lt_one (by decide) (v := .int (gi σ2 0 0 18)) rfl w_188 d_TM_asksAll_4 ?_
  refine lv_icmp_ge F.1 F.2.1 d_TM_asksAll_7 rfl (fun hb23 => ?_) (fun hb23 => ?_)
  · rw [if_pos hb23] at hb_2
    cases hb_2
    exact hE5 _ rfl _ _ _ (lv_sub hl [] rfl) hP
  · rw [if_neg hb23] at hb_2
    refine lv_aload_n F.1 F.2.1 d_TM_asksAll_10 rfl (lv_at hl 0 rfl) ?_
    refine g_get F hP 0 17 0 (by decide) Nat.zero_lt_one (by decide) (v := .ref (xL X 24 0)) rfl w_187 d_TM_asksAll_11 ?_
    refine lv_iload_n F.1 F.2.1 d_TM_asksAll_14 rfl (lv_at hl 2 rfl) ?_
    obtain ⟨hc6, hb_2⟩ := chk_some hb_2
    refine g_rld F hP 24 (by decide) (by decide) Nat.zero_lt_one rfl hc6 (v := .ref (xL X 8 x1.toNatClampNeg)) rfl d_TM_asksAll_15 ?_
    refine lv_astore_n F.1 F.2.1 d_TM_asksAll_16 rfl hl (by decide) rfl (fun ls hl => ?_)
    have hl : lv_has ls 4 [(3, .ref (xL X 8 x1.toNatClampNeg)), (0, .ref (xL X 0 0)), (1, .int a1), (2, .int x1)] := hl
    refine lv_aload_n F.1 F.2.1 d_TM_asksAll_17 rfl (lv_at hl 0 rfl) ?_
    refine g_getN F hP 8 0 x1.toNatClampNeg (by decide) (vin_lt hc6) (by decide) (v := .int (gi σ2 8 x1.toNatClampNeg 0)) rfl w_157 d_TM_asksAll_18 ?_
    refine lv_iload_n F.1 F.2.1 d_TM_asksAll_21 rfl (lv_at hl 2 rfl) ?_
    obtain ⟨σ7, hj9, hb_2⟩ := bnd_some hb_2
    have KJ8 : ∀ (ls : Array Slot) (H : Heap) (locs : List Loc), lv_has ls 4 [(0, .ref (xL X 0 0)), (1, .int a1), (2, .int x1)] → St X n σ7 s.heap H locs → WG l X n rm_TM_asksAll σ' none p e s m args below meth c H locs (F0 m 77 ls []) := by
      intro ls H locs hl hP
      obtain ⟨x22, e_x22, hb_2⟩ := lt_some hb_2
      refine lv_iinc (k := 2) (v := x22) F.1 F.2.1 d_TM_asksAll_77 hl rfl (by rw [e_x22]; rfl) (by decide) rfl (fun ls hl => ?_)
      have hl : lv_has ls 4 [(2, .int x22), (0, .ref (xL X 0 0)), (1, .int a1)] := hl
      refine lv_goto F.1 F.2.1 d_TM_asksAll_80 rfl ?_
      cases hb_2
      exact hI4 _ rfl _ _ _ (lv_sub hl [1, 2, 0] rfl) hP
    refine lv_icmp_ne F.1 F.2.1 d_TM_asksAll_22 rfl (fun hb21 => ?_) (fun hb21 => ?_)
    · rw [if_neg hb21] at hj9
      cases hj9
      exact KJ8 _ _ _ (lv_sub hl [1, 2, 3] rfl) hP
    · rw [if_pos hb21] at hj9
      refine lv_aload_n F.1 F.2.1 d_TM_asksAll_25 rfl (lv_at hl 1 rfl) ?_
      refine lv_iload_n F.1 F.2.1 d_TM_asksAll_26 rfl (lv_at hl 2 rfl) ?_
      refine lv_aload_n F.1 F.2.1 d_TM_asksAll_27 rfl (lv_at hl 0 rfl) ?_
      refine g_getN F hP 8 1 x1.toNatClampNeg (by decide) (vin_lt hc6) (by decide) (v := .int (gi σ2 8 x1.toNatClampNeg 1)) rfl w_158 d_TM_asksAll_28 ?_
      refine lv_iconst (v := 0) F.1 F.2.1 d_TM_asksAll_31 (by decide) ?_
      obtain ⟨σ10, hk11, hj9⟩ := bnd_some hj9
      refine g_callV (As := [.int a1, .int (gi σ2 8 x1.toNatClampNeg 1), .int 0]) (rest := []) F hP 0 0 (by decide) Nat.zero_lt_one (c_TM_fetch l X n  hk11) rfl q_TM_fetch w_842 w_1 w_839 w_841 wp_31 ⟨rfl, rfl⟩ ⟨by decide, by decide⟩ hl.1 (Nat.le_of_ble_eq_true rfl) ⟨Nat.zero_le _, Nat.zero_le _⟩ d_TM_asksAll_32 rfl (fun H locs hP => ?_)
      refine W.eq (g2 := F0 m 35 ls []) rfl ?_
      refine lv_aload_n F.1 F.2.1 d_TM_asksAll_35 rfl (lv_at hl 0 rfl) ?_
      refine g_getN F hP 8 2 x1.toNatClampNeg (by decide) (vin_lt hc6) (by decide) (v := .int (gi σ10 8 x1.toNatClampNeg 2)) rfl w_159 d_TM_asksAll_36 ?_
      refine lv_bipush (v := 6) F.1 F.2.1 d_TM_asksAll_39 (by decide) ?_
      obtain ⟨σ12, hj14, hj9⟩ := bnd_some hj9
      have KJ13 : ∀ (ls : Array Slot) (H : Heap) (locs : List Loc), lv_has ls 4 [(0, .ref (xL X 0 0)), (1, .int a1), (2, .int x1), (3, .ref (xL X 8 x1.toNatClampNeg))] → St X n σ12 s.heap H locs → WG l X n rm_TM_asksAll σ' none p e s m args below meth c H locs (F0 m 57 ls []) := by
        intro ls H locs hl hP
        refine lv_aload_n F.1 F.2.1 d_TM_asksAll_57 rfl (lv_at hl 0 rfl) ?_
        refine lv_aload_n F.1 F.2.1 d_TM_asksAll_58 rfl (lv_at hl 0 rfl) ?_
        refine g_get F hP 0 6 0 (by decide) Nat.zero_lt_one (by decide) (v := .ref (xL X 18 0)) rfl w_176 d_TM_asksAll_59 ?_
        refine g_enum F hP 9 (by decide) w_847 d_TM_asksAll_62 ?_
        refine g_ord (rest := [.ref (xL X 18 0), .ref (xL X 0 0)]) F hP (by decide) w_723 ⟨by decide, by decide⟩ hl.1 (Nat.le_of_ble_eq_true rfl) ⟨Nat.zero_le _, Nat.zero_le _⟩ d_TM_asksAll_65 (fun H locs hP => ?_)
        refine lv_aload_n F.1 F.2.1 d_TM_asksAll_68 rfl (lv_at hl 3 rfl) ?_
        refine g_getN F hP 8 2 x1.toNatClampNeg (by decide) (vin_lt hc6) (by decide) (v := .int (gi σ12 8 x1.toNatClampNeg 2)) rfl w_159 d_TM_asksAll_69 ?_
        refine lv_iadd F.1 F.2.1 d_TM_asksAll_72 ?_
        obtain ⟨hc18, hj9⟩ := chk_some hj9
        refine g_rld F hP 18 (by decide) (by decide) Nat.zero_lt_one rfl hc18 (v := .ref (xad X ((nI 9) + (gi σ12 8 x1.toNatClampNeg 2)).toNatClampNeg)) rfl d_TM_asksAll_73 ?_
        obtain ⟨σ19, hk20, hj9⟩ := bnd_some hj9
        refine g_callV (As := [.ref (xad X ((nI 9) + (gi σ12 8 x1.toNatClampNeg 2)).toNatClampNeg)]) (rest := []) F hP 0 0 (by decide) Nat.zero_lt_one (c_TM_orElse l X n (vin_lt hc18) hk20) rfl q_TM_orElse w_852 w_1 w_849 w_851 wp_32 ⟨rfl, rfl⟩ ⟨by decide, by decide⟩ hl.1 (Nat.le_of_ble_eq_true rfl) ⟨Nat.zero_le _, Nat.zero_le _⟩ d_TM_asksAll_74 rfl (fun H locs hP => ?_)
        refine W.eq (g2 := F0 m 77 ls []) rfl ?_
        cases hj9
        exact KJ8 _ _ _ (lv_sub hl [0, 1, 2] rfl) hP
      refine lv_icmp_ge F.1 F.2.1 d_TM_asksAll_41 rfl (fun hb17 => ?_) (fun hb17 => ?_)
      · rw [if_pos hb17] at hj14
        cases hj14
        exact KJ13 _ _ _ (lv_sub hl [1, 2, 3, 0] rfl) hP
      · rw [if_neg hb17] at hj14
        refine lv_aload_n F.1 F.2.1 d_TM_asksAll_44 rfl (lv_at hl 1 rfl) ?_
        refine g_enum F hP 6 (by decide) w_831 d_TM_asksAll_45 ?_
        refine lv_aload_n F.1 F.2.1 d_TM_asksAll_48 rfl (lv_at hl 0 rfl) ?_
        refine g_getN F hP 8 3 x1.toNatClampNeg (by decide) (vin_lt hc6) (by decide) (v := .int (gi σ10 8 x1.toNatClampNeg 3)) rfl w_160 d_TM_asksAll_49 ?_
        refine lv_iconst (v := 1) F.1 F.2.1 d_TM_asksAll_52 (by decide) ?_
        refine lv_iconst (v := 0) F.1 F.2.1 d_TM_asksAll_53 (by decide) ?_
        obtain ⟨σ15, hk16, hj14⟩ := bnd_some hj14
        refine g_callV (As := [.ref (xad X 6), .int (gi σ10 8 x1.toNatClampNeg 3), .int 1, .int 0]) (rest := []) F hP 0 0 (by decide) Nat.zero_lt_one (c_TM_emit l X n (by decide) hk16) rfl q_TM_emit w_696 w_1 w_693 w_695 wp_21 ⟨rfl, rfl⟩ ⟨by decide, by decide⟩ hl.1 (Nat.le_of_ble_eq_true rfl) ⟨Nat.zero_le _, Nat.zero_le _⟩ d_TM_asksAll_54 rfl (fun H locs hP => ?_)
        refine W.eq (g2 := F0 m 57 ls []) rfl ?_
        cases hj14
        exact KJ13 _ _ _ (lv_sub hl [1, 2, 3, 0] rfl) hP

theorem d_TM_tells_0 : decode b_TM_tells 0 = .ok (.iconst 0, 1) := by decide +kernel
theorem d_TM_tells_1 : decode b_TM_tells 1 = .ok (.istore_n 1, 1) := by decide +kernel
theorem d_TM_tells_2 : decode b_TM_tells 2 = .ok (.iload_n 1, 1) := by decide +kernel
theorem d_TM_tells_3 : decode b_TM_tells 3 = .ok (.aload_n 0, 1) := by decide +kernel
theorem d_TM_tells_4 : decode b_TM_tells 4 = .ok (.getfield 284, 3) := by decide +kernel
theorem d_TM_tells_7 : decode b_TM_tells 7 = .ok (.if_icmp .ge 34, 3) := by decide +kernel
theorem d_TM_tells_10 : decode b_TM_tells 10 = .ok (.aload_n 0, 1) := by decide +kernel
theorem d_TM_tells_11 : decode b_TM_tells 11 = .ok (.aload_n 0, 1) := by decide +kernel
theorem d_TM_tells_12 : decode b_TM_tells 12 = .ok (.getfield 80, 3) := by decide +kernel
theorem d_TM_tells_15 : decode b_TM_tells 15 = .ok (.iconst 2, 1) := by decide +kernel
theorem d_TM_tells_16 : decode b_TM_tells 16 = .ok (.iload_n 1, 1) := by decide +kernel
theorem d_TM_tells_17 : decode b_TM_tells 17 = .ok (.imul, 1) := by decide +kernel
theorem d_TM_tells_18 : decode b_TM_tells 18 = .ok (.iaload, 1) := by decide +kernel
theorem d_TM_tells_19 : decode b_TM_tells 19 = .ok (.aload_n 0, 1) := by decide +kernel
theorem d_TM_tells_20 : decode b_TM_tells 20 = .ok (.getfield 80, 3) := by decide +kernel
theorem d_TM_tells_23 : decode b_TM_tells 23 = .ok (.iconst 2, 1) := by decide +kernel
theorem d_TM_tells_24 : decode b_TM_tells 24 = .ok (.iload_n 1, 1) := by decide +kernel
theorem d_TM_tells_25 : decode b_TM_tells 25 = .ok (.imul, 1) := by decide +kernel
theorem d_TM_tells_26 : decode b_TM_tells 26 = .ok (.iconst 1, 1) := by decide +kernel
theorem d_TM_tells_27 : decode b_TM_tells 27 = .ok (.iadd, 1) := by decide +kernel
theorem d_TM_tells_28 : decode b_TM_tells 28 = .ok (.iaload, 1) := by decide +kernel
theorem d_TM_tells_29 : decode b_TM_tells 29 = .ok (.iconst 2, 1) := by decide +kernel
theorem d_TM_tells_30 : decode b_TM_tells 30 = .ok (.iload_n 1, 1) := by decide +kernel
theorem d_TM_tells_31 : decode b_TM_tells 31 = .ok (.iadd, 1) := by decide +kernel
theorem d_TM_tells_32 : decode b_TM_tells 32 = .ok (.invokevirtual 329, 3) := by decide +kernel
theorem d_TM_tells_35 : decode b_TM_tells 35 = .ok (.iinc 1 1, 3) := by decide +kernel
theorem d_TM_tells_38 : decode b_TM_tells 38 = .ok (.goto (-36), 3) := by decide +kernel
theorem d_TM_tells_41 : decode b_TM_tells 41 = .ok (.aload_n 0, 1) := by decide +kernel
theorem d_TM_tells_42 : decode b_TM_tells 42 = .ok (.getstatic 190, 3) := by decide +kernel
theorem d_TM_tells_45 : decode b_TM_tells 45 = .ok (.iconst 2, 1) := by decide +kernel
theorem d_TM_tells_46 : decode b_TM_tells 46 = .ok (.aload_n 0, 1) := by decide +kernel
theorem d_TM_tells_47 : decode b_TM_tells 47 = .ok (.getfield 284, 3) := by decide +kernel
theorem d_TM_tells_50 : decode b_TM_tells 50 = .ok (.iconst 0, 1) := by decide +kernel
theorem d_TM_tells_51 : decode b_TM_tells 51 = .ok (.invokevirtual 193, 3) := by decide +kernel
theorem d_TM_tells_54 : decode b_TM_tells 54 = .ok (.return_, 1) := by decide +kernel
noncomputable def b_TM_tells_2  (x1 : Int32) (σ2 : Sg) : Option ((Int32 × Sg) ⊕ (Sg)) :=
  (if (gi σ2 0 0 20) ≤ x1 then (some (.inr σ2)) else (chk (vp_in (2 * x1) 8) (chk (vp_in ((2 * x1) + 1) 8) ((f_TM_fetch (gi σ2 25 0 ((2 * x1).toNatClampNeg)) (gi σ2 25 0 (((2 * x1) + 1).toNatClampNeg)) (2 + x1) σ2).bind (fun σ8 => lt_ (x1 + 1 : Int32) (fun (x10 : Int32) => some (.inl (x10, σ8))))))))
noncomputable def l_TM_tells_2  (x1 : Int32) (σ2 : Sg) : Option (Sg) := lp (fun q => b_TM_tells_2  q.1 q.2) FU (x1, σ2)
noncomputable def f_TM_tells  (σ : Sg) : Option (Sg) :=
  (l_TM_tells_2  0 σ).bind (fun σ12 => (f_TM_emit 18 2 (gi σ12 0 0 20) 0 σ12).bind (fun σ15 => some σ15))
abbrev rm_TM_tells : Room := { frames := 6, cells := 0, slots := 0, locals := 133 }
set_option maxHeartbeats 4000000 in
set_option maxRecDepth 100000 in
theorem c_TM_tells (l : Launch) (X : GX) (n : Nat) {σ σ' : Sg}   (hf : f_TM_tells  σ = some σ') : Met l y_TM_tells (cw y_TM_tells b_TM_tells 2 none) rm_TM_tells (PcG X n σ [.ref (xL X 0 0)]) (QcG X n σ' none) 0 0 (fr X n) := by
  refine g_head (own := "TableMachine") (by decide) rfl (Nat.le_of_ble_eq_true rfl) ?_
  intro p e s m args below meth c ls F hr hlk hP hl
  have hl : lv_has ls 2 [(0, .ref (xL X 0 0))] := hl
  show WG l X n rm_TM_tells σ' none p e s m args below meth c s.heap [] (F0 m 0 ls [])
  unfold f_TM_tells at hf
  refine lv_iconst (v := 0) F.1 F.2.1 d_TM_tells_0 (by decide) ?_
  refine lv_istore_n F.1 F.2.1 d_TM_tells_1 rfl hl (by decide) rfl (fun ls hl => ?_)
  have hl : lv_has ls 2 [(1, .int 0), (0, .ref (xL X 0 0))] := hl
  obtain ⟨σ12, hlp13, hf⟩ := bnd_some hf
  have KX14 : ∀ (ls : Array Slot) (H : Heap) (locs : List Loc), lv_has ls 2 [(0, .ref (xL X 0 0))] → St X n σ12 s.heap H locs → WG l X n rm_TM_tells σ' none p e s m args below meth c H locs (F0 m 41 ls []) := by
    intro ls H locs hl hP
    refine lv_aload_n F.1 F.2.1 d_TM_tells_41 rfl (lv_at hl 0 rfl) ?_
    refine g_enum F hP 18 (by decide) w_691 d_TM_tells_42 ?_
    refine lv_iconst (v := 2) F.1 F.2.1 d_TM_tells_45 (by decide) ?_
    refine lv_aload_n F.1 F.2.1 d_TM_tells_46 rfl (lv_at hl 0 rfl) ?_
    refine g_get F hP 0 20 0 (by decide) Nat.zero_lt_one (by decide) (v := .int (gi σ12 0 0 20)) rfl w_190 d_TM_tells_47 ?_
    refine lv_iconst (v := 0) F.1 F.2.1 d_TM_tells_50 (by decide) ?_
    obtain ⟨σ15, hk16, hf⟩ := bnd_some hf
    refine g_callV (As := [.ref (xad X 18), .int 2, .int (gi σ12 0 0 20), .int 0]) (rest := []) F hP 0 0 (by decide) Nat.zero_lt_one (c_TM_emit l X n (by decide) hk16) rfl q_TM_emit w_696 w_1 w_693 w_695 wp_21 ⟨rfl, rfl⟩ ⟨by decide, by decide⟩ hl.1 (Nat.le_of_ble_eq_true rfl) ⟨Nat.zero_le _, Nat.zero_le _⟩ d_TM_tells_51 rfl (fun H locs hP => ?_)
    refine W.eq (g2 := F0 m 54 ls []) rfl ?_
    cases hf
    exact g_vret F hP hr hlk d_TM_tells_54
  unfold l_TM_tells_2 at hlp13
  refine lp_W (PW := fun q => ∀ (ls : Array Slot) (H : Heap) (locs : List Loc), lv_has ls 2 [(0, .ref (xL X 0 0)), (1, .int q.1)] → St X n q.2 s.heap H locs → WG l X n rm_TM_tells σ' none p e s m args below meth c H locs (F0 m 2 ls [])) (PE := fun q => ∀ (ls : Array Slot) (H : Heap) (locs : List Loc), lv_has ls 2 [(0, .ref (xL X 0 0))] → St X n q s.heap H locs → WG l X n rm_TM_tells σ' none p e s m args below meth c H locs (F0 m 41 ls [])) ?_ _ _ _ hlp13 KX14 _ _ _ (lv_sub hl [1, 0] rfl) hP
  rintro ⟨x1, σ2⟩ rr3 hb_2 hI4 hE5 ls H locs hl hP
  replace hb_2 : b_TM_tells_2  x1 σ2 = some rr3 := hb_2
  unfold b_TM_tells_2 at hb_2
  refine lv_iload_n F.1 F.2.1 d_TM_tells_2 rfl (lv_at hl 1 rfl) ?_
  refine lv_aload_n F.1 F.2.1 d_TM_tells_3 rfl (lv_at hl 0 rfl) ?_
  refine g_get F hP 0 20 0 (by decide) Nat.zero_lt_one (by decide) (v := .int (gi σ2 0 0 20)) rfl w_190 d_TM_tells_4 ?_
  refine lv_icmp_ge F.1 F.2.1 d_TM_tells_7 rfl (fun hb11 => ?_) (fun hb11 => ?_)
  · rw [if_pos hb11] at hb_2
    cases hb_2
    exact hE5 _ rfl _ _ _ (lv_sub hl [0] rfl) hP
  · rw [if_neg hb11] at hb_2
    refine lv_aload_n F.1 F.2.1 d_TM_tells_10 rfl (lv_at hl 0 rfl) ?_
    refine lv_aload_n F.1 F.2.1 d_TM_tells_11 rfl (lv_at hl 0 rfl) ?_
    refine g_get F hP 0 19 0 (by decide) Nat.zero_lt_one (by decide) (v := .ref (xL X 25 0)) rfl w_189 d_TM_tells_12 ?_
    refine lv_iconst (v := 2) F.1 F.2.1 d_TM_tells_15 (by decide) ?_
    refine lv_iload_n F.1 F.2.1 d_TM_tells_16 rfl (lv_at hl 1 rfl) ?_
    refine lv_imul F.1 F.2.1 d_TM_tells_17 ?_
    obtain ⟨hc6, hb_2⟩ := chk_some hb_2
    refine g_ald F hP 25 (by decide) (by decide) Nat.zero_lt_one rfl rfl hc6 d_TM_tells_18 ?_
    refine lv_aload_n F.1 F.2.1 d_TM_tells_19 rfl (lv_at hl 0 rfl) ?_
    refine g_get F hP 0 19 0 (by decide) Nat.zero_lt_one (by decide) (v := .ref (xL X 25 0)) rfl w_189 d_TM_tells_20 ?_
    refine lv_iconst (v := 2) F.1 F.2.1 d_TM_tells_23 (by decide) ?_
    refine lv_iload_n F.1 F.2.1 d_TM_tells_24 rfl (lv_at hl 1 rfl) ?_
    refine lv_imul F.1 F.2.1 d_TM_tells_25 ?_
    refine lv_iconst (v := 1) F.1 F.2.1 d_TM_tells_26 (by decide) ?_
    refine lv_iadd F.1 F.2.1 d_TM_tells_27 ?_
    obtain ⟨hc7, hb_2⟩ := chk_some hb_2
    refine g_ald F hP 25 (by decide) (by decide) Nat.zero_lt_one rfl rfl hc7 d_TM_tells_28 ?_
    refine lv_iconst (v := 2) F.1 F.2.1 d_TM_tells_29 (by decide) ?_
    refine lv_iload_n F.1 F.2.1 d_TM_tells_30 rfl (lv_at hl 1 rfl) ?_
    refine lv_iadd F.1 F.2.1 d_TM_tells_31 ?_
    obtain ⟨σ8, hk9, hb_2⟩ := bnd_some hb_2
    refine g_callV (As := [.int (gi σ2 25 0 ((2 * x1).toNatClampNeg)), .int (gi σ2 25 0 (((2 * x1) + 1).toNatClampNeg)), .int (2 + x1)]) (rest := []) F hP 0 0 (by decide) Nat.zero_lt_one (c_TM_fetch l X n  hk9) rfl q_TM_fetch w_842 w_1 w_839 w_841 wp_31 ⟨rfl, rfl⟩ ⟨by decide, by decide⟩ hl.1 (Nat.le_of_ble_eq_true rfl) ⟨Nat.zero_le _, Nat.zero_le _⟩ d_TM_tells_32 rfl (fun H locs hP => ?_)
    refine W.eq (g2 := F0 m 35 ls []) rfl ?_
    obtain ⟨x10, e_x10, hb_2⟩ := lt_some hb_2
    refine lv_iinc (k := 1) (v := x10) F.1 F.2.1 d_TM_tells_35 hl rfl (by rw [e_x10]; rfl) (by decide) rfl (fun ls hl => ?_)
    have hl : lv_has ls 2 [(1, .int x10), (0, .ref (xL X 0 0))] := hl
    refine lv_goto F.1 F.2.1 d_TM_tells_38 rfl ?_
    cases hb_2
    exact hI4 _ rfl _ _ _ (lv_sub hl [1, 0] rfl) hP

theorem d_TM_settle_0 : decode b_TM_settle 0 = .ok (.iload_n 1, 1) := by decide +kernel
theorem d_TM_settle_1 : decode b_TM_settle 1 = .ok (.istore_n 2, 1) := by decide +kernel
theorem d_TM_settle_2 : decode b_TM_settle 2 = .ok (.iload_n 2, 1) := by decide +kernel
theorem d_TM_settle_3 : decode b_TM_settle 3 = .ok (.aload_n 0, 1) := by decide +kernel
theorem d_TM_settle_4 : decode b_TM_settle 4 = .ok (.getfield 166, 3) := by decide +kernel
theorem d_TM_settle_7 : decode b_TM_settle 7 = .ok (.if_icmp .ge 92, 3) := by decide +kernel
theorem d_TM_settle_10 : decode b_TM_settle 10 = .ok (.aload_n 0, 1) := by decide +kernel
theorem d_TM_settle_11 : decode b_TM_settle 11 = .ok (.getfield 44, 3) := by decide +kernel
theorem d_TM_settle_14 : decode b_TM_settle 14 = .ok (.iload_n 2, 1) := by decide +kernel
theorem d_TM_settle_15 : decode b_TM_settle 15 = .ok (.aaload, 1) := by decide +kernel
theorem d_TM_settle_16 : decode b_TM_settle 16 = .ok (.astore_n 3, 1) := by decide +kernel
theorem d_TM_settle_17 : decode b_TM_settle 17 = .ok (.iconst 0, 1) := by decide +kernel
theorem d_TM_settle_18 : decode b_TM_settle 18 = .ok (.istore 4, 2) := by decide +kernel
theorem d_TM_settle_20 : decode b_TM_settle 20 = .ok (.iload 4, 2) := by decide +kernel
theorem d_TM_settle_22 : decode b_TM_settle 22 = .ok (.iconst 2, 1) := by decide +kernel
theorem d_TM_settle_23 : decode b_TM_settle 23 = .ok (.if_icmp .ge 70, 3) := by decide +kernel
theorem d_TM_settle_26 : decode b_TM_settle 26 = .ok (.aload_n 3, 1) := by decide +kernel
theorem d_TM_settle_27 : decode b_TM_settle 27 = .ok (.getfield 169, 3) := by decide +kernel
theorem d_TM_settle_30 : decode b_TM_settle 30 = .ok (.getfield 176, 3) := by decide +kernel
theorem d_TM_settle_33 : decode b_TM_settle 33 = .ok (.iload 4, 2) := by decide +kernel
theorem d_TM_settle_35 : decode b_TM_settle 35 = .ok (.invokevirtual 180, 3) := by decide +kernel
theorem d_TM_settle_38 : decode b_TM_settle 38 = .ok (.bipush 106, 2) := by decide +kernel
theorem d_TM_settle_40 : decode b_TM_settle 40 = .ok (.if_icmp .ne 18, 3) := by decide +kernel
theorem d_TM_settle_43 : decode b_TM_settle 43 = .ok (.aload_n 3, 1) := by decide +kernel
theorem d_TM_settle_44 : decode b_TM_settle 44 = .ok (.getfield 173, 3) := by decide +kernel
theorem d_TM_settle_47 : decode b_TM_settle 47 = .ok (.iload 4, 2) := by decide +kernel
theorem d_TM_settle_49 : decode b_TM_settle 49 = .ok (.iaload, 1) := by decide +kernel
theorem d_TM_settle_50 : decode b_TM_settle 50 = .ok (.iconst (-1), 1) := by decide +kernel
theorem d_TM_settle_51 : decode b_TM_settle 51 = .ok (.if_icmp .ne 7, 3) := by decide +kernel
theorem d_TM_settle_54 : decode b_TM_settle 54 = .ok (.iconst 1, 1) := by decide +kernel
theorem d_TM_settle_55 : decode b_TM_settle 55 = .ok (.goto 4, 3) := by decide +kernel
theorem d_TM_settle_58 : decode b_TM_settle 58 = .ok (.iconst 0, 1) := by decide +kernel
theorem d_TM_settle_59 : decode b_TM_settle 59 = .ok (.istore 5, 2) := by decide +kernel
theorem d_TM_settle_61 : decode b_TM_settle 61 = .ok (.aload_n 3, 1) := by decide +kernel
theorem d_TM_settle_62 : decode b_TM_settle 62 = .ok (.getfield 173, 3) := by decide +kernel
theorem d_TM_settle_65 : decode b_TM_settle 65 = .ok (.iload 4, 2) := by decide +kernel
theorem d_TM_settle_67 : decode b_TM_settle 67 = .ok (.iload 5, 2) := by decide +kernel
theorem d_TM_settle_69 : decode b_TM_settle 69 = .ok (.ifCond .eq 10, 3) := by decide +kernel
theorem d_TM_settle_72 : decode b_TM_settle 72 = .ok (.aload_n 0, 1) := by decide +kernel
theorem d_TM_settle_73 : decode b_TM_settle 73 = .ok (.getfield 166, 3) := by decide +kernel
theorem d_TM_settle_76 : decode b_TM_settle 76 = .ok (.goto 10, 3) := by decide +kernel
theorem d_TM_settle_79 : decode b_TM_settle 79 = .ok (.aload_n 3, 1) := by decide +kernel
theorem d_TM_settle_80 : decode b_TM_settle 80 = .ok (.getfield 173, 3) := by decide +kernel
theorem d_TM_settle_83 : decode b_TM_settle 83 = .ok (.iload 4, 2) := by decide +kernel
theorem d_TM_settle_85 : decode b_TM_settle 85 = .ok (.iaload, 1) := by decide +kernel
theorem d_TM_settle_86 : decode b_TM_settle 86 = .ok (.iastore, 1) := by decide +kernel
theorem d_TM_settle_87 : decode b_TM_settle 87 = .ok (.iinc 4 1, 3) := by decide +kernel
theorem d_TM_settle_90 : decode b_TM_settle 90 = .ok (.goto (-70), 3) := by decide +kernel
theorem d_TM_settle_93 : decode b_TM_settle 93 = .ok (.iinc 2 1, 3) := by decide +kernel
theorem d_TM_settle_96 : decode b_TM_settle 96 = .ok (.goto (-94), 3) := by decide +kernel
theorem d_TM_settle_99 : decode b_TM_settle 99 = .ok (.return_, 1) := by decide +kernel
noncomputable def b_TM_settle_20 (x1 : Int32) (x7 : Int32) (σ8 : Sg) : Option ((Int32 × Sg) ⊕ (Sg)) :=
  (if 2 ≤ x7 then (some (.inr σ8)) else ((gr σ8 6 x1.toNatClampNeg 0).bind (fun o12 => chk (o12 < 22) (chk (vp_in x7 3) (Option.bind (if (chr o12 x7.toNatClampNeg) = 106 then (chk (vp_in x7 3) ((if (gi σ8 16 x1.toNatClampNeg x7.toNatClampNeg) = (-1) then (some (1)) else (some (0))))) else (some (0))) (fun (x15 : Int32) => Option.bind (if x15 = 0 then (chk (vp_in x7 3) (some (gi σ8 16 x1.toNatClampNeg x7.toNatClampNeg))) else (some (gi σ8 0 0 8))) (fun (x21 : Int32) => chk (vp_in x7 3) (lt_ (si σ8 16 x1.toNatClampNeg x7.toNatClampNeg x21) (fun σ27 => lt_ (x7 + 1 : Int32) (fun (x28 : Int32) => some (.inl (x28, σ27))))))))))))
noncomputable def l_TM_settle_20 (x1 : Int32) (x7 : Int32) (σ8 : Sg) : Option (Sg) := lp (fun q => b_TM_settle_20 x1 q.1 q.2) FU (x7, σ8)
noncomputable def b_TM_settle_2  (x1 : Int32) (σ2 : Sg) : Option ((Int32 × Sg) ⊕ (Sg)) :=
  (if (gi σ2 0 0 8) ≤ x1 then (some (.inr σ2)) else (chk (vp_in x1 60) ((l_TM_settle_20 x1 0 σ2).bind (fun σ30 => lt_ (x1 + 1 : Int32) (fun (x33 : Int32) => some (.inl (x33, σ30)))))))
noncomputable def l_TM_settle_2  (x1 : Int32) (σ2 : Sg) : Option (Sg) := lp (fun q => b_TM_settle_2  q.1 q.2) FU (x1, σ2)
noncomputable def f_TM_settle (a1 : Int32) (σ : Sg) : Option (Sg) :=
  (l_TM_settle_2  a1 σ).bind (fun σ35 => some σ35)
abbrev rm_TM_settle : Room := { frames := 4, cells := 0, slots := 0, locals := 85 }
set_option maxHeartbeats 4000000 in
set_option maxRecDepth 100000 in
theorem c_TM_settle (l : Launch) (X : GX) (n : Nat) {σ σ' : Sg} {a1 : Int32}  (hf : f_TM_settle a1 σ = some σ') : Met l y_TM_settle (cw y_TM_settle b_TM_settle 6 none) rm_TM_settle (PcG X n σ [.ref (xL X 0 0), .int a1]) (QcG X n σ' none) 0 0 (fr X n) := by
  refine g_head (own := "TableMachine") (by decide) rfl (Nat.le_of_ble_eq_true rfl) ?_
  intro p e s m args below meth c ls F hr hlk hP hl
  have hl : lv_has ls 6 [(0, .ref (xL X 0 0)), (1, .int a1)] := hl
  show WG l X n rm_TM_settle σ' none p e s m args below meth c s.heap [] (F0 m 0 ls [])
  unfold f_TM_settle at hf
  refine lv_iload_n F.1 F.2.1 d_TM_settle_0 rfl (lv_at hl 1 rfl) ?_
  refine lv_istore_n F.1 F.2.1 d_TM_settle_1 rfl hl (by decide) rfl (fun ls hl => ?_)
  have hl : lv_has ls 6 [(2, .int a1), (0, .ref (xL X 0 0)), (1, .int a1)] := hl
  obtain ⟨σ35, hlp36, hf⟩ := bnd_some hf
  have KX37 : ∀ (ls : Array Slot) (H : Heap) (locs : List Loc), lv_has ls 6 [] → St X n σ35 s.heap H locs → WG l X n rm_TM_settle σ' none p e s m args below meth c H locs (F0 m 99 ls []) := by
    intro ls H locs hl hP
    cases hf
    exact g_vret F hP hr hlk d_TM_settle_99
  unfold l_TM_settle_2 at hlp36
  refine lp_W (PW := fun q => ∀ (ls : Array Slot) (H : Heap) (locs : List Loc), lv_has ls 6 [(0, .ref (xL X 0 0)), (2, .int q.1)] → St X n q.2 s.heap H locs → WG l X n rm_TM_settle σ' none p e s m args below meth c H locs (F0 m 2 ls [])) (PE := fun q => ∀ (ls : Array Slot) (H : Heap) (locs : List Loc), lv_has ls 6 [] → St X n q s.heap H locs → WG l X n rm_TM_settle σ' none p e s m args below meth c H locs (F0 m 99 ls [])) ?_ _ _ _ hlp36 KX37 _ _ _ (lv_sub hl [1, 0] rfl) hP
  rintro ⟨x1, σ2⟩ rr3 hb_2 hI4 hE5 ls H locs hl hP
  replace hb_2 : b_TM_settle_2  x1 σ2 = some rr3 := hb_2
  unfold b_TM_settle_2 at hb_2
  refine lv_iload_n F.1 F.2.1 d_TM_settle_2 rfl (lv_at hl 1 rfl) ?_
  refine lv_aload_n F.1 F.2.1 d_TM_settle_3 rfl (lv_at hl 0 rfl) ?_
  refine g_get F hP 0 8 0 (by decide) Nat.zero_lt_one (by decide) (v := .int (gi σ2 0 0 8)) rfl w_178 d_TM_settle_4 ?_
  refine lv_icmp_ge F.1 F.2.1 d_TM_settle_7 rfl (fun hb34 => ?_) (fun hb34 => ?_)
  · rw [if_pos hb34] at hb_2
    cases hb_2
    exact hE5 _ rfl _ _ _ (lv_sub hl [] rfl) hP
  · rw [if_neg hb34] at hb_2
    refine lv_aload_n F.1 F.2.1 d_TM_settle_10 rfl (lv_at hl 0 rfl) ?_
    refine g_get F hP 0 7 0 (by decide) Nat.zero_lt_one (by decide) (v := .ref (xL X 19 0)) rfl w_177 d_TM_settle_11 ?_
    refine lv_iload_n F.1 F.2.1 d_TM_settle_14 rfl (lv_at hl 1 rfl) ?_
    obtain ⟨hc6, hb_2⟩ := chk_some hb_2
    refine g_rld F hP 19 (by decide) (by decide) Nat.zero_lt_one rfl hc6 (v := .ref (xL X 6 x1.toNatClampNeg)) rfl d_TM_settle_15 ?_
    refine lv_astore_n F.1 F.2.1 d_TM_settle_16 rfl hl (by decide) rfl (fun ls hl => ?_)
    have hl : lv_has ls 6 [(3, .ref (xL X 6 x1.toNatClampNeg)), (0, .ref (xL X 0 0)), (2, .int x1)] := hl
    refine lv_iconst (v := 0) F.1 F.2.1 d_TM_settle_17 (by decide) ?_
    refine lv_istore F.1 F.2.1 d_TM_settle_18 hl (by decide) rfl (fun ls hl => ?_)
    have hl : lv_has ls 6 [(4, .int 0), (3, .ref (xL X 6 x1.toNatClampNeg)), (0, .ref (xL X 0 0)), (2, .int x1)] := hl
    obtain ⟨σ30, hlp31, hb_2⟩ := bnd_some hb_2
    have KX32 : ∀ (ls : Array Slot) (H : Heap) (locs : List Loc), lv_has ls 6 [(0, .ref (xL X 0 0)), (2, .int x1)] → St X n σ30 s.heap H locs → WG l X n rm_TM_settle σ' none p e s m args below meth c H locs (F0 m 93 ls []) := by
      intro ls H locs hl hP
      obtain ⟨x33, e_x33, hb_2⟩ := lt_some hb_2
      refine lv_iinc (k := 1) (v := x33) F.1 F.2.1 d_TM_settle_93 hl rfl (by rw [e_x33]; rfl) (by decide) rfl (fun ls hl => ?_)
      have hl : lv_has ls 6 [(2, .int x33), (0, .ref (xL X 0 0))] := hl
      refine lv_goto F.1 F.2.1 d_TM_settle_96 rfl ?_
      cases hb_2
      exact hI4 _ rfl _ _ _ (lv_sub hl [1, 0] rfl) hP
    unfold l_TM_settle_20 at hlp31
    refine lp_W (PW := fun q => ∀ (ls : Array Slot) (H : Heap) (locs : List Loc), lv_has ls 6 [(0, .ref (xL X 0 0)), (2, .int x1), (3, .ref (xL X 6 x1.toNatClampNeg)), (4, .int q.1)] → St X n q.2 s.heap H locs → WG l X n rm_TM_settle σ' none p e s m args below meth c H locs (F0 m 20 ls [])) (PE := fun q => ∀ (ls : Array Slot) (H : Heap) (locs : List Loc), lv_has ls 6 [(0, .ref (xL X 0 0)), (2, .int x1)] → St X n q s.heap H locs → WG l X n rm_TM_settle σ' none p e s m args below meth c H locs (F0 m 93 ls [])) ?_ _ _ _ hlp31 KX32 _ _ _ (lv_sub hl [2, 3, 1, 0] rfl) hP
    rintro ⟨x7, σ8⟩ rr9 hb_20 hI10 hE11 ls H locs hl hP
    replace hb_20 : b_TM_settle_20 x1 x7 σ8 = some rr9 := hb_20
    unfold b_TM_settle_20 at hb_20
    refine lv_iload F.1 F.2.1 d_TM_settle_20 (lv_at hl 3 rfl) ?_
    refine lv_iconst (v := 2) F.1 F.2.1 d_TM_settle_22 (by decide) ?_
    refine lv_icmp_ge F.1 F.2.1 d_TM_settle_23 rfl (fun hb29 => ?_) (fun hb29 => ?_)
    · rw [if_pos hb29] at hb_20
      cases hb_20
      exact hE11 _ rfl _ _ _ (lv_sub hl [0, 1] rfl) hP
    · rw [if_neg hb29] at hb_20
      refine lv_aload_n F.1 F.2.1 d_TM_settle_26 rfl (lv_at hl 2 rfl) ?_
      obtain ⟨o12, e_o12, hb_20⟩ := bnd_some hb_20
      obtain ⟨hc13, hb_20⟩ := chk_some hb_20
      refine g_getN F hP 6 0 x1.toNatClampNeg (by decide) (vin_lt hc6) (by decide) (v := .ref (xad X o12)) (fv_op e_o12) w_125 d_TM_settle_27 ?_
      refine g_what F hP hc13 w_1161 d_TM_settle_30 ?_
      refine lv_iload F.1 F.2.1 d_TM_settle_33 (lv_at hl 3 rfl) ?_
      obtain ⟨hc14, hb_20⟩ := chk_some hb_20
      refine g_charAt (rest := []) F hP hc13 hc14 w_648 ⟨by decide, by decide⟩ hl.1 (Nat.le_of_ble_eq_true rfl) ⟨Nat.zero_le _, Nat.zero_le _⟩ d_TM_settle_35 (fun H locs hP => ?_)
      refine lv_bipush (v := 106) F.1 F.2.1 d_TM_settle_38 (by decide) ?_
      obtain ⟨x15, hj17, hb_20⟩ := bnd_some hb_20
      have KJ16 : ∀ (ls : Array Slot) (H : Heap) (locs : List Loc), lv_has ls 6 [(0, .ref (xL X 0 0)), (2, .int x1), (3, .ref (xL X 6 x1.toNatClampNeg)), (4, .int x7)] → St X n σ8 s.heap H locs → WG l X n rm_TM_settle σ' none p e s m args below meth c H locs (F0 m 59 ls [.int x15]) := by
        intro ls H locs hl hP
        refine lv_istore F.1 F.2.1 d_TM_settle_59 hl (by decide) rfl (fun ls hl => ?_)
        have hl : lv_has ls 6 [(5, .int x15), (0, .ref (xL X 0 0)), (2, .int x1), (3, .ref (xL X 6 x1.toNatClampNeg)), (4, .int x7)] := hl
        refine lv_aload_n F.1 F.2.1 d_TM_settle_61 rfl (lv_at hl 3 rfl) ?_
        refine g_getN F hP 6 1 x1.toNatClampNeg (by decide) (vin_lt hc6) (by decide) (v := .ref (xL X 16 x1.toNatClampNeg)) rfl w_127 d_TM_settle_62 ?_
        refine lv_iload F.1 F.2.1 d_TM_settle_65 (lv_at hl 4 rfl) ?_
        refine lv_iload F.1 F.2.1 d_TM_settle_67 (lv_at hl 0 rfl) ?_
        obtain ⟨x21, hj23, hb_20⟩ := bnd_some hb_20
        have KJ22 : ∀ (ls : Array Slot) (H : Heap) (locs : List Loc), lv_has ls 6 [(0, .ref (xL X 0 0)), (2, .int x1), (3, .ref (xL X 6 x1.toNatClampNeg)), (4, .int x7)] → St X n σ8 s.heap H locs → WG l X n rm_TM_settle σ' none p e s m args below meth c H locs (F0 m 86 ls [.int x21, .int x7, .ref (xL X 16 x1.toNatClampNeg)]) := by
          intro ls H locs hl hP
          obtain ⟨hc26, hb_20⟩ := chk_some hb_20
          obtain ⟨σ27, e_σ27, hb_20⟩ := lt_some hb_20
          refine g_ast F hP 16 (by decide) (by decide) (vin_lt hc6) rfl rfl hc26 d_TM_settle_86 e_σ27 (fun H locs hP => ?_)
          obtain ⟨x28, e_x28, hb_20⟩ := lt_some hb_20
          refine lv_iinc (k := 3) (v := x28) F.1 F.2.1 d_TM_settle_87 hl rfl (by rw [e_x28]; rfl) (by decide) rfl (fun ls hl => ?_)
          have hl : lv_has ls 6 [(4, .int x28), (0, .ref (xL X 0 0)), (2, .int x1), (3, .ref (xL X 6 x1.toNatClampNeg))] := hl
          refine lv_goto F.1 F.2.1 d_TM_settle_90 rfl ?_
          cases hb_20
          exact hI10 _ rfl _ _ _ (lv_sub hl [1, 2, 3, 0] rfl) hP
        refine lv_if_eq F.1 F.2.1 d_TM_settle_69 rfl (fun hb25 => ?_) (fun hb25 => ?_)
        · rw [if_pos hb25] at hj23
          refine lv_aload_n F.1 F.2.1 d_TM_settle_79 rfl (lv_at hl 3 rfl) ?_
          refine g_getN F hP 6 1 x1.toNatClampNeg (by decide) (vin_lt hc6) (by decide) (v := .ref (xL X 16 x1.toNatClampNeg)) rfl w_127 d_TM_settle_80 ?_
          refine lv_iload F.1 F.2.1 d_TM_settle_83 (lv_at hl 4 rfl) ?_
          obtain ⟨hc24, hj23⟩ := chk_some hj23
          refine g_ald F hP 16 (by decide) (by decide) (vin_lt hc6) rfl rfl hc24 d_TM_settle_85 ?_
          cases hj23
          exact KJ22 _ _ _ (lv_sub hl [1, 2, 3, 4] rfl) hP
        · rw [if_neg hb25] at hj23
          refine lv_aload_n F.1 F.2.1 d_TM_settle_72 rfl (lv_at hl 1 rfl) ?_
          refine g_get F hP 0 8 0 (by decide) Nat.zero_lt_one (by decide) (v := .int (gi σ8 0 0 8)) rfl w_178 d_TM_settle_73 ?_
          refine lv_goto F.1 F.2.1 d_TM_settle_76 rfl ?_
          cases hj23
          exact KJ22 _ _ _ (lv_sub hl [1, 2, 3, 4] rfl) hP
      refine lv_icmp_ne F.1 F.2.1 d_TM_settle_40 rfl (fun hb20 => ?_) (fun hb20 => ?_)
      · rw [if_neg hb20] at hj17
        refine lv_iconst (v := 0) F.1 F.2.1 d_TM_settle_58 (by decide) ?_
        cases hj17
        exact KJ16 _ _ _ (lv_sub hl [0, 1, 2, 3] rfl) hP
      · rw [if_pos hb20] at hj17
        refine lv_aload_n F.1 F.2.1 d_TM_settle_43 rfl (lv_at hl 2 rfl) ?_
        refine g_getN F hP 6 1 x1.toNatClampNeg (by decide) (vin_lt hc6) (by decide) (v := .ref (xL X 16 x1.toNatClampNeg)) rfl w_127 d_TM_settle_44 ?_
        refine lv_iload F.1 F.2.1 d_TM_settle_47 (lv_at hl 3 rfl) ?_
        obtain ⟨hc18, hj17⟩ := chk_some hj17
        refine g_ald F hP 16 (by decide) (by decide) (vin_lt hc6) rfl rfl hc18 d_TM_settle_49 ?_
        refine lv_iconst (v := (-1)) F.1 F.2.1 d_TM_settle_50 (by decide) ?_
        refine lv_icmp_ne F.1 F.2.1 d_TM_settle_51 rfl (fun hb19 => ?_) (fun hb19 => ?_)
        · rw [if_neg hb19] at hj17
          refine lv_iconst (v := 0) F.1 F.2.1 d_TM_settle_58 (by decide) ?_
          cases hj17
          exact KJ16 _ _ _ (lv_sub hl [0, 1, 2, 3] rfl) hP
        · rw [if_pos hb19] at hj17
          refine lv_iconst (v := 1) F.1 F.2.1 d_TM_settle_54 (by decide) ?_
          refine lv_goto F.1 F.2.1 d_TM_settle_55 rfl ?_
          cases hj17
          exact KJ16 _ _ _ (lv_sub hl [0, 1, 2, 3] rfl) hP
