/-! printed by wip/gen: 13.cursor -/
theorem d_Cu_take_0 : decode b_Cu_take 0 = .ok (.aload_n 0, 1) := by decide +kernel
theorem d_Cu_take_1 : decode b_Cu_take 1 = .ok (.iload_n 1, 1) := by decide +kernel
theorem d_Cu_take_2 : decode b_Cu_take 2 = .ok (.putfield 7, 3) := by decide +kernel
theorem d_Cu_take_5 : decode b_Cu_take 5 = .ok (.aload_n 0, 1) := by decide +kernel
theorem d_Cu_take_6 : decode b_Cu_take 6 = .ok (.iload_n 1, 1) := by decide +kernel
theorem d_Cu_take_7 : decode b_Cu_take 7 = .ok (.ifCond .eq 13, 3) := by decide +kernel
theorem d_Cu_take_10 : decode b_Cu_take 10 = .ok (.aload_n 0, 1) := by decide +kernel
theorem d_Cu_take_11 : decode b_Cu_take 11 = .ok (.getfield 13, 3) := by decide +kernel
theorem d_Cu_take_14 : decode b_Cu_take 14 = .ok (.invokevirtual 26, 3) := by decide +kernel
theorem d_Cu_take_17 : decode b_Cu_take 17 = .ok (.goto 4, 3) := by decide +kernel
theorem d_Cu_take_20 : decode b_Cu_take 20 = .ok (.lconst 0, 1) := by decide +kernel
theorem d_Cu_take_21 : decode b_Cu_take 21 = .ok (.putfield 17, 3) := by decide +kernel
theorem d_Cu_take_24 : decode b_Cu_take 24 = .ok (.iload_n 1, 1) := by decide +kernel
theorem d_Cu_take_25 : decode b_Cu_take 25 = .ok (.ireturn, 1) := by decide +kernel
noncomputable def f_Cu_take (i0 : Nat) (a1 : Int32) (σ : Sg) : Option (Int32 × Sg) :=
  chk (zb a1) (lt_ (si σ 7 i0 1 a1) (fun σ2 => bn2 (if a1 = 0 then (some (0, σ2)) else ((gr σ2 7 i0 0).bind (fun t7 => chk (t7 < nt σ2) (bn2 (f_Tr_key t7 σ2) (fun r12 σ10 => some (r12, σ10)))))) (fun (x3 : Int64) (σ4 : Sg) => lt_ (sj σ4 7 i0 2 x3) (fun σ14 => chk (zb a1) (some (a1, σ14))))))
abbrev rm_Cu_take : Room := { frames := 3, cells := 0, slots := 0, locals := 65 }
set_option maxHeartbeats 4000000 in
set_option maxRecDepth 100000 in
theorem c_Cu_take (l : Launch) (X : GX) (n : Nat) {σ σ' : Sg} {r : Int32} {i0 : Nat} {a1 : Int32} (h_i0 : i0 < cnt n 7) (hf : f_Cu_take i0 a1 σ = some (r, σ')) : Met l y_Cu_take (cw y_Cu_take b_Cu_take 2 (some .boolean)) rm_Cu_take (PcG X n σ [.ref (xL X 7 i0), .int a1]) (QcG X n σ' (some (.int r))) 0 0 (fr X n) := by
  refine g_head (own := "TableMachine$Cursor") (by decide) rfl (Nat.le_of_ble_eq_true rfl) ?_
  intro p e s m args below meth c ls F hr hlk hP hl
  have hl : lv_has ls 2 [(0, .ref (xL X 7 i0)), (1, .int a1)] := hl
  show WG l X n rm_Cu_take σ' (some (.int r)) p e s m args below meth c s.heap [] (F0 m 0 ls [])
  unfold f_Cu_take at hf
  refine lv_aload_n F.1 F.2.1 d_Cu_take_0 rfl (lv_at hl 0 rfl) ?_
  refine lv_iload_n F.1 F.2.1 d_Cu_take_1 rfl (lv_at hl 1 rfl) ?_
  obtain ⟨hc1, hf⟩ := chk_some hf
  obtain ⟨σ2, e_σ2, hf⟩ := lt_some hf
  refine g_puti F hP 7 1 i0 (by decide) h_i0 (by decide) rfl rfl (zb_n hc1) (zb_f hc1) (Or.inl w_141) d_Cu_take_2 e_σ2 (fun H locs hP => ?_)
  refine lv_aload_n F.1 F.2.1 d_Cu_take_5 rfl (lv_at hl 0 rfl) ?_
  refine lv_iload_n F.1 F.2.1 d_Cu_take_6 rfl (lv_at hl 1 rfl) ?_
  obtain ⟨x3, σ4, hj6, hf⟩ := bn2_some hf
  have KJ5 : ∀ (ls : Array Slot) (H : Heap) (locs : List Loc), lv_has ls 2 [(1, .int a1)] → St X n σ4 s.heap H locs → WG l X n rm_Cu_take σ' (some (.int r)) p e s m args below meth c H locs (F0 m 21 ls [.long x3, .ref (xL X 7 i0)]) := by
    intro ls H locs hl hP
    obtain ⟨σ14, e_σ14, hf⟩ := lt_some hf
    refine g_putj F hP 7 2 i0 (by decide) h_i0 (by decide) rfl rfl rfl (Or.inl w_143) d_Cu_take_21 e_σ14 (fun H locs hP => ?_)
    refine lv_iload_n F.1 F.2.1 d_Cu_take_24 rfl (lv_at hl 0 rfl) ?_
    obtain ⟨hz15, hf⟩ := chk_some hf
    cases hf
    exact g_zret F hP hr hlk hz15 d_Cu_take_25
  refine lv_if_eq F.1 F.2.1 d_Cu_take_7 rfl (fun hb13 => ?_) (fun hb13 => ?_)
  · rw [if_pos hb13] at hj6
    refine lv_lconst (v := 0) F.1 F.2.1 d_Cu_take_20 (by decide) ?_
    cases hj6
    exact KJ5 _ _ _ (lv_sub hl [1] rfl) hP
  · rw [if_neg hb13] at hj6
    refine lv_aload_n F.1 F.2.1 d_Cu_take_10 rfl (lv_at hl 0 rfl) ?_
    obtain ⟨t7, e_t7, hj6⟩ := bnd_some hj6
    obtain ⟨hc8, hj6⟩ := chk_some hj6
    have hv9 : t7 < cnt n 3 := hP.lt hc8
    refine g_get F hP 7 0 i0 (by decide) h_i0 (by decide) (v := .ref (xL X 3 t7)) (fv_on e_t7) w_139 d_Cu_take_11 ?_
    obtain ⟨r12, σ10, hk11, hj6⟩ := bn2_some hj6
    refine g_callV (As := []) (rest := [.ref (xL X 7 i0)]) F hP 3 t7 (by decide) hv9 (c_Tr_key l X n hv9 hk11) rfl q_Tr_key w_610 w_17 w_772 w_608 w_609 ⟨rfl, rfl⟩ ⟨by decide, by decide⟩ hl.1 (Nat.le_of_ble_eq_true rfl) ⟨Nat.zero_le _, Nat.zero_le _⟩ d_Cu_take_14 rfl (fun H locs hP => ?_)
    refine W.eq (g2 := F0 m 17 ls [.long r12, .ref (xL X 7 i0)]) rfl ?_
    refine lv_goto F.1 F.2.1 d_Cu_take_17 rfl ?_
    cases hj6
    exact KJ5 _ _ _ (lv_sub hl [1] rfl) hP

theorem d_Cu_at_0 : decode b_Cu_at 0 = .ok (.aload_n 0, 1) := by decide +kernel
theorem d_Cu_at_1 : decode b_Cu_at 1 = .ok (.getfield 7, 3) := by decide +kernel
theorem d_Cu_at_4 : decode b_Cu_at 4 = .ok (.ifCond .eq 21, 3) := by decide +kernel
theorem d_Cu_at_7 : decode b_Cu_at 7 = .ok (.aload_n 0, 1) := by decide +kernel
theorem d_Cu_at_8 : decode b_Cu_at 8 = .ok (.getfield 13, 3) := by decide +kernel
theorem d_Cu_at_11 : decode b_Cu_at 11 = .ok (.aload_n 0, 1) := by decide +kernel
theorem d_Cu_at_12 : decode b_Cu_at 12 = .ok (.getfield 17, 3) := by decide +kernel
theorem d_Cu_at_15 : decode b_Cu_at 15 = .ok (.invokevirtual 21, 3) := by decide +kernel
theorem d_Cu_at_18 : decode b_Cu_at 18 = .ok (.ifCond .eq 7, 3) := by decide +kernel
theorem d_Cu_at_21 : decode b_Cu_at 21 = .ok (.iconst 1, 1) := by decide +kernel
theorem d_Cu_at_22 : decode b_Cu_at 22 = .ok (.goto 4, 3) := by decide +kernel
theorem d_Cu_at_25 : decode b_Cu_at 25 = .ok (.iconst 0, 1) := by decide +kernel
theorem d_Cu_at_26 : decode b_Cu_at 26 = .ok (.ireturn, 1) := by decide +kernel
noncomputable def f_Cu_at (i0 : Nat) (σ : Sg) : Option (Int32 × Sg) :=
  bn2 (if (gi σ 7 i0 1) = 0 then (some (0, σ)) else ((gr σ 7 i0 0).bind (fun t5 => chk (t5 < nt σ) (bn2 (f_Tr_has t5 (gj σ 7 i0 2) σ) (fun r10 σ8 => (if r10 = 0 then (some (0, σ8)) else (some (1, σ8)))))))) (fun (x1 : Int32) (σ2 : Sg) => chk (zb x1) (some (x1, σ2)))
abbrev rm_Cu_at : Room := { frames := 5, cells := 0, slots := 0, locals := 122 }
set_option maxHeartbeats 4000000 in
set_option maxRecDepth 100000 in
theorem c_Cu_at (l : Launch) (X : GX) (n : Nat) {σ σ' : Sg} {r : Int32} {i0 : Nat} (h_i0 : i0 < cnt n 7) (hf : f_Cu_at i0 σ = some (r, σ')) : Met l y_Cu_at (cw y_Cu_at b_Cu_at 1 (some .boolean)) rm_Cu_at (PcG X n σ [.ref (xL X 7 i0)]) (QcG X n σ' (some (.int r))) 0 0 (fr X n) := by
  refine g_head (own := "TableMachine$Cursor") (by decide) rfl (Nat.le_of_ble_eq_true rfl) ?_
  intro p e s m args below meth c ls F hr hlk hP hl
  have hl : lv_has ls 1 [(0, .ref (xL X 7 i0))] := hl
  show WG l X n rm_Cu_at σ' (some (.int r)) p e s m args below meth c s.heap [] (F0 m 0 ls [])
  unfold f_Cu_at at hf
  refine lv_aload_n F.1 F.2.1 d_Cu_at_0 rfl (lv_at hl 0 rfl) ?_
  refine g_get F hP 7 1 i0 (by decide) h_i0 (by decide) (v := .int (gi σ 7 i0 1)) rfl w_141 d_Cu_at_1 ?_
  obtain ⟨x1, σ2, hj4, hf⟩ := bn2_some hf
  have KJ3 : ∀ (ls : Array Slot) (H : Heap) (locs : List Loc), lv_has ls 1 [] → St X n σ2 s.heap H locs → WG l X n rm_Cu_at σ' (some (.int r)) p e s m args below meth c H locs (F0 m 26 ls [.int x1]) := by
    intro ls H locs hl hP
    obtain ⟨hz13, hf⟩ := chk_some hf
    cases hf
    exact g_zret F hP hr hlk hz13 d_Cu_at_26
  refine lv_if_eq F.1 F.2.1 d_Cu_at_4 rfl (fun hb12 => ?_) (fun hb12 => ?_)
  · rw [if_pos hb12] at hj4
    refine lv_iconst (v := 0) F.1 F.2.1 d_Cu_at_25 (by decide) ?_
    cases hj4
    exact KJ3 _ _ _ (lv_sub hl [] rfl) hP
  · rw [if_neg hb12] at hj4
    refine lv_aload_n F.1 F.2.1 d_Cu_at_7 rfl (lv_at hl 0 rfl) ?_
    obtain ⟨t5, e_t5, hj4⟩ := bnd_some hj4
    obtain ⟨hc6, hj4⟩ := chk_some hj4
    have hv7 : t5 < cnt n 3 := hP.lt hc6
    refine g_get F hP 7 0 i0 (by decide) h_i0 (by decide) (v := .ref (xL X 3 t5)) (fv_on e_t5) w_139 d_Cu_at_8 ?_
    refine lv_aload_n F.1 F.2.1 d_Cu_at_11 rfl (lv_at hl 0 rfl) ?_
    refine g_get F hP 7 2 i0 (by decide) h_i0 (by decide) (v := .long (gj σ 7 i0 2)) rfl w_143 d_Cu_at_12 ?_
    obtain ⟨r10, σ8, hk9, hj4⟩ := bn2_some hj4
    refine g_callV (As := [.long (gj σ 7 i0 2)]) (rest := []) F hP 3 t5 (by decide) hv7 (c_Tr_has l X n hv7 hk9) rfl q_Tr_has w_451 w_17 w_781 w_449 w_450 ⟨rfl, rfl⟩ ⟨by decide, by decide⟩ hl.1 (Nat.le_of_ble_eq_true rfl) ⟨Nat.zero_le _, Nat.zero_le _⟩ d_Cu_at_15 rfl (fun H locs hP => ?_)
    refine W.eq (g2 := F0 m 18 ls [.int r10]) rfl ?_
    refine lv_if_eq F.1 F.2.1 d_Cu_at_18 rfl (fun hb11 => ?_) (fun hb11 => ?_)
    · rw [if_pos hb11] at hj4
      refine lv_iconst (v := 0) F.1 F.2.1 d_Cu_at_25 (by decide) ?_
      cases hj4
      exact KJ3 _ _ _ (lv_sub hl [] rfl) hP
    · rw [if_neg hb11] at hj4
      refine lv_iconst (v := 1) F.1 F.2.1 d_Cu_at_21 (by decide) ?_
      refine lv_goto F.1 F.2.1 d_Cu_at_22 rfl ?_
      cases hj4
      exact KJ3 _ _ _ (lv_sub hl [] rfl) hP

theorem d_Cu_clear_0 : decode b_Cu_clear 0 = .ok (.aload_n 0, 1) := by decide +kernel
theorem d_Cu_clear_1 : decode b_Cu_clear 1 = .ok (.iconst 0, 1) := by decide +kernel
theorem d_Cu_clear_2 : decode b_Cu_clear 2 = .ok (.putfield 7, 3) := by decide +kernel
theorem d_Cu_clear_5 : decode b_Cu_clear 5 = .ok (.aload_n 0, 1) := by decide +kernel
theorem d_Cu_clear_6 : decode b_Cu_clear 6 = .ok (.lconst 0, 1) := by decide +kernel
theorem d_Cu_clear_7 : decode b_Cu_clear 7 = .ok (.putfield 17, 3) := by decide +kernel
theorem d_Cu_clear_10 : decode b_Cu_clear 10 = .ok (.return_, 1) := by decide +kernel
noncomputable def f_Cu_clear (i0 : Nat) (σ : Sg) : Option (Sg) :=
  lt_ (si σ 7 i0 1 0) (fun σ1 => lt_ (sj σ1 7 i0 2 0) (fun σ2 => some σ2))
abbrev rm_Cu_clear : Room := { frames := 0, cells := 0, slots := 0, locals := 0 }
set_option maxHeartbeats 4000000 in
set_option maxRecDepth 100000 in
theorem c_Cu_clear (l : Launch) (X : GX) (n : Nat) {σ σ' : Sg} {i0 : Nat} (h_i0 : i0 < cnt n 7) (hf : f_Cu_clear i0 σ = some σ') : Met l y_Cu_clear (cw y_Cu_clear b_Cu_clear 1 none) rm_Cu_clear (PcG X n σ [.ref (xL X 7 i0)]) (QcG X n σ' none) 0 0 (fr X n) := by
  refine g_head (own := "TableMachine$Cursor") (by decide) rfl (Nat.le_of_ble_eq_true rfl) ?_
  intro p e s m args below meth c ls F hr hlk hP hl
  have hl : lv_has ls 1 [(0, .ref (xL X 7 i0))] := hl
  show WG l X n rm_Cu_clear σ' none p e s m args below meth c s.heap [] (F0 m 0 ls [])
  unfold f_Cu_clear at hf
  refine lv_aload_n F.1 F.2.1 d_Cu_clear_0 rfl (lv_at hl 0 rfl) ?_
  refine lv_iconst (v := 0) F.1 F.2.1 d_Cu_clear_1 (by decide) ?_
  obtain ⟨σ1, e_σ1, hf⟩ := lt_some hf
  refine g_puti F hP 7 1 i0 (by decide) h_i0 (by decide) rfl rfl (zb_n zb0) (zb_f zb0) (Or.inl w_141) d_Cu_clear_2 e_σ1 (fun H locs hP => ?_)
  refine lv_aload_n F.1 F.2.1 d_Cu_clear_5 rfl (lv_at hl 0 rfl) ?_
  refine lv_lconst (v := 0) F.1 F.2.1 d_Cu_clear_6 (by decide) ?_
  obtain ⟨σ2, e_σ2, hf⟩ := lt_some hf
  refine g_putj F hP 7 2 i0 (by decide) h_i0 (by decide) rfl rfl rfl (Or.inl w_143) d_Cu_clear_7 e_σ2 (fun H locs hP => ?_)
  cases hf
  exact g_vret F hP hr hlk d_Cu_clear_10
