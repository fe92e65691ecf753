/-! printed by wip/gen: 17.thr -/
theorem d_TM_value_0 : decode b_TM_value 0 = .ok (.aload_n 0, 1) := by decide +kernel
theorem d_TM_value_1 : decode b_TM_value 1 = .ok (.iload_n 1, 1) := by decide +kernel
theorem d_TM_value_2 : decode b_TM_value 2 = .ok (.lload_n 2, 1) := by decide +kernel
theorem d_TM_value_3 : decode b_TM_value 3 = .ok (.iload 4, 2) := by decide +kernel
theorem d_TM_value_5 : decode b_TM_value 5 = .ok (.invokevirtual 154, 3) := by decide +kernel
theorem d_TM_value_8 : decode b_TM_value 8 = .ok (.getfield 158, 3) := by decide +kernel
theorem d_TM_value_11 : decode b_TM_value 11 = .ok (.lreturn, 1) := by decide +kernel
noncomputable def f_TM_value (a1 : Int32) (a2 : Int64) (a4 : Int32) (σ : Sg) : Option ((Int64 ⊕ Nat) × Sg) :=
  bnX (f_TM_valueOf a1 a2 a4 σ) (fun (r3 : Nat) (σ1 : Sg) => some (.inl (gj σ1 5 r3 1), σ1))
abbrev rm_TM_value : Room := { frames := 8, cells := 1, slots := 6, locals := 150 }
set_option maxHeartbeats 4000000 in
set_option maxRecDepth 100000 in
theorem c_TM_value (l : Launch) (X : GX) (n : Nat) {σ σ' : Sg} {r : Int64 ⊕ Nat} {a1 : Int32} {a2 : Int64} {a4 : Int32} (hfl : l.flags = flags0)  (hf : f_TM_value a1 a2 a4 σ = some (r, σ')) : MetX l y_TM_value (cw y_TM_value b_TM_value 5 (some .long)) rm_TM_value (PcG X n σ [.ref (xL X 0 0), .int a1, .long a2, .int a4]) (QcX X n σ' (rJ r)) 1 6 (fr X n) := by
  refine g_headX (own := "TableMachine") (by decide) rfl (Nat.le_of_ble_eq_true rfl) ?_
  intro p e s m args below meth c ls F hr hlk hnh hP hl
  have hl : lv_has ls 5 [(0, .ref (xL X 0 0)), (1, .int a1), (2, .long a2), (4, .int a4)] := hl
  show WX l X n rm_TM_value σ' (rJ r) p e s m args below meth c s.heap [] (F0 m 0 ls [])
  unfold f_TM_value at hf
  refine lv_aload_n F.1 F.2.1 d_TM_value_0 rfl (lv_at hl 0 rfl) ?_
  refine lv_iload_n F.1 F.2.1 d_TM_value_1 rfl (lv_at hl 1 rfl) ?_
  refine lv_lload_n F.1 F.2.1 d_TM_value_2 rfl (lv_at hl 2 rfl) ?_
  refine lv_iload F.1 F.2.1 d_TM_value_3 (lv_at hl 3 rfl) ?_
  rcases bnX_some hf with ⟨r3, σ1, hk2, hf⟩ | ⟨k4, σ1, hk2, hf⟩
  rotate_left
  · cases hf
    exact xr_thr hP hlk hnh (g_xV (As := [.int a1, .long a2, .int a4]) (rest := []) F hP 0 0 (by decide) Nat.zero_lt_one (c_TM_valueOf l X n hfl  hk2) rfl q_TM_valueOf w_621 w_1 w_618 w_620 wp_20 ⟨by decide, by decide⟩ hl.1 (Nat.le_of_ble_eq_true rfl) ⟨by decide, by decide⟩ d_TM_value_5 rfl)
  have hv5 : r3 < cnt n 5 := v_TM_valueOf  hk2
  refine xr_ret hP (g_xV (As := [.int a1, .long a2, .int a4]) (rest := []) F hP 0 0 (by decide) Nat.zero_lt_one (c_TM_valueOf l X n hfl  hk2) rfl q_TM_valueOf w_621 w_1 w_618 w_620 wp_20 ⟨by decide, by decide⟩ hl.1 (Nat.le_of_ble_eq_true rfl) ⟨by decide, by decide⟩ d_TM_value_5 rfl) (fun H locs hP => ?_)
  refine W.eq (g2 := F0 m 8 ls [.ref (xL X 5 r3)]) rfl ?_
  refine g_getN F hP 5 1 r3 (by decide) hv5 (by decide) (v := .long (gj σ1 5 r3 1)) rfl w_88 d_TM_value_8 ?_
  cases hf
  exact W.mono mqx_ret (g_lret F hP hr hlk d_TM_value_11)

theorem d_TM_isNull_0 : decode b_TM_isNull 0 = .ok (.aload_n 0, 1) := by decide +kernel
theorem d_TM_isNull_1 : decode b_TM_isNull 1 = .ok (.iload_n 1, 1) := by decide +kernel
theorem d_TM_isNull_2 : decode b_TM_isNull 2 = .ok (.lload_n 2, 1) := by decide +kernel
theorem d_TM_isNull_3 : decode b_TM_isNull 3 = .ok (.iload 4, 2) := by decide +kernel
theorem d_TM_isNull_5 : decode b_TM_isNull 5 = .ok (.invokevirtual 154, 3) := by decide +kernel
theorem d_TM_isNull_8 : decode b_TM_isNull 8 = .ok (.getfield 162, 3) := by decide +kernel
theorem d_TM_isNull_11 : decode b_TM_isNull 11 = .ok (.ifCond .ne 7, 3) := by decide +kernel
theorem d_TM_isNull_14 : decode b_TM_isNull 14 = .ok (.iconst 1, 1) := by decide +kernel
theorem d_TM_isNull_15 : decode b_TM_isNull 15 = .ok (.goto 4, 3) := by decide +kernel
theorem d_TM_isNull_18 : decode b_TM_isNull 18 = .ok (.iconst 0, 1) := by decide +kernel
theorem d_TM_isNull_19 : decode b_TM_isNull 19 = .ok (.ireturn, 1) := by decide +kernel
noncomputable def f_TM_isNull (a1 : Int32) (a2 : Int64) (a4 : Int32) (σ : Sg) : Option ((Int32 ⊕ Nat) × Sg) :=
  bnX (f_TM_valueOf a1 a2 a4 σ) (fun (r3 : Nat) (σ1 : Sg) => lt_ ((if (gi σ1 5 r3 0) = 0 then 1 else 0) : Int32) (fun (x6 : Int32) => chk (zb x6) (some (.inl x6, σ1))))
abbrev rm_TM_isNull : Room := { frames := 8, cells := 1, slots := 6, locals := 150 }
set_option maxHeartbeats 4000000 in
set_option maxRecDepth 100000 in
theorem c_TM_isNull (l : Launch) (X : GX) (n : Nat) {σ σ' : Sg} {r : Int32 ⊕ Nat} {a1 : Int32} {a2 : Int64} {a4 : Int32} (hfl : l.flags = flags0)  (hf : f_TM_isNull a1 a2 a4 σ = some (r, σ')) : MetX l y_TM_isNull (cw y_TM_isNull b_TM_isNull 5 (some .boolean)) rm_TM_isNull (PcG X n σ [.ref (xL X 0 0), .int a1, .long a2, .int a4]) (QcX X n σ' (rI r)) 1 6 (fr X n) := by
  refine g_headX (own := "TableMachine") (by decide) rfl (Nat.le_of_ble_eq_true rfl) ?_
  intro p e s m args below meth c ls F hr hlk hnh hP hl
  have hl : lv_has ls 5 [(0, .ref (xL X 0 0)), (1, .int a1), (2, .long a2), (4, .int a4)] := hl
  show WX l X n rm_TM_isNull σ' (rI r) p e s m args below meth c s.heap [] (F0 m 0 ls [])
  unfold f_TM_isNull at hf
  refine lv_aload_n F.1 F.2.1 d_TM_isNull_0 rfl (lv_at hl 0 rfl) ?_
  refine lv_iload_n F.1 F.2.1 d_TM_isNull_1 rfl (lv_at hl 1 rfl) ?_
  refine lv_lload_n F.1 F.2.1 d_TM_isNull_2 rfl (lv_at hl 2 rfl) ?_
  refine lv_iload F.1 F.2.1 d_TM_isNull_3 (lv_at hl 3 rfl) ?_
  rcases bnX_some hf with ⟨r3, σ1, hk2, hf⟩ | ⟨k4, σ1, hk2, hf⟩
  rotate_left
  · cases hf
    exact xr_thr hP hlk hnh (g_xV (As := [.int a1, .long a2, .int a4]) (rest := []) F hP 0 0 (by decide) Nat.zero_lt_one (c_TM_valueOf l X n hfl  hk2) rfl q_TM_valueOf w_621 w_1 w_618 w_620 wp_20 ⟨by decide, by decide⟩ hl.1 (Nat.le_of_ble_eq_true rfl) ⟨by decide, by decide⟩ d_TM_isNull_5 rfl)
  have hv5 : r3 < cnt n 5 := v_TM_valueOf  hk2
  refine xr_ret hP (g_xV (As := [.int a1, .long a2, .int a4]) (rest := []) F hP 0 0 (by decide) Nat.zero_lt_one (c_TM_valueOf l X n hfl  hk2) rfl q_TM_valueOf w_621 w_1 w_618 w_620 wp_20 ⟨by decide, by decide⟩ hl.1 (Nat.le_of_ble_eq_true rfl) ⟨by decide, by decide⟩ d_TM_isNull_5 rfl) (fun H locs hP => ?_)
  refine W.eq (g2 := F0 m 8 ls [.ref (xL X 5 r3)]) rfl ?_
  refine g_getN F hP 5 0 r3 (by decide) hv5 (by decide) (v := .int (gi σ1 5 r3 0)) rfl w_85 d_TM_isNull_8 ?_
  obtain ⟨x6, hj8, hf⟩ := lt_some2 hf
  have KJ7 : ∀ (ls : Array Slot) (H : Heap) (locs : List Loc), lv_has ls 5 [] → St X n σ1 s.heap H locs → WX l X n rm_TM_isNull σ' (rI r) p e s m args below meth c H locs (F0 m 19 ls [.int x6]) := by
    intro ls H locs hl hP
    obtain ⟨hz10, hf⟩ := chk_some hf
    cases hf
    exact W.mono mqx_ret (g_zret F hP hr hlk hz10 d_TM_isNull_19)
  refine lv_if_ne F.1 F.2.1 d_TM_isNull_11 rfl (fun hb9 => ?_) (fun hb9 => ?_)
  · rw [if_neg hb9] at hj8
    refine lv_iconst (v := 0) F.1 F.2.1 d_TM_isNull_18 (by decide) ?_
    subst hj8
    exact KJ7 _ _ _ (lv_sub hl [] rfl) hP
  · rw [if_pos hb9] at hj8
    refine lv_iconst (v := 1) F.1 F.2.1 d_TM_isNull_14 (by decide) ?_
    refine lv_goto F.1 F.2.1 d_TM_isNull_15 rfl ?_
    subst hj8
    exact KJ7 _ _ _ (lv_sub hl [] rfl) hP
