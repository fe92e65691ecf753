/-! printed by wip/gen: 12.tree -/
theorem d_Tr_childFor_0 : decode b_Tr_childFor 0 = .ok (.aload_n 0, 1) := by decide +kernel
theorem d_Tr_childFor_1 : decode b_Tr_childFor 1 = .ok (.getfield 27, 3) := by decide +kernel
theorem d_Tr_childFor_4 : decode b_Tr_childFor 4 = .ok (.iload_n 1, 1) := by decide +kernel
theorem d_Tr_childFor_5 : decode b_Tr_childFor 5 = .ok (.invokevirtual 48, 3) := by decide +kernel
theorem d_Tr_childFor_8 : decode b_Tr_childFor 8 = .ok (.astore 4, 2) := by decide +kernel
theorem d_Tr_childFor_10 : decode b_Tr_childFor 10 = .ok (.aload 4, 2) := by decide +kernel
theorem d_Tr_childFor_12 : decode b_Tr_childFor 12 = .ok (.invokevirtual 52, 3) := by decide +kernel
theorem d_Tr_childFor_15 : decode b_Tr_childFor 15 = .ok (.istore 5, 2) := by decide +kernel
theorem d_Tr_childFor_17 : decode b_Tr_childFor 17 = .ok (.aload_n 0, 1) := by decide +kernel
theorem d_Tr_childFor_18 : decode b_Tr_childFor 18 = .ok (.getfield 15, 3) := by decide +kernel
theorem d_Tr_childFor_21 : decode b_Tr_childFor 21 = .ok (.aload_n 0, 1) := by decide +kernel
theorem d_Tr_childFor_22 : decode b_Tr_childFor 22 = .ok (.getfield 55, 3) := by decide +kernel
theorem d_Tr_childFor_25 : decode b_Tr_childFor 25 = .ok (.iconst 0, 1) := by decide +kernel
theorem d_Tr_childFor_26 : decode b_Tr_childFor 26 = .ok (.iastore, 1) := by decide +kernel
theorem d_Tr_childFor_27 : decode b_Tr_childFor 27 = .ok (.iconst 0, 1) := by decide +kernel
theorem d_Tr_childFor_28 : decode b_Tr_childFor 28 = .ok (.istore 6, 2) := by decide +kernel
theorem d_Tr_childFor_30 : decode b_Tr_childFor 30 = .ok (.iload 6, 2) := by decide +kernel
theorem d_Tr_childFor_32 : decode b_Tr_childFor 32 = .ok (.aload_n 0, 1) := by decide +kernel
theorem d_Tr_childFor_33 : decode b_Tr_childFor 33 = .ok (.getfield 27, 3) := by decide +kernel
theorem d_Tr_childFor_36 : decode b_Tr_childFor 36 = .ok (.iload_n 1, 1) := by decide +kernel
theorem d_Tr_childFor_37 : decode b_Tr_childFor 37 = .ok (.invokevirtual 58, 3) := by decide +kernel
theorem d_Tr_childFor_40 : decode b_Tr_childFor 40 = .ok (.if_icmp .ge 47, 3) := by decide +kernel
theorem d_Tr_childFor_43 : decode b_Tr_childFor 43 = .ok (.aload 4, 2) := by decide +kernel
theorem d_Tr_childFor_45 : decode b_Tr_childFor 45 = .ok (.invokevirtual 62, 3) := by decide +kernel
theorem d_Tr_childFor_48 : decode b_Tr_childFor 48 = .ok (.lstore 7, 2) := by decide +kernel
theorem d_Tr_childFor_50 : decode b_Tr_childFor 50 = .ok (.aload 4, 2) := by decide +kernel
theorem d_Tr_childFor_52 : decode b_Tr_childFor 52 = .ok (.invokevirtual 52, 3) := by decide +kernel
theorem d_Tr_childFor_55 : decode b_Tr_childFor 55 = .ok (.istore 9, 2) := by decide +kernel
theorem d_Tr_childFor_57 : decode b_Tr_childFor 57 = .ok (.lload_n 2, 1) := by decide +kernel
theorem d_Tr_childFor_58 : decode b_Tr_childFor 58 = .ok (.lload 7, 2) := by decide +kernel
theorem d_Tr_childFor_60 : decode b_Tr_childFor 60 = .ok (.lcmp, 1) := by decide +kernel
theorem d_Tr_childFor_61 : decode b_Tr_childFor 61 = .ok (.ifCond .lt 20, 3) := by decide +kernel
theorem d_Tr_childFor_64 : decode b_Tr_childFor 64 = .ok (.iload 9, 2) := by decide +kernel
theorem d_Tr_childFor_66 : decode b_Tr_childFor 66 = .ok (.istore 5, 2) := by decide +kernel
theorem d_Tr_childFor_68 : decode b_Tr_childFor 68 = .ok (.aload_n 0, 1) := by decide +kernel
theorem d_Tr_childFor_69 : decode b_Tr_childFor 69 = .ok (.getfield 15, 3) := by decide +kernel
theorem d_Tr_childFor_72 : decode b_Tr_childFor 72 = .ok (.aload_n 0, 1) := by decide +kernel
theorem d_Tr_childFor_73 : decode b_Tr_childFor 73 = .ok (.getfield 55, 3) := by decide +kernel
theorem d_Tr_childFor_76 : decode b_Tr_childFor 76 = .ok (.iload 6, 2) := by decide +kernel
theorem d_Tr_childFor_78 : decode b_Tr_childFor 78 = .ok (.iconst 1, 1) := by decide +kernel
theorem d_Tr_childFor_79 : decode b_Tr_childFor 79 = .ok (.iadd, 1) := by decide +kernel
theorem d_Tr_childFor_80 : decode b_Tr_childFor 80 = .ok (.iastore, 1) := by decide +kernel
theorem d_Tr_childFor_81 : decode b_Tr_childFor 81 = .ok (.iinc 6 1, 3) := by decide +kernel
theorem d_Tr_childFor_84 : decode b_Tr_childFor 84 = .ok (.goto (-54), 3) := by decide +kernel
theorem d_Tr_childFor_87 : decode b_Tr_childFor 87 = .ok (.iload 5, 2) := by decide +kernel
theorem d_Tr_childFor_89 : decode b_Tr_childFor 89 = .ok (.ireturn, 1) := by decide +kernel
noncomputable def b_Tr_childFor_30 (i0 : Nat) (a1 : Int32) (a2 : Int64) (r3 : Nat) (x10 : Int32) (x11 : Int32) (σ12 : Sg) : Option ((Int32 × Int32 × Sg) ⊕ (Int32 × Sg)) :=
  bn2 (f_Pg_cells a1 σ12) (fun r18 σ16 => (if r18 ≤ x11 then (some (.inr (x10, σ16))) else (bn2 (f_Tp_takeNumber r3 σ16) (fun r21 σ19 => bn2 (f_Tp_take r3 σ19) (fun r24 σ22 => bn2 (if a2 < r21 then (some (x10, σ22)) else (chk (vp_in (gi σ22 3 i0 6) 100) (lt_ (si σ22 14 i0 ((gi σ22 3 i0 6).toNatClampNeg) (x11 + 1)) (fun σ30 => some (r24, σ30))))) (fun (x25 : Int32) (σ26 : Sg) => lt_ (x11 + 1 : Int32) (fun (x32 : Int32) => some (.inl (x25, x32, σ26)))))))))
noncomputable def l_Tr_childFor_30 (i0 : Nat) (a1 : Int32) (a2 : Int64) (r3 : Nat) (x10 : Int32) (x11 : Int32) (σ12 : Sg) : Option (Int32 × Sg) := lp (fun q => b_Tr_childFor_30 i0 a1 a2 r3 q.1 q.2.1 q.2.2) FU (x10, x11, σ12)
noncomputable def f_Tr_childFor (i0 : Nat) (a1 : Int32) (a2 : Int64) (σ : Sg) : Option (Int32 × Sg) :=
  bn2 (f_Pg_open a1 σ) (fun r3 σ1 => bn2 (f_Tp_take r3 σ1) (fun r7 σ5 => chk (vp_in (gi σ5 3 i0 6) 100) (lt_ (si σ5 14 i0 ((gi σ5 3 i0 6).toNatClampNeg) 0) (fun σ9 => bn2 (l_Tr_childFor_30 i0 a1 a2 r3 r7 0 σ9) (fun x34 σ35 => some (x34, σ35))))))
abbrev rm_Tr_childFor : Room := { frames := 2, cells := 0, slots := 0, locals := 44 }
set_option maxHeartbeats 4000000 in
set_option maxRecDepth 100000 in
theorem c_Tr_childFor (l : Launch) (X : GX) (n : Nat) {σ σ' : Sg} {r : Int32} {i0 : Nat} {a1 : Int32} {a2 : Int64} (h_i0 : i0 < cnt n 3) (hf : f_Tr_childFor i0 a1 a2 σ = some (r, σ')) : Met l y_Tr_childFor (cw y_Tr_childFor b_Tr_childFor 10 (some .int)) rm_Tr_childFor (PcG X n σ [.ref (xL X 3 i0), .int a1, .long a2]) (QcG X n σ' (some (.int r))) 0 0 (fr X n) := by
  refine g_head (own := "TableMachine$Tree") (by decide) rfl (Nat.le_of_ble_eq_true rfl) ?_
  intro p e s m args below meth c ls F hr hlk hP hl
  have hl : lv_has ls 10 [(0, .ref (xL X 3 i0)), (1, .int a1), (2, .long a2)] := hl
  show WG l X n rm_Tr_childFor σ' (some (.int r)) p e s m args below meth c s.heap [] (F0 m 0 ls [])
  unfold f_Tr_childFor at hf
  refine lv_aload_n F.1 F.2.1 d_Tr_childFor_0 rfl (lv_at hl 0 rfl) ?_
  refine g_get F hP 3 0 i0 (by decide) h_i0 (by decide) (v := .ref (xL X 1 0)) rfl w_396 d_Tr_childFor_1 ?_
  refine lv_iload_n F.1 F.2.1 d_Tr_childFor_4 rfl (lv_at hl 1 rfl) ?_
  obtain ⟨r3, σ1, hk2, hf⟩ := bn2_some hf
  have hv4 : r3 < cnt n 2 := v_Pg_open  hk2
  refine g_callV (As := [.int a1]) (rest := []) F hP 1 0 (by decide) Nat.zero_lt_one (c_Pg_open l X n  hk2) rfl q_Pg_open w_467 w_2 w_464 w_465 w_466 ⟨rfl, rfl⟩ ⟨by decide, by decide⟩ hl.1 (Nat.le_of_ble_eq_true rfl) ⟨Nat.zero_le _, Nat.zero_le _⟩ d_Tr_childFor_5 rfl (fun H locs hP => ?_)
  refine W.eq (g2 := F0 m 8 ls [.ref (xL X 2 r3)]) rfl ?_
  refine lv_astore F.1 F.2.1 d_Tr_childFor_8 hl (by decide) rfl (fun ls hl => ?_)
  have hl : lv_has ls 10 [(4, .ref (xL X 2 r3)), (0, .ref (xL X 3 i0)), (1, .int a1), (2, .long a2)] := hl
  refine lv_aload F.1 F.2.1 d_Tr_childFor_10 (lv_at hl 0 rfl) ?_
  obtain ⟨r7, σ5, hk6, hf⟩ := bn2_some hf
  refine g_callV (As := []) (rest := []) F hP 2 r3 (by decide) hv4 (c_Tp_take l X n hv4 hk6) rfl q_Tp_take w_471 w_3 w_468 w_469 w_470 ⟨rfl, rfl⟩ ⟨by decide, by decide⟩ hl.1 (Nat.le_of_ble_eq_true rfl) ⟨Nat.zero_le _, Nat.zero_le _⟩ d_Tr_childFor_12 rfl (fun H locs hP => ?_)
  refine W.eq (g2 := F0 m 15 ls [.int r7]) rfl ?_
  refine lv_istore F.1 F.2.1 d_Tr_childFor_15 hl (by decide) rfl (fun ls hl => ?_)
  have hl : lv_has ls 10 [(5, .int r7), (4, .ref (xL X 2 r3)), (0, .ref (xL X 3 i0)), (1, .int a1), (2, .long a2)] := hl
  refine lv_aload_n F.1 F.2.1 d_Tr_childFor_17 rfl (lv_at hl 2 rfl) ?_
  refine g_get F hP 3 5 i0 (by decide) h_i0 (by decide) (v := .ref (xL X 14 i0)) rfl w_403 d_Tr_childFor_18 ?_
  refine lv_aload_n F.1 F.2.1 d_Tr_childFor_21 rfl (lv_at hl 2 rfl) ?_
  refine g_get F hP 3 6 i0 (by decide) h_i0 (by decide) (v := .int (gi σ5 3 i0 6)) rfl w_404 d_Tr_childFor_22 ?_
  refine lv_iconst (v := 0) F.1 F.2.1 d_Tr_childFor_25 (by decide) ?_
  obtain ⟨hc8, hf⟩ := chk_some hf
  obtain ⟨σ9, e_σ9, hf⟩ := lt_some hf
  refine g_ast F hP 14 (by decide) (by decide) h_i0 rfl rfl hc8 d_Tr_childFor_26 e_σ9 (fun H locs hP => ?_)
  refine lv_iconst (v := 0) F.1 F.2.1 d_Tr_childFor_27 (by decide) ?_
  refine lv_istore F.1 F.2.1 d_Tr_childFor_28 hl (by decide) rfl (fun ls hl => ?_)
  have hl : lv_has ls 10 [(6, .int 0), (5, .int r7), (4, .ref (xL X 2 r3)), (0, .ref (xL X 3 i0)), (1, .int a1), (2, .long a2)] := hl
  obtain ⟨x34, σ35, hlp36, hf⟩ := bn2_some hf
  have KX37 : ∀ (ls : Array Slot) (H : Heap) (locs : List Loc), lv_has ls 10 [(5, .int x34)] → St X n σ35 s.heap H locs → WG l X n rm_Tr_childFor σ' (some (.int r)) p e s m args below meth c H locs (F0 m 87 ls []) := by
    intro ls H locs hl hP
    refine lv_iload F.1 F.2.1 d_Tr_childFor_87 (lv_at hl 0 rfl) ?_
    cases hf
    exact g_iret F hP hr hlk d_Tr_childFor_89
  unfold l_Tr_childFor_30 at hlp36
  refine lp_W (PW := fun q => ∀ (ls : Array Slot) (H : Heap) (locs : List Loc), lv_has ls 10 [(0, .ref (xL X 3 i0)), (1, .int a1), (2, .long a2), (4, .ref (xL X 2 r3)), (5, .int q.1), (6, .int q.2.1)] → St X n q.2.2 s.heap H locs → WG l X n rm_Tr_childFor σ' (some (.int r)) p e s m args below meth c H locs (F0 m 30 ls [])) (PE := fun q => ∀ (ls : Array Slot) (H : Heap) (locs : List Loc), lv_has ls 10 [(5, .int q.1)] → St X n q.2 s.heap H locs → WG l X n rm_Tr_childFor σ' (some (.int r)) p e s m args below meth c H locs (F0 m 87 ls [])) ?_ _ _ _ hlp36 KX37 _ _ _ (lv_sub hl [3, 4, 5, 2, 1, 0] rfl) hP
  rintro ⟨x10, x11, σ12⟩ rr13 hb_30 hI14 hE15 ls H locs hl hP
  replace hb_30 : b_Tr_childFor_30 i0 a1 a2 r3 x10 x11 σ12 = some rr13 := hb_30
  unfold b_Tr_childFor_30 at hb_30
  refine lv_iload F.1 F.2.1 d_Tr_childFor_30 (lv_at hl 5 rfl) ?_
  refine lv_aload_n F.1 F.2.1 d_Tr_childFor_32 rfl (lv_at hl 0 rfl) ?_
  refine g_get F hP 3 0 i0 (by decide) h_i0 (by decide) (v := .ref (xL X 1 0)) rfl w_396 d_Tr_childFor_33 ?_
  refine lv_iload_n F.1 F.2.1 d_Tr_childFor_36 rfl (lv_at hl 1 rfl) ?_
  obtain ⟨r18, σ16, hk17, hb_30⟩ := bn2_some hb_30
  refine g_callV (As := [.int a1]) (rest := [.int x11]) F hP 1 0 (by decide) Nat.zero_lt_one (c_Pg_cells l X n  hk17) rfl q_Pg_cells w_475 w_2 w_472 w_473 w_474 ⟨rfl, rfl⟩ ⟨by decide, by decide⟩ hl.1 (Nat.le_of_ble_eq_true rfl) ⟨Nat.zero_le _, Nat.zero_le _⟩ d_Tr_childFor_37 rfl (fun H locs hP => ?_)
  refine W.eq (g2 := F0 m 40 ls [.int r18, .int x11]) rfl ?_
  refine lv_icmp_ge F.1 F.2.1 d_Tr_childFor_40 rfl (fun hb33 => ?_) (fun hb33 => ?_)
  · rw [if_pos hb33] at hb_30
    cases hb_30
    exact hE15 _ rfl _ _ _ (lv_sub hl [4] rfl) hP
  · rw [if_neg hb33] at hb_30
    refine lv_aload F.1 F.2.1 d_Tr_childFor_43 (lv_at hl 3 rfl) ?_
    obtain ⟨r21, σ19, hk20, hb_30⟩ := bn2_some hb_30
    refine g_callV (As := []) (rest := []) F hP 2 r3 (by decide) hv4 (c_Tp_takeNumber l X n hv4 hk20) rfl q_Tp_takeNumber w_479 w_3 w_476 w_477 w_478 ⟨rfl, rfl⟩ ⟨by decide, by decide⟩ hl.1 (Nat.le_of_ble_eq_true rfl) ⟨Nat.zero_le _, Nat.zero_le _⟩ d_Tr_childFor_45 rfl (fun H locs hP => ?_)
    refine W.eq (g2 := F0 m 48 ls [.long r21]) rfl ?_
    refine lv_lstore F.1 F.2.1 d_Tr_childFor_48 hl (by decide) rfl (fun ls hl => ?_)
    have hl : lv_has ls 10 [(7, .long r21), (0, .ref (xL X 3 i0)), (1, .int a1), (2, .long a2), (4, .ref (xL X 2 r3)), (5, .int x10), (6, .int x11)] := hl
    refine lv_aload F.1 F.2.1 d_Tr_childFor_50 (lv_at hl 4 rfl) ?_
    obtain ⟨r24, σ22, hk23, hb_30⟩ := bn2_some hb_30
    refine g_callV (As := []) (rest := []) F hP 2 r3 (by decide) hv4 (c_Tp_take l X n hv4 hk23) rfl q_Tp_take w_471 w_3 w_468 w_469 w_470 ⟨rfl, rfl⟩ ⟨by decide, by decide⟩ hl.1 (Nat.le_of_ble_eq_true rfl) ⟨Nat.zero_le _, Nat.zero_le _⟩ d_Tr_childFor_52 rfl (fun H locs hP => ?_)
    refine W.eq (g2 := F0 m 55 ls [.int r24]) rfl ?_
    refine lv_istore F.1 F.2.1 d_Tr_childFor_55 hl (by decide) rfl (fun ls hl => ?_)
    have hl : lv_has ls 10 [(9, .int r24), (7, .long r21), (0, .ref (xL X 3 i0)), (1, .int a1), (2, .long a2), (4, .ref (xL X 2 r3)), (5, .int x10), (6, .int x11)] := hl
    refine lv_lload_n F.1 F.2.1 d_Tr_childFor_57 rfl (lv_at hl 4 rfl) ?_
    refine lv_lload F.1 F.2.1 d_Tr_childFor_58 (lv_at hl 1 rfl) ?_
    obtain ⟨x25, σ26, hj28, hb_30⟩ := bn2_some hb_30
    have KJ27 : ∀ (ls : Array Slot) (H : Heap) (locs : List Loc), lv_has ls 10 [(0, .ref (xL X 3 i0)), (1, .int a1), (2, .long a2), (4, .ref (xL X 2 r3)), (5, .int x25), (6, .int x11)] → St X n σ26 s.heap H locs → WG l X n rm_Tr_childFor σ' (some (.int r)) p e s m args below meth c H locs (F0 m 81 ls []) := by
      intro ls H locs hl hP
      obtain ⟨x32, e_x32, hb_30⟩ := lt_some hb_30
      refine lv_iinc (k := 5) (v := x32) F.1 F.2.1 d_Tr_childFor_81 hl rfl (by rw [e_x32]; rfl) (by decide) rfl (fun ls hl => ?_)
      have hl : lv_has ls 10 [(6, .int x32), (0, .ref (xL X 3 i0)), (1, .int a1), (2, .long a2), (4, .ref (xL X 2 r3)), (5, .int x25)] := hl
      refine lv_goto F.1 F.2.1 d_Tr_childFor_84 rfl ?_
      cases hb_30
      exact hI14 _ rfl _ _ _ (lv_sub hl [1, 2, 3, 4, 5, 0] rfl) hP
    refine g_lc_lt F d_Tr_childFor_60 d_Tr_childFor_61 rfl (fun hb31 => ?_) (fun hb31 => ?_)
    · rw [if_pos hb31] at hj28
      cases hj28
      exact KJ27 _ _ _ (lv_sub hl [2, 3, 4, 5, 6, 7] rfl) hP
    · rw [if_neg hb31] at hj28
      refine lv_iload F.1 F.2.1 d_Tr_childFor_64 (lv_at hl 0 rfl) ?_
      refine lv_istore F.1 F.2.1 d_Tr_childFor_66 hl (by decide) rfl (fun ls hl => ?_)
      have hl : lv_has ls 10 [(5, .int r24), (9, .int r24), (7, .long r21), (0, .ref (xL X 3 i0)), (1, .int a1), (2, .long a2), (4, .ref (xL X 2 r3)), (6, .int x11)] := hl
      refine lv_aload_n F.1 F.2.1 d_Tr_childFor_68 rfl (lv_at hl 3 rfl) ?_
      refine g_get F hP 3 5 i0 (by decide) h_i0 (by decide) (v := .ref (xL X 14 i0)) rfl w_403 d_Tr_childFor_69 ?_
      refine lv_aload_n F.1 F.2.1 d_Tr_childFor_72 rfl (lv_at hl 3 rfl) ?_
      refine g_get F hP 3 6 i0 (by decide) h_i0 (by decide) (v := .int (gi σ22 3 i0 6)) rfl w_404 d_Tr_childFor_73 ?_
      refine lv_iload F.1 F.2.1 d_Tr_childFor_76 (lv_at hl 7 rfl) ?_
      refine lv_iconst (v := 1) F.1 F.2.1 d_Tr_childFor_78 (by decide) ?_
      refine lv_iadd F.1 F.2.1 d_Tr_childFor_79 ?_
      obtain ⟨hc29, hj28⟩ := chk_some hj28
      obtain ⟨σ30, e_σ30, hj28⟩ := lt_some hj28
      refine g_ast F hP 14 (by decide) (by decide) h_i0 rfl rfl hc29 d_Tr_childFor_80 e_σ30 (fun H locs hP => ?_)
      cases hj28
      exact KJ27 _ _ _ (lv_sub hl [3, 4, 5, 6, 0, 7] rfl) hP

theorem d_Tr_pass_0 : decode b_Tr_pass 0 = .ok (.aload_n 1, 1) := by decide +kernel
theorem d_Tr_pass_1 : decode b_Tr_pass 1 = .ok (.invokevirtual 62, 3) := by decide +kernel
theorem d_Tr_pass_4 : decode b_Tr_pass 4 = .ok (.lstore_n 3, 1) := by decide +kernel
theorem d_Tr_pass_5 : decode b_Tr_pass 5 = .ok (.iload_n 2, 1) := by decide +kernel
theorem d_Tr_pass_6 : decode b_Tr_pass 6 = .ok (.ifCond .ne 15, 3) := by decide +kernel
theorem d_Tr_pass_9 : decode b_Tr_pass 9 = .ok (.aload_n 1, 1) := by decide +kernel
theorem d_Tr_pass_10 : decode b_Tr_pass 10 = .ok (.dup, 1) := by decide +kernel
theorem d_Tr_pass_11 : decode b_Tr_pass 11 = .ok (.getfield 70, 3) := by decide +kernel
theorem d_Tr_pass_14 : decode b_Tr_pass 14 = .ok (.iconst 1, 1) := by decide +kernel
theorem d_Tr_pass_15 : decode b_Tr_pass 15 = .ok (.iadd, 1) := by decide +kernel
theorem d_Tr_pass_16 : decode b_Tr_pass 16 = .ok (.putfield 70, 3) := by decide +kernel
theorem d_Tr_pass_19 : decode b_Tr_pass 19 = .ok (.lload_n 3, 1) := by decide +kernel
theorem d_Tr_pass_20 : decode b_Tr_pass 20 = .ok (.lreturn, 1) := by decide +kernel
theorem d_Tr_pass_21 : decode b_Tr_pass 21 = .ok (.aload_n 1, 1) := by decide +kernel
theorem d_Tr_pass_22 : decode b_Tr_pass 22 = .ok (.invokevirtual 52, 3) := by decide +kernel
theorem d_Tr_pass_25 : decode b_Tr_pass 25 = .ok (.istore 5, 2) := by decide +kernel
theorem d_Tr_pass_27 : decode b_Tr_pass 27 = .ok (.iconst 0, 1) := by decide +kernel
theorem d_Tr_pass_28 : decode b_Tr_pass 28 = .ok (.istore 6, 2) := by decide +kernel
theorem d_Tr_pass_30 : decode b_Tr_pass 30 = .ok (.iload 6, 2) := by decide +kernel
theorem d_Tr_pass_32 : decode b_Tr_pass 32 = .ok (.aload_n 0, 1) := by decide +kernel
theorem d_Tr_pass_33 : decode b_Tr_pass 33 = .ok (.getfield 31, 3) := by decide +kernel
theorem d_Tr_pass_36 : decode b_Tr_pass 36 = .ok (.if_icmp .ge 26, 3) := by decide +kernel
theorem d_Tr_pass_39 : decode b_Tr_pass 39 = .ok (.iload 5, 2) := by decide +kernel
theorem d_Tr_pass_41 : decode b_Tr_pass 41 = .ok (.iload 6, 2) := by decide +kernel
theorem d_Tr_pass_43 : decode b_Tr_pass 43 = .ok (.ishr, 1) := by decide +kernel
theorem d_Tr_pass_44 : decode b_Tr_pass 44 = .ok (.iconst 1, 1) := by decide +kernel
theorem d_Tr_pass_45 : decode b_Tr_pass 45 = .ok (.iand, 1) := by decide +kernel
theorem d_Tr_pass_46 : decode b_Tr_pass 46 = .ok (.iconst 1, 1) := by decide +kernel
theorem d_Tr_pass_47 : decode b_Tr_pass 47 = .ok (.if_icmp .ne 9, 3) := by decide +kernel
theorem d_Tr_pass_50 : decode b_Tr_pass 50 = .ok (.aload_n 1, 1) := by decide +kernel
theorem d_Tr_pass_51 : decode b_Tr_pass 51 = .ok (.invokevirtual 62, 3) := by decide +kernel
theorem d_Tr_pass_54 : decode b_Tr_pass 54 = .ok (.lstore 7, 2) := by decide +kernel
theorem d_Tr_pass_56 : decode b_Tr_pass 56 = .ok (.iinc 6 1, 3) := by decide +kernel
theorem d_Tr_pass_59 : decode b_Tr_pass 59 = .ok (.goto (-29), 3) := by decide +kernel
theorem d_Tr_pass_62 : decode b_Tr_pass 62 = .ok (.lload_n 3, 1) := by decide +kernel
theorem d_Tr_pass_63 : decode b_Tr_pass 63 = .ok (.lreturn, 1) := by decide +kernel
noncomputable def b_Tr_pass_30 (i0 : Nat) (i1 : Nat) (r6 : Int32) (x7 : Int32) (σ8 : Sg) : Option ((Int32 × Sg) ⊕ (Sg)) :=
  (if (gi σ8 3 i0 2) ≤ x7 then (some (.inr σ8)) else (Option.bind (if ((r6 >>> (x7 &&& 31)) &&& 1) = 1 then (bn2 (f_Tp_takeNumber i1 σ8) (fun r17 σ15 => some (σ15))) else (some (σ8))) (fun (σ12 : Sg) => lt_ (x7 + 1 : Int32) (fun (x19 : Int32) => some (.inl (x19, σ12))))))
noncomputable def l_Tr_pass_30 (i0 : Nat) (i1 : Nat) (r6 : Int32) (x7 : Int32) (σ8 : Sg) : Option (Sg) := lp (fun q => b_Tr_pass_30 i0 i1 r6 q.1 q.2) FU (x7, σ8)
noncomputable def f_Tr_pass (i0 : Nat) (i1 : Nat) (a2 : Int32) (σ : Sg) : Option (Int64 × Sg) :=
  bn2 (f_Tp_takeNumber i1 σ) (fun r3 σ1 => (if a2 = 0 then (lt_ (si σ1 2 i1 1 ((gi σ1 2 i1 1) + 1)) (fun σ24 => some (r3, σ24))) else (bn2 (f_Tp_take i1 σ1) (fun r6 σ4 => (l_Tr_pass_30 i0 i1 r6 0 σ4).bind (fun σ21 => some (r3, σ21))))))
abbrev rm_Tr_pass : Room := { frames := 2, cells := 0, slots := 0, locals := 44 }
set_option maxHeartbeats 4000000 in
set_option maxRecDepth 100000 in
theorem c_Tr_pass (l : Launch) (X : GX) (n : Nat) {σ σ' : Sg} {r : Int64} {i0 : Nat} {i1 : Nat} {a2 : Int32} (h_i0 : i0 < cnt n 3) (h_i1 : i1 < cnt n 2) (hf : f_Tr_pass i0 i1 a2 σ = some (r, σ')) : Met l y_Tr_pass (cw y_Tr_pass b_Tr_pass 9 (some .long)) rm_Tr_pass (PcG X n σ [.ref (xL X 3 i0), .ref (xL X 2 i1), .int a2]) (QcG X n σ' (some (.long r))) 0 0 (fr X n) := by
  refine g_head (own := "TableMachine$Tree") (by decide) rfl (Nat.le_of_ble_eq_true rfl) ?_
  intro p e s m args below meth c ls F hr hlk hP hl
  have hl : lv_has ls 9 [(0, .ref (xL X 3 i0)), (1, .ref (xL X 2 i1)), (2, .int a2)] := hl
  show WG l X n rm_Tr_pass σ' (some (.long r)) p e s m args below meth c s.heap [] (F0 m 0 ls [])
  unfold f_Tr_pass at hf
  refine lv_aload_n F.1 F.2.1 d_Tr_pass_0 rfl (lv_at hl 1 rfl) ?_
  obtain ⟨r3, σ1, hk2, hf⟩ := bn2_some hf
  refine g_callV (As := []) (rest := []) F hP 2 i1 (by decide) h_i1 (c_Tp_takeNumber l X n h_i1 hk2) rfl q_Tp_takeNumber w_479 w_3 w_476 w_477 w_478 ⟨rfl, rfl⟩ ⟨by decide, by decide⟩ hl.1 (Nat.le_of_ble_eq_true rfl) ⟨Nat.zero_le _, Nat.zero_le _⟩ d_Tr_pass_1 rfl (fun H locs hP => ?_)
  refine W.eq (g2 := F0 m 4 ls [.long r3]) rfl ?_
  refine lv_lstore_n F.1 F.2.1 d_Tr_pass_4 rfl hl (by decide) rfl (fun ls hl => ?_)
  have hl : lv_has ls 9 [(3, .long r3), (0, .ref (xL X 3 i0)), (1, .ref (xL X 2 i1)), (2, .int a2)] := hl
  refine lv_iload_n F.1 F.2.1 d_Tr_pass_5 rfl (lv_at hl 3 rfl) ?_
  refine lv_if_ne F.1 F.2.1 d_Tr_pass_6 rfl (fun hb25 => ?_) (fun hb25 => ?_)
  · rw [if_neg hb25] at hf
    refine lv_aload_n F.1 F.2.1 d_Tr_pass_21 rfl (lv_at hl 2 rfl) ?_
    obtain ⟨r6, σ4, hk5, hf⟩ := bn2_some hf
    refine g_callV (As := []) (rest := []) F hP 2 i1 (by decide) h_i1 (c_Tp_take l X n h_i1 hk5) rfl q_Tp_take w_471 w_3 w_468 w_469 w_470 ⟨rfl, rfl⟩ ⟨by decide, by decide⟩ hl.1 (Nat.le_of_ble_eq_true rfl) ⟨Nat.zero_le _, Nat.zero_le _⟩ d_Tr_pass_22 rfl (fun H locs hP => ?_)
    refine W.eq (g2 := F0 m 25 ls [.int r6]) rfl ?_
    refine lv_istore F.1 F.2.1 d_Tr_pass_25 hl (by decide) rfl (fun ls hl => ?_)
    have hl : lv_has ls 9 [(5, .int r6), (3, .long r3), (0, .ref (xL X 3 i0)), (1, .ref (xL X 2 i1)), (2, .int a2)] := hl
    refine lv_iconst (v := 0) F.1 F.2.1 d_Tr_pass_27 (by decide) ?_
    refine lv_istore F.1 F.2.1 d_Tr_pass_28 hl (by decide) rfl (fun ls hl => ?_)
    have hl : lv_has ls 9 [(6, .int 0), (5, .int r6), (3, .long r3), (0, .ref (xL X 3 i0)), (1, .ref (xL X 2 i1)), (2, .int a2)] := hl
    obtain ⟨σ21, hlp22, hf⟩ := bnd_some hf
    have KX23 : ∀ (ls : Array Slot) (H : Heap) (locs : List Loc), lv_has ls 9 [(3, .long r3)] → St X n σ21 s.heap H locs → WG l X n rm_Tr_pass σ' (some (.long r)) p e s m args below meth c H locs (F0 m 62 ls []) := by
      intro ls H locs hl hP
      refine lv_lload_n F.1 F.2.1 d_Tr_pass_62 rfl (lv_at hl 0 rfl) ?_
      cases hf
      exact g_lret F hP hr hlk d_Tr_pass_63
    unfold l_Tr_pass_30 at hlp22
    refine lp_W (PW := fun q => ∀ (ls : Array Slot) (H : Heap) (locs : List Loc), lv_has ls 9 [(0, .ref (xL X 3 i0)), (1, .ref (xL X 2 i1)), (3, .long r3), (5, .int r6), (6, .int q.1)] → St X n q.2 s.heap H locs → WG l X n rm_Tr_pass σ' (some (.long r)) p e s m args below meth c H locs (F0 m 30 ls [])) (PE := fun q => ∀ (ls : Array Slot) (H : Heap) (locs : List Loc), lv_has ls 9 [(3, .long r3)] → St X n q s.heap H locs → WG l X n rm_Tr_pass σ' (some (.long r)) p e s m args below meth c H locs (F0 m 62 ls [])) ?_ _ _ _ hlp22 KX23 _ _ _ (lv_sub hl [3, 4, 2, 1, 0] rfl) hP
    rintro ⟨x7, σ8⟩ rr9 hb_30 hI10 hE11 ls H locs hl hP
    replace hb_30 : b_Tr_pass_30 i0 i1 r6 x7 σ8 = some rr9 := hb_30
    unfold b_Tr_pass_30 at hb_30
    refine lv_iload F.1 F.2.1 d_Tr_pass_30 (lv_at hl 4 rfl) ?_
    refine lv_aload_n F.1 F.2.1 d_Tr_pass_32 rfl (lv_at hl 0 rfl) ?_
    refine g_get F hP 3 2 i0 (by decide) h_i0 (by decide) (v := .int (gi σ8 3 i0 2)) rfl w_398 d_Tr_pass_33 ?_
    refine lv_icmp_ge F.1 F.2.1 d_Tr_pass_36 rfl (fun hb20 => ?_) (fun hb20 => ?_)
    · rw [if_pos hb20] at hb_30
      cases hb_30
      exact hE11 _ rfl _ _ _ (lv_sub hl [2] rfl) hP
    · rw [if_neg hb20] at hb_30
      refine lv_iload F.1 F.2.1 d_Tr_pass_39 (lv_at hl 3 rfl) ?_
      refine lv_iload F.1 F.2.1 d_Tr_pass_41 (lv_at hl 4 rfl) ?_
      refine lv_ishr F.1 F.2.1 d_Tr_pass_43 ?_
      refine lv_iconst (v := 1) F.1 F.2.1 d_Tr_pass_44 (by decide) ?_
      refine lv_iand F.1 F.2.1 d_Tr_pass_45 ?_
      refine lv_iconst (v := 1) F.1 F.2.1 d_Tr_pass_46 (by decide) ?_
      obtain ⟨σ12, hj14, hb_30⟩ := bnd_some hb_30
      have KJ13 : ∀ (ls : Array Slot) (H : Heap) (locs : List Loc), lv_has ls 9 [(0, .ref (xL X 3 i0)), (1, .ref (xL X 2 i1)), (3, .long r3), (5, .int r6), (6, .int x7)] → St X n σ12 s.heap H locs → WG l X n rm_Tr_pass σ' (some (.long r)) p e s m args below meth c H locs (F0 m 56 ls []) := by
        intro ls H locs hl hP
        obtain ⟨x19, e_x19, hb_30⟩ := lt_some hb_30
        refine lv_iinc (k := 4) (v := x19) F.1 F.2.1 d_Tr_pass_56 hl rfl (by rw [e_x19]; rfl) (by decide) rfl (fun ls hl => ?_)
        have hl : lv_has ls 9 [(6, .int x19), (0, .ref (xL X 3 i0)), (1, .ref (xL X 2 i1)), (3, .long r3), (5, .int r6)] := hl
        refine lv_goto F.1 F.2.1 d_Tr_pass_59 rfl ?_
        cases hb_30
        exact hI10 _ rfl _ _ _ (lv_sub hl [1, 2, 3, 4, 0] rfl) hP
      refine lv_icmp_ne F.1 F.2.1 d_Tr_pass_47 rfl (fun hb18 => ?_) (fun hb18 => ?_)
      · rw [if_neg hb18] at hj14
        cases hj14
        exact KJ13 _ _ _ (lv_sub hl [0, 1, 2, 3, 4] rfl) hP
      · rw [if_pos hb18] at hj14
        refine lv_aload_n F.1 F.2.1 d_Tr_pass_50 rfl (lv_at hl 1 rfl) ?_
        obtain ⟨r17, σ15, hk16, hj14⟩ := bn2_some hj14
        refine g_callV (As := []) (rest := []) F hP 2 i1 (by decide) h_i1 (c_Tp_takeNumber l X n h_i1 hk16) rfl q_Tp_takeNumber w_479 w_3 w_476 w_477 w_478 ⟨rfl, rfl⟩ ⟨by decide, by decide⟩ hl.1 (Nat.le_of_ble_eq_true rfl) ⟨Nat.zero_le _, Nat.zero_le _⟩ d_Tr_pass_51 rfl (fun H locs hP => ?_)
        refine W.eq (g2 := F0 m 54 ls [.long r17]) rfl ?_
        refine lv_lstore F.1 F.2.1 d_Tr_pass_54 hl (by decide) rfl (fun ls hl => ?_)
        have hl : lv_has ls 9 [(7, .long r17), (0, .ref (xL X 3 i0)), (1, .ref (xL X 2 i1)), (3, .long r3), (5, .int r6), (6, .int x7)] := hl
        cases hj14
        exact KJ13 _ _ _ (lv_sub hl [1, 2, 3, 4, 5] rfl) hP
  · rw [if_pos hb25] at hf
    refine lv_aload_n F.1 F.2.1 d_Tr_pass_9 rfl (lv_at hl 2 rfl) ?_
    refine lv_dup F.1 F.2.1 d_Tr_pass_10 rfl ?_
    refine g_getN F hP 2 1 i1 (by decide) h_i1 (by decide) (v := .int (gi σ1 2 i1 1)) rfl w_50 d_Tr_pass_11 ?_
    refine lv_iconst (v := 1) F.1 F.2.1 d_Tr_pass_14 (by decide) ?_
    refine lv_iadd F.1 F.2.1 d_Tr_pass_15 ?_
    obtain ⟨σ24, e_σ24, hf⟩ := lt_some hf
    refine g_puti F hP 2 1 i1 (by decide) h_i1 (by decide) rfl rfl rfl rfl (Or.inr w_50) d_Tr_pass_16 e_σ24 (fun H locs hP => ?_)
    refine lv_lload_n F.1 F.2.1 d_Tr_pass_19 rfl (lv_at hl 0 rfl) ?_
    cases hf
    exact g_lret F hP hr hlk d_Tr_pass_20

theorem d_Tr_find_0 : decode b_Tr_find 0 = .ok (.aload_n 0, 1) := by decide +kernel
theorem d_Tr_find_1 : decode b_Tr_find 1 = .ok (.iconst 0, 1) := by decide +kernel
theorem d_Tr_find_2 : decode b_Tr_find 2 = .ok (.putfield 55, 3) := by decide +kernel
theorem d_Tr_find_5 : decode b_Tr_find 5 = .ok (.aload_n 0, 1) := by decide +kernel
theorem d_Tr_find_6 : decode b_Tr_find 6 = .ok (.getfield 41, 3) := by decide +kernel
theorem d_Tr_find_9 : decode b_Tr_find 9 = .ok (.istore_n 3, 1) := by decide +kernel
theorem d_Tr_find_10 : decode b_Tr_find 10 = .ok (.aload_n 0, 1) := by decide +kernel
theorem d_Tr_find_11 : decode b_Tr_find 11 = .ok (.getfield 27, 3) := by decide +kernel
theorem d_Tr_find_14 : decode b_Tr_find 14 = .ok (.iload_n 3, 1) := by decide +kernel
theorem d_Tr_find_15 : decode b_Tr_find 15 = .ok (.invokevirtual 66, 3) := by decide +kernel
theorem d_Tr_find_18 : decode b_Tr_find 18 = .ok (.ifCond .ne 37, 3) := by decide +kernel
theorem d_Tr_find_21 : decode b_Tr_find 21 = .ok (.aload_n 0, 1) := by decide +kernel
theorem d_Tr_find_22 : decode b_Tr_find 22 = .ok (.getfield 9, 3) := by decide +kernel
theorem d_Tr_find_25 : decode b_Tr_find 25 = .ok (.aload_n 0, 1) := by decide +kernel
theorem d_Tr_find_26 : decode b_Tr_find 26 = .ok (.getfield 55, 3) := by decide +kernel
theorem d_Tr_find_29 : decode b_Tr_find 29 = .ok (.iload_n 3, 1) := by decide +kernel
theorem d_Tr_find_30 : decode b_Tr_find 30 = .ok (.iastore, 1) := by decide +kernel
theorem d_Tr_find_31 : decode b_Tr_find 31 = .ok (.aload_n 0, 1) := by decide +kernel
theorem d_Tr_find_32 : decode b_Tr_find 32 = .ok (.iload_n 3, 1) := by decide +kernel
theorem d_Tr_find_33 : decode b_Tr_find 33 = .ok (.lload_n 1, 1) := by decide +kernel
theorem d_Tr_find_34 : decode b_Tr_find 34 = .ok (.invokevirtual 77, 3) := by decide +kernel
theorem d_Tr_find_37 : decode b_Tr_find 37 = .ok (.istore 4, 2) := by decide +kernel
theorem d_Tr_find_39 : decode b_Tr_find 39 = .ok (.aload_n 0, 1) := by decide +kernel
theorem d_Tr_find_40 : decode b_Tr_find 40 = .ok (.dup, 1) := by decide +kernel
theorem d_Tr_find_41 : decode b_Tr_find 41 = .ok (.getfield 55, 3) := by decide +kernel
theorem d_Tr_find_44 : decode b_Tr_find 44 = .ok (.iconst 1, 1) := by decide +kernel
theorem d_Tr_find_45 : decode b_Tr_find 45 = .ok (.iadd, 1) := by decide +kernel
theorem d_Tr_find_46 : decode b_Tr_find 46 = .ok (.putfield 55, 3) := by decide +kernel
theorem d_Tr_find_49 : decode b_Tr_find 49 = .ok (.iload 4, 2) := by decide +kernel
theorem d_Tr_find_51 : decode b_Tr_find 51 = .ok (.istore_n 3, 1) := by decide +kernel
theorem d_Tr_find_52 : decode b_Tr_find 52 = .ok (.goto (-42), 3) := by decide +kernel
theorem d_Tr_find_55 : decode b_Tr_find 55 = .ok (.aload_n 0, 1) := by decide +kernel
theorem d_Tr_find_56 : decode b_Tr_find 56 = .ok (.getfield 9, 3) := by decide +kernel
theorem d_Tr_find_59 : decode b_Tr_find 59 = .ok (.aload_n 0, 1) := by decide +kernel
theorem d_Tr_find_60 : decode b_Tr_find 60 = .ok (.getfield 55, 3) := by decide +kernel
theorem d_Tr_find_63 : decode b_Tr_find 63 = .ok (.iload_n 3, 1) := by decide +kernel
theorem d_Tr_find_64 : decode b_Tr_find 64 = .ok (.iastore, 1) := by decide +kernel
theorem d_Tr_find_65 : decode b_Tr_find 65 = .ok (.aload_n 0, 1) := by decide +kernel
theorem d_Tr_find_66 : decode b_Tr_find 66 = .ok (.getfield 27, 3) := by decide +kernel
theorem d_Tr_find_69 : decode b_Tr_find 69 = .ok (.iload_n 3, 1) := by decide +kernel
theorem d_Tr_find_70 : decode b_Tr_find 70 = .ok (.invokevirtual 48, 3) := by decide +kernel
theorem d_Tr_find_73 : decode b_Tr_find 73 = .ok (.astore 4, 2) := by decide +kernel
theorem d_Tr_find_75 : decode b_Tr_find 75 = .ok (.aload_n 0, 1) := by decide +kernel
theorem d_Tr_find_76 : decode b_Tr_find 76 = .ok (.iconst 0, 1) := by decide +kernel
theorem d_Tr_find_77 : decode b_Tr_find 77 = .ok (.putfield 81, 3) := by decide +kernel
theorem d_Tr_find_80 : decode b_Tr_find 80 = .ok (.aload_n 0, 1) := by decide +kernel
theorem d_Tr_find_81 : decode b_Tr_find 81 = .ok (.iconst 0, 1) := by decide +kernel
theorem d_Tr_find_82 : decode b_Tr_find 82 = .ok (.putfield 84, 3) := by decide +kernel
theorem d_Tr_find_85 : decode b_Tr_find 85 = .ok (.aload_n 0, 1) := by decide +kernel
theorem d_Tr_find_86 : decode b_Tr_find 86 = .ok (.iconst 2, 1) := by decide +kernel
theorem d_Tr_find_87 : decode b_Tr_find 87 = .ok (.putfield 88, 3) := by decide +kernel
theorem d_Tr_find_90 : decode b_Tr_find 90 = .ok (.aload_n 0, 1) := by decide +kernel
theorem d_Tr_find_91 : decode b_Tr_find 91 = .ok (.iconst 2, 1) := by decide +kernel
theorem d_Tr_find_92 : decode b_Tr_find 92 = .ok (.putfield 91, 3) := by decide +kernel
theorem d_Tr_find_95 : decode b_Tr_find 95 = .ok (.iconst 1, 1) := by decide +kernel
theorem d_Tr_find_96 : decode b_Tr_find 96 = .ok (.istore 5, 2) := by decide +kernel
theorem d_Tr_find_98 : decode b_Tr_find 98 = .ok (.iload 5, 2) := by decide +kernel
theorem d_Tr_find_100 : decode b_Tr_find 100 = .ok (.ifCond .eq 97, 3) := by decide +kernel
theorem d_Tr_find_103 : decode b_Tr_find 103 = .ok (.aload_n 0, 1) := by decide +kernel
theorem d_Tr_find_104 : decode b_Tr_find 104 = .ok (.getfield 81, 3) := by decide +kernel
theorem d_Tr_find_107 : decode b_Tr_find 107 = .ok (.aload_n 0, 1) := by decide +kernel
theorem d_Tr_find_108 : decode b_Tr_find 108 = .ok (.getfield 27, 3) := by decide +kernel
theorem d_Tr_find_111 : decode b_Tr_find 111 = .ok (.iload_n 3, 1) := by decide +kernel
theorem d_Tr_find_112 : decode b_Tr_find 112 = .ok (.invokevirtual 58, 3) := by decide +kernel
theorem d_Tr_find_115 : decode b_Tr_find 115 = .ok (.if_icmp .ge 82, 3) := by decide +kernel
theorem d_Tr_find_118 : decode b_Tr_find 118 = .ok (.aload_n 0, 1) := by decide +kernel
theorem d_Tr_find_119 : decode b_Tr_find 119 = .ok (.aload 4, 2) := by decide +kernel
theorem d_Tr_find_121 : decode b_Tr_find 121 = .ok (.getfield 70, 3) := by decide +kernel
theorem d_Tr_find_124 : decode b_Tr_find 124 = .ok (.putfield 88, 3) := by decide +kernel
theorem d_Tr_find_127 : decode b_Tr_find 127 = .ok (.aload_n 0, 1) := by decide +kernel
theorem d_Tr_find_128 : decode b_Tr_find 128 = .ok (.aload 4, 2) := by decide +kernel
theorem d_Tr_find_130 : decode b_Tr_find 130 = .ok (.iconst 1, 1) := by decide +kernel
theorem d_Tr_find_131 : decode b_Tr_find 131 = .ok (.invokevirtual 73, 3) := by decide +kernel
theorem d_Tr_find_134 : decode b_Tr_find 134 = .ok (.lstore 6, 2) := by decide +kernel
theorem d_Tr_find_136 : decode b_Tr_find 136 = .ok (.aload_n 0, 1) := by decide +kernel
theorem d_Tr_find_137 : decode b_Tr_find 137 = .ok (.aload 4, 2) := by decide +kernel
theorem d_Tr_find_139 : decode b_Tr_find 139 = .ok (.getfield 70, 3) := by decide +kernel
theorem d_Tr_find_142 : decode b_Tr_find 142 = .ok (.putfield 91, 3) := by decide +kernel
theorem d_Tr_find_145 : decode b_Tr_find 145 = .ok (.lload 6, 2) := by decide +kernel
theorem d_Tr_find_147 : decode b_Tr_find 147 = .ok (.lload_n 1, 1) := by decide +kernel
theorem d_Tr_find_148 : decode b_Tr_find 148 = .ok (.lcmp, 1) := by decide +kernel
theorem d_Tr_find_149 : decode b_Tr_find 149 = .ok (.ifCond .ge 7, 3) := by decide +kernel
theorem d_Tr_find_152 : decode b_Tr_find 152 = .ok (.iconst 1, 1) := by decide +kernel
theorem d_Tr_find_153 : decode b_Tr_find 153 = .ok (.goto 4, 3) := by decide +kernel
theorem d_Tr_find_156 : decode b_Tr_find 156 = .ok (.iconst 0, 1) := by decide +kernel
theorem d_Tr_find_157 : decode b_Tr_find 157 = .ok (.istore 5, 2) := by decide +kernel
theorem d_Tr_find_159 : decode b_Tr_find 159 = .ok (.aload_n 0, 1) := by decide +kernel
theorem d_Tr_find_160 : decode b_Tr_find 160 = .ok (.lload 6, 2) := by decide +kernel
theorem d_Tr_find_162 : decode b_Tr_find 162 = .ok (.lload_n 1, 1) := by decide +kernel
theorem d_Tr_find_163 : decode b_Tr_find 163 = .ok (.lcmp, 1) := by decide +kernel
theorem d_Tr_find_164 : decode b_Tr_find 164 = .ok (.ifCond .ne 7, 3) := by decide +kernel
theorem d_Tr_find_167 : decode b_Tr_find 167 = .ok (.iconst 1, 1) := by decide +kernel
theorem d_Tr_find_168 : decode b_Tr_find 168 = .ok (.goto 4, 3) := by decide +kernel
theorem d_Tr_find_171 : decode b_Tr_find 171 = .ok (.iconst 0, 1) := by decide +kernel
theorem d_Tr_find_172 : decode b_Tr_find 172 = .ok (.putfield 84, 3) := by decide +kernel
theorem d_Tr_find_175 : decode b_Tr_find 175 = .ok (.aload_n 0, 1) := by decide +kernel
theorem d_Tr_find_176 : decode b_Tr_find 176 = .ok (.dup, 1) := by decide +kernel
theorem d_Tr_find_177 : decode b_Tr_find 177 = .ok (.getfield 81, 3) := by decide +kernel
theorem d_Tr_find_180 : decode b_Tr_find 180 = .ok (.iload 5, 2) := by decide +kernel
theorem d_Tr_find_182 : decode b_Tr_find 182 = .ok (.ifCond .eq 7, 3) := by decide +kernel
theorem d_Tr_find_185 : decode b_Tr_find 185 = .ok (.iconst 1, 1) := by decide +kernel
theorem d_Tr_find_186 : decode b_Tr_find 186 = .ok (.goto 4, 3) := by decide +kernel
theorem d_Tr_find_189 : decode b_Tr_find 189 = .ok (.iconst 0, 1) := by decide +kernel
theorem d_Tr_find_190 : decode b_Tr_find 190 = .ok (.iadd, 1) := by decide +kernel
theorem d_Tr_find_191 : decode b_Tr_find 191 = .ok (.putfield 81, 3) := by decide +kernel
theorem d_Tr_find_194 : decode b_Tr_find 194 = .ok (.goto (-96), 3) := by decide +kernel
theorem d_Tr_find_197 : decode b_Tr_find 197 = .ok (.aload_n 0, 1) := by decide +kernel
theorem d_Tr_find_198 : decode b_Tr_find 198 = .ok (.iload 5, 2) := by decide +kernel
theorem d_Tr_find_200 : decode b_Tr_find 200 = .ok (.ifCond .eq 11, 3) := by decide +kernel
theorem d_Tr_find_203 : decode b_Tr_find 203 = .ok (.aload 4, 2) := by decide +kernel
theorem d_Tr_find_205 : decode b_Tr_find 205 = .ok (.getfield 70, 3) := by decide +kernel
theorem d_Tr_find_208 : decode b_Tr_find 208 = .ok (.goto 7, 3) := by decide +kernel
theorem d_Tr_find_211 : decode b_Tr_find 211 = .ok (.aload_n 0, 1) := by decide +kernel
theorem d_Tr_find_212 : decode b_Tr_find 212 = .ok (.getfield 88, 3) := by decide +kernel
theorem d_Tr_find_215 : decode b_Tr_find 215 = .ok (.putfield 88, 3) := by decide +kernel
theorem d_Tr_find_218 : decode b_Tr_find 218 = .ok (.return_, 1) := by decide +kernel
noncomputable def b_Tr_find_10 (i0 : Nat) (a1 : Int64) (x3 : Int32) (σ4 : Sg) : Option ((Int32 × Sg) ⊕ (Int32 × Sg)) :=
  bn2 (f_Pg_isLeaf x3 σ4) (fun r10 σ8 => (if r10 = 0 then (chk (vp_in (gi σ8 3 i0 6) 100) (lt_ (si σ8 13 i0 ((gi σ8 3 i0 6).toNatClampNeg) x3) (fun σ12 => bn2 (f_Tr_childFor i0 x3 a1 σ12) (fun r15 σ13 => lt_ (si σ13 3 i0 6 ((gi σ13 3 i0 6) + 1)) (fun σ16 => some (.inl (r15, σ16))))))) else (some (.inr (x3, σ8)))))
noncomputable def l_Tr_find_10 (i0 : Nat) (a1 : Int64) (x3 : Int32) (σ4 : Sg) : Option (Int32 × Sg) := lp (fun q => b_Tr_find_10 i0 a1 q.1 q.2) FU (x3, σ4)
noncomputable def b_Tr_find_98 (i0 : Nat) (a1 : Int64) (x18 : Int32) (r26 : Nat) (x32 : Int32) (σ33 : Sg) : Option ((Int32 × Sg) ⊕ (Int32 × Sg)) :=
  (if x32 = 0 then (some (.inr (x32, σ33))) else (bn2 (f_Pg_cells x18 σ33) (fun r39 σ37 => (if r39 ≤ (gi σ33 3 i0 9) then (some (.inr (x32, σ37))) else (lt_ (si σ37 3 i0 7 (gi σ37 2 r26 1)) (fun σ40 => bn2 (f_Tr_pass i0 r26 1 σ40) (fun r43 σ41 => lt_ (si σ41 3 i0 8 (gi σ41 2 r26 1)) (fun σ44 => lt_ ((if a1 ≤ r43 then 0 else 1) : Int32) (fun (x45 : Int32) => lt_ ((if r43 = a1 then 1 else 0) : Int32) (fun (x49 : Int32) => chk (zb x49) (lt_ (si σ44 3 i0 10 x49) (fun σ54 => lt_ ((if x45 = 0 then 0 else 1) : Int32) (fun (x55 : Int32) => lt_ (si σ54 3 i0 9 ((gi σ54 3 i0 9) + x55)) (fun σ59 => some (.inl (x45, σ59))))))))))))))))
noncomputable def l_Tr_find_98 (i0 : Nat) (a1 : Int64) (x18 : Int32) (r26 : Nat) (x32 : Int32) (σ33 : Sg) : Option (Int32 × Sg) := lp (fun q => b_Tr_find_98 i0 a1 x18 r26 q.1 q.2) FU (x32, σ33)
noncomputable def f_Tr_find (i0 : Nat) (a1 : Int64) (σ : Sg) : Option (Sg) :=
  lt_ (si σ 3 i0 6 0) (fun σ1 => lt_ (gi σ1 3 i0 1 : Int32) (fun (x2 : Int32) => bn2 (l_Tr_find_10 i0 a1 x2 σ1) (fun x18 σ19 => chk (vp_in (gi σ19 3 i0 6) 100) (lt_ (si σ19 13 i0 ((gi σ19 3 i0 6).toNatClampNeg) x18) (fun σ23 => bn2 (f_Pg_open x18 σ23) (fun r26 σ24 => lt_ (si σ24 3 i0 9 0) (fun σ28 => lt_ (si σ28 3 i0 10 0) (fun σ29 => lt_ (si σ29 3 i0 7 2) (fun σ30 => lt_ (si σ30 3 i0 8 2) (fun σ31 => bn2 (l_Tr_find_98 i0 a1 x18 r26 1 σ31) (fun x62 σ63 => lt_ ((if x62 = 0 then (gi σ63 3 i0 7) else (gi σ63 2 r26 1)) : Int32) (fun (x66 : Int32) => lt_ (si σ63 3 i0 7 x66) (fun σ70 => some σ70)))))))))))))
abbrev rm_Tr_find : Room := { frames := 3, cells := 0, slots := 0, locals := 73 }
set_option maxHeartbeats 4000000 in
set_option maxRecDepth 100000 in
theorem c_Tr_find (l : Launch) (X : GX) (n : Nat) {σ σ' : Sg} {i0 : Nat} {a1 : Int64} (h_i0 : i0 < cnt n 3) (hf : f_Tr_find i0 a1 σ = some σ') : Met l y_Tr_find (cw y_Tr_find b_Tr_find 8 none) rm_Tr_find (PcG X n σ [.ref (xL X 3 i0), .long a1]) (QcG X n σ' none) 0 0 (fr X n) := by
  refine g_head (own := "TableMachine$Tree") (by decide) rfl (Nat.le_of_ble_eq_true rfl) ?_
  intro p e s m args below meth c ls F hr hlk hP hl
  have hl : lv_has ls 8 [(0, .ref (xL X 3 i0)), (1, .long a1)] := hl
  show WG l X n rm_Tr_find σ' none p e s m args below meth c s.heap [] (F0 m 0 ls [])
  unfold f_Tr_find at hf
  refine lv_aload_n F.1 F.2.1 d_Tr_find_0 rfl (lv_at hl 0 rfl) ?_
  refine lv_iconst (v := 0) F.1 F.2.1 d_Tr_find_1 (by decide) ?_
  obtain ⟨σ1, e_σ1, hf⟩ := lt_some hf
  refine g_puti F hP 3 6 i0 (by decide) h_i0 (by decide) rfl rfl rfl rfl (Or.inl w_404) d_Tr_find_2 e_σ1 (fun H locs hP => ?_)
  refine lv_aload_n F.1 F.2.1 d_Tr_find_5 rfl (lv_at hl 0 rfl) ?_
  refine g_get F hP 3 1 i0 (by decide) h_i0 (by decide) (v := .int (gi σ1 3 i0 1)) rfl w_397 d_Tr_find_6 ?_
  obtain ⟨x2, e_x2, hf⟩ := lt_some hf
  rw [← e_x2]
  refine lv_istore_n F.1 F.2.1 d_Tr_find_9 rfl hl (by decide) rfl (fun ls hl => ?_)
  have hl : lv_has ls 8 [(3, .int x2), (0, .ref (xL X 3 i0)), (1, .long a1)] := hl
  obtain ⟨x18, σ19, hlp20, hf⟩ := bn2_some hf
  have KX21 : ∀ (ls : Array Slot) (H : Heap) (locs : List Loc), lv_has ls 8 [(0, .ref (xL X 3 i0)), (1, .long a1), (3, .int x18)] → St X n σ19 s.heap H locs → WG l X n rm_Tr_find σ' none p e s m args below meth c H locs (F0 m 55 ls []) := by
    intro ls H locs hl hP
    refine lv_aload_n F.1 F.2.1 d_Tr_find_55 rfl (lv_at hl 0 rfl) ?_
    refine g_get F hP 3 4 i0 (by decide) h_i0 (by decide) (v := .ref (xL X 13 i0)) rfl w_402 d_Tr_find_56 ?_
    refine lv_aload_n F.1 F.2.1 d_Tr_find_59 rfl (lv_at hl 0 rfl) ?_
    refine g_get F hP 3 6 i0 (by decide) h_i0 (by decide) (v := .int (gi σ19 3 i0 6)) rfl w_404 d_Tr_find_60 ?_
    refine lv_iload_n F.1 F.2.1 d_Tr_find_63 rfl (lv_at hl 2 rfl) ?_
    obtain ⟨hc22, hf⟩ := chk_some hf
    obtain ⟨σ23, e_σ23, hf⟩ := lt_some hf
    refine g_ast F hP 13 (by decide) (by decide) h_i0 rfl rfl hc22 d_Tr_find_64 e_σ23 (fun H locs hP => ?_)
    refine lv_aload_n F.1 F.2.1 d_Tr_find_65 rfl (lv_at hl 0 rfl) ?_
    refine g_get F hP 3 0 i0 (by decide) h_i0 (by decide) (v := .ref (xL X 1 0)) rfl w_396 d_Tr_find_66 ?_
    refine lv_iload_n F.1 F.2.1 d_Tr_find_69 rfl (lv_at hl 2 rfl) ?_
    obtain ⟨r26, σ24, hk25, hf⟩ := bn2_some hf
    have hv27 : r26 < cnt n 2 := v_Pg_open  hk25
    refine g_callV (As := [.int x18]) (rest := []) F hP 1 0 (by decide) Nat.zero_lt_one (c_Pg_open l X n  hk25) rfl q_Pg_open w_467 w_2 w_464 w_465 w_466 ⟨rfl, rfl⟩ ⟨by decide, by decide⟩ hl.1 (Nat.le_of_ble_eq_true rfl) ⟨Nat.zero_le _, Nat.zero_le _⟩ d_Tr_find_70 rfl (fun H locs hP => ?_)
    refine W.eq (g2 := F0 m 73 ls [.ref (xL X 2 r26)]) rfl ?_
    refine lv_astore F.1 F.2.1 d_Tr_find_73 hl (by decide) rfl (fun ls hl => ?_)
    have hl : lv_has ls 8 [(4, .ref (xL X 2 r26)), (0, .ref (xL X 3 i0)), (1, .long a1), (3, .int x18)] := hl
    refine lv_aload_n F.1 F.2.1 d_Tr_find_75 rfl (lv_at hl 1 rfl) ?_
    refine lv_iconst (v := 0) F.1 F.2.1 d_Tr_find_76 (by decide) ?_
    obtain ⟨σ28, e_σ28, hf⟩ := lt_some hf
    refine g_puti F hP 3 9 i0 (by decide) h_i0 (by decide) rfl rfl rfl rfl (Or.inl w_407) d_Tr_find_77 e_σ28 (fun H locs hP => ?_)
    refine lv_aload_n F.1 F.2.1 d_Tr_find_80 rfl (lv_at hl 1 rfl) ?_
    refine lv_iconst (v := 0) F.1 F.2.1 d_Tr_find_81 (by decide) ?_
    obtain ⟨σ29, e_σ29, hf⟩ := lt_some hf
    refine g_puti F hP 3 10 i0 (by decide) h_i0 (by decide) rfl rfl (zb_n zb0) (zb_f zb0) (Or.inl w_408) d_Tr_find_82 e_σ29 (fun H locs hP => ?_)
    refine lv_aload_n F.1 F.2.1 d_Tr_find_85 rfl (lv_at hl 1 rfl) ?_
    refine lv_iconst (v := 2) F.1 F.2.1 d_Tr_find_86 (by decide) ?_
    obtain ⟨σ30, e_σ30, hf⟩ := lt_some hf
    refine g_puti F hP 3 7 i0 (by decide) h_i0 (by decide) rfl rfl rfl rfl (Or.inl w_405) d_Tr_find_87 e_σ30 (fun H locs hP => ?_)
    refine lv_aload_n F.1 F.2.1 d_Tr_find_90 rfl (lv_at hl 1 rfl) ?_
    refine lv_iconst (v := 2) F.1 F.2.1 d_Tr_find_91 (by decide) ?_
    obtain ⟨σ31, e_σ31, hf⟩ := lt_some hf
    refine g_puti F hP 3 8 i0 (by decide) h_i0 (by decide) rfl rfl rfl rfl (Or.inl w_406) d_Tr_find_92 e_σ31 (fun H locs hP => ?_)
    refine lv_iconst (v := 1) F.1 F.2.1 d_Tr_find_95 (by decide) ?_
    refine lv_istore F.1 F.2.1 d_Tr_find_96 hl (by decide) rfl (fun ls hl => ?_)
    have hl : lv_has ls 8 [(5, .int 1), (4, .ref (xL X 2 r26)), (0, .ref (xL X 3 i0)), (1, .long a1), (3, .int x18)] := hl
    obtain ⟨x62, σ63, hlp64, hf⟩ := bn2_some hf
    have KX65 : ∀ (ls : Array Slot) (H : Heap) (locs : List Loc), lv_has ls 8 [(0, .ref (xL X 3 i0)), (4, .ref (xL X 2 r26)), (5, .int x62)] → St X n σ63 s.heap H locs → WG l X n rm_Tr_find σ' none p e s m args below meth c H locs (F0 m 197 ls []) := by
      intro ls H locs hl hP
      refine lv_aload_n F.1 F.2.1 d_Tr_find_197 rfl (lv_at hl 0 rfl) ?_
      refine lv_iload F.1 F.2.1 d_Tr_find_198 (lv_at hl 2 rfl) ?_
      obtain ⟨x66, hj68, hf⟩ := lt_some2 hf
      have KJ67 : ∀ (ls : Array Slot) (H : Heap) (locs : List Loc), lv_has ls 8 [] → St X n σ63 s.heap H locs → WG l X n rm_Tr_find σ' none p e s m args below meth c H locs (F0 m 215 ls [.int x66, .ref (xL X 3 i0)]) := by
        intro ls H locs hl hP
        obtain ⟨σ70, e_σ70, hf⟩ := lt_some hf
        refine g_puti F hP 3 7 i0 (by decide) h_i0 (by decide) rfl rfl rfl rfl (Or.inl w_405) d_Tr_find_215 e_σ70 (fun H locs hP => ?_)
        cases hf
        exact g_vret F hP hr hlk d_Tr_find_218
      refine lv_if_eq F.1 F.2.1 d_Tr_find_200 rfl (fun hb69 => ?_) (fun hb69 => ?_)
      · rw [if_pos hb69] at hj68
        refine lv_aload_n F.1 F.2.1 d_Tr_find_211 rfl (lv_at hl 0 rfl) ?_
        refine g_get F hP 3 7 i0 (by decide) h_i0 (by decide) (v := .int (gi σ63 3 i0 7)) rfl w_405 d_Tr_find_212 ?_
        subst hj68
        exact KJ67 _ _ _ (lv_sub hl [] rfl) hP
      · rw [if_neg hb69] at hj68
        refine lv_aload F.1 F.2.1 d_Tr_find_203 (lv_at hl 1 rfl) ?_
        refine g_getN F hP 2 1 r26 (by decide) hv27 (by decide) (v := .int (gi σ63 2 r26 1)) rfl w_50 d_Tr_find_205 ?_
        refine lv_goto F.1 F.2.1 d_Tr_find_208 rfl ?_
        subst hj68
        exact KJ67 _ _ _ (lv_sub hl [] rfl) hP
    unfold l_Tr_find_98 at hlp64
    refine lp_W (PW := fun q => ∀ (ls : Array Slot) (H : Heap) (locs : List Loc), lv_has ls 8 [(0, .ref (xL X 3 i0)), (1, .long a1), (3, .int x18), (4, .ref (xL X 2 r26)), (5, .int q.1)] → St X n q.2 s.heap H locs → WG l X n rm_Tr_find σ' none p e s m args below meth c H locs (F0 m 98 ls [])) (PE := fun q => ∀ (ls : Array Slot) (H : Heap) (locs : List Loc), lv_has ls 8 [(0, .ref (xL X 3 i0)), (4, .ref (xL X 2 r26)), (5, .int q.1)] → St X n q.2 s.heap H locs → WG l X n rm_Tr_find σ' none p e s m args below meth c H locs (F0 m 197 ls [])) ?_ _ _ _ hlp64 KX65 _ _ _ (lv_sub hl [2, 3, 4, 1, 0] rfl) hP
    rintro ⟨x32, σ33⟩ rr34 hb_98 hI35 hE36 ls H locs hl hP
    replace hb_98 : b_Tr_find_98 i0 a1 x18 r26 x32 σ33 = some rr34 := hb_98
    unfold b_Tr_find_98 at hb_98
    refine lv_iload F.1 F.2.1 d_Tr_find_98 (lv_at hl 4 rfl) ?_
    refine lv_if_eq F.1 F.2.1 d_Tr_find_100 rfl (fun hb61 => ?_) (fun hb61 => ?_)
    · rw [if_pos hb61] at hb_98
      cases hb_98
      exact hE36 _ rfl _ _ _ (lv_sub hl [0, 3, 4] rfl) hP
    · rw [if_neg hb61] at hb_98
      refine lv_aload_n F.1 F.2.1 d_Tr_find_103 rfl (lv_at hl 0 rfl) ?_
      refine g_get F hP 3 9 i0 (by decide) h_i0 (by decide) (v := .int (gi σ33 3 i0 9)) rfl w_407 d_Tr_find_104 ?_
      refine lv_aload_n F.1 F.2.1 d_Tr_find_107 rfl (lv_at hl 0 rfl) ?_
      refine g_get F hP 3 0 i0 (by decide) h_i0 (by decide) (v := .ref (xL X 1 0)) rfl w_396 d_Tr_find_108 ?_
      refine lv_iload_n F.1 F.2.1 d_Tr_find_111 rfl (lv_at hl 2 rfl) ?_
      obtain ⟨r39, σ37, hk38, hb_98⟩ := bn2_some hb_98
      refine g_callV (As := [.int x18]) (rest := [.int (gi σ33 3 i0 9)]) F hP 1 0 (by decide) Nat.zero_lt_one (c_Pg_cells l X n  hk38) rfl q_Pg_cells w_475 w_2 w_472 w_473 w_474 ⟨rfl, rfl⟩ ⟨by decide, by decide⟩ hl.1 (Nat.le_of_ble_eq_true rfl) ⟨Nat.zero_le _, Nat.zero_le _⟩ d_Tr_find_112 rfl (fun H locs hP => ?_)
      refine W.eq (g2 := F0 m 115 ls [.int r39, .int (gi σ33 3 i0 9)]) rfl ?_
      refine lv_icmp_ge F.1 F.2.1 d_Tr_find_115 rfl (fun hb60 => ?_) (fun hb60 => ?_)
      · rw [if_pos hb60] at hb_98
        cases hb_98
        exact hE36 _ rfl _ _ _ (lv_sub hl [0, 3, 4] rfl) hP
      · rw [if_neg hb60] at hb_98
        refine lv_aload_n F.1 F.2.1 d_Tr_find_118 rfl (lv_at hl 0 rfl) ?_
        refine lv_aload F.1 F.2.1 d_Tr_find_119 (lv_at hl 3 rfl) ?_
        refine g_getN F hP 2 1 r26 (by decide) hv27 (by decide) (v := .int (gi σ37 2 r26 1)) rfl w_50 d_Tr_find_121 ?_
        obtain ⟨σ40, e_σ40, hb_98⟩ := lt_some hb_98
        refine g_puti F hP 3 7 i0 (by decide) h_i0 (by decide) rfl rfl rfl rfl (Or.inl w_405) d_Tr_find_124 e_σ40 (fun H locs hP => ?_)
        refine lv_aload_n F.1 F.2.1 d_Tr_find_127 rfl (lv_at hl 0 rfl) ?_
        refine lv_aload F.1 F.2.1 d_Tr_find_128 (lv_at hl 3 rfl) ?_
        refine lv_iconst (v := 1) F.1 F.2.1 d_Tr_find_130 (by decide) ?_
        obtain ⟨r43, σ41, hk42, hb_98⟩ := bn2_some hb_98
        refine g_callV (As := [.ref (xL X 2 r26), .int 1]) (rest := []) F hP 3 i0 (by decide) h_i0 (c_Tr_pass l X n h_i0 hv27 hk42) rfl q_Tr_pass w_484 w_17 w_481 w_483 wp_5 ⟨rfl, rfl⟩ ⟨by decide, by decide⟩ hl.1 (Nat.le_of_ble_eq_true rfl) ⟨Nat.zero_le _, Nat.zero_le _⟩ d_Tr_find_131 rfl (fun H locs hP => ?_)
        refine W.eq (g2 := F0 m 134 ls [.long r43]) rfl ?_
        refine lv_lstore F.1 F.2.1 d_Tr_find_134 hl (by decide) rfl (fun ls hl => ?_)
        have hl : lv_has ls 8 [(6, .long r43), (0, .ref (xL X 3 i0)), (1, .long a1), (3, .int x18), (4, .ref (xL X 2 r26)), (5, .int x32)] := hl
        refine lv_aload_n F.1 F.2.1 d_Tr_find_136 rfl (lv_at hl 1 rfl) ?_
        refine lv_aload F.1 F.2.1 d_Tr_find_137 (lv_at hl 4 rfl) ?_
        refine g_getN F hP 2 1 r26 (by decide) hv27 (by decide) (v := .int (gi σ41 2 r26 1)) rfl w_50 d_Tr_find_139 ?_
        obtain ⟨σ44, e_σ44, hb_98⟩ := lt_some hb_98
        refine g_puti F hP 3 8 i0 (by decide) h_i0 (by decide) rfl rfl rfl rfl (Or.inl w_406) d_Tr_find_142 e_σ44 (fun H locs hP => ?_)
        refine lv_lload F.1 F.2.1 d_Tr_find_145 (lv_at hl 0 rfl) ?_
        refine lv_lload_n F.1 F.2.1 d_Tr_find_147 rfl (lv_at hl 2 rfl) ?_
        obtain ⟨x45, hj47, hb_98⟩ := lt_some2 hb_98
        have KJ46 : ∀ (ls : Array Slot) (H : Heap) (locs : List Loc), lv_has ls 8 [(0, .ref (xL X 3 i0)), (1, .long a1), (3, .int x18), (4, .ref (xL X 2 r26)), (6, .long r43)] → St X n σ44 s.heap H locs → WG l X n rm_Tr_find σ' none p e s m args below meth c H locs (F0 m 157 ls [.int x45]) := by
          intro ls H locs hl hP
          refine lv_istore F.1 F.2.1 d_Tr_find_157 hl (by decide) rfl (fun ls hl => ?_)
          have hl : lv_has ls 8 [(5, .int x45), (0, .ref (xL X 3 i0)), (1, .long a1), (3, .int x18), (4, .ref (xL X 2 r26)), (6, .long r43)] := hl
          refine lv_aload_n F.1 F.2.1 d_Tr_find_159 rfl (lv_at hl 1 rfl) ?_
          refine lv_lload F.1 F.2.1 d_Tr_find_160 (lv_at hl 5 rfl) ?_
          refine lv_lload_n F.1 F.2.1 d_Tr_find_162 rfl (lv_at hl 2 rfl) ?_
          obtain ⟨x49, hj51, hb_98⟩ := lt_some2 hb_98
          have KJ50 : ∀ (ls : Array Slot) (H : Heap) (locs : List Loc), lv_has ls 8 [(0, .ref (xL X 3 i0)), (1, .long a1), (3, .int x18), (4, .ref (xL X 2 r26)), (5, .int x45)] → St X n σ44 s.heap H locs → WG l X n rm_Tr_find σ' none p e s m args below meth c H locs (F0 m 172 ls [.int x49, .ref (xL X 3 i0)]) := by
            intro ls H locs hl hP
            obtain ⟨hc53, hb_98⟩ := chk_some hb_98
            obtain ⟨σ54, e_σ54, hb_98⟩ := lt_some hb_98
            refine g_puti F hP 3 10 i0 (by decide) h_i0 (by decide) rfl rfl (zb_n hc53) (zb_f hc53) (Or.inl w_408) d_Tr_find_172 e_σ54 (fun H locs hP => ?_)
            refine lv_aload_n F.1 F.2.1 d_Tr_find_175 rfl (lv_at hl 0 rfl) ?_
            refine lv_dup F.1 F.2.1 d_Tr_find_176 rfl ?_
            refine g_get F hP 3 9 i0 (by decide) h_i0 (by decide) (v := .int (gi σ54 3 i0 9)) rfl w_407 d_Tr_find_177 ?_
            refine lv_iload F.1 F.2.1 d_Tr_find_180 (lv_at hl 4 rfl) ?_
            obtain ⟨x55, hj57, hb_98⟩ := lt_some2 hb_98
            have KJ56 : ∀ (ls : Array Slot) (H : Heap) (locs : List Loc), lv_has ls 8 [(0, .ref (xL X 3 i0)), (1, .long a1), (3, .int x18), (4, .ref (xL X 2 r26)), (5, .int x45)] → St X n σ54 s.heap H locs → WG l X n rm_Tr_find σ' none p e s m args below meth c H locs (F0 m 190 ls [.int x55, .int (gi σ54 3 i0 9), .ref (xL X 3 i0)]) := by
              intro ls H locs hl hP
              refine lv_iadd F.1 F.2.1 d_Tr_find_190 ?_
              obtain ⟨σ59, e_σ59, hb_98⟩ := lt_some hb_98
              refine g_puti F hP 3 9 i0 (by decide) h_i0 (by decide) rfl rfl rfl rfl (Or.inl w_407) d_Tr_find_191 e_σ59 (fun H locs hP => ?_)
              refine lv_goto F.1 F.2.1 d_Tr_find_194 rfl ?_
              cases hb_98
              exact hI35 _ rfl _ _ _ (lv_sub hl [0, 1, 2, 3, 4] rfl) hP
            refine lv_if_eq F.1 F.2.1 d_Tr_find_182 rfl (fun hb58 => ?_) (fun hb58 => ?_)
            · rw [if_pos hb58] at hj57
              refine lv_iconst (v := 0) F.1 F.2.1 d_Tr_find_189 (by decide) ?_
              subst hj57
              exact KJ56 _ _ _ (lv_sub hl [0, 1, 2, 3, 4] rfl) hP
            · rw [if_neg hb58] at hj57
              refine lv_iconst (v := 1) F.1 F.2.1 d_Tr_find_185 (by decide) ?_
              refine lv_goto F.1 F.2.1 d_Tr_find_186 rfl ?_
              subst hj57
              exact KJ56 _ _ _ (lv_sub hl [0, 1, 2, 3, 4] rfl) hP
          refine g_lc_ne F d_Tr_find_163 d_Tr_find_164 rfl (fun hb52 => ?_) (fun hb52 => ?_)
          · rw [if_neg hb52] at hj51
            refine lv_iconst (v := 0) F.1 F.2.1 d_Tr_find_171 (by decide) ?_
            subst hj51
            exact KJ50 _ _ _ (lv_sub hl [1, 2, 3, 4, 0] rfl) hP
          · rw [if_pos hb52] at hj51
            refine lv_iconst (v := 1) F.1 F.2.1 d_Tr_find_167 (by decide) ?_
            refine lv_goto F.1 F.2.1 d_Tr_find_168 rfl ?_
            subst hj51
            exact KJ50 _ _ _ (lv_sub hl [1, 2, 3, 4, 0] rfl) hP
        refine g_lc_ge F d_Tr_find_148 d_Tr_find_149 rfl (fun hb48 => ?_) (fun hb48 => ?_)
        · rw [if_pos hb48] at hj47
          refine lv_iconst (v := 0) F.1 F.2.1 d_Tr_find_156 (by decide) ?_
          subst hj47
          exact KJ46 _ _ _ (lv_sub hl [1, 2, 3, 4, 0] rfl) hP
        · rw [if_neg hb48] at hj47
          refine lv_iconst (v := 1) F.1 F.2.1 d_Tr_find_152 (by decide) ?_
          refine lv_goto F.1 F.2.1 d_Tr_find_153 rfl ?_
          subst hj47
          exact KJ46 _ _ _ (lv_sub hl [1, 2, 3, 4, 0] rfl) hP
  unfold l_Tr_find_10 at hlp20
  refine lp_W (PW := fun q => ∀ (ls : Array Slot) (H : Heap) (locs : List Loc), lv_has ls 8 [(0, .ref (xL X 3 i0)), (1, .long a1), (3, .int q.1)] → St X n q.2 s.heap H locs → WG l X n rm_Tr_find σ' none p e s m args below meth c H locs (F0 m 10 ls [])) (PE := fun q => ∀ (ls : Array Slot) (H : Heap) (locs : List Loc), lv_has ls 8 [(0, .ref (xL X 3 i0)), (1, .long a1), (3, .int q.1)] → St X n q.2 s.heap H locs → WG l X n rm_Tr_find σ' none p e s m args below meth c H locs (F0 m 55 ls [])) ?_ _ _ _ hlp20 KX21 _ _ _ (lv_sub hl [1, 2, 0] rfl) hP
  rintro ⟨x3, σ4⟩ rr5 hb_10 hI6 hE7 ls H locs hl hP
  replace hb_10 : b_Tr_find_10 i0 a1 x3 σ4 = some rr5 := hb_10
  unfold b_Tr_find_10 at hb_10
  refine lv_aload_n F.1 F.2.1 d_Tr_find_10 rfl (lv_at hl 0 rfl) ?_
  refine g_get F hP 3 0 i0 (by decide) h_i0 (by decide) (v := .ref (xL X 1 0)) rfl w_396 d_Tr_find_11 ?_
  refine lv_iload_n F.1 F.2.1 d_Tr_find_14 rfl (lv_at hl 2 rfl) ?_
  obtain ⟨r10, σ8, hk9, hb_10⟩ := bn2_some hb_10
  refine g_callV (As := [.int x3]) (rest := []) F hP 1 0 (by decide) Nat.zero_lt_one (c_Pg_isLeaf l X n  hk9) rfl q_Pg_isLeaf w_459 w_2 w_456 w_457 w_458 ⟨rfl, rfl⟩ ⟨by decide, by decide⟩ hl.1 (Nat.le_of_ble_eq_true rfl) ⟨Nat.zero_le _, Nat.zero_le _⟩ d_Tr_find_15 rfl (fun H locs hP => ?_)
  refine W.eq (g2 := F0 m 18 ls [.int r10]) rfl ?_
  refine lv_if_ne F.1 F.2.1 d_Tr_find_18 rfl (fun hb17 => ?_) (fun hb17 => ?_)
  · rw [if_neg hb17] at hb_10
    cases hb_10
    exact hE7 _ rfl _ _ _ (lv_sub hl [0, 1, 2] rfl) hP
  · rw [if_pos hb17] at hb_10
    refine lv_aload_n F.1 F.2.1 d_Tr_find_21 rfl (lv_at hl 0 rfl) ?_
    refine g_get F hP 3 4 i0 (by decide) h_i0 (by decide) (v := .ref (xL X 13 i0)) rfl w_402 d_Tr_find_22 ?_
    refine lv_aload_n F.1 F.2.1 d_Tr_find_25 rfl (lv_at hl 0 rfl) ?_
    refine g_get F hP 3 6 i0 (by decide) h_i0 (by decide) (v := .int (gi σ8 3 i0 6)) rfl w_404 d_Tr_find_26 ?_
    refine lv_iload_n F.1 F.2.1 d_Tr_find_29 rfl (lv_at hl 2 rfl) ?_
    obtain ⟨hc11, hb_10⟩ := chk_some hb_10
    obtain ⟨σ12, e_σ12, hb_10⟩ := lt_some hb_10
    refine g_ast F hP 13 (by decide) (by decide) h_i0 rfl rfl hc11 d_Tr_find_30 e_σ12 (fun H locs hP => ?_)
    refine lv_aload_n F.1 F.2.1 d_Tr_find_31 rfl (lv_at hl 0 rfl) ?_
    refine lv_iload_n F.1 F.2.1 d_Tr_find_32 rfl (lv_at hl 2 rfl) ?_
    refine lv_lload_n F.1 F.2.1 d_Tr_find_33 rfl (lv_at hl 1 rfl) ?_
    obtain ⟨r15, σ13, hk14, hb_10⟩ := bn2_some hb_10
    refine g_callV (As := [.int x3, .long a1]) (rest := []) F hP 3 i0 (by decide) h_i0 (c_Tr_childFor l X n h_i0 hk14) rfl q_Tr_childFor w_463 w_17 w_460 w_462 wp_4 ⟨rfl, rfl⟩ ⟨by decide, by decide⟩ hl.1 (Nat.le_of_ble_eq_true rfl) ⟨Nat.zero_le _, Nat.zero_le _⟩ d_Tr_find_34 rfl (fun H locs hP => ?_)
    refine W.eq (g2 := F0 m 37 ls [.int r15]) rfl ?_
    refine lv_istore F.1 F.2.1 d_Tr_find_37 hl (by decide) rfl (fun ls hl => ?_)
    have hl : lv_has ls 8 [(4, .int r15), (0, .ref (xL X 3 i0)), (1, .long a1), (3, .int x3)] := hl
    refine lv_aload_n F.1 F.2.1 d_Tr_find_39 rfl (lv_at hl 1 rfl) ?_
    refine lv_dup F.1 F.2.1 d_Tr_find_40 rfl ?_
    refine g_get F hP 3 6 i0 (by decide) h_i0 (by decide) (v := .int (gi σ13 3 i0 6)) rfl w_404 d_Tr_find_41 ?_
    refine lv_iconst (v := 1) F.1 F.2.1 d_Tr_find_44 (by decide) ?_
    refine lv_iadd F.1 F.2.1 d_Tr_find_45 ?_
    obtain ⟨σ16, e_σ16, hb_10⟩ := lt_some hb_10
    refine g_puti F hP 3 6 i0 (by decide) h_i0 (by decide) rfl rfl rfl rfl (Or.inl w_404) d_Tr_find_46 e_σ16 (fun H locs hP => ?_)
    refine lv_iload F.1 F.2.1 d_Tr_find_49 (lv_at hl 0 rfl) ?_
    refine lv_istore_n F.1 F.2.1 d_Tr_find_51 rfl hl (by decide) rfl (fun ls hl => ?_)
    have hl : lv_has ls 8 [(3, .int r15), (4, .int r15), (0, .ref (xL X 3 i0)), (1, .long a1)] := hl
    refine lv_goto F.1 F.2.1 d_Tr_find_52 rfl ?_
    cases hb_10
    exact hI6 _ rfl _ _ _ (lv_sub hl [2, 3, 0] rfl) hP

theorem d_Tr_has_0 : decode b_Tr_has 0 = .ok (.aload_n 0, 1) := by decide +kernel
theorem d_Tr_has_1 : decode b_Tr_has 1 = .ok (.lload_n 1, 1) := by decide +kernel
theorem d_Tr_has_2 : decode b_Tr_has 2 = .ok (.invokevirtual 94, 3) := by decide +kernel
theorem d_Tr_has_5 : decode b_Tr_has 5 = .ok (.aload_n 0, 1) := by decide +kernel
theorem d_Tr_has_6 : decode b_Tr_has 6 = .ok (.getfield 84, 3) := by decide +kernel
theorem d_Tr_has_9 : decode b_Tr_has 9 = .ok (.ireturn, 1) := by decide +kernel
noncomputable def f_Tr_has (i0 : Nat) (a1 : Int64) (σ : Sg) : Option (Int32 × Sg) :=
  (f_Tr_find i0 a1 σ).bind (fun σ1 => chk (zb (gi σ1 3 i0 10)) (some (gi σ1 3 i0 10, σ1)))
abbrev rm_Tr_has : Room := { frames := 4, cells := 0, slots := 0, locals := 100 }
set_option maxHeartbeats 4000000 in
set_option maxRecDepth 100000 in
theorem c_Tr_has (l : Launch) (X : GX) (n : Nat) {σ σ' : Sg} {r : Int32} {i0 : Nat} {a1 : Int64} (h_i0 : i0 < cnt n 3) (hf : f_Tr_has i0 a1 σ = some (r, σ')) : Met l y_Tr_has (cw y_Tr_has b_Tr_has 3 (some .boolean)) rm_Tr_has (PcG X n σ [.ref (xL X 3 i0), .long a1]) (QcG X n σ' (some (.int r))) 0 0 (fr X n) := by
  refine g_head (own := "TableMachine$Tree") (by decide) rfl (Nat.le_of_ble_eq_true rfl) ?_
  intro p e s m args below meth c ls F hr hlk hP hl
  have hl : lv_has ls 3 [(0, .ref (xL X 3 i0)), (1, .long a1)] := hl
  show WG l X n rm_Tr_has σ' (some (.int r)) p e s m args below meth c s.heap [] (F0 m 0 ls [])
  unfold f_Tr_has at hf
  refine lv_aload_n F.1 F.2.1 d_Tr_has_0 rfl (lv_at hl 0 rfl) ?_
  refine lv_lload_n F.1 F.2.1 d_Tr_has_1 rfl (lv_at hl 1 rfl) ?_
  obtain ⟨σ1, hk2, hf⟩ := bnd_some hf
  refine g_callV (As := [.long a1]) (rest := []) F hP 3 i0 (by decide) h_i0 (c_Tr_find l X n h_i0 hk2) rfl q_Tr_find w_455 w_17 w_452 w_454 wp_3 ⟨rfl, rfl⟩ ⟨by decide, by decide⟩ hl.1 (Nat.le_of_ble_eq_true rfl) ⟨Nat.zero_le _, Nat.zero_le _⟩ d_Tr_has_2 rfl (fun H locs hP => ?_)
  refine W.eq (g2 := F0 m 5 ls []) rfl ?_
  refine lv_aload_n F.1 F.2.1 d_Tr_has_5 rfl (lv_at hl 0 rfl) ?_
  refine g_get F hP 3 10 i0 (by decide) h_i0 (by decide) (v := .int (gi σ1 3 i0 10)) rfl w_408 d_Tr_has_6 ?_
  obtain ⟨hz3, hf⟩ := chk_some hf
  cases hf
  exact g_zret F hP hr hlk hz3 d_Tr_has_9

theorem d_Tr_leaf_0 : decode b_Tr_leaf 0 = .ok (.aload_n 0, 1) := by decide +kernel
theorem d_Tr_leaf_1 : decode b_Tr_leaf 1 = .ok (.getfield 9, 3) := by decide +kernel
theorem d_Tr_leaf_4 : decode b_Tr_leaf 4 = .ok (.aload_n 0, 1) := by decide +kernel
theorem d_Tr_leaf_5 : decode b_Tr_leaf 5 = .ok (.getfield 55, 3) := by decide +kernel
theorem d_Tr_leaf_8 : decode b_Tr_leaf 8 = .ok (.iaload, 1) := by decide +kernel
theorem d_Tr_leaf_9 : decode b_Tr_leaf 9 = .ok (.ireturn, 1) := by decide +kernel
noncomputable def f_Tr_leaf (i0 : Nat) (σ : Sg) : Option (Int32 × Sg) :=
  chk (vp_in (gi σ 3 i0 6) 100) (some (gi σ 13 i0 ((gi σ 3 i0 6).toNatClampNeg), σ))
abbrev rm_Tr_leaf : Room := { frames := 0, cells := 0, slots := 0, locals := 0 }
set_option maxHeartbeats 4000000 in
set_option maxRecDepth 100000 in
theorem c_Tr_leaf (l : Launch) (X : GX) (n : Nat) {σ σ' : Sg} {r : Int32} {i0 : Nat} (h_i0 : i0 < cnt n 3) (hf : f_Tr_leaf i0 σ = some (r, σ')) : Met l y_Tr_leaf (cw y_Tr_leaf b_Tr_leaf 1 (some .int)) rm_Tr_leaf (PcG X n σ [.ref (xL X 3 i0)]) (QcG X n σ' (some (.int r))) 0 0 (fr X n) := by
  refine g_head (own := "TableMachine$Tree") (by decide) rfl (Nat.le_of_ble_eq_true rfl) ?_
  intro p e s m args below meth c ls F hr hlk hP hl
  have hl : lv_has ls 1 [(0, .ref (xL X 3 i0))] := hl
  show WG l X n rm_Tr_leaf σ' (some (.int r)) p e s m args below meth c s.heap [] (F0 m 0 ls [])
  unfold f_Tr_leaf at hf
  refine lv_aload_n F.1 F.2.1 d_Tr_leaf_0 rfl (lv_at hl 0 rfl) ?_
  refine g_get F hP 3 4 i0 (by decide) h_i0 (by decide) (v := .ref (xL X 13 i0)) rfl w_402 d_Tr_leaf_1 ?_
  refine lv_aload_n F.1 F.2.1 d_Tr_leaf_4 rfl (lv_at hl 0 rfl) ?_
  refine g_get F hP 3 6 i0 (by decide) h_i0 (by decide) (v := .int (gi σ 3 i0 6)) rfl w_404 d_Tr_leaf_5 ?_
  obtain ⟨hc1, hf⟩ := chk_some hf
  refine g_ald F hP 13 (by decide) (by decide) h_i0 rfl rfl hc1 d_Tr_leaf_8 ?_
  cases hf
  exact g_iret F hP hr hlk d_Tr_leaf_9

theorem d_Tr_size_0 : decode b_Tr_size 0 = .ok (.aload_n 0, 1) := by decide +kernel
theorem d_Tr_size_1 : decode b_Tr_size 1 = .ok (.getfield 27, 3) := by decide +kernel
theorem d_Tr_size_4 : decode b_Tr_size 4 = .ok (.iload_n 1, 1) := by decide +kernel
theorem d_Tr_size_5 : decode b_Tr_size 5 = .ok (.invokevirtual 48, 3) := by decide +kernel
theorem d_Tr_size_8 : decode b_Tr_size 8 = .ok (.astore_n 2, 1) := by decide +kernel
theorem d_Tr_size_9 : decode b_Tr_size 9 = .ok (.aload_n 0, 1) := by decide +kernel
theorem d_Tr_size_10 : decode b_Tr_size 10 = .ok (.getfield 27, 3) := by decide +kernel
theorem d_Tr_size_13 : decode b_Tr_size 13 = .ok (.iload_n 1, 1) := by decide +kernel
theorem d_Tr_size_14 : decode b_Tr_size 14 = .ok (.invokevirtual 66, 3) := by decide +kernel
theorem d_Tr_size_17 : decode b_Tr_size 17 = .ok (.ifCond .ne 13, 3) := by decide +kernel
theorem d_Tr_size_20 : decode b_Tr_size 20 = .ok (.aload_n 2, 1) := by decide +kernel
theorem d_Tr_size_21 : decode b_Tr_size 21 = .ok (.dup, 1) := by decide +kernel
theorem d_Tr_size_22 : decode b_Tr_size 22 = .ok (.getfield 70, 3) := by decide +kernel
theorem d_Tr_size_25 : decode b_Tr_size 25 = .ok (.iconst 1, 1) := by decide +kernel
theorem d_Tr_size_26 : decode b_Tr_size 26 = .ok (.iadd, 1) := by decide +kernel
theorem d_Tr_size_27 : decode b_Tr_size 27 = .ok (.putfield 70, 3) := by decide +kernel
theorem d_Tr_size_30 : decode b_Tr_size 30 = .ok (.iconst 0, 1) := by decide +kernel
theorem d_Tr_size_31 : decode b_Tr_size 31 = .ok (.istore_n 3, 1) := by decide +kernel
theorem d_Tr_size_32 : decode b_Tr_size 32 = .ok (.iload_n 3, 1) := by decide +kernel
theorem d_Tr_size_33 : decode b_Tr_size 33 = .ok (.aload_n 0, 1) := by decide +kernel
theorem d_Tr_size_34 : decode b_Tr_size 34 = .ok (.getfield 27, 3) := by decide +kernel
theorem d_Tr_size_37 : decode b_Tr_size 37 = .ok (.iload_n 1, 1) := by decide +kernel
theorem d_Tr_size_38 : decode b_Tr_size 38 = .ok (.invokevirtual 58, 3) := by decide +kernel
theorem d_Tr_size_41 : decode b_Tr_size 41 = .ok (.if_icmp .ge 23, 3) := by decide +kernel
theorem d_Tr_size_44 : decode b_Tr_size 44 = .ok (.aload_n 0, 1) := by decide +kernel
theorem d_Tr_size_45 : decode b_Tr_size 45 = .ok (.aload_n 2, 1) := by decide +kernel
theorem d_Tr_size_46 : decode b_Tr_size 46 = .ok (.aload_n 0, 1) := by decide +kernel
theorem d_Tr_size_47 : decode b_Tr_size 47 = .ok (.getfield 27, 3) := by decide +kernel
theorem d_Tr_size_50 : decode b_Tr_size 50 = .ok (.iload_n 1, 1) := by decide +kernel
theorem d_Tr_size_51 : decode b_Tr_size 51 = .ok (.invokevirtual 66, 3) := by decide +kernel
theorem d_Tr_size_54 : decode b_Tr_size 54 = .ok (.invokevirtual 73, 3) := by decide +kernel
theorem d_Tr_size_57 : decode b_Tr_size 57 = .ok (.pop2, 1) := by decide +kernel
theorem d_Tr_size_58 : decode b_Tr_size 58 = .ok (.iinc 3 1, 3) := by decide +kernel
theorem d_Tr_size_61 : decode b_Tr_size 61 = .ok (.goto (-29), 3) := by decide +kernel
theorem d_Tr_size_64 : decode b_Tr_size 64 = .ok (.aload_n 2, 1) := by decide +kernel
theorem d_Tr_size_65 : decode b_Tr_size 65 = .ok (.getfield 70, 3) := by decide +kernel
theorem d_Tr_size_68 : decode b_Tr_size 68 = .ok (.ireturn, 1) := by decide +kernel
noncomputable def b_Tr_size_32 (i0 : Nat) (a1 : Int32) (r3 : Nat) (x13 : Int32) (σ14 : Sg) : Option ((Int32 × Sg) ⊕ (Sg)) :=
  bn2 (f_Pg_cells a1 σ14) (fun r20 σ18 => (if r20 ≤ x13 then (some (.inr σ18)) else (bn2 (f_Pg_isLeaf a1 σ18) (fun r23 σ21 => bn2 (f_Tr_pass i0 r3 r23 σ21) (fun r26 σ24 => lt_ (x13 + 1 : Int32) (fun (x27 : Int32) => some (.inl (x27, σ24))))))))
noncomputable def l_Tr_size_32 (i0 : Nat) (a1 : Int32) (r3 : Nat) (x13 : Int32) (σ14 : Sg) : Option (Sg) := lp (fun q => b_Tr_size_32 i0 a1 r3 q.1 q.2) FU (x13, σ14)
noncomputable def f_Tr_size (i0 : Nat) (a1 : Int32) (σ : Sg) : Option (Int32 × Sg) :=
  bn2 (f_Pg_open a1 σ) (fun r3 σ1 => bn2 (f_Pg_isLeaf a1 σ1) (fun r7 σ5 => Option.bind (if r7 = 0 then (lt_ (si σ5 2 r3 1 ((gi σ5 2 r3 1) + 1)) (fun σ11 => some (σ11))) else (some (σ5))) (fun (σ8 : Sg) => (l_Tr_size_32 i0 a1 r3 0 σ8).bind (fun σ29 => some (gi σ29 2 r3 1, σ29)))))
abbrev rm_Tr_size : Room := { frames := 3, cells := 0, slots := 0, locals := 72 }
set_option maxHeartbeats 4000000 in
set_option maxRecDepth 100000 in
theorem c_Tr_size (l : Launch) (X : GX) (n : Nat) {σ σ' : Sg} {r : Int32} {i0 : Nat} {a1 : Int32} (h_i0 : i0 < cnt n 3) (hf : f_Tr_size i0 a1 σ = some (r, σ')) : Met l y_Tr_size (cw y_Tr_size b_Tr_size 4 (some .int)) rm_Tr_size (PcG X n σ [.ref (xL X 3 i0), .int a1]) (QcG X n σ' (some (.int r))) 0 0 (fr X n) := by
  refine g_head (own := "TableMachine$Tree") (by decide) rfl (Nat.le_of_ble_eq_true rfl) ?_
  intro p e s m args below meth c ls F hr hlk hP hl
  have hl : lv_has ls 4 [(0, .ref (xL X 3 i0)), (1, .int a1)] := hl
  show WG l X n rm_Tr_size σ' (some (.int r)) p e s m args below meth c s.heap [] (F0 m 0 ls [])
  unfold f_Tr_size at hf
  refine lv_aload_n F.1 F.2.1 d_Tr_size_0 rfl (lv_at hl 0 rfl) ?_
  refine g_get F hP 3 0 i0 (by decide) h_i0 (by decide) (v := .ref (xL X 1 0)) rfl w_396 d_Tr_size_1 ?_
  refine lv_iload_n F.1 F.2.1 d_Tr_size_4 rfl (lv_at hl 1 rfl) ?_
  obtain ⟨r3, σ1, hk2, hf⟩ := bn2_some hf
  have hv4 : r3 < cnt n 2 := v_Pg_open  hk2
  refine g_callV (As := [.int a1]) (rest := []) F hP 1 0 (by decide) Nat.zero_lt_one (c_Pg_open l X n  hk2) rfl q_Pg_open w_467 w_2 w_464 w_465 w_466 ⟨rfl, rfl⟩ ⟨by decide, by decide⟩ hl.1 (Nat.le_of_ble_eq_true rfl) ⟨Nat.zero_le _, Nat.zero_le _⟩ d_Tr_size_5 rfl (fun H locs hP => ?_)
  refine W.eq (g2 := F0 m 8 ls [.ref (xL X 2 r3)]) rfl ?_
  refine lv_astore_n F.1 F.2.1 d_Tr_size_8 rfl hl (by decide) rfl (fun ls hl => ?_)
  have hl : lv_has ls 4 [(2, .ref (xL X 2 r3)), (0, .ref (xL X 3 i0)), (1, .int a1)] := hl
  refine lv_aload_n F.1 F.2.1 d_Tr_size_9 rfl (lv_at hl 1 rfl) ?_
  refine g_get F hP 3 0 i0 (by decide) h_i0 (by decide) (v := .ref (xL X 1 0)) rfl w_396 d_Tr_size_10 ?_
  refine lv_iload_n F.1 F.2.1 d_Tr_size_13 rfl (lv_at hl 2 rfl) ?_
  obtain ⟨r7, σ5, hk6, hf⟩ := bn2_some hf
  refine g_callV (As := [.int a1]) (rest := []) F hP 1 0 (by decide) Nat.zero_lt_one (c_Pg_isLeaf l X n  hk6) rfl q_Pg_isLeaf w_459 w_2 w_456 w_457 w_458 ⟨rfl, rfl⟩ ⟨by decide, by decide⟩ hl.1 (Nat.le_of_ble_eq_true rfl) ⟨Nat.zero_le _, Nat.zero_le _⟩ d_Tr_size_14 rfl (fun H locs hP => ?_)
  refine W.eq (g2 := F0 m 17 ls [.int r7]) rfl ?_
  obtain ⟨σ8, hj10, hf⟩ := bnd_some hf
  have KJ9 : ∀ (ls : Array Slot) (H : Heap) (locs : List Loc), lv_has ls 4 [(0, .ref (xL X 3 i0)), (1, .int a1), (2, .ref (xL X 2 r3))] → St X n σ8 s.heap H locs → WG l X n rm_Tr_size σ' (some (.int r)) p e s m args below meth c H locs (F0 m 30 ls []) := by
    intro ls H locs hl hP
    refine lv_iconst (v := 0) F.1 F.2.1 d_Tr_size_30 (by decide) ?_
    refine lv_istore_n F.1 F.2.1 d_Tr_size_31 rfl hl (by decide) rfl (fun ls hl => ?_)
    have hl : lv_has ls 4 [(3, .int 0), (0, .ref (xL X 3 i0)), (1, .int a1), (2, .ref (xL X 2 r3))] := hl
    obtain ⟨σ29, hlp30, hf⟩ := bnd_some hf
    have KX31 : ∀ (ls : Array Slot) (H : Heap) (locs : List Loc), lv_has ls 4 [(2, .ref (xL X 2 r3))] → St X n σ29 s.heap H locs → WG l X n rm_Tr_size σ' (some (.int r)) p e s m args below meth c H locs (F0 m 64 ls []) := by
      intro ls H locs hl hP
      refine lv_aload_n F.1 F.2.1 d_Tr_size_64 rfl (lv_at hl 0 rfl) ?_
      refine g_getN F hP 2 1 r3 (by decide) hv4 (by decide) (v := .int (gi σ29 2 r3 1)) rfl w_50 d_Tr_size_65 ?_
      cases hf
      exact g_iret F hP hr hlk d_Tr_size_68
    unfold l_Tr_size_32 at hlp30
    refine lp_W (PW := fun q => ∀ (ls : Array Slot) (H : Heap) (locs : List Loc), lv_has ls 4 [(0, .ref (xL X 3 i0)), (1, .int a1), (2, .ref (xL X 2 r3)), (3, .int q.1)] → St X n q.2 s.heap H locs → WG l X n rm_Tr_size σ' (some (.int r)) p e s m args below meth c H locs (F0 m 32 ls [])) (PE := fun q => ∀ (ls : Array Slot) (H : Heap) (locs : List Loc), lv_has ls 4 [(2, .ref (xL X 2 r3))] → St X n q s.heap H locs → WG l X n rm_Tr_size σ' (some (.int r)) p e s m args below meth c H locs (F0 m 64 ls [])) ?_ _ _ _ hlp30 KX31 _ _ _ (lv_sub hl [1, 2, 3, 0] rfl) hP
    rintro ⟨x13, σ14⟩ rr15 hb_32 hI16 hE17 ls H locs hl hP
    replace hb_32 : b_Tr_size_32 i0 a1 r3 x13 σ14 = some rr15 := hb_32
    unfold b_Tr_size_32 at hb_32
    refine lv_iload_n F.1 F.2.1 d_Tr_size_32 rfl (lv_at hl 3 rfl) ?_
    refine lv_aload_n F.1 F.2.1 d_Tr_size_33 rfl (lv_at hl 0 rfl) ?_
    refine g_get F hP 3 0 i0 (by decide) h_i0 (by decide) (v := .ref (xL X 1 0)) rfl w_396 d_Tr_size_34 ?_
    refine lv_iload_n F.1 F.2.1 d_Tr_size_37 rfl (lv_at hl 1 rfl) ?_
    obtain ⟨r20, σ18, hk19, hb_32⟩ := bn2_some hb_32
    refine g_callV (As := [.int a1]) (rest := [.int x13]) F hP 1 0 (by decide) Nat.zero_lt_one (c_Pg_cells l X n  hk19) rfl q_Pg_cells w_475 w_2 w_472 w_473 w_474 ⟨rfl, rfl⟩ ⟨by decide, by decide⟩ hl.1 (Nat.le_of_ble_eq_true rfl) ⟨Nat.zero_le _, Nat.zero_le _⟩ d_Tr_size_38 rfl (fun H locs hP => ?_)
    refine W.eq (g2 := F0 m 41 ls [.int r20, .int x13]) rfl ?_
    refine lv_icmp_ge F.1 F.2.1 d_Tr_size_41 rfl (fun hb28 => ?_) (fun hb28 => ?_)
    · rw [if_pos hb28] at hb_32
      cases hb_32
      exact hE17 _ rfl _ _ _ (lv_sub hl [2] rfl) hP
    · rw [if_neg hb28] at hb_32
      refine lv_aload_n F.1 F.2.1 d_Tr_size_44 rfl (lv_at hl 0 rfl) ?_
      refine lv_aload_n F.1 F.2.1 d_Tr_size_45 rfl (lv_at hl 2 rfl) ?_
      refine lv_aload_n F.1 F.2.1 d_Tr_size_46 rfl (lv_at hl 0 rfl) ?_
      refine g_get F hP 3 0 i0 (by decide) h_i0 (by decide) (v := .ref (xL X 1 0)) rfl w_396 d_Tr_size_47 ?_
      refine lv_iload_n F.1 F.2.1 d_Tr_size_50 rfl (lv_at hl 1 rfl) ?_
      obtain ⟨r23, σ21, hk22, hb_32⟩ := bn2_some hb_32
      refine g_callV (As := [.int a1]) (rest := [.ref (xL X 2 r3), .ref (xL X 3 i0)]) F hP 1 0 (by decide) Nat.zero_lt_one (c_Pg_isLeaf l X n  hk22) rfl q_Pg_isLeaf w_459 w_2 w_456 w_457 w_458 ⟨rfl, rfl⟩ ⟨by decide, by decide⟩ hl.1 (Nat.le_of_ble_eq_true rfl) ⟨Nat.zero_le _, Nat.zero_le _⟩ d_Tr_size_51 rfl (fun H locs hP => ?_)
      refine W.eq (g2 := F0 m 54 ls [.int r23, .ref (xL X 2 r3), .ref (xL X 3 i0)]) rfl ?_
      obtain ⟨r26, σ24, hk25, hb_32⟩ := bn2_some hb_32
      refine g_callV (As := [.ref (xL X 2 r3), .int r23]) (rest := []) F hP 3 i0 (by decide) h_i0 (c_Tr_pass l X n h_i0 hv4 hk25) rfl q_Tr_pass w_484 w_17 w_481 w_483 wp_5 ⟨rfl, rfl⟩ ⟨by decide, by decide⟩ hl.1 (Nat.le_of_ble_eq_true rfl) ⟨Nat.zero_le _, Nat.zero_le _⟩ d_Tr_size_54 rfl (fun H locs hP => ?_)
      refine W.eq (g2 := F0 m 57 ls [.long r26]) rfl ?_
      refine lv_pop2_2 F.1 F.2.1 d_Tr_size_57 rfl ?_
      obtain ⟨x27, e_x27, hb_32⟩ := lt_some hb_32
      refine lv_iinc (k := 3) (v := x27) F.1 F.2.1 d_Tr_size_58 hl rfl (by rw [e_x27]; rfl) (by decide) rfl (fun ls hl => ?_)
      have hl : lv_has ls 4 [(3, .int x27), (0, .ref (xL X 3 i0)), (1, .int a1), (2, .ref (xL X 2 r3))] := hl
      refine lv_goto F.1 F.2.1 d_Tr_size_61 rfl ?_
      cases hb_32
      exact hI16 _ rfl _ _ _ (lv_sub hl [1, 2, 3, 0] rfl) hP
  refine lv_if_ne F.1 F.2.1 d_Tr_size_17 rfl (fun hb12 => ?_) (fun hb12 => ?_)
  · rw [if_neg hb12] at hj10
    cases hj10
    exact KJ9 _ _ _ (lv_sub hl [1, 2, 0] rfl) hP
  · rw [if_pos hb12] at hj10
    refine lv_aload_n F.1 F.2.1 d_Tr_size_20 rfl (lv_at hl 0 rfl) ?_
    refine lv_dup F.1 F.2.1 d_Tr_size_21 rfl ?_
    refine g_getN F hP 2 1 r3 (by decide) hv4 (by decide) (v := .int (gi σ5 2 r3 1)) rfl w_50 d_Tr_size_22 ?_
    refine lv_iconst (v := 1) F.1 F.2.1 d_Tr_size_25 (by decide) ?_
    refine lv_iadd F.1 F.2.1 d_Tr_size_26 ?_
    obtain ⟨σ11, e_σ11, hj10⟩ := lt_some hj10
    refine g_puti F hP 2 1 r3 (by decide) hv4 (by decide) rfl rfl rfl rfl (Or.inr w_50) d_Tr_size_27 e_σ11 (fun H locs hP => ?_)
    cases hj10
    exact KJ9 _ _ _ (lv_sub hl [1, 2, 0] rfl) hP

theorem d_Tr_fill_0 : decode b_Tr_fill 0 = .ok (.aload_n 0, 1) := by decide +kernel
theorem d_Tr_fill_1 : decode b_Tr_fill 1 = .ok (.getfield 27, 3) := by decide +kernel
theorem d_Tr_fill_4 : decode b_Tr_fill 4 = .ok (.iload_n 1, 1) := by decide +kernel
theorem d_Tr_fill_5 : decode b_Tr_fill 5 = .ok (.iload_n 2, 1) := by decide +kernel
theorem d_Tr_fill_6 : decode b_Tr_fill 6 = .ok (.iload_n 3, 1) := by decide +kernel
theorem d_Tr_fill_7 : decode b_Tr_fill 7 = .ok (.invokevirtual 44, 3) := by decide +kernel
theorem d_Tr_fill_10 : decode b_Tr_fill 10 = .ok (.aload_n 0, 1) := by decide +kernel
theorem d_Tr_fill_11 : decode b_Tr_fill 11 = .ok (.getfield 27, 3) := by decide +kernel
theorem d_Tr_fill_14 : decode b_Tr_fill 14 = .ok (.iload_n 1, 1) := by decide +kernel
theorem d_Tr_fill_15 : decode b_Tr_fill 15 = .ok (.invokevirtual 48, 3) := by decide +kernel
theorem d_Tr_fill_18 : decode b_Tr_fill 18 = .ok (.astore 6, 2) := by decide +kernel
theorem d_Tr_fill_20 : decode b_Tr_fill 20 = .ok (.aload 6, 2) := by decide +kernel
theorem d_Tr_fill_22 : decode b_Tr_fill 22 = .ok (.aload_n 0, 1) := by decide +kernel
theorem d_Tr_fill_23 : decode b_Tr_fill 23 = .ok (.getfield 23, 3) := by decide +kernel
theorem d_Tr_fill_26 : decode b_Tr_fill 26 = .ok (.iload 4, 2) := by decide +kernel
theorem d_Tr_fill_28 : decode b_Tr_fill 28 = .ok (.iload 5, 2) := by decide +kernel
theorem d_Tr_fill_30 : decode b_Tr_fill 30 = .ok (.invokevirtual 121, 3) := by decide +kernel
theorem d_Tr_fill_33 : decode b_Tr_fill 33 = .ok (.return_, 1) := by decide +kernel
noncomputable def f_Tr_fill (i0 : Nat) (a1 : Int32) (a2 : Int32) (a3 : Int32) (a4 : Int32) (a5 : Int32) (σ : Sg) : Option (Sg) :=
  (f_Pg_head a1 a2 a3 σ).bind (fun σ1 => bn2 (f_Pg_open a1 σ1) (fun r5 σ3 => (f_Tp_copy r5 (240 + i0) a4 a5 σ3).bind (fun σ7 => some σ7)))
abbrev rm_Tr_fill : Room := { frames := 2, cells := 0, slots := 0, locals := 45 }
set_option maxHeartbeats 4000000 in
set_option maxRecDepth 100000 in
theorem c_Tr_fill (l : Launch) (X : GX) (n : Nat) {σ σ' : Sg} {i0 : Nat} {a1 : Int32} {a2 : Int32} {a3 : Int32} {a4 : Int32} {a5 : Int32} (h_i0 : i0 < cnt n 3) (hf : f_Tr_fill i0 a1 a2 a3 a4 a5 σ = some σ') : Met l y_Tr_fill (cw y_Tr_fill b_Tr_fill 7 none) rm_Tr_fill (PcG X n σ [.ref (xL X 3 i0), .int a1, .int a2, .int a3, .int a4, .int a5]) (QcG X n σ' none) 0 0 (fr X n) := by
  refine g_head (own := "TableMachine$Tree") (by decide) rfl (Nat.le_of_ble_eq_true rfl) ?_
  intro p e s m args below meth c ls F hr hlk hP hl
  have hl : lv_has ls 7 [(0, .ref (xL X 3 i0)), (1, .int a1), (2, .int a2), (3, .int a3), (4, .int a4), (5, .int a5)] := hl
  show WG l X n rm_Tr_fill σ' none p e s m args below meth c s.heap [] (F0 m 0 ls [])
  unfold f_Tr_fill at hf
  refine lv_aload_n F.1 F.2.1 d_Tr_fill_0 rfl (lv_at hl 0 rfl) ?_
  refine g_get F hP 3 0 i0 (by decide) h_i0 (by decide) (v := .ref (xL X 1 0)) rfl w_396 d_Tr_fill_1 ?_
  refine lv_iload_n F.1 F.2.1 d_Tr_fill_4 rfl (lv_at hl 1 rfl) ?_
  refine lv_iload_n F.1 F.2.1 d_Tr_fill_5 rfl (lv_at hl 2 rfl) ?_
  refine lv_iload_n F.1 F.2.1 d_Tr_fill_6 rfl (lv_at hl 3 rfl) ?_
  obtain ⟨σ1, hk2, hf⟩ := bnd_some hf
  refine g_callV (As := [.int a1, .int a2, .int a3]) (rest := []) F hP 1 0 (by decide) Nat.zero_lt_one (c_Pg_head l X n  hk2) rfl q_Pg_head w_395 w_2 w_392 w_393 w_394 ⟨rfl, rfl⟩ ⟨by decide, by decide⟩ hl.1 (Nat.le_of_ble_eq_true rfl) ⟨Nat.zero_le _, Nat.zero_le _⟩ d_Tr_fill_7 rfl (fun H locs hP => ?_)
  refine W.eq (g2 := F0 m 10 ls []) rfl ?_
  refine lv_aload_n F.1 F.2.1 d_Tr_fill_10 rfl (lv_at hl 0 rfl) ?_
  refine g_get F hP 3 0 i0 (by decide) h_i0 (by decide) (v := .ref (xL X 1 0)) rfl w_396 d_Tr_fill_11 ?_
  refine lv_iload_n F.1 F.2.1 d_Tr_fill_14 rfl (lv_at hl 1 rfl) ?_
  obtain ⟨r5, σ3, hk4, hf⟩ := bn2_some hf
  have hv6 : r5 < cnt n 2 := v_Pg_open  hk4
  refine g_callV (As := [.int a1]) (rest := []) F hP 1 0 (by decide) Nat.zero_lt_one (c_Pg_open l X n  hk4) rfl q_Pg_open w_467 w_2 w_464 w_465 w_466 ⟨rfl, rfl⟩ ⟨by decide, by decide⟩ hl.1 (Nat.le_of_ble_eq_true rfl) ⟨Nat.zero_le _, Nat.zero_le _⟩ d_Tr_fill_15 rfl (fun H locs hP => ?_)
  refine W.eq (g2 := F0 m 18 ls [.ref (xL X 2 r5)]) rfl ?_
  refine lv_astore F.1 F.2.1 d_Tr_fill_18 hl (by decide) rfl (fun ls hl => ?_)
  have hl : lv_has ls 7 [(6, .ref (xL X 2 r5)), (0, .ref (xL X 3 i0)), (1, .int a1), (2, .int a2), (3, .int a3), (4, .int a4), (5, .int a5)] := hl
  refine lv_aload F.1 F.2.1 d_Tr_fill_20 (lv_at hl 0 rfl) ?_
  refine lv_aload_n F.1 F.2.1 d_Tr_fill_22 rfl (lv_at hl 1 rfl) ?_
  refine g_get F hP 3 11 i0 (by decide) h_i0 (by decide) (v := .ref (xL X 2 (240 + i0))) rfl w_409 d_Tr_fill_23 ?_
  refine lv_iload F.1 F.2.1 d_Tr_fill_26 (lv_at hl 5 rfl) ?_
  refine lv_iload F.1 F.2.1 d_Tr_fill_28 (lv_at hl 6 rfl) ?_
  obtain ⟨σ7, hk8, hf⟩ := bnd_some hf
  refine g_callV (As := [.ref (xL X 2 (240 + i0)), .int a4, .int a5]) (rest := []) F hP 2 r5 (by decide) hv6 (c_Tp_copy l X n hv6 (Nat.add_lt_add_left h_i0 240) hk8) rfl q_Tp_copy w_500 w_3 w_497 w_498 w_499 ⟨rfl, rfl⟩ ⟨by decide, by decide⟩ hl.1 (Nat.le_of_ble_eq_true rfl) ⟨Nat.zero_le _, Nat.zero_le _⟩ d_Tr_fill_30 rfl (fun H locs hP => ?_)
  refine W.eq (g2 := F0 m 33 ls []) rfl ?_
  cases hf
  exact g_vret F hP hr hlk d_Tr_fill_33

theorem d_Tr_become_0 : decode b_Tr_become 0 = .ok (.aload_n 0, 1) := by decide +kernel
theorem d_Tr_become_1 : decode b_Tr_become 1 = .ok (.iload_n 2, 1) := by decide +kernel
theorem d_Tr_become_2 : decode b_Tr_become 2 = .ok (.invokevirtual 125, 3) := by decide +kernel
theorem d_Tr_become_5 : decode b_Tr_become 5 = .ok (.istore_n 3, 1) := by decide +kernel
theorem d_Tr_become_6 : decode b_Tr_become 6 = .ok (.aload_n 0, 1) := by decide +kernel
theorem d_Tr_become_7 : decode b_Tr_become 7 = .ok (.getfield 23, 3) := by decide +kernel
theorem d_Tr_become_10 : decode b_Tr_become 10 = .ok (.iconst 0, 1) := by decide +kernel
theorem d_Tr_become_11 : decode b_Tr_become 11 = .ok (.putfield 70, 3) := by decide +kernel
theorem d_Tr_become_14 : decode b_Tr_become 14 = .ok (.aload_n 0, 1) := by decide +kernel
theorem d_Tr_become_15 : decode b_Tr_become 15 = .ok (.getfield 23, 3) := by decide +kernel
theorem d_Tr_become_18 : decode b_Tr_become 18 = .ok (.aload_n 0, 1) := by decide +kernel
theorem d_Tr_become_19 : decode b_Tr_become 19 = .ok (.getfield 27, 3) := by decide +kernel
theorem d_Tr_become_22 : decode b_Tr_become 22 = .ok (.iload_n 2, 1) := by decide +kernel
theorem d_Tr_become_23 : decode b_Tr_become 23 = .ok (.invokevirtual 48, 3) := by decide +kernel
theorem d_Tr_become_26 : decode b_Tr_become 26 = .ok (.iconst 2, 1) := by decide +kernel
theorem d_Tr_become_27 : decode b_Tr_become 27 = .ok (.iload_n 3, 1) := by decide +kernel
theorem d_Tr_become_28 : decode b_Tr_become 28 = .ok (.invokevirtual 121, 3) := by decide +kernel
theorem d_Tr_become_31 : decode b_Tr_become 31 = .ok (.aload_n 0, 1) := by decide +kernel
theorem d_Tr_become_32 : decode b_Tr_become 32 = .ok (.iload_n 1, 1) := by decide +kernel
theorem d_Tr_become_33 : decode b_Tr_become 33 = .ok (.aload_n 0, 1) := by decide +kernel
theorem d_Tr_become_34 : decode b_Tr_become 34 = .ok (.getfield 27, 3) := by decide +kernel
theorem d_Tr_become_37 : decode b_Tr_become 37 = .ok (.iload_n 2, 1) := by decide +kernel
theorem d_Tr_become_38 : decode b_Tr_become 38 = .ok (.invokevirtual 66, 3) := by decide +kernel
theorem d_Tr_become_41 : decode b_Tr_become 41 = .ok (.aload_n 0, 1) := by decide +kernel
theorem d_Tr_become_42 : decode b_Tr_become 42 = .ok (.getfield 27, 3) := by decide +kernel
theorem d_Tr_become_45 : decode b_Tr_become 45 = .ok (.iload_n 2, 1) := by decide +kernel
theorem d_Tr_become_46 : decode b_Tr_become 46 = .ok (.invokevirtual 58, 3) := by decide +kernel
theorem d_Tr_become_49 : decode b_Tr_become 49 = .ok (.iconst 0, 1) := by decide +kernel
theorem d_Tr_become_50 : decode b_Tr_become 50 = .ok (.aload_n 0, 1) := by decide +kernel
theorem d_Tr_become_51 : decode b_Tr_become 51 = .ok (.getfield 23, 3) := by decide +kernel
theorem d_Tr_become_54 : decode b_Tr_become 54 = .ok (.getfield 70, 3) := by decide +kernel
theorem d_Tr_become_57 : decode b_Tr_become 57 = .ok (.invokevirtual 137, 3) := by decide +kernel
theorem d_Tr_become_60 : decode b_Tr_become 60 = .ok (.return_, 1) := by decide +kernel
noncomputable def f_Tr_become (i0 : Nat) (a1 : Int32) (a2 : Int32) (σ : Sg) : Option (Sg) :=
  bn2 (f_Tr_size i0 a2 σ) (fun r3 σ1 => lt_ (si σ1 2 (240 + i0) 1 0) (fun σ4 => bn2 (f_Pg_open a2 σ4) (fun r7 σ5 => (f_Tp_copy (240 + i0) r7 2 r3 σ5).bind (fun σ9 => bn2 (f_Pg_isLeaf a2 σ9) (fun r13 σ11 => bn2 (f_Pg_cells a2 σ11) (fun r16 σ14 => (f_Tr_fill i0 a1 r13 r16 0 (gi σ14 2 (240 + i0) 1) σ14).bind (fun σ17 => some σ17)))))))
abbrev rm_Tr_become : Room := { frames := 4, cells := 0, slots := 0, locals := 95 }
set_option maxHeartbeats 4000000 in
set_option maxRecDepth 100000 in
theorem c_Tr_become (l : Launch) (X : GX) (n : Nat) {σ σ' : Sg} {i0 : Nat} {a1 : Int32} {a2 : Int32} (h_i0 : i0 < cnt n 3) (hf : f_Tr_become i0 a1 a2 σ = some σ') : Met l y_Tr_become (cw y_Tr_become b_Tr_become 4 none) rm_Tr_become (PcG X n σ [.ref (xL X 3 i0), .int a1, .int a2]) (QcG X n σ' none) 0 0 (fr X n) := by
  refine g_head (own := "TableMachine$Tree") (by decide) rfl (Nat.le_of_ble_eq_true rfl) ?_
  intro p e s m args below meth c ls F hr hlk hP hl
  have hl : lv_has ls 4 [(0, .ref (xL X 3 i0)), (1, .int a1), (2, .int a2)] := hl
  show WG l X n rm_Tr_become σ' none p e s m args below meth c s.heap [] (F0 m 0 ls [])
  unfold f_Tr_become at hf
  refine lv_aload_n F.1 F.2.1 d_Tr_become_0 rfl (lv_at hl 0 rfl) ?_
  refine lv_iload_n F.1 F.2.1 d_Tr_become_1 rfl (lv_at hl 2 rfl) ?_
  obtain ⟨r3, σ1, hk2, hf⟩ := bn2_some hf
  refine g_callV (As := [.int a2]) (rest := []) F hP 3 i0 (by decide) h_i0 (c_Tr_size l X n h_i0 hk2) rfl q_Tr_size w_496 w_17 w_493 w_495 wp_7 ⟨rfl, rfl⟩ ⟨by decide, by decide⟩ hl.1 (Nat.le_of_ble_eq_true rfl) ⟨Nat.zero_le _, Nat.zero_le _⟩ d_Tr_become_2 rfl (fun H locs hP => ?_)
  refine W.eq (g2 := F0 m 5 ls [.int r3]) rfl ?_
  refine lv_istore_n F.1 F.2.1 d_Tr_become_5 rfl hl (by decide) rfl (fun ls hl => ?_)
  have hl : lv_has ls 4 [(3, .int r3), (0, .ref (xL X 3 i0)), (1, .int a1), (2, .int a2)] := hl
  refine lv_aload_n F.1 F.2.1 d_Tr_become_6 rfl (lv_at hl 1 rfl) ?_
  refine g_get F hP 3 11 i0 (by decide) h_i0 (by decide) (v := .ref (xL X 2 (240 + i0))) rfl w_409 d_Tr_become_7 ?_
  refine lv_iconst (v := 0) F.1 F.2.1 d_Tr_become_10 (by decide) ?_
  obtain ⟨σ4, e_σ4, hf⟩ := lt_some hf
  refine g_puti F hP 2 1 (240 + i0) (by decide) (Nat.add_lt_add_left h_i0 240) (by decide) rfl rfl rfl rfl (Or.inr w_50) d_Tr_become_11 e_σ4 (fun H locs hP => ?_)
  refine lv_aload_n F.1 F.2.1 d_Tr_become_14 rfl (lv_at hl 1 rfl) ?_
  refine g_get F hP 3 11 i0 (by decide) h_i0 (by decide) (v := .ref (xL X 2 (240 + i0))) rfl w_409 d_Tr_become_15 ?_
  refine lv_aload_n F.1 F.2.1 d_Tr_become_18 rfl (lv_at hl 1 rfl) ?_
  refine g_get F hP 3 0 i0 (by decide) h_i0 (by decide) (v := .ref (xL X 1 0)) rfl w_396 d_Tr_become_19 ?_
  refine lv_iload_n F.1 F.2.1 d_Tr_become_22 rfl (lv_at hl 3 rfl) ?_
  obtain ⟨r7, σ5, hk6, hf⟩ := bn2_some hf
  have hv8 : r7 < cnt n 2 := v_Pg_open  hk6
  refine g_callV (As := [.int a2]) (rest := [.ref (xL X 2 (240 + i0))]) F hP 1 0 (by decide) Nat.zero_lt_one (c_Pg_open l X n  hk6) rfl q_Pg_open w_467 w_2 w_464 w_465 w_466 ⟨rfl, rfl⟩ ⟨by decide, by decide⟩ hl.1 (Nat.le_of_ble_eq_true rfl) ⟨Nat.zero_le _, Nat.zero_le _⟩ d_Tr_become_23 rfl (fun H locs hP => ?_)
  refine W.eq (g2 := F0 m 26 ls [.ref (xL X 2 r7), .ref (xL X 2 (240 + i0))]) rfl ?_
  refine lv_iconst (v := 2) F.1 F.2.1 d_Tr_become_26 (by decide) ?_
  refine lv_iload_n F.1 F.2.1 d_Tr_become_27 rfl (lv_at hl 0 rfl) ?_
  obtain ⟨σ9, hk10, hf⟩ := bnd_some hf
  refine g_callV (As := [.ref (xL X 2 r7), .int 2, .int r3]) (rest := []) F hP 2 (240 + i0) (by decide) (Nat.add_lt_add_left h_i0 240) (c_Tp_copy l X n (Nat.add_lt_add_left h_i0 240) hv8 hk10) rfl q_Tp_copy w_500 w_3 w_497 w_498 w_499 ⟨rfl, rfl⟩ ⟨by decide, by decide⟩ hl.1 (Nat.le_of_ble_eq_true rfl) ⟨Nat.zero_le _, Nat.zero_le _⟩ d_Tr_become_28 rfl (fun H locs hP => ?_)
  refine W.eq (g2 := F0 m 31 ls []) rfl ?_
  refine lv_aload_n F.1 F.2.1 d_Tr_become_31 rfl (lv_at hl 1 rfl) ?_
  refine lv_iload_n F.1 F.2.1 d_Tr_become_32 rfl (lv_at hl 2 rfl) ?_
  refine lv_aload_n F.1 F.2.1 d_Tr_become_33 rfl (lv_at hl 1 rfl) ?_
  refine g_get F hP 3 0 i0 (by decide) h_i0 (by decide) (v := .ref (xL X 1 0)) rfl w_396 d_Tr_become_34 ?_
  refine lv_iload_n F.1 F.2.1 d_Tr_become_37 rfl (lv_at hl 3 rfl) ?_
  obtain ⟨r13, σ11, hk12, hf⟩ := bn2_some hf
  refine g_callV (As := [.int a2]) (rest := [.int a1, .ref (xL X 3 i0)]) F hP 1 0 (by decide) Nat.zero_lt_one (c_Pg_isLeaf l X n  hk12) rfl q_Pg_isLeaf w_459 w_2 w_456 w_457 w_458 ⟨rfl, rfl⟩ ⟨by decide, by decide⟩ hl.1 (Nat.le_of_ble_eq_true rfl) ⟨Nat.zero_le _, Nat.zero_le _⟩ d_Tr_become_38 rfl (fun H locs hP => ?_)
  refine W.eq (g2 := F0 m 41 ls [.int r13, .int a1, .ref (xL X 3 i0)]) rfl ?_
  refine lv_aload_n F.1 F.2.1 d_Tr_become_41 rfl (lv_at hl 1 rfl) ?_
  refine g_get F hP 3 0 i0 (by decide) h_i0 (by decide) (v := .ref (xL X 1 0)) rfl w_396 d_Tr_become_42 ?_
  refine lv_iload_n F.1 F.2.1 d_Tr_become_45 rfl (lv_at hl 3 rfl) ?_
  obtain ⟨r16, σ14, hk15, hf⟩ := bn2_some hf
  refine g_callV (As := [.int a2]) (rest := [.int r13, .int a1, .ref (xL X 3 i0)]) F hP 1 0 (by decide) Nat.zero_lt_one (c_Pg_cells l X n  hk15) rfl q_Pg_cells w_475 w_2 w_472 w_473 w_474 ⟨rfl, rfl⟩ ⟨by decide, by decide⟩ hl.1 (Nat.le_of_ble_eq_true rfl) ⟨Nat.zero_le _, Nat.zero_le _⟩ d_Tr_become_46 rfl (fun H locs hP => ?_)
  refine W.eq (g2 := F0 m 49 ls [.int r16, .int r13, .int a1, .ref (xL X 3 i0)]) rfl ?_
  refine lv_iconst (v := 0) F.1 F.2.1 d_Tr_become_49 (by decide) ?_
  refine lv_aload_n F.1 F.2.1 d_Tr_become_50 rfl (lv_at hl 1 rfl) ?_
  refine g_get F hP 3 11 i0 (by decide) h_i0 (by decide) (v := .ref (xL X 2 (240 + i0))) rfl w_409 d_Tr_become_51 ?_
  refine g_getN F hP 2 1 (240 + i0) (by decide) (Nat.add_lt_add_left h_i0 240) (by decide) (v := .int (gi σ14 2 (240 + i0) 1)) rfl w_50 d_Tr_become_54 ?_
  obtain ⟨σ17, hk18, hf⟩ := bnd_some hf
  refine g_callV (As := [.int a1, .int r13, .int r16, .int 0, .int (gi σ14 2 (240 + i0) 1)]) (rest := []) F hP 3 i0 (by decide) h_i0 (c_Tr_fill l X n h_i0 hk18) rfl q_Tr_fill w_519 w_17 w_516 w_518 wp_8 ⟨rfl, rfl⟩ ⟨by decide, by decide⟩ hl.1 (Nat.le_of_ble_eq_true rfl) ⟨Nat.zero_le _, Nat.zero_le _⟩ d_Tr_become_57 rfl (fun H locs hP => ?_)
  refine W.eq (g2 := F0 m 60 ls []) rfl ?_
  cases hf
  exact g_vret F hP hr hlk d_Tr_become_60

theorem d_Tr_raise_0 : decode b_Tr_raise 0 = .ok (.aload_n 0, 1) := by decide +kernel
theorem d_Tr_raise_1 : decode b_Tr_raise 1 = .ok (.getfield 27, 3) := by decide +kernel
theorem d_Tr_raise_4 : decode b_Tr_raise 4 = .ok (.invokevirtual 35, 3) := by decide +kernel
theorem d_Tr_raise_7 : decode b_Tr_raise 7 = .ok (.istore 4, 2) := by decide +kernel
theorem d_Tr_raise_9 : decode b_Tr_raise 9 = .ok (.aload_n 0, 1) := by decide +kernel
theorem d_Tr_raise_10 : decode b_Tr_raise 10 = .ok (.iload 4, 2) := by decide +kernel
theorem d_Tr_raise_12 : decode b_Tr_raise 12 = .ok (.aload_n 0, 1) := by decide +kernel
theorem d_Tr_raise_13 : decode b_Tr_raise 13 = .ok (.getfield 41, 3) := by decide +kernel
theorem d_Tr_raise_16 : decode b_Tr_raise 16 = .ok (.invokevirtual 163, 3) := by decide +kernel
theorem d_Tr_raise_19 : decode b_Tr_raise 19 = .ok (.aload_n 0, 1) := by decide +kernel
theorem d_Tr_raise_20 : decode b_Tr_raise 20 = .ok (.getfield 23, 3) := by decide +kernel
theorem d_Tr_raise_23 : decode b_Tr_raise 23 = .ok (.iconst 0, 1) := by decide +kernel
theorem d_Tr_raise_24 : decode b_Tr_raise 24 = .ok (.putfield 70, 3) := by decide +kernel
theorem d_Tr_raise_27 : decode b_Tr_raise 27 = .ok (.aload_n 0, 1) := by decide +kernel
theorem d_Tr_raise_28 : decode b_Tr_raise 28 = .ok (.getfield 23, 3) := by decide +kernel
theorem d_Tr_raise_31 : decode b_Tr_raise 31 = .ok (.iload 4, 2) := by decide +kernel
theorem d_Tr_raise_33 : decode b_Tr_raise 33 = .ok (.invokevirtual 166, 3) := by decide +kernel
theorem d_Tr_raise_36 : decode b_Tr_raise 36 = .ok (.aload_n 0, 1) := by decide +kernel
theorem d_Tr_raise_37 : decode b_Tr_raise 37 = .ok (.getfield 23, 3) := by decide +kernel
theorem d_Tr_raise_40 : decode b_Tr_raise 40 = .ok (.lload_n 1, 1) := by decide +kernel
theorem d_Tr_raise_41 : decode b_Tr_raise 41 = .ok (.invokevirtual 128, 3) := by decide +kernel
theorem d_Tr_raise_44 : decode b_Tr_raise 44 = .ok (.aload_n 0, 1) := by decide +kernel
theorem d_Tr_raise_45 : decode b_Tr_raise 45 = .ok (.getfield 23, 3) := by decide +kernel
theorem d_Tr_raise_48 : decode b_Tr_raise 48 = .ok (.iload_n 3, 1) := by decide +kernel
theorem d_Tr_raise_49 : decode b_Tr_raise 49 = .ok (.invokevirtual 166, 3) := by decide +kernel
theorem d_Tr_raise_52 : decode b_Tr_raise 52 = .ok (.aload_n 0, 1) := by decide +kernel
theorem d_Tr_raise_53 : decode b_Tr_raise 53 = .ok (.aload_n 0, 1) := by decide +kernel
theorem d_Tr_raise_54 : decode b_Tr_raise 54 = .ok (.getfield 41, 3) := by decide +kernel
theorem d_Tr_raise_57 : decode b_Tr_raise 57 = .ok (.iconst 0, 1) := by decide +kernel
theorem d_Tr_raise_58 : decode b_Tr_raise 58 = .ok (.iconst 1, 1) := by decide +kernel
theorem d_Tr_raise_59 : decode b_Tr_raise 59 = .ok (.iconst 0, 1) := by decide +kernel
theorem d_Tr_raise_60 : decode b_Tr_raise 60 = .ok (.aload_n 0, 1) := by decide +kernel
theorem d_Tr_raise_61 : decode b_Tr_raise 61 = .ok (.getfield 23, 3) := by decide +kernel
theorem d_Tr_raise_64 : decode b_Tr_raise 64 = .ok (.getfield 70, 3) := by decide +kernel
theorem d_Tr_raise_67 : decode b_Tr_raise 67 = .ok (.invokevirtual 137, 3) := by decide +kernel
theorem d_Tr_raise_70 : decode b_Tr_raise 70 = .ok (.return_, 1) := by decide +kernel
noncomputable def f_Tr_raise (i0 : Nat) (a1 : Int64) (a3 : Int32) (σ : Sg) : Option (Sg) :=
  bn2 (f_Pg_fresh σ) (fun r3 σ1 => (f_Tr_become i0 r3 (gi σ1 3 i0 1) σ1).bind (fun σ4 => lt_ (si σ4 2 (240 + i0) 1 0) (fun σ6 => (f_Tp_one (240 + i0) r3 σ6).bind (fun σ7 => (f_Tp_number (240 + i0) a1 σ7).bind (fun σ9 => (f_Tp_one (240 + i0) a3 σ9).bind (fun σ11 => (f_Tr_fill i0 (gi σ11 3 i0 1) 0 1 0 (gi σ11 2 (240 + i0) 1) σ11).bind (fun σ13 => some σ13)))))))
abbrev rm_Tr_raise : Room := { frames := 5, cells := 0, slots := 0, locals := 118 }
set_option maxHeartbeats 4000000 in
set_option maxRecDepth 100000 in
theorem c_Tr_raise (l : Launch) (X : GX) (n : Nat) {σ σ' : Sg} {i0 : Nat} {a1 : Int64} {a3 : Int32} (h_i0 : i0 < cnt n 3) (hf : f_Tr_raise i0 a1 a3 σ = some σ') : Met l y_Tr_raise (cw y_Tr_raise b_Tr_raise 5 none) rm_Tr_raise (PcG X n σ [.ref (xL X 3 i0), .long a1, .int a3]) (QcG X n σ' none) 0 0 (fr X n) := by
  refine g_head (own := "TableMachine$Tree") (by decide) rfl (Nat.le_of_ble_eq_true rfl) ?_
  intro p e s m args below meth c ls F hr hlk hP hl
  have hl : lv_has ls 5 [(0, .ref (xL X 3 i0)), (1, .long a1), (3, .int a3)] := hl
  show WG l X n rm_Tr_raise σ' none p e s m args below meth c s.heap [] (F0 m 0 ls [])
  unfold f_Tr_raise at hf
  refine lv_aload_n F.1 F.2.1 d_Tr_raise_0 rfl (lv_at hl 0 rfl) ?_
  refine g_get F hP 3 0 i0 (by decide) h_i0 (by decide) (v := .ref (xL X 1 0)) rfl w_396 d_Tr_raise_1 ?_
  obtain ⟨r3, σ1, hk2, hf⟩ := bn2_some hf
  refine g_callV (As := []) (rest := []) F hP 1 0 (by decide) Nat.zero_lt_one (c_Pg_fresh l X n  hk2) rfl q_Pg_fresh w_391 w_2 w_388 w_389 w_390 ⟨rfl, rfl⟩ ⟨by decide, by decide⟩ hl.1 (Nat.le_of_ble_eq_true rfl) ⟨Nat.zero_le _, Nat.zero_le _⟩ d_Tr_raise_4 rfl (fun H locs hP => ?_)
  refine W.eq (g2 := F0 m 7 ls [.int r3]) rfl ?_
  refine lv_istore F.1 F.2.1 d_Tr_raise_7 hl (by decide) rfl (fun ls hl => ?_)
  have hl : lv_has ls 5 [(4, .int r3), (0, .ref (xL X 3 i0)), (1, .long a1), (3, .int a3)] := hl
  refine lv_aload_n F.1 F.2.1 d_Tr_raise_9 rfl (lv_at hl 1 rfl) ?_
  refine lv_iload F.1 F.2.1 d_Tr_raise_10 (lv_at hl 0 rfl) ?_
  refine lv_aload_n F.1 F.2.1 d_Tr_raise_12 rfl (lv_at hl 1 rfl) ?_
  refine g_get F hP 3 1 i0 (by decide) h_i0 (by decide) (v := .int (gi σ1 3 i0 1)) rfl w_397 d_Tr_raise_13 ?_
  obtain ⟨σ4, hk5, hf⟩ := bnd_some hf
  refine g_callV (As := [.int r3, .int (gi σ1 3 i0 1)]) (rest := []) F hP 3 i0 (by decide) h_i0 (c_Tr_become l X n h_i0 hk5) rfl q_Tr_become w_535 w_17 w_532 w_534 wp_12 ⟨rfl, rfl⟩ ⟨by decide, by decide⟩ hl.1 (Nat.le_of_ble_eq_true rfl) ⟨Nat.zero_le _, Nat.zero_le _⟩ d_Tr_raise_16 rfl (fun H locs hP => ?_)
  refine W.eq (g2 := F0 m 19 ls []) rfl ?_
  refine lv_aload_n F.1 F.2.1 d_Tr_raise_19 rfl (lv_at hl 1 rfl) ?_
  refine g_get F hP 3 11 i0 (by decide) h_i0 (by decide) (v := .ref (xL X 2 (240 + i0))) rfl w_409 d_Tr_raise_20 ?_
  refine lv_iconst (v := 0) F.1 F.2.1 d_Tr_raise_23 (by decide) ?_
  obtain ⟨σ6, e_σ6, hf⟩ := lt_some hf
  refine g_puti F hP 2 1 (240 + i0) (by decide) (Nat.add_lt_add_left h_i0 240) (by decide) rfl rfl rfl rfl (Or.inr w_50) d_Tr_raise_24 e_σ6 (fun H locs hP => ?_)
  refine lv_aload_n F.1 F.2.1 d_Tr_raise_27 rfl (lv_at hl 1 rfl) ?_
  refine g_get F hP 3 11 i0 (by decide) h_i0 (by decide) (v := .ref (xL X 2 (240 + i0))) rfl w_409 d_Tr_raise_28 ?_
  refine lv_iload F.1 F.2.1 d_Tr_raise_31 (lv_at hl 0 rfl) ?_
  obtain ⟨σ7, hk8, hf⟩ := bnd_some hf
  refine g_callV (As := [.int r3]) (rest := []) F hP 2 (240 + i0) (by decide) (Nat.add_lt_add_left h_i0 240) (c_Tp_one l X n (Nat.add_lt_add_left h_i0 240) hk8) rfl q_Tp_one w_504 w_3 w_536 w_502 w_503 ⟨rfl, rfl⟩ ⟨by decide, by decide⟩ hl.1 (Nat.le_of_ble_eq_true rfl) ⟨Nat.zero_le _, Nat.zero_le _⟩ d_Tr_raise_33 rfl (fun H locs hP => ?_)
  refine W.eq (g2 := F0 m 36 ls []) rfl ?_
  refine lv_aload_n F.1 F.2.1 d_Tr_raise_36 rfl (lv_at hl 1 rfl) ?_
  refine g_get F hP 3 11 i0 (by decide) h_i0 (by decide) (v := .ref (xL X 2 (240 + i0))) rfl w_409 d_Tr_raise_37 ?_
  refine lv_lload_n F.1 F.2.1 d_Tr_raise_40 rfl (lv_at hl 2 rfl) ?_
  obtain ⟨σ9, hk10, hf⟩ := bnd_some hf
  refine g_callV (As := [.long a1]) (rest := []) F hP 2 (240 + i0) (by decide) (Nat.add_lt_add_left h_i0 240) (c_Tp_number l X n (Nat.add_lt_add_left h_i0 240) hk10) rfl q_Tp_number w_508 w_3 w_505 w_506 w_507 ⟨rfl, rfl⟩ ⟨by decide, by decide⟩ hl.1 (Nat.le_of_ble_eq_true rfl) ⟨Nat.zero_le _, Nat.zero_le _⟩ d_Tr_raise_41 rfl (fun H locs hP => ?_)
  refine W.eq (g2 := F0 m 44 ls []) rfl ?_
  refine lv_aload_n F.1 F.2.1 d_Tr_raise_44 rfl (lv_at hl 1 rfl) ?_
  refine g_get F hP 3 11 i0 (by decide) h_i0 (by decide) (v := .ref (xL X 2 (240 + i0))) rfl w_409 d_Tr_raise_45 ?_
  refine lv_iload_n F.1 F.2.1 d_Tr_raise_48 rfl (lv_at hl 3 rfl) ?_
  obtain ⟨σ11, hk12, hf⟩ := bnd_some hf
  refine g_callV (As := [.int a3]) (rest := []) F hP 2 (240 + i0) (by decide) (Nat.add_lt_add_left h_i0 240) (c_Tp_one l X n (Nat.add_lt_add_left h_i0 240) hk12) rfl q_Tp_one w_504 w_3 w_536 w_502 w_503 ⟨rfl, rfl⟩ ⟨by decide, by decide⟩ hl.1 (Nat.le_of_ble_eq_true rfl) ⟨Nat.zero_le _, Nat.zero_le _⟩ d_Tr_raise_49 rfl (fun H locs hP => ?_)
  refine W.eq (g2 := F0 m 52 ls []) rfl ?_
  refine lv_aload_n F.1 F.2.1 d_Tr_raise_52 rfl (lv_at hl 1 rfl) ?_
  refine lv_aload_n F.1 F.2.1 d_Tr_raise_53 rfl (lv_at hl 1 rfl) ?_
  refine g_get F hP 3 1 i0 (by decide) h_i0 (by decide) (v := .int (gi σ11 3 i0 1)) rfl w_397 d_Tr_raise_54 ?_
  refine lv_iconst (v := 0) F.1 F.2.1 d_Tr_raise_57 (by decide) ?_
  refine lv_iconst (v := 1) F.1 F.2.1 d_Tr_raise_58 (by decide) ?_
  refine lv_iconst (v := 0) F.1 F.2.1 d_Tr_raise_59 (by decide) ?_
  refine lv_aload_n F.1 F.2.1 d_Tr_raise_60 rfl (lv_at hl 1 rfl) ?_
  refine g_get F hP 3 11 i0 (by decide) h_i0 (by decide) (v := .ref (xL X 2 (240 + i0))) rfl w_409 d_Tr_raise_61 ?_
  refine g_getN F hP 2 1 (240 + i0) (by decide) (Nat.add_lt_add_left h_i0 240) (by decide) (v := .int (gi σ11 2 (240 + i0) 1)) rfl w_50 d_Tr_raise_64 ?_
  obtain ⟨σ13, hk14, hf⟩ := bnd_some hf
  refine g_callV (As := [.int (gi σ11 3 i0 1), .int 0, .int 1, .int 0, .int (gi σ11 2 (240 + i0) 1)]) (rest := []) F hP 3 i0 (by decide) h_i0 (c_Tr_fill l X n h_i0 hk14) rfl q_Tr_fill w_519 w_17 w_516 w_518 wp_8 ⟨rfl, rfl⟩ ⟨by decide, by decide⟩ hl.1 (Nat.le_of_ble_eq_true rfl) ⟨Nat.zero_le _, Nat.zero_le _⟩ d_Tr_raise_67 rfl (fun H locs hP => ?_)
  refine W.eq (g2 := F0 m 70 ls []) rfl ?_
  cases hf
  exact g_vret F hP hr hlk d_Tr_raise_70

theorem d_Tr_part_0 : decode b_Tr_part 0 = .ok (.aload_n 0, 1) := by decide +kernel
theorem d_Tr_part_1 : decode b_Tr_part 1 = .ok (.getfield 23, 3) := by decide +kernel
theorem d_Tr_part_4 : decode b_Tr_part 4 = .ok (.getfield 70, 3) := by decide +kernel
theorem d_Tr_part_7 : decode b_Tr_part 7 = .ok (.istore_n 3, 1) := by decide +kernel
theorem d_Tr_part_8 : decode b_Tr_part 8 = .ok (.aload_n 0, 1) := by decide +kernel
theorem d_Tr_part_9 : decode b_Tr_part 9 = .ok (.getfield 23, 3) := by decide +kernel
theorem d_Tr_part_12 : decode b_Tr_part 12 = .ok (.iconst 1, 1) := by decide +kernel
theorem d_Tr_part_13 : decode b_Tr_part 13 = .ok (.putfield 70, 3) := by decide +kernel
theorem d_Tr_part_16 : decode b_Tr_part 16 = .ok (.iconst 0, 1) := by decide +kernel
theorem d_Tr_part_17 : decode b_Tr_part 17 = .ok (.istore 4, 2) := by decide +kernel
theorem d_Tr_part_19 : decode b_Tr_part 19 = .ok (.aload_n 0, 1) := by decide +kernel
theorem d_Tr_part_20 : decode b_Tr_part 20 = .ok (.getfield 23, 3) := by decide +kernel
theorem d_Tr_part_23 : decode b_Tr_part 23 = .ok (.getfield 70, 3) := by decide +kernel
theorem d_Tr_part_26 : decode b_Tr_part 26 = .ok (.iload_n 3, 1) := by decide +kernel
theorem d_Tr_part_27 : decode b_Tr_part 27 = .ok (.iconst 2, 1) := by decide +kernel
theorem d_Tr_part_28 : decode b_Tr_part 28 = .ok (.idiv, 1) := by decide +kernel
theorem d_Tr_part_29 : decode b_Tr_part 29 = .ok (.if_icmp .ge 20, 3) := by decide +kernel
theorem d_Tr_part_32 : decode b_Tr_part 32 = .ok (.aload_n 0, 1) := by decide +kernel
theorem d_Tr_part_33 : decode b_Tr_part 33 = .ok (.aload_n 0, 1) := by decide +kernel
theorem d_Tr_part_34 : decode b_Tr_part 34 = .ok (.getfield 23, 3) := by decide +kernel
theorem d_Tr_part_37 : decode b_Tr_part 37 = .ok (.iconst 0, 1) := by decide +kernel
theorem d_Tr_part_38 : decode b_Tr_part 38 = .ok (.invokevirtual 73, 3) := by decide +kernel
theorem d_Tr_part_41 : decode b_Tr_part 41 = .ok (.lstore 5, 2) := by decide +kernel
theorem d_Tr_part_43 : decode b_Tr_part 43 = .ok (.iinc 4 1, 3) := by decide +kernel
theorem d_Tr_part_46 : decode b_Tr_part 46 = .ok (.goto (-27), 3) := by decide +kernel
theorem d_Tr_part_49 : decode b_Tr_part 49 = .ok (.aload_n 0, 1) := by decide +kernel
theorem d_Tr_part_50 : decode b_Tr_part 50 = .ok (.getfield 23, 3) := by decide +kernel
theorem d_Tr_part_53 : decode b_Tr_part 53 = .ok (.getfield 70, 3) := by decide +kernel
theorem d_Tr_part_56 : decode b_Tr_part 56 = .ok (.istore 5, 2) := by decide +kernel
theorem d_Tr_part_58 : decode b_Tr_part 58 = .ok (.aload_n 0, 1) := by decide +kernel
theorem d_Tr_part_59 : decode b_Tr_part 59 = .ok (.aload_n 0, 1) := by decide +kernel
theorem d_Tr_part_60 : decode b_Tr_part 60 = .ok (.getfield 23, 3) := by decide +kernel
theorem d_Tr_part_63 : decode b_Tr_part 63 = .ok (.invokevirtual 62, 3) := by decide +kernel
theorem d_Tr_part_66 : decode b_Tr_part 66 = .ok (.putfield 156, 3) := by decide +kernel
theorem d_Tr_part_69 : decode b_Tr_part 69 = .ok (.aload_n 0, 1) := by decide +kernel
theorem d_Tr_part_70 : decode b_Tr_part 70 = .ok (.getfield 23, 3) := by decide +kernel
theorem d_Tr_part_73 : decode b_Tr_part 73 = .ok (.getfield 70, 3) := by decide +kernel
theorem d_Tr_part_76 : decode b_Tr_part 76 = .ok (.istore 6, 2) := by decide +kernel
theorem d_Tr_part_78 : decode b_Tr_part 78 = .ok (.aload_n 0, 1) := by decide +kernel
theorem d_Tr_part_79 : decode b_Tr_part 79 = .ok (.aload_n 0, 1) := by decide +kernel
theorem d_Tr_part_80 : decode b_Tr_part 80 = .ok (.getfield 27, 3) := by decide +kernel
theorem d_Tr_part_83 : decode b_Tr_part 83 = .ok (.invokevirtual 35, 3) := by decide +kernel
theorem d_Tr_part_86 : decode b_Tr_part 86 = .ok (.putfield 160, 3) := by decide +kernel
theorem d_Tr_part_89 : decode b_Tr_part 89 = .ok (.aload_n 0, 1) := by decide +kernel
theorem d_Tr_part_90 : decode b_Tr_part 90 = .ok (.aload_n 0, 1) := by decide +kernel
theorem d_Tr_part_91 : decode b_Tr_part 91 = .ok (.getfield 160, 3) := by decide +kernel
theorem d_Tr_part_94 : decode b_Tr_part 94 = .ok (.iconst 0, 1) := by decide +kernel
theorem d_Tr_part_95 : decode b_Tr_part 95 = .ok (.iload_n 2, 1) := by decide +kernel
theorem d_Tr_part_96 : decode b_Tr_part 96 = .ok (.iload 4, 2) := by decide +kernel
theorem d_Tr_part_98 : decode b_Tr_part 98 = .ok (.isub, 1) := by decide +kernel
theorem d_Tr_part_99 : decode b_Tr_part 99 = .ok (.iconst 1, 1) := by decide +kernel
theorem d_Tr_part_100 : decode b_Tr_part 100 = .ok (.isub, 1) := by decide +kernel
theorem d_Tr_part_101 : decode b_Tr_part 101 = .ok (.iload 6, 2) := by decide +kernel
theorem d_Tr_part_103 : decode b_Tr_part 103 = .ok (.iload_n 3, 1) := by decide +kernel
theorem d_Tr_part_104 : decode b_Tr_part 104 = .ok (.invokevirtual 137, 3) := by decide +kernel
theorem d_Tr_part_107 : decode b_Tr_part 107 = .ok (.aload_n 0, 1) := by decide +kernel
theorem d_Tr_part_108 : decode b_Tr_part 108 = .ok (.iload_n 1, 1) := by decide +kernel
theorem d_Tr_part_109 : decode b_Tr_part 109 = .ok (.iconst 0, 1) := by decide +kernel
theorem d_Tr_part_110 : decode b_Tr_part 110 = .ok (.iload 4, 2) := by decide +kernel
theorem d_Tr_part_112 : decode b_Tr_part 112 = .ok (.iconst 0, 1) := by decide +kernel
theorem d_Tr_part_113 : decode b_Tr_part 113 = .ok (.iload 5, 2) := by decide +kernel
theorem d_Tr_part_115 : decode b_Tr_part 115 = .ok (.invokevirtual 137, 3) := by decide +kernel
theorem d_Tr_part_118 : decode b_Tr_part 118 = .ok (.return_, 1) := by decide +kernel
noncomputable def b_Tr_part_19 (i0 : Nat) (x1 : Int32) (x3 : Int32) (σ4 : Sg) : Option ((Int32 × Sg) ⊕ (Int32 × Sg)) :=
  (if (x1 / 2) ≤ (gi σ4 2 (240 + i0) 1) then (some (.inr (x3, σ4))) else (bn2 (f_Tr_pass i0 (240 + i0) 0 σ4) (fun r10 σ8 => lt_ (x3 + 1 : Int32) (fun (x11 : Int32) => some (.inl (x11, σ8))))))
noncomputable def l_Tr_part_19 (i0 : Nat) (x1 : Int32) (x3 : Int32) (σ4 : Sg) : Option (Int32 × Sg) := lp (fun q => b_Tr_part_19 i0 x1 q.1 q.2) FU (x3, σ4)
noncomputable def f_Tr_part (i0 : Nat) (a1 : Int32) (a2 : Int32) (σ : Sg) : Option (Sg) :=
  lt_ (gi σ 2 (240 + i0) 1 : Int32) (fun (x1 : Int32) => lt_ (si σ 2 (240 + i0) 1 1) (fun σ2 => bn2 (l_Tr_part_19 i0 x1 0 σ2) (fun x13 σ14 => lt_ (gi σ14 2 (240 + i0) 1 : Int32) (fun (x17 : Int32) => bn2 (f_Tp_takeNumber (240 + i0) σ14) (fun r20 σ18 => lt_ (sj σ18 3 i0 12 r20) (fun σ21 => lt_ (gi σ21 2 (240 + i0) 1 : Int32) (fun (x22 : Int32) => bn2 (f_Pg_fresh σ21) (fun r25 σ23 => lt_ (si σ23 3 i0 13 r25) (fun σ26 => (f_Tr_fill i0 (gi σ26 3 i0 13) 0 ((a2 - x13) - 1) x22 x1 σ26).bind (fun σ27 => (f_Tr_fill i0 a1 0 x13 0 x17 σ27).bind (fun σ29 => some σ29)))))))))))
abbrev rm_Tr_part : Room := { frames := 3, cells := 0, slots := 0, locals := 72 }
set_option maxHeartbeats 4000000 in
set_option maxRecDepth 100000 in
theorem c_Tr_part (l : Launch) (X : GX) (n : Nat) {σ σ' : Sg} {i0 : Nat} {a1 : Int32} {a2 : Int32} (h_i0 : i0 < cnt n 3) (hf : f_Tr_part i0 a1 a2 σ = some σ') : Met l y_Tr_part (cw y_Tr_part b_Tr_part 7 none) rm_Tr_part (PcG X n σ [.ref (xL X 3 i0), .int a1, .int a2]) (QcG X n σ' none) 0 0 (fr X n) := by
  refine g_head (own := "TableMachine$Tree") (by decide) rfl (Nat.le_of_ble_eq_true rfl) ?_
  intro p e s m args below meth c ls F hr hlk hP hl
  have hl : lv_has ls 7 [(0, .ref (xL X 3 i0)), (1, .int a1), (2, .int a2)] := hl
  show WG l X n rm_Tr_part σ' none p e s m args below meth c s.heap [] (F0 m 0 ls [])
  unfold f_Tr_part at hf
  refine lv_aload_n F.1 F.2.1 d_Tr_part_0 rfl (lv_at hl 0 rfl) ?_
  refine g_get F hP 3 11 i0 (by decide) h_i0 (by decide) (v := .ref (xL X 2 (240 + i0))) rfl w_409 d_Tr_part_1 ?_
  refine g_getN F hP 2 1 (240 + i0) (by decide) (Nat.add_lt_add_left h_i0 240) (by decide) (v := .int (gi σ 2 (240 + i0) 1)) rfl w_50 d_Tr_part_4 ?_
  obtain ⟨x1, e_x1, hf⟩ := lt_some hf
  rw [← e_x1]
  refine lv_istore_n F.1 F.2.1 d_Tr_part_7 rfl hl (by decide) rfl (fun ls hl => ?_)
  have hl : lv_has ls 7 [(3, .int x1), (0, .ref (xL X 3 i0)), (1, .int a1), (2, .int a2)] := hl
  refine lv_aload_n F.1 F.2.1 d_Tr_part_8 rfl (lv_at hl 1 rfl) ?_
  refine g_get F hP 3 11 i0 (by decide) h_i0 (by decide) (v := .ref (xL X 2 (240 + i0))) rfl w_409 d_Tr_part_9 ?_
  refine lv_iconst (v := 1) F.1 F.2.1 d_Tr_part_12 (by decide) ?_
  obtain ⟨σ2, e_σ2, hf⟩ := lt_some hf
  refine g_puti F hP 2 1 (240 + i0) (by decide) (Nat.add_lt_add_left h_i0 240) (by decide) rfl rfl rfl rfl (Or.inr w_50) d_Tr_part_13 e_σ2 (fun H locs hP => ?_)
  refine lv_iconst (v := 0) F.1 F.2.1 d_Tr_part_16 (by decide) ?_
  refine lv_istore F.1 F.2.1 d_Tr_part_17 hl (by decide) rfl (fun ls hl => ?_)
  have hl : lv_has ls 7 [(4, .int 0), (3, .int x1), (0, .ref (xL X 3 i0)), (1, .int a1), (2, .int a2)] := hl
  obtain ⟨x13, σ14, hlp15, hf⟩ := bn2_some hf
  have KX16 : ∀ (ls : Array Slot) (H : Heap) (locs : List Loc), lv_has ls 7 [(0, .ref (xL X 3 i0)), (1, .int a1), (2, .int a2), (3, .int x1), (4, .int x13)] → St X n σ14 s.heap H locs → WG l X n rm_Tr_part σ' none p e s m args below meth c H locs (F0 m 49 ls []) := by
    intro ls H locs hl hP
    refine lv_aload_n F.1 F.2.1 d_Tr_part_49 rfl (lv_at hl 0 rfl) ?_
    refine g_get F hP 3 11 i0 (by decide) h_i0 (by decide) (v := .ref (xL X 2 (240 + i0))) rfl w_409 d_Tr_part_50 ?_
    refine g_getN F hP 2 1 (240 + i0) (by decide) (Nat.add_lt_add_left h_i0 240) (by decide) (v := .int (gi σ14 2 (240 + i0) 1)) rfl w_50 d_Tr_part_53 ?_
    obtain ⟨x17, e_x17, hf⟩ := lt_some hf
    rw [← e_x17]
    refine lv_istore F.1 F.2.1 d_Tr_part_56 hl (by decide) rfl (fun ls hl => ?_)
    have hl : lv_has ls 7 [(5, .int x17), (0, .ref (xL X 3 i0)), (1, .int a1), (2, .int a2), (3, .int x1), (4, .int x13)] := hl
    refine lv_aload_n F.1 F.2.1 d_Tr_part_58 rfl (lv_at hl 1 rfl) ?_
    refine lv_aload_n F.1 F.2.1 d_Tr_part_59 rfl (lv_at hl 1 rfl) ?_
    refine g_get F hP 3 11 i0 (by decide) h_i0 (by decide) (v := .ref (xL X 2 (240 + i0))) rfl w_409 d_Tr_part_60 ?_
    obtain ⟨r20, σ18, hk19, hf⟩ := bn2_some hf
    refine g_callV (As := []) (rest := [.ref (xL X 3 i0)]) F hP 2 (240 + i0) (by decide) (Nat.add_lt_add_left h_i0 240) (c_Tp_takeNumber l X n (Nat.add_lt_add_left h_i0 240) hk19) rfl q_Tp_takeNumber w_479 w_3 w_476 w_477 w_478 ⟨rfl, rfl⟩ ⟨by decide, by decide⟩ hl.1 (Nat.le_of_ble_eq_true rfl) ⟨Nat.zero_le _, Nat.zero_le _⟩ d_Tr_part_63 rfl (fun H locs hP => ?_)
    refine W.eq (g2 := F0 m 66 ls [.long r20, .ref (xL X 3 i0)]) rfl ?_
    obtain ⟨σ21, e_σ21, hf⟩ := lt_some hf
    refine g_putj F hP 3 12 i0 (by decide) h_i0 (by decide) rfl rfl rfl (Or.inl w_410) d_Tr_part_66 e_σ21 (fun H locs hP => ?_)
    refine lv_aload_n F.1 F.2.1 d_Tr_part_69 rfl (lv_at hl 1 rfl) ?_
    refine g_get F hP 3 11 i0 (by decide) h_i0 (by decide) (v := .ref (xL X 2 (240 + i0))) rfl w_409 d_Tr_part_70 ?_
    refine g_getN F hP 2 1 (240 + i0) (by decide) (Nat.add_lt_add_left h_i0 240) (by decide) (v := .int (gi σ21 2 (240 + i0) 1)) rfl w_50 d_Tr_part_73 ?_
    obtain ⟨x22, e_x22, hf⟩ := lt_some hf
    rw [← e_x22]
    refine lv_istore F.1 F.2.1 d_Tr_part_76 hl (by decide) rfl (fun ls hl => ?_)
    have hl : lv_has ls 7 [(6, .int x22), (5, .int x17), (0, .ref (xL X 3 i0)), (1, .int a1), (2, .int a2), (3, .int x1), (4, .int x13)] := hl
    refine lv_aload_n F.1 F.2.1 d_Tr_part_78 rfl (lv_at hl 2 rfl) ?_
    refine lv_aload_n F.1 F.2.1 d_Tr_part_79 rfl (lv_at hl 2 rfl) ?_
    refine g_get F hP 3 0 i0 (by decide) h_i0 (by decide) (v := .ref (xL X 1 0)) rfl w_396 d_Tr_part_80 ?_
    obtain ⟨r25, σ23, hk24, hf⟩ := bn2_some hf
    refine g_callV (As := []) (rest := [.ref (xL X 3 i0)]) F hP 1 0 (by decide) Nat.zero_lt_one (c_Pg_fresh l X n  hk24) rfl q_Pg_fresh w_391 w_2 w_388 w_389 w_390 ⟨rfl, rfl⟩ ⟨by decide, by decide⟩ hl.1 (Nat.le_of_ble_eq_true rfl) ⟨Nat.zero_le _, Nat.zero_le _⟩ d_Tr_part_83 rfl (fun H locs hP => ?_)
    refine W.eq (g2 := F0 m 86 ls [.int r25, .ref (xL X 3 i0)]) rfl ?_
    obtain ⟨σ26, e_σ26, hf⟩ := lt_some hf
    refine g_puti F hP 3 13 i0 (by decide) h_i0 (by decide) rfl rfl rfl rfl (Or.inl w_411) d_Tr_part_86 e_σ26 (fun H locs hP => ?_)
    refine lv_aload_n F.1 F.2.1 d_Tr_part_89 rfl (lv_at hl 2 rfl) ?_
    refine lv_aload_n F.1 F.2.1 d_Tr_part_90 rfl (lv_at hl 2 rfl) ?_
    refine g_get F hP 3 13 i0 (by decide) h_i0 (by decide) (v := .int (gi σ26 3 i0 13)) rfl w_411 d_Tr_part_91 ?_
    refine lv_iconst (v := 0) F.1 F.2.1 d_Tr_part_94 (by decide) ?_
    refine lv_iload_n F.1 F.2.1 d_Tr_part_95 rfl (lv_at hl 4 rfl) ?_
    refine lv_iload F.1 F.2.1 d_Tr_part_96 (lv_at hl 6 rfl) ?_
    refine lv_isub F.1 F.2.1 d_Tr_part_98 ?_
    refine lv_iconst (v := 1) F.1 F.2.1 d_Tr_part_99 (by decide) ?_
    refine lv_isub F.1 F.2.1 d_Tr_part_100 ?_
    refine lv_iload F.1 F.2.1 d_Tr_part_101 (lv_at hl 0 rfl) ?_
    refine lv_iload_n F.1 F.2.1 d_Tr_part_103 rfl (lv_at hl 5 rfl) ?_
    obtain ⟨σ27, hk28, hf⟩ := bnd_some hf
    refine g_callV (As := [.int (gi σ26 3 i0 13), .int 0, .int ((a2 - x13) - 1), .int x22, .int x1]) (rest := []) F hP 3 i0 (by decide) h_i0 (c_Tr_fill l X n h_i0 hk28) rfl q_Tr_fill w_519 w_17 w_516 w_518 wp_8 ⟨rfl, rfl⟩ ⟨by decide, by decide⟩ hl.1 (Nat.le_of_ble_eq_true rfl) ⟨Nat.zero_le _, Nat.zero_le _⟩ d_Tr_part_104 rfl (fun H locs hP => ?_)
    refine W.eq (g2 := F0 m 107 ls []) rfl ?_
    refine lv_aload_n F.1 F.2.1 d_Tr_part_107 rfl (lv_at hl 2 rfl) ?_
    refine lv_iload_n F.1 F.2.1 d_Tr_part_108 rfl (lv_at hl 3 rfl) ?_
    refine lv_iconst (v := 0) F.1 F.2.1 d_Tr_part_109 (by decide) ?_
    refine lv_iload F.1 F.2.1 d_Tr_part_110 (lv_at hl 6 rfl) ?_
    refine lv_iconst (v := 0) F.1 F.2.1 d_Tr_part_112 (by decide) ?_
    refine lv_iload F.1 F.2.1 d_Tr_part_113 (lv_at hl 1 rfl) ?_
    obtain ⟨σ29, hk30, hf⟩ := bnd_some hf
    refine g_callV (As := [.int a1, .int 0, .int x13, .int 0, .int x17]) (rest := []) F hP 3 i0 (by decide) h_i0 (c_Tr_fill l X n h_i0 hk30) rfl q_Tr_fill w_519 w_17 w_516 w_518 wp_8 ⟨rfl, rfl⟩ ⟨by decide, by decide⟩ hl.1 (Nat.le_of_ble_eq_true rfl) ⟨Nat.zero_le _, Nat.zero_le _⟩ d_Tr_part_115 rfl (fun H locs hP => ?_)
    refine W.eq (g2 := F0 m 118 ls []) rfl ?_
    cases hf
    exact g_vret F hP hr hlk d_Tr_part_118
  unfold l_Tr_part_19 at hlp15
  refine lp_W (PW := fun q => ∀ (ls : Array Slot) (H : Heap) (locs : List Loc), lv_has ls 7 [(0, .ref (xL X 3 i0)), (1, .int a1), (2, .int a2), (3, .int x1), (4, .int q.1)] → St X n q.2 s.heap H locs → WG l X n rm_Tr_part σ' none p e s m args below meth c H locs (F0 m 19 ls [])) (PE := fun q => ∀ (ls : Array Slot) (H : Heap) (locs : List Loc), lv_has ls 7 [(0, .ref (xL X 3 i0)), (1, .int a1), (2, .int a2), (3, .int x1), (4, .int q.1)] → St X n q.2 s.heap H locs → WG l X n rm_Tr_part σ' none p e s m args below meth c H locs (F0 m 49 ls [])) ?_ _ _ _ hlp15 KX16 _ _ _ (lv_sub hl [2, 3, 4, 1, 0] rfl) hP
  rintro ⟨x3, σ4⟩ rr5 hb_19 hI6 hE7 ls H locs hl hP
  replace hb_19 : b_Tr_part_19 i0 x1 x3 σ4 = some rr5 := hb_19
  unfold b_Tr_part_19 at hb_19
  refine lv_aload_n F.1 F.2.1 d_Tr_part_19 rfl (lv_at hl 0 rfl) ?_
  refine g_get F hP 3 11 i0 (by decide) h_i0 (by decide) (v := .ref (xL X 2 (240 + i0))) rfl w_409 d_Tr_part_20 ?_
  refine g_getN F hP 2 1 (240 + i0) (by decide) (Nat.add_lt_add_left h_i0 240) (by decide) (v := .int (gi σ4 2 (240 + i0) 1)) rfl w_50 d_Tr_part_23 ?_
  refine lv_iload_n F.1 F.2.1 d_Tr_part_26 rfl (lv_at hl 3 rfl) ?_
  refine lv_iconst (v := 2) F.1 F.2.1 d_Tr_part_27 (by decide) ?_
  refine lv_idiv F.1 F.2.1 d_Tr_part_28 (by decide) ?_
  refine lv_icmp_ge F.1 F.2.1 d_Tr_part_29 rfl (fun hb12 => ?_) (fun hb12 => ?_)
  · rw [if_pos hb12] at hb_19
    cases hb_19
    exact hE7 _ rfl _ _ _ (lv_sub hl [0, 1, 2, 3, 4] rfl) hP
  · rw [if_neg hb12] at hb_19
    refine lv_aload_n F.1 F.2.1 d_Tr_part_32 rfl (lv_at hl 0 rfl) ?_
    refine lv_aload_n F.1 F.2.1 d_Tr_part_33 rfl (lv_at hl 0 rfl) ?_
    refine g_get F hP 3 11 i0 (by decide) h_i0 (by decide) (v := .ref (xL X 2 (240 + i0))) rfl w_409 d_Tr_part_34 ?_
    refine lv_iconst (v := 0) F.1 F.2.1 d_Tr_part_37 (by decide) ?_
    obtain ⟨r10, σ8, hk9, hb_19⟩ := bn2_some hb_19
    refine g_callV (As := [.ref (xL X 2 (240 + i0)), .int 0]) (rest := []) F hP 3 i0 (by decide) h_i0 (c_Tr_pass l X n h_i0 (Nat.add_lt_add_left h_i0 240) hk9) rfl q_Tr_pass w_484 w_17 w_481 w_483 wp_5 ⟨rfl, rfl⟩ ⟨by decide, by decide⟩ hl.1 (Nat.le_of_ble_eq_true rfl) ⟨Nat.zero_le _, Nat.zero_le _⟩ d_Tr_part_38 rfl (fun H locs hP => ?_)
    refine W.eq (g2 := F0 m 41 ls [.long r10]) rfl ?_
    refine lv_lstore F.1 F.2.1 d_Tr_part_41 hl (by decide) rfl (fun ls hl => ?_)
    have hl : lv_has ls 7 [(5, .long r10), (0, .ref (xL X 3 i0)), (1, .int a1), (2, .int a2), (3, .int x1), (4, .int x3)] := hl
    obtain ⟨x11, e_x11, hb_19⟩ := lt_some hb_19
    refine lv_iinc (k := 5) (v := x11) F.1 F.2.1 d_Tr_part_43 hl rfl (by rw [e_x11]; rfl) (by decide) rfl (fun ls hl => ?_)
    have hl : lv_has ls 7 [(4, .int x11), (5, .long r10), (0, .ref (xL X 3 i0)), (1, .int a1), (2, .int a2), (3, .int x1)] := hl
    refine lv_goto F.1 F.2.1 d_Tr_part_46 rfl ?_
    cases hb_19
    exact hI6 _ rfl _ _ _ (lv_sub hl [2, 3, 4, 5, 0] rfl) hP

theorem d_Tr_widen_0 : decode b_Tr_widen 0 = .ok (.aload_n 0, 1) := by decide +kernel
theorem d_Tr_widen_1 : decode b_Tr_widen 1 = .ok (.iload_n 1, 1) := by decide +kernel
theorem d_Tr_widen_2 : decode b_Tr_widen 2 = .ok (.invokevirtual 125, 3) := by decide +kernel
theorem d_Tr_widen_5 : decode b_Tr_widen 5 = .ok (.istore 6, 2) := by decide +kernel
theorem d_Tr_widen_7 : decode b_Tr_widen 7 = .ok (.aload_n 0, 1) := by decide +kernel
theorem d_Tr_widen_8 : decode b_Tr_widen 8 = .ok (.getfield 27, 3) := by decide +kernel
theorem d_Tr_widen_11 : decode b_Tr_widen 11 = .ok (.iload_n 1, 1) := by decide +kernel
theorem d_Tr_widen_12 : decode b_Tr_widen 12 = .ok (.invokevirtual 48, 3) := by decide +kernel
theorem d_Tr_widen_15 : decode b_Tr_widen 15 = .ok (.astore 7, 2) := by decide +kernel
theorem d_Tr_widen_17 : decode b_Tr_widen 17 = .ok (.aload 7, 2) := by decide +kernel
theorem d_Tr_widen_19 : decode b_Tr_widen 19 = .ok (.dup, 1) := by decide +kernel
theorem d_Tr_widen_20 : decode b_Tr_widen 20 = .ok (.getfield 70, 3) := by decide +kernel
theorem d_Tr_widen_23 : decode b_Tr_widen 23 = .ok (.iconst 1, 1) := by decide +kernel
theorem d_Tr_widen_24 : decode b_Tr_widen 24 = .ok (.iadd, 1) := by decide +kernel
theorem d_Tr_widen_25 : decode b_Tr_widen 25 = .ok (.putfield 70, 3) := by decide +kernel
theorem d_Tr_widen_28 : decode b_Tr_widen 28 = .ok (.iconst 0, 1) := by decide +kernel
theorem d_Tr_widen_29 : decode b_Tr_widen 29 = .ok (.istore 8, 2) := by decide +kernel
theorem d_Tr_widen_31 : decode b_Tr_widen 31 = .ok (.iload 8, 2) := by decide +kernel
theorem d_Tr_widen_33 : decode b_Tr_widen 33 = .ok (.iload_n 2, 1) := by decide +kernel
theorem d_Tr_widen_34 : decode b_Tr_widen 34 = .ok (.if_icmp .ge 18, 3) := by decide +kernel
theorem d_Tr_widen_37 : decode b_Tr_widen 37 = .ok (.aload_n 0, 1) := by decide +kernel
theorem d_Tr_widen_38 : decode b_Tr_widen 38 = .ok (.aload 7, 2) := by decide +kernel
theorem d_Tr_widen_40 : decode b_Tr_widen 40 = .ok (.iconst 0, 1) := by decide +kernel
theorem d_Tr_widen_41 : decode b_Tr_widen 41 = .ok (.invokevirtual 73, 3) := by decide +kernel
theorem d_Tr_widen_44 : decode b_Tr_widen 44 = .ok (.lstore 9, 2) := by decide +kernel
theorem d_Tr_widen_46 : decode b_Tr_widen 46 = .ok (.iinc 8 1, 3) := by decide +kernel
theorem d_Tr_widen_49 : decode b_Tr_widen 49 = .ok (.goto (-18), 3) := by decide +kernel
theorem d_Tr_widen_52 : decode b_Tr_widen 52 = .ok (.aload 7, 2) := by decide +kernel
theorem d_Tr_widen_54 : decode b_Tr_widen 54 = .ok (.getfield 70, 3) := by decide +kernel
theorem d_Tr_widen_57 : decode b_Tr_widen 57 = .ok (.istore 8, 2) := by decide +kernel
theorem d_Tr_widen_59 : decode b_Tr_widen 59 = .ok (.aload_n 0, 1) := by decide +kernel
theorem d_Tr_widen_60 : decode b_Tr_widen 60 = .ok (.getfield 23, 3) := by decide +kernel
theorem d_Tr_widen_63 : decode b_Tr_widen 63 = .ok (.iconst 0, 1) := by decide +kernel
theorem d_Tr_widen_64 : decode b_Tr_widen 64 = .ok (.putfield 70, 3) := by decide +kernel
theorem d_Tr_widen_67 : decode b_Tr_widen 67 = .ok (.aload_n 0, 1) := by decide +kernel
theorem d_Tr_widen_68 : decode b_Tr_widen 68 = .ok (.getfield 23, 3) := by decide +kernel
theorem d_Tr_widen_71 : decode b_Tr_widen 71 = .ok (.aload 7, 2) := by decide +kernel
theorem d_Tr_widen_73 : decode b_Tr_widen 73 = .ok (.iconst 2, 1) := by decide +kernel
theorem d_Tr_widen_74 : decode b_Tr_widen 74 = .ok (.iload 8, 2) := by decide +kernel
theorem d_Tr_widen_76 : decode b_Tr_widen 76 = .ok (.invokevirtual 121, 3) := by decide +kernel
theorem d_Tr_widen_79 : decode b_Tr_widen 79 = .ok (.aload_n 0, 1) := by decide +kernel
theorem d_Tr_widen_80 : decode b_Tr_widen 80 = .ok (.getfield 23, 3) := by decide +kernel
theorem d_Tr_widen_83 : decode b_Tr_widen 83 = .ok (.lload_n 3, 1) := by decide +kernel
theorem d_Tr_widen_84 : decode b_Tr_widen 84 = .ok (.invokevirtual 128, 3) := by decide +kernel
theorem d_Tr_widen_87 : decode b_Tr_widen 87 = .ok (.aload_n 0, 1) := by decide +kernel
theorem d_Tr_widen_88 : decode b_Tr_widen 88 = .ok (.getfield 23, 3) := by decide +kernel
theorem d_Tr_widen_91 : decode b_Tr_widen 91 = .ok (.iload 5, 2) := by decide +kernel
theorem d_Tr_widen_93 : decode b_Tr_widen 93 = .ok (.invokevirtual 166, 3) := by decide +kernel
theorem d_Tr_widen_96 : decode b_Tr_widen 96 = .ok (.aload_n 0, 1) := by decide +kernel
theorem d_Tr_widen_97 : decode b_Tr_widen 97 = .ok (.getfield 23, 3) := by decide +kernel
theorem d_Tr_widen_100 : decode b_Tr_widen 100 = .ok (.aload 7, 2) := by decide +kernel
theorem d_Tr_widen_102 : decode b_Tr_widen 102 = .ok (.iload 8, 2) := by decide +kernel
theorem d_Tr_widen_104 : decode b_Tr_widen 104 = .ok (.iload 6, 2) := by decide +kernel
theorem d_Tr_widen_106 : decode b_Tr_widen 106 = .ok (.invokevirtual 121, 3) := by decide +kernel
theorem d_Tr_widen_109 : decode b_Tr_widen 109 = .ok (.aload_n 0, 1) := by decide +kernel
theorem d_Tr_widen_110 : decode b_Tr_widen 110 = .ok (.getfield 27, 3) := by decide +kernel
theorem d_Tr_widen_113 : decode b_Tr_widen 113 = .ok (.iload_n 1, 1) := by decide +kernel
theorem d_Tr_widen_114 : decode b_Tr_widen 114 = .ok (.invokevirtual 58, 3) := by decide +kernel
theorem d_Tr_widen_117 : decode b_Tr_widen 117 = .ok (.iconst 1, 1) := by decide +kernel
theorem d_Tr_widen_118 : decode b_Tr_widen 118 = .ok (.iadd, 1) := by decide +kernel
theorem d_Tr_widen_119 : decode b_Tr_widen 119 = .ok (.istore 9, 2) := by decide +kernel
theorem d_Tr_widen_121 : decode b_Tr_widen 121 = .ok (.aload_n 0, 1) := by decide +kernel
theorem d_Tr_widen_122 : decode b_Tr_widen 122 = .ok (.getfield 23, 3) := by decide +kernel
theorem d_Tr_widen_125 : decode b_Tr_widen 125 = .ok (.getfield 70, 3) := by decide +kernel
theorem d_Tr_widen_128 : decode b_Tr_widen 128 = .ok (.bipush 126, 2) := by decide +kernel
theorem d_Tr_widen_130 : decode b_Tr_widen 130 = .ok (.if_icmp .gt 21, 3) := by decide +kernel
theorem d_Tr_widen_133 : decode b_Tr_widen 133 = .ok (.aload_n 0, 1) := by decide +kernel
theorem d_Tr_widen_134 : decode b_Tr_widen 134 = .ok (.iload_n 1, 1) := by decide +kernel
theorem d_Tr_widen_135 : decode b_Tr_widen 135 = .ok (.iconst 0, 1) := by decide +kernel
theorem d_Tr_widen_136 : decode b_Tr_widen 136 = .ok (.iload 9, 2) := by decide +kernel
theorem d_Tr_widen_138 : decode b_Tr_widen 138 = .ok (.iconst 0, 1) := by decide +kernel
theorem d_Tr_widen_139 : decode b_Tr_widen 139 = .ok (.aload_n 0, 1) := by decide +kernel
theorem d_Tr_widen_140 : decode b_Tr_widen 140 = .ok (.getfield 23, 3) := by decide +kernel
theorem d_Tr_widen_143 : decode b_Tr_widen 143 = .ok (.getfield 70, 3) := by decide +kernel
theorem d_Tr_widen_146 : decode b_Tr_widen 146 = .ok (.invokevirtual 137, 3) := by decide +kernel
theorem d_Tr_widen_149 : decode b_Tr_widen 149 = .ok (.iconst 0, 1) := by decide +kernel
theorem d_Tr_widen_150 : decode b_Tr_widen 150 = .ok (.ireturn, 1) := by decide +kernel
theorem d_Tr_widen_151 : decode b_Tr_widen 151 = .ok (.aload_n 0, 1) := by decide +kernel
theorem d_Tr_widen_152 : decode b_Tr_widen 152 = .ok (.iload_n 1, 1) := by decide +kernel
theorem d_Tr_widen_153 : decode b_Tr_widen 153 = .ok (.iload 9, 2) := by decide +kernel
theorem d_Tr_widen_155 : decode b_Tr_widen 155 = .ok (.invokevirtual 169, 3) := by decide +kernel
theorem d_Tr_widen_158 : decode b_Tr_widen 158 = .ok (.iconst 1, 1) := by decide +kernel
theorem d_Tr_widen_159 : decode b_Tr_widen 159 = .ok (.ireturn, 1) := by decide +kernel
noncomputable def b_Tr_widen_31 (i0 : Nat) (a2 : Int32) (r6 : Nat) (x9 : Int32) (σ10 : Sg) : Option ((Int32 × Sg) ⊕ (Sg)) :=
  (if a2 ≤ x9 then (some (.inr σ10)) else (bn2 (f_Tr_pass i0 r6 0 σ10) (fun r16 σ14 => lt_ (x9 + 1 : Int32) (fun (x17 : Int32) => some (.inl (x17, σ14))))))
noncomputable def l_Tr_widen_31 (i0 : Nat) (a2 : Int32) (r6 : Nat) (x9 : Int32) (σ10 : Sg) : Option (Sg) := lp (fun q => b_Tr_widen_31 i0 a2 r6 q.1 q.2) FU (x9, σ10)
noncomputable def f_Tr_widen (i0 : Nat) (a1 : Int32) (a2 : Int32) (a3 : Int64) (a5 : Int32) (σ : Sg) : Option (Int32 × Sg) :=
  bn2 (f_Tr_size i0 a1 σ) (fun r3 σ1 => bn2 (f_Pg_open a1 σ1) (fun r6 σ4 => lt_ (si σ4 2 r6 1 ((gi σ4 2 r6 1) + 1)) (fun σ8 => (l_Tr_widen_31 i0 a2 r6 0 σ8).bind (fun σ19 => lt_ (gi σ19 2 r6 1 : Int32) (fun (x22 : Int32) => lt_ (si σ19 2 (240 + i0) 1 0) (fun σ23 => (f_Tp_copy (240 + i0) r6 2 x22 σ23).bind (fun σ24 => (f_Tp_number (240 + i0) a3 σ24).bind (fun σ26 => (f_Tp_one (240 + i0) a5 σ26).bind (fun σ28 => (f_Tp_copy (240 + i0) r6 x22 r3 σ28).bind (fun σ30 => bn2 (f_Pg_cells a1 σ30) (fun r34 σ32 => lt_ (r34 + 1 : Int32) (fun (x35 : Int32) => (if 126 < (gi σ32 2 (240 + i0) 1) then ((f_Tr_part i0 a1 x35 σ32).bind (fun σ36 => some (1, σ36))) else ((f_Tr_fill i0 a1 0 x35 0 (gi σ32 2 (240 + i0) 1) σ32).bind (fun σ38 => some (0, σ38))))))))))))))))
abbrev rm_Tr_widen : Room := { frames := 4, cells := 0, slots := 0, locals := 98 }
set_option maxHeartbeats 4000000 in
set_option maxRecDepth 100000 in
theorem c_Tr_widen (l : Launch) (X : GX) (n : Nat) {σ σ' : Sg} {r : Int32} {i0 : Nat} {a1 : Int32} {a2 : Int32} {a3 : Int64} {a5 : Int32} (h_i0 : i0 < cnt n 3) (hf : f_Tr_widen i0 a1 a2 a3 a5 σ = some (r, σ')) : Met l y_Tr_widen (cw y_Tr_widen b_Tr_widen 11 (some .boolean)) rm_Tr_widen (PcG X n σ [.ref (xL X 3 i0), .int a1, .int a2, .long a3, .int a5]) (QcG X n σ' (some (.int r))) 0 0 (fr X n) := by
  refine g_head (own := "TableMachine$Tree") (by decide) rfl (Nat.le_of_ble_eq_true rfl) ?_
  intro p e s m args below meth c ls F hr hlk hP hl
  have hl : lv_has ls 11 [(0, .ref (xL X 3 i0)), (1, .int a1), (2, .int a2), (3, .long a3), (5, .int a5)] := hl
  show WG l X n rm_Tr_widen σ' (some (.int r)) p e s m args below meth c s.heap [] (F0 m 0 ls [])
  unfold f_Tr_widen at hf
  refine lv_aload_n F.1 F.2.1 d_Tr_widen_0 rfl (lv_at hl 0 rfl) ?_
  refine lv_iload_n F.1 F.2.1 d_Tr_widen_1 rfl (lv_at hl 1 rfl) ?_
  obtain ⟨r3, σ1, hk2, hf⟩ := bn2_some hf
  refine g_callV (As := [.int a1]) (rest := []) F hP 3 i0 (by decide) h_i0 (c_Tr_size l X n h_i0 hk2) rfl q_Tr_size w_496 w_17 w_493 w_495 wp_7 ⟨rfl, rfl⟩ ⟨by decide, by decide⟩ hl.1 (Nat.le_of_ble_eq_true rfl) ⟨Nat.zero_le _, Nat.zero_le _⟩ d_Tr_widen_2 rfl (fun H locs hP => ?_)
  refine W.eq (g2 := F0 m 5 ls [.int r3]) rfl ?_
  refine lv_istore F.1 F.2.1 d_Tr_widen_5 hl (by decide) rfl (fun ls hl => ?_)
  have hl : lv_has ls 11 [(6, .int r3), (0, .ref (xL X 3 i0)), (1, .int a1), (2, .int a2), (3, .long a3), (5, .int a5)] := hl
  refine lv_aload_n F.1 F.2.1 d_Tr_widen_7 rfl (lv_at hl 1 rfl) ?_
  refine g_get F hP 3 0 i0 (by decide) h_i0 (by decide) (v := .ref (xL X 1 0)) rfl w_396 d_Tr_widen_8 ?_
  refine lv_iload_n F.1 F.2.1 d_Tr_widen_11 rfl (lv_at hl 2 rfl) ?_
  obtain ⟨r6, σ4, hk5, hf⟩ := bn2_some hf
  have hv7 : r6 < cnt n 2 := v_Pg_open  hk5
  refine g_callV (As := [.int a1]) (rest := []) F hP 1 0 (by decide) Nat.zero_lt_one (c_Pg_open l X n  hk5) rfl q_Pg_open w_467 w_2 w_464 w_465 w_466 ⟨rfl, rfl⟩ ⟨by decide, by decide⟩ hl.1 (Nat.le_of_ble_eq_true rfl) ⟨Nat.zero_le _, Nat.zero_le _⟩ d_Tr_widen_12 rfl (fun H locs hP => ?_)
  refine W.eq (g2 := F0 m 15 ls [.ref (xL X 2 r6)]) rfl ?_
  refine lv_astore F.1 F.2.1 d_Tr_widen_15 hl (by decide) rfl (fun ls hl => ?_)
  have hl : lv_has ls 11 [(7, .ref (xL X 2 r6)), (6, .int r3), (0, .ref (xL X 3 i0)), (1, .int a1), (2, .int a2), (3, .long a3), (5, .int a5)] := hl
  refine lv_aload F.1 F.2.1 d_Tr_widen_17 (lv_at hl 0 rfl) ?_
  refine lv_dup F.1 F.2.1 d_Tr_widen_19 rfl ?_
  refine g_getN F hP 2 1 r6 (by decide) hv7 (by decide) (v := .int (gi σ4 2 r6 1)) rfl w_50 d_Tr_widen_20 ?_
  refine lv_iconst (v := 1) F.1 F.2.1 d_Tr_widen_23 (by decide) ?_
  refine lv_iadd F.1 F.2.1 d_Tr_widen_24 ?_
  obtain ⟨σ8, e_σ8, hf⟩ := lt_some hf
  refine g_puti F hP 2 1 r6 (by decide) hv7 (by decide) rfl rfl rfl rfl (Or.inr w_50) d_Tr_widen_25 e_σ8 (fun H locs hP => ?_)
  refine lv_iconst (v := 0) F.1 F.2.1 d_Tr_widen_28 (by decide) ?_
  refine lv_istore F.1 F.2.1 d_Tr_widen_29 hl (by decide) rfl (fun ls hl => ?_)
  have hl : lv_has ls 11 [(8, .int 0), (7, .ref (xL X 2 r6)), (6, .int r3), (0, .ref (xL X 3 i0)), (1, .int a1), (2, .int a2), (3, .long a3), (5, .int a5)] := hl
  obtain ⟨σ19, hlp20, hf⟩ := bnd_some hf
  have KX21 : ∀ (ls : Array Slot) (H : Heap) (locs : List Loc), lv_has ls 11 [(0, .ref (xL X 3 i0)), (1, .int a1), (3, .long a3), (5, .int a5), (6, .int r3), (7, .ref (xL X 2 r6))] → St X n σ19 s.heap H locs → WG l X n rm_Tr_widen σ' (some (.int r)) p e s m args below meth c H locs (F0 m 52 ls []) := by
    intro ls H locs hl hP
    refine lv_aload F.1 F.2.1 d_Tr_widen_52 (lv_at hl 5 rfl) ?_
    refine g_getN F hP 2 1 r6 (by decide) hv7 (by decide) (v := .int (gi σ19 2 r6 1)) rfl w_50 d_Tr_widen_54 ?_
    obtain ⟨x22, e_x22, hf⟩ := lt_some hf
    rw [← e_x22]
    refine lv_istore F.1 F.2.1 d_Tr_widen_57 hl (by decide) rfl (fun ls hl => ?_)
    have hl : lv_has ls 11 [(8, .int x22), (0, .ref (xL X 3 i0)), (1, .int a1), (3, .long a3), (5, .int a5), (6, .int r3), (7, .ref (xL X 2 r6))] := hl
    refine lv_aload_n F.1 F.2.1 d_Tr_widen_59 rfl (lv_at hl 1 rfl) ?_
    refine g_get F hP 3 11 i0 (by decide) h_i0 (by decide) (v := .ref (xL X 2 (240 + i0))) rfl w_409 d_Tr_widen_60 ?_
    refine lv_iconst (v := 0) F.1 F.2.1 d_Tr_widen_63 (by decide) ?_
    obtain ⟨σ23, e_σ23, hf⟩ := lt_some hf
    refine g_puti F hP 2 1 (240 + i0) (by decide) (Nat.add_lt_add_left h_i0 240) (by decide) rfl rfl rfl rfl (Or.inr w_50) d_Tr_widen_64 e_σ23 (fun H locs hP => ?_)
    refine lv_aload_n F.1 F.2.1 d_Tr_widen_67 rfl (lv_at hl 1 rfl) ?_
    refine g_get F hP 3 11 i0 (by decide) h_i0 (by decide) (v := .ref (xL X 2 (240 + i0))) rfl w_409 d_Tr_widen_68 ?_
    refine lv_aload F.1 F.2.1 d_Tr_widen_71 (lv_at hl 6 rfl) ?_
    refine lv_iconst (v := 2) F.1 F.2.1 d_Tr_widen_73 (by decide) ?_
    refine lv_iload F.1 F.2.1 d_Tr_widen_74 (lv_at hl 0 rfl) ?_
    obtain ⟨σ24, hk25, hf⟩ := bnd_some hf
    refine g_callV (As := [.ref (xL X 2 r6), .int 2, .int x22]) (rest := []) F hP 2 (240 + i0) (by decide) (Nat.add_lt_add_left h_i0 240) (c_Tp_copy l X n (Nat.add_lt_add_left h_i0 240) hv7 hk25) rfl q_Tp_copy w_500 w_3 w_497 w_498 w_499 ⟨rfl, rfl⟩ ⟨by decide, by decide⟩ hl.1 (Nat.le_of_ble_eq_true rfl) ⟨Nat.zero_le _, Nat.zero_le _⟩ d_Tr_widen_76 rfl (fun H locs hP => ?_)
    refine W.eq (g2 := F0 m 79 ls []) rfl ?_
    refine lv_aload_n F.1 F.2.1 d_Tr_widen_79 rfl (lv_at hl 1 rfl) ?_
    refine g_get F hP 3 11 i0 (by decide) h_i0 (by decide) (v := .ref (xL X 2 (240 + i0))) rfl w_409 d_Tr_widen_80 ?_
    refine lv_lload_n F.1 F.2.1 d_Tr_widen_83 rfl (lv_at hl 3 rfl) ?_
    obtain ⟨σ26, hk27, hf⟩ := bnd_some hf
    refine g_callV (As := [.long a3]) (rest := []) F hP 2 (240 + i0) (by decide) (Nat.add_lt_add_left h_i0 240) (c_Tp_number l X n (Nat.add_lt_add_left h_i0 240) hk27) rfl q_Tp_number w_508 w_3 w_505 w_506 w_507 ⟨rfl, rfl⟩ ⟨by decide, by decide⟩ hl.1 (Nat.le_of_ble_eq_true rfl) ⟨Nat.zero_le _, Nat.zero_le _⟩ d_Tr_widen_84 rfl (fun H locs hP => ?_)
    refine W.eq (g2 := F0 m 87 ls []) rfl ?_
    refine lv_aload_n F.1 F.2.1 d_Tr_widen_87 rfl (lv_at hl 1 rfl) ?_
    refine g_get F hP 3 11 i0 (by decide) h_i0 (by decide) (v := .ref (xL X 2 (240 + i0))) rfl w_409 d_Tr_widen_88 ?_
    refine lv_iload F.1 F.2.1 d_Tr_widen_91 (lv_at hl 4 rfl) ?_
    obtain ⟨σ28, hk29, hf⟩ := bnd_some hf
    refine g_callV (As := [.int a5]) (rest := []) F hP 2 (240 + i0) (by decide) (Nat.add_lt_add_left h_i0 240) (c_Tp_one l X n (Nat.add_lt_add_left h_i0 240) hk29) rfl q_Tp_one w_504 w_3 w_536 w_502 w_503 ⟨rfl, rfl⟩ ⟨by decide, by decide⟩ hl.1 (Nat.le_of_ble_eq_true rfl) ⟨Nat.zero_le _, Nat.zero_le _⟩ d_Tr_widen_93 rfl (fun H locs hP => ?_)
    refine W.eq (g2 := F0 m 96 ls []) rfl ?_
    refine lv_aload_n F.1 F.2.1 d_Tr_widen_96 rfl (lv_at hl 1 rfl) ?_
    refine g_get F hP 3 11 i0 (by decide) h_i0 (by decide) (v := .ref (xL X 2 (240 + i0))) rfl w_409 d_Tr_widen_97 ?_
    refine lv_aload F.1 F.2.1 d_Tr_widen_100 (lv_at hl 6 rfl) ?_
    refine lv_iload F.1 F.2.1 d_Tr_widen_102 (lv_at hl 0 rfl) ?_
    refine lv_iload F.1 F.2.1 d_Tr_widen_104 (lv_at hl 5 rfl) ?_
    obtain ⟨σ30, hk31, hf⟩ := bnd_some hf
    refine g_callV (As := [.ref (xL X 2 r6), .int x22, .int r3]) (rest := []) F hP 2 (240 + i0) (by decide) (Nat.add_lt_add_left h_i0 240) (c_Tp_copy l X n (Nat.add_lt_add_left h_i0 240) hv7 hk31) rfl q_Tp_copy w_500 w_3 w_497 w_498 w_499 ⟨rfl, rfl⟩ ⟨by decide, by decide⟩ hl.1 (Nat.le_of_ble_eq_true rfl) ⟨Nat.zero_le _, Nat.zero_le _⟩ d_Tr_widen_106 rfl (fun H locs hP => ?_)
    refine W.eq (g2 := F0 m 109 ls []) rfl ?_
    refine lv_aload_n F.1 F.2.1 d_Tr_widen_109 rfl (lv_at hl 1 rfl) ?_
    refine g_get F hP 3 0 i0 (by decide) h_i0 (by decide) (v := .ref (xL X 1 0)) rfl w_396 d_Tr_widen_110 ?_
    refine lv_iload_n F.1 F.2.1 d_Tr_widen_113 rfl (lv_at hl 2 rfl) ?_
    obtain ⟨r34, σ32, hk33, hf⟩ := bn2_some hf
    refine g_callV (As := [.int a1]) (rest := []) F hP 1 0 (by decide) Nat.zero_lt_one (c_Pg_cells l X n  hk33) rfl q_Pg_cells w_475 w_2 w_472 w_473 w_474 ⟨rfl, rfl⟩ ⟨by decide, by decide⟩ hl.1 (Nat.le_of_ble_eq_true rfl) ⟨Nat.zero_le _, Nat.zero_le _⟩ d_Tr_widen_114 rfl (fun H locs hP => ?_)
    refine W.eq (g2 := F0 m 117 ls [.int r34]) rfl ?_
    refine lv_iconst (v := 1) F.1 F.2.1 d_Tr_widen_117 (by decide) ?_
    refine lv_iadd F.1 F.2.1 d_Tr_widen_118 ?_
    obtain ⟨x35, e_x35, hf⟩ := lt_some hf
    rw [← e_x35]
    refine lv_istore F.1 F.2.1 d_Tr_widen_119 hl (by decide) rfl (fun ls hl => ?_)
    have hl : lv_has ls 11 [(9, .int x35), (8, .int x22), (0, .ref (xL X 3 i0)), (1, .int a1), (3, .long a3), (5, .int a5), (6, .int r3), (7, .ref (xL X 2 r6))] := hl
    refine lv_aload_n F.1 F.2.1 d_Tr_widen_121 rfl (lv_at hl 2 rfl) ?_
    refine g_get F hP 3 11 i0 (by decide) h_i0 (by decide) (v := .ref (xL X 2 (240 + i0))) rfl w_409 d_Tr_widen_122 ?_
    refine g_getN F hP 2 1 (240 + i0) (by decide) (Nat.add_lt_add_left h_i0 240) (by decide) (v := .int (gi σ32 2 (240 + i0) 1)) rfl w_50 d_Tr_widen_125 ?_
    refine lv_bipush (v := 126) F.1 F.2.1 d_Tr_widen_128 (by decide) ?_
    refine lv_icmp_gt F.1 F.2.1 d_Tr_widen_130 rfl (fun hb40 => ?_) (fun hb40 => ?_)
    · rw [if_pos hb40] at hf
      refine lv_aload_n F.1 F.2.1 d_Tr_widen_151 rfl (lv_at hl 2 rfl) ?_
      refine lv_iload_n F.1 F.2.1 d_Tr_widen_152 rfl (lv_at hl 3 rfl) ?_
      refine lv_iload F.1 F.2.1 d_Tr_widen_153 (lv_at hl 0 rfl) ?_
      obtain ⟨σ36, hk37, hf⟩ := bnd_some hf
      refine g_callV (As := [.int a1, .int x35]) (rest := []) F hP 3 i0 (by decide) h_i0 (c_Tr_part l X n h_i0 hk37) rfl q_Tr_part w_544 w_17 w_541 w_543 wp_14 ⟨rfl, rfl⟩ ⟨by decide, by decide⟩ hl.1 (Nat.le_of_ble_eq_true rfl) ⟨Nat.zero_le _, Nat.zero_le _⟩ d_Tr_widen_155 rfl (fun H locs hP => ?_)
      refine W.eq (g2 := F0 m 158 ls []) rfl ?_
      refine lv_iconst (v := 1) F.1 F.2.1 d_Tr_widen_158 (by decide) ?_
      cases hf
      exact g_zret F hP hr hlk zb1 d_Tr_widen_159
    · rw [if_neg hb40] at hf
      refine lv_aload_n F.1 F.2.1 d_Tr_widen_133 rfl (lv_at hl 2 rfl) ?_
      refine lv_iload_n F.1 F.2.1 d_Tr_widen_134 rfl (lv_at hl 3 rfl) ?_
      refine lv_iconst (v := 0) F.1 F.2.1 d_Tr_widen_135 (by decide) ?_
      refine lv_iload F.1 F.2.1 d_Tr_widen_136 (lv_at hl 0 rfl) ?_
      refine lv_iconst (v := 0) F.1 F.2.1 d_Tr_widen_138 (by decide) ?_
      refine lv_aload_n F.1 F.2.1 d_Tr_widen_139 rfl (lv_at hl 2 rfl) ?_
      refine g_get F hP 3 11 i0 (by decide) h_i0 (by decide) (v := .ref (xL X 2 (240 + i0))) rfl w_409 d_Tr_widen_140 ?_
      refine g_getN F hP 2 1 (240 + i0) (by decide) (Nat.add_lt_add_left h_i0 240) (by decide) (v := .int (gi σ32 2 (240 + i0) 1)) rfl w_50 d_Tr_widen_143 ?_
      obtain ⟨σ38, hk39, hf⟩ := bnd_some hf
      refine g_callV (As := [.int a1, .int 0, .int x35, .int 0, .int (gi σ32 2 (240 + i0) 1)]) (rest := []) F hP 3 i0 (by decide) h_i0 (c_Tr_fill l X n h_i0 hk39) rfl q_Tr_fill w_519 w_17 w_516 w_518 wp_8 ⟨rfl, rfl⟩ ⟨by decide, by decide⟩ hl.1 (Nat.le_of_ble_eq_true rfl) ⟨Nat.zero_le _, Nat.zero_le _⟩ d_Tr_widen_146 rfl (fun H locs hP => ?_)
      refine W.eq (g2 := F0 m 149 ls []) rfl ?_
      refine lv_iconst (v := 0) F.1 F.2.1 d_Tr_widen_149 (by decide) ?_
      cases hf
      exact g_zret F hP hr hlk zb0 d_Tr_widen_150
  unfold l_Tr_widen_31 at hlp20
  refine lp_W (PW := fun q => ∀ (ls : Array Slot) (H : Heap) (locs : List Loc), lv_has ls 11 [(0, .ref (xL X 3 i0)), (1, .int a1), (2, .int a2), (3, .long a3), (5, .int a5), (6, .int r3), (7, .ref (xL X 2 r6)), (8, .int q.1)] → St X n q.2 s.heap H locs → WG l X n rm_Tr_widen σ' (some (.int r)) p e s m args below meth c H locs (F0 m 31 ls [])) (PE := fun q => ∀ (ls : Array Slot) (H : Heap) (locs : List Loc), lv_has ls 11 [(0, .ref (xL X 3 i0)), (1, .int a1), (3, .long a3), (5, .int a5), (6, .int r3), (7, .ref (xL X 2 r6))] → St X n q s.heap H locs → WG l X n rm_Tr_widen σ' (some (.int r)) p e s m args below meth c H locs (F0 m 52 ls [])) ?_ _ _ _ hlp20 KX21 _ _ _ (lv_sub hl [3, 4, 5, 6, 7, 2, 1, 0] rfl) hP
  rintro ⟨x9, σ10⟩ rr11 hb_31 hI12 hE13 ls H locs hl hP
  replace hb_31 : b_Tr_widen_31 i0 a2 r6 x9 σ10 = some rr11 := hb_31
  unfold b_Tr_widen_31 at hb_31
  refine lv_iload F.1 F.2.1 d_Tr_widen_31 (lv_at hl 7 rfl) ?_
  refine lv_iload_n F.1 F.2.1 d_Tr_widen_33 rfl (lv_at hl 2 rfl) ?_
  refine lv_icmp_ge F.1 F.2.1 d_Tr_widen_34 rfl (fun hb18 => ?_) (fun hb18 => ?_)
  · rw [if_pos hb18] at hb_31
    cases hb_31
    exact hE13 _ rfl _ _ _ (lv_sub hl [0, 1, 3, 4, 5, 6] rfl) hP
  · rw [if_neg hb18] at hb_31
    refine lv_aload_n F.1 F.2.1 d_Tr_widen_37 rfl (lv_at hl 0 rfl) ?_
    refine lv_aload F.1 F.2.1 d_Tr_widen_38 (lv_at hl 6 rfl) ?_
    refine lv_iconst (v := 0) F.1 F.2.1 d_Tr_widen_40 (by decide) ?_
    obtain ⟨r16, σ14, hk15, hb_31⟩ := bn2_some hb_31
    refine g_callV (As := [.ref (xL X 2 r6), .int 0]) (rest := []) F hP 3 i0 (by decide) h_i0 (c_Tr_pass l X n h_i0 hv7 hk15) rfl q_Tr_pass w_484 w_17 w_481 w_483 wp_5 ⟨rfl, rfl⟩ ⟨by decide, by decide⟩ hl.1 (Nat.le_of_ble_eq_true rfl) ⟨Nat.zero_le _, Nat.zero_le _⟩ d_Tr_widen_41 rfl (fun H locs hP => ?_)
    refine W.eq (g2 := F0 m 44 ls [.long r16]) rfl ?_
    refine lv_lstore F.1 F.2.1 d_Tr_widen_44 hl (by decide) rfl (fun ls hl => ?_)
    have hl : lv_has ls 11 [(9, .long r16), (0, .ref (xL X 3 i0)), (1, .int a1), (2, .int a2), (3, .long a3), (5, .int a5), (6, .int r3), (7, .ref (xL X 2 r6)), (8, .int x9)] := hl
    obtain ⟨x17, e_x17, hb_31⟩ := lt_some hb_31
    refine lv_iinc (k := 8) (v := x17) F.1 F.2.1 d_Tr_widen_46 hl rfl (by rw [e_x17]; rfl) (by decide) rfl (fun ls hl => ?_)
    have hl : lv_has ls 11 [(8, .int x17), (9, .long r16), (0, .ref (xL X 3 i0)), (1, .int a1), (2, .int a2), (3, .long a3), (5, .int a5), (6, .int r3), (7, .ref (xL X 2 r6))] := hl
    refine lv_goto F.1 F.2.1 d_Tr_widen_49 rfl ?_
    cases hb_31
    exact hI12 _ rfl _ _ _ (lv_sub hl [2, 3, 4, 5, 6, 7, 8, 0] rfl) hP

theorem d_Tr_above_0 : decode b_Tr_above 0 = .ok (.aload_n 0, 1) := by decide +kernel
theorem d_Tr_above_1 : decode b_Tr_above 1 = .ok (.getfield 55, 3) := by decide +kernel
theorem d_Tr_above_4 : decode b_Tr_above 4 = .ok (.istore 4, 2) := by decide +kernel
theorem d_Tr_above_6 : decode b_Tr_above 6 = .ok (.lload_n 1, 1) := by decide +kernel
theorem d_Tr_above_7 : decode b_Tr_above 7 = .ok (.lstore 5, 2) := by decide +kernel
theorem d_Tr_above_9 : decode b_Tr_above 9 = .ok (.iload_n 3, 1) := by decide +kernel
theorem d_Tr_above_10 : decode b_Tr_above 10 = .ok (.istore 7, 2) := by decide +kernel
theorem d_Tr_above_12 : decode b_Tr_above 12 = .ok (.iconst 1, 1) := by decide +kernel
theorem d_Tr_above_13 : decode b_Tr_above 13 = .ok (.istore 8, 2) := by decide +kernel
theorem d_Tr_above_15 : decode b_Tr_above 15 = .ok (.iload 8, 2) := by decide +kernel
theorem d_Tr_above_17 : decode b_Tr_above 17 = .ok (.ifCond .eq 69, 3) := by decide +kernel
theorem d_Tr_above_20 : decode b_Tr_above 20 = .ok (.iload 4, 2) := by decide +kernel
theorem d_Tr_above_22 : decode b_Tr_above 22 = .ok (.ifCond .ne 17, 3) := by decide +kernel
theorem d_Tr_above_25 : decode b_Tr_above 25 = .ok (.aload_n 0, 1) := by decide +kernel
theorem d_Tr_above_26 : decode b_Tr_above 26 = .ok (.lload 5, 2) := by decide +kernel
theorem d_Tr_above_28 : decode b_Tr_above 28 = .ok (.iload 7, 2) := by decide +kernel
theorem d_Tr_above_30 : decode b_Tr_above 30 = .ok (.invokevirtual 149, 3) := by decide +kernel
theorem d_Tr_above_33 : decode b_Tr_above 33 = .ok (.iconst 0, 1) := by decide +kernel
theorem d_Tr_above_34 : decode b_Tr_above 34 = .ok (.istore 8, 2) := by decide +kernel
theorem d_Tr_above_36 : decode b_Tr_above 36 = .ok (.goto (-21), 3) := by decide +kernel
theorem d_Tr_above_39 : decode b_Tr_above 39 = .ok (.iinc 4 (-1), 3) := by decide +kernel
theorem d_Tr_above_42 : decode b_Tr_above 42 = .ok (.aload_n 0, 1) := by decide +kernel
theorem d_Tr_above_43 : decode b_Tr_above 43 = .ok (.aload_n 0, 1) := by decide +kernel
theorem d_Tr_above_44 : decode b_Tr_above 44 = .ok (.getfield 9, 3) := by decide +kernel
theorem d_Tr_above_47 : decode b_Tr_above 47 = .ok (.iload 4, 2) := by decide +kernel
theorem d_Tr_above_49 : decode b_Tr_above 49 = .ok (.iaload, 1) := by decide +kernel
theorem d_Tr_above_50 : decode b_Tr_above 50 = .ok (.aload_n 0, 1) := by decide +kernel
theorem d_Tr_above_51 : decode b_Tr_above 51 = .ok (.getfield 15, 3) := by decide +kernel
theorem d_Tr_above_54 : decode b_Tr_above 54 = .ok (.iload 4, 2) := by decide +kernel
theorem d_Tr_above_56 : decode b_Tr_above 56 = .ok (.iaload, 1) := by decide +kernel
theorem d_Tr_above_57 : decode b_Tr_above 57 = .ok (.lload 5, 2) := by decide +kernel
theorem d_Tr_above_59 : decode b_Tr_above 59 = .ok (.iload 7, 2) := by decide +kernel
theorem d_Tr_above_61 : decode b_Tr_above 61 = .ok (.invokevirtual 152, 3) := by decide +kernel
theorem d_Tr_above_64 : decode b_Tr_above 64 = .ok (.istore 8, 2) := by decide +kernel
theorem d_Tr_above_66 : decode b_Tr_above 66 = .ok (.iload 8, 2) := by decide +kernel
theorem d_Tr_above_68 : decode b_Tr_above 68 = .ok (.ifCond .eq (-53), 3) := by decide +kernel
theorem d_Tr_above_71 : decode b_Tr_above 71 = .ok (.aload_n 0, 1) := by decide +kernel
theorem d_Tr_above_72 : decode b_Tr_above 72 = .ok (.getfield 156, 3) := by decide +kernel
theorem d_Tr_above_75 : decode b_Tr_above 75 = .ok (.lstore 5, 2) := by decide +kernel
theorem d_Tr_above_77 : decode b_Tr_above 77 = .ok (.aload_n 0, 1) := by decide +kernel
theorem d_Tr_above_78 : decode b_Tr_above 78 = .ok (.getfield 160, 3) := by decide +kernel
theorem d_Tr_above_81 : decode b_Tr_above 81 = .ok (.istore 7, 2) := by decide +kernel
theorem d_Tr_above_83 : decode b_Tr_above 83 = .ok (.goto (-68), 3) := by decide +kernel
theorem d_Tr_above_86 : decode b_Tr_above 86 = .ok (.return_, 1) := by decide +kernel
noncomputable def b_Tr_above_15 (i0 : Nat) (x2 : Int32) (x3 : Int64) (x4 : Int32) (x5 : Int32) (σ6 : Sg) : Option ((Int32 × Int64 × Int32 × Int32 × Sg) ⊕ (Sg)) :=
  (if x5 = 0 then (some (.inr σ6)) else (if x2 = 0 then ((f_Tr_raise i0 x3 x4 σ6).bind (fun σ19 => some (.inl (x2, x3, x4, 0, σ19)))) else (lt_ (x2 + (-1) : Int32) (fun (x10 : Int32) => chk (vp_in x10 100) (chk (vp_in x10 100) (bn2 (f_Tr_widen i0 (gi σ6 13 i0 x10.toNatClampNeg) (gi σ6 14 i0 x10.toNatClampNeg) x3 x4 σ6) (fun r15 σ13 => (if r15 = 0 then (some (.inl (x10, x3, x4, r15, σ13))) else (lt_ (gj σ13 3 i0 12 : Int64) (fun (x16 : Int64) => lt_ (gi σ13 3 i0 13 : Int32) (fun (x17 : Int32) => some (.inl (x10, x16, x17, r15, σ13)))))))))))))
noncomputable def l_Tr_above_15 (i0 : Nat) (x2 : Int32) (x3 : Int64) (x4 : Int32) (x5 : Int32) (σ6 : Sg) : Option (Sg) := lp (fun q => b_Tr_above_15 i0 q.1 q.2.1 q.2.2.1 q.2.2.2.1 q.2.2.2.2) FU (x2, x3, x4, x5, σ6)
noncomputable def f_Tr_above (i0 : Nat) (a1 : Int64) (a3 : Int32) (σ : Sg) : Option (Sg) :=
  lt_ (gi σ 3 i0 6 : Int32) (fun (x1 : Int32) => (l_Tr_above_15 i0 x1 a1 a3 1 σ).bind (fun σ23 => some σ23))
abbrev rm_Tr_above : Room := { frames := 6, cells := 0, slots := 0, locals := 142 }
set_option maxHeartbeats 4000000 in
set_option maxRecDepth 100000 in
theorem c_Tr_above (l : Launch) (X : GX) (n : Nat) {σ σ' : Sg} {i0 : Nat} {a1 : Int64} {a3 : Int32} (h_i0 : i0 < cnt n 3) (hf : f_Tr_above i0 a1 a3 σ = some σ') : Met l y_Tr_above (cw y_Tr_above b_Tr_above 9 none) rm_Tr_above (PcG X n σ [.ref (xL X 3 i0), .long a1, .int a3]) (QcG X n σ' none) 0 0 (fr X n) := by
  refine g_head (own := "TableMachine$Tree") (by decide) rfl (Nat.le_of_ble_eq_true rfl) ?_
  intro p e s m args below meth c ls F hr hlk hP hl
  have hl : lv_has ls 9 [(0, .ref (xL X 3 i0)), (1, .long a1), (3, .int a3)] := hl
  show WG l X n rm_Tr_above σ' none p e s m args below meth c s.heap [] (F0 m 0 ls [])
  unfold f_Tr_above at hf
  refine lv_aload_n F.1 F.2.1 d_Tr_above_0 rfl (lv_at hl 0 rfl) ?_
  refine g_get F hP 3 6 i0 (by decide) h_i0 (by decide) (v := .int (gi σ 3 i0 6)) rfl w_404 d_Tr_above_1 ?_
  obtain ⟨x1, e_x1, hf⟩ := lt_some hf
  rw [← e_x1]
  refine lv_istore F.1 F.2.1 d_Tr_above_4 hl (by decide) rfl (fun ls hl => ?_)
  have hl : lv_has ls 9 [(4, .int x1), (0, .ref (xL X 3 i0)), (1, .long a1), (3, .int a3)] := hl
  refine lv_lload_n F.1 F.2.1 d_Tr_above_6 rfl (lv_at hl 2 rfl) ?_
  refine lv_lstore F.1 F.2.1 d_Tr_above_7 hl (by decide) rfl (fun ls hl => ?_)
  have hl : lv_has ls 9 [(5, .long a1), (4, .int x1), (0, .ref (xL X 3 i0)), (1, .long a1), (3, .int a3)] := hl
  refine lv_iload_n F.1 F.2.1 d_Tr_above_9 rfl (lv_at hl 4 rfl) ?_
  refine lv_istore F.1 F.2.1 d_Tr_above_10 hl (by decide) rfl (fun ls hl => ?_)
  have hl : lv_has ls 9 [(7, .int a3), (5, .long a1), (4, .int x1), (0, .ref (xL X 3 i0)), (1, .long a1), (3, .int a3)] := hl
  refine lv_iconst (v := 1) F.1 F.2.1 d_Tr_above_12 (by decide) ?_
  refine lv_istore F.1 F.2.1 d_Tr_above_13 hl (by decide) rfl (fun ls hl => ?_)
  have hl : lv_has ls 9 [(8, .int 1), (7, .int a3), (5, .long a1), (4, .int x1), (0, .ref (xL X 3 i0)), (1, .long a1), (3, .int a3)] := hl
  obtain ⟨σ23, hlp24, hf⟩ := bnd_some hf
  have KX25 : ∀ (ls : Array Slot) (H : Heap) (locs : List Loc), lv_has ls 9 [] → St X n σ23 s.heap H locs → WG l X n rm_Tr_above σ' none p e s m args below meth c H locs (F0 m 86 ls []) := by
    intro ls H locs hl hP
    cases hf
    exact g_vret F hP hr hlk d_Tr_above_86
  unfold l_Tr_above_15 at hlp24
  refine lp_W (PW := fun q => ∀ (ls : Array Slot) (H : Heap) (locs : List Loc), lv_has ls 9 [(0, .ref (xL X 3 i0)), (4, .int q.1), (5, .long q.2.1), (7, .int q.2.2.1), (8, .int q.2.2.2.1)] → St X n q.2.2.2.2 s.heap H locs → WG l X n rm_Tr_above σ' none p e s m args below meth c H locs (F0 m 15 ls [])) (PE := fun q => ∀ (ls : Array Slot) (H : Heap) (locs : List Loc), lv_has ls 9 [] → St X n q s.heap H locs → WG l X n rm_Tr_above σ' none p e s m args below meth c H locs (F0 m 86 ls [])) ?_ _ _ _ hlp24 KX25 _ _ _ (lv_sub hl [4, 3, 2, 1, 0] rfl) hP
  rintro ⟨x2, x3, x4, x5, σ6⟩ rr7 hb_15 hI8 hE9 ls H locs hl hP
  replace hb_15 : b_Tr_above_15 i0 x2 x3 x4 x5 σ6 = some rr7 := hb_15
  unfold b_Tr_above_15 at hb_15
  refine lv_iload F.1 F.2.1 d_Tr_above_15 (lv_at hl 4 rfl) ?_
  refine lv_if_eq F.1 F.2.1 d_Tr_above_17 rfl (fun hb22 => ?_) (fun hb22 => ?_)
  · rw [if_pos hb22] at hb_15
    cases hb_15
    exact hE9 _ rfl _ _ _ (lv_sub hl [] rfl) hP
  · rw [if_neg hb22] at hb_15
    refine lv_iload F.1 F.2.1 d_Tr_above_20 (lv_at hl 1 rfl) ?_
    refine lv_if_ne F.1 F.2.1 d_Tr_above_22 rfl (fun hb21 => ?_) (fun hb21 => ?_)
    · rw [if_neg hb21] at hb_15
      obtain ⟨x10, e_x10, hb_15⟩ := lt_some hb_15
      refine lv_iinc (k := 1) (v := x10) F.1 F.2.1 d_Tr_above_39 hl rfl (by rw [e_x10]; rfl) (by decide) rfl (fun ls hl => ?_)
      have hl : lv_has ls 9 [(4, .int x10), (0, .ref (xL X 3 i0)), (5, .long x3), (7, .int x4), (8, .int x5)] := hl
      refine lv_aload_n F.1 F.2.1 d_Tr_above_42 rfl (lv_at hl 1 rfl) ?_
      refine lv_aload_n F.1 F.2.1 d_Tr_above_43 rfl (lv_at hl 1 rfl) ?_
      refine g_get F hP 3 4 i0 (by decide) h_i0 (by decide) (v := .ref (xL X 13 i0)) rfl w_402 d_Tr_above_44 ?_
      refine lv_iload F.1 F.2.1 d_Tr_above_47 (lv_at hl 0 rfl) ?_
      obtain ⟨hc11, hb_15⟩ := chk_some hb_15
      refine g_ald F hP 13 (by decide) (by decide) h_i0 rfl rfl hc11 d_Tr_above_49 ?_
      refine lv_aload_n F.1 F.2.1 d_Tr_above_50 rfl (lv_at hl 1 rfl) ?_
      refine g_get F hP 3 5 i0 (by decide) h_i0 (by decide) (v := .ref (xL X 14 i0)) rfl w_403 d_Tr_above_51 ?_
      refine lv_iload F.1 F.2.1 d_Tr_above_54 (lv_at hl 0 rfl) ?_
      obtain ⟨hc12, hb_15⟩ := chk_some hb_15
      refine g_ald F hP 14 (by decide) (by decide) h_i0 rfl rfl hc12 d_Tr_above_56 ?_
      refine lv_lload F.1 F.2.1 d_Tr_above_57 (lv_at hl 2 rfl) ?_
      refine lv_iload F.1 F.2.1 d_Tr_above_59 (lv_at hl 3 rfl) ?_
      obtain ⟨r15, σ13, hk14, hb_15⟩ := bn2_some hb_15
      refine g_callV (As := [.int (gi σ6 13 i0 x10.toNatClampNeg), .int (gi σ6 14 i0 x10.toNatClampNeg), .long x3, .int x4]) (rest := []) F hP 3 i0 (by decide) h_i0 (c_Tr_widen l X n h_i0 hk14) rfl q_Tr_widen w_540 w_17 w_537 w_539 wp_13 ⟨rfl, rfl⟩ ⟨by decide, by decide⟩ hl.1 (Nat.le_of_ble_eq_true rfl) ⟨Nat.zero_le _, Nat.zero_le _⟩ d_Tr_above_61 rfl (fun H locs hP => ?_)
      refine W.eq (g2 := F0 m 64 ls [.int r15]) rfl ?_
      refine lv_istore F.1 F.2.1 d_Tr_above_64 hl (by decide) rfl (fun ls hl => ?_)
      have hl : lv_has ls 9 [(8, .int r15), (4, .int x10), (0, .ref (xL X 3 i0)), (5, .long x3), (7, .int x4)] := hl
      refine lv_iload F.1 F.2.1 d_Tr_above_66 (lv_at hl 0 rfl) ?_
      refine lv_if_eq F.1 F.2.1 d_Tr_above_68 rfl (fun hb18 => ?_) (fun hb18 => ?_)
      · rw [if_pos hb18] at hb_15
        cases hb_15
        exact hI8 _ rfl _ _ _ (lv_sub hl [2, 1, 3, 4, 0] rfl) hP
      · rw [if_neg hb18] at hb_15
        refine lv_aload_n F.1 F.2.1 d_Tr_above_71 rfl (lv_at hl 2 rfl) ?_
        refine g_get F hP 3 12 i0 (by decide) h_i0 (by decide) (v := .long (gj σ13 3 i0 12)) rfl w_410 d_Tr_above_72 ?_
        obtain ⟨x16, e_x16, hb_15⟩ := lt_some hb_15
        rw [← e_x16]
        refine lv_lstore F.1 F.2.1 d_Tr_above_75 hl (by decide) rfl (fun ls hl => ?_)
        have hl : lv_has ls 9 [(5, .long x16), (8, .int r15), (4, .int x10), (0, .ref (xL X 3 i0)), (7, .int x4)] := hl
        refine lv_aload_n F.1 F.2.1 d_Tr_above_77 rfl (lv_at hl 3 rfl) ?_
        refine g_get F hP 3 13 i0 (by decide) h_i0 (by decide) (v := .int (gi σ13 3 i0 13)) rfl w_411 d_Tr_above_78 ?_
        obtain ⟨x17, e_x17, hb_15⟩ := lt_some hb_15
        rw [← e_x17]
        refine lv_istore F.1 F.2.1 d_Tr_above_81 hl (by decide) rfl (fun ls hl => ?_)
        have hl : lv_has ls 9 [(7, .int x17), (5, .long x16), (8, .int r15), (4, .int x10), (0, .ref (xL X 3 i0))] := hl
        refine lv_goto F.1 F.2.1 d_Tr_above_83 rfl ?_
        cases hb_15
        exact hI8 _ rfl _ _ _ (lv_sub hl [4, 3, 1, 0, 2] rfl) hP
    · rw [if_pos hb21] at hb_15
      refine lv_aload_n F.1 F.2.1 d_Tr_above_25 rfl (lv_at hl 0 rfl) ?_
      refine lv_lload F.1 F.2.1 d_Tr_above_26 (lv_at hl 2 rfl) ?_
      refine lv_iload F.1 F.2.1 d_Tr_above_28 (lv_at hl 3 rfl) ?_
      obtain ⟨σ19, hk20, hb_15⟩ := bnd_some hb_15
      refine g_callV (As := [.long x3, .int x4]) (rest := []) F hP 3 i0 (by decide) h_i0 (c_Tr_raise l X n h_i0 hk20) rfl q_Tr_raise w_531 w_17 w_528 w_530 wp_11 ⟨rfl, rfl⟩ ⟨by decide, by decide⟩ hl.1 (Nat.le_of_ble_eq_true rfl) ⟨Nat.zero_le _, Nat.zero_le _⟩ d_Tr_above_30 rfl (fun H locs hP => ?_)
      refine W.eq (g2 := F0 m 33 ls []) rfl ?_
      refine lv_iconst (v := 0) F.1 F.2.1 d_Tr_above_33 (by decide) ?_
      refine lv_istore F.1 F.2.1 d_Tr_above_34 hl (by decide) rfl (fun ls hl => ?_)
      have hl : lv_has ls 9 [(8, .int 0), (0, .ref (xL X 3 i0)), (4, .int x2), (5, .long x3), (7, .int x4)] := hl
      refine lv_goto F.1 F.2.1 d_Tr_above_36 rfl ?_
      cases hb_15
      exact hI8 _ rfl _ _ _ (lv_sub hl [1, 2, 3, 4, 0] rfl) hP

theorem d_Tr_splitLeaf_0 : decode b_Tr_splitLeaf 0 = .ok (.aload_n 0, 1) := by decide +kernel
theorem d_Tr_splitLeaf_1 : decode b_Tr_splitLeaf 1 = .ok (.getfield 23, 3) := by decide +kernel
theorem d_Tr_splitLeaf_4 : decode b_Tr_splitLeaf 4 = .ok (.getfield 70, 3) := by decide +kernel
theorem d_Tr_splitLeaf_7 : decode b_Tr_splitLeaf 7 = .ok (.istore_n 3, 1) := by decide +kernel
theorem d_Tr_splitLeaf_8 : decode b_Tr_splitLeaf 8 = .ok (.aload_n 0, 1) := by decide +kernel
theorem d_Tr_splitLeaf_9 : decode b_Tr_splitLeaf 9 = .ok (.getfield 23, 3) := by decide +kernel
theorem d_Tr_splitLeaf_12 : decode b_Tr_splitLeaf 12 = .ok (.iconst 0, 1) := by decide +kernel
theorem d_Tr_splitLeaf_13 : decode b_Tr_splitLeaf 13 = .ok (.putfield 70, 3) := by decide +kernel
theorem d_Tr_splitLeaf_16 : decode b_Tr_splitLeaf 16 = .ok (.iconst 0, 1) := by decide +kernel
theorem d_Tr_splitLeaf_17 : decode b_Tr_splitLeaf 17 = .ok (.istore 4, 2) := by decide +kernel
theorem d_Tr_splitLeaf_19 : decode b_Tr_splitLeaf 19 = .ok (.iconst 0, 1) := by decide +kernel
theorem d_Tr_splitLeaf_20 : decode b_Tr_splitLeaf 20 = .ok (.istore 5, 2) := by decide +kernel
theorem d_Tr_splitLeaf_22 : decode b_Tr_splitLeaf 22 = .ok (.aload_n 0, 1) := by decide +kernel
theorem d_Tr_splitLeaf_23 : decode b_Tr_splitLeaf 23 = .ok (.getfield 23, 3) := by decide +kernel
theorem d_Tr_splitLeaf_26 : decode b_Tr_splitLeaf 26 = .ok (.getfield 70, 3) := by decide +kernel
theorem d_Tr_splitLeaf_29 : decode b_Tr_splitLeaf 29 = .ok (.iload_n 3, 1) := by decide +kernel
theorem d_Tr_splitLeaf_30 : decode b_Tr_splitLeaf 30 = .ok (.iconst 2, 1) := by decide +kernel
theorem d_Tr_splitLeaf_31 : decode b_Tr_splitLeaf 31 = .ok (.idiv, 1) := by decide +kernel
theorem d_Tr_splitLeaf_32 : decode b_Tr_splitLeaf 32 = .ok (.if_icmp .ge 29, 3) := by decide +kernel
theorem d_Tr_splitLeaf_35 : decode b_Tr_splitLeaf 35 = .ok (.aload_n 0, 1) := by decide +kernel
theorem d_Tr_splitLeaf_36 : decode b_Tr_splitLeaf 36 = .ok (.getfield 23, 3) := by decide +kernel
theorem d_Tr_splitLeaf_39 : decode b_Tr_splitLeaf 39 = .ok (.getfield 70, 3) := by decide +kernel
theorem d_Tr_splitLeaf_42 : decode b_Tr_splitLeaf 42 = .ok (.istore 5, 2) := by decide +kernel
theorem d_Tr_splitLeaf_44 : decode b_Tr_splitLeaf 44 = .ok (.aload_n 0, 1) := by decide +kernel
theorem d_Tr_splitLeaf_45 : decode b_Tr_splitLeaf 45 = .ok (.aload_n 0, 1) := by decide +kernel
theorem d_Tr_splitLeaf_46 : decode b_Tr_splitLeaf 46 = .ok (.getfield 23, 3) := by decide +kernel
theorem d_Tr_splitLeaf_49 : decode b_Tr_splitLeaf 49 = .ok (.iconst 1, 1) := by decide +kernel
theorem d_Tr_splitLeaf_50 : decode b_Tr_splitLeaf 50 = .ok (.invokevirtual 73, 3) := by decide +kernel
theorem d_Tr_splitLeaf_53 : decode b_Tr_splitLeaf 53 = .ok (.lstore 6, 2) := by decide +kernel
theorem d_Tr_splitLeaf_55 : decode b_Tr_splitLeaf 55 = .ok (.iinc 4 1, 3) := by decide +kernel
theorem d_Tr_splitLeaf_58 : decode b_Tr_splitLeaf 58 = .ok (.goto (-36), 3) := by decide +kernel
theorem d_Tr_splitLeaf_61 : decode b_Tr_splitLeaf 61 = .ok (.aload_n 0, 1) := by decide +kernel
theorem d_Tr_splitLeaf_62 : decode b_Tr_splitLeaf 62 = .ok (.getfield 23, 3) := by decide +kernel
theorem d_Tr_splitLeaf_65 : decode b_Tr_splitLeaf 65 = .ok (.getfield 70, 3) := by decide +kernel
theorem d_Tr_splitLeaf_68 : decode b_Tr_splitLeaf 68 = .ok (.bipush 126, 2) := by decide +kernel
theorem d_Tr_splitLeaf_70 : decode b_Tr_splitLeaf 70 = .ok (.if_icmp .le 15, 3) := by decide +kernel
theorem d_Tr_splitLeaf_73 : decode b_Tr_splitLeaf 73 = .ok (.aload_n 0, 1) := by decide +kernel
theorem d_Tr_splitLeaf_74 : decode b_Tr_splitLeaf 74 = .ok (.getfield 23, 3) := by decide +kernel
theorem d_Tr_splitLeaf_77 : decode b_Tr_splitLeaf 77 = .ok (.iload 5, 2) := by decide +kernel
theorem d_Tr_splitLeaf_79 : decode b_Tr_splitLeaf 79 = .ok (.putfield 70, 3) := by decide +kernel
theorem d_Tr_splitLeaf_82 : decode b_Tr_splitLeaf 82 = .ok (.iinc 4 (-1), 3) := by decide +kernel
theorem d_Tr_splitLeaf_85 : decode b_Tr_splitLeaf 85 = .ok (.aload_n 0, 1) := by decide +kernel
theorem d_Tr_splitLeaf_86 : decode b_Tr_splitLeaf 86 = .ok (.getfield 23, 3) := by decide +kernel
theorem d_Tr_splitLeaf_89 : decode b_Tr_splitLeaf 89 = .ok (.getfield 70, 3) := by decide +kernel
theorem d_Tr_splitLeaf_92 : decode b_Tr_splitLeaf 92 = .ok (.istore 6, 2) := by decide +kernel
theorem d_Tr_splitLeaf_94 : decode b_Tr_splitLeaf 94 = .ok (.aload_n 0, 1) := by decide +kernel
theorem d_Tr_splitLeaf_95 : decode b_Tr_splitLeaf 95 = .ok (.getfield 23, 3) := by decide +kernel
theorem d_Tr_splitLeaf_98 : decode b_Tr_splitLeaf 98 = .ok (.invokevirtual 62, 3) := by decide +kernel
theorem d_Tr_splitLeaf_101 : decode b_Tr_splitLeaf 101 = .ok (.lstore 7, 2) := by decide +kernel
theorem d_Tr_splitLeaf_103 : decode b_Tr_splitLeaf 103 = .ok (.aload_n 0, 1) := by decide +kernel
theorem d_Tr_splitLeaf_104 : decode b_Tr_splitLeaf 104 = .ok (.getfield 27, 3) := by decide +kernel
theorem d_Tr_splitLeaf_107 : decode b_Tr_splitLeaf 107 = .ok (.invokevirtual 35, 3) := by decide +kernel
theorem d_Tr_splitLeaf_110 : decode b_Tr_splitLeaf 110 = .ok (.istore 9, 2) := by decide +kernel
theorem d_Tr_splitLeaf_112 : decode b_Tr_splitLeaf 112 = .ok (.aload_n 0, 1) := by decide +kernel
theorem d_Tr_splitLeaf_113 : decode b_Tr_splitLeaf 113 = .ok (.iload 9, 2) := by decide +kernel
theorem d_Tr_splitLeaf_115 : decode b_Tr_splitLeaf 115 = .ok (.iconst 1, 1) := by decide +kernel
theorem d_Tr_splitLeaf_116 : decode b_Tr_splitLeaf 116 = .ok (.iload_n 2, 1) := by decide +kernel
theorem d_Tr_splitLeaf_117 : decode b_Tr_splitLeaf 117 = .ok (.iload 4, 2) := by decide +kernel
theorem d_Tr_splitLeaf_119 : decode b_Tr_splitLeaf 119 = .ok (.isub, 1) := by decide +kernel
theorem d_Tr_splitLeaf_120 : decode b_Tr_splitLeaf 120 = .ok (.iload 6, 2) := by decide +kernel
theorem d_Tr_splitLeaf_122 : decode b_Tr_splitLeaf 122 = .ok (.iload_n 3, 1) := by decide +kernel
theorem d_Tr_splitLeaf_123 : decode b_Tr_splitLeaf 123 = .ok (.invokevirtual 137, 3) := by decide +kernel
theorem d_Tr_splitLeaf_126 : decode b_Tr_splitLeaf 126 = .ok (.aload_n 0, 1) := by decide +kernel
theorem d_Tr_splitLeaf_127 : decode b_Tr_splitLeaf 127 = .ok (.iload_n 1, 1) := by decide +kernel
theorem d_Tr_splitLeaf_128 : decode b_Tr_splitLeaf 128 = .ok (.iconst 1, 1) := by decide +kernel
theorem d_Tr_splitLeaf_129 : decode b_Tr_splitLeaf 129 = .ok (.iload 4, 2) := by decide +kernel
theorem d_Tr_splitLeaf_131 : decode b_Tr_splitLeaf 131 = .ok (.iconst 0, 1) := by decide +kernel
theorem d_Tr_splitLeaf_132 : decode b_Tr_splitLeaf 132 = .ok (.iload 6, 2) := by decide +kernel
theorem d_Tr_splitLeaf_134 : decode b_Tr_splitLeaf 134 = .ok (.invokevirtual 137, 3) := by decide +kernel
theorem d_Tr_splitLeaf_137 : decode b_Tr_splitLeaf 137 = .ok (.aload_n 0, 1) := by decide +kernel
theorem d_Tr_splitLeaf_138 : decode b_Tr_splitLeaf 138 = .ok (.lload 7, 2) := by decide +kernel
theorem d_Tr_splitLeaf_140 : decode b_Tr_splitLeaf 140 = .ok (.iload 9, 2) := by decide +kernel
theorem d_Tr_splitLeaf_142 : decode b_Tr_splitLeaf 142 = .ok (.invokevirtual 145, 3) := by decide +kernel
theorem d_Tr_splitLeaf_145 : decode b_Tr_splitLeaf 145 = .ok (.return_, 1) := by decide +kernel
noncomputable def b_Tr_splitLeaf_22 (i0 : Nat) (x1 : Int32) (x3 : Int32) (x4 : Int32) (σ5 : Sg) : Option ((Int32 × Int32 × Sg) ⊕ (Int32 × Int32 × Sg)) :=
  (if (x1 / 2) ≤ (gi σ5 2 (240 + i0) 1) then (some (.inr (x3, x4, σ5))) else (lt_ (gi σ5 2 (240 + i0) 1 : Int32) (fun (x9 : Int32) => bn2 (f_Tr_pass i0 (240 + i0) 1 σ5) (fun r12 σ10 => lt_ (x3 + 1 : Int32) (fun (x13 : Int32) => some (.inl (x13, x9, σ10)))))))
noncomputable def l_Tr_splitLeaf_22 (i0 : Nat) (x1 : Int32) (x3 : Int32) (x4 : Int32) (σ5 : Sg) : Option (Int32 × Int32 × Sg) := lp (fun q => b_Tr_splitLeaf_22 i0 x1 q.1 q.2.1 q.2.2) FU (x3, x4, σ5)
noncomputable def f_Tr_splitLeaf (i0 : Nat) (a1 : Int32) (a2 : Int32) (σ : Sg) : Option (Sg) :=
  lt_ (gi σ 2 (240 + i0) 1 : Int32) (fun (x1 : Int32) => lt_ (si σ 2 (240 + i0) 1 0) (fun σ2 => bn3 (l_Tr_splitLeaf_22 i0 x1 0 0 σ2) (fun x15 x16 σ17 => bn2 (if (gi σ17 2 (240 + i0) 1) ≤ 126 then (some (x15, σ17)) else (lt_ (si σ17 2 (240 + i0) 1 x16) (fun σ24 => lt_ (x15 + (-1) : Int32) (fun (x25 : Int32) => some (x25, σ24))))) (fun (x20 : Int32) (σ21 : Sg) => lt_ (gi σ21 2 (240 + i0) 1 : Int32) (fun (x27 : Int32) => bn2 (f_Tp_takeNumber (240 + i0) σ21) (fun r30 σ28 => bn2 (f_Pg_fresh σ28) (fun r33 σ31 => (f_Tr_fill i0 r33 1 (a2 - x20) x27 x1 σ31).bind (fun σ34 => (f_Tr_fill i0 a1 1 x20 0 x27 σ34).bind (fun σ36 => (f_Tr_above i0 r30 r33 σ36).bind (fun σ38 => some σ38))))))))))
abbrev rm_Tr_splitLeaf : Room := { frames := 7, cells := 0, slots := 0, locals := 170 }
set_option maxHeartbeats 4000000 in
set_option maxRecDepth 100000 in
theorem c_Tr_splitLeaf (l : Launch) (X : GX) (n : Nat) {σ σ' : Sg} {i0 : Nat} {a1 : Int32} {a2 : Int32} (h_i0 : i0 < cnt n 3) (hf : f_Tr_splitLeaf i0 a1 a2 σ = some σ') : Met l y_Tr_splitLeaf (cw y_Tr_splitLeaf b_Tr_splitLeaf 10 none) rm_Tr_splitLeaf (PcG X n σ [.ref (xL X 3 i0), .int a1, .int a2]) (QcG X n σ' none) 0 0 (fr X n) := by
  refine g_head (own := "TableMachine$Tree") (by decide) rfl (Nat.le_of_ble_eq_true rfl) ?_
  intro p e s m args below meth c ls F hr hlk hP hl
  have hl : lv_has ls 10 [(0, .ref (xL X 3 i0)), (1, .int a1), (2, .int a2)] := hl
  show WG l X n rm_Tr_splitLeaf σ' none p e s m args below meth c s.heap [] (F0 m 0 ls [])
  unfold f_Tr_splitLeaf at hf
  refine lv_aload_n F.1 F.2.1 d_Tr_splitLeaf_0 rfl (lv_at hl 0 rfl) ?_
  refine g_get F hP 3 11 i0 (by decide) h_i0 (by decide) (v := .ref (xL X 2 (240 + i0))) rfl w_409 d_Tr_splitLeaf_1 ?_
  refine g_getN F hP 2 1 (240 + i0) (by decide) (Nat.add_lt_add_left h_i0 240) (by decide) (v := .int (gi σ 2 (240 + i0) 1)) rfl w_50 d_Tr_splitLeaf_4 ?_
  obtain ⟨x1, e_x1, hf⟩ := lt_some hf
  rw [← e_x1]
  refine lv_istore_n F.1 F.2.1 d_Tr_splitLeaf_7 rfl hl (by decide) rfl (fun ls hl => ?_)
  have hl : lv_has ls 10 [(3, .int x1), (0, .ref (xL X 3 i0)), (1, .int a1), (2, .int a2)] := hl
  refine lv_aload_n F.1 F.2.1 d_Tr_splitLeaf_8 rfl (lv_at hl 1 rfl) ?_
  refine g_get F hP 3 11 i0 (by decide) h_i0 (by decide) (v := .ref (xL X 2 (240 + i0))) rfl w_409 d_Tr_splitLeaf_9 ?_
  refine lv_iconst (v := 0) F.1 F.2.1 d_Tr_splitLeaf_12 (by decide) ?_
  obtain ⟨σ2, e_σ2, hf⟩ := lt_some hf
  refine g_puti F hP 2 1 (240 + i0) (by decide) (Nat.add_lt_add_left h_i0 240) (by decide) rfl rfl rfl rfl (Or.inr w_50) d_Tr_splitLeaf_13 e_σ2 (fun H locs hP => ?_)
  refine lv_iconst (v := 0) F.1 F.2.1 d_Tr_splitLeaf_16 (by decide) ?_
  refine lv_istore F.1 F.2.1 d_Tr_splitLeaf_17 hl (by decide) rfl (fun ls hl => ?_)
  have hl : lv_has ls 10 [(4, .int 0), (3, .int x1), (0, .ref (xL X 3 i0)), (1, .int a1), (2, .int a2)] := hl
  refine lv_iconst (v := 0) F.1 F.2.1 d_Tr_splitLeaf_19 (by decide) ?_
  refine lv_istore F.1 F.2.1 d_Tr_splitLeaf_20 hl (by decide) rfl (fun ls hl => ?_)
  have hl : lv_has ls 10 [(5, .int 0), (4, .int 0), (3, .int x1), (0, .ref (xL X 3 i0)), (1, .int a1), (2, .int a2)] := hl
  obtain ⟨x15, x16, σ17, hlp18, hf⟩ := bn3_some hf
  have KX19 : ∀ (ls : Array Slot) (H : Heap) (locs : List Loc), lv_has ls 10 [(0, .ref (xL X 3 i0)), (1, .int a1), (2, .int a2), (3, .int x1), (4, .int x15), (5, .int x16)] → St X n σ17 s.heap H locs → WG l X n rm_Tr_splitLeaf σ' none p e s m args below meth c H locs (F0 m 61 ls []) := by
    intro ls H locs hl hP
    refine lv_aload_n F.1 F.2.1 d_Tr_splitLeaf_61 rfl (lv_at hl 0 rfl) ?_
    refine g_get F hP 3 11 i0 (by decide) h_i0 (by decide) (v := .ref (xL X 2 (240 + i0))) rfl w_409 d_Tr_splitLeaf_62 ?_
    refine g_getN F hP 2 1 (240 + i0) (by decide) (Nat.add_lt_add_left h_i0 240) (by decide) (v := .int (gi σ17 2 (240 + i0) 1)) rfl w_50 d_Tr_splitLeaf_65 ?_
    refine lv_bipush (v := 126) F.1 F.2.1 d_Tr_splitLeaf_68 (by decide) ?_
    obtain ⟨x20, σ21, hj23, hf⟩ := bn2_some hf
    have KJ22 : ∀ (ls : Array Slot) (H : Heap) (locs : List Loc), lv_has ls 10 [(0, .ref (xL X 3 i0)), (1, .int a1), (2, .int a2), (3, .int x1), (4, .int x20)] → St X n σ21 s.heap H locs → WG l X n rm_Tr_splitLeaf σ' none p e s m args below meth c H locs (F0 m 85 ls []) := by
      intro ls H locs hl hP
      refine lv_aload_n F.1 F.2.1 d_Tr_splitLeaf_85 rfl (lv_at hl 0 rfl) ?_
      refine g_get F hP 3 11 i0 (by decide) h_i0 (by decide) (v := .ref (xL X 2 (240 + i0))) rfl w_409 d_Tr_splitLeaf_86 ?_
      refine g_getN F hP 2 1 (240 + i0) (by decide) (Nat.add_lt_add_left h_i0 240) (by decide) (v := .int (gi σ21 2 (240 + i0) 1)) rfl w_50 d_Tr_splitLeaf_89 ?_
      obtain ⟨x27, e_x27, hf⟩ := lt_some hf
      rw [← e_x27]
      refine lv_istore F.1 F.2.1 d_Tr_splitLeaf_92 hl (by decide) rfl (fun ls hl => ?_)
      have hl : lv_has ls 10 [(6, .int x27), (0, .ref (xL X 3 i0)), (1, .int a1), (2, .int a2), (3, .int x1), (4, .int x20)] := hl
      refine lv_aload_n F.1 F.2.1 d_Tr_splitLeaf_94 rfl (lv_at hl 1 rfl) ?_
      refine g_get F hP 3 11 i0 (by decide) h_i0 (by decide) (v := .ref (xL X 2 (240 + i0))) rfl w_409 d_Tr_splitLeaf_95 ?_
      obtain ⟨r30, σ28, hk29, hf⟩ := bn2_some hf
      refine g_callV (As := []) (rest := []) F hP 2 (240 + i0) (by decide) (Nat.add_lt_add_left h_i0 240) (c_Tp_takeNumber l X n (Nat.add_lt_add_left h_i0 240) hk29) rfl q_Tp_takeNumber w_479 w_3 w_476 w_477 w_478 ⟨rfl, rfl⟩ ⟨by decide, by decide⟩ hl.1 (Nat.le_of_ble_eq_true rfl) ⟨Nat.zero_le _, Nat.zero_le _⟩ d_Tr_splitLeaf_98 rfl (fun H locs hP => ?_)
      refine W.eq (g2 := F0 m 101 ls [.long r30]) rfl ?_
      refine lv_lstore F.1 F.2.1 d_Tr_splitLeaf_101 hl (by decide) rfl (fun ls hl => ?_)
      have hl : lv_has ls 10 [(7, .long r30), (6, .int x27), (0, .ref (xL X 3 i0)), (1, .int a1), (2, .int a2), (3, .int x1), (4, .int x20)] := hl
      refine lv_aload_n F.1 F.2.1 d_Tr_splitLeaf_103 rfl (lv_at hl 2 rfl) ?_
      refine g_get F hP 3 0 i0 (by decide) h_i0 (by decide) (v := .ref (xL X 1 0)) rfl w_396 d_Tr_splitLeaf_104 ?_
      obtain ⟨r33, σ31, hk32, hf⟩ := bn2_some hf
      refine g_callV (As := []) (rest := []) F hP 1 0 (by decide) Nat.zero_lt_one (c_Pg_fresh l X n  hk32) rfl q_Pg_fresh w_391 w_2 w_388 w_389 w_390 ⟨rfl, rfl⟩ ⟨by decide, by decide⟩ hl.1 (Nat.le_of_ble_eq_true rfl) ⟨Nat.zero_le _, Nat.zero_le _⟩ d_Tr_splitLeaf_107 rfl (fun H locs hP => ?_)
      refine W.eq (g2 := F0 m 110 ls [.int r33]) rfl ?_
      refine lv_istore F.1 F.2.1 d_Tr_splitLeaf_110 hl (by decide) rfl (fun ls hl => ?_)
      have hl : lv_has ls 10 [(9, .int r33), (7, .long r30), (6, .int x27), (0, .ref (xL X 3 i0)), (1, .int a1), (2, .int a2), (3, .int x1), (4, .int x20)] := hl
      refine lv_aload_n F.1 F.2.1 d_Tr_splitLeaf_112 rfl (lv_at hl 3 rfl) ?_
      refine lv_iload F.1 F.2.1 d_Tr_splitLeaf_113 (lv_at hl 0 rfl) ?_
      refine lv_iconst (v := 1) F.1 F.2.1 d_Tr_splitLeaf_115 (by decide) ?_
      refine lv_iload_n F.1 F.2.1 d_Tr_splitLeaf_116 rfl (lv_at hl 5 rfl) ?_
      refine lv_iload F.1 F.2.1 d_Tr_splitLeaf_117 (lv_at hl 7 rfl) ?_
      refine lv_isub F.1 F.2.1 d_Tr_splitLeaf_119 ?_
      refine lv_iload F.1 F.2.1 d_Tr_splitLeaf_120 (lv_at hl 2 rfl) ?_
      refine lv_iload_n F.1 F.2.1 d_Tr_splitLeaf_122 rfl (lv_at hl 6 rfl) ?_
      obtain ⟨σ34, hk35, hf⟩ := bnd_some hf
      refine g_callV (As := [.int r33, .int 1, .int (a2 - x20), .int x27, .int x1]) (rest := []) F hP 3 i0 (by decide) h_i0 (c_Tr_fill l X n h_i0 hk35) rfl q_Tr_fill w_519 w_17 w_516 w_518 wp_8 ⟨rfl, rfl⟩ ⟨by decide, by decide⟩ hl.1 (Nat.le_of_ble_eq_true rfl) ⟨Nat.zero_le _, Nat.zero_le _⟩ d_Tr_splitLeaf_123 rfl (fun H locs hP => ?_)
      refine W.eq (g2 := F0 m 126 ls []) rfl ?_
      refine lv_aload_n F.1 F.2.1 d_Tr_splitLeaf_126 rfl (lv_at hl 3 rfl) ?_
      refine lv_iload_n F.1 F.2.1 d_Tr_splitLeaf_127 rfl (lv_at hl 4 rfl) ?_
      refine lv_iconst (v := 1) F.1 F.2.1 d_Tr_splitLeaf_128 (by decide) ?_
      refine lv_iload F.1 F.2.1 d_Tr_splitLeaf_129 (lv_at hl 7 rfl) ?_
      refine lv_iconst (v := 0) F.1 F.2.1 d_Tr_splitLeaf_131 (by decide) ?_
      refine lv_iload F.1 F.2.1 d_Tr_splitLeaf_132 (lv_at hl 2 rfl) ?_
      obtain ⟨σ36, hk37, hf⟩ := bnd_some hf
      refine g_callV (As := [.int a1, .int 1, .int x20, .int 0, .int x27]) (rest := []) F hP 3 i0 (by decide) h_i0 (c_Tr_fill l X n h_i0 hk37) rfl q_Tr_fill w_519 w_17 w_516 w_518 wp_8 ⟨rfl, rfl⟩ ⟨by decide, by decide⟩ hl.1 (Nat.le_of_ble_eq_true rfl) ⟨Nat.zero_le _, Nat.zero_le _⟩ d_Tr_splitLeaf_134 rfl (fun H locs hP => ?_)
      refine W.eq (g2 := F0 m 137 ls []) rfl ?_
      refine lv_aload_n F.1 F.2.1 d_Tr_splitLeaf_137 rfl (lv_at hl 3 rfl) ?_
      refine lv_lload F.1 F.2.1 d_Tr_splitLeaf_138 (lv_at hl 1 rfl) ?_
      refine lv_iload F.1 F.2.1 d_Tr_splitLeaf_140 (lv_at hl 0 rfl) ?_
      obtain ⟨σ38, hk39, hf⟩ := bnd_some hf
      refine g_callV (As := [.long r30, .int r33]) (rest := []) F hP 3 i0 (by decide) h_i0 (c_Tr_above l X n h_i0 hk39) rfl q_Tr_above w_527 w_17 w_524 w_526 wp_10 ⟨rfl, rfl⟩ ⟨by decide, by decide⟩ hl.1 (Nat.le_of_ble_eq_true rfl) ⟨Nat.zero_le _, Nat.zero_le _⟩ d_Tr_splitLeaf_142 rfl (fun H locs hP => ?_)
      refine W.eq (g2 := F0 m 145 ls []) rfl ?_
      cases hf
      exact g_vret F hP hr hlk d_Tr_splitLeaf_145
    refine lv_icmp_le F.1 F.2.1 d_Tr_splitLeaf_70 rfl (fun hb26 => ?_) (fun hb26 => ?_)
    · rw [if_pos hb26] at hj23
      cases hj23
      exact KJ22 _ _ _ (lv_sub hl [0, 1, 2, 3, 4] rfl) hP
    · rw [if_neg hb26] at hj23
      refine lv_aload_n F.1 F.2.1 d_Tr_splitLeaf_73 rfl (lv_at hl 0 rfl) ?_
      refine g_get F hP 3 11 i0 (by decide) h_i0 (by decide) (v := .ref (xL X 2 (240 + i0))) rfl w_409 d_Tr_splitLeaf_74 ?_
      refine lv_iload F.1 F.2.1 d_Tr_splitLeaf_77 (lv_at hl 5 rfl) ?_
      obtain ⟨σ24, e_σ24, hj23⟩ := lt_some hj23
      refine g_puti F hP 2 1 (240 + i0) (by decide) (Nat.add_lt_add_left h_i0 240) (by decide) rfl rfl rfl rfl (Or.inr w_50) d_Tr_splitLeaf_79 e_σ24 (fun H locs hP => ?_)
      obtain ⟨x25, e_x25, hj23⟩ := lt_some hj23
      refine lv_iinc (k := 4) (v := x25) F.1 F.2.1 d_Tr_splitLeaf_82 hl rfl (by rw [e_x25]; rfl) (by decide) rfl (fun ls hl => ?_)
      have hl : lv_has ls 10 [(4, .int x25), (0, .ref (xL X 3 i0)), (1, .int a1), (2, .int a2), (3, .int x1), (5, .int x16)] := hl
      cases hj23
      exact KJ22 _ _ _ (lv_sub hl [1, 2, 3, 4, 0] rfl) hP
  unfold l_Tr_splitLeaf_22 at hlp18
  refine lp_W (PW := fun q => ∀ (ls : Array Slot) (H : Heap) (locs : List Loc), lv_has ls 10 [(0, .ref (xL X 3 i0)), (1, .int a1), (2, .int a2), (3, .int x1), (4, .int q.1), (5, .int q.2.1)] → St X n q.2.2 s.heap H locs → WG l X n rm_Tr_splitLeaf σ' none p e s m args below meth c H locs (F0 m 22 ls [])) (PE := fun q => ∀ (ls : Array Slot) (H : Heap) (locs : List Loc), lv_has ls 10 [(0, .ref (xL X 3 i0)), (1, .int a1), (2, .int a2), (3, .int x1), (4, .int q.1), (5, .int q.2.1)] → St X n q.2.2 s.heap H locs → WG l X n rm_Tr_splitLeaf σ' none p e s m args below meth c H locs (F0 m 61 ls [])) ?_ _ _ _ hlp18 KX19 _ _ _ (lv_sub hl [3, 4, 5, 2, 1, 0] rfl) hP
  rintro ⟨x3, x4, σ5⟩ rr6 hb_22 hI7 hE8 ls H locs hl hP
  replace hb_22 : b_Tr_splitLeaf_22 i0 x1 x3 x4 σ5 = some rr6 := hb_22
  unfold b_Tr_splitLeaf_22 at hb_22
  refine lv_aload_n F.1 F.2.1 d_Tr_splitLeaf_22 rfl (lv_at hl 0 rfl) ?_
  refine g_get F hP 3 11 i0 (by decide) h_i0 (by decide) (v := .ref (xL X 2 (240 + i0))) rfl w_409 d_Tr_splitLeaf_23 ?_
  refine g_getN F hP 2 1 (240 + i0) (by decide) (Nat.add_lt_add_left h_i0 240) (by decide) (v := .int (gi σ5 2 (240 + i0) 1)) rfl w_50 d_Tr_splitLeaf_26 ?_
  refine lv_iload_n F.1 F.2.1 d_Tr_splitLeaf_29 rfl (lv_at hl 3 rfl) ?_
  refine lv_iconst (v := 2) F.1 F.2.1 d_Tr_splitLeaf_30 (by decide) ?_
  refine lv_idiv F.1 F.2.1 d_Tr_splitLeaf_31 (by decide) ?_
  refine lv_icmp_ge F.1 F.2.1 d_Tr_splitLeaf_32 rfl (fun hb14 => ?_) (fun hb14 => ?_)
  · rw [if_pos hb14] at hb_22
    cases hb_22
    exact hE8 _ rfl _ _ _ (lv_sub hl [0, 1, 2, 3, 4, 5] rfl) hP
  · rw [if_neg hb14] at hb_22
    refine lv_aload_n F.1 F.2.1 d_Tr_splitLeaf_35 rfl (lv_at hl 0 rfl) ?_
    refine g_get F hP 3 11 i0 (by decide) h_i0 (by decide) (v := .ref (xL X 2 (240 + i0))) rfl w_409 d_Tr_splitLeaf_36 ?_
    refine g_getN F hP 2 1 (240 + i0) (by decide) (Nat.add_lt_add_left h_i0 240) (by decide) (v := .int (gi σ5 2 (240 + i0) 1)) rfl w_50 d_Tr_splitLeaf_39 ?_
    obtain ⟨x9, e_x9, hb_22⟩ := lt_some hb_22
    rw [← e_x9]
    refine lv_istore F.1 F.2.1 d_Tr_splitLeaf_42 hl (by decide) rfl (fun ls hl => ?_)
    have hl : lv_has ls 10 [(5, .int x9), (0, .ref (xL X 3 i0)), (1, .int a1), (2, .int a2), (3, .int x1), (4, .int x3)] := hl
    refine lv_aload_n F.1 F.2.1 d_Tr_splitLeaf_44 rfl (lv_at hl 1 rfl) ?_
    refine lv_aload_n F.1 F.2.1 d_Tr_splitLeaf_45 rfl (lv_at hl 1 rfl) ?_
    refine g_get F hP 3 11 i0 (by decide) h_i0 (by decide) (v := .ref (xL X 2 (240 + i0))) rfl w_409 d_Tr_splitLeaf_46 ?_
    refine lv_iconst (v := 1) F.1 F.2.1 d_Tr_splitLeaf_49 (by decide) ?_
    obtain ⟨r12, σ10, hk11, hb_22⟩ := bn2_some hb_22
    refine g_callV (As := [.ref (xL X 2 (240 + i0)), .int 1]) (rest := []) F hP 3 i0 (by decide) h_i0 (c_Tr_pass l X n h_i0 (Nat.add_lt_add_left h_i0 240) hk11) rfl q_Tr_pass w_484 w_17 w_481 w_483 wp_5 ⟨rfl, rfl⟩ ⟨by decide, by decide⟩ hl.1 (Nat.le_of_ble_eq_true rfl) ⟨Nat.zero_le _, Nat.zero_le _⟩ d_Tr_splitLeaf_50 rfl (fun H locs hP => ?_)
    refine W.eq (g2 := F0 m 53 ls [.long r12]) rfl ?_
    refine lv_lstore F.1 F.2.1 d_Tr_splitLeaf_53 hl (by decide) rfl (fun ls hl => ?_)
    have hl : lv_has ls 10 [(6, .long r12), (5, .int x9), (0, .ref (xL X 3 i0)), (1, .int a1), (2, .int a2), (3, .int x1), (4, .int x3)] := hl
    obtain ⟨x13, e_x13, hb_22⟩ := lt_some hb_22
    refine lv_iinc (k := 6) (v := x13) F.1 F.2.1 d_Tr_splitLeaf_55 hl rfl (by rw [e_x13]; rfl) (by decide) rfl (fun ls hl => ?_)
    have hl : lv_has ls 10 [(4, .int x13), (6, .long r12), (5, .int x9), (0, .ref (xL X 3 i0)), (1, .int a1), (2, .int a2), (3, .int x1)] := hl
    refine lv_goto F.1 F.2.1 d_Tr_splitLeaf_58 rfl ?_
    cases hb_22
    exact hI7 _ rfl _ _ _ (lv_sub hl [3, 4, 5, 6, 0, 2] rfl) hP

theorem d_Tr_place_0 : decode b_Tr_place 0 = .ok (.aload_n 0, 1) := by decide +kernel
theorem d_Tr_place_1 : decode b_Tr_place 1 = .ok (.lload_n 1, 1) := by decide +kernel
theorem d_Tr_place_2 : decode b_Tr_place 2 = .ok (.invokevirtual 94, 3) := by decide +kernel
theorem d_Tr_place_5 : decode b_Tr_place 5 = .ok (.aload_n 0, 1) := by decide +kernel
theorem d_Tr_place_6 : decode b_Tr_place 6 = .ok (.invokevirtual 98, 3) := by decide +kernel
theorem d_Tr_place_9 : decode b_Tr_place 9 = .ok (.istore 4, 2) := by decide +kernel
theorem d_Tr_place_11 : decode b_Tr_place 11 = .ok (.aload_n 0, 1) := by decide +kernel
theorem d_Tr_place_12 : decode b_Tr_place 12 = .ok (.iload 4, 2) := by decide +kernel
theorem d_Tr_place_14 : decode b_Tr_place 14 = .ok (.invokevirtual 125, 3) := by decide +kernel
theorem d_Tr_place_17 : decode b_Tr_place 17 = .ok (.istore 5, 2) := by decide +kernel
theorem d_Tr_place_19 : decode b_Tr_place 19 = .ok (.aload_n 0, 1) := by decide +kernel
theorem d_Tr_place_20 : decode b_Tr_place 20 = .ok (.getfield 27, 3) := by decide +kernel
theorem d_Tr_place_23 : decode b_Tr_place 23 = .ok (.iload 4, 2) := by decide +kernel
theorem d_Tr_place_25 : decode b_Tr_place 25 = .ok (.invokevirtual 48, 3) := by decide +kernel
theorem d_Tr_place_28 : decode b_Tr_place 28 = .ok (.astore 6, 2) := by decide +kernel
theorem d_Tr_place_30 : decode b_Tr_place 30 = .ok (.aload_n 0, 1) := by decide +kernel
theorem d_Tr_place_31 : decode b_Tr_place 31 = .ok (.getfield 23, 3) := by decide +kernel
theorem d_Tr_place_34 : decode b_Tr_place 34 = .ok (.iconst 0, 1) := by decide +kernel
theorem d_Tr_place_35 : decode b_Tr_place 35 = .ok (.putfield 70, 3) := by decide +kernel
theorem d_Tr_place_38 : decode b_Tr_place 38 = .ok (.aload_n 0, 1) := by decide +kernel
theorem d_Tr_place_39 : decode b_Tr_place 39 = .ok (.getfield 23, 3) := by decide +kernel
theorem d_Tr_place_42 : decode b_Tr_place 42 = .ok (.aload 6, 2) := by decide +kernel
theorem d_Tr_place_44 : decode b_Tr_place 44 = .ok (.iconst 2, 1) := by decide +kernel
theorem d_Tr_place_45 : decode b_Tr_place 45 = .ok (.aload_n 0, 1) := by decide +kernel
theorem d_Tr_place_46 : decode b_Tr_place 46 = .ok (.getfield 88, 3) := by decide +kernel
theorem d_Tr_place_49 : decode b_Tr_place 49 = .ok (.invokevirtual 121, 3) := by decide +kernel
theorem d_Tr_place_52 : decode b_Tr_place 52 = .ok (.aload_n 0, 1) := by decide +kernel
theorem d_Tr_place_53 : decode b_Tr_place 53 = .ok (.getfield 23, 3) := by decide +kernel
theorem d_Tr_place_56 : decode b_Tr_place 56 = .ok (.lload_n 1, 1) := by decide +kernel
theorem d_Tr_place_57 : decode b_Tr_place 57 = .ok (.invokevirtual 128, 3) := by decide +kernel
theorem d_Tr_place_60 : decode b_Tr_place 60 = .ok (.aload_n 3, 1) := by decide +kernel
theorem d_Tr_place_61 : decode b_Tr_place 61 = .ok (.aload_n 0, 1) := by decide +kernel
theorem d_Tr_place_62 : decode b_Tr_place 62 = .ok (.getfield 23, 3) := by decide +kernel
theorem d_Tr_place_65 : decode b_Tr_place 65 = .ok (.aload_n 0, 1) := by decide +kernel
theorem d_Tr_place_66 : decode b_Tr_place 66 = .ok (.getfield 31, 3) := by decide +kernel
theorem d_Tr_place_69 : decode b_Tr_place 69 = .ok (.invokevirtual 131, 3) := by decide +kernel
theorem d_Tr_place_72 : decode b_Tr_place 72 = .ok (.aload_n 0, 1) := by decide +kernel
theorem d_Tr_place_73 : decode b_Tr_place 73 = .ok (.getfield 23, 3) := by decide +kernel
theorem d_Tr_place_76 : decode b_Tr_place 76 = .ok (.aload 6, 2) := by decide +kernel
theorem d_Tr_place_78 : decode b_Tr_place 78 = .ok (.aload_n 0, 1) := by decide +kernel
theorem d_Tr_place_79 : decode b_Tr_place 79 = .ok (.getfield 88, 3) := by decide +kernel
theorem d_Tr_place_82 : decode b_Tr_place 82 = .ok (.iload 5, 2) := by decide +kernel
theorem d_Tr_place_84 : decode b_Tr_place 84 = .ok (.invokevirtual 121, 3) := by decide +kernel
theorem d_Tr_place_87 : decode b_Tr_place 87 = .ok (.aload_n 0, 1) := by decide +kernel
theorem d_Tr_place_88 : decode b_Tr_place 88 = .ok (.dup, 1) := by decide +kernel
theorem d_Tr_place_89 : decode b_Tr_place 89 = .ok (.getfield 134, 3) := by decide +kernel
theorem d_Tr_place_92 : decode b_Tr_place 92 = .ok (.iconst 1, 1) := by decide +kernel
theorem d_Tr_place_93 : decode b_Tr_place 93 = .ok (.iadd, 1) := by decide +kernel
theorem d_Tr_place_94 : decode b_Tr_place 94 = .ok (.putfield 134, 3) := by decide +kernel
theorem d_Tr_place_97 : decode b_Tr_place 97 = .ok (.aload_n 0, 1) := by decide +kernel
theorem d_Tr_place_98 : decode b_Tr_place 98 = .ok (.getfield 23, 3) := by decide +kernel
theorem d_Tr_place_101 : decode b_Tr_place 101 = .ok (.getfield 70, 3) := by decide +kernel
theorem d_Tr_place_104 : decode b_Tr_place 104 = .ok (.bipush 126, 2) := by decide +kernel
theorem d_Tr_place_106 : decode b_Tr_place 106 = .ok (.if_icmp .gt 32, 3) := by decide +kernel
theorem d_Tr_place_109 : decode b_Tr_place 109 = .ok (.aload_n 0, 1) := by decide +kernel
theorem d_Tr_place_110 : decode b_Tr_place 110 = .ok (.iload 4, 2) := by decide +kernel
theorem d_Tr_place_112 : decode b_Tr_place 112 = .ok (.iconst 1, 1) := by decide +kernel
theorem d_Tr_place_113 : decode b_Tr_place 113 = .ok (.aload_n 0, 1) := by decide +kernel
theorem d_Tr_place_114 : decode b_Tr_place 114 = .ok (.getfield 27, 3) := by decide +kernel
theorem d_Tr_place_117 : decode b_Tr_place 117 = .ok (.iload 4, 2) := by decide +kernel
theorem d_Tr_place_119 : decode b_Tr_place 119 = .ok (.invokevirtual 58, 3) := by decide +kernel
theorem d_Tr_place_122 : decode b_Tr_place 122 = .ok (.iconst 1, 1) := by decide +kernel
theorem d_Tr_place_123 : decode b_Tr_place 123 = .ok (.iadd, 1) := by decide +kernel
theorem d_Tr_place_124 : decode b_Tr_place 124 = .ok (.iconst 0, 1) := by decide +kernel
theorem d_Tr_place_125 : decode b_Tr_place 125 = .ok (.aload_n 0, 1) := by decide +kernel
theorem d_Tr_place_126 : decode b_Tr_place 126 = .ok (.getfield 23, 3) := by decide +kernel
theorem d_Tr_place_129 : decode b_Tr_place 129 = .ok (.getfield 70, 3) := by decide +kernel
theorem d_Tr_place_132 : decode b_Tr_place 132 = .ok (.invokevirtual 137, 3) := by decide +kernel
theorem d_Tr_place_135 : decode b_Tr_place 135 = .ok (.goto 20, 3) := by decide +kernel
theorem d_Tr_place_138 : decode b_Tr_place 138 = .ok (.aload_n 0, 1) := by decide +kernel
theorem d_Tr_place_139 : decode b_Tr_place 139 = .ok (.iload 4, 2) := by decide +kernel
theorem d_Tr_place_141 : decode b_Tr_place 141 = .ok (.aload_n 0, 1) := by decide +kernel
theorem d_Tr_place_142 : decode b_Tr_place 142 = .ok (.getfield 27, 3) := by decide +kernel
theorem d_Tr_place_145 : decode b_Tr_place 145 = .ok (.iload 4, 2) := by decide +kernel
theorem d_Tr_place_147 : decode b_Tr_place 147 = .ok (.invokevirtual 58, 3) := by decide +kernel
theorem d_Tr_place_150 : decode b_Tr_place 150 = .ok (.iconst 1, 1) := by decide +kernel
theorem d_Tr_place_151 : decode b_Tr_place 151 = .ok (.iadd, 1) := by decide +kernel
theorem d_Tr_place_152 : decode b_Tr_place 152 = .ok (.invokevirtual 141, 3) := by decide +kernel
theorem d_Tr_place_155 : decode b_Tr_place 155 = .ok (.return_, 1) := by decide +kernel
noncomputable def f_Tr_place (i0 : Nat) (a1 : Int64) (i3 : Nat) (σ : Sg) : Option (Sg) :=
  (f_Tr_find i0 a1 σ).bind (fun σ1 => bn2 (f_Tr_leaf i0 σ1) (fun r5 σ3 => bn2 (f_Tr_size i0 r5 σ3) (fun r8 σ6 => bn2 (f_Pg_open r5 σ6) (fun r11 σ9 => lt_ (si σ9 2 (240 + i0) 1 0) (fun σ13 => (f_Tp_copy (240 + i0) r11 2 (gi σ13 3 i0 7) σ13).bind (fun σ14 => (f_Tp_number (240 + i0) a1 σ14).bind (fun σ16 => (f_Rc_write i3 (240 + i0) (gi σ16 3 i0 2) σ16).bind (fun σ18 => (f_Tp_copy (240 + i0) r11 (gi σ18 3 i0 7) r8 σ18).bind (fun σ20 => lt_ (si σ20 3 i0 3 ((gi σ20 3 i0 3) + 1)) (fun σ22 => Option.bind (if 126 < (gi σ22 2 (240 + i0) 1) then (bn2 (f_Pg_cells r5 σ22) (fun r28 σ26 => (f_Tr_splitLeaf i0 r5 (r28 + 1) σ26).bind (fun σ29 => some (σ29)))) else (bn2 (f_Pg_cells r5 σ22) (fun r33 σ31 => (f_Tr_fill i0 r5 1 (r33 + 1) 0 (gi σ31 2 (240 + i0) 1) σ31).bind (fun σ34 => some (σ34))))) (fun (σ23 : Sg) => some σ23)))))))))))
abbrev rm_Tr_place : Room := { frames := 8, cells := 0, slots := 0, locals := 199 }
set_option maxHeartbeats 4000000 in
set_option maxRecDepth 100000 in
theorem c_Tr_place (l : Launch) (X : GX) (n : Nat) {σ σ' : Sg} {i0 : Nat} {a1 : Int64} {i3 : Nat} (h_i0 : i0 < cnt n 3) (h_i3 : i3 < cnt n 4) (hf : f_Tr_place i0 a1 i3 σ = some σ') : Met l y_Tr_place (cw y_Tr_place b_Tr_place 7 none) rm_Tr_place (PcG X n σ [.ref (xL X 3 i0), .long a1, .ref (xL X 4 i3)]) (QcG X n σ' none) 0 0 (fr X n) := by
  refine g_head (own := "TableMachine$Tree") (by decide) rfl (Nat.le_of_ble_eq_true rfl) ?_
  intro p e s m args below meth c ls F hr hlk hP hl
  have hl : lv_has ls 7 [(0, .ref (xL X 3 i0)), (1, .long a1), (3, .ref (xL X 4 i3))] := hl
  show WG l X n rm_Tr_place σ' none p e s m args below meth c s.heap [] (F0 m 0 ls [])
  unfold f_Tr_place at hf
  refine lv_aload_n F.1 F.2.1 d_Tr_place_0 rfl (lv_at hl 0 rfl) ?_
  refine lv_lload_n F.1 F.2.1 d_Tr_place_1 rfl (lv_at hl 1 rfl) ?_
  obtain ⟨σ1, hk2, hf⟩ := bnd_some hf
  refine g_callV (As := [.long a1]) (rest := []) F hP 3 i0 (by decide) h_i0 (c_Tr_find l X n h_i0 hk2) rfl q_Tr_find w_455 w_17 w_452 w_454 wp_3 ⟨rfl, rfl⟩ ⟨by decide, by decide⟩ hl.1 (Nat.le_of_ble_eq_true rfl) ⟨Nat.zero_le _, Nat.zero_le _⟩ d_Tr_place_2 rfl (fun H locs hP => ?_)
  refine W.eq (g2 := F0 m 5 ls []) rfl ?_
  refine lv_aload_n F.1 F.2.1 d_Tr_place_5 rfl (lv_at hl 0 rfl) ?_
  obtain ⟨r5, σ3, hk4, hf⟩ := bn2_some hf
  refine g_callV (As := []) (rest := []) F hP 3 i0 (by decide) h_i0 (c_Tr_leaf l X n h_i0 hk4) rfl q_Tr_leaf w_492 w_17 w_489 w_491 wp_6 ⟨rfl, rfl⟩ ⟨by decide, by decide⟩ hl.1 (Nat.le_of_ble_eq_true rfl) ⟨Nat.zero_le _, Nat.zero_le _⟩ d_Tr_place_6 rfl (fun H locs hP => ?_)
  refine W.eq (g2 := F0 m 9 ls [.int r5]) rfl ?_
  refine lv_istore F.1 F.2.1 d_Tr_place_9 hl (by decide) rfl (fun ls hl => ?_)
  have hl : lv_has ls 7 [(4, .int r5), (0, .ref (xL X 3 i0)), (1, .long a1), (3, .ref (xL X 4 i3))] := hl
  refine lv_aload_n F.1 F.2.1 d_Tr_place_11 rfl (lv_at hl 1 rfl) ?_
  refine lv_iload F.1 F.2.1 d_Tr_place_12 (lv_at hl 0 rfl) ?_
  obtain ⟨r8, σ6, hk7, hf⟩ := bn2_some hf
  refine g_callV (As := [.int r5]) (rest := []) F hP 3 i0 (by decide) h_i0 (c_Tr_size l X n h_i0 hk7) rfl q_Tr_size w_496 w_17 w_493 w_495 wp_7 ⟨rfl, rfl⟩ ⟨by decide, by decide⟩ hl.1 (Nat.le_of_ble_eq_true rfl) ⟨Nat.zero_le _, Nat.zero_le _⟩ d_Tr_place_14 rfl (fun H locs hP => ?_)
  refine W.eq (g2 := F0 m 17 ls [.int r8]) rfl ?_
  refine lv_istore F.1 F.2.1 d_Tr_place_17 hl (by decide) rfl (fun ls hl => ?_)
  have hl : lv_has ls 7 [(5, .int r8), (4, .int r5), (0, .ref (xL X 3 i0)), (1, .long a1), (3, .ref (xL X 4 i3))] := hl
  refine lv_aload_n F.1 F.2.1 d_Tr_place_19 rfl (lv_at hl 2 rfl) ?_
  refine g_get F hP 3 0 i0 (by decide) h_i0 (by decide) (v := .ref (xL X 1 0)) rfl w_396 d_Tr_place_20 ?_
  refine lv_iload F.1 F.2.1 d_Tr_place_23 (lv_at hl 1 rfl) ?_
  obtain ⟨r11, σ9, hk10, hf⟩ := bn2_some hf
  have hv12 : r11 < cnt n 2 := v_Pg_open  hk10
  refine g_callV (As := [.int r5]) (rest := []) F hP 1 0 (by decide) Nat.zero_lt_one (c_Pg_open l X n  hk10) rfl q_Pg_open w_467 w_2 w_464 w_465 w_466 ⟨rfl, rfl⟩ ⟨by decide, by decide⟩ hl.1 (Nat.le_of_ble_eq_true rfl) ⟨Nat.zero_le _, Nat.zero_le _⟩ d_Tr_place_25 rfl (fun H locs hP => ?_)
  refine W.eq (g2 := F0 m 28 ls [.ref (xL X 2 r11)]) rfl ?_
  refine lv_astore F.1 F.2.1 d_Tr_place_28 hl (by decide) rfl (fun ls hl => ?_)
  have hl : lv_has ls 7 [(6, .ref (xL X 2 r11)), (5, .int r8), (4, .int r5), (0, .ref (xL X 3 i0)), (1, .long a1), (3, .ref (xL X 4 i3))] := hl
  refine lv_aload_n F.1 F.2.1 d_Tr_place_30 rfl (lv_at hl 3 rfl) ?_
  refine g_get F hP 3 11 i0 (by decide) h_i0 (by decide) (v := .ref (xL X 2 (240 + i0))) rfl w_409 d_Tr_place_31 ?_
  refine lv_iconst (v := 0) F.1 F.2.1 d_Tr_place_34 (by decide) ?_
  obtain ⟨σ13, e_σ13, hf⟩ := lt_some hf
  refine g_puti F hP 2 1 (240 + i0) (by decide) (Nat.add_lt_add_left h_i0 240) (by decide) rfl rfl rfl rfl (Or.inr w_50) d_Tr_place_35 e_σ13 (fun H locs hP => ?_)
  refine lv_aload_n F.1 F.2.1 d_Tr_place_38 rfl (lv_at hl 3 rfl) ?_
  refine g_get F hP 3 11 i0 (by decide) h_i0 (by decide) (v := .ref (xL X 2 (240 + i0))) rfl w_409 d_Tr_place_39 ?_
  refine lv_aload F.1 F.2.1 d_Tr_place_42 (lv_at hl 0 rfl) ?_
  refine lv_iconst (v := 2) F.1 F.2.1 d_Tr_place_44 (by decide) ?_
  refine lv_aload_n F.1 F.2.1 d_Tr_place_45 rfl (lv_at hl 3 rfl) ?_
  refine g_get F hP 3 7 i0 (by decide) h_i0 (by decide) (v := .int (gi σ13 3 i0 7)) rfl w_405 d_Tr_place_46 ?_
  obtain ⟨σ14, hk15, hf⟩ := bnd_some hf
  refine g_callV (As := [.ref (xL X 2 r11), .int 2, .int (gi σ13 3 i0 7)]) (rest := []) F hP 2 (240 + i0) (by decide) (Nat.add_lt_add_left h_i0 240) (c_Tp_copy l X n (Nat.add_lt_add_left h_i0 240) hv12 hk15) rfl q_Tp_copy w_500 w_3 w_497 w_498 w_499 ⟨rfl, rfl⟩ ⟨by decide, by decide⟩ hl.1 (Nat.le_of_ble_eq_true rfl) ⟨Nat.zero_le _, Nat.zero_le _⟩ d_Tr_place_49 rfl (fun H locs hP => ?_)
  refine W.eq (g2 := F0 m 52 ls []) rfl ?_
  refine lv_aload_n F.1 F.2.1 d_Tr_place_52 rfl (lv_at hl 3 rfl) ?_
  refine g_get F hP 3 11 i0 (by decide) h_i0 (by decide) (v := .ref (xL X 2 (240 + i0))) rfl w_409 d_Tr_place_53 ?_
  refine lv_lload_n F.1 F.2.1 d_Tr_place_56 rfl (lv_at hl 4 rfl) ?_
  obtain ⟨σ16, hk17, hf⟩ := bnd_some hf
  refine g_callV (As := [.long a1]) (rest := []) F hP 2 (240 + i0) (by decide) (Nat.add_lt_add_left h_i0 240) (c_Tp_number l X n (Nat.add_lt_add_left h_i0 240) hk17) rfl q_Tp_number w_508 w_3 w_505 w_506 w_507 ⟨rfl, rfl⟩ ⟨by decide, by decide⟩ hl.1 (Nat.le_of_ble_eq_true rfl) ⟨Nat.zero_le _, Nat.zero_le _⟩ d_Tr_place_57 rfl (fun H locs hP => ?_)
  refine W.eq (g2 := F0 m 60 ls []) rfl ?_
  refine lv_aload_n F.1 F.2.1 d_Tr_place_60 rfl (lv_at hl 5 rfl) ?_
  refine lv_aload_n F.1 F.2.1 d_Tr_place_61 rfl (lv_at hl 3 rfl) ?_
  refine g_get F hP 3 11 i0 (by decide) h_i0 (by decide) (v := .ref (xL X 2 (240 + i0))) rfl w_409 d_Tr_place_62 ?_
  refine lv_aload_n F.1 F.2.1 d_Tr_place_65 rfl (lv_at hl 3 rfl) ?_
  refine g_get F hP 3 2 i0 (by decide) h_i0 (by decide) (v := .int (gi σ16 3 i0 2)) rfl w_398 d_Tr_place_66 ?_
  obtain ⟨σ18, hk19, hf⟩ := bnd_some hf
  refine g_callV (As := [.ref (xL X 2 (240 + i0)), .int (gi σ16 3 i0 2)]) (rest := []) F hP 4 i3 (by decide) h_i3 (c_Rc_write l X n h_i3 (Nat.add_lt_add_left h_i0 240) hk19) rfl q_Rc_write w_513 w_4 w_510 w_511 w_512 ⟨rfl, rfl⟩ ⟨by decide, by decide⟩ hl.1 (Nat.le_of_ble_eq_true rfl) ⟨Nat.zero_le _, Nat.zero_le _⟩ d_Tr_place_69 rfl (fun H locs hP => ?_)
  refine W.eq (g2 := F0 m 72 ls []) rfl ?_
  refine lv_aload_n F.1 F.2.1 d_Tr_place_72 rfl (lv_at hl 3 rfl) ?_
  refine g_get F hP 3 11 i0 (by decide) h_i0 (by decide) (v := .ref (xL X 2 (240 + i0))) rfl w_409 d_Tr_place_73 ?_
  refine lv_aload F.1 F.2.1 d_Tr_place_76 (lv_at hl 0 rfl) ?_
  refine lv_aload_n F.1 F.2.1 d_Tr_place_78 rfl (lv_at hl 3 rfl) ?_
  refine g_get F hP 3 7 i0 (by decide) h_i0 (by decide) (v := .int (gi σ18 3 i0 7)) rfl w_405 d_Tr_place_79 ?_
  refine lv_iload F.1 F.2.1 d_Tr_place_82 (lv_at hl 1 rfl) ?_
  obtain ⟨σ20, hk21, hf⟩ := bnd_some hf
  refine g_callV (As := [.ref (xL X 2 r11), .int (gi σ18 3 i0 7), .int r8]) (rest := []) F hP 2 (240 + i0) (by decide) (Nat.add_lt_add_left h_i0 240) (c_Tp_copy l X n (Nat.add_lt_add_left h_i0 240) hv12 hk21) rfl q_Tp_copy w_500 w_3 w_497 w_498 w_499 ⟨rfl, rfl⟩ ⟨by decide, by decide⟩ hl.1 (Nat.le_of_ble_eq_true rfl) ⟨Nat.zero_le _, Nat.zero_le _⟩ d_Tr_place_84 rfl (fun H locs hP => ?_)
  refine W.eq (g2 := F0 m 87 ls []) rfl ?_
  refine lv_aload_n F.1 F.2.1 d_Tr_place_87 rfl (lv_at hl 3 rfl) ?_
  refine lv_dup F.1 F.2.1 d_Tr_place_88 rfl ?_
  refine g_get F hP 3 3 i0 (by decide) h_i0 (by decide) (v := .int (gi σ20 3 i0 3)) rfl w_401 d_Tr_place_89 ?_
  refine lv_iconst (v := 1) F.1 F.2.1 d_Tr_place_92 (by decide) ?_
  refine lv_iadd F.1 F.2.1 d_Tr_place_93 ?_
  obtain ⟨σ22, e_σ22, hf⟩ := lt_some hf
  refine g_puti F hP 3 3 i0 (by decide) h_i0 (by decide) rfl rfl rfl rfl (Or.inl w_401) d_Tr_place_94 e_σ22 (fun H locs hP => ?_)
  refine lv_aload_n F.1 F.2.1 d_Tr_place_97 rfl (lv_at hl 3 rfl) ?_
  refine g_get F hP 3 11 i0 (by decide) h_i0 (by decide) (v := .ref (xL X 2 (240 + i0))) rfl w_409 d_Tr_place_98 ?_
  refine g_getN F hP 2 1 (240 + i0) (by decide) (Nat.add_lt_add_left h_i0 240) (by decide) (v := .int (gi σ22 2 (240 + i0) 1)) rfl w_50 d_Tr_place_101 ?_
  refine lv_bipush (v := 126) F.1 F.2.1 d_Tr_place_104 (by decide) ?_
  obtain ⟨σ23, hj25, hf⟩ := bnd_some hf
  have KJ24 : ∀ (ls : Array Slot) (H : Heap) (locs : List Loc), lv_has ls 7 [] → St X n σ23 s.heap H locs → WG l X n rm_Tr_place σ' none p e s m args below meth c H locs (F0 m 155 ls []) := by
    intro ls H locs hl hP
    cases hf
    exact g_vret F hP hr hlk d_Tr_place_155
  refine lv_icmp_gt F.1 F.2.1 d_Tr_place_106 rfl (fun hb36 => ?_) (fun hb36 => ?_)
  · rw [if_pos hb36] at hj25
    refine lv_aload_n F.1 F.2.1 d_Tr_place_138 rfl (lv_at hl 3 rfl) ?_
    refine lv_iload F.1 F.2.1 d_Tr_place_139 (lv_at hl 2 rfl) ?_
    refine lv_aload_n F.1 F.2.1 d_Tr_place_141 rfl (lv_at hl 3 rfl) ?_
    refine g_get F hP 3 0 i0 (by decide) h_i0 (by decide) (v := .ref (xL X 1 0)) rfl w_396 d_Tr_place_142 ?_
    refine lv_iload F.1 F.2.1 d_Tr_place_145 (lv_at hl 2 rfl) ?_
    obtain ⟨r28, σ26, hk27, hj25⟩ := bn2_some hj25
    refine g_callV (As := [.int r5]) (rest := [.int r5, .ref (xL X 3 i0)]) F hP 1 0 (by decide) Nat.zero_lt_one (c_Pg_cells l X n  hk27) rfl q_Pg_cells w_475 w_2 w_472 w_473 w_474 ⟨rfl, rfl⟩ ⟨by decide, by decide⟩ hl.1 (Nat.le_of_ble_eq_true rfl) ⟨Nat.zero_le _, Nat.zero_le _⟩ d_Tr_place_147 rfl (fun H locs hP => ?_)
    refine W.eq (g2 := F0 m 150 ls [.int r28, .int r5, .ref (xL X 3 i0)]) rfl ?_
    refine lv_iconst (v := 1) F.1 F.2.1 d_Tr_place_150 (by decide) ?_
    refine lv_iadd F.1 F.2.1 d_Tr_place_151 ?_
    obtain ⟨σ29, hk30, hj25⟩ := bnd_some hj25
    refine g_callV (As := [.int r5, .int (r28 + 1)]) (rest := []) F hP 3 i0 (by decide) h_i0 (c_Tr_splitLeaf l X n h_i0 hk30) rfl q_Tr_splitLeaf w_523 w_17 w_520 w_522 wp_9 ⟨rfl, rfl⟩ ⟨by decide, by decide⟩ hl.1 (Nat.le_of_ble_eq_true rfl) ⟨Nat.zero_le _, Nat.zero_le _⟩ d_Tr_place_152 rfl (fun H locs hP => ?_)
    refine W.eq (g2 := F0 m 155 ls []) rfl ?_
    cases hj25
    exact KJ24 _ _ _ (lv_sub hl [] rfl) hP
  · rw [if_neg hb36] at hj25
    refine lv_aload_n F.1 F.2.1 d_Tr_place_109 rfl (lv_at hl 3 rfl) ?_
    refine lv_iload F.1 F.2.1 d_Tr_place_110 (lv_at hl 2 rfl) ?_
    refine lv_iconst (v := 1) F.1 F.2.1 d_Tr_place_112 (by decide) ?_
    refine lv_aload_n F.1 F.2.1 d_Tr_place_113 rfl (lv_at hl 3 rfl) ?_
    refine g_get F hP 3 0 i0 (by decide) h_i0 (by decide) (v := .ref (xL X 1 0)) rfl w_396 d_Tr_place_114 ?_
    refine lv_iload F.1 F.2.1 d_Tr_place_117 (lv_at hl 2 rfl) ?_
    obtain ⟨r33, σ31, hk32, hj25⟩ := bn2_some hj25
    refine g_callV (As := [.int r5]) (rest := [.int 1, .int r5, .ref (xL X 3 i0)]) F hP 1 0 (by decide) Nat.zero_lt_one (c_Pg_cells l X n  hk32) rfl q_Pg_cells w_475 w_2 w_472 w_473 w_474 ⟨rfl, rfl⟩ ⟨by decide, by decide⟩ hl.1 (Nat.le_of_ble_eq_true rfl) ⟨Nat.zero_le _, Nat.zero_le _⟩ d_Tr_place_119 rfl (fun H locs hP => ?_)
    refine W.eq (g2 := F0 m 122 ls [.int r33, .int 1, .int r5, .ref (xL X 3 i0)]) rfl ?_
    refine lv_iconst (v := 1) F.1 F.2.1 d_Tr_place_122 (by decide) ?_
    refine lv_iadd F.1 F.2.1 d_Tr_place_123 ?_
    refine lv_iconst (v := 0) F.1 F.2.1 d_Tr_place_124 (by decide) ?_
    refine lv_aload_n F.1 F.2.1 d_Tr_place_125 rfl (lv_at hl 3 rfl) ?_
    refine g_get F hP 3 11 i0 (by decide) h_i0 (by decide) (v := .ref (xL X 2 (240 + i0))) rfl w_409 d_Tr_place_126 ?_
    refine g_getN F hP 2 1 (240 + i0) (by decide) (Nat.add_lt_add_left h_i0 240) (by decide) (v := .int (gi σ31 2 (240 + i0) 1)) rfl w_50 d_Tr_place_129 ?_
    obtain ⟨σ34, hk35, hj25⟩ := bnd_some hj25
    refine g_callV (As := [.int r5, .int 1, .int (r33 + 1), .int 0, .int (gi σ31 2 (240 + i0) 1)]) (rest := []) F hP 3 i0 (by decide) h_i0 (c_Tr_fill l X n h_i0 hk35) rfl q_Tr_fill w_519 w_17 w_516 w_518 wp_8 ⟨rfl, rfl⟩ ⟨by decide, by decide⟩ hl.1 (Nat.le_of_ble_eq_true rfl) ⟨Nat.zero_le _, Nat.zero_le _⟩ d_Tr_place_132 rfl (fun H locs hP => ?_)
    refine W.eq (g2 := F0 m 135 ls []) rfl ?_
    refine lv_goto F.1 F.2.1 d_Tr_place_135 rfl ?_
    cases hj25
    exact KJ24 _ _ _ (lv_sub hl [] rfl) hP

theorem d_Tr_without_0 : decode b_Tr_without 0 = .ok (.aload_n 0, 1) := by decide +kernel
theorem d_Tr_without_1 : decode b_Tr_without 1 = .ok (.iload_n 1, 1) := by decide +kernel
theorem d_Tr_without_2 : decode b_Tr_without 2 = .ok (.invokevirtual 125, 3) := by decide +kernel
theorem d_Tr_without_5 : decode b_Tr_without 5 = .ok (.istore_n 3, 1) := by decide +kernel
theorem d_Tr_without_6 : decode b_Tr_without 6 = .ok (.aload_n 0, 1) := by decide +kernel
theorem d_Tr_without_7 : decode b_Tr_without 7 = .ok (.getfield 27, 3) := by decide +kernel
theorem d_Tr_without_10 : decode b_Tr_without 10 = .ok (.iload_n 1, 1) := by decide +kernel
theorem d_Tr_without_11 : decode b_Tr_without 11 = .ok (.invokevirtual 48, 3) := by decide +kernel
theorem d_Tr_without_14 : decode b_Tr_without 14 = .ok (.astore 4, 2) := by decide +kernel
theorem d_Tr_without_16 : decode b_Tr_without 16 = .ok (.aload 4, 2) := by decide +kernel
theorem d_Tr_without_18 : decode b_Tr_without 18 = .ok (.dup, 1) := by decide +kernel
theorem d_Tr_without_19 : decode b_Tr_without 19 = .ok (.getfield 70, 3) := by decide +kernel
theorem d_Tr_without_22 : decode b_Tr_without 22 = .ok (.iconst 1, 1) := by decide +kernel
theorem d_Tr_without_23 : decode b_Tr_without 23 = .ok (.iadd, 1) := by decide +kernel
theorem d_Tr_without_24 : decode b_Tr_without 24 = .ok (.putfield 70, 3) := by decide +kernel
theorem d_Tr_without_27 : decode b_Tr_without 27 = .ok (.aload_n 0, 1) := by decide +kernel
theorem d_Tr_without_28 : decode b_Tr_without 28 = .ok (.getfield 23, 3) := by decide +kernel
theorem d_Tr_without_31 : decode b_Tr_without 31 = .ok (.iconst 0, 1) := by decide +kernel
theorem d_Tr_without_32 : decode b_Tr_without 32 = .ok (.putfield 70, 3) := by decide +kernel
theorem d_Tr_without_35 : decode b_Tr_without 35 = .ok (.iload_n 2, 1) := by decide +kernel
theorem d_Tr_without_36 : decode b_Tr_without 36 = .ok (.ifCond .ne 28, 3) := by decide +kernel
theorem d_Tr_without_39 : decode b_Tr_without 39 = .ok (.aload 4, 2) := by decide +kernel
theorem d_Tr_without_41 : decode b_Tr_without 41 = .ok (.invokevirtual 62, 3) := by decide +kernel
theorem d_Tr_without_44 : decode b_Tr_without 44 = .ok (.lstore 5, 2) := by decide +kernel
theorem d_Tr_without_46 : decode b_Tr_without 46 = .ok (.aload_n 0, 1) := by decide +kernel
theorem d_Tr_without_47 : decode b_Tr_without 47 = .ok (.getfield 23, 3) := by decide +kernel
theorem d_Tr_without_50 : decode b_Tr_without 50 = .ok (.aload 4, 2) := by decide +kernel
theorem d_Tr_without_52 : decode b_Tr_without 52 = .ok (.aload 4, 2) := by decide +kernel
theorem d_Tr_without_54 : decode b_Tr_without 54 = .ok (.getfield 70, 3) := by decide +kernel
theorem d_Tr_without_57 : decode b_Tr_without 57 = .ok (.iload_n 3, 1) := by decide +kernel
theorem d_Tr_without_58 : decode b_Tr_without 58 = .ok (.invokevirtual 121, 3) := by decide +kernel
theorem d_Tr_without_61 : decode b_Tr_without 61 = .ok (.goto 66, 3) := by decide +kernel
theorem d_Tr_without_64 : decode b_Tr_without 64 = .ok (.iconst 1, 1) := by decide +kernel
theorem d_Tr_without_65 : decode b_Tr_without 65 = .ok (.istore 5, 2) := by decide +kernel
theorem d_Tr_without_67 : decode b_Tr_without 67 = .ok (.iload 5, 2) := by decide +kernel
theorem d_Tr_without_69 : decode b_Tr_without 69 = .ok (.iload_n 2, 1) := by decide +kernel
theorem d_Tr_without_70 : decode b_Tr_without 70 = .ok (.if_icmp .ge 18, 3) := by decide +kernel
theorem d_Tr_without_73 : decode b_Tr_without 73 = .ok (.aload_n 0, 1) := by decide +kernel
theorem d_Tr_without_74 : decode b_Tr_without 74 = .ok (.aload 4, 2) := by decide +kernel
theorem d_Tr_without_76 : decode b_Tr_without 76 = .ok (.iconst 0, 1) := by decide +kernel
theorem d_Tr_without_77 : decode b_Tr_without 77 = .ok (.invokevirtual 73, 3) := by decide +kernel
theorem d_Tr_without_80 : decode b_Tr_without 80 = .ok (.lstore 6, 2) := by decide +kernel
theorem d_Tr_without_82 : decode b_Tr_without 82 = .ok (.iinc 5 1, 3) := by decide +kernel
theorem d_Tr_without_85 : decode b_Tr_without 85 = .ok (.goto (-18), 3) := by decide +kernel
theorem d_Tr_without_88 : decode b_Tr_without 88 = .ok (.aload_n 0, 1) := by decide +kernel
theorem d_Tr_without_89 : decode b_Tr_without 89 = .ok (.getfield 23, 3) := by decide +kernel
theorem d_Tr_without_92 : decode b_Tr_without 92 = .ok (.aload 4, 2) := by decide +kernel
theorem d_Tr_without_94 : decode b_Tr_without 94 = .ok (.iconst 2, 1) := by decide +kernel
theorem d_Tr_without_95 : decode b_Tr_without 95 = .ok (.aload 4, 2) := by decide +kernel
theorem d_Tr_without_97 : decode b_Tr_without 97 = .ok (.getfield 70, 3) := by decide +kernel
theorem d_Tr_without_100 : decode b_Tr_without 100 = .ok (.invokevirtual 121, 3) := by decide +kernel
theorem d_Tr_without_103 : decode b_Tr_without 103 = .ok (.aload_n 0, 1) := by decide +kernel
theorem d_Tr_without_104 : decode b_Tr_without 104 = .ok (.aload 4, 2) := by decide +kernel
theorem d_Tr_without_106 : decode b_Tr_without 106 = .ok (.iconst 0, 1) := by decide +kernel
theorem d_Tr_without_107 : decode b_Tr_without 107 = .ok (.invokevirtual 73, 3) := by decide +kernel
theorem d_Tr_without_110 : decode b_Tr_without 110 = .ok (.lstore 5, 2) := by decide +kernel
theorem d_Tr_without_112 : decode b_Tr_without 112 = .ok (.aload_n 0, 1) := by decide +kernel
theorem d_Tr_without_113 : decode b_Tr_without 113 = .ok (.getfield 23, 3) := by decide +kernel
theorem d_Tr_without_116 : decode b_Tr_without 116 = .ok (.aload 4, 2) := by decide +kernel
theorem d_Tr_without_118 : decode b_Tr_without 118 = .ok (.aload 4, 2) := by decide +kernel
theorem d_Tr_without_120 : decode b_Tr_without 120 = .ok (.getfield 70, 3) := by decide +kernel
theorem d_Tr_without_123 : decode b_Tr_without 123 = .ok (.iload_n 3, 1) := by decide +kernel
theorem d_Tr_without_124 : decode b_Tr_without 124 = .ok (.invokevirtual 121, 3) := by decide +kernel
theorem d_Tr_without_127 : decode b_Tr_without 127 = .ok (.aload_n 0, 1) := by decide +kernel
theorem d_Tr_without_128 : decode b_Tr_without 128 = .ok (.iload_n 1, 1) := by decide +kernel
theorem d_Tr_without_129 : decode b_Tr_without 129 = .ok (.iconst 0, 1) := by decide +kernel
theorem d_Tr_without_130 : decode b_Tr_without 130 = .ok (.aload_n 0, 1) := by decide +kernel
theorem d_Tr_without_131 : decode b_Tr_without 131 = .ok (.getfield 27, 3) := by decide +kernel
theorem d_Tr_without_134 : decode b_Tr_without 134 = .ok (.iload_n 1, 1) := by decide +kernel
theorem d_Tr_without_135 : decode b_Tr_without 135 = .ok (.invokevirtual 58, 3) := by decide +kernel
theorem d_Tr_without_138 : decode b_Tr_without 138 = .ok (.iconst 1, 1) := by decide +kernel
theorem d_Tr_without_139 : decode b_Tr_without 139 = .ok (.isub, 1) := by decide +kernel
theorem d_Tr_without_140 : decode b_Tr_without 140 = .ok (.iconst 0, 1) := by decide +kernel
theorem d_Tr_without_141 : decode b_Tr_without 141 = .ok (.aload_n 0, 1) := by decide +kernel
theorem d_Tr_without_142 : decode b_Tr_without 142 = .ok (.getfield 23, 3) := by decide +kernel
theorem d_Tr_without_145 : decode b_Tr_without 145 = .ok (.getfield 70, 3) := by decide +kernel
theorem d_Tr_without_148 : decode b_Tr_without 148 = .ok (.invokevirtual 137, 3) := by decide +kernel
theorem d_Tr_without_151 : decode b_Tr_without 151 = .ok (.return_, 1) := by decide +kernel
noncomputable def b_Tr_without_67 (i0 : Nat) (a2 : Int32) (r6 : Nat) (x13 : Int32) (σ14 : Sg) : Option ((Int32 × Sg) ⊕ (Sg)) :=
  (if a2 ≤ x13 then (some (.inr σ14)) else (bn2 (f_Tr_pass i0 r6 0 σ14) (fun r20 σ18 => lt_ (x13 + 1 : Int32) (fun (x21 : Int32) => some (.inl (x21, σ18))))))
noncomputable def l_Tr_without_67 (i0 : Nat) (a2 : Int32) (r6 : Nat) (x13 : Int32) (σ14 : Sg) : Option (Sg) := lp (fun q => b_Tr_without_67 i0 a2 r6 q.1 q.2) FU (x13, σ14)
noncomputable def f_Tr_without (i0 : Nat) (a1 : Int32) (a2 : Int32) (σ : Sg) : Option (Sg) :=
  bn2 (f_Tr_size i0 a1 σ) (fun r3 σ1 => bn2 (f_Pg_open a1 σ1) (fun r6 σ4 => lt_ (si σ4 2 r6 1 ((gi σ4 2 r6 1) + 1)) (fun σ8 => lt_ (si σ8 2 (240 + i0) 1 0) (fun σ9 => Option.bind (if a2 = 0 then (bn2 (f_Tp_takeNumber r6 σ9) (fun r35 σ33 => (f_Tp_copy (240 + i0) r6 (gi σ33 2 r6 1) r3 σ33).bind (fun σ36 => some (σ36)))) else ((l_Tr_without_67 i0 a2 r6 1 σ9).bind (fun σ23 => (f_Tp_copy (240 + i0) r6 2 (gi σ23 2 r6 1) σ23).bind (fun σ26 => bn2 (f_Tr_pass i0 r6 0 σ26) (fun r30 σ28 => (f_Tp_copy (240 + i0) r6 (gi σ28 2 r6 1) r3 σ28).bind (fun σ31 => some (σ31))))))) (fun (σ10 : Sg) => bn2 (f_Pg_cells a1 σ10) (fun r41 σ39 => (f_Tr_fill i0 a1 0 (r41 - 1) 0 (gi σ39 2 (240 + i0) 1) σ39).bind (fun σ42 => some σ42)))))))
abbrev rm_Tr_without : Room := { frames := 4, cells := 0, slots := 0, locals := 95 }
set_option maxHeartbeats 4000000 in
set_option maxRecDepth 100000 in
theorem c_Tr_without (l : Launch) (X : GX) (n : Nat) {σ σ' : Sg} {i0 : Nat} {a1 : Int32} {a2 : Int32} (h_i0 : i0 < cnt n 3) (hf : f_Tr_without i0 a1 a2 σ = some σ') : Met l y_Tr_without (cw y_Tr_without b_Tr_without 8 none) rm_Tr_without (PcG X n σ [.ref (xL X 3 i0), .int a1, .int a2]) (QcG X n σ' none) 0 0 (fr X n) := by
  refine g_head (own := "TableMachine$Tree") (by decide) rfl (Nat.le_of_ble_eq_true rfl) ?_
  intro p e s m args below meth c ls F hr hlk hP hl
  have hl : lv_has ls 8 [(0, .ref (xL X 3 i0)), (1, .int a1), (2, .int a2)] := hl
  show WG l X n rm_Tr_without σ' none p e s m args below meth c s.heap [] (F0 m 0 ls [])
  unfold f_Tr_without at hf
  refine lv_aload_n F.1 F.2.1 d_Tr_without_0 rfl (lv_at hl 0 rfl) ?_
  refine lv_iload_n F.1 F.2.1 d_Tr_without_1 rfl (lv_at hl 1 rfl) ?_
  obtain ⟨r3, σ1, hk2, hf⟩ := bn2_some hf
  refine g_callV (As := [.int a1]) (rest := []) F hP 3 i0 (by decide) h_i0 (c_Tr_size l X n h_i0 hk2) rfl q_Tr_size w_496 w_17 w_493 w_495 wp_7 ⟨rfl, rfl⟩ ⟨by decide, by decide⟩ hl.1 (Nat.le_of_ble_eq_true rfl) ⟨Nat.zero_le _, Nat.zero_le _⟩ d_Tr_without_2 rfl (fun H locs hP => ?_)
  refine W.eq (g2 := F0 m 5 ls [.int r3]) rfl ?_
  refine lv_istore_n F.1 F.2.1 d_Tr_without_5 rfl hl (by decide) rfl (fun ls hl => ?_)
  have hl : lv_has ls 8 [(3, .int r3), (0, .ref (xL X 3 i0)), (1, .int a1), (2, .int a2)] := hl
  refine lv_aload_n F.1 F.2.1 d_Tr_without_6 rfl (lv_at hl 1 rfl) ?_
  refine g_get F hP 3 0 i0 (by decide) h_i0 (by decide) (v := .ref (xL X 1 0)) rfl w_396 d_Tr_without_7 ?_
  refine lv_iload_n F.1 F.2.1 d_Tr_without_10 rfl (lv_at hl 2 rfl) ?_
  obtain ⟨r6, σ4, hk5, hf⟩ := bn2_some hf
  have hv7 : r6 < cnt n 2 := v_Pg_open  hk5
  refine g_callV (As := [.int a1]) (rest := []) F hP 1 0 (by decide) Nat.zero_lt_one (c_Pg_open l X n  hk5) rfl q_Pg_open w_467 w_2 w_464 w_465 w_466 ⟨rfl, rfl⟩ ⟨by decide, by decide⟩ hl.1 (Nat.le_of_ble_eq_true rfl) ⟨Nat.zero_le _, Nat.zero_le _⟩ d_Tr_without_11 rfl (fun H locs hP => ?_)
  refine W.eq (g2 := F0 m 14 ls [.ref (xL X 2 r6)]) rfl ?_
  refine lv_astore F.1 F.2.1 d_Tr_without_14 hl (by decide) rfl (fun ls hl => ?_)
  have hl : lv_has ls 8 [(4, .ref (xL X 2 r6)), (3, .int r3), (0, .ref (xL X 3 i0)), (1, .int a1), (2, .int a2)] := hl
  refine lv_aload F.1 F.2.1 d_Tr_without_16 (lv_at hl 0 rfl) ?_
  refine lv_dup F.1 F.2.1 d_Tr_without_18 rfl ?_
  refine g_getN F hP 2 1 r6 (by decide) hv7 (by decide) (v := .int (gi σ4 2 r6 1)) rfl w_50 d_Tr_without_19 ?_
  refine lv_iconst (v := 1) F.1 F.2.1 d_Tr_without_22 (by decide) ?_
  refine lv_iadd F.1 F.2.1 d_Tr_without_23 ?_
  obtain ⟨σ8, e_σ8, hf⟩ := lt_some hf
  refine g_puti F hP 2 1 r6 (by decide) hv7 (by decide) rfl rfl rfl rfl (Or.inr w_50) d_Tr_without_24 e_σ8 (fun H locs hP => ?_)
  refine lv_aload_n F.1 F.2.1 d_Tr_without_27 rfl (lv_at hl 2 rfl) ?_
  refine g_get F hP 3 11 i0 (by decide) h_i0 (by decide) (v := .ref (xL X 2 (240 + i0))) rfl w_409 d_Tr_without_28 ?_
  refine lv_iconst (v := 0) F.1 F.2.1 d_Tr_without_31 (by decide) ?_
  obtain ⟨σ9, e_σ9, hf⟩ := lt_some hf
  refine g_puti F hP 2 1 (240 + i0) (by decide) (Nat.add_lt_add_left h_i0 240) (by decide) rfl rfl rfl rfl (Or.inr w_50) d_Tr_without_32 e_σ9 (fun H locs hP => ?_)
  refine lv_iload_n F.1 F.2.1 d_Tr_without_35 rfl (lv_at hl 4 rfl) ?_
  obtain ⟨σ10, hj12, hf⟩ := bnd_some hf
  have KJ11 : ∀ (ls : Array Slot) (H : Heap) (locs : List Loc), lv_has ls 8 [(0, .ref (xL X 3 i0)), (1, .int a1)] → St X n σ10 s.heap H locs → WG l X n rm_Tr_without σ' none p e s m args below meth c H locs (F0 m 127 ls []) := by
    intro ls H locs hl hP
    refine lv_aload_n F.1 F.2.1 d_Tr_without_127 rfl (lv_at hl 0 rfl) ?_
    refine lv_iload_n F.1 F.2.1 d_Tr_without_128 rfl (lv_at hl 1 rfl) ?_
    refine lv_iconst (v := 0) F.1 F.2.1 d_Tr_without_129 (by decide) ?_
    refine lv_aload_n F.1 F.2.1 d_Tr_without_130 rfl (lv_at hl 0 rfl) ?_
    refine g_get F hP 3 0 i0 (by decide) h_i0 (by decide) (v := .ref (xL X 1 0)) rfl w_396 d_Tr_without_131 ?_
    refine lv_iload_n F.1 F.2.1 d_Tr_without_134 rfl (lv_at hl 1 rfl) ?_
    obtain ⟨r41, σ39, hk40, hf⟩ := bn2_some hf
    refine g_callV (As := [.int a1]) (rest := [.int 0, .int a1, .ref (xL X 3 i0)]) F hP 1 0 (by decide) Nat.zero_lt_one (c_Pg_cells l X n  hk40) rfl q_Pg_cells w_475 w_2 w_472 w_473 w_474 ⟨rfl, rfl⟩ ⟨by decide, by decide⟩ hl.1 (Nat.le_of_ble_eq_true rfl) ⟨Nat.zero_le _, Nat.zero_le _⟩ d_Tr_without_135 rfl (fun H locs hP => ?_)
    refine W.eq (g2 := F0 m 138 ls [.int r41, .int 0, .int a1, .ref (xL X 3 i0)]) rfl ?_
    refine lv_iconst (v := 1) F.1 F.2.1 d_Tr_without_138 (by decide) ?_
    refine lv_isub F.1 F.2.1 d_Tr_without_139 ?_
    refine lv_iconst (v := 0) F.1 F.2.1 d_Tr_without_140 (by decide) ?_
    refine lv_aload_n F.1 F.2.1 d_Tr_without_141 rfl (lv_at hl 0 rfl) ?_
    refine g_get F hP 3 11 i0 (by decide) h_i0 (by decide) (v := .ref (xL X 2 (240 + i0))) rfl w_409 d_Tr_without_142 ?_
    refine g_getN F hP 2 1 (240 + i0) (by decide) (Nat.add_lt_add_left h_i0 240) (by decide) (v := .int (gi σ39 2 (240 + i0) 1)) rfl w_50 d_Tr_without_145 ?_
    obtain ⟨σ42, hk43, hf⟩ := bnd_some hf
    refine g_callV (As := [.int a1, .int 0, .int (r41 - 1), .int 0, .int (gi σ39 2 (240 + i0) 1)]) (rest := []) F hP 3 i0 (by decide) h_i0 (c_Tr_fill l X n h_i0 hk43) rfl q_Tr_fill w_519 w_17 w_516 w_518 wp_8 ⟨rfl, rfl⟩ ⟨by decide, by decide⟩ hl.1 (Nat.le_of_ble_eq_true rfl) ⟨Nat.zero_le _, Nat.zero_le _⟩ d_Tr_without_148 rfl (fun H locs hP => ?_)
    refine W.eq (g2 := F0 m 151 ls []) rfl ?_
    cases hf
    exact g_vret F hP hr hlk d_Tr_without_151
  refine lv_if_ne F.1 F.2.1 d_Tr_without_36 rfl (fun hb38 => ?_) (fun hb38 => ?_)
  · rw [if_neg hb38] at hj12
    refine lv_iconst (v := 1) F.1 F.2.1 d_Tr_without_64 (by decide) ?_
    refine lv_istore F.1 F.2.1 d_Tr_without_65 hl (by decide) rfl (fun ls hl => ?_)
    have hl : lv_has ls 8 [(5, .int 1), (4, .ref (xL X 2 r6)), (3, .int r3), (0, .ref (xL X 3 i0)), (1, .int a1), (2, .int a2)] := hl
    obtain ⟨σ23, hlp24, hj12⟩ := bnd_some hj12
    have KX25 : ∀ (ls : Array Slot) (H : Heap) (locs : List Loc), lv_has ls 8 [(0, .ref (xL X 3 i0)), (1, .int a1), (3, .int r3), (4, .ref (xL X 2 r6))] → St X n σ23 s.heap H locs → WG l X n rm_Tr_without σ' none p e s m args below meth c H locs (F0 m 88 ls []) := by
      intro ls H locs hl hP
      refine lv_aload_n F.1 F.2.1 d_Tr_without_88 rfl (lv_at hl 0 rfl) ?_
      refine g_get F hP 3 11 i0 (by decide) h_i0 (by decide) (v := .ref (xL X 2 (240 + i0))) rfl w_409 d_Tr_without_89 ?_
      refine lv_aload F.1 F.2.1 d_Tr_without_92 (lv_at hl 3 rfl) ?_
      refine lv_iconst (v := 2) F.1 F.2.1 d_Tr_without_94 (by decide) ?_
      refine lv_aload F.1 F.2.1 d_Tr_without_95 (lv_at hl 3 rfl) ?_
      refine g_getN F hP 2 1 r6 (by decide) hv7 (by decide) (v := .int (gi σ23 2 r6 1)) rfl w_50 d_Tr_without_97 ?_
      obtain ⟨σ26, hk27, hj12⟩ := bnd_some hj12
      refine g_callV (As := [.ref (xL X 2 r6), .int 2, .int (gi σ23 2 r6 1)]) (rest := []) F hP 2 (240 + i0) (by decide) (Nat.add_lt_add_left h_i0 240) (c_Tp_copy l X n (Nat.add_lt_add_left h_i0 240) hv7 hk27) rfl q_Tp_copy w_500 w_3 w_497 w_498 w_499 ⟨rfl, rfl⟩ ⟨by decide, by decide⟩ hl.1 (Nat.le_of_ble_eq_true rfl) ⟨Nat.zero_le _, Nat.zero_le _⟩ d_Tr_without_100 rfl (fun H locs hP => ?_)
      refine W.eq (g2 := F0 m 103 ls []) rfl ?_
      refine lv_aload_n F.1 F.2.1 d_Tr_without_103 rfl (lv_at hl 0 rfl) ?_
      refine lv_aload F.1 F.2.1 d_Tr_without_104 (lv_at hl 3 rfl) ?_
      refine lv_iconst (v := 0) F.1 F.2.1 d_Tr_without_106 (by decide) ?_
      obtain ⟨r30, σ28, hk29, hj12⟩ := bn2_some hj12
      refine g_callV (As := [.ref (xL X 2 r6), .int 0]) (rest := []) F hP 3 i0 (by decide) h_i0 (c_Tr_pass l X n h_i0 hv7 hk29) rfl q_Tr_pass w_484 w_17 w_481 w_483 wp_5 ⟨rfl, rfl⟩ ⟨by decide, by decide⟩ hl.1 (Nat.le_of_ble_eq_true rfl) ⟨Nat.zero_le _, Nat.zero_le _⟩ d_Tr_without_107 rfl (fun H locs hP => ?_)
      refine W.eq (g2 := F0 m 110 ls [.long r30]) rfl ?_
      refine lv_lstore F.1 F.2.1 d_Tr_without_110 hl (by decide) rfl (fun ls hl => ?_)
      have hl : lv_has ls 8 [(5, .long r30), (0, .ref (xL X 3 i0)), (1, .int a1), (3, .int r3), (4, .ref (xL X 2 r6))] := hl
      refine lv_aload_n F.1 F.2.1 d_Tr_without_112 rfl (lv_at hl 1 rfl) ?_
      refine g_get F hP 3 11 i0 (by decide) h_i0 (by decide) (v := .ref (xL X 2 (240 + i0))) rfl w_409 d_Tr_without_113 ?_
      refine lv_aload F.1 F.2.1 d_Tr_without_116 (lv_at hl 4 rfl) ?_
      refine lv_aload F.1 F.2.1 d_Tr_without_118 (lv_at hl 4 rfl) ?_
      refine g_getN F hP 2 1 r6 (by decide) hv7 (by decide) (v := .int (gi σ28 2 r6 1)) rfl w_50 d_Tr_without_120 ?_
      refine lv_iload_n F.1 F.2.1 d_Tr_without_123 rfl (lv_at hl 3 rfl) ?_
      obtain ⟨σ31, hk32, hj12⟩ := bnd_some hj12
      refine g_callV (As := [.ref (xL X 2 r6), .int (gi σ28 2 r6 1), .int r3]) (rest := []) F hP 2 (240 + i0) (by decide) (Nat.add_lt_add_left h_i0 240) (c_Tp_copy l X n (Nat.add_lt_add_left h_i0 240) hv7 hk32) rfl q_Tp_copy w_500 w_3 w_497 w_498 w_499 ⟨rfl, rfl⟩ ⟨by decide, by decide⟩ hl.1 (Nat.le_of_ble_eq_true rfl) ⟨Nat.zero_le _, Nat.zero_le _⟩ d_Tr_without_124 rfl (fun H locs hP => ?_)
      refine W.eq (g2 := F0 m 127 ls []) rfl ?_
      cases hj12
      exact KJ11 _ _ _ (lv_sub hl [1, 2] rfl) hP
    unfold l_Tr_without_67 at hlp24
    refine lp_W (PW := fun q => ∀ (ls : Array Slot) (H : Heap) (locs : List Loc), lv_has ls 8 [(0, .ref (xL X 3 i0)), (1, .int a1), (2, .int a2), (3, .int r3), (4, .ref (xL X 2 r6)), (5, .int q.1)] → St X n q.2 s.heap H locs → WG l X n rm_Tr_without σ' none p e s m args below meth c H locs (F0 m 67 ls [])) (PE := fun q => ∀ (ls : Array Slot) (H : Heap) (locs : List Loc), lv_has ls 8 [(0, .ref (xL X 3 i0)), (1, .int a1), (3, .int r3), (4, .ref (xL X 2 r6))] → St X n q s.heap H locs → WG l X n rm_Tr_without σ' none p e s m args below meth c H locs (F0 m 88 ls [])) ?_ _ _ _ hlp24 KX25 _ _ _ (lv_sub hl [3, 4, 5, 2, 1, 0] rfl) hP
    rintro ⟨x13, σ14⟩ rr15 hb_67 hI16 hE17 ls H locs hl hP
    replace hb_67 : b_Tr_without_67 i0 a2 r6 x13 σ14 = some rr15 := hb_67
    unfold b_Tr_without_67 at hb_67
    refine lv_iload F.1 F.2.1 d_Tr_without_67 (lv_at hl 5 rfl) ?_
    refine lv_iload_n F.1 F.2.1 d_Tr_without_69 rfl (lv_at hl 2 rfl) ?_
    refine lv_icmp_ge F.1 F.2.1 d_Tr_without_70 rfl (fun hb22 => ?_) (fun hb22 => ?_)
    · rw [if_pos hb22] at hb_67
      cases hb_67
      exact hE17 _ rfl _ _ _ (lv_sub hl [0, 1, 3, 4] rfl) hP
    · rw [if_neg hb22] at hb_67
      refine lv_aload_n F.1 F.2.1 d_Tr_without_73 rfl (lv_at hl 0 rfl) ?_
      refine lv_aload F.1 F.2.1 d_Tr_without_74 (lv_at hl 4 rfl) ?_
      refine lv_iconst (v := 0) F.1 F.2.1 d_Tr_without_76 (by decide) ?_
      obtain ⟨r20, σ18, hk19, hb_67⟩ := bn2_some hb_67
      refine g_callV (As := [.ref (xL X 2 r6), .int 0]) (rest := []) F hP 3 i0 (by decide) h_i0 (c_Tr_pass l X n h_i0 hv7 hk19) rfl q_Tr_pass w_484 w_17 w_481 w_483 wp_5 ⟨rfl, rfl⟩ ⟨by decide, by decide⟩ hl.1 (Nat.le_of_ble_eq_true rfl) ⟨Nat.zero_le _, Nat.zero_le _⟩ d_Tr_without_77 rfl (fun H locs hP => ?_)
      refine W.eq (g2 := F0 m 80 ls [.long r20]) rfl ?_
      refine lv_lstore F.1 F.2.1 d_Tr_without_80 hl (by decide) rfl (fun ls hl => ?_)
      have hl : lv_has ls 8 [(6, .long r20), (0, .ref (xL X 3 i0)), (1, .int a1), (2, .int a2), (3, .int r3), (4, .ref (xL X 2 r6)), (5, .int x13)] := hl
      obtain ⟨x21, e_x21, hb_67⟩ := lt_some hb_67
      refine lv_iinc (k := 6) (v := x21) F.1 F.2.1 d_Tr_without_82 hl rfl (by rw [e_x21]; rfl) (by decide) rfl (fun ls hl => ?_)
      have hl : lv_has ls 8 [(5, .int x21), (6, .long r20), (0, .ref (xL X 3 i0)), (1, .int a1), (2, .int a2), (3, .int r3), (4, .ref (xL X 2 r6))] := hl
      refine lv_goto F.1 F.2.1 d_Tr_without_85 rfl ?_
      cases hb_67
      exact hI16 _ rfl _ _ _ (lv_sub hl [2, 3, 4, 5, 6, 0] rfl) hP
  · rw [if_pos hb38] at hj12
    refine lv_aload F.1 F.2.1 d_Tr_without_39 (lv_at hl 0 rfl) ?_
    obtain ⟨r35, σ33, hk34, hj12⟩ := bn2_some hj12
    refine g_callV (As := []) (rest := []) F hP 2 r6 (by decide) hv7 (c_Tp_takeNumber l X n hv7 hk34) rfl q_Tp_takeNumber w_479 w_3 w_476 w_477 w_478 ⟨rfl, rfl⟩ ⟨by decide, by decide⟩ hl.1 (Nat.le_of_ble_eq_true rfl) ⟨Nat.zero_le _, Nat.zero_le _⟩ d_Tr_without_41 rfl (fun H locs hP => ?_)
    refine W.eq (g2 := F0 m 44 ls [.long r35]) rfl ?_
    refine lv_lstore F.1 F.2.1 d_Tr_without_44 hl (by decide) rfl (fun ls hl => ?_)
    have hl : lv_has ls 8 [(5, .long r35), (4, .ref (xL X 2 r6)), (3, .int r3), (0, .ref (xL X 3 i0)), (1, .int a1), (2, .int a2)] := hl
    refine lv_aload_n F.1 F.2.1 d_Tr_without_46 rfl (lv_at hl 3 rfl) ?_
    refine g_get F hP 3 11 i0 (by decide) h_i0 (by decide) (v := .ref (xL X 2 (240 + i0))) rfl w_409 d_Tr_without_47 ?_
    refine lv_aload F.1 F.2.1 d_Tr_without_50 (lv_at hl 1 rfl) ?_
    refine lv_aload F.1 F.2.1 d_Tr_without_52 (lv_at hl 1 rfl) ?_
    refine g_getN F hP 2 1 r6 (by decide) hv7 (by decide) (v := .int (gi σ33 2 r6 1)) rfl w_50 d_Tr_without_54 ?_
    refine lv_iload_n F.1 F.2.1 d_Tr_without_57 rfl (lv_at hl 2 rfl) ?_
    obtain ⟨σ36, hk37, hj12⟩ := bnd_some hj12
    refine g_callV (As := [.ref (xL X 2 r6), .int (gi σ33 2 r6 1), .int r3]) (rest := []) F hP 2 (240 + i0) (by decide) (Nat.add_lt_add_left h_i0 240) (c_Tp_copy l X n (Nat.add_lt_add_left h_i0 240) hv7 hk37) rfl q_Tp_copy w_500 w_3 w_497 w_498 w_499 ⟨rfl, rfl⟩ ⟨by decide, by decide⟩ hl.1 (Nat.le_of_ble_eq_true rfl) ⟨Nat.zero_le _, Nat.zero_le _⟩ d_Tr_without_58 rfl (fun H locs hP => ?_)
    refine W.eq (g2 := F0 m 61 ls []) rfl ?_
    refine lv_goto F.1 F.2.1 d_Tr_without_61 rfl ?_
    cases hj12
    exact KJ11 _ _ _ (lv_sub hl [3, 4] rfl) hP

theorem d_Tr_childAt_0 : decode b_Tr_childAt 0 = .ok (.aload_n 0, 1) := by decide +kernel
theorem d_Tr_childAt_1 : decode b_Tr_childAt 1 = .ok (.getfield 27, 3) := by decide +kernel
theorem d_Tr_childAt_4 : decode b_Tr_childAt 4 = .ok (.iload_n 1, 1) := by decide +kernel
theorem d_Tr_childAt_5 : decode b_Tr_childAt 5 = .ok (.invokevirtual 48, 3) := by decide +kernel
theorem d_Tr_childAt_8 : decode b_Tr_childAt 8 = .ok (.astore_n 3, 1) := by decide +kernel
theorem d_Tr_childAt_9 : decode b_Tr_childAt 9 = .ok (.aload_n 3, 1) := by decide +kernel
theorem d_Tr_childAt_10 : decode b_Tr_childAt 10 = .ok (.invokevirtual 52, 3) := by decide +kernel
theorem d_Tr_childAt_13 : decode b_Tr_childAt 13 = .ok (.istore 4, 2) := by decide +kernel
theorem d_Tr_childAt_15 : decode b_Tr_childAt 15 = .ok (.iconst 0, 1) := by decide +kernel
theorem d_Tr_childAt_16 : decode b_Tr_childAt 16 = .ok (.istore 5, 2) := by decide +kernel
theorem d_Tr_childAt_18 : decode b_Tr_childAt 18 = .ok (.iload 5, 2) := by decide +kernel
theorem d_Tr_childAt_20 : decode b_Tr_childAt 20 = .ok (.iload_n 2, 1) := by decide +kernel
theorem d_Tr_childAt_21 : decode b_Tr_childAt 21 = .ok (.if_icmp .ge 21, 3) := by decide +kernel
theorem d_Tr_childAt_24 : decode b_Tr_childAt 24 = .ok (.aload_n 3, 1) := by decide +kernel
theorem d_Tr_childAt_25 : decode b_Tr_childAt 25 = .ok (.invokevirtual 62, 3) := by decide +kernel
theorem d_Tr_childAt_28 : decode b_Tr_childAt 28 = .ok (.lstore 6, 2) := by decide +kernel
theorem d_Tr_childAt_30 : decode b_Tr_childAt 30 = .ok (.aload_n 3, 1) := by decide +kernel
theorem d_Tr_childAt_31 : decode b_Tr_childAt 31 = .ok (.invokevirtual 52, 3) := by decide +kernel
theorem d_Tr_childAt_34 : decode b_Tr_childAt 34 = .ok (.istore 4, 2) := by decide +kernel
theorem d_Tr_childAt_36 : decode b_Tr_childAt 36 = .ok (.iinc 5 1, 3) := by decide +kernel
theorem d_Tr_childAt_39 : decode b_Tr_childAt 39 = .ok (.goto (-21), 3) := by decide +kernel
theorem d_Tr_childAt_42 : decode b_Tr_childAt 42 = .ok (.iload 4, 2) := by decide +kernel
theorem d_Tr_childAt_44 : decode b_Tr_childAt 44 = .ok (.ireturn, 1) := by decide +kernel
noncomputable def b_Tr_childAt_18 (a2 : Int32) (r3 : Nat) (x8 : Int32) (x9 : Int32) (σ10 : Sg) : Option ((Int32 × Int32 × Sg) ⊕ (Int32 × Sg)) :=
  (if a2 ≤ x9 then (some (.inr (x8, σ10))) else (bn2 (f_Tp_takeNumber r3 σ10) (fun r16 σ14 => bn2 (f_Tp_take r3 σ14) (fun r19 σ17 => lt_ (x9 + 1 : Int32) (fun (x20 : Int32) => some (.inl (r19, x20, σ17)))))))
noncomputable def l_Tr_childAt_18 (a2 : Int32) (r3 : Nat) (x8 : Int32) (x9 : Int32) (σ10 : Sg) : Option (Int32 × Sg) := lp (fun q => b_Tr_childAt_18 a2 r3 q.1 q.2.1 q.2.2) FU (x8, x9, σ10)
noncomputable def f_Tr_childAt (i0 : Nat) (a1 : Int32) (a2 : Int32) (σ : Sg) : Option (Int32 × Sg) :=
  bn2 (f_Pg_open a1 σ) (fun r3 σ1 => bn2 (f_Tp_take r3 σ1) (fun r7 σ5 => bn2 (l_Tr_childAt_18 a2 r3 r7 0 σ5) (fun x22 σ23 => some (x22, σ23))))
abbrev rm_Tr_childAt : Room := { frames := 2, cells := 0, slots := 0, locals := 44 }
set_option maxHeartbeats 4000000 in
set_option maxRecDepth 100000 in
theorem c_Tr_childAt (l : Launch) (X : GX) (n : Nat) {σ σ' : Sg} {r : Int32} {i0 : Nat} {a1 : Int32} {a2 : Int32} (h_i0 : i0 < cnt n 3) (hf : f_Tr_childAt i0 a1 a2 σ = some (r, σ')) : Met l y_Tr_childAt (cw y_Tr_childAt b_Tr_childAt 8 (some .int)) rm_Tr_childAt (PcG X n σ [.ref (xL X 3 i0), .int a1, .int a2]) (QcG X n σ' (some (.int r))) 0 0 (fr X n) := by
  refine g_head (own := "TableMachine$Tree") (by decide) rfl (Nat.le_of_ble_eq_true rfl) ?_
  intro p e s m args below meth c ls F hr hlk hP hl
  have hl : lv_has ls 8 [(0, .ref (xL X 3 i0)), (1, .int a1), (2, .int a2)] := hl
  show WG l X n rm_Tr_childAt σ' (some (.int r)) p e s m args below meth c s.heap [] (F0 m 0 ls [])
  unfold f_Tr_childAt at hf
  refine lv_aload_n F.1 F.2.1 d_Tr_childAt_0 rfl (lv_at hl 0 rfl) ?_
  refine g_get F hP 3 0 i0 (by decide) h_i0 (by decide) (v := .ref (xL X 1 0)) rfl w_396 d_Tr_childAt_1 ?_
  refine lv_iload_n F.1 F.2.1 d_Tr_childAt_4 rfl (lv_at hl 1 rfl) ?_
  obtain ⟨r3, σ1, hk2, hf⟩ := bn2_some hf
  have hv4 : r3 < cnt n 2 := v_Pg_open  hk2
  refine g_callV (As := [.int a1]) (rest := []) F hP 1 0 (by decide) Nat.zero_lt_one (c_Pg_open l X n  hk2) rfl q_Pg_open w_467 w_2 w_464 w_465 w_466 ⟨rfl, rfl⟩ ⟨by decide, by decide⟩ hl.1 (Nat.le_of_ble_eq_true rfl) ⟨Nat.zero_le _, Nat.zero_le _⟩ d_Tr_childAt_5 rfl (fun H locs hP => ?_)
  refine W.eq (g2 := F0 m 8 ls [.ref (xL X 2 r3)]) rfl ?_
  refine lv_astore_n F.1 F.2.1 d_Tr_childAt_8 rfl hl (by decide) rfl (fun ls hl => ?_)
  have hl : lv_has ls 8 [(3, .ref (xL X 2 r3)), (0, .ref (xL X 3 i0)), (1, .int a1), (2, .int a2)] := hl
  refine lv_aload_n F.1 F.2.1 d_Tr_childAt_9 rfl (lv_at hl 0 rfl) ?_
  obtain ⟨r7, σ5, hk6, hf⟩ := bn2_some hf
  refine g_callV (As := []) (rest := []) F hP 2 r3 (by decide) hv4 (c_Tp_take l X n hv4 hk6) rfl q_Tp_take w_471 w_3 w_468 w_469 w_470 ⟨rfl, rfl⟩ ⟨by decide, by decide⟩ hl.1 (Nat.le_of_ble_eq_true rfl) ⟨Nat.zero_le _, Nat.zero_le _⟩ d_Tr_childAt_10 rfl (fun H locs hP => ?_)
  refine W.eq (g2 := F0 m 13 ls [.int r7]) rfl ?_
  refine lv_istore F.1 F.2.1 d_Tr_childAt_13 hl (by decide) rfl (fun ls hl => ?_)
  have hl : lv_has ls 8 [(4, .int r7), (3, .ref (xL X 2 r3)), (0, .ref (xL X 3 i0)), (1, .int a1), (2, .int a2)] := hl
  refine lv_iconst (v := 0) F.1 F.2.1 d_Tr_childAt_15 (by decide) ?_
  refine lv_istore F.1 F.2.1 d_Tr_childAt_16 hl (by decide) rfl (fun ls hl => ?_)
  have hl : lv_has ls 8 [(5, .int 0), (4, .int r7), (3, .ref (xL X 2 r3)), (0, .ref (xL X 3 i0)), (1, .int a1), (2, .int a2)] := hl
  obtain ⟨x22, σ23, hlp24, hf⟩ := bn2_some hf
  have KX25 : ∀ (ls : Array Slot) (H : Heap) (locs : List Loc), lv_has ls 8 [(4, .int x22)] → St X n σ23 s.heap H locs → WG l X n rm_Tr_childAt σ' (some (.int r)) p e s m args below meth c H locs (F0 m 42 ls []) := by
    intro ls H locs hl hP
    refine lv_iload F.1 F.2.1 d_Tr_childAt_42 (lv_at hl 0 rfl) ?_
    cases hf
    exact g_iret F hP hr hlk d_Tr_childAt_44
  unfold l_Tr_childAt_18 at hlp24
  refine lp_W (PW := fun q => ∀ (ls : Array Slot) (H : Heap) (locs : List Loc), lv_has ls 8 [(2, .int a2), (3, .ref (xL X 2 r3)), (4, .int q.1), (5, .int q.2.1)] → St X n q.2.2 s.heap H locs → WG l X n rm_Tr_childAt σ' (some (.int r)) p e s m args below meth c H locs (F0 m 18 ls [])) (PE := fun q => ∀ (ls : Array Slot) (H : Heap) (locs : List Loc), lv_has ls 8 [(4, .int q.1)] → St X n q.2 s.heap H locs → WG l X n rm_Tr_childAt σ' (some (.int r)) p e s m args below meth c H locs (F0 m 42 ls [])) ?_ _ _ _ hlp24 KX25 _ _ _ (lv_sub hl [5, 2, 1, 0] rfl) hP
  rintro ⟨x8, x9, σ10⟩ rr11 hb_18 hI12 hE13 ls H locs hl hP
  replace hb_18 : b_Tr_childAt_18 a2 r3 x8 x9 σ10 = some rr11 := hb_18
  unfold b_Tr_childAt_18 at hb_18
  refine lv_iload F.1 F.2.1 d_Tr_childAt_18 (lv_at hl 3 rfl) ?_
  refine lv_iload_n F.1 F.2.1 d_Tr_childAt_20 rfl (lv_at hl 0 rfl) ?_
  refine lv_icmp_ge F.1 F.2.1 d_Tr_childAt_21 rfl (fun hb21 => ?_) (fun hb21 => ?_)
  · rw [if_pos hb21] at hb_18
    cases hb_18
    exact hE13 _ rfl _ _ _ (lv_sub hl [2] rfl) hP
  · rw [if_neg hb21] at hb_18
    refine lv_aload_n F.1 F.2.1 d_Tr_childAt_24 rfl (lv_at hl 1 rfl) ?_
    obtain ⟨r16, σ14, hk15, hb_18⟩ := bn2_some hb_18
    refine g_callV (As := []) (rest := []) F hP 2 r3 (by decide) hv4 (c_Tp_takeNumber l X n hv4 hk15) rfl q_Tp_takeNumber w_479 w_3 w_476 w_477 w_478 ⟨rfl, rfl⟩ ⟨by decide, by decide⟩ hl.1 (Nat.le_of_ble_eq_true rfl) ⟨Nat.zero_le _, Nat.zero_le _⟩ d_Tr_childAt_25 rfl (fun H locs hP => ?_)
    refine W.eq (g2 := F0 m 28 ls [.long r16]) rfl ?_
    refine lv_lstore F.1 F.2.1 d_Tr_childAt_28 hl (by decide) rfl (fun ls hl => ?_)
    have hl : lv_has ls 8 [(6, .long r16), (2, .int a2), (3, .ref (xL X 2 r3)), (4, .int x8), (5, .int x9)] := hl
    refine lv_aload_n F.1 F.2.1 d_Tr_childAt_30 rfl (lv_at hl 2 rfl) ?_
    obtain ⟨r19, σ17, hk18, hb_18⟩ := bn2_some hb_18
    refine g_callV (As := []) (rest := []) F hP 2 r3 (by decide) hv4 (c_Tp_take l X n hv4 hk18) rfl q_Tp_take w_471 w_3 w_468 w_469 w_470 ⟨rfl, rfl⟩ ⟨by decide, by decide⟩ hl.1 (Nat.le_of_ble_eq_true rfl) ⟨Nat.zero_le _, Nat.zero_le _⟩ d_Tr_childAt_31 rfl (fun H locs hP => ?_)
    refine W.eq (g2 := F0 m 34 ls [.int r19]) rfl ?_
    refine lv_istore F.1 F.2.1 d_Tr_childAt_34 hl (by decide) rfl (fun ls hl => ?_)
    have hl : lv_has ls 8 [(4, .int r19), (6, .long r16), (2, .int a2), (3, .ref (xL X 2 r3)), (5, .int x9)] := hl
    obtain ⟨x20, e_x20, hb_18⟩ := lt_some hb_18
    refine lv_iinc (k := 4) (v := x20) F.1 F.2.1 d_Tr_childAt_36 hl rfl (by rw [e_x20]; rfl) (by decide) rfl (fun ls hl => ?_)
    have hl : lv_has ls 8 [(5, .int x20), (4, .int r19), (6, .long r16), (2, .int a2), (3, .ref (xL X 2 r3))] := hl
    refine lv_goto F.1 F.2.1 d_Tr_childAt_39 rfl ?_
    cases hb_18
    exact hI12 _ rfl _ _ _ (lv_sub hl [3, 4, 1, 0] rfl) hP

theorem d_Tr_lead_0 : decode b_Tr_lead 0 = .ok (.aload_n 0, 1) := by decide +kernel
theorem d_Tr_lead_1 : decode b_Tr_lead 1 = .ok (.getfield 27, 3) := by decide +kernel
theorem d_Tr_lead_4 : decode b_Tr_lead 4 = .ok (.iload_n 1, 1) := by decide +kernel
theorem d_Tr_lead_5 : decode b_Tr_lead 5 = .ok (.invokevirtual 48, 3) := by decide +kernel
theorem d_Tr_lead_8 : decode b_Tr_lead 8 = .ok (.astore 4, 2) := by decide +kernel
theorem d_Tr_lead_10 : decode b_Tr_lead 10 = .ok (.aload 4, 2) := by decide +kernel
theorem d_Tr_lead_12 : decode b_Tr_lead 12 = .ok (.dup, 1) := by decide +kernel
theorem d_Tr_lead_13 : decode b_Tr_lead 13 = .ok (.getfield 70, 3) := by decide +kernel
theorem d_Tr_lead_16 : decode b_Tr_lead 16 = .ok (.iconst 1, 1) := by decide +kernel
theorem d_Tr_lead_17 : decode b_Tr_lead 17 = .ok (.iadd, 1) := by decide +kernel
theorem d_Tr_lead_18 : decode b_Tr_lead 18 = .ok (.putfield 70, 3) := by decide +kernel
theorem d_Tr_lead_21 : decode b_Tr_lead 21 = .ok (.iconst 0, 1) := by decide +kernel
theorem d_Tr_lead_22 : decode b_Tr_lead 22 = .ok (.istore 5, 2) := by decide +kernel
theorem d_Tr_lead_24 : decode b_Tr_lead 24 = .ok (.iload 5, 2) := by decide +kernel
theorem d_Tr_lead_26 : decode b_Tr_lead 26 = .ok (.iload_n 2, 1) := by decide +kernel
theorem d_Tr_lead_27 : decode b_Tr_lead 27 = .ok (.if_icmp .ge 18, 3) := by decide +kernel
theorem d_Tr_lead_30 : decode b_Tr_lead 30 = .ok (.aload_n 0, 1) := by decide +kernel
theorem d_Tr_lead_31 : decode b_Tr_lead 31 = .ok (.aload 4, 2) := by decide +kernel
theorem d_Tr_lead_33 : decode b_Tr_lead 33 = .ok (.iconst 0, 1) := by decide +kernel
theorem d_Tr_lead_34 : decode b_Tr_lead 34 = .ok (.invokevirtual 73, 3) := by decide +kernel
theorem d_Tr_lead_37 : decode b_Tr_lead 37 = .ok (.lstore 6, 2) := by decide +kernel
theorem d_Tr_lead_39 : decode b_Tr_lead 39 = .ok (.iinc 5 1, 3) := by decide +kernel
theorem d_Tr_lead_42 : decode b_Tr_lead 42 = .ok (.goto (-18), 3) := by decide +kernel
theorem d_Tr_lead_45 : decode b_Tr_lead 45 = .ok (.aload 4, 2) := by decide +kernel
theorem d_Tr_lead_47 : decode b_Tr_lead 47 = .ok (.getfield 185, 3) := by decide +kernel
theorem d_Tr_lead_50 : decode b_Tr_lead 50 = .ok (.aload 4, 2) := by decide +kernel
theorem d_Tr_lead_52 : decode b_Tr_lead 52 = .ok (.getfield 70, 3) := by decide +kernel
theorem d_Tr_lead_55 : decode b_Tr_lead 55 = .ok (.iconst 1, 1) := by decide +kernel
theorem d_Tr_lead_56 : decode b_Tr_lead 56 = .ok (.isub, 1) := by decide +kernel
theorem d_Tr_lead_57 : decode b_Tr_lead 57 = .ok (.iload_n 3, 1) := by decide +kernel
theorem d_Tr_lead_58 : decode b_Tr_lead 58 = .ok (.i2b, 1) := by decide +kernel
theorem d_Tr_lead_59 : decode b_Tr_lead 59 = .ok (.bastore, 1) := by decide +kernel
theorem d_Tr_lead_60 : decode b_Tr_lead 60 = .ok (.return_, 1) := by decide +kernel
noncomputable def b_Tr_lead_24 (i0 : Nat) (a2 : Int32) (r3 : Nat) (x6 : Int32) (σ7 : Sg) : Option ((Int32 × Sg) ⊕ (Sg)) :=
  (if a2 ≤ x6 then (some (.inr σ7)) else (bn2 (f_Tr_pass i0 r3 0 σ7) (fun r13 σ11 => lt_ (x6 + 1 : Int32) (fun (x14 : Int32) => some (.inl (x14, σ11))))))
noncomputable def l_Tr_lead_24 (i0 : Nat) (a2 : Int32) (r3 : Nat) (x6 : Int32) (σ7 : Sg) : Option (Sg) := lp (fun q => b_Tr_lead_24 i0 a2 r3 q.1 q.2) FU (x6, σ7)
noncomputable def f_Tr_lead (i0 : Nat) (a1 : Int32) (a2 : Int32) (a3 : Int32) (σ : Sg) : Option (Sg) :=
  bn2 (f_Pg_open a1 σ) (fun r3 σ1 => lt_ (si σ1 2 r3 1 ((gi σ1 2 r3 1) + 1)) (fun σ5 => (l_Tr_lead_24 i0 a2 r3 0 σ5).bind (fun σ16 => chk (vp_in ((gi σ16 2 r3 1) - 1) (alen 10 r3)) (lt_ (si σ16 10 r3 (((gi σ16 2 r3 1) - 1).toNatClampNeg) (vp_nar .byte a3.toInt8.toInt32)) (fun σ20 => some σ20)))))
abbrev rm_Tr_lead : Room := { frames := 3, cells := 0, slots := 0, locals := 72 }
set_option maxHeartbeats 4000000 in
set_option maxRecDepth 100000 in
theorem c_Tr_lead (l : Launch) (X : GX) (n : Nat) {σ σ' : Sg} {i0 : Nat} {a1 : Int32} {a2 : Int32} {a3 : Int32} (h_i0 : i0 < cnt n 3) (hf : f_Tr_lead i0 a1 a2 a3 σ = some σ') : Met l y_Tr_lead (cw y_Tr_lead b_Tr_lead 8 none) rm_Tr_lead (PcG X n σ [.ref (xL X 3 i0), .int a1, .int a2, .int a3]) (QcG X n σ' none) 0 0 (fr X n) := by
  refine g_head (own := "TableMachine$Tree") (by decide) rfl (Nat.le_of_ble_eq_true rfl) ?_
  intro p e s m args below meth c ls F hr hlk hP hl
  have hl : lv_has ls 8 [(0, .ref (xL X 3 i0)), (1, .int a1), (2, .int a2), (3, .int a3)] := hl
  show WG l X n rm_Tr_lead σ' none p e s m args below meth c s.heap [] (F0 m 0 ls [])
  unfold f_Tr_lead at hf
  refine lv_aload_n F.1 F.2.1 d_Tr_lead_0 rfl (lv_at hl 0 rfl) ?_
  refine g_get F hP 3 0 i0 (by decide) h_i0 (by decide) (v := .ref (xL X 1 0)) rfl w_396 d_Tr_lead_1 ?_
  refine lv_iload_n F.1 F.2.1 d_Tr_lead_4 rfl (lv_at hl 1 rfl) ?_
  obtain ⟨r3, σ1, hk2, hf⟩ := bn2_some hf
  have hv4 : r3 < cnt n 2 := v_Pg_open  hk2
  refine g_callV (As := [.int a1]) (rest := []) F hP 1 0 (by decide) Nat.zero_lt_one (c_Pg_open l X n  hk2) rfl q_Pg_open w_467 w_2 w_464 w_465 w_466 ⟨rfl, rfl⟩ ⟨by decide, by decide⟩ hl.1 (Nat.le_of_ble_eq_true rfl) ⟨Nat.zero_le _, Nat.zero_le _⟩ d_Tr_lead_5 rfl (fun H locs hP => ?_)
  refine W.eq (g2 := F0 m 8 ls [.ref (xL X 2 r3)]) rfl ?_
  refine lv_astore F.1 F.2.1 d_Tr_lead_8 hl (by decide) rfl (fun ls hl => ?_)
  have hl : lv_has ls 8 [(4, .ref (xL X 2 r3)), (0, .ref (xL X 3 i0)), (1, .int a1), (2, .int a2), (3, .int a3)] := hl
  refine lv_aload F.1 F.2.1 d_Tr_lead_10 (lv_at hl 0 rfl) ?_
  refine lv_dup F.1 F.2.1 d_Tr_lead_12 rfl ?_
  refine g_getN F hP 2 1 r3 (by decide) hv4 (by decide) (v := .int (gi σ1 2 r3 1)) rfl w_50 d_Tr_lead_13 ?_
  refine lv_iconst (v := 1) F.1 F.2.1 d_Tr_lead_16 (by decide) ?_
  refine lv_iadd F.1 F.2.1 d_Tr_lead_17 ?_
  obtain ⟨σ5, e_σ5, hf⟩ := lt_some hf
  refine g_puti F hP 2 1 r3 (by decide) hv4 (by decide) rfl rfl rfl rfl (Or.inr w_50) d_Tr_lead_18 e_σ5 (fun H locs hP => ?_)
  refine lv_iconst (v := 0) F.1 F.2.1 d_Tr_lead_21 (by decide) ?_
  refine lv_istore F.1 F.2.1 d_Tr_lead_22 hl (by decide) rfl (fun ls hl => ?_)
  have hl : lv_has ls 8 [(5, .int 0), (4, .ref (xL X 2 r3)), (0, .ref (xL X 3 i0)), (1, .int a1), (2, .int a2), (3, .int a3)] := hl
  obtain ⟨σ16, hlp17, hf⟩ := bnd_some hf
  have KX18 : ∀ (ls : Array Slot) (H : Heap) (locs : List Loc), lv_has ls 8 [(3, .int a3), (4, .ref (xL X 2 r3))] → St X n σ16 s.heap H locs → WG l X n rm_Tr_lead σ' none p e s m args below meth c H locs (F0 m 45 ls []) := by
    intro ls H locs hl hP
    refine lv_aload F.1 F.2.1 d_Tr_lead_45 (lv_at hl 1 rfl) ?_
    refine g_getN F hP 2 0 r3 (by decide) hv4 (by decide) (v := .ref (xL X 10 r3)) rfl w_47 d_Tr_lead_47 ?_
    refine lv_aload F.1 F.2.1 d_Tr_lead_50 (lv_at hl 1 rfl) ?_
    refine g_getN F hP 2 1 r3 (by decide) hv4 (by decide) (v := .int (gi σ16 2 r3 1)) rfl w_50 d_Tr_lead_52 ?_
    refine lv_iconst (v := 1) F.1 F.2.1 d_Tr_lead_55 (by decide) ?_
    refine lv_isub F.1 F.2.1 d_Tr_lead_56 ?_
    refine lv_iload_n F.1 F.2.1 d_Tr_lead_57 rfl (lv_at hl 0 rfl) ?_
    refine lv_i2b F.1 F.2.1 d_Tr_lead_58 rfl ?_
    obtain ⟨hc19, hf⟩ := chk_some hf
    obtain ⟨σ20, e_σ20, hf⟩ := lt_some hf
    refine g_bst F hP 10 (by decide) (by decide) hv4 rfl rfl hc19 d_Tr_lead_59 e_σ20 (fun H locs hP => ?_)
    cases hf
    exact g_vret F hP hr hlk d_Tr_lead_60
  unfold l_Tr_lead_24 at hlp17
  refine lp_W (PW := fun q => ∀ (ls : Array Slot) (H : Heap) (locs : List Loc), lv_has ls 8 [(0, .ref (xL X 3 i0)), (2, .int a2), (3, .int a3), (4, .ref (xL X 2 r3)), (5, .int q.1)] → St X n q.2 s.heap H locs → WG l X n rm_Tr_lead σ' none p e s m args below meth c H locs (F0 m 24 ls [])) (PE := fun q => ∀ (ls : Array Slot) (H : Heap) (locs : List Loc), lv_has ls 8 [(3, .int a3), (4, .ref (xL X 2 r3))] → St X n q s.heap H locs → WG l X n rm_Tr_lead σ' none p e s m args below meth c H locs (F0 m 45 ls [])) ?_ _ _ _ hlp17 KX18 _ _ _ (lv_sub hl [2, 4, 5, 1, 0] rfl) hP
  rintro ⟨x6, σ7⟩ rr8 hb_24 hI9 hE10 ls H locs hl hP
  replace hb_24 : b_Tr_lead_24 i0 a2 r3 x6 σ7 = some rr8 := hb_24
  unfold b_Tr_lead_24 at hb_24
  refine lv_iload F.1 F.2.1 d_Tr_lead_24 (lv_at hl 4 rfl) ?_
  refine lv_iload_n F.1 F.2.1 d_Tr_lead_26 rfl (lv_at hl 1 rfl) ?_
  refine lv_icmp_ge F.1 F.2.1 d_Tr_lead_27 rfl (fun hb15 => ?_) (fun hb15 => ?_)
  · rw [if_pos hb15] at hb_24
    cases hb_24
    exact hE10 _ rfl _ _ _ (lv_sub hl [2, 3] rfl) hP
  · rw [if_neg hb15] at hb_24
    refine lv_aload_n F.1 F.2.1 d_Tr_lead_30 rfl (lv_at hl 0 rfl) ?_
    refine lv_aload F.1 F.2.1 d_Tr_lead_31 (lv_at hl 3 rfl) ?_
    refine lv_iconst (v := 0) F.1 F.2.1 d_Tr_lead_33 (by decide) ?_
    obtain ⟨r13, σ11, hk12, hb_24⟩ := bn2_some hb_24
    refine g_callV (As := [.ref (xL X 2 r3), .int 0]) (rest := []) F hP 3 i0 (by decide) h_i0 (c_Tr_pass l X n h_i0 hv4 hk12) rfl q_Tr_pass w_484 w_17 w_481 w_483 wp_5 ⟨rfl, rfl⟩ ⟨by decide, by decide⟩ hl.1 (Nat.le_of_ble_eq_true rfl) ⟨Nat.zero_le _, Nat.zero_le _⟩ d_Tr_lead_34 rfl (fun H locs hP => ?_)
    refine W.eq (g2 := F0 m 37 ls [.long r13]) rfl ?_
    refine lv_lstore F.1 F.2.1 d_Tr_lead_37 hl (by decide) rfl (fun ls hl => ?_)
    have hl : lv_has ls 8 [(6, .long r13), (0, .ref (xL X 3 i0)), (2, .int a2), (3, .int a3), (4, .ref (xL X 2 r3)), (5, .int x6)] := hl
    obtain ⟨x14, e_x14, hb_24⟩ := lt_some hb_24
    refine lv_iinc (k := 5) (v := x14) F.1 F.2.1 d_Tr_lead_39 hl rfl (by rw [e_x14]; rfl) (by decide) rfl (fun ls hl => ?_)
    have hl : lv_has ls 8 [(5, .int x14), (6, .long r13), (0, .ref (xL X 3 i0)), (2, .int a2), (3, .int a3), (4, .ref (xL X 2 r3))] := hl
    refine lv_goto F.1 F.2.1 d_Tr_lead_42 rfl ?_
    cases hb_24
    exact hI9 _ rfl _ _ _ (lv_sub hl [2, 3, 4, 5, 0] rfl) hP

theorem d_Tr_prune_0 : decode b_Tr_prune 0 = .ok (.aload_n 0, 1) := by decide +kernel
theorem d_Tr_prune_1 : decode b_Tr_prune 1 = .ok (.getfield 55, 3) := by decide +kernel
theorem d_Tr_prune_4 : decode b_Tr_prune 4 = .ok (.ifCond .ne 4, 3) := by decide +kernel
theorem d_Tr_prune_7 : decode b_Tr_prune 7 = .ok (.return_, 1) := by decide +kernel
theorem d_Tr_prune_8 : decode b_Tr_prune 8 = .ok (.aload_n 0, 1) := by decide +kernel
theorem d_Tr_prune_9 : decode b_Tr_prune 9 = .ok (.getfield 9, 3) := by decide +kernel
theorem d_Tr_prune_12 : decode b_Tr_prune 12 = .ok (.aload_n 0, 1) := by decide +kernel
theorem d_Tr_prune_13 : decode b_Tr_prune 13 = .ok (.getfield 55, 3) := by decide +kernel
theorem d_Tr_prune_16 : decode b_Tr_prune 16 = .ok (.iconst 1, 1) := by decide +kernel
theorem d_Tr_prune_17 : decode b_Tr_prune 17 = .ok (.isub, 1) := by decide +kernel
theorem d_Tr_prune_18 : decode b_Tr_prune 18 = .ok (.iaload, 1) := by decide +kernel
theorem d_Tr_prune_19 : decode b_Tr_prune 19 = .ok (.istore_n 1, 1) := by decide +kernel
theorem d_Tr_prune_20 : decode b_Tr_prune 20 = .ok (.aload_n 0, 1) := by decide +kernel
theorem d_Tr_prune_21 : decode b_Tr_prune 21 = .ok (.getfield 27, 3) := by decide +kernel
theorem d_Tr_prune_24 : decode b_Tr_prune 24 = .ok (.aload_n 0, 1) := by decide +kernel
theorem d_Tr_prune_25 : decode b_Tr_prune 25 = .ok (.getfield 9, 3) := by decide +kernel
theorem d_Tr_prune_28 : decode b_Tr_prune 28 = .ok (.aload_n 0, 1) := by decide +kernel
theorem d_Tr_prune_29 : decode b_Tr_prune 29 = .ok (.getfield 55, 3) := by decide +kernel
theorem d_Tr_prune_32 : decode b_Tr_prune 32 = .ok (.iaload, 1) := by decide +kernel
theorem d_Tr_prune_33 : decode b_Tr_prune 33 = .ok (.invokevirtual 175, 3) := by decide +kernel
theorem d_Tr_prune_36 : decode b_Tr_prune 36 = .ok (.aload_n 0, 1) := by decide +kernel
theorem d_Tr_prune_37 : decode b_Tr_prune 37 = .ok (.iload_n 1, 1) := by decide +kernel
theorem d_Tr_prune_38 : decode b_Tr_prune 38 = .ok (.aload_n 0, 1) := by decide +kernel
theorem d_Tr_prune_39 : decode b_Tr_prune 39 = .ok (.getfield 15, 3) := by decide +kernel
theorem d_Tr_prune_42 : decode b_Tr_prune 42 = .ok (.aload_n 0, 1) := by decide +kernel
theorem d_Tr_prune_43 : decode b_Tr_prune 43 = .ok (.getfield 55, 3) := by decide +kernel
theorem d_Tr_prune_46 : decode b_Tr_prune 46 = .ok (.iconst 1, 1) := by decide +kernel
theorem d_Tr_prune_47 : decode b_Tr_prune 47 = .ok (.isub, 1) := by decide +kernel
theorem d_Tr_prune_48 : decode b_Tr_prune 48 = .ok (.iaload, 1) := by decide +kernel
theorem d_Tr_prune_49 : decode b_Tr_prune 49 = .ok (.invokevirtual 178, 3) := by decide +kernel
theorem d_Tr_prune_52 : decode b_Tr_prune 52 = .ok (.aload_n 0, 1) := by decide +kernel
theorem d_Tr_prune_53 : decode b_Tr_prune 53 = .ok (.getfield 27, 3) := by decide +kernel
theorem d_Tr_prune_56 : decode b_Tr_prune 56 = .ok (.iload_n 1, 1) := by decide +kernel
theorem d_Tr_prune_57 : decode b_Tr_prune 57 = .ok (.invokevirtual 58, 3) := by decide +kernel
theorem d_Tr_prune_60 : decode b_Tr_prune 60 = .ok (.ifCond .le 4, 3) := by decide +kernel
theorem d_Tr_prune_63 : decode b_Tr_prune 63 = .ok (.return_, 1) := by decide +kernel
theorem d_Tr_prune_64 : decode b_Tr_prune 64 = .ok (.aload_n 0, 1) := by decide +kernel
theorem d_Tr_prune_65 : decode b_Tr_prune 65 = .ok (.iload_n 1, 1) := by decide +kernel
theorem d_Tr_prune_66 : decode b_Tr_prune 66 = .ok (.iconst 0, 1) := by decide +kernel
theorem d_Tr_prune_67 : decode b_Tr_prune 67 = .ok (.invokevirtual 105, 3) := by decide +kernel
theorem d_Tr_prune_70 : decode b_Tr_prune 70 = .ok (.istore_n 2, 1) := by decide +kernel
theorem d_Tr_prune_71 : decode b_Tr_prune 71 = .ok (.aload_n 0, 1) := by decide +kernel
theorem d_Tr_prune_72 : decode b_Tr_prune 72 = .ok (.getfield 55, 3) := by decide +kernel
theorem d_Tr_prune_75 : decode b_Tr_prune 75 = .ok (.iconst 1, 1) := by decide +kernel
theorem d_Tr_prune_76 : decode b_Tr_prune 76 = .ok (.if_icmp .ne 23, 3) := by decide +kernel
theorem d_Tr_prune_79 : decode b_Tr_prune 79 = .ok (.aload_n 0, 1) := by decide +kernel
theorem d_Tr_prune_80 : decode b_Tr_prune 80 = .ok (.aload_n 0, 1) := by decide +kernel
theorem d_Tr_prune_81 : decode b_Tr_prune 81 = .ok (.getfield 41, 3) := by decide +kernel
theorem d_Tr_prune_84 : decode b_Tr_prune 84 = .ok (.iload_n 2, 1) := by decide +kernel
theorem d_Tr_prune_85 : decode b_Tr_prune 85 = .ok (.invokevirtual 163, 3) := by decide +kernel
theorem d_Tr_prune_88 : decode b_Tr_prune 88 = .ok (.aload_n 0, 1) := by decide +kernel
theorem d_Tr_prune_89 : decode b_Tr_prune 89 = .ok (.getfield 27, 3) := by decide +kernel
theorem d_Tr_prune_92 : decode b_Tr_prune 92 = .ok (.iload_n 2, 1) := by decide +kernel
theorem d_Tr_prune_93 : decode b_Tr_prune 93 = .ok (.invokevirtual 175, 3) := by decide +kernel
theorem d_Tr_prune_96 : decode b_Tr_prune 96 = .ok (.goto 38, 3) := by decide +kernel
theorem d_Tr_prune_99 : decode b_Tr_prune 99 = .ok (.aload_n 0, 1) := by decide +kernel
theorem d_Tr_prune_100 : decode b_Tr_prune 100 = .ok (.aload_n 0, 1) := by decide +kernel
theorem d_Tr_prune_101 : decode b_Tr_prune 101 = .ok (.getfield 9, 3) := by decide +kernel
theorem d_Tr_prune_104 : decode b_Tr_prune 104 = .ok (.aload_n 0, 1) := by decide +kernel
theorem d_Tr_prune_105 : decode b_Tr_prune 105 = .ok (.getfield 55, 3) := by decide +kernel
theorem d_Tr_prune_108 : decode b_Tr_prune 108 = .ok (.iconst 2, 1) := by decide +kernel
theorem d_Tr_prune_109 : decode b_Tr_prune 109 = .ok (.isub, 1) := by decide +kernel
theorem d_Tr_prune_110 : decode b_Tr_prune 110 = .ok (.iaload, 1) := by decide +kernel
theorem d_Tr_prune_111 : decode b_Tr_prune 111 = .ok (.aload_n 0, 1) := by decide +kernel
theorem d_Tr_prune_112 : decode b_Tr_prune 112 = .ok (.getfield 15, 3) := by decide +kernel
theorem d_Tr_prune_115 : decode b_Tr_prune 115 = .ok (.aload_n 0, 1) := by decide +kernel
theorem d_Tr_prune_116 : decode b_Tr_prune 116 = .ok (.getfield 55, 3) := by decide +kernel
theorem d_Tr_prune_119 : decode b_Tr_prune 119 = .ok (.iconst 2, 1) := by decide +kernel
theorem d_Tr_prune_120 : decode b_Tr_prune 120 = .ok (.isub, 1) := by decide +kernel
theorem d_Tr_prune_121 : decode b_Tr_prune 121 = .ok (.iaload, 1) := by decide +kernel
theorem d_Tr_prune_122 : decode b_Tr_prune 122 = .ok (.iload_n 2, 1) := by decide +kernel
theorem d_Tr_prune_123 : decode b_Tr_prune 123 = .ok (.invokevirtual 181, 3) := by decide +kernel
theorem d_Tr_prune_126 : decode b_Tr_prune 126 = .ok (.aload_n 0, 1) := by decide +kernel
theorem d_Tr_prune_127 : decode b_Tr_prune 127 = .ok (.getfield 27, 3) := by decide +kernel
theorem d_Tr_prune_130 : decode b_Tr_prune 130 = .ok (.iload_n 1, 1) := by decide +kernel
theorem d_Tr_prune_131 : decode b_Tr_prune 131 = .ok (.invokevirtual 175, 3) := by decide +kernel
theorem d_Tr_prune_134 : decode b_Tr_prune 134 = .ok (.return_, 1) := by decide +kernel
noncomputable def f_Tr_prune (i0 : Nat) (σ : Sg) : Option (Sg) :=
  (if (gi σ 3 i0 6) = 0 then (some σ) else (chk (vp_in ((gi σ 3 i0 6) - 1) 100) (lt_ (gi σ 13 i0 (((gi σ 3 i0 6) - 1).toNatClampNeg) : Int32) (fun (x2 : Int32) => chk (vp_in (gi σ 3 i0 6) 100) ((f_Pg_giveBack (gi σ 13 i0 ((gi σ 3 i0 6).toNatClampNeg)) σ).bind (fun σ4 => chk (vp_in ((gi σ4 3 i0 6) - 1) 100) ((f_Tr_without i0 x2 (gi σ4 14 i0 (((gi σ4 3 i0 6) - 1).toNatClampNeg)) σ4).bind (fun σ7 => bn2 (f_Pg_cells x2 σ7) (fun r11 σ9 => (if r11 ≤ 0 then (bn2 (f_Tr_childAt i0 x2 0 σ9) (fun r14 σ12 => Option.bind (if (gi σ12 3 i0 6) = 1 then ((f_Tr_become i0 (gi σ12 3 i0 1) r14 σ12).bind (fun σ24 => (f_Pg_giveBack r14 σ24).bind (fun σ26 => some (σ26)))) else (chk (vp_in ((gi σ12 3 i0 6) - 2) 100) (chk (vp_in ((gi σ12 3 i0 6) - 2) 100) ((f_Tr_lead i0 (gi σ12 13 i0 (((gi σ12 3 i0 6) - 2).toNatClampNeg)) (gi σ12 14 i0 (((gi σ12 3 i0 6) - 2).toNatClampNeg)) r14 σ12).bind (fun σ20 => (f_Pg_giveBack x2 σ20).bind (fun σ22 => some (σ22))))))) (fun (σ15 : Sg) => some σ15))) else (some σ9)))))))))))
abbrev rm_Tr_prune : Room := { frames := 5, cells := 0, slots := 0, locals := 122 }
set_option maxHeartbeats 4000000 in
set_option maxRecDepth 100000 in
theorem c_Tr_prune (l : Launch) (X : GX) (n : Nat) {σ σ' : Sg} {i0 : Nat} (h_i0 : i0 < cnt n 3) (hf : f_Tr_prune i0 σ = some σ') : Met l y_Tr_prune (cw y_Tr_prune b_Tr_prune 3 none) rm_Tr_prune (PcG X n σ [.ref (xL X 3 i0)]) (QcG X n σ' none) 0 0 (fr X n) := by
  refine g_head (own := "TableMachine$Tree") (by decide) rfl (Nat.le_of_ble_eq_true rfl) ?_
  intro p e s m args below meth c ls F hr hlk hP hl
  have hl : lv_has ls 3 [(0, .ref (xL X 3 i0))] := hl
  show WG l X n rm_Tr_prune σ' none p e s m args below meth c s.heap [] (F0 m 0 ls [])
  unfold f_Tr_prune at hf
  refine lv_aload_n F.1 F.2.1 d_Tr_prune_0 rfl (lv_at hl 0 rfl) ?_
  refine g_get F hP 3 6 i0 (by decide) h_i0 (by decide) (v := .int (gi σ 3 i0 6)) rfl w_404 d_Tr_prune_1 ?_
  refine lv_if_ne F.1 F.2.1 d_Tr_prune_4 rfl (fun hb30 => ?_) (fun hb30 => ?_)
  · rw [if_neg hb30] at hf
    refine lv_aload_n F.1 F.2.1 d_Tr_prune_8 rfl (lv_at hl 0 rfl) ?_
    refine g_get F hP 3 4 i0 (by decide) h_i0 (by decide) (v := .ref (xL X 13 i0)) rfl w_402 d_Tr_prune_9 ?_
    refine lv_aload_n F.1 F.2.1 d_Tr_prune_12 rfl (lv_at hl 0 rfl) ?_
    refine g_get F hP 3 6 i0 (by decide) h_i0 (by decide) (v := .int (gi σ 3 i0 6)) rfl w_404 d_Tr_prune_13 ?_
    refine lv_iconst (v := 1) F.1 F.2.1 d_Tr_prune_16 (by decide) ?_
    refine lv_isub F.1 F.2.1 d_Tr_prune_17 ?_
    obtain ⟨hc1, hf⟩ := chk_some hf
    refine g_ald F hP 13 (by decide) (by decide) h_i0 rfl rfl hc1 d_Tr_prune_18 ?_
    obtain ⟨x2, e_x2, hf⟩ := lt_some hf
    rw [← e_x2]
    refine lv_istore_n F.1 F.2.1 d_Tr_prune_19 rfl hl (by decide) rfl (fun ls hl => ?_)
    have hl : lv_has ls 3 [(1, .int x2), (0, .ref (xL X 3 i0))] := hl
    refine lv_aload_n F.1 F.2.1 d_Tr_prune_20 rfl (lv_at hl 1 rfl) ?_
    refine g_get F hP 3 0 i0 (by decide) h_i0 (by decide) (v := .ref (xL X 1 0)) rfl w_396 d_Tr_prune_21 ?_
    refine lv_aload_n F.1 F.2.1 d_Tr_prune_24 rfl (lv_at hl 1 rfl) ?_
    refine g_get F hP 3 4 i0 (by decide) h_i0 (by decide) (v := .ref (xL X 13 i0)) rfl w_402 d_Tr_prune_25 ?_
    refine lv_aload_n F.1 F.2.1 d_Tr_prune_28 rfl (lv_at hl 1 rfl) ?_
    refine g_get F hP 3 6 i0 (by decide) h_i0 (by decide) (v := .int (gi σ 3 i0 6)) rfl w_404 d_Tr_prune_29 ?_
    obtain ⟨hc3, hf⟩ := chk_some hf
    refine g_ald F hP 13 (by decide) (by decide) h_i0 rfl rfl hc3 d_Tr_prune_32 ?_
    obtain ⟨σ4, hk5, hf⟩ := bnd_some hf
    refine g_callV (As := [.int (gi σ 13 i0 ((gi σ 3 i0 6).toNatClampNeg))]) (rest := []) F hP 1 0 (by decide) Nat.zero_lt_one (c_Pg_giveBack l X n  hk5) rfl q_Pg_giveBack w_563 w_2 w_560 w_561 w_562 ⟨rfl, rfl⟩ ⟨by decide, by decide⟩ hl.1 (Nat.le_of_ble_eq_true rfl) ⟨Nat.zero_le _, Nat.zero_le _⟩ d_Tr_prune_33 rfl (fun H locs hP => ?_)
    refine W.eq (g2 := F0 m 36 ls []) rfl ?_
    refine lv_aload_n F.1 F.2.1 d_Tr_prune_36 rfl (lv_at hl 1 rfl) ?_
    refine lv_iload_n F.1 F.2.1 d_Tr_prune_37 rfl (lv_at hl 0 rfl) ?_
    refine lv_aload_n F.1 F.2.1 d_Tr_prune_38 rfl (lv_at hl 1 rfl) ?_
    refine g_get F hP 3 5 i0 (by decide) h_i0 (by decide) (v := .ref (xL X 14 i0)) rfl w_403 d_Tr_prune_39 ?_
    refine lv_aload_n F.1 F.2.1 d_Tr_prune_42 rfl (lv_at hl 1 rfl) ?_
    refine g_get F hP 3 6 i0 (by decide) h_i0 (by decide) (v := .int (gi σ4 3 i0 6)) rfl w_404 d_Tr_prune_43 ?_
    refine lv_iconst (v := 1) F.1 F.2.1 d_Tr_prune_46 (by decide) ?_
    refine lv_isub F.1 F.2.1 d_Tr_prune_47 ?_
    obtain ⟨hc6, hf⟩ := chk_some hf
    refine g_ald F hP 14 (by decide) (by decide) h_i0 rfl rfl hc6 d_Tr_prune_48 ?_
    obtain ⟨σ7, hk8, hf⟩ := bnd_some hf
    refine g_callV (As := [.int x2, .int (gi σ4 14 i0 (((gi σ4 3 i0 6) - 1).toNatClampNeg))]) (rest := []) F hP 3 i0 (by decide) h_i0 (c_Tr_without l X n h_i0 hk8) rfl q_Tr_without w_567 w_17 w_564 w_566 wp_16 ⟨rfl, rfl⟩ ⟨by decide, by decide⟩ hl.1 (Nat.le_of_ble_eq_true rfl) ⟨Nat.zero_le _, Nat.zero_le _⟩ d_Tr_prune_49 rfl (fun H locs hP => ?_)
    refine W.eq (g2 := F0 m 52 ls []) rfl ?_
    refine lv_aload_n F.1 F.2.1 d_Tr_prune_52 rfl (lv_at hl 1 rfl) ?_
    refine g_get F hP 3 0 i0 (by decide) h_i0 (by decide) (v := .ref (xL X 1 0)) rfl w_396 d_Tr_prune_53 ?_
    refine lv_iload_n F.1 F.2.1 d_Tr_prune_56 rfl (lv_at hl 0 rfl) ?_
    obtain ⟨r11, σ9, hk10, hf⟩ := bn2_some hf
    refine g_callV (As := [.int x2]) (rest := []) F hP 1 0 (by decide) Nat.zero_lt_one (c_Pg_cells l X n  hk10) rfl q_Pg_cells w_475 w_2 w_472 w_473 w_474 ⟨rfl, rfl⟩ ⟨by decide, by decide⟩ hl.1 (Nat.le_of_ble_eq_true rfl) ⟨Nat.zero_le _, Nat.zero_le _⟩ d_Tr_prune_57 rfl (fun H locs hP => ?_)
    refine W.eq (g2 := F0 m 60 ls [.int r11]) rfl ?_
    refine lv_if_le F.1 F.2.1 d_Tr_prune_60 rfl (fun hb29 => ?_) (fun hb29 => ?_)
    · rw [if_pos hb29] at hf
      refine lv_aload_n F.1 F.2.1 d_Tr_prune_64 rfl (lv_at hl 1 rfl) ?_
      refine lv_iload_n F.1 F.2.1 d_Tr_prune_65 rfl (lv_at hl 0 rfl) ?_
      refine lv_iconst (v := 0) F.1 F.2.1 d_Tr_prune_66 (by decide) ?_
      obtain ⟨r14, σ12, hk13, hf⟩ := bn2_some hf
      refine g_callV (As := [.int x2, .int 0]) (rest := []) F hP 3 i0 (by decide) h_i0 (c_Tr_childAt l X n h_i0 hk13) rfl q_Tr_childAt w_571 w_17 w_568 w_570 wp_17 ⟨rfl, rfl⟩ ⟨by decide, by decide⟩ hl.1 (Nat.le_of_ble_eq_true rfl) ⟨Nat.zero_le _, Nat.zero_le _⟩ d_Tr_prune_67 rfl (fun H locs hP => ?_)
      refine W.eq (g2 := F0 m 70 ls [.int r14]) rfl ?_
      refine lv_istore_n F.1 F.2.1 d_Tr_prune_70 rfl hl (by decide) rfl (fun ls hl => ?_)
      have hl : lv_has ls 3 [(2, .int r14), (1, .int x2), (0, .ref (xL X 3 i0))] := hl
      refine lv_aload_n F.1 F.2.1 d_Tr_prune_71 rfl (lv_at hl 2 rfl) ?_
      refine g_get F hP 3 6 i0 (by decide) h_i0 (by decide) (v := .int (gi σ12 3 i0 6)) rfl w_404 d_Tr_prune_72 ?_
      refine lv_iconst (v := 1) F.1 F.2.1 d_Tr_prune_75 (by decide) ?_
      obtain ⟨σ15, hj17, hf⟩ := bnd_some hf
      have KJ16 : ∀ (ls : Array Slot) (H : Heap) (locs : List Loc), lv_has ls 3 [] → St X n σ15 s.heap H locs → WG l X n rm_Tr_prune σ' none p e s m args below meth c H locs (F0 m 134 ls []) := by
        intro ls H locs hl hP
        cases hf
        exact g_vret F hP hr hlk d_Tr_prune_134
      refine lv_icmp_ne F.1 F.2.1 d_Tr_prune_76 rfl (fun hb28 => ?_) (fun hb28 => ?_)
      · rw [if_neg hb28] at hj17
        refine lv_aload_n F.1 F.2.1 d_Tr_prune_99 rfl (lv_at hl 2 rfl) ?_
        refine lv_aload_n F.1 F.2.1 d_Tr_prune_100 rfl (lv_at hl 2 rfl) ?_
        refine g_get F hP 3 4 i0 (by decide) h_i0 (by decide) (v := .ref (xL X 13 i0)) rfl w_402 d_Tr_prune_101 ?_
        refine lv_aload_n F.1 F.2.1 d_Tr_prune_104 rfl (lv_at hl 2 rfl) ?_
        refine g_get F hP 3 6 i0 (by decide) h_i0 (by decide) (v := .int (gi σ12 3 i0 6)) rfl w_404 d_Tr_prune_105 ?_
        refine lv_iconst (v := 2) F.1 F.2.1 d_Tr_prune_108 (by decide) ?_
        refine lv_isub F.1 F.2.1 d_Tr_prune_109 ?_
        obtain ⟨hc18, hj17⟩ := chk_some hj17
        refine g_ald F hP 13 (by decide) (by decide) h_i0 rfl rfl hc18 d_Tr_prune_110 ?_
        refine lv_aload_n F.1 F.2.1 d_Tr_prune_111 rfl (lv_at hl 2 rfl) ?_
        refine g_get F hP 3 5 i0 (by decide) h_i0 (by decide) (v := .ref (xL X 14 i0)) rfl w_403 d_Tr_prune_112 ?_
        refine lv_aload_n F.1 F.2.1 d_Tr_prune_115 rfl (lv_at hl 2 rfl) ?_
        refine g_get F hP 3 6 i0 (by decide) h_i0 (by decide) (v := .int (gi σ12 3 i0 6)) rfl w_404 d_Tr_prune_116 ?_
        refine lv_iconst (v := 2) F.1 F.2.1 d_Tr_prune_119 (by decide) ?_
        refine lv_isub F.1 F.2.1 d_Tr_prune_120 ?_
        obtain ⟨hc19, hj17⟩ := chk_some hj17
        refine g_ald F hP 14 (by decide) (by decide) h_i0 rfl rfl hc19 d_Tr_prune_121 ?_
        refine lv_iload_n F.1 F.2.1 d_Tr_prune_122 rfl (lv_at hl 0 rfl) ?_
        obtain ⟨σ20, hk21, hj17⟩ := bnd_some hj17
        refine g_callV (As := [.int (gi σ12 13 i0 (((gi σ12 3 i0 6) - 2).toNatClampNeg)), .int (gi σ12 14 i0 (((gi σ12 3 i0 6) - 2).toNatClampNeg)), .int r14]) (rest := []) F hP 3 i0 (by decide) h_i0 (c_Tr_lead l X n h_i0 hk21) rfl q_Tr_lead w_575 w_17 w_572 w_574 wp_18 ⟨rfl, rfl⟩ ⟨by decide, by decide⟩ hl.1 (Nat.le_of_ble_eq_true rfl) ⟨Nat.zero_le _, Nat.zero_le _⟩ d_Tr_prune_123 rfl (fun H locs hP => ?_)
        refine W.eq (g2 := F0 m 126 ls []) rfl ?_
        refine lv_aload_n F.1 F.2.1 d_Tr_prune_126 rfl (lv_at hl 2 rfl) ?_
        refine g_get F hP 3 0 i0 (by decide) h_i0 (by decide) (v := .ref (xL X 1 0)) rfl w_396 d_Tr_prune_127 ?_
        refine lv_iload_n F.1 F.2.1 d_Tr_prune_130 rfl (lv_at hl 1 rfl) ?_
        obtain ⟨σ22, hk23, hj17⟩ := bnd_some hj17
        refine g_callV (As := [.int x2]) (rest := []) F hP 1 0 (by decide) Nat.zero_lt_one (c_Pg_giveBack l X n  hk23) rfl q_Pg_giveBack w_563 w_2 w_560 w_561 w_562 ⟨rfl, rfl⟩ ⟨by decide, by decide⟩ hl.1 (Nat.le_of_ble_eq_true rfl) ⟨Nat.zero_le _, Nat.zero_le _⟩ d_Tr_prune_131 rfl (fun H locs hP => ?_)
        refine W.eq (g2 := F0 m 134 ls []) rfl ?_
        cases hj17
        exact KJ16 _ _ _ (lv_sub hl [] rfl) hP
      · rw [if_pos hb28] at hj17
        refine lv_aload_n F.1 F.2.1 d_Tr_prune_79 rfl (lv_at hl 2 rfl) ?_
        refine lv_aload_n F.1 F.2.1 d_Tr_prune_80 rfl (lv_at hl 2 rfl) ?_
        refine g_get F hP 3 1 i0 (by decide) h_i0 (by decide) (v := .int (gi σ12 3 i0 1)) rfl w_397 d_Tr_prune_81 ?_
        refine lv_iload_n F.1 F.2.1 d_Tr_prune_84 rfl (lv_at hl 0 rfl) ?_
        obtain ⟨σ24, hk25, hj17⟩ := bnd_some hj17
        refine g_callV (As := [.int (gi σ12 3 i0 1), .int r14]) (rest := []) F hP 3 i0 (by decide) h_i0 (c_Tr_become l X n h_i0 hk25) rfl q_Tr_become w_535 w_17 w_532 w_534 wp_12 ⟨rfl, rfl⟩ ⟨by decide, by decide⟩ hl.1 (Nat.le_of_ble_eq_true rfl) ⟨Nat.zero_le _, Nat.zero_le _⟩ d_Tr_prune_85 rfl (fun H locs hP => ?_)
        refine W.eq (g2 := F0 m 88 ls []) rfl ?_
        refine lv_aload_n F.1 F.2.1 d_Tr_prune_88 rfl (lv_at hl 2 rfl) ?_
        refine g_get F hP 3 0 i0 (by decide) h_i0 (by decide) (v := .ref (xL X 1 0)) rfl w_396 d_Tr_prune_89 ?_
        refine lv_iload_n F.1 F.2.1 d_Tr_prune_92 rfl (lv_at hl 0 rfl) ?_
        obtain ⟨σ26, hk27, hj17⟩ := bnd_some hj17
        refine g_callV (As := [.int r14]) (rest := []) F hP 1 0 (by decide) Nat.zero_lt_one (c_Pg_giveBack l X n  hk27) rfl q_Pg_giveBack w_563 w_2 w_560 w_561 w_562 ⟨rfl, rfl⟩ ⟨by decide, by decide⟩ hl.1 (Nat.le_of_ble_eq_true rfl) ⟨Nat.zero_le _, Nat.zero_le _⟩ d_Tr_prune_93 rfl (fun H locs hP => ?_)
        refine W.eq (g2 := F0 m 96 ls []) rfl ?_
        refine lv_goto F.1 F.2.1 d_Tr_prune_96 rfl ?_
        cases hj17
        exact KJ16 _ _ _ (lv_sub hl [] rfl) hP
    · rw [if_neg hb29] at hf
      cases hf
      exact g_vret F hP hr hlk d_Tr_prune_63
  · rw [if_pos hb30] at hf
    cases hf
    exact g_vret F hP hr hlk d_Tr_prune_7

theorem d_Tr_remove_0 : decode b_Tr_remove 0 = .ok (.aload_n 0, 1) := by decide +kernel
theorem d_Tr_remove_1 : decode b_Tr_remove 1 = .ok (.lload_n 1, 1) := by decide +kernel
theorem d_Tr_remove_2 : decode b_Tr_remove 2 = .ok (.invokevirtual 94, 3) := by decide +kernel
theorem d_Tr_remove_5 : decode b_Tr_remove 5 = .ok (.aload_n 0, 1) := by decide +kernel
theorem d_Tr_remove_6 : decode b_Tr_remove 6 = .ok (.invokevirtual 98, 3) := by decide +kernel
theorem d_Tr_remove_9 : decode b_Tr_remove 9 = .ok (.istore_n 3, 1) := by decide +kernel
theorem d_Tr_remove_10 : decode b_Tr_remove 10 = .ok (.aload_n 0, 1) := by decide +kernel
theorem d_Tr_remove_11 : decode b_Tr_remove 11 = .ok (.iload_n 3, 1) := by decide +kernel
theorem d_Tr_remove_12 : decode b_Tr_remove 12 = .ok (.invokevirtual 125, 3) := by decide +kernel
theorem d_Tr_remove_15 : decode b_Tr_remove 15 = .ok (.istore 4, 2) := by decide +kernel
theorem d_Tr_remove_17 : decode b_Tr_remove 17 = .ok (.aload_n 0, 1) := by decide +kernel
theorem d_Tr_remove_18 : decode b_Tr_remove 18 = .ok (.getfield 27, 3) := by decide +kernel
theorem d_Tr_remove_21 : decode b_Tr_remove 21 = .ok (.iload_n 3, 1) := by decide +kernel
theorem d_Tr_remove_22 : decode b_Tr_remove 22 = .ok (.invokevirtual 48, 3) := by decide +kernel
theorem d_Tr_remove_25 : decode b_Tr_remove 25 = .ok (.astore 5, 2) := by decide +kernel
theorem d_Tr_remove_27 : decode b_Tr_remove 27 = .ok (.aload_n 0, 1) := by decide +kernel
theorem d_Tr_remove_28 : decode b_Tr_remove 28 = .ok (.getfield 23, 3) := by decide +kernel
theorem d_Tr_remove_31 : decode b_Tr_remove 31 = .ok (.iconst 0, 1) := by decide +kernel
theorem d_Tr_remove_32 : decode b_Tr_remove 32 = .ok (.putfield 70, 3) := by decide +kernel
theorem d_Tr_remove_35 : decode b_Tr_remove 35 = .ok (.aload_n 0, 1) := by decide +kernel
theorem d_Tr_remove_36 : decode b_Tr_remove 36 = .ok (.getfield 23, 3) := by decide +kernel
theorem d_Tr_remove_39 : decode b_Tr_remove 39 = .ok (.aload 5, 2) := by decide +kernel
theorem d_Tr_remove_41 : decode b_Tr_remove 41 = .ok (.iconst 2, 1) := by decide +kernel
theorem d_Tr_remove_42 : decode b_Tr_remove 42 = .ok (.aload_n 0, 1) := by decide +kernel
theorem d_Tr_remove_43 : decode b_Tr_remove 43 = .ok (.getfield 88, 3) := by decide +kernel
theorem d_Tr_remove_46 : decode b_Tr_remove 46 = .ok (.invokevirtual 121, 3) := by decide +kernel
theorem d_Tr_remove_49 : decode b_Tr_remove 49 = .ok (.aload_n 0, 1) := by decide +kernel
theorem d_Tr_remove_50 : decode b_Tr_remove 50 = .ok (.getfield 23, 3) := by decide +kernel
theorem d_Tr_remove_53 : decode b_Tr_remove 53 = .ok (.aload 5, 2) := by decide +kernel
theorem d_Tr_remove_55 : decode b_Tr_remove 55 = .ok (.aload_n 0, 1) := by decide +kernel
theorem d_Tr_remove_56 : decode b_Tr_remove 56 = .ok (.getfield 91, 3) := by decide +kernel
theorem d_Tr_remove_59 : decode b_Tr_remove 59 = .ok (.iload 4, 2) := by decide +kernel
theorem d_Tr_remove_61 : decode b_Tr_remove 61 = .ok (.invokevirtual 121, 3) := by decide +kernel
theorem d_Tr_remove_64 : decode b_Tr_remove 64 = .ok (.aload_n 0, 1) := by decide +kernel
theorem d_Tr_remove_65 : decode b_Tr_remove 65 = .ok (.iload_n 3, 1) := by decide +kernel
theorem d_Tr_remove_66 : decode b_Tr_remove 66 = .ok (.iconst 1, 1) := by decide +kernel
theorem d_Tr_remove_67 : decode b_Tr_remove 67 = .ok (.aload_n 0, 1) := by decide +kernel
theorem d_Tr_remove_68 : decode b_Tr_remove 68 = .ok (.getfield 27, 3) := by decide +kernel
theorem d_Tr_remove_71 : decode b_Tr_remove 71 = .ok (.iload_n 3, 1) := by decide +kernel
theorem d_Tr_remove_72 : decode b_Tr_remove 72 = .ok (.invokevirtual 58, 3) := by decide +kernel
theorem d_Tr_remove_75 : decode b_Tr_remove 75 = .ok (.iconst 1, 1) := by decide +kernel
theorem d_Tr_remove_76 : decode b_Tr_remove 76 = .ok (.isub, 1) := by decide +kernel
theorem d_Tr_remove_77 : decode b_Tr_remove 77 = .ok (.iconst 0, 1) := by decide +kernel
theorem d_Tr_remove_78 : decode b_Tr_remove 78 = .ok (.aload_n 0, 1) := by decide +kernel
theorem d_Tr_remove_79 : decode b_Tr_remove 79 = .ok (.getfield 23, 3) := by decide +kernel
theorem d_Tr_remove_82 : decode b_Tr_remove 82 = .ok (.getfield 70, 3) := by decide +kernel
theorem d_Tr_remove_85 : decode b_Tr_remove 85 = .ok (.invokevirtual 137, 3) := by decide +kernel
theorem d_Tr_remove_88 : decode b_Tr_remove 88 = .ok (.aload_n 0, 1) := by decide +kernel
theorem d_Tr_remove_89 : decode b_Tr_remove 89 = .ok (.dup, 1) := by decide +kernel
theorem d_Tr_remove_90 : decode b_Tr_remove 90 = .ok (.getfield 134, 3) := by decide +kernel
theorem d_Tr_remove_93 : decode b_Tr_remove 93 = .ok (.iconst 1, 1) := by decide +kernel
theorem d_Tr_remove_94 : decode b_Tr_remove 94 = .ok (.isub, 1) := by decide +kernel
theorem d_Tr_remove_95 : decode b_Tr_remove 95 = .ok (.putfield 134, 3) := by decide +kernel
theorem d_Tr_remove_98 : decode b_Tr_remove 98 = .ok (.aload_n 0, 1) := by decide +kernel
theorem d_Tr_remove_99 : decode b_Tr_remove 99 = .ok (.getfield 27, 3) := by decide +kernel
theorem d_Tr_remove_102 : decode b_Tr_remove 102 = .ok (.iload_n 3, 1) := by decide +kernel
theorem d_Tr_remove_103 : decode b_Tr_remove 103 = .ok (.invokevirtual 58, 3) := by decide +kernel
theorem d_Tr_remove_106 : decode b_Tr_remove 106 = .ok (.ifCond .ne 7, 3) := by decide +kernel
theorem d_Tr_remove_109 : decode b_Tr_remove 109 = .ok (.aload_n 0, 1) := by decide +kernel
theorem d_Tr_remove_110 : decode b_Tr_remove 110 = .ok (.invokevirtual 172, 3) := by decide +kernel
theorem d_Tr_remove_113 : decode b_Tr_remove 113 = .ok (.return_, 1) := by decide +kernel
noncomputable def f_Tr_remove (i0 : Nat) (a1 : Int64) (σ : Sg) : Option (Sg) :=
  (f_Tr_find i0 a1 σ).bind (fun σ1 => bn2 (f_Tr_leaf i0 σ1) (fun r5 σ3 => bn2 (f_Tr_size i0 r5 σ3) (fun r8 σ6 => bn2 (f_Pg_open r5 σ6) (fun r11 σ9 => lt_ (si σ9 2 (240 + i0) 1 0) (fun σ13 => (f_Tp_copy (240 + i0) r11 2 (gi σ13 3 i0 7) σ13).bind (fun σ14 => (f_Tp_copy (240 + i0) r11 (gi σ14 3 i0 8) r8 σ14).bind (fun σ16 => bn2 (f_Pg_cells r5 σ16) (fun r20 σ18 => (f_Tr_fill i0 r5 1 (r20 - 1) 0 (gi σ18 2 (240 + i0) 1) σ18).bind (fun σ21 => lt_ (si σ21 3 i0 3 ((gi σ21 3 i0 3) - 1)) (fun σ23 => bn2 (f_Pg_cells r5 σ23) (fun r26 σ24 => Option.bind (if r26 = 0 then ((f_Tr_prune i0 σ24).bind (fun σ30 => some (σ30))) else (some (σ24))) (fun (σ27 : Sg) => some σ27))))))))))))
abbrev rm_Tr_remove : Room := { frames := 6, cells := 0, slots := 0, locals := 144 }
set_option maxHeartbeats 4000000 in
set_option maxRecDepth 100000 in
theorem c_Tr_remove (l : Launch) (X : GX) (n : Nat) {σ σ' : Sg} {i0 : Nat} {a1 : Int64} (h_i0 : i0 < cnt n 3) (hf : f_Tr_remove i0 a1 σ = some σ') : Met l y_Tr_remove (cw y_Tr_remove b_Tr_remove 6 none) rm_Tr_remove (PcG X n σ [.ref (xL X 3 i0), .long a1]) (QcG X n σ' none) 0 0 (fr X n) := by
  refine g_head (own := "TableMachine$Tree") (by decide) rfl (Nat.le_of_ble_eq_true rfl) ?_
  intro p e s m args below meth c ls F hr hlk hP hl
  have hl : lv_has ls 6 [(0, .ref (xL X 3 i0)), (1, .long a1)] := hl
  show WG l X n rm_Tr_remove σ' none p e s m args below meth c s.heap [] (F0 m 0 ls [])
  unfold f_Tr_remove at hf
  refine lv_aload_n F.1 F.2.1 d_Tr_remove_0 rfl (lv_at hl 0 rfl) ?_
  refine lv_lload_n F.1 F.2.1 d_Tr_remove_1 rfl (lv_at hl 1 rfl) ?_
  obtain ⟨σ1, hk2, hf⟩ := bnd_some hf
  refine g_callV (As := [.long a1]) (rest := []) F hP 3 i0 (by decide) h_i0 (c_Tr_find l X n h_i0 hk2) rfl q_Tr_find w_455 w_17 w_452 w_454 wp_3 ⟨rfl, rfl⟩ ⟨by decide, by decide⟩ hl.1 (Nat.le_of_ble_eq_true rfl) ⟨Nat.zero_le _, Nat.zero_le _⟩ d_Tr_remove_2 rfl (fun H locs hP => ?_)
  refine W.eq (g2 := F0 m 5 ls []) rfl ?_
  refine lv_aload_n F.1 F.2.1 d_Tr_remove_5 rfl (lv_at hl 0 rfl) ?_
  obtain ⟨r5, σ3, hk4, hf⟩ := bn2_some hf
  refine g_callV (As := []) (rest := []) F hP 3 i0 (by decide) h_i0 (c_Tr_leaf l X n h_i0 hk4) rfl q_Tr_leaf w_492 w_17 w_489 w_491 wp_6 ⟨rfl, rfl⟩ ⟨by decide, by decide⟩ hl.1 (Nat.le_of_ble_eq_true rfl) ⟨Nat.zero_le _, Nat.zero_le _⟩ d_Tr_remove_6 rfl (fun H locs hP => ?_)
  refine W.eq (g2 := F0 m 9 ls [.int r5]) rfl ?_
  refine lv_istore_n F.1 F.2.1 d_Tr_remove_9 rfl hl (by decide) rfl (fun ls hl => ?_)
  have hl : lv_has ls 6 [(3, .int r5), (0, .ref (xL X 3 i0)), (1, .long a1)] := hl
  refine lv_aload_n F.1 F.2.1 d_Tr_remove_10 rfl (lv_at hl 1 rfl) ?_
  refine lv_iload_n F.1 F.2.1 d_Tr_remove_11 rfl (lv_at hl 0 rfl) ?_
  obtain ⟨r8, σ6, hk7, hf⟩ := bn2_some hf
  refine g_callV (As := [.int r5]) (rest := []) F hP 3 i0 (by decide) h_i0 (c_Tr_size l X n h_i0 hk7) rfl q_Tr_size w_496 w_17 w_493 w_495 wp_7 ⟨rfl, rfl⟩ ⟨by decide, by decide⟩ hl.1 (Nat.le_of_ble_eq_true rfl) ⟨Nat.zero_le _, Nat.zero_le _⟩ d_Tr_remove_12 rfl (fun H locs hP => ?_)
  refine W.eq (g2 := F0 m 15 ls [.int r8]) rfl ?_
  refine lv_istore F.1 F.2.1 d_Tr_remove_15 hl (by decide) rfl (fun ls hl => ?_)
  have hl : lv_has ls 6 [(4, .int r8), (3, .int r5), (0, .ref (xL X 3 i0)), (1, .long a1)] := hl
  refine lv_aload_n F.1 F.2.1 d_Tr_remove_17 rfl (lv_at hl 2 rfl) ?_
  refine g_get F hP 3 0 i0 (by decide) h_i0 (by decide) (v := .ref (xL X 1 0)) rfl w_396 d_Tr_remove_18 ?_
  refine lv_iload_n F.1 F.2.1 d_Tr_remove_21 rfl (lv_at hl 1 rfl) ?_
  obtain ⟨r11, σ9, hk10, hf⟩ := bn2_some hf
  have hv12 : r11 < cnt n 2 := v_Pg_open  hk10
  refine g_callV (As := [.int r5]) (rest := []) F hP 1 0 (by decide) Nat.zero_lt_one (c_Pg_open l X n  hk10) rfl q_Pg_open w_467 w_2 w_464 w_465 w_466 ⟨rfl, rfl⟩ ⟨by decide, by decide⟩ hl.1 (Nat.le_of_ble_eq_true rfl) ⟨Nat.zero_le _, Nat.zero_le _⟩ d_Tr_remove_22 rfl (fun H locs hP => ?_)
  refine W.eq (g2 := F0 m 25 ls [.ref (xL X 2 r11)]) rfl ?_
  refine lv_astore F.1 F.2.1 d_Tr_remove_25 hl (by decide) rfl (fun ls hl => ?_)
  have hl : lv_has ls 6 [(5, .ref (xL X 2 r11)), (4, .int r8), (3, .int r5), (0, .ref (xL X 3 i0)), (1, .long a1)] := hl
  refine lv_aload_n F.1 F.2.1 d_Tr_remove_27 rfl (lv_at hl 3 rfl) ?_
  refine g_get F hP 3 11 i0 (by decide) h_i0 (by decide) (v := .ref (xL X 2 (240 + i0))) rfl w_409 d_Tr_remove_28 ?_
  refine lv_iconst (v := 0) F.1 F.2.1 d_Tr_remove_31 (by decide) ?_
  obtain ⟨σ13, e_σ13, hf⟩ := lt_some hf
  refine g_puti F hP 2 1 (240 + i0) (by decide) (Nat.add_lt_add_left h_i0 240) (by decide) rfl rfl rfl rfl (Or.inr w_50) d_Tr_remove_32 e_σ13 (fun H locs hP => ?_)
  refine lv_aload_n F.1 F.2.1 d_Tr_remove_35 rfl (lv_at hl 3 rfl) ?_
  refine g_get F hP 3 11 i0 (by decide) h_i0 (by decide) (v := .ref (xL X 2 (240 + i0))) rfl w_409 d_Tr_remove_36 ?_
  refine lv_aload F.1 F.2.1 d_Tr_remove_39 (lv_at hl 0 rfl) ?_
  refine lv_iconst (v := 2) F.1 F.2.1 d_Tr_remove_41 (by decide) ?_
  refine lv_aload_n F.1 F.2.1 d_Tr_remove_42 rfl (lv_at hl 3 rfl) ?_
  refine g_get F hP 3 7 i0 (by decide) h_i0 (by decide) (v := .int (gi σ13 3 i0 7)) rfl w_405 d_Tr_remove_43 ?_
  obtain ⟨σ14, hk15, hf⟩ := bnd_some hf
  refine g_callV (As := [.ref (xL X 2 r11), .int 2, .int (gi σ13 3 i0 7)]) (rest := []) F hP 2 (240 + i0) (by decide) (Nat.add_lt_add_left h_i0 240) (c_Tp_copy l X n (Nat.add_lt_add_left h_i0 240) hv12 hk15) rfl q_Tp_copy w_500 w_3 w_497 w_498 w_499 ⟨rfl, rfl⟩ ⟨by decide, by decide⟩ hl.1 (Nat.le_of_ble_eq_true rfl) ⟨Nat.zero_le _, Nat.zero_le _⟩ d_Tr_remove_46 rfl (fun H locs hP => ?_)
  refine W.eq (g2 := F0 m 49 ls []) rfl ?_
  refine lv_aload_n F.1 F.2.1 d_Tr_remove_49 rfl (lv_at hl 3 rfl) ?_
  refine g_get F hP 3 11 i0 (by decide) h_i0 (by decide) (v := .ref (xL X 2 (240 + i0))) rfl w_409 d_Tr_remove_50 ?_
  refine lv_aload F.1 F.2.1 d_Tr_remove_53 (lv_at hl 0 rfl) ?_
  refine lv_aload_n F.1 F.2.1 d_Tr_remove_55 rfl (lv_at hl 3 rfl) ?_
  refine g_get F hP 3 8 i0 (by decide) h_i0 (by decide) (v := .int (gi σ14 3 i0 8)) rfl w_406 d_Tr_remove_56 ?_
  refine lv_iload F.1 F.2.1 d_Tr_remove_59 (lv_at hl 1 rfl) ?_
  obtain ⟨σ16, hk17, hf⟩ := bnd_some hf
  refine g_callV (As := [.ref (xL X 2 r11), .int (gi σ14 3 i0 8), .int r8]) (rest := []) F hP 2 (240 + i0) (by decide) (Nat.add_lt_add_left h_i0 240) (c_Tp_copy l X n (Nat.add_lt_add_left h_i0 240) hv12 hk17) rfl q_Tp_copy w_500 w_3 w_497 w_498 w_499 ⟨rfl, rfl⟩ ⟨by decide, by decide⟩ hl.1 (Nat.le_of_ble_eq_true rfl) ⟨Nat.zero_le _, Nat.zero_le _⟩ d_Tr_remove_61 rfl (fun H locs hP => ?_)
  refine W.eq (g2 := F0 m 64 ls []) rfl ?_
  refine lv_aload_n F.1 F.2.1 d_Tr_remove_64 rfl (lv_at hl 3 rfl) ?_
  refine lv_iload_n F.1 F.2.1 d_Tr_remove_65 rfl (lv_at hl 2 rfl) ?_
  refine lv_iconst (v := 1) F.1 F.2.1 d_Tr_remove_66 (by decide) ?_
  refine lv_aload_n F.1 F.2.1 d_Tr_remove_67 rfl (lv_at hl 3 rfl) ?_
  refine g_get F hP 3 0 i0 (by decide) h_i0 (by decide) (v := .ref (xL X 1 0)) rfl w_396 d_Tr_remove_68 ?_
  refine lv_iload_n F.1 F.2.1 d_Tr_remove_71 rfl (lv_at hl 2 rfl) ?_
  obtain ⟨r20, σ18, hk19, hf⟩ := bn2_some hf
  refine g_callV (As := [.int r5]) (rest := [.int 1, .int r5, .ref (xL X 3 i0)]) F hP 1 0 (by decide) Nat.zero_lt_one (c_Pg_cells l X n  hk19) rfl q_Pg_cells w_475 w_2 w_472 w_473 w_474 ⟨rfl, rfl⟩ ⟨by decide, by decide⟩ hl.1 (Nat.le_of_ble_eq_true rfl) ⟨Nat.zero_le _, Nat.zero_le _⟩ d_Tr_remove_72 rfl (fun H locs hP => ?_)
  refine W.eq (g2 := F0 m 75 ls [.int r20, .int 1, .int r5, .ref (xL X 3 i0)]) rfl ?_
  refine lv_iconst (v := 1) F.1 F.2.1 d_Tr_remove_75 (by decide) ?_
  refine lv_isub F.1 F.2.1 d_Tr_remove_76 ?_
  refine lv_iconst (v := 0) F.1 F.2.1 d_Tr_remove_77 (by decide) ?_
  refine lv_aload_n F.1 F.2.1 d_Tr_remove_78 rfl (lv_at hl 3 rfl) ?_
  refine g_get F hP 3 11 i0 (by decide) h_i0 (by decide) (v := .ref (xL X 2 (240 + i0))) rfl w_409 d_Tr_remove_79 ?_
  refine g_getN F hP 2 1 (240 + i0) (by decide) (Nat.add_lt_add_left h_i0 240) (by decide) (v := .int (gi σ18 2 (240 + i0) 1)) rfl w_50 d_Tr_remove_82 ?_
  obtain ⟨σ21, hk22, hf⟩ := bnd_some hf
  refine g_callV (As := [.int r5, .int 1, .int (r20 - 1), .int 0, .int (gi σ18 2 (240 + i0) 1)]) (rest := []) F hP 3 i0 (by decide) h_i0 (c_Tr_fill l X n h_i0 hk22) rfl q_Tr_fill w_519 w_17 w_516 w_518 wp_8 ⟨rfl, rfl⟩ ⟨by decide, by decide⟩ hl.1 (Nat.le_of_ble_eq_true rfl) ⟨Nat.zero_le _, Nat.zero_le _⟩ d_Tr_remove_85 rfl (fun H locs hP => ?_)
  refine W.eq (g2 := F0 m 88 ls []) rfl ?_
  refine lv_aload_n F.1 F.2.1 d_Tr_remove_88 rfl (lv_at hl 3 rfl) ?_
  refine lv_dup F.1 F.2.1 d_Tr_remove_89 rfl ?_
  refine g_get F hP 3 3 i0 (by decide) h_i0 (by decide) (v := .int (gi σ21 3 i0 3)) rfl w_401 d_Tr_remove_90 ?_
  refine lv_iconst (v := 1) F.1 F.2.1 d_Tr_remove_93 (by decide) ?_
  refine lv_isub F.1 F.2.1 d_Tr_remove_94 ?_
  obtain ⟨σ23, e_σ23, hf⟩ := lt_some hf
  refine g_puti F hP 3 3 i0 (by decide) h_i0 (by decide) rfl rfl rfl rfl (Or.inl w_401) d_Tr_remove_95 e_σ23 (fun H locs hP => ?_)
  refine lv_aload_n F.1 F.2.1 d_Tr_remove_98 rfl (lv_at hl 3 rfl) ?_
  refine g_get F hP 3 0 i0 (by decide) h_i0 (by decide) (v := .ref (xL X 1 0)) rfl w_396 d_Tr_remove_99 ?_
  refine lv_iload_n F.1 F.2.1 d_Tr_remove_102 rfl (lv_at hl 2 rfl) ?_
  obtain ⟨r26, σ24, hk25, hf⟩ := bn2_some hf
  refine g_callV (As := [.int r5]) (rest := []) F hP 1 0 (by decide) Nat.zero_lt_one (c_Pg_cells l X n  hk25) rfl q_Pg_cells w_475 w_2 w_472 w_473 w_474 ⟨rfl, rfl⟩ ⟨by decide, by decide⟩ hl.1 (Nat.le_of_ble_eq_true rfl) ⟨Nat.zero_le _, Nat.zero_le _⟩ d_Tr_remove_103 rfl (fun H locs hP => ?_)
  refine W.eq (g2 := F0 m 106 ls [.int r26]) rfl ?_
  obtain ⟨σ27, hj29, hf⟩ := bnd_some hf
  have KJ28 : ∀ (ls : Array Slot) (H : Heap) (locs : List Loc), lv_has ls 6 [] → St X n σ27 s.heap H locs → WG l X n rm_Tr_remove σ' none p e s m args below meth c H locs (F0 m 113 ls []) := by
    intro ls H locs hl hP
    cases hf
    exact g_vret F hP hr hlk d_Tr_remove_113
  refine lv_if_ne F.1 F.2.1 d_Tr_remove_106 rfl (fun hb32 => ?_) (fun hb32 => ?_)
  · rw [if_neg hb32] at hj29
    cases hj29
    exact KJ28 _ _ _ (lv_sub hl [] rfl) hP
  · rw [if_pos hb32] at hj29
    refine lv_aload_n F.1 F.2.1 d_Tr_remove_109 rfl (lv_at hl 3 rfl) ?_
    obtain ⟨σ30, hk31, hj29⟩ := bnd_some hj29
    refine g_callV (As := []) (rest := []) F hP 3 i0 (by decide) h_i0 (c_Tr_prune l X n h_i0 hk31) rfl q_Tr_prune w_559 w_17 w_556 w_558 wp_15 ⟨rfl, rfl⟩ ⟨by decide, by decide⟩ hl.1 (Nat.le_of_ble_eq_true rfl) ⟨Nat.zero_le _, Nat.zero_le _⟩ d_Tr_remove_110 rfl (fun H locs hP => ?_)
    refine W.eq (g2 := F0 m 113 ls []) rfl ?_
    cases hj29
    exact KJ28 _ _ _ (lv_sub hl [] rfl) hP

theorem d_Tr_nextLeaf_0 : decode b_Tr_nextLeaf 0 = .ok (.aload_n 0, 1) := by decide +kernel
theorem d_Tr_nextLeaf_1 : decode b_Tr_nextLeaf 1 = .ok (.getfield 55, 3) := by decide +kernel
theorem d_Tr_nextLeaf_4 : decode b_Tr_nextLeaf 4 = .ok (.iconst 1, 1) := by decide +kernel
theorem d_Tr_nextLeaf_5 : decode b_Tr_nextLeaf 5 = .ok (.isub, 1) := by decide +kernel
theorem d_Tr_nextLeaf_6 : decode b_Tr_nextLeaf 6 = .ok (.istore_n 1, 1) := by decide +kernel
theorem d_Tr_nextLeaf_7 : decode b_Tr_nextLeaf 7 = .ok (.iload_n 1, 1) := by decide +kernel
theorem d_Tr_nextLeaf_8 : decode b_Tr_nextLeaf 8 = .ok (.ifCond .lt 31, 3) := by decide +kernel
theorem d_Tr_nextLeaf_11 : decode b_Tr_nextLeaf 11 = .ok (.aload_n 0, 1) := by decide +kernel
theorem d_Tr_nextLeaf_12 : decode b_Tr_nextLeaf 12 = .ok (.getfield 15, 3) := by decide +kernel
theorem d_Tr_nextLeaf_15 : decode b_Tr_nextLeaf 15 = .ok (.iload_n 1, 1) := by decide +kernel
theorem d_Tr_nextLeaf_16 : decode b_Tr_nextLeaf 16 = .ok (.iaload, 1) := by decide +kernel
theorem d_Tr_nextLeaf_17 : decode b_Tr_nextLeaf 17 = .ok (.aload_n 0, 1) := by decide +kernel
theorem d_Tr_nextLeaf_18 : decode b_Tr_nextLeaf 18 = .ok (.getfield 27, 3) := by decide +kernel
theorem d_Tr_nextLeaf_21 : decode b_Tr_nextLeaf 21 = .ok (.aload_n 0, 1) := by decide +kernel
theorem d_Tr_nextLeaf_22 : decode b_Tr_nextLeaf 22 = .ok (.getfield 9, 3) := by decide +kernel
theorem d_Tr_nextLeaf_25 : decode b_Tr_nextLeaf 25 = .ok (.iload_n 1, 1) := by decide +kernel
theorem d_Tr_nextLeaf_26 : decode b_Tr_nextLeaf 26 = .ok (.iaload, 1) := by decide +kernel
theorem d_Tr_nextLeaf_27 : decode b_Tr_nextLeaf 27 = .ok (.invokevirtual 58, 3) := by decide +kernel
theorem d_Tr_nextLeaf_30 : decode b_Tr_nextLeaf 30 = .ok (.if_icmp .ne 9, 3) := by decide +kernel
theorem d_Tr_nextLeaf_33 : decode b_Tr_nextLeaf 33 = .ok (.iinc 1 (-1), 3) := by decide +kernel
theorem d_Tr_nextLeaf_36 : decode b_Tr_nextLeaf 36 = .ok (.goto (-29), 3) := by decide +kernel
theorem d_Tr_nextLeaf_39 : decode b_Tr_nextLeaf 39 = .ok (.iload_n 1, 1) := by decide +kernel
theorem d_Tr_nextLeaf_40 : decode b_Tr_nextLeaf 40 = .ok (.ifCond .ge 5, 3) := by decide +kernel
theorem d_Tr_nextLeaf_43 : decode b_Tr_nextLeaf 43 = .ok (.iconst 0, 1) := by decide +kernel
theorem d_Tr_nextLeaf_44 : decode b_Tr_nextLeaf 44 = .ok (.ireturn, 1) := by decide +kernel
theorem d_Tr_nextLeaf_45 : decode b_Tr_nextLeaf 45 = .ok (.aload_n 0, 1) := by decide +kernel
theorem d_Tr_nextLeaf_46 : decode b_Tr_nextLeaf 46 = .ok (.getfield 15, 3) := by decide +kernel
theorem d_Tr_nextLeaf_49 : decode b_Tr_nextLeaf 49 = .ok (.iload_n 1, 1) := by decide +kernel
theorem d_Tr_nextLeaf_50 : decode b_Tr_nextLeaf 50 = .ok (.dup2, 1) := by decide +kernel
theorem d_Tr_nextLeaf_51 : decode b_Tr_nextLeaf 51 = .ok (.iaload, 1) := by decide +kernel
theorem d_Tr_nextLeaf_52 : decode b_Tr_nextLeaf 52 = .ok (.iconst 1, 1) := by decide +kernel
theorem d_Tr_nextLeaf_53 : decode b_Tr_nextLeaf 53 = .ok (.iadd, 1) := by decide +kernel
theorem d_Tr_nextLeaf_54 : decode b_Tr_nextLeaf 54 = .ok (.iastore, 1) := by decide +kernel
theorem d_Tr_nextLeaf_55 : decode b_Tr_nextLeaf 55 = .ok (.aload_n 0, 1) := by decide +kernel
theorem d_Tr_nextLeaf_56 : decode b_Tr_nextLeaf 56 = .ok (.aload_n 0, 1) := by decide +kernel
theorem d_Tr_nextLeaf_57 : decode b_Tr_nextLeaf 57 = .ok (.getfield 9, 3) := by decide +kernel
theorem d_Tr_nextLeaf_60 : decode b_Tr_nextLeaf 60 = .ok (.iload_n 1, 1) := by decide +kernel
theorem d_Tr_nextLeaf_61 : decode b_Tr_nextLeaf 61 = .ok (.iaload, 1) := by decide +kernel
theorem d_Tr_nextLeaf_62 : decode b_Tr_nextLeaf 62 = .ok (.aload_n 0, 1) := by decide +kernel
theorem d_Tr_nextLeaf_63 : decode b_Tr_nextLeaf 63 = .ok (.getfield 15, 3) := by decide +kernel
theorem d_Tr_nextLeaf_66 : decode b_Tr_nextLeaf 66 = .ok (.iload_n 1, 1) := by decide +kernel
theorem d_Tr_nextLeaf_67 : decode b_Tr_nextLeaf 67 = .ok (.iaload, 1) := by decide +kernel
theorem d_Tr_nextLeaf_68 : decode b_Tr_nextLeaf 68 = .ok (.invokevirtual 105, 3) := by decide +kernel
theorem d_Tr_nextLeaf_71 : decode b_Tr_nextLeaf 71 = .ok (.istore_n 2, 1) := by decide +kernel
theorem d_Tr_nextLeaf_72 : decode b_Tr_nextLeaf 72 = .ok (.aload_n 0, 1) := by decide +kernel
theorem d_Tr_nextLeaf_73 : decode b_Tr_nextLeaf 73 = .ok (.getfield 27, 3) := by decide +kernel
theorem d_Tr_nextLeaf_76 : decode b_Tr_nextLeaf 76 = .ok (.iload_n 2, 1) := by decide +kernel
theorem d_Tr_nextLeaf_77 : decode b_Tr_nextLeaf 77 = .ok (.invokevirtual 66, 3) := by decide +kernel
theorem d_Tr_nextLeaf_80 : decode b_Tr_nextLeaf 80 = .ok (.ifCond .ne 30, 3) := by decide +kernel
theorem d_Tr_nextLeaf_83 : decode b_Tr_nextLeaf 83 = .ok (.iinc 1 1, 3) := by decide +kernel
theorem d_Tr_nextLeaf_86 : decode b_Tr_nextLeaf 86 = .ok (.aload_n 0, 1) := by decide +kernel
theorem d_Tr_nextLeaf_87 : decode b_Tr_nextLeaf 87 = .ok (.getfield 9, 3) := by decide +kernel
theorem d_Tr_nextLeaf_90 : decode b_Tr_nextLeaf 90 = .ok (.iload_n 1, 1) := by decide +kernel
theorem d_Tr_nextLeaf_91 : decode b_Tr_nextLeaf 91 = .ok (.iload_n 2, 1) := by decide +kernel
theorem d_Tr_nextLeaf_92 : decode b_Tr_nextLeaf 92 = .ok (.iastore, 1) := by decide +kernel
theorem d_Tr_nextLeaf_93 : decode b_Tr_nextLeaf 93 = .ok (.aload_n 0, 1) := by decide +kernel
theorem d_Tr_nextLeaf_94 : decode b_Tr_nextLeaf 94 = .ok (.getfield 15, 3) := by decide +kernel
theorem d_Tr_nextLeaf_97 : decode b_Tr_nextLeaf 97 = .ok (.iload_n 1, 1) := by decide +kernel
theorem d_Tr_nextLeaf_98 : decode b_Tr_nextLeaf 98 = .ok (.iconst 0, 1) := by decide +kernel
theorem d_Tr_nextLeaf_99 : decode b_Tr_nextLeaf 99 = .ok (.iastore, 1) := by decide +kernel
theorem d_Tr_nextLeaf_100 : decode b_Tr_nextLeaf 100 = .ok (.aload_n 0, 1) := by decide +kernel
theorem d_Tr_nextLeaf_101 : decode b_Tr_nextLeaf 101 = .ok (.iload_n 2, 1) := by decide +kernel
theorem d_Tr_nextLeaf_102 : decode b_Tr_nextLeaf 102 = .ok (.iconst 0, 1) := by decide +kernel
theorem d_Tr_nextLeaf_103 : decode b_Tr_nextLeaf 103 = .ok (.invokevirtual 105, 3) := by decide +kernel
theorem d_Tr_nextLeaf_106 : decode b_Tr_nextLeaf 106 = .ok (.istore_n 2, 1) := by decide +kernel
theorem d_Tr_nextLeaf_107 : decode b_Tr_nextLeaf 107 = .ok (.goto (-35), 3) := by decide +kernel
theorem d_Tr_nextLeaf_110 : decode b_Tr_nextLeaf 110 = .ok (.aload_n 0, 1) := by decide +kernel
theorem d_Tr_nextLeaf_111 : decode b_Tr_nextLeaf 111 = .ok (.iload_n 1, 1) := by decide +kernel
theorem d_Tr_nextLeaf_112 : decode b_Tr_nextLeaf 112 = .ok (.iconst 1, 1) := by decide +kernel
theorem d_Tr_nextLeaf_113 : decode b_Tr_nextLeaf 113 = .ok (.iadd, 1) := by decide +kernel
theorem d_Tr_nextLeaf_114 : decode b_Tr_nextLeaf 114 = .ok (.putfield 55, 3) := by decide +kernel
theorem d_Tr_nextLeaf_117 : decode b_Tr_nextLeaf 117 = .ok (.aload_n 0, 1) := by decide +kernel
theorem d_Tr_nextLeaf_118 : decode b_Tr_nextLeaf 118 = .ok (.getfield 9, 3) := by decide +kernel
theorem d_Tr_nextLeaf_121 : decode b_Tr_nextLeaf 121 = .ok (.aload_n 0, 1) := by decide +kernel
theorem d_Tr_nextLeaf_122 : decode b_Tr_nextLeaf 122 = .ok (.getfield 55, 3) := by decide +kernel
theorem d_Tr_nextLeaf_125 : decode b_Tr_nextLeaf 125 = .ok (.iload_n 2, 1) := by decide +kernel
theorem d_Tr_nextLeaf_126 : decode b_Tr_nextLeaf 126 = .ok (.iastore, 1) := by decide +kernel
theorem d_Tr_nextLeaf_127 : decode b_Tr_nextLeaf 127 = .ok (.aload_n 0, 1) := by decide +kernel
theorem d_Tr_nextLeaf_128 : decode b_Tr_nextLeaf 128 = .ok (.iconst 2, 1) := by decide +kernel
theorem d_Tr_nextLeaf_129 : decode b_Tr_nextLeaf 129 = .ok (.putfield 88, 3) := by decide +kernel
theorem d_Tr_nextLeaf_132 : decode b_Tr_nextLeaf 132 = .ok (.aload_n 0, 1) := by decide +kernel
theorem d_Tr_nextLeaf_133 : decode b_Tr_nextLeaf 133 = .ok (.iconst 0, 1) := by decide +kernel
theorem d_Tr_nextLeaf_134 : decode b_Tr_nextLeaf 134 = .ok (.putfield 81, 3) := by decide +kernel
theorem d_Tr_nextLeaf_137 : decode b_Tr_nextLeaf 137 = .ok (.iconst 1, 1) := by decide +kernel
theorem d_Tr_nextLeaf_138 : decode b_Tr_nextLeaf 138 = .ok (.ireturn, 1) := by decide +kernel
noncomputable def b_Tr_nextLeaf_7 (i0 : Nat) (x2 : Int32) (σ3 : Sg) : Option ((Int32 × Sg) ⊕ (Int32 × Sg)) :=
  (if x2 < 0 then (some (.inr (x2, σ3))) else (chk (vp_in x2 100) (chk (vp_in x2 100) (bn2 (f_Pg_cells (gi σ3 13 i0 x2.toNatClampNeg) σ3) (fun r11 σ9 => (if (gi σ3 14 i0 x2.toNatClampNeg) = r11 then (lt_ (x2 + (-1) : Int32) (fun (x12 : Int32) => some (.inl (x12, σ9)))) else (some (.inr (x2, σ9)))))))))
noncomputable def l_Tr_nextLeaf_7 (i0 : Nat) (x2 : Int32) (σ3 : Sg) : Option (Int32 × Sg) := lp (fun q => b_Tr_nextLeaf_7 i0 q.1 q.2) FU (x2, σ3)
noncomputable def b_Tr_nextLeaf_72 (i0 : Nat) (x27 : Int32) (x28 : Int32) (σ29 : Sg) : Option ((Int32 × Int32 × Sg) ⊕ (Int32 × Int32 × Sg)) :=
  bn2 (f_Pg_isLeaf x28 σ29) (fun r35 σ33 => (if r35 = 0 then (lt_ (x27 + 1 : Int32) (fun (x36 : Int32) => chk (vp_in x36 100) (lt_ (si σ33 13 i0 x36.toNatClampNeg x28) (fun σ38 => chk (vp_in x36 100) (lt_ (si σ38 14 i0 x36.toNatClampNeg 0) (fun σ40 => bn2 (f_Tr_childAt i0 x28 0 σ40) (fun r43 σ41 => some (.inl (x36, r43, σ41))))))))) else (some (.inr (x27, x28, σ33)))))
noncomputable def l_Tr_nextLeaf_72 (i0 : Nat) (x27 : Int32) (x28 : Int32) (σ29 : Sg) : Option (Int32 × Int32 × Sg) := lp (fun q => b_Tr_nextLeaf_72 i0 q.1 q.2.1 q.2.2) FU (x27, x28, σ29)
noncomputable def f_Tr_nextLeaf (i0 : Nat) (σ : Sg) : Option (Int32 × Sg) :=
  lt_ ((gi σ 3 i0 6) - 1 : Int32) (fun (x1 : Int32) => bn2 (l_Tr_nextLeaf_7 i0 x1 σ) (fun x15 σ16 => (if 0 ≤ x15 then (chk (vp_in x15 100) (chk (vp_in x15 100) (lt_ (si σ16 14 i0 x15.toNatClampNeg ((gi σ16 14 i0 x15.toNatClampNeg) + 1)) (fun σ21 => chk (vp_in x15 100) (chk (vp_in x15 100) (bn2 (f_Tr_childAt i0 (gi σ21 13 i0 x15.toNatClampNeg) (gi σ21 14 i0 x15.toNatClampNeg) σ21) (fun r26 σ24 => bn3 (l_Tr_nextLeaf_72 i0 x15 r26 σ24) (fun x45 x46 σ47 => lt_ (si σ47 3 i0 6 (x45 + 1)) (fun σ50 => chk (vp_in (gi σ50 3 i0 6) 100) (lt_ (si σ50 13 i0 ((gi σ50 3 i0 6).toNatClampNeg) x46) (fun σ52 => lt_ (si σ52 3 i0 7 2) (fun σ53 => lt_ (si σ53 3 i0 9 0) (fun σ54 => some (1, σ54)))))))))))))) else (some (0, σ16)))))
abbrev rm_Tr_nextLeaf : Room := { frames := 3, cells := 0, slots := 0, locals := 71 }
set_option maxHeartbeats 4000000 in
set_option maxRecDepth 100000 in
theorem c_Tr_nextLeaf (l : Launch) (X : GX) (n : Nat) {σ σ' : Sg} {r : Int32} {i0 : Nat} (h_i0 : i0 < cnt n 3) (hf : f_Tr_nextLeaf i0 σ = some (r, σ')) : Met l y_Tr_nextLeaf (cw y_Tr_nextLeaf b_Tr_nextLeaf 3 (some .boolean)) rm_Tr_nextLeaf (PcG X n σ [.ref (xL X 3 i0)]) (QcG X n σ' (some (.int r))) 0 0 (fr X n) := by
  refine g_head (own := "TableMachine$Tree") (by decide) rfl (Nat.le_of_ble_eq_true rfl) ?_
  intro p e s m args below meth c ls F hr hlk hP hl
  have hl : lv_has ls 3 [(0, .ref (xL X 3 i0))] := hl
  show WG l X n rm_Tr_nextLeaf σ' (some (.int r)) p e s m args below meth c s.heap [] (F0 m 0 ls [])
  unfold f_Tr_nextLeaf at hf
  refine lv_aload_n F.1 F.2.1 d_Tr_nextLeaf_0 rfl (lv_at hl 0 rfl) ?_
  refine g_get F hP 3 6 i0 (by decide) h_i0 (by decide) (v := .int (gi σ 3 i0 6)) rfl w_404 d_Tr_nextLeaf_1 ?_
  refine lv_iconst (v := 1) F.1 F.2.1 d_Tr_nextLeaf_4 (by decide) ?_
  refine lv_isub F.1 F.2.1 d_Tr_nextLeaf_5 ?_
  obtain ⟨x1, e_x1, hf⟩ := lt_some hf
  rw [← e_x1]
  refine lv_istore_n F.1 F.2.1 d_Tr_nextLeaf_6 rfl hl (by decide) rfl (fun ls hl => ?_)
  have hl : lv_has ls 3 [(1, .int x1), (0, .ref (xL X 3 i0))] := hl
  obtain ⟨x15, σ16, hlp17, hf⟩ := bn2_some hf
  have KX18 : ∀ (ls : Array Slot) (H : Heap) (locs : List Loc), lv_has ls 3 [(0, .ref (xL X 3 i0)), (1, .int x15)] → St X n σ16 s.heap H locs → WG l X n rm_Tr_nextLeaf σ' (some (.int r)) p e s m args below meth c H locs (F0 m 39 ls []) := by
    intro ls H locs hl hP
    refine lv_iload_n F.1 F.2.1 d_Tr_nextLeaf_39 rfl (lv_at hl 1 rfl) ?_
    refine lv_if_ge F.1 F.2.1 d_Tr_nextLeaf_40 rfl (fun hb55 => ?_) (fun hb55 => ?_)
    · rw [if_pos hb55] at hf
      refine lv_aload_n F.1 F.2.1 d_Tr_nextLeaf_45 rfl (lv_at hl 0 rfl) ?_
      refine g_get F hP 3 5 i0 (by decide) h_i0 (by decide) (v := .ref (xL X 14 i0)) rfl w_403 d_Tr_nextLeaf_46 ?_
      refine lv_iload_n F.1 F.2.1 d_Tr_nextLeaf_49 rfl (lv_at hl 1 rfl) ?_
      refine lv_dup2_11 F.1 F.2.1 d_Tr_nextLeaf_50 rfl rfl ?_
      obtain ⟨hc19, hf⟩ := chk_some hf
      refine g_ald F hP 14 (by decide) (by decide) h_i0 rfl rfl hc19 d_Tr_nextLeaf_51 ?_
      refine lv_iconst (v := 1) F.1 F.2.1 d_Tr_nextLeaf_52 (by decide) ?_
      refine lv_iadd F.1 F.2.1 d_Tr_nextLeaf_53 ?_
      obtain ⟨hc20, hf⟩ := chk_some hf
      obtain ⟨σ21, e_σ21, hf⟩ := lt_some hf
      refine g_ast F hP 14 (by decide) (by decide) h_i0 rfl rfl hc20 d_Tr_nextLeaf_54 e_σ21 (fun H locs hP => ?_)
      refine lv_aload_n F.1 F.2.1 d_Tr_nextLeaf_55 rfl (lv_at hl 0 rfl) ?_
      refine lv_aload_n F.1 F.2.1 d_Tr_nextLeaf_56 rfl (lv_at hl 0 rfl) ?_
      refine g_get F hP 3 4 i0 (by decide) h_i0 (by decide) (v := .ref (xL X 13 i0)) rfl w_402 d_Tr_nextLeaf_57 ?_
      refine lv_iload_n F.1 F.2.1 d_Tr_nextLeaf_60 rfl (lv_at hl 1 rfl) ?_
      obtain ⟨hc22, hf⟩ := chk_some hf
      refine g_ald F hP 13 (by decide) (by decide) h_i0 rfl rfl hc22 d_Tr_nextLeaf_61 ?_
      refine lv_aload_n F.1 F.2.1 d_Tr_nextLeaf_62 rfl (lv_at hl 0 rfl) ?_
      refine g_get F hP 3 5 i0 (by decide) h_i0 (by decide) (v := .ref (xL X 14 i0)) rfl w_403 d_Tr_nextLeaf_63 ?_
      refine lv_iload_n F.1 F.2.1 d_Tr_nextLeaf_66 rfl (lv_at hl 1 rfl) ?_
      obtain ⟨hc23, hf⟩ := chk_some hf
      refine g_ald F hP 14 (by decide) (by decide) h_i0 rfl rfl hc23 d_Tr_nextLeaf_67 ?_
      obtain ⟨r26, σ24, hk25, hf⟩ := bn2_some hf
      refine g_callV (As := [.int (gi σ21 13 i0 x15.toNatClampNeg), .int (gi σ21 14 i0 x15.toNatClampNeg)]) (rest := []) F hP 3 i0 (by decide) h_i0 (c_Tr_childAt l X n h_i0 hk25) rfl q_Tr_childAt w_571 w_17 w_568 w_570 wp_17 ⟨rfl, rfl⟩ ⟨by decide, by decide⟩ hl.1 (Nat.le_of_ble_eq_true rfl) ⟨Nat.zero_le _, Nat.zero_le _⟩ d_Tr_nextLeaf_68 rfl (fun H locs hP => ?_)
      refine W.eq (g2 := F0 m 71 ls [.int r26]) rfl ?_
      refine lv_istore_n F.1 F.2.1 d_Tr_nextLeaf_71 rfl hl (by decide) rfl (fun ls hl => ?_)
      have hl : lv_has ls 3 [(2, .int r26), (0, .ref (xL X 3 i0)), (1, .int x15)] := hl
      obtain ⟨x45, x46, σ47, hlp48, hf⟩ := bn3_some hf
      have KX49 : ∀ (ls : Array Slot) (H : Heap) (locs : List Loc), lv_has ls 3 [(0, .ref (xL X 3 i0)), (1, .int x45), (2, .int x46)] → St X n σ47 s.heap H locs → WG l X n rm_Tr_nextLeaf σ' (some (.int r)) p e s m args below meth c H locs (F0 m 110 ls []) := by
        intro ls H locs hl hP
        refine lv_aload_n F.1 F.2.1 d_Tr_nextLeaf_110 rfl (lv_at hl 0 rfl) ?_
        refine lv_iload_n F.1 F.2.1 d_Tr_nextLeaf_111 rfl (lv_at hl 1 rfl) ?_
        refine lv_iconst (v := 1) F.1 F.2.1 d_Tr_nextLeaf_112 (by decide) ?_
        refine lv_iadd F.1 F.2.1 d_Tr_nextLeaf_113 ?_
        obtain ⟨σ50, e_σ50, hf⟩ := lt_some hf
        refine g_puti F hP 3 6 i0 (by decide) h_i0 (by decide) rfl rfl rfl rfl (Or.inl w_404) d_Tr_nextLeaf_114 e_σ50 (fun H locs hP => ?_)
        refine lv_aload_n F.1 F.2.1 d_Tr_nextLeaf_117 rfl (lv_at hl 0 rfl) ?_
        refine g_get F hP 3 4 i0 (by decide) h_i0 (by decide) (v := .ref (xL X 13 i0)) rfl w_402 d_Tr_nextLeaf_118 ?_
        refine lv_aload_n F.1 F.2.1 d_Tr_nextLeaf_121 rfl (lv_at hl 0 rfl) ?_
        refine g_get F hP 3 6 i0 (by decide) h_i0 (by decide) (v := .int (gi σ50 3 i0 6)) rfl w_404 d_Tr_nextLeaf_122 ?_
        refine lv_iload_n F.1 F.2.1 d_Tr_nextLeaf_125 rfl (lv_at hl 2 rfl) ?_
        obtain ⟨hc51, hf⟩ := chk_some hf
        obtain ⟨σ52, e_σ52, hf⟩ := lt_some hf
        refine g_ast F hP 13 (by decide) (by decide) h_i0 rfl rfl hc51 d_Tr_nextLeaf_126 e_σ52 (fun H locs hP => ?_)
        refine lv_aload_n F.1 F.2.1 d_Tr_nextLeaf_127 rfl (lv_at hl 0 rfl) ?_
        refine lv_iconst (v := 2) F.1 F.2.1 d_Tr_nextLeaf_128 (by decide) ?_
        obtain ⟨σ53, e_σ53, hf⟩ := lt_some hf
        refine g_puti F hP 3 7 i0 (by decide) h_i0 (by decide) rfl rfl rfl rfl (Or.inl w_405) d_Tr_nextLeaf_129 e_σ53 (fun H locs hP => ?_)
        refine lv_aload_n F.1 F.2.1 d_Tr_nextLeaf_132 rfl (lv_at hl 0 rfl) ?_
        refine lv_iconst (v := 0) F.1 F.2.1 d_Tr_nextLeaf_133 (by decide) ?_
        obtain ⟨σ54, e_σ54, hf⟩ := lt_some hf
        refine g_puti F hP 3 9 i0 (by decide) h_i0 (by decide) rfl rfl rfl rfl (Or.inl w_407) d_Tr_nextLeaf_134 e_σ54 (fun H locs hP => ?_)
        refine lv_iconst (v := 1) F.1 F.2.1 d_Tr_nextLeaf_137 (by decide) ?_
        cases hf
        exact g_zret F hP hr hlk zb1 d_Tr_nextLeaf_138
      unfold l_Tr_nextLeaf_72 at hlp48
      refine lp_W (PW := fun q => ∀ (ls : Array Slot) (H : Heap) (locs : List Loc), lv_has ls 3 [(0, .ref (xL X 3 i0)), (1, .int q.1), (2, .int q.2.1)] → St X n q.2.2 s.heap H locs → WG l X n rm_Tr_nextLeaf σ' (some (.int r)) p e s m args below meth c H locs (F0 m 72 ls [])) (PE := fun q => ∀ (ls : Array Slot) (H : Heap) (locs : List Loc), lv_has ls 3 [(0, .ref (xL X 3 i0)), (1, .int q.1), (2, .int q.2.1)] → St X n q.2.2 s.heap H locs → WG l X n rm_Tr_nextLeaf σ' (some (.int r)) p e s m args below meth c H locs (F0 m 110 ls [])) ?_ _ _ _ hlp48 KX49 _ _ _ (lv_sub hl [1, 2, 0] rfl) hP
      rintro ⟨x27, x28, σ29⟩ rr30 hb_72 hI31 hE32 ls H locs hl hP
      replace hb_72 : b_Tr_nextLeaf_72 i0 x27 x28 σ29 = some rr30 := hb_72
      unfold b_Tr_nextLeaf_72 at hb_72
      refine lv_aload_n F.1 F.2.1 d_Tr_nextLeaf_72 rfl (lv_at hl 0 rfl) ?_
      refine g_get F hP 3 0 i0 (by decide) h_i0 (by decide) (v := .ref (xL X 1 0)) rfl w_396 d_Tr_nextLeaf_73 ?_
      refine lv_iload_n F.1 F.2.1 d_Tr_nextLeaf_76 rfl (lv_at hl 2 rfl) ?_
      obtain ⟨r35, σ33, hk34, hb_72⟩ := bn2_some hb_72
      refine g_callV (As := [.int x28]) (rest := []) F hP 1 0 (by decide) Nat.zero_lt_one (c_Pg_isLeaf l X n  hk34) rfl q_Pg_isLeaf w_459 w_2 w_456 w_457 w_458 ⟨rfl, rfl⟩ ⟨by decide, by decide⟩ hl.1 (Nat.le_of_ble_eq_true rfl) ⟨Nat.zero_le _, Nat.zero_le _⟩ d_Tr_nextLeaf_77 rfl (fun H locs hP => ?_)
      refine W.eq (g2 := F0 m 80 ls [.int r35]) rfl ?_
      refine lv_if_ne F.1 F.2.1 d_Tr_nextLeaf_80 rfl (fun hb44 => ?_) (fun hb44 => ?_)
      · rw [if_neg hb44] at hb_72
        cases hb_72
        exact hE32 _ rfl _ _ _ (lv_sub hl [0, 1, 2] rfl) hP
      · rw [if_pos hb44] at hb_72
        obtain ⟨x36, e_x36, hb_72⟩ := lt_some hb_72
        refine lv_iinc (k := 1) (v := x36) F.1 F.2.1 d_Tr_nextLeaf_83 hl rfl (by rw [e_x36]; rfl) (by decide) rfl (fun ls hl => ?_)
        have hl : lv_has ls 3 [(1, .int x36), (0, .ref (xL X 3 i0)), (2, .int x28)] := hl
        refine lv_aload_n F.1 F.2.1 d_Tr_nextLeaf_86 rfl (lv_at hl 1 rfl) ?_
        refine g_get F hP 3 4 i0 (by decide) h_i0 (by decide) (v := .ref (xL X 13 i0)) rfl w_402 d_Tr_nextLeaf_87 ?_
        refine lv_iload_n F.1 F.2.1 d_Tr_nextLeaf_90 rfl (lv_at hl 0 rfl) ?_
        refine lv_iload_n F.1 F.2.1 d_Tr_nextLeaf_91 rfl (lv_at hl 2 rfl) ?_
        obtain ⟨hc37, hb_72⟩ := chk_some hb_72
        obtain ⟨σ38, e_σ38, hb_72⟩ := lt_some hb_72
        refine g_ast F hP 13 (by decide) (by decide) h_i0 rfl rfl hc37 d_Tr_nextLeaf_92 e_σ38 (fun H locs hP => ?_)
        refine lv_aload_n F.1 F.2.1 d_Tr_nextLeaf_93 rfl (lv_at hl 1 rfl) ?_
        refine g_get F hP 3 5 i0 (by decide) h_i0 (by decide) (v := .ref (xL X 14 i0)) rfl w_403 d_Tr_nextLeaf_94 ?_
        refine lv_iload_n F.1 F.2.1 d_Tr_nextLeaf_97 rfl (lv_at hl 0 rfl) ?_
        refine lv_iconst (v := 0) F.1 F.2.1 d_Tr_nextLeaf_98 (by decide) ?_
        obtain ⟨hc39, hb_72⟩ := chk_some hb_72
        obtain ⟨σ40, e_σ40, hb_72⟩ := lt_some hb_72
        refine g_ast F hP 14 (by decide) (by decide) h_i0 rfl rfl hc39 d_Tr_nextLeaf_99 e_σ40 (fun H locs hP => ?_)
        refine lv_aload_n F.1 F.2.1 d_Tr_nextLeaf_100 rfl (lv_at hl 1 rfl) ?_
        refine lv_iload_n F.1 F.2.1 d_Tr_nextLeaf_101 rfl (lv_at hl 2 rfl) ?_
        refine lv_iconst (v := 0) F.1 F.2.1 d_Tr_nextLeaf_102 (by decide) ?_
        obtain ⟨r43, σ41, hk42, hb_72⟩ := bn2_some hb_72
        refine g_callV (As := [.int x28, .int 0]) (rest := []) F hP 3 i0 (by decide) h_i0 (c_Tr_childAt l X n h_i0 hk42) rfl q_Tr_childAt w_571 w_17 w_568 w_570 wp_17 ⟨rfl, rfl⟩ ⟨by decide, by decide⟩ hl.1 (Nat.le_of_ble_eq_true rfl) ⟨Nat.zero_le _, Nat.zero_le _⟩ d_Tr_nextLeaf_103 rfl (fun H locs hP => ?_)
        refine W.eq (g2 := F0 m 106 ls [.int r43]) rfl ?_
        refine lv_istore_n F.1 F.2.1 d_Tr_nextLeaf_106 rfl hl (by decide) rfl (fun ls hl => ?_)
        have hl : lv_has ls 3 [(2, .int r43), (1, .int x36), (0, .ref (xL X 3 i0))] := hl
        refine lv_goto F.1 F.2.1 d_Tr_nextLeaf_107 rfl ?_
        cases hb_72
        exact hI31 _ rfl _ _ _ (lv_sub hl [2, 1, 0] rfl) hP
    · rw [if_neg hb55] at hf
      refine lv_iconst (v := 0) F.1 F.2.1 d_Tr_nextLeaf_43 (by decide) ?_
      cases hf
      exact g_zret F hP hr hlk zb0 d_Tr_nextLeaf_44
  unfold l_Tr_nextLeaf_7 at hlp17
  refine lp_W (PW := fun q => ∀ (ls : Array Slot) (H : Heap) (locs : List Loc), lv_has ls 3 [(0, .ref (xL X 3 i0)), (1, .int q.1)] → St X n q.2 s.heap H locs → WG l X n rm_Tr_nextLeaf σ' (some (.int r)) p e s m args below meth c H locs (F0 m 7 ls [])) (PE := fun q => ∀ (ls : Array Slot) (H : Heap) (locs : List Loc), lv_has ls 3 [(0, .ref (xL X 3 i0)), (1, .int q.1)] → St X n q.2 s.heap H locs → WG l X n rm_Tr_nextLeaf σ' (some (.int r)) p e s m args below meth c H locs (F0 m 39 ls [])) ?_ _ _ _ hlp17 KX18 _ _ _ (lv_sub hl [1, 0] rfl) hP
  rintro ⟨x2, σ3⟩ rr4 hb_7 hI5 hE6 ls H locs hl hP
  replace hb_7 : b_Tr_nextLeaf_7 i0 x2 σ3 = some rr4 := hb_7
  unfold b_Tr_nextLeaf_7 at hb_7
  refine lv_iload_n F.1 F.2.1 d_Tr_nextLeaf_7 rfl (lv_at hl 1 rfl) ?_
  refine lv_if_lt F.1 F.2.1 d_Tr_nextLeaf_8 rfl (fun hb14 => ?_) (fun hb14 => ?_)
  · rw [if_pos hb14] at hb_7
    cases hb_7
    exact hE6 _ rfl _ _ _ (lv_sub hl [0, 1] rfl) hP
  · rw [if_neg hb14] at hb_7
    refine lv_aload_n F.1 F.2.1 d_Tr_nextLeaf_11 rfl (lv_at hl 0 rfl) ?_
    refine g_get F hP 3 5 i0 (by decide) h_i0 (by decide) (v := .ref (xL X 14 i0)) rfl w_403 d_Tr_nextLeaf_12 ?_
    refine lv_iload_n F.1 F.2.1 d_Tr_nextLeaf_15 rfl (lv_at hl 1 rfl) ?_
    obtain ⟨hc7, hb_7⟩ := chk_some hb_7
    refine g_ald F hP 14 (by decide) (by decide) h_i0 rfl rfl hc7 d_Tr_nextLeaf_16 ?_
    refine lv_aload_n F.1 F.2.1 d_Tr_nextLeaf_17 rfl (lv_at hl 0 rfl) ?_
    refine g_get F hP 3 0 i0 (by decide) h_i0 (by decide) (v := .ref (xL X 1 0)) rfl w_396 d_Tr_nextLeaf_18 ?_
    refine lv_aload_n F.1 F.2.1 d_Tr_nextLeaf_21 rfl (lv_at hl 0 rfl) ?_
    refine g_get F hP 3 4 i0 (by decide) h_i0 (by decide) (v := .ref (xL X 13 i0)) rfl w_402 d_Tr_nextLeaf_22 ?_
    refine lv_iload_n F.1 F.2.1 d_Tr_nextLeaf_25 rfl (lv_at hl 1 rfl) ?_
    obtain ⟨hc8, hb_7⟩ := chk_some hb_7
    refine g_ald F hP 13 (by decide) (by decide) h_i0 rfl rfl hc8 d_Tr_nextLeaf_26 ?_
    obtain ⟨r11, σ9, hk10, hb_7⟩ := bn2_some hb_7
    refine g_callV (As := [.int (gi σ3 13 i0 x2.toNatClampNeg)]) (rest := [.int (gi σ3 14 i0 x2.toNatClampNeg)]) F hP 1 0 (by decide) Nat.zero_lt_one (c_Pg_cells l X n  hk10) rfl q_Pg_cells w_475 w_2 w_472 w_473 w_474 ⟨rfl, rfl⟩ ⟨by decide, by decide⟩ hl.1 (Nat.le_of_ble_eq_true rfl) ⟨Nat.zero_le _, Nat.zero_le _⟩ d_Tr_nextLeaf_27 rfl (fun H locs hP => ?_)
    refine W.eq (g2 := F0 m 30 ls [.int r11, .int (gi σ3 14 i0 x2.toNatClampNeg)]) rfl ?_
    refine lv_icmp_ne F.1 F.2.1 d_Tr_nextLeaf_30 rfl (fun hb13 => ?_) (fun hb13 => ?_)
    · rw [if_neg hb13] at hb_7
      cases hb_7
      exact hE6 _ rfl _ _ _ (lv_sub hl [0, 1] rfl) hP
    · rw [if_pos hb13] at hb_7
      obtain ⟨x12, e_x12, hb_7⟩ := lt_some hb_7
      refine lv_iinc (k := 1) (v := x12) F.1 F.2.1 d_Tr_nextLeaf_33 hl rfl (by rw [e_x12]; rfl) (by decide) rfl (fun ls hl => ?_)
      have hl : lv_has ls 3 [(1, .int x12), (0, .ref (xL X 3 i0))] := hl
      refine lv_goto F.1 F.2.1 d_Tr_nextLeaf_36 rfl ?_
      cases hb_7
      exact hI5 _ rfl _ _ _ (lv_sub hl [1, 0] rfl) hP

theorem d_Tr_seek_0 : decode b_Tr_seek 0 = .ok (.aload_n 0, 1) := by decide +kernel
theorem d_Tr_seek_1 : decode b_Tr_seek 1 = .ok (.lload_n 1, 1) := by decide +kernel
theorem d_Tr_seek_2 : decode b_Tr_seek 2 = .ok (.invokevirtual 94, 3) := by decide +kernel
theorem d_Tr_seek_5 : decode b_Tr_seek 5 = .ok (.aload_n 0, 1) := by decide +kernel
theorem d_Tr_seek_6 : decode b_Tr_seek 6 = .ok (.getfield 84, 3) := by decide +kernel
theorem d_Tr_seek_9 : decode b_Tr_seek 9 = .ok (.ifCond .eq 25, 3) := by decide +kernel
theorem d_Tr_seek_12 : decode b_Tr_seek 12 = .ok (.iload_n 3, 1) := by decide +kernel
theorem d_Tr_seek_13 : decode b_Tr_seek 13 = .ok (.ifCond .eq 21, 3) := by decide +kernel
theorem d_Tr_seek_16 : decode b_Tr_seek 16 = .ok (.aload_n 0, 1) := by decide +kernel
theorem d_Tr_seek_17 : decode b_Tr_seek 17 = .ok (.aload_n 0, 1) := by decide +kernel
theorem d_Tr_seek_18 : decode b_Tr_seek 18 = .ok (.getfield 91, 3) := by decide +kernel
theorem d_Tr_seek_21 : decode b_Tr_seek 21 = .ok (.putfield 88, 3) := by decide +kernel
theorem d_Tr_seek_24 : decode b_Tr_seek 24 = .ok (.aload_n 0, 1) := by decide +kernel
theorem d_Tr_seek_25 : decode b_Tr_seek 25 = .ok (.dup, 1) := by decide +kernel
theorem d_Tr_seek_26 : decode b_Tr_seek 26 = .ok (.getfield 81, 3) := by decide +kernel
theorem d_Tr_seek_29 : decode b_Tr_seek 29 = .ok (.iconst 1, 1) := by decide +kernel
theorem d_Tr_seek_30 : decode b_Tr_seek 30 = .ok (.iadd, 1) := by decide +kernel
theorem d_Tr_seek_31 : decode b_Tr_seek 31 = .ok (.putfield 81, 3) := by decide +kernel
theorem d_Tr_seek_34 : decode b_Tr_seek 34 = .ok (.aload_n 0, 1) := by decide +kernel
theorem d_Tr_seek_35 : decode b_Tr_seek 35 = .ok (.getfield 81, 3) := by decide +kernel
theorem d_Tr_seek_38 : decode b_Tr_seek 38 = .ok (.aload_n 0, 1) := by decide +kernel
theorem d_Tr_seek_39 : decode b_Tr_seek 39 = .ok (.getfield 27, 3) := by decide +kernel
theorem d_Tr_seek_42 : decode b_Tr_seek 42 = .ok (.aload_n 0, 1) := by decide +kernel
theorem d_Tr_seek_43 : decode b_Tr_seek 43 = .ok (.invokevirtual 98, 3) := by decide +kernel
theorem d_Tr_seek_46 : decode b_Tr_seek 46 = .ok (.invokevirtual 58, 3) := by decide +kernel
theorem d_Tr_seek_49 : decode b_Tr_seek 49 = .ok (.if_icmp .lt 10, 3) := by decide +kernel
theorem d_Tr_seek_52 : decode b_Tr_seek 52 = .ok (.aload_n 0, 1) := by decide +kernel
theorem d_Tr_seek_53 : decode b_Tr_seek 53 = .ok (.invokevirtual 101, 3) := by decide +kernel
theorem d_Tr_seek_56 : decode b_Tr_seek 56 = .ok (.ifCond .eq 7, 3) := by decide +kernel
theorem d_Tr_seek_59 : decode b_Tr_seek 59 = .ok (.iconst 1, 1) := by decide +kernel
theorem d_Tr_seek_60 : decode b_Tr_seek 60 = .ok (.goto 4, 3) := by decide +kernel
theorem d_Tr_seek_63 : decode b_Tr_seek 63 = .ok (.iconst 0, 1) := by decide +kernel
theorem d_Tr_seek_64 : decode b_Tr_seek 64 = .ok (.ireturn, 1) := by decide +kernel
noncomputable def f_Tr_seek (i0 : Nat) (a1 : Int64) (a3 : Int32) (σ : Sg) : Option (Int32 × Sg) :=
  (f_Tr_find i0 a1 σ).bind (fun σ1 => Option.bind (if (gi σ1 3 i0 10) = 0 then (some (σ1)) else (if a3 = 0 then (some (σ1)) else (lt_ (si σ1 3 i0 7 (gi σ1 3 i0 8)) (fun σ6 => lt_ (si σ6 3 i0 9 ((gi σ6 3 i0 9) + 1)) (fun σ7 => some (σ7)))))) (fun (σ3 : Sg) => bn2 (f_Tr_leaf i0 σ3) (fun r12 σ10 => bn2 (f_Pg_cells r12 σ10) (fun r15 σ13 => bn2 (if (gi σ3 3 i0 9) < r15 then (some (1, σ13)) else (bn2 (f_Tr_nextLeaf i0 σ13) (fun r22 σ20 => (if r22 = 0 then (some (0, σ20)) else (some (1, σ20)))))) (fun (x16 : Int32) (σ17 : Sg) => chk (zb x16) (some (x16, σ17)))))))
abbrev rm_Tr_seek : Room := { frames := 4, cells := 0, slots := 0, locals := 100 }
set_option maxHeartbeats 4000000 in
set_option maxRecDepth 100000 in
theorem c_Tr_seek (l : Launch) (X : GX) (n : Nat) {σ σ' : Sg} {r : Int32} {i0 : Nat} {a1 : Int64} {a3 : Int32} (h_i0 : i0 < cnt n 3) (hf : f_Tr_seek i0 a1 a3 σ = some (r, σ')) : Met l y_Tr_seek (cw y_Tr_seek b_Tr_seek 4 (some .boolean)) rm_Tr_seek (PcG X n σ [.ref (xL X 3 i0), .long a1, .int a3]) (QcG X n σ' (some (.int r))) 0 0 (fr X n) := by
  refine g_head (own := "TableMachine$Tree") (by decide) rfl (Nat.le_of_ble_eq_true rfl) ?_
  intro p e s m args below meth c ls F hr hlk hP hl
  have hl : lv_has ls 4 [(0, .ref (xL X 3 i0)), (1, .long a1), (3, .int a3)] := hl
  show WG l X n rm_Tr_seek σ' (some (.int r)) p e s m args below meth c s.heap [] (F0 m 0 ls [])
  unfold f_Tr_seek at hf
  refine lv_aload_n F.1 F.2.1 d_Tr_seek_0 rfl (lv_at hl 0 rfl) ?_
  refine lv_lload_n F.1 F.2.1 d_Tr_seek_1 rfl (lv_at hl 1 rfl) ?_
  obtain ⟨σ1, hk2, hf⟩ := bnd_some hf
  refine g_callV (As := [.long a1]) (rest := []) F hP 3 i0 (by decide) h_i0 (c_Tr_find l X n h_i0 hk2) rfl q_Tr_find w_455 w_17 w_452 w_454 wp_3 ⟨rfl, rfl⟩ ⟨by decide, by decide⟩ hl.1 (Nat.le_of_ble_eq_true rfl) ⟨Nat.zero_le _, Nat.zero_le _⟩ d_Tr_seek_2 rfl (fun H locs hP => ?_)
  refine W.eq (g2 := F0 m 5 ls []) rfl ?_
  refine lv_aload_n F.1 F.2.1 d_Tr_seek_5 rfl (lv_at hl 0 rfl) ?_
  refine g_get F hP 3 10 i0 (by decide) h_i0 (by decide) (v := .int (gi σ1 3 i0 10)) rfl w_408 d_Tr_seek_6 ?_
  obtain ⟨σ3, hj5, hf⟩ := bnd_some hf
  have KJ4 : ∀ (ls : Array Slot) (H : Heap) (locs : List Loc), lv_has ls 4 [(0, .ref (xL X 3 i0))] → St X n σ3 s.heap H locs → WG l X n rm_Tr_seek σ' (some (.int r)) p e s m args below meth c H locs (F0 m 34 ls []) := by
    intro ls H locs hl hP
    refine lv_aload_n F.1 F.2.1 d_Tr_seek_34 rfl (lv_at hl 0 rfl) ?_
    refine g_get F hP 3 9 i0 (by decide) h_i0 (by decide) (v := .int (gi σ3 3 i0 9)) rfl w_407 d_Tr_seek_35 ?_
    refine lv_aload_n F.1 F.2.1 d_Tr_seek_38 rfl (lv_at hl 0 rfl) ?_
    refine g_get F hP 3 0 i0 (by decide) h_i0 (by decide) (v := .ref (xL X 1 0)) rfl w_396 d_Tr_seek_39 ?_
    refine lv_aload_n F.1 F.2.1 d_Tr_seek_42 rfl (lv_at hl 0 rfl) ?_
    obtain ⟨r12, σ10, hk11, hf⟩ := bn2_some hf
    refine g_callV (As := []) (rest := [.ref (xL X 1 0), .int (gi σ3 3 i0 9)]) F hP 3 i0 (by decide) h_i0 (c_Tr_leaf l X n h_i0 hk11) rfl q_Tr_leaf w_492 w_17 w_489 w_491 wp_6 ⟨rfl, rfl⟩ ⟨by decide, by decide⟩ hl.1 (Nat.le_of_ble_eq_true rfl) ⟨Nat.zero_le _, Nat.zero_le _⟩ d_Tr_seek_43 rfl (fun H locs hP => ?_)
    refine W.eq (g2 := F0 m 46 ls [.int r12, .ref (xL X 1 0), .int (gi σ3 3 i0 9)]) rfl ?_
    obtain ⟨r15, σ13, hk14, hf⟩ := bn2_some hf
    refine g_callV (As := [.int r12]) (rest := [.int (gi σ3 3 i0 9)]) F hP 1 0 (by decide) Nat.zero_lt_one (c_Pg_cells l X n  hk14) rfl q_Pg_cells w_475 w_2 w_472 w_473 w_474 ⟨rfl, rfl⟩ ⟨by decide, by decide⟩ hl.1 (Nat.le_of_ble_eq_true rfl) ⟨Nat.zero_le _, Nat.zero_le _⟩ d_Tr_seek_46 rfl (fun H locs hP => ?_)
    refine W.eq (g2 := F0 m 49 ls [.int r15, .int (gi σ3 3 i0 9)]) rfl ?_
    obtain ⟨x16, σ17, hj19, hf⟩ := bn2_some hf
    have KJ18 : ∀ (ls : Array Slot) (H : Heap) (locs : List Loc), lv_has ls 4 [] → St X n σ17 s.heap H locs → WG l X n rm_Tr_seek σ' (some (.int r)) p e s m args below meth c H locs (F0 m 64 ls [.int x16]) := by
      intro ls H locs hl hP
      obtain ⟨hz25, hf⟩ := chk_some hf
      cases hf
      exact g_zret F hP hr hlk hz25 d_Tr_seek_64
    refine lv_icmp_lt F.1 F.2.1 d_Tr_seek_49 rfl (fun hb24 => ?_) (fun hb24 => ?_)
    · rw [if_pos hb24] at hj19
      refine lv_iconst (v := 1) F.1 F.2.1 d_Tr_seek_59 (by decide) ?_
      refine lv_goto F.1 F.2.1 d_Tr_seek_60 rfl ?_
      cases hj19
      exact KJ18 _ _ _ (lv_sub hl [] rfl) hP
    · rw [if_neg hb24] at hj19
      refine lv_aload_n F.1 F.2.1 d_Tr_seek_52 rfl (lv_at hl 0 rfl) ?_
      obtain ⟨r22, σ20, hk21, hj19⟩ := bn2_some hj19
      refine g_callV (As := []) (rest := []) F hP 3 i0 (by decide) h_i0 (c_Tr_nextLeaf l X n h_i0 hk21) rfl q_Tr_nextLeaf w_591 w_17 w_588 w_590 wp_19 ⟨rfl, rfl⟩ ⟨by decide, by decide⟩ hl.1 (Nat.le_of_ble_eq_true rfl) ⟨Nat.zero_le _, Nat.zero_le _⟩ d_Tr_seek_53 rfl (fun H locs hP => ?_)
      refine W.eq (g2 := F0 m 56 ls [.int r22]) rfl ?_
      refine lv_if_eq F.1 F.2.1 d_Tr_seek_56 rfl (fun hb23 => ?_) (fun hb23 => ?_)
      · rw [if_pos hb23] at hj19
        refine lv_iconst (v := 0) F.1 F.2.1 d_Tr_seek_63 (by decide) ?_
        cases hj19
        exact KJ18 _ _ _ (lv_sub hl [] rfl) hP
      · rw [if_neg hb23] at hj19
        refine lv_iconst (v := 1) F.1 F.2.1 d_Tr_seek_59 (by decide) ?_
        refine lv_goto F.1 F.2.1 d_Tr_seek_60 rfl ?_
        cases hj19
        exact KJ18 _ _ _ (lv_sub hl [] rfl) hP
  refine lv_if_eq F.1 F.2.1 d_Tr_seek_9 rfl (fun hb9 => ?_) (fun hb9 => ?_)
  · rw [if_pos hb9] at hj5
    cases hj5
    exact KJ4 _ _ _ (lv_sub hl [0] rfl) hP
  · rw [if_neg hb9] at hj5
    refine lv_iload_n F.1 F.2.1 d_Tr_seek_12 rfl (lv_at hl 2 rfl) ?_
    refine lv_if_eq F.1 F.2.1 d_Tr_seek_13 rfl (fun hb8 => ?_) (fun hb8 => ?_)
    · rw [if_pos hb8] at hj5
      cases hj5
      exact KJ4 _ _ _ (lv_sub hl [0] rfl) hP
    · rw [if_neg hb8] at hj5
      refine lv_aload_n F.1 F.2.1 d_Tr_seek_16 rfl (lv_at hl 0 rfl) ?_
      refine lv_aload_n F.1 F.2.1 d_Tr_seek_17 rfl (lv_at hl 0 rfl) ?_
      refine g_get F hP 3 8 i0 (by decide) h_i0 (by decide) (v := .int (gi σ1 3 i0 8)) rfl w_406 d_Tr_seek_18 ?_
      obtain ⟨σ6, e_σ6, hj5⟩ := lt_some hj5
      refine g_puti F hP 3 7 i0 (by decide) h_i0 (by decide) rfl rfl rfl rfl (Or.inl w_405) d_Tr_seek_21 e_σ6 (fun H locs hP => ?_)
      refine lv_aload_n F.1 F.2.1 d_Tr_seek_24 rfl (lv_at hl 0 rfl) ?_
      refine lv_dup F.1 F.2.1 d_Tr_seek_25 rfl ?_
      refine g_get F hP 3 9 i0 (by decide) h_i0 (by decide) (v := .int (gi σ6 3 i0 9)) rfl w_407 d_Tr_seek_26 ?_
      refine lv_iconst (v := 1) F.1 F.2.1 d_Tr_seek_29 (by decide) ?_
      refine lv_iadd F.1 F.2.1 d_Tr_seek_30 ?_
      obtain ⟨σ7, e_σ7, hj5⟩ := lt_some hj5
      refine g_puti F hP 3 9 i0 (by decide) h_i0 (by decide) rfl rfl rfl rfl (Or.inl w_407) d_Tr_seek_31 e_σ7 (fun H locs hP => ?_)
      cases hj5
      exact KJ4 _ _ _ (lv_sub hl [0] rfl) hP

theorem d_Tr_key_0 : decode b_Tr_key 0 = .ok (.aload_n 0, 1) := by decide +kernel
theorem d_Tr_key_1 : decode b_Tr_key 1 = .ok (.getfield 27, 3) := by decide +kernel
theorem d_Tr_key_4 : decode b_Tr_key 4 = .ok (.aload_n 0, 1) := by decide +kernel
theorem d_Tr_key_5 : decode b_Tr_key 5 = .ok (.invokevirtual 98, 3) := by decide +kernel
theorem d_Tr_key_8 : decode b_Tr_key 8 = .ok (.invokevirtual 48, 3) := by decide +kernel
theorem d_Tr_key_11 : decode b_Tr_key 11 = .ok (.astore_n 1, 1) := by decide +kernel
theorem d_Tr_key_12 : decode b_Tr_key 12 = .ok (.aload_n 1, 1) := by decide +kernel
theorem d_Tr_key_13 : decode b_Tr_key 13 = .ok (.aload_n 0, 1) := by decide +kernel
theorem d_Tr_key_14 : decode b_Tr_key 14 = .ok (.getfield 88, 3) := by decide +kernel
theorem d_Tr_key_17 : decode b_Tr_key 17 = .ok (.putfield 70, 3) := by decide +kernel
theorem d_Tr_key_20 : decode b_Tr_key 20 = .ok (.aload_n 1, 1) := by decide +kernel
theorem d_Tr_key_21 : decode b_Tr_key 21 = .ok (.invokevirtual 62, 3) := by decide +kernel
theorem d_Tr_key_24 : decode b_Tr_key 24 = .ok (.lreturn, 1) := by decide +kernel
noncomputable def f_Tr_key (i0 : Nat) (σ : Sg) : Option (Int64 × Sg) :=
  bn2 (f_Tr_leaf i0 σ) (fun r3 σ1 => bn2 (f_Pg_open r3 σ1) (fun r6 σ4 => lt_ (si σ4 2 r6 1 (gi σ4 3 i0 7)) (fun σ8 => bn2 (f_Tp_takeNumber r6 σ8) (fun r11 σ9 => some (r11, σ9)))))
abbrev rm_Tr_key : Room := { frames := 2, cells := 0, slots := 0, locals := 44 }
set_option maxHeartbeats 4000000 in
set_option maxRecDepth 100000 in
theorem c_Tr_key (l : Launch) (X : GX) (n : Nat) {σ σ' : Sg} {r : Int64} {i0 : Nat} (h_i0 : i0 < cnt n 3) (hf : f_Tr_key i0 σ = some (r, σ')) : Met l y_Tr_key (cw y_Tr_key b_Tr_key 2 (some .long)) rm_Tr_key (PcG X n σ [.ref (xL X 3 i0)]) (QcG X n σ' (some (.long r))) 0 0 (fr X n) := by
  refine g_head (own := "TableMachine$Tree") (by decide) rfl (Nat.le_of_ble_eq_true rfl) ?_
  intro p e s m args below meth c ls F hr hlk hP hl
  have hl : lv_has ls 2 [(0, .ref (xL X 3 i0))] := hl
  show WG l X n rm_Tr_key σ' (some (.long r)) p e s m args below meth c s.heap [] (F0 m 0 ls [])
  unfold f_Tr_key at hf
  refine lv_aload_n F.1 F.2.1 d_Tr_key_0 rfl (lv_at hl 0 rfl) ?_
  refine g_get F hP 3 0 i0 (by decide) h_i0 (by decide) (v := .ref (xL X 1 0)) rfl w_396 d_Tr_key_1 ?_
  refine lv_aload_n F.1 F.2.1 d_Tr_key_4 rfl (lv_at hl 0 rfl) ?_
  obtain ⟨r3, σ1, hk2, hf⟩ := bn2_some hf
  refine g_callV (As := []) (rest := [.ref (xL X 1 0)]) F hP 3 i0 (by decide) h_i0 (c_Tr_leaf l X n h_i0 hk2) rfl q_Tr_leaf w_492 w_17 w_489 w_491 wp_6 ⟨rfl, rfl⟩ ⟨by decide, by decide⟩ hl.1 (Nat.le_of_ble_eq_true rfl) ⟨Nat.zero_le _, Nat.zero_le _⟩ d_Tr_key_5 rfl (fun H locs hP => ?_)
  refine W.eq (g2 := F0 m 8 ls [.int r3, .ref (xL X 1 0)]) rfl ?_
  obtain ⟨r6, σ4, hk5, hf⟩ := bn2_some hf
  have hv7 : r6 < cnt n 2 := v_Pg_open  hk5
  refine g_callV (As := [.int r3]) (rest := []) F hP 1 0 (by decide) Nat.zero_lt_one (c_Pg_open l X n  hk5) rfl q_Pg_open w_467 w_2 w_464 w_465 w_466 ⟨rfl, rfl⟩ ⟨by decide, by decide⟩ hl.1 (Nat.le_of_ble_eq_true rfl) ⟨Nat.zero_le _, Nat.zero_le _⟩ d_Tr_key_8 rfl (fun H locs hP => ?_)
  refine W.eq (g2 := F0 m 11 ls [.ref (xL X 2 r6)]) rfl ?_
  refine lv_astore_n F.1 F.2.1 d_Tr_key_11 rfl hl (by decide) rfl (fun ls hl => ?_)
  have hl : lv_has ls 2 [(1, .ref (xL X 2 r6)), (0, .ref (xL X 3 i0))] := hl
  refine lv_aload_n F.1 F.2.1 d_Tr_key_12 rfl (lv_at hl 0 rfl) ?_
  refine lv_aload_n F.1 F.2.1 d_Tr_key_13 rfl (lv_at hl 1 rfl) ?_
  refine g_get F hP 3 7 i0 (by decide) h_i0 (by decide) (v := .int (gi σ4 3 i0 7)) rfl w_405 d_Tr_key_14 ?_
  obtain ⟨σ8, e_σ8, hf⟩ := lt_some hf
  refine g_puti F hP 2 1 r6 (by decide) hv7 (by decide) rfl rfl rfl rfl (Or.inr w_50) d_Tr_key_17 e_σ8 (fun H locs hP => ?_)
  refine lv_aload_n F.1 F.2.1 d_Tr_key_20 rfl (lv_at hl 0 rfl) ?_
  obtain ⟨r11, σ9, hk10, hf⟩ := bn2_some hf
  refine g_callV (As := []) (rest := []) F hP 2 r6 (by decide) hv7 (c_Tp_takeNumber l X n hv7 hk10) rfl q_Tp_takeNumber w_479 w_3 w_476 w_477 w_478 ⟨rfl, rfl⟩ ⟨by decide, by decide⟩ hl.1 (Nat.le_of_ble_eq_true rfl) ⟨Nat.zero_le _, Nat.zero_le _⟩ d_Tr_key_21 rfl (fun H locs hP => ?_)
  refine W.eq (g2 := F0 m 24 ls [.long r11]) rfl ?_
  cases hf
  exact g_lret F hP hr hlk d_Tr_key_24

theorem d_Tr_read_0 : decode b_Tr_read 0 = .ok (.aload_n 0, 1) := by decide +kernel
theorem d_Tr_read_1 : decode b_Tr_read 1 = .ok (.lload_n 1, 1) := by decide +kernel
theorem d_Tr_read_2 : decode b_Tr_read 2 = .ok (.invokevirtual 94, 3) := by decide +kernel
theorem d_Tr_read_5 : decode b_Tr_read 5 = .ok (.aload_n 0, 1) := by decide +kernel
theorem d_Tr_read_6 : decode b_Tr_read 6 = .ok (.getfield 27, 3) := by decide +kernel
theorem d_Tr_read_9 : decode b_Tr_read 9 = .ok (.aload_n 0, 1) := by decide +kernel
theorem d_Tr_read_10 : decode b_Tr_read 10 = .ok (.invokevirtual 98, 3) := by decide +kernel
theorem d_Tr_read_13 : decode b_Tr_read 13 = .ok (.invokevirtual 48, 3) := by decide +kernel
theorem d_Tr_read_16 : decode b_Tr_read 16 = .ok (.astore 4, 2) := by decide +kernel
theorem d_Tr_read_18 : decode b_Tr_read 18 = .ok (.aload 4, 2) := by decide +kernel
theorem d_Tr_read_20 : decode b_Tr_read 20 = .ok (.aload_n 0, 1) := by decide +kernel
theorem d_Tr_read_21 : decode b_Tr_read 21 = .ok (.getfield 88, 3) := by decide +kernel
theorem d_Tr_read_24 : decode b_Tr_read 24 = .ok (.putfield 70, 3) := by decide +kernel
theorem d_Tr_read_27 : decode b_Tr_read 27 = .ok (.aload 4, 2) := by decide +kernel
theorem d_Tr_read_29 : decode b_Tr_read 29 = .ok (.invokevirtual 62, 3) := by decide +kernel
theorem d_Tr_read_32 : decode b_Tr_read 32 = .ok (.lstore 5, 2) := by decide +kernel
theorem d_Tr_read_34 : decode b_Tr_read 34 = .ok (.aload_n 3, 1) := by decide +kernel
theorem d_Tr_read_35 : decode b_Tr_read 35 = .ok (.aload 4, 2) := by decide +kernel
theorem d_Tr_read_37 : decode b_Tr_read 37 = .ok (.aload_n 0, 1) := by decide +kernel
theorem d_Tr_read_38 : decode b_Tr_read 38 = .ok (.getfield 31, 3) := by decide +kernel
theorem d_Tr_read_41 : decode b_Tr_read 41 = .ok (.invokevirtual 115, 3) := by decide +kernel
theorem d_Tr_read_44 : decode b_Tr_read 44 = .ok (.return_, 1) := by decide +kernel
noncomputable def f_Tr_read (i0 : Nat) (a1 : Int64) (i3 : Nat) (σ : Sg) : Option (Sg) :=
  (f_Tr_find i0 a1 σ).bind (fun σ1 => bn2 (f_Tr_leaf i0 σ1) (fun r5 σ3 => bn2 (f_Pg_open r5 σ3) (fun r8 σ6 => lt_ (si σ6 2 r8 1 (gi σ6 3 i0 7)) (fun σ10 => bn2 (f_Tp_takeNumber r8 σ10) (fun r13 σ11 => (f_Rc_read i3 r8 (gi σ11 3 i0 2) σ11).bind (fun σ14 => some σ14))))))
abbrev rm_Tr_read : Room := { frames := 4, cells := 0, slots := 0, locals := 100 }
set_option maxHeartbeats 4000000 in
set_option maxRecDepth 100000 in
theorem c_Tr_read (l : Launch) (X : GX) (n : Nat) {σ σ' : Sg} {i0 : Nat} {a1 : Int64} {i3 : Nat} (h_i0 : i0 < cnt n 3) (h_i3 : i3 < cnt n 4) (hf : f_Tr_read i0 a1 i3 σ = some σ') : Met l y_Tr_read (cw y_Tr_read b_Tr_read 7 none) rm_Tr_read (PcG X n σ [.ref (xL X 3 i0), .long a1, .ref (xL X 4 i3)]) (QcG X n σ' none) 0 0 (fr X n) := by
  refine g_head (own := "TableMachine$Tree") (by decide) rfl (Nat.le_of_ble_eq_true rfl) ?_
  intro p e s m args below meth c ls F hr hlk hP hl
  have hl : lv_has ls 7 [(0, .ref (xL X 3 i0)), (1, .long a1), (3, .ref (xL X 4 i3))] := hl
  show WG l X n rm_Tr_read σ' none p e s m args below meth c s.heap [] (F0 m 0 ls [])
  unfold f_Tr_read at hf
  refine lv_aload_n F.1 F.2.1 d_Tr_read_0 rfl (lv_at hl 0 rfl) ?_
  refine lv_lload_n F.1 F.2.1 d_Tr_read_1 rfl (lv_at hl 1 rfl) ?_
  obtain ⟨σ1, hk2, hf⟩ := bnd_some hf
  refine g_callV (As := [.long a1]) (rest := []) F hP 3 i0 (by decide) h_i0 (c_Tr_find l X n h_i0 hk2) rfl q_Tr_find w_455 w_17 w_452 w_454 wp_3 ⟨rfl, rfl⟩ ⟨by decide, by decide⟩ hl.1 (Nat.le_of_ble_eq_true rfl) ⟨Nat.zero_le _, Nat.zero_le _⟩ d_Tr_read_2 rfl (fun H locs hP => ?_)
  refine W.eq (g2 := F0 m 5 ls []) rfl ?_
  refine lv_aload_n F.1 F.2.1 d_Tr_read_5 rfl (lv_at hl 0 rfl) ?_
  refine g_get F hP 3 0 i0 (by decide) h_i0 (by decide) (v := .ref (xL X 1 0)) rfl w_396 d_Tr_read_6 ?_
  refine lv_aload_n F.1 F.2.1 d_Tr_read_9 rfl (lv_at hl 0 rfl) ?_
  obtain ⟨r5, σ3, hk4, hf⟩ := bn2_some hf
  refine g_callV (As := []) (rest := [.ref (xL X 1 0)]) F hP 3 i0 (by decide) h_i0 (c_Tr_leaf l X n h_i0 hk4) rfl q_Tr_leaf w_492 w_17 w_489 w_491 wp_6 ⟨rfl, rfl⟩ ⟨by decide, by decide⟩ hl.1 (Nat.le_of_ble_eq_true rfl) ⟨Nat.zero_le _, Nat.zero_le _⟩ d_Tr_read_10 rfl (fun H locs hP => ?_)
  refine W.eq (g2 := F0 m 13 ls [.int r5, .ref (xL X 1 0)]) rfl ?_
  obtain ⟨r8, σ6, hk7, hf⟩ := bn2_some hf
  have hv9 : r8 < cnt n 2 := v_Pg_open  hk7
  refine g_callV (As := [.int r5]) (rest := []) F hP 1 0 (by decide) Nat.zero_lt_one (c_Pg_open l X n  hk7) rfl q_Pg_open w_467 w_2 w_464 w_465 w_466 ⟨rfl, rfl⟩ ⟨by decide, by decide⟩ hl.1 (Nat.le_of_ble_eq_true rfl) ⟨Nat.zero_le _, Nat.zero_le _⟩ d_Tr_read_13 rfl (fun H locs hP => ?_)
  refine W.eq (g2 := F0 m 16 ls [.ref (xL X 2 r8)]) rfl ?_
  refine lv_astore F.1 F.2.1 d_Tr_read_16 hl (by decide) rfl (fun ls hl => ?_)
  have hl : lv_has ls 7 [(4, .ref (xL X 2 r8)), (0, .ref (xL X 3 i0)), (1, .long a1), (3, .ref (xL X 4 i3))] := hl
  refine lv_aload F.1 F.2.1 d_Tr_read_18 (lv_at hl 0 rfl) ?_
  refine lv_aload_n F.1 F.2.1 d_Tr_read_20 rfl (lv_at hl 1 rfl) ?_
  refine g_get F hP 3 7 i0 (by decide) h_i0 (by decide) (v := .int (gi σ6 3 i0 7)) rfl w_405 d_Tr_read_21 ?_
  obtain ⟨σ10, e_σ10, hf⟩ := lt_some hf
  refine g_puti F hP 2 1 r8 (by decide) hv9 (by decide) rfl rfl rfl rfl (Or.inr w_50) d_Tr_read_24 e_σ10 (fun H locs hP => ?_)
  refine lv_aload F.1 F.2.1 d_Tr_read_27 (lv_at hl 0 rfl) ?_
  obtain ⟨r13, σ11, hk12, hf⟩ := bn2_some hf
  refine g_callV (As := []) (rest := []) F hP 2 r8 (by decide) hv9 (c_Tp_takeNumber l X n hv9 hk12) rfl q_Tp_takeNumber w_479 w_3 w_476 w_477 w_478 ⟨rfl, rfl⟩ ⟨by decide, by decide⟩ hl.1 (Nat.le_of_ble_eq_true rfl) ⟨Nat.zero_le _, Nat.zero_le _⟩ d_Tr_read_29 rfl (fun H locs hP => ?_)
  refine W.eq (g2 := F0 m 32 ls [.long r13]) rfl ?_
  refine lv_lstore F.1 F.2.1 d_Tr_read_32 hl (by decide) rfl (fun ls hl => ?_)
  have hl : lv_has ls 7 [(5, .long r13), (4, .ref (xL X 2 r8)), (0, .ref (xL X 3 i0)), (1, .long a1), (3, .ref (xL X 4 i3))] := hl
  refine lv_aload_n F.1 F.2.1 d_Tr_read_34 rfl (lv_at hl 4 rfl) ?_
  refine lv_aload F.1 F.2.1 d_Tr_read_35 (lv_at hl 1 rfl) ?_
  refine lv_aload_n F.1 F.2.1 d_Tr_read_37 rfl (lv_at hl 2 rfl) ?_
  refine g_get F hP 3 2 i0 (by decide) h_i0 (by decide) (v := .int (gi σ11 3 i0 2)) rfl w_398 d_Tr_read_38 ?_
  obtain ⟨σ14, hk15, hf⟩ := bnd_some hf
  refine g_callV (As := [.ref (xL X 2 r8), .int (gi σ11 3 i0 2)]) (rest := []) F hP 4 i3 (by decide) h_i3 (c_Rc_read l X n h_i3 hv9 hk15) rfl q_Rc_read w_629 w_4 w_626 w_627 w_628 ⟨rfl, rfl⟩ ⟨by decide, by decide⟩ hl.1 (Nat.le_of_ble_eq_true rfl) ⟨Nat.zero_le _, Nat.zero_le _⟩ d_Tr_read_41 rfl (fun H locs hP => ?_)
  refine W.eq (g2 := F0 m 44 ls []) rfl ?_
  cases hf
  exact g_vret F hP hr hlk d_Tr_read_44

theorem d_Tr_first_0 : decode b_Tr_first 0 = .ok (.aload_n 0, 1) := by decide +kernel
theorem d_Tr_first_1 : decode b_Tr_first 1 = .ok (.ldc2_w 109, 3) := by decide +kernel
theorem d_Tr_first_4 : decode b_Tr_first 4 = .ok (.iconst 0, 1) := by decide +kernel
theorem d_Tr_first_5 : decode b_Tr_first 5 = .ok (.invokevirtual 111, 3) := by decide +kernel
theorem d_Tr_first_8 : decode b_Tr_first 8 = .ok (.ireturn, 1) := by decide +kernel
noncomputable def f_Tr_first (i0 : Nat) (σ : Sg) : Option (Int32 × Sg) :=
  bn2 (f_Tr_seek i0 (-9223372036854775808) 0 σ) (fun r3 σ1 => chk (zb r3) (some (r3, σ1)))
abbrev rm_Tr_first : Room := { frames := 5, cells := 0, slots := 0, locals := 123 }
set_option maxHeartbeats 4000000 in
set_option maxRecDepth 100000 in
theorem c_Tr_first (l : Launch) (X : GX) (n : Nat) {σ σ' : Sg} {r : Int32} {i0 : Nat} (h_i0 : i0 < cnt n 3) (hf : f_Tr_first i0 σ = some (r, σ')) : Met l y_Tr_first (cw y_Tr_first b_Tr_first 1 (some .boolean)) rm_Tr_first (PcG X n σ [.ref (xL X 3 i0)]) (QcG X n σ' (some (.int r))) 0 0 (fr X n) := by
  refine g_head (own := "TableMachine$Tree") (by decide) rfl (Nat.le_of_ble_eq_true rfl) ?_
  intro p e s m args below meth c ls F hr hlk hP hl
  have hl : lv_has ls 1 [(0, .ref (xL X 3 i0))] := hl
  show WG l X n rm_Tr_first σ' (some (.int r)) p e s m args below meth c s.heap [] (F0 m 0 ls [])
  unfold f_Tr_first at hf
  refine lv_aload_n F.1 F.2.1 d_Tr_first_0 rfl (lv_at hl 0 rfl) ?_
  refine lv_ldc2 F.1 F.2.1 F.2.2.2.1 (F.2.2.2.2.1 _ w_766) d_Tr_first_1 ?_
  refine lv_iconst (v := 0) F.1 F.2.1 d_Tr_first_4 (by decide) ?_
  obtain ⟨r3, σ1, hk2, hf⟩ := bn2_some hf
  refine g_callV (As := [.long (-9223372036854775808), .int 0]) (rest := []) F hP 3 i0 (by decide) h_i0 (c_Tr_seek l X n h_i0 hk2) rfl q_Tr_seek w_587 w_17 w_767 w_585 w_586 ⟨rfl, rfl⟩ ⟨by decide, by decide⟩ hl.1 (Nat.le_of_ble_eq_true rfl) ⟨Nat.zero_le _, Nat.zero_le _⟩ d_Tr_first_5 rfl (fun H locs hP => ?_)
  refine W.eq (g2 := F0 m 8 ls [.int r3]) rfl ?_
  obtain ⟨hz4, hf⟩ := chk_some hf
  cases hf
  exact g_zret F hP hr hlk hz4 d_Tr_first_8
