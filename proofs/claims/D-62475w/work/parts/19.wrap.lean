/-! printed by wip/gen: 19.wrap -/
def bnH {α β : Type} (x : Option ((α ⊕ Nat) × Sg)) (hm : Nat → Option β) (k : α → Sg → Option (β × Sg)) : Option (β × Sg) := match x with
  | none => none
  | some (.inl a, σ) => k a σ
  | some (.inr e, σ) => (hm e).map (fun v => (v, σ))
theorem bnH_some {α β : Type} {x : Option ((α ⊕ Nat) × Sg)} {hm : Nat → Option β} {k : α → Sg → Option (β × Sg)} {r : β × Sg} (h : bnH x hm k = some r) : (∃ a σ, x = some (.inl a, σ) ∧ k a σ = some r) ∨ (∃ e σ v, x = some (.inr e, σ) ∧ hm e = some v ∧ (v, σ) = r) := by
  match x, h with
  | some (.inl a, σ), h => exact Or.inl ⟨a, σ, rfl, h⟩
  | some (.inr e, σ), h =>
    obtain ⟨v, hv, e1⟩ := Option.map_eq_some_iff.mp h
    exact Or.inr ⟨e, σ, v, rfl, hv, e1⟩
theorem wc_Lw_insert : Cond.codeWith y_Lw_insert b_Lw_insert 6 (some .int) [(0, 18, 21, 13), (0, 18, 25, 15)] ∈ TB := tb_in (t2_in (i := 203) rfl) rfl
theorem d_Lw_insert_0 : decode b_Lw_insert 0 = .ok (.aload 4, 2) := by decide +kernel
theorem d_Lw_insert_2 : decode b_Lw_insert 2 = .ok (.iconst 0, 1) := by decide +kernel
theorem d_Lw_insert_3 : decode b_Lw_insert 3 = .ok (.aload_n 0, 1) := by decide +kernel
theorem d_Lw_insert_4 : decode b_Lw_insert 4 = .ok (.iload_n 1, 1) := by decide +kernel
theorem d_Lw_insert_5 : decode b_Lw_insert 5 = .ok (.lload_n 2, 1) := by decide +kernel
theorem d_Lw_insert_6 : decode b_Lw_insert 6 = .ok (.invokevirtual 17, 3) := by decide +kernel
theorem d_Lw_insert_9 : decode b_Lw_insert 9 = .ok (.ifCond .eq 7, 3) := by decide +kernel
theorem d_Lw_insert_12 : decode b_Lw_insert 12 = .ok (.lconst 1, 1) := by decide +kernel
theorem d_Lw_insert_13 : decode b_Lw_insert 13 = .ok (.goto 4, 3) := by decide +kernel
theorem d_Lw_insert_16 : decode b_Lw_insert 16 = .ok (.lconst 0, 1) := by decide +kernel
theorem d_Lw_insert_17 : decode b_Lw_insert 17 = .ok (.lastore, 1) := by decide +kernel
theorem d_Lw_insert_18 : decode b_Lw_insert 18 = .ok (.goto 11, 3) := by decide +kernel
theorem d_Lw_insert_21 : decode b_Lw_insert 21 = .ok (.astore 5, 2) := by decide +kernel
theorem d_Lw_insert_23 : decode b_Lw_insert 23 = .ok (.iconst 1, 1) := by decide +kernel
theorem d_Lw_insert_24 : decode b_Lw_insert 24 = .ok (.ireturn, 1) := by decide +kernel
theorem d_Lw_insert_25 : decode b_Lw_insert 25 = .ok (.astore 5, 2) := by decide +kernel
theorem d_Lw_insert_27 : decode b_Lw_insert 27 = .ok (.iconst 2, 1) := by decide +kernel
theorem d_Lw_insert_28 : decode b_Lw_insert 28 = .ok (.ireturn, 1) := by decide +kernel
theorem d_Lw_insert_29 : decode b_Lw_insert 29 = .ok (.iconst 0, 1) := by decide +kernel
theorem d_Lw_insert_30 : decode b_Lw_insert 30 = .ok (.ireturn, 1) := by decide +kernel
noncomputable def f_Lw_insert (a1 : Int32) (a2 : Int64) (σ : Sg) : Option (Int32 × Sg) :=
  bnH (f_TM_insert a1 a2 σ) (fun e => if e = 0 then some 1 else if e = 1 then some 2 else none) (fun (r3 : Int32) (σ1 : Sg) => lt_ ((if r3 = 0 then 0 else 1) : Int64) (fun (x7 : Int64) => chk (vp_in 0 1) (lt_ (sj σ1 44 0 ((0 : Int32).toNatClampNeg) x7) (fun σ12 => some (0, σ12)))))
abbrev rm_Lw_insert : Room := { frames := 10, cells := 1, slots := 6, locals := 248 }
set_option maxHeartbeats 4000000 in
set_option maxRecDepth 100000 in
theorem c_Lw_insert (l : Launch) (X : GX) (n : Nat) {σ σ' : Sg} {r : Int32} {a1 : Int32} {a2 : Int64} (hfl : l.flags = flags0) (hf : f_Lw_insert a1 a2 σ = some (r, σ')) : Met l y_Lw_insert (ch y_Lw_insert b_Lw_insert 6 (some .int) [(0, 18, 21, 13), (0, 18, 25, 15)]) rm_Lw_insert (PcG X n σ [.ref (xL X 0 0), .int a1, .long a2, .ref (xL X 44 0)]) (QcH X n σ' (some (.int r))) 1 6 (fr X n) := by
  refine g_headH (by decide) rfl (Nat.le_of_ble_eq_true rfl) ?_
  intro p e s m args below meth c ls F hr hlk htab hP hl
  have hl : lv_has ls 6 [(0, .ref (xL X 0 0)), (1, .int a1), (2, .long a2), (4, .ref (xL X 44 0))] := hl
  show WH l X n rm_Lw_insert σ' (some (.int r)) p e s m args below meth c s.heap [] (F0 m 0 ls [])
  unfold f_Lw_insert at hf
  refine lv_aload F.1 F.2.1 d_Lw_insert_0 (lv_at hl 3 rfl) ?_
  refine lv_iconst (v := 0) F.1 F.2.1 d_Lw_insert_2 (by decide) ?_
  refine lv_aload_n F.1 F.2.1 d_Lw_insert_3 rfl (lv_at hl 0 rfl) ?_
  refine lv_iload_n F.1 F.2.1 d_Lw_insert_4 rfl (lv_at hl 1 rfl) ?_
  refine lv_lload_n F.1 F.2.1 d_Lw_insert_5 rfl (lv_at hl 2 rfl) ?_
  rcases bnH_some hf with ⟨r3, σ1, hk2, hf⟩ | ⟨k4, σ1, v6, hk2, hm5, hf⟩
  rotate_left
  · cases hf
    by_cases z0 : k4 = 0
    · subst z0
      first | (rw [if_pos rfl] at hm5) | (simp at hm5; done) | skip
      have hm5 := Option.some.inj hm5
      rw [← hm5]
      exact g_hcat F hP hr hlk htab (g_xV (As := [.int a1, .long a2]) (rest := [.int 0, .ref (xL X 44 0)]) F hP 0 0 (by decide) Nat.zero_lt_one (c_TM_insert l X n hfl  hk2) rfl q_TM_insert w_447 w_1 w_444 w_445 w_446 ⟨by decide, by decide⟩ hl.1 (Nat.le_of_ble_eq_true rfl) ⟨by decide, by decide⟩ d_Lw_insert_6 rfl) (by decide) hl (i := 5) (h := 21) (q := 23) (by decide) (Or.inl ⟨d_Lw_insert_21, rfl⟩) (by decide) d_Lw_insert_23 (by decide) d_Lw_insert_24
    rw [if_neg z0] at hm5
    by_cases z1 : k4 = 1
    · subst z1
      first | (rw [if_pos rfl] at hm5) | (simp at hm5; done) | skip
      have hm5 := Option.some.inj hm5
      rw [← hm5]
      exact g_hcat F hP hr hlk htab (g_xV (As := [.int a1, .long a2]) (rest := [.int 0, .ref (xL X 44 0)]) F hP 0 0 (by decide) Nat.zero_lt_one (c_TM_insert l X n hfl  hk2) rfl q_TM_insert w_447 w_1 w_444 w_445 w_446 ⟨by decide, by decide⟩ hl.1 (Nat.le_of_ble_eq_true rfl) ⟨by decide, by decide⟩ d_Lw_insert_6 rfl) (by decide) hl (i := 5) (h := 25) (q := 27) (by decide) (Or.inl ⟨d_Lw_insert_25, rfl⟩) (by decide) d_Lw_insert_27 (by decide) d_Lw_insert_28
    rw [if_neg z1] at hm5
    cases hm5
  refine xr_ret hP (g_xV (As := [.int a1, .long a2]) (rest := [.int 0, .ref (xL X 44 0)]) F hP 0 0 (by decide) Nat.zero_lt_one (c_TM_insert l X n hfl  hk2) rfl q_TM_insert w_447 w_1 w_444 w_445 w_446 ⟨by decide, by decide⟩ hl.1 (Nat.le_of_ble_eq_true rfl) ⟨by decide, by decide⟩ d_Lw_insert_6 rfl) (fun H locs hP => ?_)
  refine W.eq (g2 := F0 m 9 ls [.int r3, .int 0, .ref (xL X 44 0)]) rfl ?_
  obtain ⟨x7, hj9, hf⟩ := lt_some2 hf
  have KJ8 : ∀ (ls : Array Slot) (H : Heap) (locs : List Loc), lv_has ls 6 [] → St X n σ1 s.heap H locs → WH l X n rm_Lw_insert σ' (some (.int r)) p e s m args below meth c H locs (F0 m 17 ls [.long x7, .int 0, .ref (xL X 44 0)]) := by
    intro ls H locs hl hP
    obtain ⟨hc11, hf⟩ := chk_some hf
    obtain ⟨σ12, e_σ12, hf⟩ := lt_some hf
    refine g_lst F hP 44 (by decide) (by decide) Nat.zero_lt_one rfl rfl hc11 d_Lw_insert_17 e_σ12 (fun H locs hP => ?_)
    refine lv_goto F.1 F.2.1 d_Lw_insert_18 rfl ?_
    refine lv_iconst (v := 0) F.1 F.2.1 d_Lw_insert_29 (by decide) ?_
    cases hf
    exact g_hret F hP hr hlk d_Lw_insert_30
  refine lv_if_eq F.1 F.2.1 d_Lw_insert_9 rfl (fun hb10 => ?_) (fun hb10 => ?_)
  · rw [if_pos hb10] at hj9
    refine lv_lconst (v := 0) F.1 F.2.1 d_Lw_insert_16 (by decide) ?_
    subst hj9
    exact KJ8 _ _ _ (lv_sub hl [] rfl) hP
  · rw [if_neg hb10] at hj9
    refine lv_lconst (v := 1) F.1 F.2.1 d_Lw_insert_12 (by decide) ?_
    refine lv_goto F.1 F.2.1 d_Lw_insert_13 rfl ?_
    subst hj9
    exact KJ8 _ _ _ (lv_sub hl [] rfl) hP

theorem wc_Lw_delete : Cond.codeWith y_Lw_delete b_Lw_delete 6 (some .int) [(0, 18, 21, 13)] ∈ TB := tb_in (t3_in (i := 67) rfl) rfl
theorem d_Lw_delete_0 : decode b_Lw_delete 0 = .ok (.aload 4, 2) := by decide +kernel
theorem d_Lw_delete_2 : decode b_Lw_delete 2 = .ok (.iconst 0, 1) := by decide +kernel
theorem d_Lw_delete_3 : decode b_Lw_delete 3 = .ok (.aload_n 0, 1) := by decide +kernel
theorem d_Lw_delete_4 : decode b_Lw_delete 4 = .ok (.iload_n 1, 1) := by decide +kernel
theorem d_Lw_delete_5 : decode b_Lw_delete 5 = .ok (.lload_n 2, 1) := by decide +kernel
theorem d_Lw_delete_6 : decode b_Lw_delete 6 = .ok (.invokevirtual 21, 3) := by decide +kernel
theorem d_Lw_delete_9 : decode b_Lw_delete 9 = .ok (.ifCond .eq 7, 3) := by decide +kernel
theorem d_Lw_delete_12 : decode b_Lw_delete 12 = .ok (.lconst 1, 1) := by decide +kernel
theorem d_Lw_delete_13 : decode b_Lw_delete 13 = .ok (.goto 4, 3) := by decide +kernel
theorem d_Lw_delete_16 : decode b_Lw_delete 16 = .ok (.lconst 0, 1) := by decide +kernel
theorem d_Lw_delete_17 : decode b_Lw_delete 17 = .ok (.lastore, 1) := by decide +kernel
theorem d_Lw_delete_18 : decode b_Lw_delete 18 = .ok (.goto 7, 3) := by decide +kernel
theorem d_Lw_delete_21 : decode b_Lw_delete 21 = .ok (.astore 5, 2) := by decide +kernel
theorem d_Lw_delete_23 : decode b_Lw_delete 23 = .ok (.iconst 1, 1) := by decide +kernel
theorem d_Lw_delete_24 : decode b_Lw_delete 24 = .ok (.ireturn, 1) := by decide +kernel
theorem d_Lw_delete_25 : decode b_Lw_delete 25 = .ok (.iconst 0, 1) := by decide +kernel
theorem d_Lw_delete_26 : decode b_Lw_delete 26 = .ok (.ireturn, 1) := by decide +kernel
noncomputable def f_Lw_delete (a1 : Int32) (a2 : Int64) (σ : Sg) : Option (Int32 × Sg) :=
  bnH (f_TM_delete a1 a2 σ) (fun e => if e = 0 then some 1 else none) (fun (r3 : Int32) (σ1 : Sg) => lt_ ((if r3 = 0 then 0 else 1) : Int64) (fun (x7 : Int64) => chk (vp_in 0 1) (lt_ (sj σ1 44 0 ((0 : Int32).toNatClampNeg) x7) (fun σ12 => some (0, σ12)))))
abbrev rm_Lw_delete : Room := { frames := 8, cells := 1, slots := 6, locals := 192 }
set_option maxHeartbeats 4000000 in
set_option maxRecDepth 100000 in
theorem c_Lw_delete (l : Launch) (X : GX) (n : Nat) {σ σ' : Sg} {r : Int32} {a1 : Int32} {a2 : Int64} (hfl : l.flags = flags0) (hf : f_Lw_delete a1 a2 σ = some (r, σ')) : Met l y_Lw_delete (ch y_Lw_delete b_Lw_delete 6 (some .int) [(0, 18, 21, 13)]) rm_Lw_delete (PcG X n σ [.ref (xL X 0 0), .int a1, .long a2, .ref (xL X 44 0)]) (QcH X n σ' (some (.int r))) 1 6 (fr X n) := by
  refine g_headH (by decide) rfl (Nat.le_of_ble_eq_true rfl) ?_
  intro p e s m args below meth c ls F hr hlk htab hP hl
  have hl : lv_has ls 6 [(0, .ref (xL X 0 0)), (1, .int a1), (2, .long a2), (4, .ref (xL X 44 0))] := hl
  show WH l X n rm_Lw_delete σ' (some (.int r)) p e s m args below meth c s.heap [] (F0 m 0 ls [])
  unfold f_Lw_delete at hf
  refine lv_aload F.1 F.2.1 d_Lw_delete_0 (lv_at hl 3 rfl) ?_
  refine lv_iconst (v := 0) F.1 F.2.1 d_Lw_delete_2 (by decide) ?_
  refine lv_aload_n F.1 F.2.1 d_Lw_delete_3 rfl (lv_at hl 0 rfl) ?_
  refine lv_iload_n F.1 F.2.1 d_Lw_delete_4 rfl (lv_at hl 1 rfl) ?_
  refine lv_lload_n F.1 F.2.1 d_Lw_delete_5 rfl (lv_at hl 2 rfl) ?_
  rcases bnH_some hf with ⟨r3, σ1, hk2, hf⟩ | ⟨k4, σ1, v6, hk2, hm5, hf⟩
  rotate_left
  · cases hf
    by_cases z0 : k4 = 0
    · subst z0
      first | (rw [if_pos rfl] at hm5) | (simp at hm5; done) | skip
      have hm5 := Option.some.inj hm5
      rw [← hm5]
      exact g_hcat F hP hr hlk htab (g_xV (As := [.int a1, .long a2]) (rest := [.int 0, .ref (xL X 44 0)]) F hP 0 0 (by decide) Nat.zero_lt_one (c_TM_delete l X n hfl  hk2) rfl q_TM_delete w_551 w_1 w_548 w_549 w_550 ⟨by decide, by decide⟩ hl.1 (Nat.le_of_ble_eq_true rfl) ⟨by decide, by decide⟩ d_Lw_delete_6 rfl) (by decide) hl (i := 5) (h := 21) (q := 23) (by decide) (Or.inl ⟨d_Lw_delete_21, rfl⟩) (by decide) d_Lw_delete_23 (by decide) d_Lw_delete_24
    rw [if_neg z0] at hm5
    cases hm5
  refine xr_ret hP (g_xV (As := [.int a1, .long a2]) (rest := [.int 0, .ref (xL X 44 0)]) F hP 0 0 (by decide) Nat.zero_lt_one (c_TM_delete l X n hfl  hk2) rfl q_TM_delete w_551 w_1 w_548 w_549 w_550 ⟨by decide, by decide⟩ hl.1 (Nat.le_of_ble_eq_true rfl) ⟨by decide, by decide⟩ d_Lw_delete_6 rfl) (fun H locs hP => ?_)
  refine W.eq (g2 := F0 m 9 ls [.int r3, .int 0, .ref (xL X 44 0)]) rfl ?_
  obtain ⟨x7, hj9, hf⟩ := lt_some2 hf
  have KJ8 : ∀ (ls : Array Slot) (H : Heap) (locs : List Loc), lv_has ls 6 [] → St X n σ1 s.heap H locs → WH l X n rm_Lw_delete σ' (some (.int r)) p e s m args below meth c H locs (F0 m 17 ls [.long x7, .int 0, .ref (xL X 44 0)]) := by
    intro ls H locs hl hP
    obtain ⟨hc11, hf⟩ := chk_some hf
    obtain ⟨σ12, e_σ12, hf⟩ := lt_some hf
    refine g_lst F hP 44 (by decide) (by decide) Nat.zero_lt_one rfl rfl hc11 d_Lw_delete_17 e_σ12 (fun H locs hP => ?_)
    refine lv_goto F.1 F.2.1 d_Lw_delete_18 rfl ?_
    refine lv_iconst (v := 0) F.1 F.2.1 d_Lw_delete_25 (by decide) ?_
    cases hf
    exact g_hret F hP hr hlk d_Lw_delete_26
  refine lv_if_eq F.1 F.2.1 d_Lw_delete_9 rfl (fun hb10 => ?_) (fun hb10 => ?_)
  · rw [if_pos hb10] at hj9
    refine lv_lconst (v := 0) F.1 F.2.1 d_Lw_delete_16 (by decide) ?_
    subst hj9
    exact KJ8 _ _ _ (lv_sub hl [] rfl) hP
  · rw [if_neg hb10] at hj9
    refine lv_lconst (v := 1) F.1 F.2.1 d_Lw_delete_12 (by decide) ?_
    refine lv_goto F.1 F.2.1 d_Lw_delete_13 rfl ?_
    subst hj9
    exact KJ8 _ _ _ (lv_sub hl [] rfl) hP

theorem wc_Lw_next : Cond.codeWith y_Lw_next b_Lw_next 7 (some .int) [(0, 12, 15, 13), (0, 12, 19, 28)] ∈ TB := tb_in (t3_in (i := 98) rfl) rfl
theorem d_Lw_next_0 : decode b_Lw_next 0 = .ok (.aload 5, 2) := by decide +kernel
theorem d_Lw_next_2 : decode b_Lw_next 2 = .ok (.iconst 0, 1) := by decide +kernel
theorem d_Lw_next_3 : decode b_Lw_next 3 = .ok (.aload_n 0, 1) := by decide +kernel
theorem d_Lw_next_4 : decode b_Lw_next 4 = .ok (.iload_n 1, 1) := by decide +kernel
theorem d_Lw_next_5 : decode b_Lw_next 5 = .ok (.lload_n 2, 1) := by decide +kernel
theorem d_Lw_next_6 : decode b_Lw_next 6 = .ok (.iload 4, 2) := by decide +kernel
theorem d_Lw_next_8 : decode b_Lw_next 8 = .ok (.invokevirtual 24, 3) := by decide +kernel
theorem d_Lw_next_11 : decode b_Lw_next 11 = .ok (.lastore, 1) := by decide +kernel
theorem d_Lw_next_12 : decode b_Lw_next 12 = .ok (.goto 11, 3) := by decide +kernel
theorem d_Lw_next_15 : decode b_Lw_next 15 = .ok (.astore 6, 2) := by decide +kernel
theorem d_Lw_next_17 : decode b_Lw_next 17 = .ok (.iconst 1, 1) := by decide +kernel
theorem d_Lw_next_18 : decode b_Lw_next 18 = .ok (.ireturn, 1) := by decide +kernel
theorem d_Lw_next_19 : decode b_Lw_next 19 = .ok (.astore 6, 2) := by decide +kernel
theorem d_Lw_next_21 : decode b_Lw_next 21 = .ok (.iconst 2, 1) := by decide +kernel
theorem d_Lw_next_22 : decode b_Lw_next 22 = .ok (.ireturn, 1) := by decide +kernel
theorem d_Lw_next_23 : decode b_Lw_next 23 = .ok (.iconst 0, 1) := by decide +kernel
theorem d_Lw_next_24 : decode b_Lw_next 24 = .ok (.ireturn, 1) := by decide +kernel
noncomputable def f_Lw_next (a1 : Int32) (a2 : Int64) (a4 : Int32) (σ : Sg) : Option (Int32 × Sg) :=
  bnH (f_TM_next a1 a2 a4 σ) (fun e => if e = 0 then some 1 else if e = 3 then some 2 else none) (fun (r3 : Int64) (σ1 : Sg) => chk (vp_in 0 1) (lt_ (sj σ1 44 0 ((0 : Int32).toNatClampNeg) r3) (fun σ8 => some (0, σ8))))
abbrev rm_Lw_next : Room := { frames := 8, cells := 1, slots := 6, locals := 147 }
set_option maxHeartbeats 4000000 in
set_option maxRecDepth 100000 in
theorem c_Lw_next (l : Launch) (X : GX) (n : Nat) {σ σ' : Sg} {r : Int32} {a1 : Int32} {a2 : Int64} {a4 : Int32} (hfl : l.flags = flags0) (hf : f_Lw_next a1 a2 a4 σ = some (r, σ')) : Met l y_Lw_next (ch y_Lw_next b_Lw_next 7 (some .int) [(0, 12, 15, 13), (0, 12, 19, 28)]) rm_Lw_next (PcG X n σ [.ref (xL X 0 0), .int a1, .long a2, .int a4, .ref (xL X 44 0)]) (QcH X n σ' (some (.int r))) 1 6 (fr X n) := by
  refine g_headH (by decide) rfl (Nat.le_of_ble_eq_true rfl) ?_
  intro p e s m args below meth c ls F hr hlk htab hP hl
  have hl : lv_has ls 7 [(0, .ref (xL X 0 0)), (1, .int a1), (2, .long a2), (4, .int a4), (5, .ref (xL X 44 0))] := hl
  show WH l X n rm_Lw_next σ' (some (.int r)) p e s m args below meth c s.heap [] (F0 m 0 ls [])
  unfold f_Lw_next at hf
  refine lv_aload F.1 F.2.1 d_Lw_next_0 (lv_at hl 4 rfl) ?_
  refine lv_iconst (v := 0) F.1 F.2.1 d_Lw_next_2 (by decide) ?_
  refine lv_aload_n F.1 F.2.1 d_Lw_next_3 rfl (lv_at hl 0 rfl) ?_
  refine lv_iload_n F.1 F.2.1 d_Lw_next_4 rfl (lv_at hl 1 rfl) ?_
  refine lv_lload_n F.1 F.2.1 d_Lw_next_5 rfl (lv_at hl 2 rfl) ?_
  refine lv_iload F.1 F.2.1 d_Lw_next_6 (lv_at hl 3 rfl) ?_
  rcases bnH_some hf with ⟨r3, σ1, hk2, hf⟩ | ⟨k4, σ1, v6, hk2, hm5, hf⟩
  rotate_left
  · cases hf
    by_cases z0 : k4 = 0
    · subst z0
      first | (rw [if_pos rfl] at hm5) | (simp at hm5; done) | skip
      have hm5 := Option.some.inj hm5
      rw [← hm5]
      exact g_hcat F hP hr hlk htab (g_xV (As := [.int a1, .long a2, .int a4]) (rest := [.int 0, .ref (xL X 44 0)]) F hP 0 0 (by decide) Nat.zero_lt_one (c_TM_next l X n hfl  hk2) rfl q_TM_next w_583 w_1 w_580 w_581 w_582 ⟨by decide, by decide⟩ hl.1 (Nat.le_of_ble_eq_true rfl) ⟨by decide, by decide⟩ d_Lw_next_8 rfl) (by decide) hl (i := 6) (h := 15) (q := 17) (by decide) (Or.inl ⟨d_Lw_next_15, rfl⟩) (by decide) d_Lw_next_17 (by decide) d_Lw_next_18
    rw [if_neg z0] at hm5
    by_cases z3 : k4 = 3
    · subst z3
      first | (rw [if_pos rfl] at hm5) | (simp at hm5; done) | skip
      have hm5 := Option.some.inj hm5
      rw [← hm5]
      exact g_hcat F hP hr hlk htab (g_xV (As := [.int a1, .long a2, .int a4]) (rest := [.int 0, .ref (xL X 44 0)]) F hP 0 0 (by decide) Nat.zero_lt_one (c_TM_next l X n hfl  hk2) rfl q_TM_next w_583 w_1 w_580 w_581 w_582 ⟨by decide, by decide⟩ hl.1 (Nat.le_of_ble_eq_true rfl) ⟨by decide, by decide⟩ d_Lw_next_8 rfl) (by decide) hl (i := 6) (h := 19) (q := 21) (by decide) (Or.inl ⟨d_Lw_next_19, rfl⟩) (by decide) d_Lw_next_21 (by decide) d_Lw_next_22
    rw [if_neg z3] at hm5
    cases hm5
  refine xr_ret hP (g_xV (As := [.int a1, .long a2, .int a4]) (rest := [.int 0, .ref (xL X 44 0)]) F hP 0 0 (by decide) Nat.zero_lt_one (c_TM_next l X n hfl  hk2) rfl q_TM_next w_583 w_1 w_580 w_581 w_582 ⟨by decide, by decide⟩ hl.1 (Nat.le_of_ble_eq_true rfl) ⟨by decide, by decide⟩ d_Lw_next_8 rfl) (fun H locs hP => ?_)
  refine W.eq (g2 := F0 m 11 ls [.long r3, .int 0, .ref (xL X 44 0)]) rfl ?_
  obtain ⟨hc7, hf⟩ := chk_some hf
  obtain ⟨σ8, e_σ8, hf⟩ := lt_some hf
  refine g_lst F hP 44 (by decide) (by decide) Nat.zero_lt_one rfl rfl hc7 d_Lw_next_11 e_σ8 (fun H locs hP => ?_)
  refine lv_goto F.1 F.2.1 d_Lw_next_12 rfl ?_
  refine lv_iconst (v := 0) F.1 F.2.1 d_Lw_next_23 (by decide) ?_
  cases hf
  exact g_hret F hP hr hlk d_Lw_next_24

theorem wc_Lw_value : Cond.codeWith y_Lw_value b_Lw_value 7 (some .int) [(0, 12, 15, 13), (0, 12, 19, 28)] ∈ TB := tb_in (t3_in (i := 133) rfl) rfl
theorem d_Lw_value_0 : decode b_Lw_value 0 = .ok (.aload 5, 2) := by decide +kernel
theorem d_Lw_value_2 : decode b_Lw_value 2 = .ok (.iconst 0, 1) := by decide +kernel
theorem d_Lw_value_3 : decode b_Lw_value 3 = .ok (.aload_n 0, 1) := by decide +kernel
theorem d_Lw_value_4 : decode b_Lw_value 4 = .ok (.iload_n 1, 1) := by decide +kernel
theorem d_Lw_value_5 : decode b_Lw_value 5 = .ok (.lload_n 2, 1) := by decide +kernel
theorem d_Lw_value_6 : decode b_Lw_value 6 = .ok (.iload 4, 2) := by decide +kernel
theorem d_Lw_value_8 : decode b_Lw_value 8 = .ok (.invokevirtual 30, 3) := by decide +kernel
theorem d_Lw_value_11 : decode b_Lw_value 11 = .ok (.lastore, 1) := by decide +kernel
theorem d_Lw_value_12 : decode b_Lw_value 12 = .ok (.goto 11, 3) := by decide +kernel
theorem d_Lw_value_15 : decode b_Lw_value 15 = .ok (.astore 6, 2) := by decide +kernel
theorem d_Lw_value_17 : decode b_Lw_value 17 = .ok (.iconst 1, 1) := by decide +kernel
theorem d_Lw_value_18 : decode b_Lw_value 18 = .ok (.ireturn, 1) := by decide +kernel
theorem d_Lw_value_19 : decode b_Lw_value 19 = .ok (.astore 6, 2) := by decide +kernel
theorem d_Lw_value_21 : decode b_Lw_value 21 = .ok (.iconst 2, 1) := by decide +kernel
theorem d_Lw_value_22 : decode b_Lw_value 22 = .ok (.ireturn, 1) := by decide +kernel
theorem d_Lw_value_23 : decode b_Lw_value 23 = .ok (.iconst 0, 1) := by decide +kernel
theorem d_Lw_value_24 : decode b_Lw_value 24 = .ok (.ireturn, 1) := by decide +kernel
noncomputable def f_Lw_value (a1 : Int32) (a2 : Int64) (a4 : Int32) (σ : Sg) : Option (Int32 × Sg) :=
  bnH (f_TM_value a1 a2 a4 σ) (fun e => if e = 0 then some 1 else if e = 3 then some 2 else none) (fun (r3 : Int64) (σ1 : Sg) => chk (vp_in 0 1) (lt_ (sj σ1 44 0 ((0 : Int32).toNatClampNeg) r3) (fun σ8 => some (0, σ8))))
abbrev rm_Lw_value : Room := { frames := 9, cells := 1, slots := 6, locals := 174 }
set_option maxHeartbeats 4000000 in
set_option maxRecDepth 100000 in
theorem c_Lw_value (l : Launch) (X : GX) (n : Nat) {σ σ' : Sg} {r : Int32} {a1 : Int32} {a2 : Int64} {a4 : Int32} (hfl : l.flags = flags0) (hf : f_Lw_value a1 a2 a4 σ = some (r, σ')) : Met l y_Lw_value (ch y_Lw_value b_Lw_value 7 (some .int) [(0, 12, 15, 13), (0, 12, 19, 28)]) rm_Lw_value (PcG X n σ [.ref (xL X 0 0), .int a1, .long a2, .int a4, .ref (xL X 44 0)]) (QcH X n σ' (some (.int r))) 1 6 (fr X n) := by
  refine g_headH (by decide) rfl (Nat.le_of_ble_eq_true rfl) ?_
  intro p e s m args below meth c ls F hr hlk htab hP hl
  have hl : lv_has ls 7 [(0, .ref (xL X 0 0)), (1, .int a1), (2, .long a2), (4, .int a4), (5, .ref (xL X 44 0))] := hl
  show WH l X n rm_Lw_value σ' (some (.int r)) p e s m args below meth c s.heap [] (F0 m 0 ls [])
  unfold f_Lw_value at hf
  refine lv_aload F.1 F.2.1 d_Lw_value_0 (lv_at hl 4 rfl) ?_
  refine lv_iconst (v := 0) F.1 F.2.1 d_Lw_value_2 (by decide) ?_
  refine lv_aload_n F.1 F.2.1 d_Lw_value_3 rfl (lv_at hl 0 rfl) ?_
  refine lv_iload_n F.1 F.2.1 d_Lw_value_4 rfl (lv_at hl 1 rfl) ?_
  refine lv_lload_n F.1 F.2.1 d_Lw_value_5 rfl (lv_at hl 2 rfl) ?_
  refine lv_iload F.1 F.2.1 d_Lw_value_6 (lv_at hl 3 rfl) ?_
  rcases bnH_some hf with ⟨r3, σ1, hk2, hf⟩ | ⟨k4, σ1, v6, hk2, hm5, hf⟩
  rotate_left
  · cases hf
    by_cases z0 : k4 = 0
    · subst z0
      first | (rw [if_pos rfl] at hm5) | (simp at hm5; done) | skip
      have hm5 := Option.some.inj hm5
      rw [← hm5]
      exact g_hcat F hP hr hlk htab (g_xV (As := [.int a1, .long a2, .int a4]) (rest := [.int 0, .ref (xL X 44 0)]) F hP 0 0 (by decide) Nat.zero_lt_one (c_TM_value l X n hfl  hk2) rfl q_TM_value w_617 w_1 w_614 w_615 w_616 ⟨by decide, by decide⟩ hl.1 (Nat.le_of_ble_eq_true rfl) ⟨by decide, by decide⟩ d_Lw_value_8 rfl) (by decide) hl (i := 6) (h := 15) (q := 17) (by decide) (Or.inl ⟨d_Lw_value_15, rfl⟩) (by decide) d_Lw_value_17 (by decide) d_Lw_value_18
    rw [if_neg z0] at hm5
    by_cases z3 : k4 = 3
    · subst z3
      first | (rw [if_pos rfl] at hm5) | (simp at hm5; done) | skip
      have hm5 := Option.some.inj hm5
      rw [← hm5]
      exact g_hcat F hP hr hlk htab (g_xV (As := [.int a1, .long a2, .int a4]) (rest := [.int 0, .ref (xL X 44 0)]) F hP 0 0 (by decide) Nat.zero_lt_one (c_TM_value l X n hfl  hk2) rfl q_TM_value w_617 w_1 w_614 w_615 w_616 ⟨by decide, by decide⟩ hl.1 (Nat.le_of_ble_eq_true rfl) ⟨by decide, by decide⟩ d_Lw_value_8 rfl) (by decide) hl (i := 6) (h := 19) (q := 21) (by decide) (Or.inl ⟨d_Lw_value_19, rfl⟩) (by decide) d_Lw_value_21 (by decide) d_Lw_value_22
    rw [if_neg z3] at hm5
    cases hm5
  refine xr_ret hP (g_xV (As := [.int a1, .long a2, .int a4]) (rest := [.int 0, .ref (xL X 44 0)]) F hP 0 0 (by decide) Nat.zero_lt_one (c_TM_value l X n hfl  hk2) rfl q_TM_value w_617 w_1 w_614 w_615 w_616 ⟨by decide, by decide⟩ hl.1 (Nat.le_of_ble_eq_true rfl) ⟨by decide, by decide⟩ d_Lw_value_8 rfl) (fun H locs hP => ?_)
  refine W.eq (g2 := F0 m 11 ls [.long r3, .int 0, .ref (xL X 44 0)]) rfl ?_
  obtain ⟨hc7, hf⟩ := chk_some hf
  obtain ⟨σ8, e_σ8, hf⟩ := lt_some hf
  refine g_lst F hP 44 (by decide) (by decide) Nat.zero_lt_one rfl rfl hc7 d_Lw_value_11 e_σ8 (fun H locs hP => ?_)
  refine lv_goto F.1 F.2.1 d_Lw_value_12 rfl ?_
  refine lv_iconst (v := 0) F.1 F.2.1 d_Lw_value_23 (by decide) ?_
  cases hf
  exact g_hret F hP hr hlk d_Lw_value_24

theorem wc_Lw_isNull : Cond.codeWith y_Lw_isNull b_Lw_isNull 7 (some .int) [(0, 20, 23, 13), (0, 20, 27, 28)] ∈ TB := tb_in (t3_in (i := 156) rfl) rfl
theorem d_Lw_isNull_0 : decode b_Lw_isNull 0 = .ok (.aload 5, 2) := by decide +kernel
theorem d_Lw_isNull_2 : decode b_Lw_isNull 2 = .ok (.iconst 0, 1) := by decide +kernel
theorem d_Lw_isNull_3 : decode b_Lw_isNull 3 = .ok (.aload_n 0, 1) := by decide +kernel
theorem d_Lw_isNull_4 : decode b_Lw_isNull 4 = .ok (.iload_n 1, 1) := by decide +kernel
theorem d_Lw_isNull_5 : decode b_Lw_isNull 5 = .ok (.lload_n 2, 1) := by decide +kernel
theorem d_Lw_isNull_6 : decode b_Lw_isNull 6 = .ok (.iload 4, 2) := by decide +kernel
theorem d_Lw_isNull_8 : decode b_Lw_isNull 8 = .ok (.invokevirtual 34, 3) := by decide +kernel
theorem d_Lw_isNull_11 : decode b_Lw_isNull 11 = .ok (.ifCond .eq 7, 3) := by decide +kernel
theorem d_Lw_isNull_14 : decode b_Lw_isNull 14 = .ok (.lconst 1, 1) := by decide +kernel
theorem d_Lw_isNull_15 : decode b_Lw_isNull 15 = .ok (.goto 4, 3) := by decide +kernel
theorem d_Lw_isNull_18 : decode b_Lw_isNull 18 = .ok (.lconst 0, 1) := by decide +kernel
theorem d_Lw_isNull_19 : decode b_Lw_isNull 19 = .ok (.lastore, 1) := by decide +kernel
theorem d_Lw_isNull_20 : decode b_Lw_isNull 20 = .ok (.goto 11, 3) := by decide +kernel
theorem d_Lw_isNull_23 : decode b_Lw_isNull 23 = .ok (.astore 6, 2) := by decide +kernel
theorem d_Lw_isNull_25 : decode b_Lw_isNull 25 = .ok (.iconst 1, 1) := by decide +kernel
theorem d_Lw_isNull_26 : decode b_Lw_isNull 26 = .ok (.ireturn, 1) := by decide +kernel
theorem d_Lw_isNull_27 : decode b_Lw_isNull 27 = .ok (.astore 6, 2) := by decide +kernel
theorem d_Lw_isNull_29 : decode b_Lw_isNull 29 = .ok (.iconst 2, 1) := by decide +kernel
theorem d_Lw_isNull_30 : decode b_Lw_isNull 30 = .ok (.ireturn, 1) := by decide +kernel
theorem d_Lw_isNull_31 : decode b_Lw_isNull 31 = .ok (.iconst 0, 1) := by decide +kernel
theorem d_Lw_isNull_32 : decode b_Lw_isNull 32 = .ok (.ireturn, 1) := by decide +kernel
noncomputable def f_Lw_isNull (a1 : Int32) (a2 : Int64) (a4 : Int32) (σ : Sg) : Option (Int32 × Sg) :=
  bnH (f_TM_isNull a1 a2 a4 σ) (fun e => if e = 0 then some 1 else if e = 3 then some 2 else none) (fun (r3 : Int32) (σ1 : Sg) => lt_ ((if r3 = 0 then 0 else 1) : Int64) (fun (x7 : Int64) => chk (vp_in 0 1) (lt_ (sj σ1 44 0 ((0 : Int32).toNatClampNeg) x7) (fun σ12 => some (0, σ12)))))
abbrev rm_Lw_isNull : Room := { frames := 9, cells := 1, slots := 6, locals := 174 }
set_option maxHeartbeats 4000000 in
set_option maxRecDepth 100000 in
theorem c_Lw_isNull (l : Launch) (X : GX) (n : Nat) {σ σ' : Sg} {r : Int32} {a1 : Int32} {a2 : Int64} {a4 : Int32} (hfl : l.flags = flags0) (hf : f_Lw_isNull a1 a2 a4 σ = some (r, σ')) : Met l y_Lw_isNull (ch y_Lw_isNull b_Lw_isNull 7 (some .int) [(0, 20, 23, 13), (0, 20, 27, 28)]) rm_Lw_isNull (PcG X n σ [.ref (xL X 0 0), .int a1, .long a2, .int a4, .ref (xL X 44 0)]) (QcH X n σ' (some (.int r))) 1 6 (fr X n) := by
  refine g_headH (by decide) rfl (Nat.le_of_ble_eq_true rfl) ?_
  intro p e s m args below meth c ls F hr hlk htab hP hl
  have hl : lv_has ls 7 [(0, .ref (xL X 0 0)), (1, .int a1), (2, .long a2), (4, .int a4), (5, .ref (xL X 44 0))] := hl
  show WH l X n rm_Lw_isNull σ' (some (.int r)) p e s m args below meth c s.heap [] (F0 m 0 ls [])
  unfold f_Lw_isNull at hf
  refine lv_aload F.1 F.2.1 d_Lw_isNull_0 (lv_at hl 4 rfl) ?_
  refine lv_iconst (v := 0) F.1 F.2.1 d_Lw_isNull_2 (by decide) ?_
  refine lv_aload_n F.1 F.2.1 d_Lw_isNull_3 rfl (lv_at hl 0 rfl) ?_
  refine lv_iload_n F.1 F.2.1 d_Lw_isNull_4 rfl (lv_at hl 1 rfl) ?_
  refine lv_lload_n F.1 F.2.1 d_Lw_isNull_5 rfl (lv_at hl 2 rfl) ?_
  refine lv_iload F.1 F.2.1 d_Lw_isNull_6 (lv_at hl 3 rfl) ?_
  rcases bnH_some hf with ⟨r3, σ1, hk2, hf⟩ | ⟨k4, σ1, v6, hk2, hm5, hf⟩
  rotate_left
  · cases hf
    by_cases z0 : k4 = 0
    · subst z0
      first | (rw [if_pos rfl] at hm5) | (simp at hm5; done) | skip
      have hm5 := Option.some.inj hm5
      rw [← hm5]
      exact g_hcat F hP hr hlk htab (g_xV (As := [.int a1, .long a2, .int a4]) (rest := [.int 0, .ref (xL X 44 0)]) F hP 0 0 (by decide) Nat.zero_lt_one (c_TM_isNull l X n hfl  hk2) rfl q_TM_isNull w_640 w_1 w_637 w_638 w_639 ⟨by decide, by decide⟩ hl.1 (Nat.le_of_ble_eq_true rfl) ⟨by decide, by decide⟩ d_Lw_isNull_8 rfl) (by decide) hl (i := 6) (h := 23) (q := 25) (by decide) (Or.inl ⟨d_Lw_isNull_23, rfl⟩) (by decide) d_Lw_isNull_25 (by decide) d_Lw_isNull_26
    rw [if_neg z0] at hm5
    by_cases z3 : k4 = 3
    · subst z3
      first | (rw [if_pos rfl] at hm5) | (simp at hm5; done) | skip
      have hm5 := Option.some.inj hm5
      rw [← hm5]
      exact g_hcat F hP hr hlk htab (g_xV (As := [.int a1, .long a2, .int a4]) (rest := [.int 0, .ref (xL X 44 0)]) F hP 0 0 (by decide) Nat.zero_lt_one (c_TM_isNull l X n hfl  hk2) rfl q_TM_isNull w_640 w_1 w_637 w_638 w_639 ⟨by decide, by decide⟩ hl.1 (Nat.le_of_ble_eq_true rfl) ⟨by decide, by decide⟩ d_Lw_isNull_8 rfl) (by decide) hl (i := 6) (h := 27) (q := 29) (by decide) (Or.inl ⟨d_Lw_isNull_27, rfl⟩) (by decide) d_Lw_isNull_29 (by decide) d_Lw_isNull_30
    rw [if_neg z3] at hm5
    cases hm5
  refine xr_ret hP (g_xV (As := [.int a1, .long a2, .int a4]) (rest := [.int 0, .ref (xL X 44 0)]) F hP 0 0 (by decide) Nat.zero_lt_one (c_TM_isNull l X n hfl  hk2) rfl q_TM_isNull w_640 w_1 w_637 w_638 w_639 ⟨by decide, by decide⟩ hl.1 (Nat.le_of_ble_eq_true rfl) ⟨by decide, by decide⟩ d_Lw_isNull_8 rfl) (fun H locs hP => ?_)
  refine W.eq (g2 := F0 m 11 ls [.int r3, .int 0, .ref (xL X 44 0)]) rfl ?_
  obtain ⟨x7, hj9, hf⟩ := lt_some2 hf
  have KJ8 : ∀ (ls : Array Slot) (H : Heap) (locs : List Loc), lv_has ls 7 [] → St X n σ1 s.heap H locs → WH l X n rm_Lw_isNull σ' (some (.int r)) p e s m args below meth c H locs (F0 m 19 ls [.long x7, .int 0, .ref (xL X 44 0)]) := by
    intro ls H locs hl hP
    obtain ⟨hc11, hf⟩ := chk_some hf
    obtain ⟨σ12, e_σ12, hf⟩ := lt_some hf
    refine g_lst F hP 44 (by decide) (by decide) Nat.zero_lt_one rfl rfl hc11 d_Lw_isNull_19 e_σ12 (fun H locs hP => ?_)
    refine lv_goto F.1 F.2.1 d_Lw_isNull_20 rfl ?_
    refine lv_iconst (v := 0) F.1 F.2.1 d_Lw_isNull_31 (by decide) ?_
    cases hf
    exact g_hret F hP hr hlk d_Lw_isNull_32
  refine lv_if_eq F.1 F.2.1 d_Lw_isNull_11 rfl (fun hb10 => ?_) (fun hb10 => ?_)
  · rw [if_pos hb10] at hj9
    refine lv_lconst (v := 0) F.1 F.2.1 d_Lw_isNull_18 (by decide) ?_
    subst hj9
    exact KJ8 _ _ _ (lv_sub hl [] rfl) hP
  · rw [if_neg hb10] at hj9
    refine lv_lconst (v := 1) F.1 F.2.1 d_Lw_isNull_14 (by decide) ?_
    refine lv_goto F.1 F.2.1 d_Lw_isNull_15 rfl ?_
    subst hj9
    exact KJ8 _ _ _ (lv_sub hl [] rfl) hP

theorem wc_Lw_add : Cond.codeWith y_Lw_add b_Lw_add 7 (some .int) [(0, 14, 17, 13), (0, 14, 21, 15)] ∈ TB := tb_in (t3_in (i := 163) rfl) rfl
theorem d_Lw_add_0 : decode b_Lw_add 0 = .ok (.aload 5, 2) := by decide +kernel
theorem d_Lw_add_2 : decode b_Lw_add 2 = .ok (.iconst 0, 1) := by decide +kernel
theorem d_Lw_add_3 : decode b_Lw_add 3 = .ok (.aload_n 0, 1) := by decide +kernel
theorem d_Lw_add_4 : decode b_Lw_add 4 = .ok (.iload_n 1, 1) := by decide +kernel
theorem d_Lw_add_5 : decode b_Lw_add 5 = .ok (.iload_n 2, 1) := by decide +kernel
theorem d_Lw_add_6 : decode b_Lw_add 6 = .ok (.iload_n 3, 1) := by decide +kernel
theorem d_Lw_add_7 : decode b_Lw_add 7 = .ok (.iload 4, 2) := by decide +kernel
theorem d_Lw_add_9 : decode b_Lw_add 9 = .ok (.invokevirtual 38, 3) := by decide +kernel
theorem d_Lw_add_12 : decode b_Lw_add 12 = .ok (.i2l, 1) := by decide +kernel
theorem d_Lw_add_13 : decode b_Lw_add 13 = .ok (.lastore, 1) := by decide +kernel
theorem d_Lw_add_14 : decode b_Lw_add 14 = .ok (.goto 11, 3) := by decide +kernel
theorem d_Lw_add_17 : decode b_Lw_add 17 = .ok (.astore 6, 2) := by decide +kernel
theorem d_Lw_add_19 : decode b_Lw_add 19 = .ok (.iconst 1, 1) := by decide +kernel
theorem d_Lw_add_20 : decode b_Lw_add 20 = .ok (.ireturn, 1) := by decide +kernel
theorem d_Lw_add_21 : decode b_Lw_add 21 = .ok (.astore 6, 2) := by decide +kernel
theorem d_Lw_add_23 : decode b_Lw_add 23 = .ok (.iconst 2, 1) := by decide +kernel
theorem d_Lw_add_24 : decode b_Lw_add 24 = .ok (.ireturn, 1) := by decide +kernel
theorem d_Lw_add_25 : decode b_Lw_add 25 = .ok (.iconst 0, 1) := by decide +kernel
theorem d_Lw_add_26 : decode b_Lw_add 26 = .ok (.ireturn, 1) := by decide +kernel
noncomputable def f_Lw_add (a1 : Int32) (a2 : Int32) (a3 : Int32) (a4 : Int32) (σ : Sg) : Option (Int32 × Sg) :=
  bnH (f_TM_add a1 a2 a3 a4 σ) (fun e => if e = 0 then some 1 else if e = 1 then some 2 else none) (fun (r3 : Int32) (σ1 : Sg) => chk (vp_in 0 1) (lt_ (sj σ1 44 0 ((0 : Int32).toNatClampNeg) r3.toInt64) (fun σ8 => some (0, σ8))))
abbrev rm_Lw_add : Room := { frames := 8, cells := 1, slots := 6, locals := 145 }
set_option maxHeartbeats 4000000 in
set_option maxRecDepth 100000 in
theorem c_Lw_add (l : Launch) (X : GX) (n : Nat) {σ σ' : Sg} {r : Int32} {a1 : Int32} {a2 : Int32} {a3 : Int32} {a4 : Int32} (hfl : l.flags = flags0) (hf : f_Lw_add a1 a2 a3 a4 σ = some (r, σ')) : Met l y_Lw_add (ch y_Lw_add b_Lw_add 7 (some .int) [(0, 14, 17, 13), (0, 14, 21, 15)]) rm_Lw_add (PcG X n σ [.ref (xL X 0 0), .int a1, .int a2, .int a3, .int a4, .ref (xL X 44 0)]) (QcH X n σ' (some (.int r))) 1 6 (fr X n) := by
  refine g_headH (by decide) rfl (Nat.le_of_ble_eq_true rfl) ?_
  intro p e s m args below meth c ls F hr hlk htab hP hl
  have hl : lv_has ls 7 [(0, .ref (xL X 0 0)), (1, .int a1), (2, .int a2), (3, .int a3), (4, .int a4), (5, .ref (xL X 44 0))] := hl
  show WH l X n rm_Lw_add σ' (some (.int r)) p e s m args below meth c s.heap [] (F0 m 0 ls [])
  unfold f_Lw_add at hf
  refine lv_aload F.1 F.2.1 d_Lw_add_0 (lv_at hl 5 rfl) ?_
  refine lv_iconst (v := 0) F.1 F.2.1 d_Lw_add_2 (by decide) ?_
  refine lv_aload_n F.1 F.2.1 d_Lw_add_3 rfl (lv_at hl 0 rfl) ?_
  refine lv_iload_n F.1 F.2.1 d_Lw_add_4 rfl (lv_at hl 1 rfl) ?_
  refine lv_iload_n F.1 F.2.1 d_Lw_add_5 rfl (lv_at hl 2 rfl) ?_
  refine lv_iload_n F.1 F.2.1 d_Lw_add_6 rfl (lv_at hl 3 rfl) ?_
  refine lv_iload F.1 F.2.1 d_Lw_add_7 (lv_at hl 4 rfl) ?_
  rcases bnH_some hf with ⟨r3, σ1, hk2, hf⟩ | ⟨k4, σ1, v6, hk2, hm5, hf⟩
  rotate_left
  · cases hf
    by_cases z0 : k4 = 0
    · subst z0
      first | (rw [if_pos rfl] at hm5) | (simp at hm5; done) | skip
      have hm5 := Option.some.inj hm5
      rw [← hm5]
      exact g_hcat F hP hr hlk htab (g_xV (As := [.int a1, .int a2, .int a3, .int a4]) (rest := [.int 0, .ref (xL X 44 0)]) F hP 0 0 (by decide) Nat.zero_lt_one (c_TM_add l X n hfl  hk2) rfl q_TM_add w_647 w_1 w_644 w_645 w_646 ⟨by decide, by decide⟩ hl.1 (Nat.le_of_ble_eq_true rfl) ⟨by decide, by decide⟩ d_Lw_add_9 rfl) (by decide) hl (i := 6) (h := 17) (q := 19) (by decide) (Or.inl ⟨d_Lw_add_17, rfl⟩) (by decide) d_Lw_add_19 (by decide) d_Lw_add_20
    rw [if_neg z0] at hm5
    by_cases z1 : k4 = 1
    · subst z1
      first | (rw [if_pos rfl] at hm5) | (simp at hm5; done) | skip
      have hm5 := Option.some.inj hm5
      rw [← hm5]
      exact g_hcat F hP hr hlk htab (g_xV (As := [.int a1, .int a2, .int a3, .int a4]) (rest := [.int 0, .ref (xL X 44 0)]) F hP 0 0 (by decide) Nat.zero_lt_one (c_TM_add l X n hfl  hk2) rfl q_TM_add w_647 w_1 w_644 w_645 w_646 ⟨by decide, by decide⟩ hl.1 (Nat.le_of_ble_eq_true rfl) ⟨by decide, by decide⟩ d_Lw_add_9 rfl) (by decide) hl (i := 6) (h := 21) (q := 23) (by decide) (Or.inl ⟨d_Lw_add_21, rfl⟩) (by decide) d_Lw_add_23 (by decide) d_Lw_add_24
    rw [if_neg z1] at hm5
    cases hm5
  refine xr_ret hP (g_xV (As := [.int a1, .int a2, .int a3, .int a4]) (rest := [.int 0, .ref (xL X 44 0)]) F hP 0 0 (by decide) Nat.zero_lt_one (c_TM_add l X n hfl  hk2) rfl q_TM_add w_647 w_1 w_644 w_645 w_646 ⟨by decide, by decide⟩ hl.1 (Nat.le_of_ble_eq_true rfl) ⟨by decide, by decide⟩ d_Lw_add_9 rfl) (fun H locs hP => ?_)
  refine W.eq (g2 := F0 m 12 ls [.int r3, .int 0, .ref (xL X 44 0)]) rfl ?_
  refine lv_i2l F.1 F.2.1 d_Lw_add_12 rfl ?_
  obtain ⟨hc7, hf⟩ := chk_some hf
  obtain ⟨σ8, e_σ8, hf⟩ := lt_some hf
  refine g_lst F hP 44 (by decide) (by decide) Nat.zero_lt_one rfl rfl hc7 d_Lw_add_13 e_σ8 (fun H locs hP => ?_)
  refine lv_goto F.1 F.2.1 d_Lw_add_14 rfl ?_
  refine lv_iconst (v := 0) F.1 F.2.1 d_Lw_add_25 (by decide) ?_
  cases hf
  exact g_hret F hP hr hlk d_Lw_add_26

theorem wc_Lw_code : Cond.codeWith y_Lw_code b_Lw_code 5 (some .int) [(0, 10, 13, 46)] ∈ TB := tb_in (t3_in (i := 219) rfl) rfl
theorem d_Lw_code_0 : decode b_Lw_code 0 = .ok (.aload_n 3, 1) := by decide +kernel
theorem d_Lw_code_1 : decode b_Lw_code 1 = .ok (.iconst 0, 1) := by decide +kernel
theorem d_Lw_code_2 : decode b_Lw_code 2 = .ok (.aload_n 0, 1) := by decide +kernel
theorem d_Lw_code_3 : decode b_Lw_code 3 = .ok (.iload_n 1, 1) := by decide +kernel
theorem d_Lw_code_4 : decode b_Lw_code 4 = .ok (.iload_n 2, 1) := by decide +kernel
theorem d_Lw_code_5 : decode b_Lw_code 5 = .ok (.invokevirtual 42, 3) := by decide +kernel
theorem d_Lw_code_8 : decode b_Lw_code 8 = .ok (.i2l, 1) := by decide +kernel
theorem d_Lw_code_9 : decode b_Lw_code 9 = .ok (.lastore, 1) := by decide +kernel
theorem d_Lw_code_10 : decode b_Lw_code 10 = .ok (.goto 7, 3) := by decide +kernel
theorem d_Lw_code_13 : decode b_Lw_code 13 = .ok (.astore 4, 2) := by decide +kernel
theorem d_Lw_code_15 : decode b_Lw_code 15 = .ok (.iconst 1, 1) := by decide +kernel
theorem d_Lw_code_16 : decode b_Lw_code 16 = .ok (.ireturn, 1) := by decide +kernel
theorem d_Lw_code_17 : decode b_Lw_code 17 = .ok (.iconst 0, 1) := by decide +kernel
theorem d_Lw_code_18 : decode b_Lw_code 18 = .ok (.ireturn, 1) := by decide +kernel
noncomputable def f_Lw_code (a1 : Int32) (a2 : Int32) (σ : Sg) : Option (Int32 × Sg) :=
  bnH (f_TM_code a1 a2 σ) (fun e => if e = 2 then some 1 else none) (fun (r3 : Int32) (σ1 : Sg) => chk (vp_in 0 1) (lt_ (sj σ1 44 0 ((0 : Int32).toNatClampNeg) r3.toInt64) (fun σ8 => some (0, σ8))))
abbrev rm_Lw_code : Room := { frames := 8, cells := 1, slots := 6, locals := 142 }
set_option maxHeartbeats 4000000 in
set_option maxRecDepth 100000 in
theorem c_Lw_code (l : Launch) (X : GX) (n : Nat) {σ σ' : Sg} {r : Int32} {a1 : Int32} {a2 : Int32} (hfl : l.flags = flags0) (hf : f_Lw_code a1 a2 σ = some (r, σ')) : Met l y_Lw_code (ch y_Lw_code b_Lw_code 5 (some .int) [(0, 10, 13, 46)]) rm_Lw_code (PcG X n σ [.ref (xL X 0 0), .int a1, .int a2, .ref (xL X 44 0)]) (QcH X n σ' (some (.int r))) 1 6 (fr X n) := by
  refine g_headH (by decide) rfl (Nat.le_of_ble_eq_true rfl) ?_
  intro p e s m args below meth c ls F hr hlk htab hP hl
  have hl : lv_has ls 5 [(0, .ref (xL X 0 0)), (1, .int a1), (2, .int a2), (3, .ref (xL X 44 0))] := hl
  show WH l X n rm_Lw_code σ' (some (.int r)) p e s m args below meth c s.heap [] (F0 m 0 ls [])
  unfold f_Lw_code at hf
  refine lv_aload_n F.1 F.2.1 d_Lw_code_0 rfl (lv_at hl 3 rfl) ?_
  refine lv_iconst (v := 0) F.1 F.2.1 d_Lw_code_1 (by decide) ?_
  refine lv_aload_n F.1 F.2.1 d_Lw_code_2 rfl (lv_at hl 0 rfl) ?_
  refine lv_iload_n F.1 F.2.1 d_Lw_code_3 rfl (lv_at hl 1 rfl) ?_
  refine lv_iload_n F.1 F.2.1 d_Lw_code_4 rfl (lv_at hl 2 rfl) ?_
  rcases bnH_some hf with ⟨r3, σ1, hk2, hf⟩ | ⟨k4, σ1, v6, hk2, hm5, hf⟩
  rotate_left
  · cases hf
    by_cases z2 : k4 = 2
    · subst z2
      first | (rw [if_pos rfl] at hm5) | (simp at hm5; done) | skip
      have hm5 := Option.some.inj hm5
      rw [← hm5]
      exact g_hcat F hP hr hlk htab (g_xV (As := [.int a1, .int a2]) (rest := [.int 0, .ref (xL X 44 0)]) F hP 0 0 (by decide) Nat.zero_lt_one (c_TM_code l X n hfl  hk2) rfl q_TM_code w_704 w_1 w_701 w_702 w_703 ⟨by decide, by decide⟩ hl.1 (Nat.le_of_ble_eq_true rfl) ⟨by decide, by decide⟩ d_Lw_code_5 rfl) (by decide) hl (i := 4) (h := 13) (q := 15) (by decide) (Or.inl ⟨d_Lw_code_13, rfl⟩) (by decide) d_Lw_code_15 (by decide) d_Lw_code_16
    rw [if_neg z2] at hm5
    cases hm5
  refine xr_ret hP (g_xV (As := [.int a1, .int a2]) (rest := [.int 0, .ref (xL X 44 0)]) F hP 0 0 (by decide) Nat.zero_lt_one (c_TM_code l X n hfl  hk2) rfl q_TM_code w_704 w_1 w_701 w_702 w_703 ⟨by decide, by decide⟩ hl.1 (Nat.le_of_ble_eq_true rfl) ⟨by decide, by decide⟩ d_Lw_code_5 rfl) (fun H locs hP => ?_)
  refine W.eq (g2 := F0 m 8 ls [.int r3, .int 0, .ref (xL X 44 0)]) rfl ?_
  refine lv_i2l F.1 F.2.1 d_Lw_code_8 rfl ?_
  obtain ⟨hc7, hf⟩ := chk_some hf
  obtain ⟨σ8, e_σ8, hf⟩ := lt_some hf
  refine g_lst F hP 44 (by decide) (by decide) Nat.zero_lt_one rfl rfl hc7 d_Lw_code_9 e_σ8 (fun H locs hP => ?_)
  refine lv_goto F.1 F.2.1 d_Lw_code_10 rfl ?_
  refine lv_iconst (v := 0) F.1 F.2.1 d_Lw_code_17 (by decide) ?_
  cases hf
  exact g_hret F hP hr hlk d_Lw_code_18

theorem wc_Lw_run : Cond.codeWith y_Lw_run b_Lw_run 4 (some .int) [(0, 9, 12, 13)] ∈ TB := tb_in (t4_in (i := 11) rfl) rfl
theorem d_Lw_run_0 : decode b_Lw_run 0 = .ok (.aload_n 2, 1) := by decide +kernel
theorem d_Lw_run_1 : decode b_Lw_run 1 = .ok (.iconst 0, 1) := by decide +kernel
theorem d_Lw_run_2 : decode b_Lw_run 2 = .ok (.aload_n 0, 1) := by decide +kernel
theorem d_Lw_run_3 : decode b_Lw_run 3 = .ok (.iload_n 1, 1) := by decide +kernel
theorem d_Lw_run_4 : decode b_Lw_run 4 = .ok (.invokevirtual 48, 3) := by decide +kernel
theorem d_Lw_run_7 : decode b_Lw_run 7 = .ok (.i2l, 1) := by decide +kernel
theorem d_Lw_run_8 : decode b_Lw_run 8 = .ok (.lastore, 1) := by decide +kernel
theorem d_Lw_run_9 : decode b_Lw_run 9 = .ok (.goto 6, 3) := by decide +kernel
theorem d_Lw_run_12 : decode b_Lw_run 12 = .ok (.astore_n 3, 1) := by decide +kernel
theorem d_Lw_run_13 : decode b_Lw_run 13 = .ok (.iconst 1, 1) := by decide +kernel
theorem d_Lw_run_14 : decode b_Lw_run 14 = .ok (.ireturn, 1) := by decide +kernel
theorem d_Lw_run_15 : decode b_Lw_run 15 = .ok (.iconst 0, 1) := by decide +kernel
theorem d_Lw_run_16 : decode b_Lw_run 16 = .ok (.ireturn, 1) := by decide +kernel
noncomputable def f_Lw_run (a1 : Int32) (σ : Sg) : Option (Int32 × Sg) :=
  bnH (f_TM_run a1 σ) (fun e => if e = 0 then some 1 else none) (fun (r3 : Int32) (σ1 : Sg) => chk (vp_in 0 1) (lt_ (sj σ1 44 0 ((0 : Int32).toNatClampNeg) r3.toInt64) (fun σ8 => some (0, σ8))))
abbrev rm_Lw_run : Room := { frames := 13, cells := 1, slots := 6, locals := 316 }
set_option maxHeartbeats 4000000 in
set_option maxRecDepth 100000 in
theorem c_Lw_run (l : Launch) (X : GX) (n : Nat) {σ σ' : Sg} {r : Int32} {a1 : Int32} (hfl : l.flags = flags0) (hf : f_Lw_run a1 σ = some (r, σ')) : Met l y_Lw_run (ch y_Lw_run b_Lw_run 4 (some .int) [(0, 9, 12, 13)]) rm_Lw_run (PcG X n σ [.ref (xL X 0 0), .int a1, .ref (xL X 44 0)]) (QcH X n σ' (some (.int r))) 1 6 (fr X n) := by
  refine g_headH (by decide) rfl (Nat.le_of_ble_eq_true rfl) ?_
  intro p e s m args below meth c ls F hr hlk htab hP hl
  have hl : lv_has ls 4 [(0, .ref (xL X 0 0)), (1, .int a1), (2, .ref (xL X 44 0))] := hl
  show WH l X n rm_Lw_run σ' (some (.int r)) p e s m args below meth c s.heap [] (F0 m 0 ls [])
  unfold f_Lw_run at hf
  refine lv_aload_n F.1 F.2.1 d_Lw_run_0 rfl (lv_at hl 2 rfl) ?_
  refine lv_iconst (v := 0) F.1 F.2.1 d_Lw_run_1 (by decide) ?_
  refine lv_aload_n F.1 F.2.1 d_Lw_run_2 rfl (lv_at hl 0 rfl) ?_
  refine lv_iload_n F.1 F.2.1 d_Lw_run_3 rfl (lv_at hl 1 rfl) ?_
  rcases bnH_some hf with ⟨r3, σ1, hk2, hf⟩ | ⟨k4, σ1, v6, hk2, hm5, hf⟩
  rotate_left
  · cases hf
    by_cases z0 : k4 = 0
    · subst z0
      first | (rw [if_pos rfl] at hm5) | (simp at hm5; done) | skip
      have hm5 := Option.some.inj hm5
      rw [← hm5]
      exact g_hcat F hP hr hlk htab (g_xV (As := [.int a1]) (rest := [.int 0, .ref (xL X 44 0)]) F hP 0 0 (by decide) Nat.zero_lt_one (c_TM_run l X n hfl  hk2) rfl q_TM_run w_735 w_1 w_732 w_733 w_734 ⟨by decide, by decide⟩ hl.1 (Nat.le_of_ble_eq_true rfl) ⟨by decide, by decide⟩ d_Lw_run_4 rfl) (by decide) hl (i := 3) (h := 12) (q := 13) (by decide) (Or.inr ⟨_, d_Lw_run_12, rfl, rfl⟩) (by decide) d_Lw_run_13 (by decide) d_Lw_run_14
    rw [if_neg z0] at hm5
    cases hm5
  refine xr_ret hP (g_xV (As := [.int a1]) (rest := [.int 0, .ref (xL X 44 0)]) F hP 0 0 (by decide) Nat.zero_lt_one (c_TM_run l X n hfl  hk2) rfl q_TM_run w_735 w_1 w_732 w_733 w_734 ⟨by decide, by decide⟩ hl.1 (Nat.le_of_ble_eq_true rfl) ⟨by decide, by decide⟩ d_Lw_run_4 rfl) (fun H locs hP => ?_)
  refine W.eq (g2 := F0 m 7 ls [.int r3, .int 0, .ref (xL X 44 0)]) rfl ?_
  refine lv_i2l F.1 F.2.1 d_Lw_run_7 rfl ?_
  obtain ⟨hc7, hf⟩ := chk_some hf
  obtain ⟨σ8, e_σ8, hf⟩ := lt_some hf
  refine g_lst F hP 44 (by decide) (by decide) Nat.zero_lt_one rfl rfl hc7 d_Lw_run_8 e_σ8 (fun H locs hP => ?_)
  refine lv_goto F.1 F.2.1 d_Lw_run_9 rfl ?_
  refine lv_iconst (v := 0) F.1 F.2.1 d_Lw_run_15 (by decide) ?_
  cases hf
  exact g_hret F hP hr hlk d_Lw_run_16

theorem wc_Lw_result : Cond.codeWith y_Lw_result b_Lw_result 5 (some .int) [(0, 9, 12, 46)] ∈ TB := tb_in (t4_in (i := 86) rfl) rfl
theorem d_Lw_result_0 : decode b_Lw_result 0 = .ok (.aload_n 3, 1) := by decide +kernel
theorem d_Lw_result_1 : decode b_Lw_result 1 = .ok (.iconst 0, 1) := by decide +kernel
theorem d_Lw_result_2 : decode b_Lw_result 2 = .ok (.aload_n 0, 1) := by decide +kernel
theorem d_Lw_result_3 : decode b_Lw_result 3 = .ok (.iload_n 1, 1) := by decide +kernel
theorem d_Lw_result_4 : decode b_Lw_result 4 = .ok (.iload_n 2, 1) := by decide +kernel
theorem d_Lw_result_5 : decode b_Lw_result 5 = .ok (.invokevirtual 51, 3) := by decide +kernel
theorem d_Lw_result_8 : decode b_Lw_result 8 = .ok (.lastore, 1) := by decide +kernel
theorem d_Lw_result_9 : decode b_Lw_result 9 = .ok (.goto 7, 3) := by decide +kernel
theorem d_Lw_result_12 : decode b_Lw_result 12 = .ok (.astore 4, 2) := by decide +kernel
theorem d_Lw_result_14 : decode b_Lw_result 14 = .ok (.iconst 1, 1) := by decide +kernel
theorem d_Lw_result_15 : decode b_Lw_result 15 = .ok (.ireturn, 1) := by decide +kernel
theorem d_Lw_result_16 : decode b_Lw_result 16 = .ok (.iconst 0, 1) := by decide +kernel
theorem d_Lw_result_17 : decode b_Lw_result 17 = .ok (.ireturn, 1) := by decide +kernel
noncomputable def f_Lw_result (a1 : Int32) (a2 : Int32) (σ : Sg) : Option (Int32 × Sg) :=
  bnH (f_TM_result a1 a2 σ) (fun e => if e = 2 then some 1 else none) (fun (r3 : Int64) (σ1 : Sg) => chk (vp_in 0 1) (lt_ (sj σ1 44 0 ((0 : Int32).toNatClampNeg) r3) (fun σ8 => some (0, σ8))))
abbrev rm_Lw_result : Room := { frames := 8, cells := 1, slots := 6, locals := 142 }
set_option maxHeartbeats 4000000 in
set_option maxRecDepth 100000 in
theorem c_Lw_result (l : Launch) (X : GX) (n : Nat) {σ σ' : Sg} {r : Int32} {a1 : Int32} {a2 : Int32} (hfl : l.flags = flags0) (hf : f_Lw_result a1 a2 σ = some (r, σ')) : Met l y_Lw_result (ch y_Lw_result b_Lw_result 5 (some .int) [(0, 9, 12, 46)]) rm_Lw_result (PcG X n σ [.ref (xL X 0 0), .int a1, .int a2, .ref (xL X 44 0)]) (QcH X n σ' (some (.int r))) 1 6 (fr X n) := by
  refine g_headH (by decide) rfl (Nat.le_of_ble_eq_true rfl) ?_
  intro p e s m args below meth c ls F hr hlk htab hP hl
  have hl : lv_has ls 5 [(0, .ref (xL X 0 0)), (1, .int a1), (2, .int a2), (3, .ref (xL X 44 0))] := hl
  show WH l X n rm_Lw_result σ' (some (.int r)) p e s m args below meth c s.heap [] (F0 m 0 ls [])
  unfold f_Lw_result at hf
  refine lv_aload_n F.1 F.2.1 d_Lw_result_0 rfl (lv_at hl 3 rfl) ?_
  refine lv_iconst (v := 0) F.1 F.2.1 d_Lw_result_1 (by decide) ?_
  refine lv_aload_n F.1 F.2.1 d_Lw_result_2 rfl (lv_at hl 0 rfl) ?_
  refine lv_iload_n F.1 F.2.1 d_Lw_result_3 rfl (lv_at hl 1 rfl) ?_
  refine lv_iload_n F.1 F.2.1 d_Lw_result_4 rfl (lv_at hl 2 rfl) ?_
  rcases bnH_some hf with ⟨r3, σ1, hk2, hf⟩ | ⟨k4, σ1, v6, hk2, hm5, hf⟩
  rotate_left
  · cases hf
    by_cases z2 : k4 = 2
    · subst z2
      first | (rw [if_pos rfl] at hm5) | (simp at hm5; done) | skip
      have hm5 := Option.some.inj hm5
      rw [← hm5]
      exact g_hcat F hP hr hlk htab (g_xV (As := [.int a1, .int a2]) (rest := [.int 0, .ref (xL X 44 0)]) F hP 0 0 (by decide) Nat.zero_lt_one (c_TM_result l X n hfl  hk2) rfl q_TM_result w_810 w_1 w_807 w_808 w_809 ⟨by decide, by decide⟩ hl.1 (Nat.le_of_ble_eq_true rfl) ⟨by decide, by decide⟩ d_Lw_result_5 rfl) (by decide) hl (i := 4) (h := 12) (q := 14) (by decide) (Or.inl ⟨d_Lw_result_12, rfl⟩) (by decide) d_Lw_result_14 (by decide) d_Lw_result_15
    rw [if_neg z2] at hm5
    cases hm5
  refine xr_ret hP (g_xV (As := [.int a1, .int a2]) (rest := [.int 0, .ref (xL X 44 0)]) F hP 0 0 (by decide) Nat.zero_lt_one (c_TM_result l X n hfl  hk2) rfl q_TM_result w_810 w_1 w_807 w_808 w_809 ⟨by decide, by decide⟩ hl.1 (Nat.le_of_ble_eq_true rfl) ⟨by decide, by decide⟩ d_Lw_result_5 rfl) (fun H locs hP => ?_)
  refine W.eq (g2 := F0 m 8 ls [.long r3, .int 0, .ref (xL X 44 0)]) rfl ?_
  obtain ⟨hc7, hf⟩ := chk_some hf
  obtain ⟨σ8, e_σ8, hf⟩ := lt_some hf
  refine g_lst F hP 44 (by decide) (by decide) Nat.zero_lt_one rfl rfl hc7 d_Lw_result_8 e_σ8 (fun H locs hP => ?_)
  refine lv_goto F.1 F.2.1 d_Lw_result_9 rfl ?_
  refine lv_iconst (v := 0) F.1 F.2.1 d_Lw_result_16 (by decide) ?_
  cases hf
  exact g_hret F hP hr hlk d_Lw_result_17

theorem wc_Lw_wasNull : Cond.codeWith y_Lw_wasNull b_Lw_wasNull 5 (some .int) [(0, 17, 20, 46)] ∈ TB := tb_in (t4_in (i := 93) rfl) rfl
theorem d_Lw_wasNull_0 : decode b_Lw_wasNull 0 = .ok (.aload_n 3, 1) := by decide +kernel
theorem d_Lw_wasNull_1 : decode b_Lw_wasNull 1 = .ok (.iconst 0, 1) := by decide +kernel
theorem d_Lw_wasNull_2 : decode b_Lw_wasNull 2 = .ok (.aload_n 0, 1) := by decide +kernel
theorem d_Lw_wasNull_3 : decode b_Lw_wasNull 3 = .ok (.iload_n 1, 1) := by decide +kernel
theorem d_Lw_wasNull_4 : decode b_Lw_wasNull 4 = .ok (.iload_n 2, 1) := by decide +kernel
theorem d_Lw_wasNull_5 : decode b_Lw_wasNull 5 = .ok (.invokevirtual 55, 3) := by decide +kernel
theorem d_Lw_wasNull_8 : decode b_Lw_wasNull 8 = .ok (.ifCond .eq 7, 3) := by decide +kernel
theorem d_Lw_wasNull_11 : decode b_Lw_wasNull 11 = .ok (.lconst 1, 1) := by decide +kernel
theorem d_Lw_wasNull_12 : decode b_Lw_wasNull 12 = .ok (.goto 4, 3) := by decide +kernel
theorem d_Lw_wasNull_15 : decode b_Lw_wasNull 15 = .ok (.lconst 0, 1) := by decide +kernel
theorem d_Lw_wasNull_16 : decode b_Lw_wasNull 16 = .ok (.lastore, 1) := by decide +kernel
theorem d_Lw_wasNull_17 : decode b_Lw_wasNull 17 = .ok (.goto 7, 3) := by decide +kernel
theorem d_Lw_wasNull_20 : decode b_Lw_wasNull 20 = .ok (.astore 4, 2) := by decide +kernel
theorem d_Lw_wasNull_22 : decode b_Lw_wasNull 22 = .ok (.iconst 1, 1) := by decide +kernel
theorem d_Lw_wasNull_23 : decode b_Lw_wasNull 23 = .ok (.ireturn, 1) := by decide +kernel
theorem d_Lw_wasNull_24 : decode b_Lw_wasNull 24 = .ok (.iconst 0, 1) := by decide +kernel
theorem d_Lw_wasNull_25 : decode b_Lw_wasNull 25 = .ok (.ireturn, 1) := by decide +kernel
noncomputable def f_Lw_wasNull (a1 : Int32) (a2 : Int32) (σ : Sg) : Option (Int32 × Sg) :=
  bnH (f_TM_wasNull a1 a2 σ) (fun e => if e = 2 then some 1 else none) (fun (r3 : Int32) (σ1 : Sg) => lt_ ((if r3 = 0 then 0 else 1) : Int64) (fun (x7 : Int64) => chk (vp_in 0 1) (lt_ (sj σ1 44 0 ((0 : Int32).toNatClampNeg) x7) (fun σ12 => some (0, σ12)))))
abbrev rm_Lw_wasNull : Room := { frames := 8, cells := 1, slots := 6, locals := 142 }
set_option maxHeartbeats 4000000 in
set_option maxRecDepth 100000 in
theorem c_Lw_wasNull (l : Launch) (X : GX) (n : Nat) {σ σ' : Sg} {r : Int32} {a1 : Int32} {a2 : Int32} (hfl : l.flags = flags0) (hf : f_Lw_wasNull a1 a2 σ = some (r, σ')) : Met l y_Lw_wasNull (ch y_Lw_wasNull b_Lw_wasNull 5 (some .int) [(0, 17, 20, 46)]) rm_Lw_wasNull (PcG X n σ [.ref (xL X 0 0), .int a1, .int a2, .ref (xL X 44 0)]) (QcH X n σ' (some (.int r))) 1 6 (fr X n) := by
  refine g_headH (by decide) rfl (Nat.le_of_ble_eq_true rfl) ?_
  intro p e s m args below meth c ls F hr hlk htab hP hl
  have hl : lv_has ls 5 [(0, .ref (xL X 0 0)), (1, .int a1), (2, .int a2), (3, .ref (xL X 44 0))] := hl
  show WH l X n rm_Lw_wasNull σ' (some (.int r)) p e s m args below meth c s.heap [] (F0 m 0 ls [])
  unfold f_Lw_wasNull at hf
  refine lv_aload_n F.1 F.2.1 d_Lw_wasNull_0 rfl (lv_at hl 3 rfl) ?_
  refine lv_iconst (v := 0) F.1 F.2.1 d_Lw_wasNull_1 (by decide) ?_
  refine lv_aload_n F.1 F.2.1 d_Lw_wasNull_2 rfl (lv_at hl 0 rfl) ?_
  refine lv_iload_n F.1 F.2.1 d_Lw_wasNull_3 rfl (lv_at hl 1 rfl) ?_
  refine lv_iload_n F.1 F.2.1 d_Lw_wasNull_4 rfl (lv_at hl 2 rfl) ?_
  rcases bnH_some hf with ⟨r3, σ1, hk2, hf⟩ | ⟨k4, σ1, v6, hk2, hm5, hf⟩
  rotate_left
  · cases hf
    by_cases z2 : k4 = 2
    · subst z2
      first | (rw [if_pos rfl] at hm5) | (simp at hm5; done) | skip
      have hm5 := Option.some.inj hm5
      rw [← hm5]
      exact g_hcat F hP hr hlk htab (g_xV (As := [.int a1, .int a2]) (rest := [.int 0, .ref (xL X 44 0)]) F hP 0 0 (by decide) Nat.zero_lt_one (c_TM_wasNull l X n hfl  hk2) rfl q_TM_wasNull w_817 w_1 w_814 w_815 w_816 ⟨by decide, by decide⟩ hl.1 (Nat.le_of_ble_eq_true rfl) ⟨by decide, by decide⟩ d_Lw_wasNull_5 rfl) (by decide) hl (i := 4) (h := 20) (q := 22) (by decide) (Or.inl ⟨d_Lw_wasNull_20, rfl⟩) (by decide) d_Lw_wasNull_22 (by decide) d_Lw_wasNull_23
    rw [if_neg z2] at hm5
    cases hm5
  refine xr_ret hP (g_xV (As := [.int a1, .int a2]) (rest := [.int 0, .ref (xL X 44 0)]) F hP 0 0 (by decide) Nat.zero_lt_one (c_TM_wasNull l X n hfl  hk2) rfl q_TM_wasNull w_817 w_1 w_814 w_815 w_816 ⟨by decide, by decide⟩ hl.1 (Nat.le_of_ble_eq_true rfl) ⟨by decide, by decide⟩ d_Lw_wasNull_5 rfl) (fun H locs hP => ?_)
  refine W.eq (g2 := F0 m 8 ls [.int r3, .int 0, .ref (xL X 44 0)]) rfl ?_
  obtain ⟨x7, hj9, hf⟩ := lt_some2 hf
  have KJ8 : ∀ (ls : Array Slot) (H : Heap) (locs : List Loc), lv_has ls 5 [] → St X n σ1 s.heap H locs → WH l X n rm_Lw_wasNull σ' (some (.int r)) p e s m args below meth c H locs (F0 m 16 ls [.long x7, .int 0, .ref (xL X 44 0)]) := by
    intro ls H locs hl hP
    obtain ⟨hc11, hf⟩ := chk_some hf
    obtain ⟨σ12, e_σ12, hf⟩ := lt_some hf
    refine g_lst F hP 44 (by decide) (by decide) Nat.zero_lt_one rfl rfl hc11 d_Lw_wasNull_16 e_σ12 (fun H locs hP => ?_)
    refine lv_goto F.1 F.2.1 d_Lw_wasNull_17 rfl ?_
    refine lv_iconst (v := 0) F.1 F.2.1 d_Lw_wasNull_24 (by decide) ?_
    cases hf
    exact g_hret F hP hr hlk d_Lw_wasNull_25
  refine lv_if_eq F.1 F.2.1 d_Lw_wasNull_8 rfl (fun hb10 => ?_) (fun hb10 => ?_)
  · rw [if_pos hb10] at hj9
    refine lv_lconst (v := 0) F.1 F.2.1 d_Lw_wasNull_15 (by decide) ?_
    subst hj9
    exact KJ8 _ _ _ (lv_sub hl [] rfl) hP
  · rw [if_neg hb10] at hj9
    refine lv_lconst (v := 1) F.1 F.2.1 d_Lw_wasNull_11 (by decide) ?_
    refine lv_goto F.1 F.2.1 d_Lw_wasNull_12 rfl ?_
    subst hj9
    exact KJ8 _ _ _ (lv_sub hl [] rfl) hP

theorem wc_Lw_compile : Cond.codeWith y_Lw_compile b_Lw_compile 3 (some .int) [(0, 8, 11, 15)] ∈ TB := tb_in (t4_in (i := 100) rfl) rfl
theorem d_Lw_compile_0 : decode b_Lw_compile 0 = .ok (.aload_n 1, 1) := by decide +kernel
theorem d_Lw_compile_1 : decode b_Lw_compile 1 = .ok (.iconst 0, 1) := by decide +kernel
theorem d_Lw_compile_2 : decode b_Lw_compile 2 = .ok (.aload_n 0, 1) := by decide +kernel
theorem d_Lw_compile_3 : decode b_Lw_compile 3 = .ok (.invokevirtual 59, 3) := by decide +kernel
theorem d_Lw_compile_6 : decode b_Lw_compile 6 = .ok (.i2l, 1) := by decide +kernel
theorem d_Lw_compile_7 : decode b_Lw_compile 7 = .ok (.lastore, 1) := by decide +kernel
theorem d_Lw_compile_8 : decode b_Lw_compile 8 = .ok (.goto 6, 3) := by decide +kernel
theorem d_Lw_compile_11 : decode b_Lw_compile 11 = .ok (.astore_n 2, 1) := by decide +kernel
theorem d_Lw_compile_12 : decode b_Lw_compile 12 = .ok (.iconst 1, 1) := by decide +kernel
theorem d_Lw_compile_13 : decode b_Lw_compile 13 = .ok (.ireturn, 1) := by decide +kernel
theorem d_Lw_compile_14 : decode b_Lw_compile 14 = .ok (.iconst 0, 1) := by decide +kernel
theorem d_Lw_compile_15 : decode b_Lw_compile 15 = .ok (.ireturn, 1) := by decide +kernel
noncomputable def f_Lw_compile  (σ : Sg) : Option (Int32 × Sg) :=
  bnH (f_TM_compile σ) (fun e => if e = 1 then some 1 else none) (fun (r3 : Int32) (σ1 : Sg) => chk (vp_in 0 1) (lt_ (sj σ1 44 0 ((0 : Int32).toNatClampNeg) r3.toInt64) (fun σ8 => some (0, σ8))))
abbrev rm_Lw_compile : Room := { frames := 8, cells := 1, slots := 6, locals := 179 }
set_option maxHeartbeats 4000000 in
set_option maxRecDepth 100000 in
theorem c_Lw_compile (l : Launch) (X : GX) (n : Nat) {σ σ' : Sg} {r : Int32}  (hfl : l.flags = flags0) (hf : f_Lw_compile  σ = some (r, σ')) : Met l y_Lw_compile (ch y_Lw_compile b_Lw_compile 3 (some .int) [(0, 8, 11, 15)]) rm_Lw_compile (PcG X n σ [.ref (xL X 0 0), .ref (xL X 44 0)]) (QcH X n σ' (some (.int r))) 1 6 (fr X n) := by
  refine g_headH (by decide) rfl (Nat.le_of_ble_eq_true rfl) ?_
  intro p e s m args below meth c ls F hr hlk htab hP hl
  have hl : lv_has ls 3 [(0, .ref (xL X 0 0)), (1, .ref (xL X 44 0))] := hl
  show WH l X n rm_Lw_compile σ' (some (.int r)) p e s m args below meth c s.heap [] (F0 m 0 ls [])
  unfold f_Lw_compile at hf
  refine lv_aload_n F.1 F.2.1 d_Lw_compile_0 rfl (lv_at hl 1 rfl) ?_
  refine lv_iconst (v := 0) F.1 F.2.1 d_Lw_compile_1 (by decide) ?_
  refine lv_aload_n F.1 F.2.1 d_Lw_compile_2 rfl (lv_at hl 0 rfl) ?_
  rcases bnH_some hf with ⟨r3, σ1, hk2, hf⟩ | ⟨k4, σ1, v6, hk2, hm5, hf⟩
  rotate_left
  · cases hf
    by_cases z1 : k4 = 1
    · subst z1
      first | (rw [if_pos rfl] at hm5) | (simp at hm5; done) | skip
      have hm5 := Option.some.inj hm5
      rw [← hm5]
      exact g_hcat F hP hr hlk htab (g_xV (As := []) (rest := [.int 0, .ref (xL X 44 0)]) F hP 0 0 (by decide) Nat.zero_lt_one (c_TM_compile l X n hfl  hk2) rfl q_TM_compile w_824 w_1 w_821 w_822 w_823 ⟨by decide, by decide⟩ hl.1 (Nat.le_of_ble_eq_true rfl) ⟨by decide, by decide⟩ d_Lw_compile_3 rfl) (by decide) hl (i := 2) (h := 11) (q := 12) (by decide) (Or.inr ⟨_, d_Lw_compile_11, rfl, rfl⟩) (by decide) d_Lw_compile_12 (by decide) d_Lw_compile_13
    rw [if_neg z1] at hm5
    cases hm5
  refine xr_ret hP (g_xV (As := []) (rest := [.int 0, .ref (xL X 44 0)]) F hP 0 0 (by decide) Nat.zero_lt_one (c_TM_compile l X n hfl  hk2) rfl q_TM_compile w_824 w_1 w_821 w_822 w_823 ⟨by decide, by decide⟩ hl.1 (Nat.le_of_ble_eq_true rfl) ⟨by decide, by decide⟩ d_Lw_compile_3 rfl) (fun H locs hP => ?_)
  refine W.eq (g2 := F0 m 6 ls [.int r3, .int 0, .ref (xL X 44 0)]) rfl ?_
  refine lv_i2l F.1 F.2.1 d_Lw_compile_6 rfl ?_
  obtain ⟨hc7, hf⟩ := chk_some hf
  obtain ⟨σ8, e_σ8, hf⟩ := lt_some hf
  refine g_lst F hP 44 (by decide) (by decide) Nat.zero_lt_one rfl rfl hc7 d_Lw_compile_7 e_σ8 (fun H locs hP => ?_)
  refine lv_goto F.1 F.2.1 d_Lw_compile_8 rfl ?_
  refine lv_iconst (v := 0) F.1 F.2.1 d_Lw_compile_14 (by decide) ?_
  cases hf
  exact g_hret F hP hr hlk d_Lw_compile_15
