theorem d_TM_table_0 : decode b_TM_table 0 = .ok (.iload_n 1, 1) := by decide +kernel
theorem d_TM_table_1 : decode b_TM_table 1 = .ok (.iconst 1, 1) := by decide +kernel
theorem d_TM_table_2 : decode b_TM_table 2 = .ok (.if_icmp .lt 12, 3) := by decide +kernel
theorem d_TM_table_5 : decode b_TM_table 5 = .ok (.iload_n 1, 1) := by decide +kernel
theorem d_TM_table_6 : decode b_TM_table 6 = .ok (.iconst 4, 1) := by decide +kernel
theorem d_TM_table_7 : decode b_TM_table 7 = .ok (.if_icmp .gt 7, 3) := by decide +kernel
theorem d_TM_table_10 : decode b_TM_table 10 = .ok (.iconst 1, 1) := by decide +kernel
theorem d_TM_table_11 : decode b_TM_table 11 = .ok (.goto 4, 3) := by decide +kernel
theorem d_TM_table_14 : decode b_TM_table 14 = .ok (.iconst 0, 1) := by decide +kernel
theorem d_TM_table_15 : decode b_TM_table 15 = .ok (.invokestatic 99, 3) := by decide +kernel
theorem d_TM_table_18 : decode b_TM_table 18 = .ok (.aload_n 0, 1) := by decide +kernel
theorem d_TM_table_19 : decode b_TM_table 19 = .ok (.getfield 96, 3) := by decide +kernel
theorem d_TM_table_22 : decode b_TM_table 22 = .ok (.iconst 3, 1) := by decide +kernel
theorem d_TM_table_23 : decode b_TM_table 23 = .ok (.if_icmp .ge 7, 3) := by decide +kernel
theorem d_TM_table_26 : decode b_TM_table 26 = .ok (.iconst 1, 1) := by decide +kernel
theorem d_TM_table_27 : decode b_TM_table 27 = .ok (.goto 4, 3) := by decide +kernel
theorem d_TM_table_30 : decode b_TM_table 30 = .ok (.iconst 0, 1) := by decide +kernel
theorem d_TM_table_31 : decode b_TM_table 31 = .ok (.invokestatic 103, 3) := by decide +kernel
theorem d_TM_table_34 : decode b_TM_table 34 = .ok (.aload_n 0, 1) := by decide +kernel
theorem d_TM_table_35 : decode b_TM_table 35 = .ok (.getfield 18, 3) := by decide +kernel
theorem d_TM_table_38 : decode b_TM_table 38 = .ok (.aload_n 0, 1) := by decide +kernel
theorem d_TM_table_39 : decode b_TM_table 39 = .ok (.getfield 96, 3) := by decide +kernel
theorem d_TM_table_42 : decode b_TM_table 42 = .ok (.new 16, 3) := by decide +kernel
theorem d_TM_table_45 : decode b_TM_table 45 = .ok (.dup, 1) := by decide +kernel
theorem d_TM_table_46 : decode b_TM_table 46 = .ok (.aload_n 0, 1) := by decide +kernel
theorem d_TM_table_47 : decode b_TM_table 47 = .ok (.getfield 10, 3) := by decide +kernel
theorem d_TM_table_50 : decode b_TM_table 50 = .ok (.iload_n 1, 1) := by decide +kernel
theorem d_TM_table_51 : decode b_TM_table 51 = .ok (.invokespecial 106, 3) := by decide +kernel
theorem d_TM_table_54 : decode b_TM_table 54 = .ok (.aastore, 1) := by decide +kernel
theorem d_TM_table_55 : decode b_TM_table 55 = .ok (.aload_n 0, 1) := by decide +kernel
theorem d_TM_table_56 : decode b_TM_table 56 = .ok (.dup, 1) := by decide +kernel
theorem d_TM_table_57 : decode b_TM_table 57 = .ok (.getfield 96, 3) := by decide +kernel
theorem d_TM_table_60 : decode b_TM_table 60 = .ok (.iconst 1, 1) := by decide +kernel
theorem d_TM_table_61 : decode b_TM_table 61 = .ok (.iadd, 1) := by decide +kernel
theorem d_TM_table_62 : decode b_TM_table 62 = .ok (.putfield 96, 3) := by decide +kernel
theorem d_TM_table_65 : decode b_TM_table 65 = .ok (.aload_n 0, 1) := by decide +kernel
theorem d_TM_table_66 : decode b_TM_table 66 = .ok (.getfield 96, 3) := by decide +kernel
theorem d_TM_table_69 : decode b_TM_table 69 = .ok (.iconst 1, 1) := by decide +kernel
theorem d_TM_table_70 : decode b_TM_table 70 = .ok (.isub, 1) := by decide +kernel
theorem d_TM_table_71 : decode b_TM_table 71 = .ok (.ireturn, 1) := by decide +kernel
theorem MetY.ofW {l : Launch} {y : MethodName} {ws ws' : List Cond} {rm : Room} {Pc : Array Value → State → Prop} {Qc : Array Value → State → Outcome → State → Prop} {mc ms : Nat} {free : Addr → Prop} {cc : ByteArray} {maxL : Nat} {ret : Option FieldType}
    (hy : plainName y.cls = true) (hw : ws = Cond.code y cc maxL ret :: ws')
    (body : ∀ p e s m args below meth c s₁, BodyLoose p l y (headSpec ws rm) cc maxL ret e s m args below meth c s₁ → c.maxLocals = maxL → Pc args s →
      W p l e (headSpec ws rm).room s m args below meth c s.heap [] 0 0 (MQY below Qc args s mc ms free) (entryFrame m args maxL)) : MetY l y ws rm Pc Qc mc ms free := by
  refine MetFree.of_bodyS (code := cc) (maxLocals := maxL) (ret := ret) hy ?_ ?_
  · intro args s m h hn
    obtain ⟨meth, c, h1, h2, h3, h4, h5, h6, -, -⟩ := Cond.code_spec hn (atoms_spec (ws := ws) h _ (by rw [hw]; exact List.mem_cons_self))
    exact ⟨meth, c, h1, h2, h3, h4, h5, h6⟩
  · intro p e s m args below meth c s₁ B hml hP _
    have hh0 : s₁.heap = s.heap := by rw [B.state]; rfl
    obtain ⟨t, a1, o, b1, b2, b3⟩ := body p e s m args below meth c s₁ B hml hP s₁ hh0 (Stand.of_body B)
    exact ⟨t, o, a1, b1, b2, b3⟩
theorem zz_T {σ : Sg} {n k i : Nat} (h : isT n k i = true) : zz (zT σ n) (fun k i _ => decide (i < cnt n k)) k i := fun j => by
  refine ⟨by rw [gi_zT, h]; rfl, by rw [gj_zT, h]; rfl, by rw [gr_zT, h]; rfl, ?_⟩
  exact decide_eq_false (isT_cnt h)
abbrev rm_TM_table : Room := { frames := 7, cells := 5, slots := 728, locals := 300 }
set_option maxHeartbeats 4000000 in
set_option maxRecDepth 100000 in
theorem c_TM_table (l : Launch) (X : GX) (n : Nat) {σ σ' : Sg} {r : Int32 ⊕ Nat} {a : Int32} (hfl : l.flags = flags0) (hf : f_TM_table a σ = some (r, σ')) : MetY l y_TM_table (cw y_TM_table b_TM_table 2 (some .int)) rm_TM_table (PcG X n σ [.ref (xL X 0 0), .int a]) (QcTb X n σ' r) 5 728 (eA X) := by
  refine MetY.ofW (cc := b_TM_table) (maxL := 2) (ret := some .int) (by decide) rfl ?_
  intro p e s m args below meth c s₁ B hml hv
  obtain ⟨ha, hn, hC, hP0⟩ := hv
  obtain ⟨ls, hl, he⟩ := g_entry (m := m) (N := 2) ha (Nat.le_of_ble_eq_true rfl)
  have hts0 := atoms_spec (ws := cw y_TM_table b_TM_table 2 (some .int)) B.pre
  have hnh0 := B.noHandlers (hts0 _ List.mem_cons_self)
  have hnh : ∀ x ∈ c.exceptionTable.toList, ∀ pc, covers x pc = false := fun x hx pc => by
    have h0 : c.exceptionTable.toList = [] := by simpa using hnh0
    rw [h0] at hx; cases hx
  have hts := tb_of hts0
  have F : Fx X p s m c b_TM_table 2 args "TableMachine" := ⟨B.exec, B.bytes, hml, findClass_of_methodNamed B.named, hts, hC⟩
  have hr := B.returns
  have hlk := B.notSynchronized
  have hP : St X n σ s.heap s.heap [] := ⟨hn, hP0, Sx.rf⟩
  refine W.eq he ?_
  show W p l e rm_TM_table s m args below meth c s.heap [] 0 0 (MQY below (QcTb X n σ' r) args s 5 728 (eA X)) (F0 m 0 ls [])
  have hl : lv_has ls 2 [(0, .ref (xL X 0 0)), (1, .int a)] := hl
  unfold f_TM_table at hf
  have K1 : ∀ x : Int32, x = (if a < 1 then 0 else if 4 < a then 0 else 1) → W p l e rm_TM_table s m args below meth c s.heap [] 0 0 (MQY below (QcTb X n σ' r) args s 5 728 (eA X)) (F0 m 15 ls [.int x]) := by
    intro x hx
    rw [← hx] at hf
    rcases bnX_some hf with ⟨u, σ1, hk, hf⟩ | ⟨kk, σ1, hk, hf⟩
    rotate_left
    · cases hf
      exact W.mono mqx_mqy (xr_thr hP hlk hnh (g_xS (As := [.int x]) (rest := []) F hP (c_TM_check l X n hfl hk) ⟨by decide, by decide, q_TM_check⟩ w_298 w_1 w_296 w_297 ⟨Nat.le_of_ble_eq_true rfl, Nat.le_of_ble_eq_true rfl⟩ hl.1 (Nat.le_of_ble_eq_true rfl) ⟨Nat.le_of_ble_eq_true rfl, Nat.le_of_ble_eq_true rfl⟩ d_TM_table_15 rfl))
    refine xr_ret hP (g_xS (As := [.int x]) (rest := []) F hP (c_TM_check l X n hfl hk) ⟨by decide, by decide, q_TM_check⟩ w_298 w_1 w_296 w_297 ⟨Nat.le_of_ble_eq_true rfl, Nat.le_of_ble_eq_true rfl⟩ hl.1 (Nat.le_of_ble_eq_true rfl) ⟨Nat.le_of_ble_eq_true rfl, Nat.le_of_ble_eq_true rfl⟩ d_TM_table_15 rfl) (fun H locs hP => ?_)
    refine W.eq (g2 := F0 m 18 ls []) rfl ?_
    refine lv_aload_n F.1 F.2.1 d_TM_table_18 rfl (lv_at hl 0 rfl) ?_
    refine g_get F hP 0 2 0 (by decide) Nat.zero_lt_one (by decide) (v := .int (gi σ1 0 0 2)) rfl w_172 d_TM_table_19 ?_
    refine lv_iconst (v := 3) F.1 F.2.1 d_TM_table_22 (by decide) ?_
    have K2 : ∀ x : Int32, x = (if 3 ≤ gi σ1 0 0 2 then 0 else 1) → W p l e rm_TM_table s m args below meth c H locs 0 0 (MQY below (QcTb X n σ' r) args s 5 728 (eA X)) (F0 m 31 ls [.int x]) := by
      intro x hx
      rw [← hx] at hf
      rcases bnX_some hf with ⟨u, σ2, hk, hf⟩ | ⟨kk, σ2, hk, hf⟩
      rotate_left
      · cases hf
        exact W.mono mqx_mqy (xr_thr hP hlk hnh (g_xS (As := [.int x]) (rest := []) F hP (c_TM_demand l X n hfl hk) ⟨by decide, by decide, q_TM_demand⟩ w_365 w_1 w_363 w_364 ⟨Nat.le_of_ble_eq_true rfl, Nat.le_of_ble_eq_true rfl⟩ hl.1 (Nat.le_of_ble_eq_true rfl) ⟨Nat.le_of_ble_eq_true rfl, Nat.le_of_ble_eq_true rfl⟩ d_TM_table_31 rfl))
      refine xr_ret hP (g_xS (As := [.int x]) (rest := []) F hP (c_TM_demand l X n hfl hk) ⟨by decide, by decide, q_TM_demand⟩ w_365 w_1 w_363 w_364 ⟨Nat.le_of_ble_eq_true rfl, Nat.le_of_ble_eq_true rfl⟩ hl.1 (Nat.le_of_ble_eq_true rfl) ⟨Nat.le_of_ble_eq_true rfl, Nat.le_of_ble_eq_true rfl⟩ d_TM_table_31 rfl) (fun H locs hP => ?_)
      refine W.eq (g2 := F0 m 34 ls []) rfl ?_
      obtain ⟨⟨hcnt, hn3, hon⟩, hf⟩ := chk_some hf
      obtain ⟨rr, σ3, hfr, hf⟩ := bn2_some hf
      obtain ⟨σ5, hhd, hf⟩ := bnd_some hf
      cases hf
      obtain ⟨hnn, hPic, hsz, hold, hlocs⟩ := hP
      subst hnn
      have hxs : xb X ≤ s.heap.size := by
        obtain ⟨cell, q, -⟩ := hPic.1 0 0 (by decide) Nat.zero_lt_one
        have h1 := (Array.getElem?_eq_some_iff.mp q).1
        have h2 := hPic.2.2.2 0 0 (by decide) Nat.zero_lt_one
        omega
      have F' : Fx (tX X (nt σ2) s.heap.size) p s m c b_TM_table 2 args "TableMachine" := F
      have hSP : SP (tX X (nt σ2) s.heap.size) (zT σ2 (nt σ2)) (fun k i => decide (i < cnt (nt σ2) k)) (fun k i _ => decide (i < cnt (nt σ2) k)) s.heap.size s.heap H locs := by
        refine ⟨PP.ofPic ((hPic.zT).tX (onOk_zT hon) s.heap.size) (fun k i j _ hi => decide_eq_true hi), hsz, hxs, fun q hq => hold q (hPic.out hq), fun q hq => ?_⟩
        obtain ⟨k', i', hk', hi', e⟩ := hlocs q hq
        rw [← e]
        exact hPic.2.2.2 k' i' hk' hi'
      generalize hX' : tX X (nt σ2) s.heap.size = X' at F' hSP
      have x3 : xL X' 3 (nt σ2) = s.heap.size := by rw [← hX']; exact tX_3 _ _ _
      have x13 : xL X' 13 (nt σ2) = s.heap.size + 1 := by rw [← hX']; exact tX_13 _ _ _
      have x14 : xL X' 14 (nt σ2) = s.heap.size + 1 + 1 := by rw [← hX']; exact tX_14 _ _ _
      have x2 : xL X' 2 (240 + nt σ2) = s.heap.size + 1 + 2 := by rw [← hX']; exact tX_2 _ _ _
      have x10 : xL X' 10 (240 + nt σ2) = s.heap.size + 1 + 3 := by rw [← hX']; exact tX_10 _ _ _
      have x00 : xL X 0 0 = xL X' 0 0 := by rw [← hX', tX_old (n := nt σ2) (k := 0) (i := 0) Nat.zero_lt_one]
      have xbe : xb X = xb X' := by rw [← hX']; rfl
      rw [x00] at hl
      have T0 : ∀ k, k < 45 → k ≠ 3 → k ≠ 13 → k ≠ 14 → (decide (0 < cnt (nt σ2) k)) = true := by
        intro k hk h1 h2 h3
        refine decide_eq_true ?_
        unfold cnt
        split <;> omega
      refine lv_aload_n F.1 F.2.1 d_TM_table_34 rfl (lv_at hl 0 rfl) ?_
      have gv : ∀ (σ : Sg) (A : Nat → Nat → Nat → Bool) (j : Nat), A 0 0 j = true → fvP X' σ A 0 0 j = fv X' σ 0 0 j := fun σ A j h => by
        unfold fvP
        rw [if_neg (fun z => by rw [h] at z; cases z.2)]
      refine p_get F' hSP 0 1 0 (by decide) (T0 0 (by decide) (by decide) (by decide) (by decide)) (by decide) (v := .ref (xL X' 17 0)) (gv _ _ _ (T0 0 (by decide) (by decide) (by decide) (by decide))) w_171 d_TM_table_35 ?_
      refine lv_aload_n F.1 F.2.1 d_TM_table_38 rfl (lv_at hl 0 rfl) ?_
      refine p_get F' hSP 0 2 0 (by decide) (T0 0 (by decide) (by decide) (by decide) (by decide)) (by decide) (v := .int (nI (nt σ2))) ?_ w_172 d_TM_table_39 ?_
      · rw [gv _ _ _ (T0 0 (by decide) (by decide) (by decide) (by decide))]
        show Value.int (gi (zT σ2 (nt σ2)) 0 0 2) = _
        rw [gi_zT, show isT (nt σ2) 0 0 = false from rfl, ← hcnt]
        rfl
      refine p_new F' hSP 3 (nt σ2) (by decide) x3 (fun j hj => zz_fv (zz_T (isT_iff.mpr (Or.inl ⟨Or.inl rfl, rfl⟩))) (by decide) j hj) w_68 w_381 w_17 ⟨Nat.le_of_ble_eq_true rfl, Nat.le_of_ble_eq_true rfl⟩ d_TM_table_42 (fun H hP => ?_)
      refine lv_dup F.1 F.2.1 d_TM_table_45 rfl ?_
      refine lv_aload_n F.1 F.2.1 d_TM_table_46 rfl (lv_at hl 0 rfl) ?_
      refine p_get F' hP 0 0 0 (by decide) (uL_iff.mpr (Or.inl (T0 0 (by decide) (by decide) (by decide) (by decide)))) (by decide) (v := .ref (xL X' 1 0)) (gv _ _ _ (T0 0 (by decide) (by decide) (by decide) (by decide))) w_170 d_TM_table_47 ?_
      refine lv_iload_n F.1 F.2.1 d_TM_table_50 rfl (lv_at hl 1 rfl) ?_
      refine p_callI (As := [.ref (xL X' 1 0), .int a]) (rest := [.ref (xL X' 3 (nt σ2)), .int (nI (nt σ2)), .ref (xL X' 17 0)]) F' hP (c_Tr_init l X' (zT σ2 (nt σ2)) σ3 σ5 _ _ (s.heap.size + 1) (nt σ2) a rr rfl hn3 (fun k i hk hi => uL_iff.mpr (Or.inl (decide_eq_true hi))) (fun k i j hk hi => decide_eq_true hi) (uL_iff.mpr (Or.inr ⟨rfl, rfl⟩)) x13 x14 x2 x10 (zz_T (isT_iff.mpr (Or.inl ⟨Or.inr (Or.inl rfl), rfl⟩))) (zz_T (isT_iff.mpr (Or.inl ⟨Or.inr (Or.inr rfl), rfl⟩))) (zz_T (isT_iff.mpr (Or.inr ⟨Or.inl rfl, rfl⟩))) (zz_T (isT_iff.mpr (Or.inr ⟨Or.inr rfl, rfl⟩))) hfr hhd) (by omega) rfl ⟨by decide, by decide, q_Tr_init⟩ w_384 w_17 (Or.inl w_382) w_383 ⟨rfl, rfl⟩ ⟨Nat.le_of_ble_eq_true rfl, Nat.le_of_ble_eq_true rfl⟩ hl.1 (Nat.le_of_ble_eq_true rfl) ⟨Nat.le_of_ble_eq_true rfl, Nat.le_of_ble_eq_true rfl⟩ d_TM_table_51 rfl (fun H locs hP => ?_)
      obtain ⟨h240, uu, vv, e5⟩ := head_eq hhd
      have hnt5 : nt σ5 = nt σ2 := by rw [e5, nt_si, nt_si, nt_si, nt_si, fresh_eq hfr, nt_si, nt_si, nt_zT]
      have AL : ∀ {k i : Nat}, k < 45 → i < cnt (nt σ2) k → uL (uL (uL (uL (uL (fun k i => decide (i < cnt (nt σ2) k)) 3 (nt σ2)) 13 (nt σ2)) 14 (nt σ2)) 2 (240 + nt σ2)) 10 (240 + nt σ2) k i = true := fun hk hi => uL_iff.mpr (Or.inl (uL_iff.mpr (Or.inl (uL_iff.mpr (Or.inl (uL_iff.mpr (Or.inl (uL_iff.mpr (Or.inl (decide_eq_true hi))))))))))
      have hcl : (nI (nt σ2)).toNatClampNeg = nt σ2 := nI_clamp (by omega)
      refine p_aast F' hP 17 0 3 (nt σ2) (by decide) (by decide) (AL (by decide) Nat.zero_lt_one) (by decide) (uL_iff.mpr (Or.inl (uL_iff.mpr (Or.inl (uL_iff.mpr (Or.inl (uL_iff.mpr (Or.inl (uL_iff.mpr (Or.inr ⟨rfl, rfl⟩)))))))))) rfl (vp_in_nI hn3 (by decide)) (σ' := nT σ5) (A' := uA (uA (uA (uA (uA (fun k i _ => decide (i < cnt (nt σ2) k)) 3 (nt σ2) 4) 3 (nt σ2) 5) 2 (240 + nt σ2) 0) 3 (nt σ2) 11) 3 (nt σ2) 0) ?_ (fun k' i' q' h10 h45 hal hne => ?_) (fun k' i' j' hk' => ?_) d_TM_table_54 (fun H locs hP => ?_)
      · unfold avP
        rw [if_neg (fun z => by cases z.1), hcl]
        show (if nt σ2 < nt (nT σ5) then Value.ref (xL X' 3 (nt σ2)) else .null) = _
        rw [if_pos (by rw [nt_nT, hnt5]; omega)]
      · by_cases h3 : aty k' = 3
        · have h17 := ta_3 k' h45 h3
          subst h17
          have hi0 : i' = 0 := by
            rw [uL_iff, uL_iff, uL_iff, uL_iff, uL_iff] at hal
            rcases hal with ((((hal | hal) | hal) | hal) | hal) | hal
            · have : i' < 1 := of_decide_eq_true hal
              omega
            · omega
            · omega
            · omega
            · omega
            · omega
          subst hi0
          have hq' : q' ≠ nt σ2 := fun z => hne ⟨rfl, rfl, by rw [hcl]; exact z⟩
          unfold avP
          rw [if_neg (fun z => by cases z.1), if_neg (fun z => by cases z.1)]
          show (if q' < nt (nT σ5) then Value.ref (xL X' 3 q') else .null) = (if q' < nt σ5 then Value.ref (xL X' 3 q') else .null)
          rw [nt_nT, hnt5]
          by_cases hlt : q' < nt σ2
          · rw [if_pos (by omega), if_pos hlt]
          · rw [if_neg (by omega), if_neg hlt]
        · unfold avP av
          rw [gi_nT, gj_nT]
          split
          · rfl
          · split
            · rfl
            · rfl
            · rfl
            · rename_i z; exact absurd z h3
            · rfl
      · unfold fvP fv
        rw [gi_nT, gj_nT, gr_nT]
      have s0 : ∀ j, uA (uA (uA (uA (uA (fun k i _ => decide (i < cnt (nt σ2) k)) 3 (nt σ2) 4) 3 (nt σ2) 5) 2 (240 + nt σ2) 0) 3 (nt σ2) 11) 3 (nt σ2) 0 0 0 j = true := fun j => uA_iff.mpr (Or.inl (uA_iff.mpr (Or.inl (uA_iff.mpr (Or.inl (uA_iff.mpr (Or.inl (uA_iff.mpr (Or.inl (decide_eq_true Nat.zero_lt_one))))))))))
      refine lv_aload_n F.1 F.2.1 d_TM_table_55 rfl (lv_at hl 0 rfl) ?_
      refine lv_dup F.1 F.2.1 d_TM_table_56 rfl ?_
      have ecnt : gi (nT σ5) 0 0 2 = nI (nt σ2) := by
        rw [gi_nT, e5, gi_si, if_neg (by omega), gi_si, if_neg (by omega), gi_si, if_neg (by omega), gi_si, if_neg (by omega), fresh_eq hfr, gi_si, if_neg (by omega), gi_si, if_neg (by omega), gi_zT, show isT (nt σ2) 0 0 = false from rfl]
        exact hcnt
      refine p_get F' hP 0 2 0 (by decide) (AL (by decide) Nat.zero_lt_one) (by decide) (v := .int (nI (nt σ2))) ?_ w_172 d_TM_table_57 ?_
      · rw [gv _ _ _ (s0 2)]
        show Value.int (gi (nT σ5) 0 0 2) = _
        rw [ecnt]
      refine lv_iconst (v := 1) F.1 F.2.1 d_TM_table_60 (by decide) ?_
      refine lv_iadd F.1 F.2.1 d_TM_table_61 ?_
      rw [nI_1]
      refine p_putw 0 F' hP 2 0 (by decide) (AL (by decide) Nat.zero_lt_one) (by decide) (Or.inr rfl) rfl rfl w_172 d_TM_table_62 (fun H locs hP => ?_)
      refine lv_aload_n F.1 F.2.1 d_TM_table_65 rfl (lv_at hl 0 rfl) ?_
      refine p_get F' hP 0 2 0 (by decide) (AL (by decide) Nat.zero_lt_one) (by decide) (v := .int (nI (nt σ2 + 1))) ?_ w_172 d_TM_table_66 ?_
      · rw [gv _ _ _ (s0 2)]
        show Value.int (gi (si (nT σ5) 0 0 2 (nI (nt σ2 + 1))) 0 0 2) = _
        rw [gi_si, if_pos ⟨rfl, rfl, rfl⟩]
      refine lv_iconst (v := 1) F.1 F.2.1 d_TM_table_69 (by decide) ?_
      refine lv_isub F.1 F.2.1 d_TM_table_70 ?_
      rw [nI_pred]
      have hfin : Pic X' (si (nT σ5) 0 0 2 (nI (nt σ2 + 1))) H := by
        have hnt6 : nt (si (nT σ5) 0 0 2 (nI (nt σ2 + 1))) = nt σ2 + 1 := by rw [nt_si, nt_nT, hnt5]
        refine hP.1.pic (fun k i hk hi => ?_) (fun k i j hk hi hj hf2 => ?_) (fun k i q hk0 hk hi hq ha2 => ?_)
        · rw [hnt6] at hi
          rcases cnt_succ hi with h | h
          · exact AL hk h
          · rw [uL_iff, uL_iff, uL_iff, uL_iff, uL_iff]
            rcases isT_iff.mp h with ⟨rfl | rfl | rfl, rfl⟩ | ⟨rfl | rfl, rfl⟩ <;> simp
        · rw [hnt6] at hi
          rw [uA_iff, uA_iff, uA_iff, uA_iff, uA_iff]
          rcases cnt_succ hi with h | h
          · exact Or.inl (Or.inl (Or.inl (Or.inl (Or.inl (decide_eq_true h)))))
          · rcases isT_iff.mp h with ⟨rfl | rfl | rfl, rfl⟩ | ⟨rfl | rfl, rfl⟩
            · rcases tk3 j hj hf2 with rfl | rfl | rfl | rfl <;> simp
            · omega
            · omega
            · rw [tk2 j hj hf2]; simp
            · omega
        · rw [hnt6] at hi
          rw [uA_iff, uA_iff, uA_iff, uA_iff, uA_iff]
          rcases cnt_succ hi with h | h
          · exact Or.inl (Or.inl (Or.inl (Or.inl (Or.inl (decide_eq_true h)))))
          · rcases isT_iff.mp h with ⟨rfl | rfl | rfl, rfl⟩ | ⟨rfl | rfl, rfl⟩
            · omega
            · cases ha2
            · cases ha2
            · omega
            · cases ha2
      refine W.mono ?_ (W.iret (Qc := QcTb X (nt σ2) (si (nT σ5) 0 0 2 (nI (nt σ2 + 1))) (.inl (nI (nt σ2)))) (free := eA X) F.1 F.2.1 hr (fun t ht _ => ⟨rfl, by rw [nt_si, nt_nT, hnt5], by rw [ht, hX']; exact hfin, by rw [ht, hP.2.1]; omega, fun q hq => by rw [ht]; exact hP.2.2.2.1 q (by rw [← xbe]; exact hq)⟩) (fun q hq => by show xb X ≤ _; rw [xbe]; exact hP.2.2.2.2 q hq) d_TM_table_71 hlk)
      intro t ⟨o, z1, z2, z3, L, z4, z5⟩
      exact ⟨o, z1, z2, z3, L, Or.inl z4, z5⟩
    refine lv_icmp_ge F.1 F.2.1 d_TM_table_23 rfl (fun h => ?_) (fun h => ?_)
    · refine lv_iconst (v := 0) F.1 F.2.1 d_TM_table_30 (by decide) ?_
      exact K2 0 (by rw [if_pos h])
    · refine lv_iconst (v := 1) F.1 F.2.1 d_TM_table_26 (by decide) ?_
      refine lv_goto F.1 F.2.1 d_TM_table_27 rfl ?_
      exact K2 1 (by rw [if_neg h])
  refine lv_iload_n F.1 F.2.1 d_TM_table_0 rfl (lv_at hl 1 rfl) ?_
  refine lv_iconst (v := 1) F.1 F.2.1 d_TM_table_1 (by decide) ?_
  refine lv_icmp_lt F.1 F.2.1 d_TM_table_2 rfl (fun h => ?_) (fun h => ?_)
  · refine lv_iconst (v := 0) F.1 F.2.1 d_TM_table_14 (by decide) ?_
    exact K1 0 (by rw [if_pos h])
  refine lv_iload_n F.1 F.2.1 d_TM_table_5 rfl (lv_at hl 1 rfl) ?_
  refine lv_iconst (v := 4) F.1 F.2.1 d_TM_table_6 (by decide) ?_
  refine lv_icmp_gt F.1 F.2.1 d_TM_table_7 rfl (fun h2 => ?_) (fun h2 => ?_)
  · refine lv_iconst (v := 0) F.1 F.2.1 d_TM_table_14 (by decide) ?_
    exact K1 0 (by rw [if_neg h, if_pos h2])
  refine lv_iconst (v := 1) F.1 F.2.1 d_TM_table_10 (by decide) ?_
  refine lv_goto F.1 F.2.1 d_TM_table_11 rfl ?_
  exact K1 1 (by rw [if_neg h, if_neg h2])
