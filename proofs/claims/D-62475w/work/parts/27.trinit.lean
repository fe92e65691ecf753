theorem d_Tr_init_0 : decode b_Tr_init 0 = .ok (.aload_n 0, 1) := by decide +kernel
theorem d_Tr_init_1 : decode b_Tr_init 1 = .ok (.invokespecial 3, 3) := by decide +kernel
theorem d_Tr_init_4 : decode b_Tr_init 4 = .ok (.aload_n 0, 1) := by decide +kernel
theorem d_Tr_init_5 : decode b_Tr_init 5 = .ok (.bipush 100, 2) := by decide +kernel
theorem d_Tr_init_7 : decode b_Tr_init 7 = .ok (.newarray .int, 2) := by decide +kernel
theorem d_Tr_init_9 : decode b_Tr_init 9 = .ok (.putfield 9, 3) := by decide +kernel
theorem d_Tr_init_12 : decode b_Tr_init 12 = .ok (.aload_n 0, 1) := by decide +kernel
theorem d_Tr_init_13 : decode b_Tr_init 13 = .ok (.bipush 100, 2) := by decide +kernel
theorem d_Tr_init_15 : decode b_Tr_init 15 = .ok (.newarray .int, 2) := by decide +kernel
theorem d_Tr_init_17 : decode b_Tr_init 17 = .ok (.putfield 15, 3) := by decide +kernel
theorem d_Tr_init_20 : decode b_Tr_init 20 = .ok (.aload_n 0, 1) := by decide +kernel
theorem d_Tr_init_21 : decode b_Tr_init 21 = .ok (.new 18, 3) := by decide +kernel
theorem d_Tr_init_24 : decode b_Tr_init 24 = .ok (.dup, 1) := by decide +kernel
theorem d_Tr_init_25 : decode b_Tr_init 25 = .ok (.sipush 512, 3) := by decide +kernel
theorem d_Tr_init_28 : decode b_Tr_init 28 = .ok (.invokespecial 20, 3) := by decide +kernel
theorem d_Tr_init_31 : decode b_Tr_init 31 = .ok (.putfield 23, 3) := by decide +kernel
theorem d_Tr_init_34 : decode b_Tr_init 34 = .ok (.aload_n 0, 1) := by decide +kernel
theorem d_Tr_init_35 : decode b_Tr_init 35 = .ok (.aload_n 1, 1) := by decide +kernel
theorem d_Tr_init_36 : decode b_Tr_init 36 = .ok (.putfield 27, 3) := by decide +kernel
theorem d_Tr_init_39 : decode b_Tr_init 39 = .ok (.aload_n 0, 1) := by decide +kernel
theorem d_Tr_init_40 : decode b_Tr_init 40 = .ok (.iload_n 2, 1) := by decide +kernel
theorem d_Tr_init_41 : decode b_Tr_init 41 = .ok (.putfield 31, 3) := by decide +kernel
theorem d_Tr_init_44 : decode b_Tr_init 44 = .ok (.aload_n 0, 1) := by decide +kernel
theorem d_Tr_init_45 : decode b_Tr_init 45 = .ok (.aload_n 1, 1) := by decide +kernel
theorem d_Tr_init_46 : decode b_Tr_init 46 = .ok (.invokevirtual 35, 3) := by decide +kernel
theorem d_Tr_init_49 : decode b_Tr_init 49 = .ok (.putfield 41, 3) := by decide +kernel
theorem d_Tr_init_52 : decode b_Tr_init 52 = .ok (.aload_n 1, 1) := by decide +kernel
theorem d_Tr_init_53 : decode b_Tr_init 53 = .ok (.aload_n 0, 1) := by decide +kernel
theorem d_Tr_init_54 : decode b_Tr_init 54 = .ok (.getfield 41, 3) := by decide +kernel
theorem d_Tr_init_57 : decode b_Tr_init 57 = .ok (.iconst 1, 1) := by decide +kernel
theorem d_Tr_init_58 : decode b_Tr_init 58 = .ok (.iconst 0, 1) := by decide +kernel
theorem d_Tr_init_59 : decode b_Tr_init 59 = .ok (.invokevirtual 44, 3) := by decide +kernel
theorem d_Tr_init_62 : decode b_Tr_init 62 = .ok (.return_, 1) := by decide +kernel
/-! a new tree -/
theorem fresh_eq {σ σ' : Sg} {r : Int32} (h : f_Pg_fresh σ = some (r, σ')) : σ' = si σ 1 0 2 (gi σ 1 0 2 - 1) := by
  unfold f_Pg_fresh at h
  obtain ⟨x, hx, h⟩ := lt_some h
  obtain ⟨hc, h⟩ := chk_some h
  cases h
  exact hx
theorem head_eq {σ σ' : Sg} {a b c : Int32} (h : f_Pg_head a b c σ = some σ') : a.toNatClampNeg < 240 ∧ ∃ u v : Int32, σ' = si (si (si σ 10 a.toNatClampNeg 0 u) 10 a.toNatClampNeg 1 v) 2 a.toNatClampNeg 1 2 := by
  unfold f_Pg_head at h
  obtain ⟨h0, h⟩ := chk_some h
  obtain ⟨x, hx, h⟩ := lt_some h
  obtain ⟨h1, h⟩ := chk_some h
  obtain ⟨y, hy, h⟩ := lt_some h
  obtain ⟨h2, h⟩ := chk_some h
  obtain ⟨h3, h⟩ := chk_some h
  obtain ⟨z, hz, h⟩ := lt_some h
  obtain ⟨h4, h⟩ := chk_some h
  obtain ⟨w, hw, h⟩ := lt_some h
  cases h
  refine ⟨vin_lt h0, vp_nar .byte x.toInt8.toInt32, vp_nar .byte c.toInt8.toInt32, ?_⟩
  rw [hw, hz, hy]
  rfl
/-- outside of the picture nothing changes -/
def oS (n : Nat) (σ σ' : Sg) : Prop := nt σ' = nt σ ∧ ∀ a b c, ¬ b < cnt n a → gi σ' a b c = gi σ a b c ∧ gj σ' a b c = gj σ a b c ∧ gr σ' a b c = gr σ a b c
theorem oS_si {n : Nat} {σ : Sg} {k i j : Nat} {x : Int32} (h : i < cnt n k) : oS n σ (si σ k i j x) := ⟨rfl, fun a b c hb => ⟨by rw [gi_si, if_neg (fun z => hb (by rw [z.1, z.2.1]; exact h))], rfl, rfl⟩⟩
theorem oS.trans {n : Nat} {σ σ1 σ2 : Sg} (h1 : oS n σ σ1) (h2 : oS n σ1 σ2) : oS n σ σ2 := ⟨h2.1.trans h1.1, fun a b c hb => ⟨(h2.2 a b c hb).1.trans (h1.2 a b c hb).1, (h2.2 a b c hb).2.1.trans (h1.2 a b c hb).2.1, (h2.2 a b c hb).2.2.trans (h1.2 a b c hb).2.2⟩⟩
section PCG
variable {X : GX} {p : Program} {l : Launch} {e : Env} {R : Room} {s : State} {m : MethodId} {args : Array Value} {below : List Frame} {meth : Method} {c : Code} {H : Heap} {locs : List Loc} {cells slots : Nat} {Q : State → Prop}
variable {cc : ByteArray} {pc nL N n : Nat} {ls : Array Slot} {rest : List Value} {own : String} {σ σ' : Sg} {Al : Nat → Nat → Bool} {A : Nat → Nat → Nat → Bool}
variable {y : MethodName} {bytes : ByteArray} {maxL index : Nat} {ret : Option FieldType} {rm : Room} {As : List Value} {r : Option Value}
/-- a method of a made object is called while another object is being made -/
theorem p_callG (F : Fx X p s m c cc nL args own) (hP : SP X σ Al A N s.heap H locs) (hn : nt σ = n) (hAl : ∀ k i, k < 45 → i < cnt n k → Al k i = true) (hA : ∀ k i j, k < 45 → i < cnt n k → A k i j = true) (hσ : oS n σ σ') (k i : Nat) (hk : k < 10) (hi : i < cnt n k) (hM : Met l y (cw y bytes maxL ret) rm (PcG X n σ (.ref (xL X k i) :: As)) (QcG X n σ' r) 0 0 (fr X n)) (hcls : y.cls = cN k)
    (hd : (parseMethodDescriptor y.desc).map (fun d => d.parameters.length) = some As.length) (hcode : Cond.code y bytes maxL ret ∈ TB) (hini : Cond.initialized (cN k) ∈ TB) (hlink : Cond.methodLink own index y ∈ TB) (hin : Cond.instanceMethod y ∈ TB) (hsel : Cond.selects (cN k) y y ∈ TB) (hrm : rm.cells = 0 ∧ rm.slots = 0) (hR : rm.frames + 1 ≤ R.frames ∧ 8 + (maxL + 11) + rm.locals ≤ R.locals)
    (hsize : ls.size = nL) (hW : (rest.map fun v => v.category).sum ≤ 8) (hc : cells ≤ R.cells ∧ slots ≤ R.slots) (hdg : decode cc pc = .ok (.invokevirtual index, 3)) {stk : List Value} (hstk : stk = As.reverse ++ .ref (xL X k i) :: rest)
    (kk : ∀ (H1 : Heap) (locs1 : List Loc), SP X σ' Al A N s.heap H1 locs1 → W p l e R s m args below meth c H1 locs1 cells slots Q (F0 m (pc + 3) ls (r.toList ++ rest))) : W p l e R s m args below meth c H locs cells slots Q (F0 m pc ls stk) := by
  have hP' := hP
  obtain ⟨hx, hb, hml, hown, hts, hC⟩ := F
  obtain ⟨hPP, hN, hxb, hold, hlocs⟩ := hP
  have hpic : Pic X σ H := hPP.pic (fun k i hk hi => hAl k i hk (by rw [← hn]; exact hi)) (fun k i j hk hi _ _ => hA k i j (by omega) (by rw [← hn]; exact hi)) (fun k i q _ hk hi _ _ => hA k i q hk (by rw [← hn]; exact hi))
  have hne : ∀ k, k < 10 → cN k ≠ "java/lang/invoke/MethodHandle" ∧ cN k ≠ "java/lang/invoke/VarHandle" := by decide +kernel
  have hrecv : ∃ cell : Cell, H[xL X k i]? = some cell ∧ cell.vm.isStatics = false ∧ s.vm.findClass (cN k) = some cell.cls := by
    obtain ⟨cell, q1, q2, q3, -⟩ := hpic.1 k i hk (by rw [hn]; exact hi)
    exact ⟨cell, q1, by rw [q3]; rfl, by rw [q2]; exact (hC.1 k hk).2.1⟩
  have hrun := va_runV (l := l) (e := e) (R := R) (below := below) (meth := meth) (locs := locs) (cells := cells) (slots := slots) (C := cN k) (b := xL X k i) (As := As) (rest := rest) (n := As.length) (Ts := TB) (own := own) (H := H) (g := F0 m pc ls stk) ⟨hx, hb, hml, hown, hts⟩ hM ⟨callB_of As.length hts (fun w hw => by
    rcases List.mem_cons.mp hw with rfl | hw
    · exact ⟨hcode, tb_good hcode⟩
    · exact ⟨hw, tb_good hw⟩) rfl hrm.1 hrm.2 (by rw [hcls]; exact hts _ hini) (hts _ hlink) ⟨by rw [hcls]; exact (hne k hk).1, by rw [hcls]; exact (hne k hk).2, hd⟩ hR, hts _ hin, hts _ hsel⟩ ⟨PcG.blind, hrecv, fun U hU hW => ⟨rfl, hn, hP'.ctx hC hW hU, by rw [hU]; exact hpic⟩⟩ rfl rfl hsize hstk (lv_room hW) hdg ⟨by simpa using hc.1, by simpa using hc.2⟩
  intro T hT X1
  obtain ⟨v, st₀, t, T', L, h0, X', hL, e1, e2, ⟨hv, hn', hPic', hz, hkp⟩, st⟩ := hrun T hT X1
  cases hv
  rw [h0] at hz hkp
  have hfr : ∀ q, fr X n q → xb X ≤ q := by
    rintro q ⟨k', i', hk', hi', rfl⟩
    exact hPP.2.2.2 k' i' hk' (hAl k' i' hk' hi')
  have hout : ∀ k' i', k' < 45 → Al k' i' = true → ¬ i' < cnt n k' → t.heap[xL X k' i']? = H[xL X k' i']? := by
    intro k' i' hk' hl' hc'
    refine hkp _ ?_
    rintro ⟨k2, i2, hk2, hi2, e2⟩
    obtain ⟨rfl, rfl⟩ := hPP.2.2.1 k2 i2 k' i' hk2 (hAl k2 i2 hk2 hi2) hk' hl' e2
    exact hc' hi2
  have hPP' : PP X σ' Al A t.heap := by
    refine ⟨fun k' i' hk' hl' => ?_, fun k' i' hk0 hk' hl' => ?_, hPP.2.2.1, hPP.2.2.2⟩
    · by_cases hc' : i' < cnt n k'
      · refine (hPic'.1 k' i' hk' (by rw [hn']; exact hc')).to (fun j _ => ?_)
        unfold fvP
        rw [if_neg (fun z => by rw [hA k' i' j (by omega) hc'] at z; cases z.2)]
      · refine ((hPP.1 k' i' hk' hl').kept (hout k' i' (by omega) hl' hc')).to (fun j _ => ?_)
        obtain ⟨g1, g2, g3⟩ := hσ.2 k' i' j hc'
        unfold fvP fv
        rw [g1, g2, g3]
    · by_cases hc' : i' < cnt n k'
      · rw [hPic'.2.1 k' i' hk0 hk' (by rw [hn']; exact hc')]
        congr 2
        funext q
        unfold avP
        rw [if_neg (fun z => by rw [hA k' i' q (by omega) hc'] at z; cases z.2)]
      · rw [hout k' i' hk' hl' hc', hPP.2.1 k' i' hk0 hk' hl']
        congr 2
        funext q
        obtain ⟨g1, g2, g3⟩ := hσ.2 k' i' q hc'
        unfold avP av
        rw [g1, g2, hσ.1]
  obtain ⟨t2, a1, b1⟩ := kk t.heap (locs ++ L) ⟨hPP', hz.trans hN, hxb, fun q hq => (hkp q (fun z => by have := hfr q z; omega)).trans (hold q hq), fun q hq => by
    rcases List.mem_append.mp hq with h | h
    · exact hlocs q h
    · exact hfr _ (hL q h)⟩ T' e1 X'
  exact ⟨t2, st t2 a1, b1⟩
end PCG
set_option maxHeartbeats 4000000 in
set_option maxRecDepth 100000 in
theorem c_Tr_init (l : Launch) (X : GX) (σ σ3 σ5 : Sg) (Al : Nat → Nat → Bool) (A : Nat → Nat → Nat → Bool) (N n : Nat) (a r : Int32) (hn : nt σ = n) (hn3 : n < 3) (hAl : ∀ k i, k < 45 → i < cnt n k → Al k i = true) (hA : ∀ k i j, k < 45 → i < cnt n k → A k i j = true) (hal : Al 3 n = true) (hx1 : xL X 13 n = N) (hx2 : xL X 14 n = N + 1) (hx3 : xL X 2 (240 + n) = N + 2) (hx4 : xL X 10 (240 + n) = N + 3)
    (hz1 : zz σ A 13 n) (hz2 : zz σ A 14 n) (hz3 : zz σ A 2 (240 + n)) (hz4 : zz σ A 10 (240 + n)) (hf : f_Pg_fresh (si σ 3 n 2 a) = some (r, σ3)) (hh : f_Pg_head r 1 0 (si σ3 3 n 1 r) = some σ5) :
    Met l y_Tr_init (cw y_Tr_init b_Tr_init 3 none) { frames := 2, cells := 4, slots := 714, locals := 200 } (PcP X σ Al A N [.ref (xL X 3 n), .ref (xL X 1 0), .int a]) (QcP X σ5 (uL (uL (uL (uL Al 13 n) 14 n) 2 (240 + n)) 10 (240 + n)) (uA (uA (uA (uA (uA A 3 n 4) 3 n 5) 2 (240 + n) 0) 3 n 11) 3 n 0) (N + 4) none) 4 714 (eA X) := by
  refine p_head (own := "TableMachine$Tree") (by decide) rfl (Nat.le_of_ble_eq_true rfl) ?_
  intro p e s m args below meth c ls F hr hlk hnm hP hl
  have hl : lv_has ls 3 [(0, .ref (xL X 3 n)), (1, .ref (xL X 1 0)), (2, .int a)] := hl
  refine lv_aload_n F.1 F.2.1 d_Tr_init_0 rfl (lv_at hl 0 rfl) ?_
  refine p_obj F w_385 hl.1 d_Tr_init_1 ⟨Nat.le_of_ble_eq_true rfl, Nat.le_of_ble_eq_true rfl⟩ (Nat.le_of_ble_eq_true rfl) ?_
  refine lv_aload_n F.1 F.2.1 d_Tr_init_4 rfl (lv_at hl 0 rfl) ?_
  refine lv_bipush (v := 100) F.1 F.2.1 d_Tr_init_5 (by decide) ?_
  refine p_newa F hP 13 n (by decide) (by decide) hx1 rfl rfl (fun j _ => zz_av hz1 (by decide) (by decide) (Or.inl rfl) j) wac_int ⟨(by decide : Int32.toNatClampNeg 100 = 100), by decide⟩ (by exact (by decide : 100 ≤ 1000)) ⟨Nat.le_of_ble_eq_true rfl, Nat.le_of_ble_eq_true rfl⟩ d_Tr_init_7 (fun H hP => ?_)
  refine p_putr 3 F hP 4 n (by decide) (uL_iff.mpr (Or.inl hal)) (by decide) hnm rfl rfl w_402 d_Tr_init_9 rfl (fun H locs hP => ?_)
  refine lv_aload_n F.1 F.2.1 d_Tr_init_12 rfl (lv_at hl 0 rfl) ?_
  refine lv_bipush (v := 100) F.1 F.2.1 d_Tr_init_13 (by decide) ?_
  have hzA : ∀ k i k' i' j', zz σ A k i → ¬ (k = k' ∧ i = i') → zz σ (uA A k' i' j') k i := fun k i k' i' j' h hne j => ⟨(h j).1, (h j).2.1, (h j).2.2.1, bfalse (fun z => by rw [uA_iff, (h j).2.2.2] at z; rcases z with z | z; cases z; exact hne ⟨z.1, z.2.1⟩)⟩
  have hzB : ∀ (B : Nat → Nat → Nat → Bool) k i k' i' j', zz σ B k i → ¬ (k = k' ∧ i = i') → zz σ (uA B k' i' j') k i := fun B k i k' i' j' h hne j => ⟨(h j).1, (h j).2.1, (h j).2.2.1, bfalse (fun z => by rw [uA_iff, (h j).2.2.2] at z; rcases z with z | z; cases z; exact hne ⟨z.1, z.2.1⟩)⟩
  refine p_newa F hP 14 n (by decide) (by decide) hx2 rfl rfl (fun j _ => zz_av (hzA _ _ _ _ _ hz2 (by omega)) (by decide) (by decide) (Or.inl rfl) j) wac_int ⟨(by decide : Int32.toNatClampNeg 100 = 100), by decide⟩ (by exact (by decide : 100 ≤ 1000)) ⟨Nat.le_of_ble_eq_true rfl, Nat.le_of_ble_eq_true rfl⟩ d_Tr_init_15 (fun H hP => ?_)
  refine p_putr 3 F hP 5 n (by decide) (uL_iff.mpr (Or.inl (uL_iff.mpr (Or.inl hal)))) (by decide) hnm rfl rfl w_403 d_Tr_init_17 rfl (fun H locs hP => ?_)
  refine lv_aload_n F.1 F.2.1 d_Tr_init_20 rfl (lv_at hl 0 rfl) ?_
  refine p_new F hP 2 (240 + n) (by decide) hx3 (fun j hj => zz_fv (hzB _ _ _ _ _ _ (hzA _ _ _ _ _ hz3 (by omega)) (by omega)) (by decide) j hj) w_386 w_40 w_3 ⟨Nat.le_of_ble_eq_true rfl, Nat.le_of_ble_eq_true rfl⟩ d_Tr_init_21 (fun H hP => ?_)
  refine lv_dup F.1 F.2.1 d_Tr_init_24 rfl ?_
  refine lv_sipush (v := 512) F.1 F.2.1 d_Tr_init_25 (by decide) ?_
  have hlen : alen 10 (240 + n) = 512 := by
    show (if 240 + n < 240 then 128 else 512) = 512
    rw [if_neg (by omega)]
  refine p_callI (As := [.int 512]) (rest := [.ref (xL X 2 (240 + n)), .ref (xL X 3 n)]) F hP (c_Tp_init l X _ _ _ _ (240 + n) 512 (uL_iff.mpr (Or.inr ⟨rfl, rfl⟩)) hx4 (hzB _ _ _ _ _ _ (hzA _ _ _ _ _ hz4 (by omega)) (by omega)) (by rw [hlen]; exact ⟨by decide, by decide⟩) (Or.inr hlen)) (by omega) rfl ⟨by decide, by decide, q_Tp_init⟩ w_43 w_3 (Or.inl w_387) w_42 ⟨rfl, rfl⟩ ⟨Nat.le_of_ble_eq_true rfl, Nat.le_of_ble_eq_true rfl⟩ hl.1 (Nat.le_of_ble_eq_true rfl) ⟨Nat.le_of_ble_eq_true rfl, by rw [hlen]; exact Nat.le_of_ble_eq_true rfl⟩ d_Tr_init_28 rfl (fun H locs hP => ?_)
  rw [hlen]
  refine p_putr 3 F hP 11 n (by decide) (uL_iff.mpr (Or.inl (uL_iff.mpr (Or.inl (uL_iff.mpr (Or.inl (uL_iff.mpr (Or.inl hal)))))))) (by decide) hnm rfl rfl w_409 d_Tr_init_31 rfl (fun H locs hP => ?_)
  refine lv_aload_n F.1 F.2.1 d_Tr_init_34 rfl (lv_at hl 0 rfl) ?_
  refine lv_aload_n F.1 F.2.1 d_Tr_init_35 rfl (lv_at hl 1 rfl) ?_
  refine p_putr 3 F hP 0 n (by decide) (uL_iff.mpr (Or.inl (uL_iff.mpr (Or.inl (uL_iff.mpr (Or.inl (uL_iff.mpr (Or.inl hal)))))))) (by decide) hnm rfl rfl w_396 d_Tr_init_36 rfl (fun H locs hP => ?_)
  refine lv_aload_n F.1 F.2.1 d_Tr_init_39 rfl (lv_at hl 0 rfl) ?_
  refine lv_iload_n F.1 F.2.1 d_Tr_init_40 rfl (lv_at hl 2 rfl) ?_
  refine p_puti 3 F hP 2 n (by decide) (uL_iff.mpr (Or.inl (uL_iff.mpr (Or.inl (uL_iff.mpr (Or.inl (uL_iff.mpr (Or.inl hal)))))))) (by decide) hnm rfl rfl w_398 d_Tr_init_41 (fun H locs hP => ?_)
  refine lv_aload_n F.1 F.2.1 d_Tr_init_44 rfl (lv_at hl 0 rfl) ?_
  refine lv_aload_n F.1 F.2.1 d_Tr_init_45 rfl (lv_at hl 1 rfl) ?_
  have hAl2 : ∀ k i, k < 45 → i < cnt n k → uL (uL (uL (uL Al 13 n) 14 n) 2 (240 + n)) 10 (240 + n) k i = true := fun k i hk hi => uL_iff.mpr (Or.inl (uL_iff.mpr (Or.inl (uL_iff.mpr (Or.inl (uL_iff.mpr (Or.inl (hAl k i hk hi))))))))
  have hA2 : ∀ k i j, k < 45 → i < cnt n k → uA (uA (uA (uA (uA A 3 n 4) 3 n 5) 2 (240 + n) 0) 3 n 11) 3 n 0 k i j = true := fun k i j hk hi => uA_iff.mpr (Or.inl (uA_iff.mpr (Or.inl (uA_iff.mpr (Or.inl (uA_iff.mpr (Or.inl (uA_iff.mpr (Or.inl (hA k i j hk hi))))))))))
  have e3 := fresh_eq hf
  have hn3' : nt (si σ3 3 n 1 r) = n := by rw [nt_si, e3, nt_si, nt_si]; exact hn
  refine p_callG (As := []) (rest := [.ref (xL X 3 n)]) F hP (by rw [nt_si]; exact hn) hAl2 hA2 (by rw [e3]; exact oS_si Nat.zero_lt_one) 1 0 (by decide) Nat.zero_lt_one (c_Pg_fresh l X n hf) rfl q_Pg_fresh w_391 w_2 w_388 w_389 w_390 ⟨rfl, rfl⟩ ⟨Nat.le_of_ble_eq_true rfl, Nat.le_of_ble_eq_true rfl⟩ hl.1 (Nat.le_of_ble_eq_true rfl) ⟨Nat.le_of_ble_eq_true rfl, Nat.le_of_ble_eq_true rfl⟩ d_Tr_init_46 rfl (fun H locs hP => ?_)
  refine p_puti 3 F hP 1 n (by decide) (uL_iff.mpr (Or.inl (uL_iff.mpr (Or.inl (uL_iff.mpr (Or.inl (uL_iff.mpr (Or.inl hal)))))))) (by decide) hnm rfl rfl w_397 d_Tr_init_49 (fun H locs hP => ?_)
  refine lv_aload_n F.1 F.2.1 d_Tr_init_52 rfl (lv_at hl 1 rfl) ?_
  refine lv_aload_n F.1 F.2.1 d_Tr_init_53 rfl (lv_at hl 0 rfl) ?_
  refine p_get F hP 3 1 n (by decide) (uL_iff.mpr (Or.inl (uL_iff.mpr (Or.inl (uL_iff.mpr (Or.inl (uL_iff.mpr (Or.inl hal)))))))) (by decide) (v := .int r) ?_ w_397 d_Tr_init_54 ?_
  · unfold fvP
    rw [if_neg (fun z => by cases z.1)]
    show Value.int (gi (si σ3 3 n 1 r) 3 n 1) = .int r
    rw [gi_si, if_pos ⟨rfl, rfl, rfl⟩]
  refine lv_iconst (v := 1) F.1 F.2.1 d_Tr_init_57 (by decide) ?_
  refine lv_iconst (v := 0) F.1 F.2.1 d_Tr_init_58 (by decide) ?_
  obtain ⟨h240, u, v, e5⟩ := head_eq hh
  refine p_callG (As := [.int r, .int 1, .int 0]) (rest := []) F hP hn3' hAl2 hA2 (by
    rw [e5]
    have hc2 : r.toNatClampNeg < cnt n 2 := by show _ < 240 + n; omega
    have hc10 : r.toNatClampNeg < cnt n 10 := by show _ < 240 + n; omega
    exact ((oS_si hc10).trans (oS_si hc10)).trans (oS_si hc2)) 1 0 (by decide) Nat.zero_lt_one (c_Pg_head l X n hh) rfl q_Pg_head w_395 w_2 w_392 w_393 w_394 ⟨rfl, rfl⟩ ⟨Nat.le_of_ble_eq_true rfl, Nat.le_of_ble_eq_true rfl⟩ hl.1 (Nat.le_of_ble_eq_true rfl) ⟨Nat.le_of_ble_eq_true rfl, Nat.le_of_ble_eq_true rfl⟩ d_Tr_init_59 rfl (fun H locs hP => ?_)
  exact p_vret F hP hr hlk d_Tr_init_62
