/-! the law from its entry to its loop -/
theorem TMs_9 : zz TMs TMa6 9 0 := fun j => by
  refine ⟨?_, ?_, ?_, rfl⟩
  · show gi (si (si (si (sgF sg0 240) 1 0 2 240) 0 0 15 (-1)) 0 0 16 (-1)) 9 0 j = 0
    rw [gi_si, if_neg (by omega), gi_si, if_neg (by omega), gi_si, if_neg (by omega), sgF_gi _ _ _ _ _ (by omega)]
    rfl
  · show gj (si (si (si (sgF sg0 240) 1 0 2 240) 0 0 15 (-1)) 0 0 16 (-1)) 9 0 j = 0
    rw [gj_si, gj_si, gj_si, sgF_gj]
    rfl
  · show gr (si (si (si (sgF sg0 240) 1 0 2 240) 0 0 15 (-1)) 0 0 16 (-1)) 9 0 j = none
    rw [gr_si, gr_si, gr_si, sgF_gr]
    rfl
theorem MDs_S : zS MDs := zS_si (zS_si TMs_S (by decide)) (by decide)
theorem MDs_nt : nt MDs = 0 := by
  show nt (si (si (si (si (si (sgF sg0 240) 1 0 2 240) 0 0 15 (-1)) 0 0 16 (-1)) 9 0 23 (-1)) 9 0 24 (-1)) = 0
  rw [nt_si, nt_si, nt_si, nt_si, nt_si, sgF_nt]
  rfl
theorem fin_l : ∀ k, k < 45 → ∀ i, i < cnt 0 k → uL MDl 44 0 k i = true := by decide +kernel
theorem fin_f : ∀ k, k < 10 → ∀ i, i < cnt 0 k → ∀ j, j < fn k → fty k j = 2 → MDa k i j = true := by decide +kernel
theorem fin_a : ∀ k, k < 45 → 10 ≤ k → aty k = 2 → ∀ i, i < cnt 0 k → ∀ q, q < alen k i → MDa k i q = true := by decide +kernel
set_option maxHeartbeats 4000000 in
set_option maxRecDepth 100000 in
theorem law_start {p : Program} {l : Launch} {e : Env} {s : State} {m : MethodId} {below : List Frame} {meth : Method} {c : Code} {Q : State → Prop} {b L : Nat} {xs : Nat → Int32} (hfl : l.flags = flags0) (hexec : p.tables.exec = Jvm.exec) (hcode : c.code = code) (hml : c.maxLocals = 8) (hown : s.vm.findClass "TableMachineLaw" = some m.cls) (hts : ∀ w ∈ lw_tbl, w.before #[Value.ref b] s = true) (hX : va_X b L xs s s.heap) (hbl : b < s.heap.size) (hL : L ≤ 2560) (hgv : (Jvm.Cond.and given_1 narrow_1).before #[Value.ref b] s = true)
    (hpure : ∃ σ', f_loop xs (L / 5) 0 MDs = some σ')
    (kx : ∀ (X : GX) (n : Nat) (σ : Sg) (H : Heap) (locs : List Loc) (ls : Array Slot) (cells slots : Nat), Fx X p s m c code 8 #[Value.ref b] "TableMachineLaw" → SL X n σ s.heap H locs → cells ≤ 601024 → slots ≤ 7293034 → W p l e room_1 s m #[Value.ref b] below meth c H locs cells slots Q (F0 m 1468 ls [])) :
    W p l e room_1 s m #[Value.ref b] below meth c s.heap [] 0 0 Q (entryFrame m ([Value.ref b] : List Value).toArray 8) := by
  obtain ⟨X, hxb, hxO, hC, hV⟩ := start_ctx hts hgv
  have hB : ∀ w ∈ TB, w.before #[Value.ref b] s = true := fun w hw => hts w (List.mem_filter.mp hw).1
  have F : Fx X p s m c code 8 #[Value.ref b] "TableMachineLaw" := ⟨hexec, hcode, hml, hown, hB, hC⟩
  obtain ⟨ls, hl, he⟩ := g_entry (m := m) (args := ([Value.ref b] : List Value).toArray) (vs := [Value.ref b]) (N := 8) rfl (Nat.le_of_ble_eq_true rfl)
  refine W.eq he ?_
  have hl : lv_has ls 8 [(0, .ref b)] := hl
  have hP : SP X sg0 N0 M0 (xb X) s.heap s.heap [] := by
    refine ⟨⟨fun k i _ h => Bool.noConfusion h, fun k i _ _ h => Bool.noConfusion h, fun k i k' i' _ h => Bool.noConfusion h, fun k i _ h => Bool.noConfusion h⟩, hxb.symm, Nat.le_refl _, fun _ _ => rfl, fun _ h => by cases h⟩
  refine p_new F hP 0 0 (by decide) (by rw [hxO 0 0 (by decide) (by decide), off_0]; rfl) (fun j hj => zz_fv (fun j => ⟨rfl, rfl, rfl, rfl⟩) (by decide) j hj) w_24 w_25 w_1 ⟨Nat.le_of_ble_eq_true rfl, Nat.le_of_ble_eq_true rfl⟩ d_law_0 (fun H hP => ?_)
  refine lv_dup F.1 F.2.1 d_law_3 rfl ?_
  have hG : GoodIn TB (cw y_TM_init b_TM_init 2 none) := fun w hw => by
    rcases List.mem_cons.mp hw with rfl | hw
    · exact ⟨w_28, tb_good w_28⟩
    · exact ⟨hw, tb_good hw⟩
  refine p_back hP (N' := xb X + 904) (by omega) (va_runI (b := xL X 0 0) (As := []) (rest := [.ref (xL X 0 0)]) (n := 0) (Ts := TB) (own := "TableMachineLaw") ⟨hexec, hcode, hml, hown, hB⟩ (c_TM_init l X hxO) ⟨callB_of 0 hB hG rfl rfl rfl (hB _ w_1) (hB _ w_26) ⟨by decide, by decide, q_TM_init⟩ ⟨by decide, by decide⟩, rfl, hB _ w_27⟩ ⟨PcV.blind, fun U hU hW => ⟨hP.fits hC hW hU _, hV.go hW (fun q hq => by rw [hU]; exact hP.2.2.2.1 q hq)⟩⟩ rfl rfl hl.1 rfl (lv_room (Nat.le_of_ble_eq_true rfl)) d_law_4 ⟨Nat.le_of_ble_eq_true rfl, Nat.le_of_ble_eq_true rfl⟩) (fun H locs hP => ?_)
  refine lv_astore_n F.1 F.2.1 d_law_7 rfl hl (by decide) rfl (fun ls hl => ?_)
  refine p_new F hP 9 0 (by decide) (by rw [hxO 9 0 (by decide) (by decide), off_9]) (fun j hj => zz_fv TMs_9 (by decide) j hj) w_867 w_868 w_11 ⟨Nat.le_of_ble_eq_true rfl, Nat.le_of_ble_eq_true rfl⟩ d_law_8 (fun H hP => ?_)
  refine lv_dup F.1 F.2.1 d_law_11 rfl ?_
  refine p_callI (As := []) (rest := [.ref (xL X 9 0)]) F hP (c_Md_init l X hxO) (by omega) rfl ⟨by decide, by decide, q_Md_init⟩ w_871 w_11 (Or.inl w_869) w_870 ⟨rfl, rfl⟩ ⟨by decide, by decide⟩ hl.1 (Nat.le_of_ble_eq_true rfl) ⟨Nat.le_of_ble_eq_true rfl, Nat.le_of_ble_eq_true rfl⟩ d_law_12 rfl (fun H locs hP => ?_)
  refine lv_astore_n F.1 F.2.1 d_law_15 rfl hl (by decide) rfl (fun ls hl => ?_)
  refine lv_iconst (v := 1) F.1 F.2.1 d_law_16 (by decide) ?_
  refine p_newa F hP 44 0 (by decide) (by decide) (by rw [hxO 44 0 (by decide) (by decide), off_44]) rfl rfl (fun j _ => zz_av (zS_zz MDs_S (by decide) (fun j => rfl)) (by decide) (by decide) (Or.inr rfl) j) wac_long ⟨by decide, by decide⟩ (by decide) ⟨Nat.le_of_ble_eq_true rfl, Nat.le_of_ble_eq_true rfl⟩ d_law_17 (fun H hP => ?_)
  refine lv_astore_n F.1 F.2.1 d_law_19 rfl hl (by decide) rfl (fun ls hl => ?_)
  refine lv_iconst (v := 0) F.1 F.2.1 d_law_20 (by decide) ?_
  refine lv_istore F.1 F.2.1 d_law_21 hl (by decide) rfl (fun ls hl => ?_)
  have hl : lv_has ls 8 [(4, .int (nI (5 * 0))), (3, .ref (xL X 44 0)), (2, .ref (xL X 9 0)), (1, .ref (xL X 0 0)), (0, .ref b)] := hl
  obtain ⟨σ', hf⟩ := hpure
  have hSL : SL X 0 MDs s.heap H locs := by
    refine ⟨MDs_nt, hP.1.pic (fun k i hk hi => ?_) (fun k i j hk hi hj hf2 => ?_) (fun k i q hk0 hk hi hq ha2 => ?_), hxb, hP.2.2.2.1, hP.2.2.2.2⟩
    · rw [MDs_nt] at hi; exact fin_l k hk i hi
    · rw [MDs_nt] at hi; exact fin_f k hk i hi j hj hf2
    · rw [MDs_nt] at hi; exact fin_a k hk hk0 ha2 i hi q hq
  refine W.widen (k := 924) (n := 34863) (Nat.le_of_ble_eq_true rfl) (Nat.le_of_ble_eq_true rfl) ?_
  exact law_loop hfl hX hbl hL kx (L / 5) 0 (by omega) X 0 MDs σ' H locs ls 924 34863 F hSL (lv_sub hl [4, 3, 2, 1, 0] rfl) (by omega) (by omega) hf
