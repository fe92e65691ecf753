theorem d_Lw_table_0 : decode b_Lw_table 0 = .ok (.aload_n 2, 1) := by decide +kernel
theorem d_Lw_table_1 : decode b_Lw_table 1 = .ok (.iconst 0, 1) := by decide +kernel
theorem d_Lw_table_2 : decode b_Lw_table 2 = .ok (.aload_n 0, 1) := by decide +kernel
theorem d_Lw_table_3 : decode b_Lw_table 3 = .ok (.iload_n 1, 1) := by decide +kernel
theorem d_Lw_table_4 : decode b_Lw_table 4 = .ok (.invokevirtual 7, 3) := by decide +kernel
theorem d_Lw_table_7 : decode b_Lw_table 7 = .ok (.i2l, 1) := by decide +kernel
theorem d_Lw_table_8 : decode b_Lw_table 8 = .ok (.lastore, 1) := by decide +kernel
theorem d_Lw_table_9 : decode b_Lw_table 9 = .ok (.goto 9, 3) := by decide +kernel
theorem d_Lw_table_12 : decode b_Lw_table 12 = .ok (.astore_n 3, 1) := by decide +kernel
theorem d_Lw_table_13 : decode b_Lw_table 13 = .ok (.iconst 1, 1) := by decide +kernel
theorem d_Lw_table_14 : decode b_Lw_table 14 = .ok (.ireturn, 1) := by decide +kernel
theorem d_Lw_table_15 : decode b_Lw_table 15 = .ok (.astore_n 3, 1) := by decide +kernel
theorem d_Lw_table_16 : decode b_Lw_table 16 = .ok (.iconst 2, 1) := by decide +kernel
theorem d_Lw_table_17 : decode b_Lw_table 17 = .ok (.ireturn, 1) := by decide +kernel
theorem d_Lw_table_18 : decode b_Lw_table 18 = .ok (.iconst 0, 1) := by decide +kernel
theorem d_Lw_table_19 : decode b_Lw_table 19 = .ok (.ireturn, 1) := by decide +kernel
theorem wc_Lw_table : Cond.codeWith y_Lw_table b_Lw_table 4 (some .int) [(0, 9, 12, 13), (0, 9, 15, 15)] ∈ TB := tb_in (t2_in (i := 49) rfl) rfl
/-! the law's small method for table -/
theorem ycall {p : Program} {l : Launch} {e : Env} {R : Room} {s : State} {m : MethodId} {args : Array Value} {below : List Frame} {meth : Method} {c : Code} {T : State} {locs : List Loc} {cells slots : Nat}
    (X : Stand p l e R s m args below meth c T locs cells slots) {y : MethodName} {ws : List Cond} {rm : Room} {Pc : Array Value → State → Prop} {Qc : Array Value → State → Outcome → State → Prop} {mc ms : Nat} {free : Addr → Prop} (hM : MetY l y ws rm Pc Qc mc ms free)
    {g : JFrame} (hg : g.method = m) (hsize : g.locals.size = c.maxLocals) {ig : Instr} {len : Nat} (hdg : decode c.code g.pc = .ok (ig, len)) {mk : MethodId} (hn : T.methodNamed? y = some mk) {a : Array Value} {bytes : ByteArray} {maxL : Nat} {ret : Option FieldType}
    (hfr : rm.frames + 1 ≤ R.frames) (hlo : 2 * g.monitorRoom + (g.stack.map fun v => v.category).sum + (maxL + 11) + rm.locals ≤ R.locals) (hcells : cells + rm.cells ≤ R.cells) (hslots : slots + rm.slots ≤ R.slots)
    (hpre : ∀ w ∈ ws, w.before a T = true) (hcode : (Cond.code y bytes maxL ret).before a T = true) (hinit : (Cond.initialized y.cls).before a T = true) (hP : Pc a (T.calling g mk a)) :
    ∃ (o : Outcome) (t : State) (L : List Loc), Qc a (T.calling g mk a) o t ∧ (∀ q ∈ L, free q.base) ∧
      ((∃ (v : Option Value) (T' : State), o = .returned v ∧ Stand p l e R s m args below meth c T' (locs ++ L) (cells + mc) (slots + ms) ∧ T'.heap = t.heap ∧ T'.vm = t.vm ∧ Steps p.tables e below (doInvoke e (T.setTop g) [] mk a).1 (T'.setTop { g with pc := g.pc + len, stack := v.toList ++ g.stack })) ∨
       (∃ (x : Addr) (T' : State), o = .threw x ∧ Stand p l e R s m args below meth c T' (locs ++ L) (cells + mc) (slots + ms) ∧ T'.heap = t.heap ∧ T'.vm = t.vm ∧ Steps p.tables e below (doInvoke e (T.setTop g) [] mk a).1 ((T'.setTop g).pushFrame (.throwing x)))) := by
  obtain ⟨methY, cY, hmY, hcY, -, hlY, -, -, -, -⟩ := Cond.code_spec hn hcode
  obtain ⟨kY, hkY, -⟩ := className_of_methodNamed hn
  have hinitY : kY.init = .initialized := Cond.initialized_spec (findClass_of_methodNamed hn) hkY hinit
  have h : At T g.method c below := by rw [hg]; exact X.here
  have happ : (headSpec ws rm).appliesLoose y e.platform (T.calling g mk a) = true :=
    Spec.appliesLoose_calling (g := g) h hdg hn hkY hinitY (X.room_calling (g := g) (R' := rm) hsize hmY hcY hfr (by rw [hlY]; omega) hcells hslots) (atoms_intro hpre)
  obtain ⟨mid, hmid⟩ := h.above
  have hfr2 : (T.setTop g).frames = (.java g :: mid) ++ below := by rw [State.frames_setTop' g h.top, hmid]; rfl
  obtain ⟨o, t, hsteps, -, hend, hq, L, hF, hL⟩ := Steps.callFree hM p X.admits X.cas X.clock (acts := []) hfr2 happ hP trivial
  rw [State.frames_setTop' g h.top, X.tail] at hend
  refine ⟨o, t, L, hq, hL, ?_⟩
  rcases hF with ⟨⟨v, rfl⟩, hW, hsame⟩ | ⟨⟨x, rfl⟩, hW, hsame⟩
  · obtain ⟨T', X', -, -, ht⟩ := X.outOf hg hdg hend hW hsame
    exact Or.inl ⟨v, T', rfl, X', by rw [ht]; rfl, by rw [ht]; rfl, by rw [← ht]; exact hsteps⟩
  · obtain ⟨T', X', -, -, ht⟩ := X.outOfThrown hg hend hW hsame
    exact Or.inr ⟨x, T', rfl, X', by rw [ht]; rfl, by rw [ht]; rfl, by rw [← ht]; exact hsteps⟩
def uX (X : GX) (n n' h : Nat) : GX := if n' = n then X else tX X n h
/-- the outcome, for the law -/
def QcW (X : GX) (n : Nat) (σ' : Sg) (r : Option Value) : Array Value → State → Outcome → State → Prop := fun _ st o t => o = .returned r ∧ Pic (uX X n (nt σ') st.heap.size) σ' t.heap ∧ st.heap.size ≤ t.heap.size ∧ ∀ q : Nat, q < xb X → t.heap[q]? = st.heap[q]?
noncomputable def f_Lw_table (a : Int32) (σ : Sg) : Option (Int32 × Sg) :=
  bnH (f_TM_table a σ) (fun e => if e = 0 then some 1 else if e = 1 then some 2 else none) (fun (r : Int32) (σ1 : Sg) => some (0, sj σ1 44 0 0 r.toInt64))
section PLST
variable {X : GX} {p : Program} {l : Launch} {e : Env} {R : Room} {s : State} {m : MethodId} {args : Array Value} {below : List Frame} {meth : Method} {c : Code} {H : Heap} {locs : List Loc} {cells slots : Nat} {Q : State → Prop}
variable {cc : ByteArray} {pc nL N : Nat} {ls : Array Slot} {rest : List Value} {own : String} {σ : Sg} {Al : Nat → Nat → Bool} {A : Nat → Nat → Nat → Bool}
theorem p_lst (F : Fx X p s m c cc nL args own) (hP : SP X σ Al A N s.heap H locs) (k i : Nat) (hk0 : 10 ≤ k) (hk : k < 45) (hi : Al k i = true) (hety : ety k = .long) (haty : aty k = 1) {q : Int32} {x : Int64} (hin : vp_in q (alen k i)) (hdg : decode cc pc = .ok (.lastore, 1))
    (kk : ∀ (H1 : Heap) (locs1 : List Loc), SP X (sj σ k i q.toNatClampNeg x) Al A N s.heap H1 locs1 → W p l e R s m args below meth c H1 locs1 cells slots Q (F0 m (pc + 1) ls rest)) : W p l e R s m args below meth c H locs cells slots Q (F0 m pc ls (.long x :: .int q :: .ref (xL X k i) :: rest)) := by
  obtain ⟨hx, hb, hml, hown, hts, hC⟩ := F
  obtain ⟨hPP, hN, hxb, hold, hlocs⟩ := hP
  have h9 := hPP.2.1 k i hk0 hk hi
  have harr := (hC.2.1 k hk0 hk).1
  rw [hety] at harr
  refine W.last hx hb h9 (harr _ _) (fun z => by cases z) (by rw [arrV_size]; exact hin) rfl rfl hdg fun H1 e1 e2 e3 => ?_
  refine kk H1 _ ⟨hPP.setA hk0 hk hi e3 ?_ (fun k' i' hk' j => ?_) (fun k' i' h10 hk' hl' hne q' => ?_), by rw [e2, hN], hxb, fun q hq => (e3 q (fun z => by have := hPP.2.2.2 k i hk hi; rw [← z] at this; exact absurd hq (Nat.not_lt.mpr this))).trans (hold q hq), fun q hq => ?_⟩
  · rw [e1, arrV_store]
    congr 2
    refine avP_upd ?_ (fun q' hq => ?_)
    · unfold avP; rw [if_neg (fun z => by rw [haty] at z; cases z.1)]; simp [av, haty, gj_sj]
    · unfold avP; rw [av_sj (fun z => hq z.2.2)]
  · unfold fvP; rw [fv_sj (fun z => by omega)]
  · unfold avP; rw [av_sj (fun z => hne ⟨z.1, z.2.1⟩)]
  · rcases List.mem_append.mp hq with hq | hq
    · exact hlocs q hq
    · rw [List.mem_singleton.mp hq]; exact hPP.2.2.2 k i hk hi
end PLST
theorem tabs_nt {a : Int32} {σ σ' : Sg} {r : Int32} (h : f_TM_table a σ = some (.inl r, σ')) : nt σ' = nt σ + 1 := by
  unfold f_TM_table at h
  rcases bnX_some h with ⟨u, σ1, h1, h⟩ | ⟨k, σ1, h1, h⟩
  · rcases bnX_some h with ⟨u, σ2, h2, h⟩ | ⟨k, σ2, h2, h⟩
    · obtain ⟨-, h⟩ := chk_some h
      obtain ⟨rr, σ3, h3, h⟩ := bn2_some h
      obtain ⟨σ5, h5, h⟩ := bnd_some h
      cases h
      obtain ⟨-, u, v, e5⟩ := head_eq h5
      have e1 : σ1 = σ := by
        generalize (if a < 1 then (0 : Int32) else if 4 < a then 0 else 1) = x at h1
        unfold f_TM_check at h1
        split at h1
        · cases h1
        · cases h1; rfl
      have e2 : σ2 = σ1 := by
        generalize (if 3 ≤ gi σ1 0 0 2 then (0 : Int32) else 1) = x at h2
        unfold f_TM_demand at h2
        split at h2
        · cases h2
        · cases h2; rfl
      subst e1; subst e2
      rw [nt_si, nt_nT, e5, nt_si, nt_si, nt_si, nt_si, fresh_eq h3, nt_si, nt_si, nt_zT]
    · cases h
  · cases h
abbrev rm_Lw_table : Room := { frames := 8, cells := 5, slots := 728, locals := 400 }
set_option maxHeartbeats 4000000 in
set_option maxRecDepth 100000 in
theorem c_Lw_table (l : Launch) (X : GX) (n : Nat) {σ σ' : Sg} {r : Int32} {a : Int32} (hfl : l.flags = flags0) (hf : f_Lw_table a σ = some (r, σ')) : Met l y_Lw_table (ch y_Lw_table b_Lw_table 4 (some .int) [(0, 9, 12, 13), (0, 9, 15, 15)]) rm_Lw_table (PcG X n σ [.ref (xL X 0 0), .int a, .ref (xL X 44 0)]) (QcW X n σ' (some (.int r))) 5 728 (eA X) := by
  refine va_MetW (cc := b_Lw_table) (maxL := 4) (ret := some .int) (hh := [(0, 9, 12, 13), (0, 9, 15, 15)]) (by decide) rfl ?_
  intro p e s m args below meth c s₁ B hml hv
  obtain ⟨ha, hn, hC, hPic⟩ := hv
  obtain ⟨ls, hl, he⟩ := g_entry (m := m) (N := 4) ha (Nat.le_of_ble_eq_true rfl)
  have hts0 := atoms_spec (ws := ch y_Lw_table b_Lw_table 4 (some .int) [(0, 9, 12, 13), (0, 9, 15, 15)]) B.pre
  obtain ⟨m9, meth9, c9, hn9, h1, h2, h3, h4, h5, -⟩ := Cond.codeWith_spec (hts0 _ List.mem_cons_self)
  cases B.named.symm.trans hn9
  cases B.method.symm.trans h1
  have hcc : c9 = c := by
    have := B.here.code
    rw [State.code?_eq, B.state] at this
    have h6 : s.vm.method? m = some meth := B.method
    simp only [State.setFrames] at this
    rw [h6] at this
    exact Option.some.inj (h2.symm.trans this)
  subst hcc
  have htab : c9.exceptionTable.toList = tableOf [(0, 9, 12, 13), (0, 9, 15, 15)] := by rw [← h5, table_eq]
  have hts : ∀ w ∈ TB, w.before args s = true := fun w hw => hts0 w (List.mem_cons_of_mem _ hw)
  have F : Fx X p s m c9 b_Lw_table 4 args "TableMachineLaw" := ⟨B.exec, B.bytes, hml, findClass_of_methodNamed B.named, hts, hC⟩
  have hP : St X n σ s.heap s.heap [] := ⟨hn, hPic, Sx.rf⟩
  have hr := B.returns
  have hlk := B.notSynchronized
  refine W.eq he ?_
  show W p l e rm_Lw_table s m args below meth c9 s.heap [] 0 0 (MQ below (QcW X n σ' (some (.int r))) args s 5 728 (eA X)) (F0 m 0 ls [])
  have hl : lv_has ls 4 [(0, .ref (xL X 0 0)), (1, .int a), (2, .ref (xL X 44 0))] := hl
  have hxs : xb X ≤ s.heap.size := by
    obtain ⟨cell, q, -⟩ := hPic.1 0 0 (by decide) Nat.zero_lt_one
    have h1 := (Array.getElem?_eq_some_iff.mp q).1
    have h2 := hPic.2.2.2 0 0 (by decide) Nat.zero_lt_one
    omega
  refine lv_aload_n F.1 F.2.1 d_Lw_table_0 rfl (lv_at hl 2 rfl) ?_
  refine lv_iconst (v := 0) F.1 F.2.1 d_Lw_table_1 (by decide) ?_
  refine lv_aload_n F.1 F.2.1 d_Lw_table_2 rfl (lv_at hl 0 rfl) ?_
  refine lv_iload_n F.1 F.2.1 d_Lw_table_3 rfl (lv_at hl 1 rfl) ?_
  intro T hT X1
  obtain ⟨cellB, hcB, hobj, hclB⟩ := g_recv F hP 0 0 (by decide) Nat.zero_lt_one
  obtain ⟨mk, methM, hnamed, hmethM, hstM, habM⟩ := Cond.instanceMethod_spec (hts _ w_293)
  obtain ⟨methM', cM, hmethM', -, -, -, -, -, -, hsigM⟩ := Cond.code_spec hnamed (hts _ w_295)
  cases hmethM.symm.trans hmethM'
  obtain ⟨c2, r2, m2, q1, q2, q3, q4, kP, hkP, hkPi⟩ := Cond.selects_spec (hts _ w_294)
  cases hclB.symm.trans q1
  have hy : y_TM_table.cls ≠ "java/lang/invoke/MethodHandle" ∧ y_TM_table.cls ≠ "java/lang/invoke/VarHandle" := ⟨by decide, by decide⟩
  cases (State.methodFound?_of_named hnamed hy).symm.trans q2
  cases hnamed.symm.trans q3
  have hselP : selectMethod e.platform s.vm cellB.cls mk = .method mk := by rw [Launch.admits_selectMethod X1.admits]; exact q4
  have hlen : [Value.int a].length = methM.sig.parameters.length := by
    have h2 := q_TM_table
    rw [hsigM] at h2
    exact (Option.some.inj h2).symm
  obtain ⟨vm₁, X₁, hstep₁⟩ := X1.invokevirtual F.1 F.2.2.2.1 (hts _ w_292) hnamed hmethM hstM hkP hkPi hy (a := xL X 0 0) (cell := cellB) (by rw [hT]; exact hcB)
    (fun z h => by rw [h] at hobj; cases hobj) hselP hmethM habM hkP hkPi (g := F0 m 4 ls [.int a, .ref (xL X 0 0), .int 0, .ref (xL X 44 0)]) rfl (argsL := [.int a]) (rest := [.int 0, .ref (xL X 44 0)]) hlen rfl (by rw [F.2.1]; exact d_Lw_table_4)
  have hW1 : s.WarmedH (T.setVm vm₁).vm := X₁.warmed
  have hws : ∀ w ∈ cw y_TM_table b_TM_table 2 (some .int), w.before (Value.ref (xL X 0 0) :: [.int a]).toArray (T.setVm vm₁) = true := by
    intro w hw
    have hm : w ∈ TB := by
      rcases List.mem_cons.mp hw with rfl | hw
      · exact w_295
      · exact hw
    exact word_at hW1 (tb_good hm) (hts _ hm)
  have hfit : PcG X n σ [.ref (xL X 0 0), .int a] (Value.ref (xL X 0 0) :: [.int a]).toArray (T.setVm vm₁) := hP.fits hC hW1 hT [.ref (xL X 0 0), .int a]
  unfold f_Lw_table at hf
  have run : ∀ (res : Int32 ⊕ Nat) (σ1 : Sg), f_TM_table a σ = some (res, σ1) → _ := fun res σ1 hk => ycall X₁ (c_TM_table l X n hfl hk) (g := { F0 m 4 ls [.int a, .ref (xL X 0 0), .int 0, .ref (xL X 44 0)] with stack := [.int 0, .ref (xL X 44 0)] }) rfl (hl.1.trans hml.symm) (by rw [F.2.1]; exact d_Lw_table_4) (X₁.named hnamed) (a := (Value.ref (xL X 0 0) :: [.int a]).toArray) (bytes := b_TM_table) (maxL := 2) (ret := some .int) (Nat.le_of_ble_eq_true rfl) (by
      show 2 * 0 + _ + (2 + 11) + 300 ≤ 400
      exact Nat.le_of_ble_eq_true rfl) (Nat.le_of_ble_eq_true rfl) (Nat.le_of_ble_eq_true rfl) hws (hws _ List.mem_cons_self)
    (word_at hW1 (tb_good w_1) (hts _ w_1)) (PcG.blind _ _ _ _ hfit)
  rcases bnH_some hf with ⟨rr, σ1, hk, hf⟩ | ⟨kk, σ1, vv, hk, hm, hf⟩
  · cases hf
    obtain ⟨o, t, L, ⟨rfl, hn1, hPic1, hsz, hold⟩, hL, hh⟩ := run _ _ hk
    have hheap : ((T.setVm vm₁).calling { F0 m 4 ls [.int a, .ref (xL X 0 0), .int 0, .ref (xL X 44 0)] with stack := [.int 0, .ref (xL X 44 0)] } mk (Value.ref (xL X 0 0) :: [.int a]).toArray).heap = s.heap := hT
    rw [hheap] at hPic1 hsz hold
    rcases hh with ⟨v, T', hv, X', e1, e2, st⟩ | ⟨x, T', hv, -⟩
    · cases hv
      have hne : ¬ n + 1 = n := by omega
      have F' : Fx (tX X n s.heap.size) p s m c9 b_Lw_table 4 args "TableMachineLaw" := F
      have key : W p l e rm_Lw_table s m args below meth c9 t.heap ([] ++ L) (0 + 5) (0 + 728) (MQ below (QcW X n (sj σ1 44 0 0 rr.toInt64) (some (.int 0))) args s 5 728 (eA X)) (F0 m 7 ls [.int rr, .int 0, .ref (xL X 44 0)]) := by
        refine lv_i2l F.1 F.2.1 d_Lw_table_7 rfl ?_
        have hSP : SP (tX X n s.heap.size) σ1 (fun k i => decide (i < cnt (nt σ1) k)) (fun k i _ => decide (i < cnt (nt σ1) k)) t.heap.size s.heap t.heap ([] ++ L) := ⟨PP.ofPic hPic1 (fun k i j _ hi => decide_eq_true hi), rfl, Nat.le_trans hxs hsz, fun q hq => hold q hq, fun q hq => hL q (by simpa using hq)⟩
        rw [show xL X 44 0 = xL (tX X n s.heap.size) 44 0 from (tX_old (k := 44) (i := 0) Nat.zero_lt_one).symm]
        refine p_lst F' hSP 44 0 (by decide) (by decide) (decide_eq_true Nat.zero_lt_one) rfl rfl (q := 0) (by show ¬ ((0 : Int32) < 0 ∨ 1 ≤ (0 : Int32).toNatClampNeg); decide) d_Lw_table_8 (fun H locs hP => ?_)
        refine lv_goto F.1 F.2.1 d_Lw_table_9 rfl ?_
        refine lv_iconst (v := 0) F.1 F.2.1 d_Lw_table_18 (by decide) ?_
        refine W.iret F.1 F.2.1 hr (fun t' ht _ => ⟨rfl, ?_, by rw [ht, hP.2.1]; exact hsz, fun q hq => by rw [ht]; exact hP.2.2.2.1 q hq⟩) hP.2.2.2.2 d_Lw_table_19 hlk
        rw [ht]
        have e9 : uX X n (nt (sj σ1 44 0 0 rr.toInt64)) s.heap.size = tX X n s.heap.size := by
          unfold uX
          rw [nt_sj, hn1, if_neg hne]
        rw [e9]
        exact hP.1.pic (fun k i _ hi => decide_eq_true hi) (fun k i j _ hi _ _ => decide_eq_true hi) (fun k i q _ _ hi _ _ => decide_eq_true hi)
      obtain ⟨t2, a1, b1⟩ := key T' e1 X'
      exact ⟨t2, hstep₁ _ fun acts => by rw [doInvoke_state]; exact st.trans a1, b1⟩
    · cases hv
  · cases hf
    have hk4 : kk < 4 ∧ ((kk = 0 ∧ r = 1) ∨ (kk = 1 ∧ r = 2)) := by
      by_cases z0 : kk = 0
      · subst z0; rw [if_pos rfl] at hm; cases hm; exact ⟨by decide, Or.inl ⟨rfl, rfl⟩⟩
      · rw [if_neg z0] at hm
        by_cases z1 : kk = 1
        · subst z1; rw [if_pos rfl] at hm; cases hm; exact ⟨by decide, Or.inr ⟨rfl, rfl⟩⟩
        · rw [if_neg z1] at hm; cases hm
    obtain ⟨o, t, L, ⟨x, rfl, hn1, hPic1, hz, hkp, hx0, cell, hc1, hc2, hc3⟩, hL, hh⟩ := run _ _ hk
    have hheap : ((T.setVm vm₁).calling { F0 m 4 ls [.int a, .ref (xL X 0 0), .int 0, .ref (xL X 44 0)] with stack := [.int 0, .ref (xL X 44 0)] } mk (Value.ref (xL X 0 0) :: [.int a]).toArray).heap = s.heap := hT
    rw [hheap] at hz hkp
    rcases hh with ⟨v, T', hv, -⟩ | ⟨x', T', hv, X', e1, e2, st⟩
    · cases hv
    cases hv
    have hcls : s.vm.findClass (exN kk) = some cell.cls := by rw [← X'.warmed.alike.findClass, e2]; exact hc3
    have e9 : uX X n (nt σ') s.heap.size = X := by unfold uX; rw [if_pos hn1]
    have fin : ∀ (H : Heap) (hH : H = t.heap) (pc : Nat) (ls : Array Slot), decode b_Lw_table pc = .ok (.ireturn, 1) → W p l e rm_Lw_table s m args below meth c9 H ([] ++ L) (0 + 5) (0 + 728) (MQ below (QcW X n σ' (some (.int r))) args s 5 728 (eA X)) (F0 m pc ls [.int r]) := by
      intro H hH pc ls hd
      refine W.iret F.1 F.2.1 hr (fun t' ht _ => ⟨rfl, by rw [ht, hH, e9]; exact hPic1, by rw [ht, hH]; exact hz, fun q hq => by rw [ht, hH]; exact hkp q (by omega) (by rw [← hn1]; exact hPic1.out hq)⟩) (fun q hq => hL q (by simpa using hq)) hd hlk
    rcases hk4.2 with ⟨rfl, rfl⟩ | ⟨rfl, rfl⟩
    · obtain ⟨vm', X2, st2⟩ := hcaught X' (g := { F0 m 4 ls [.int a, .ref (xL X 0 0), .int 0, .ref (xL X 44 0)] with stack := [.int 0, .ref (xL X 44 0)] }) rfl (a := x) (cell := cell) (by rw [e1]; exact hc1) hc2 F.2.2.2.1 hts F.2.2.2.2.2.2.2.2.2.2.2 (by decide) hcls htab (h := 12) (by show hsel 4 0 [(0, 9, 12, 13), (0, 9, 15, 15)] = some 12; decide)
      have key : W p l e rm_Lw_table s m args below meth c9 t.heap ([] ++ L) (0 + 5) (0 + 728) (MQ below (QcW X n σ' (some (.int 1))) args s 5 728 (eA X)) (F0 m 12 ls [.ref x]) := by
        refine lv_astore_n F.1 F.2.1 d_Lw_table_12 rfl hl (by decide) rfl (fun ls hl => ?_)
        refine lv_iconst (v := 1) F.1 F.2.1 d_Lw_table_13 (by decide) ?_
        exact fin _ rfl _ _ d_Lw_table_14
      obtain ⟨t2, a1, b1⟩ := key (T'.setVm vm') e1 X2
      exact ⟨t2, hstep₁ _ fun acts => by rw [doInvoke_state]; exact st.trans (st2 _ a1), b1⟩
    · obtain ⟨vm', X2, st2⟩ := hcaught X' (g := { F0 m 4 ls [.int a, .ref (xL X 0 0), .int 0, .ref (xL X 44 0)] with stack := [.int 0, .ref (xL X 44 0)] }) rfl (a := x) (cell := cell) (by rw [e1]; exact hc1) hc2 F.2.2.2.1 hts F.2.2.2.2.2.2.2.2.2.2.2 (by decide) hcls htab (h := 15) (by show hsel 4 1 [(0, 9, 12, 13), (0, 9, 15, 15)] = some 15; decide)
      have key : W p l e rm_Lw_table s m args below meth c9 t.heap ([] ++ L) (0 + 5) (0 + 728) (MQ below (QcW X n σ' (some (.int 2))) args s 5 728 (eA X)) (F0 m 15 ls [.ref x]) := by
        refine lv_astore_n F.1 F.2.1 d_Lw_table_15 rfl hl (by decide) rfl (fun ls hl => ?_)
        refine lv_iconst (v := 2) F.1 F.2.1 d_Lw_table_16 (by decide) ?_
        exact fin _ rfl _ _ d_Lw_table_17
      obtain ⟨t2, a1, b1⟩ := key (T'.setVm vm') e1 X2
      exact ⟨t2, hstep₁ _ fun acts => by rw [doInvoke_state]; exact st.trans (st2 _ a1), b1⟩
