/-! contracts that may throw -/
/-- it threw: like FrameEnd -/
def FEt (st : State) (o : Outcome) (t : State) (L : List Loc) (k n : Nat) : Prop := (∃ x, o = .threw x) ∧ st.WarmedH t.vm ∧ st.sameButNew ({ t with vm := st.vm } : State) L k n
def QX (Qc : Array Value → State → Outcome → State → Prop) (mc ms : Nat) (free : Addr → Prop) : Array Value → State → Outcome → State → Prop := fun a st o t => Qc a st o t ∧ ∃ L, (FrameEnd st o t L 0 0 ∨ FEt st o t L mc ms) ∧ ∀ q ∈ L, free q.base
def MQX (below : List Frame) (Qc : Array Value → State → Outcome → State → Prop) (a : Array Value) (s : State) (mc ms : Nat) (free : Addr → Prop) : State → Prop := fun t => ∃ o, t.status = .running ∧ Ended t below o ∧ QX Qc mc ms free a s o t
def MetX (l : Launch) (y : MethodName) (ws : List Cond) (rm : Room) (Pc : Array Value → State → Prop) (Qc : Array Value → State → Outcome → State → Prop) (mc ms : Nat) (free : Addr → Prop) : Prop :=
  MetFree l y (headSpec ws rm) Pc (fun _ _ _ _ _ => True) (QX Qc mc ms free)
/-- the outcome: an answer, or the number of the class that is thrown -/
def QcX (X : GX) (n : Nat) (σ' : Sg) (res : Option Value ⊕ Nat) : Array Value → State → Outcome → State → Prop := fun a st o t => match res with
  | .inl r => QcG X n σ' r a st o t
  | .inr k => ∃ x, o = .threw x ∧ nt σ' = n ∧ Pic X σ' t.heap ∧ st.heap.size ≤ t.heap.size ∧ (∀ q : Nat, q < st.heap.size → ¬ fr X n q → t.heap[q]? = st.heap[q]?) ∧ st.heap.size ≤ x ∧ ∃ cell, t.heap[x]? = some cell ∧ cell.vm.isStatics = false ∧ t.vm.findClass (exN k) = some cell.cls
theorem MetX.ofW {l : Launch} {y : MethodName} {ws ws' : List Cond} {rm : Room} {Pc : Array Value → State → Prop} {Qc : Array Value → State → Outcome → State → Prop} {mc ms : Nat} {free : Addr → Prop} {cc : ByteArray} {maxL : Nat} {ret : Option FieldType}
    (hy : plainName y.cls = true) (hw : ws = Cond.code y cc maxL ret :: ws')
    (body : ∀ p e s m args below meth c s₁, BodyLoose p l y (headSpec ws rm) cc maxL ret e s m args below meth c s₁ → c.maxLocals = maxL → Pc args s →
      W p l e (headSpec ws rm).room s m args below meth c s.heap [] 0 0 (MQX below Qc args s mc ms free) (entryFrame m args maxL)) : MetX l y ws rm Pc Qc mc ms free := by
  refine MetFree.of_bodyS (code := cc) (maxLocals := maxL) (ret := ret) hy ?_ ?_
  · intro args s m h hn
    obtain ⟨meth, c, h1, h2, h3, h4, h5, h6, -, -⟩ := Cond.code_spec hn (atoms_spec (ws := ws) h _ (by rw [hw]; exact List.mem_cons_self))
    exact ⟨meth, c, h1, h2, h3, h4, h5, h6⟩
  · intro p e s m args below meth c s₁ B hml hP _
    have hh0 : s₁.heap = s.heap := by rw [B.state]; rfl
    obtain ⟨t, a1, o, b1, b2, b3⟩ := body p e s m args below meth c s₁ B hml hP s₁ hh0 (Stand.of_body B)
    exact ⟨t, o, a1, b1, b2, b3⟩
theorem W.mono {p : Program} {l : Launch} {e : Env} {R : Room} {s : State} {m : MethodId} {args : Array Value} {below : List Frame} {meth : Method} {c : Code} {H : Heap} {locs : List Loc} {cells slots : Nat} {Q Q' : State → Prop} {g : JFrame} (h : ∀ t, Q t → Q' t) (k : W p l e R s m args below meth c H locs cells slots Q g) : W p l e R s m args below meth c H locs cells slots Q' g := by
  intro T hT X
  obtain ⟨t, a, b⟩ := k T hT X
  exact ⟨t, a, h t b⟩
theorem mqx_ret {below : List Frame} {X : GX} {n : Nat} {σ' : Sg} {r : Option Value} {a : Array Value} {s : State} {mc ms : Nat} {free : Addr → Prop} (t : State) (h : MQ below (QcG X n σ' r) a s 0 0 free t) : MQX below (QcX X n σ' (.inl r)) a s mc ms free t := by
  obtain ⟨o, h1, h2, h3, L, h4, h5⟩ := h
  exact ⟨o, h1, h2, h3, L, Or.inl h4, h5⟩
theorem g_headX {l : Launch} {X : GX} {n : Nat} {y : MethodName} {b : ByteArray} {N : Nat} {ret : Option FieldType} {rm : Room} {σ σ' : Sg} {vs : List Value} {r : Option Value ⊕ Nat} {own : String} {mc ms : Nat} (hy : plainName y.cls = true) (hown : y.cls = own) (hN : (lg_sl vs).length ≤ N)
    (body : ∀ (p : Program) (e : Env) (s : State) (m : MethodId) (args : Array Value) (below : List Frame) (meth : Method) (c : Code) (ls : Array Slot), Fx X p s m c b N args own → meth.sig.returnType = ret → meth.locks = false → (∀ x ∈ c.exceptionTable.toList, ∀ pc, covers x pc = false) → St X n σ s.heap s.heap [] → lv_has ls N (lv_args 0 vs) →
      W p l e rm s m args below meth c s.heap [] 0 0 (MQX below (QcX X n σ' r) args s mc ms (fr X n)) (F0 m 0 ls [])) : MetX l y (cw y b N ret) rm (PcG X n σ vs) (QcX X n σ' r) mc ms (fr X n) := by
  refine MetX.ofW (cc := b) (maxL := N) (ret := ret) hy rfl ?_
  intro p e s m args below meth c s₁ B hml hv
  obtain ⟨ha, hn, hC, hP⟩ := hv
  obtain ⟨ls, hl, he⟩ := g_entry (m := m) ha hN
  have hts := atoms_spec (ws := cw y b N ret) B.pre
  have hnh := B.noHandlers (hts _ List.mem_cons_self)
  exact W.eq he (body p e s m args below meth c ls ⟨B.exec, B.bytes, hml, by rw [← hown]; exact findClass_of_methodNamed B.named, tb_of hts, hC⟩ B.returns B.notSynchronized (fun x hx pc => by
    have h0 : c.exceptionTable.toList = [] := by simpa using hnh
    rw [h0] at hx; cases hx) ⟨hn, hP, Sx.rf⟩ hl)
/-- a call of a method that may throw, behind the linking of the instruction -/
theorem xcall {p : Program} {l : Launch} {e : Env} {R : Room} {s : State} {m : MethodId} {args : Array Value} {below : List Frame} {meth : Method} {c : Code} {T : State} {locs : List Loc} {cells slots : Nat}
    (X : Stand p l e R s m args below meth c T locs cells slots) {y : MethodName} {ws : List Cond} {rm : Room} {Pc : Array Value → State → Prop} {Qc : Array Value → State → Outcome → State → Prop} {mc ms : Nat} {free : Addr → Prop} (hM : MetX l y ws rm Pc Qc mc ms free)
    {g : JFrame} (hg : g.method = m) (hsize : g.locals.size = c.maxLocals) {ig : Instr} {len : Nat} (hdg : decode c.code g.pc = .ok (ig, len)) {mk : MethodId} (hn : T.methodNamed? y = some mk) {a : Array Value} {bytes : ByteArray} {maxL : Nat} {ret : Option FieldType}
    (hfr : rm.frames + 1 ≤ R.frames) (hlo : 2 * g.monitorRoom + (g.stack.map fun v => v.category).sum + (maxL + 11) + rm.locals ≤ R.locals) (hcells : cells + rm.cells ≤ R.cells) (hslots : slots + rm.slots ≤ R.slots)
    (hpre : ∀ w ∈ ws, w.before a T = true) (hcode : (Cond.code y bytes maxL ret).before a T = true) (hinit : (Cond.initialized y.cls).before a T = true) (hP : Pc a (T.calling g mk a)) :
    ∃ (o : Outcome) (t : State) (L : List Loc), Qc a (T.calling g mk a) o t ∧ (∀ q ∈ L, free q.base) ∧
      ((∃ (v : Option Value) (T' : State), o = .returned v ∧ Stand p l e R s m args below meth c T' (locs ++ L) cells slots ∧ T'.heap = t.heap ∧ T'.vm = t.vm ∧ Steps p.tables e below (doInvoke e (T.setTop g) [] mk a).1 (T'.setTop { g with pc := g.pc + len, stack := v.toList ++ g.stack })) ∨
       (∃ (x : Addr) (T' : State), o = .threw x ∧ Stand p l e R s m args below meth c T' (locs ++ L) (cells + mc) (slots + ms) ∧ T'.heap = t.heap ∧ T'.vm = t.vm ∧ Steps p.tables e below (doInvoke e (T.setTop g) [] mk a).1 ((T'.setTop g).pushFrame (.throwing x)))) := by
  obtain ⟨methY, cY, hmY, hcY, -, hlY, -, -, -, -⟩ := Cond.code_spec hn hcode
  obtain ⟨kY, hkY, -⟩ := className_of_methodNamed hn
  have hinitY : kY.init = .initialized := Cond.initialized_spec (findClass_of_methodNamed hn) hkY hinit
  have h : At T g.method c below := by rw [hg]; exact X.here
  have happ : (headSpec ws rm).appliesLoose y e.platform (T.calling g mk a) = true :=
    Spec.appliesLoose_calling (g := g) h hdg hn hkY hinitY (X.room_calling (g := g) (R' := rm) hsize hmY hcY hfr (by rw [hlY]; omega) hcells hslots) (atoms_intro hpre)
  obtain ⟨mid, hmid⟩ := h.above
  have hfr2 : (T.setTop g).frames = (.java g :: mid) ++ below := by rw [State.frames_setTop' g h.top, hmid]; rfl
  obtain ⟨o, t, hsteps, -, hend, hq, L, hF, hL⟩ := Steps.callFree hM p X.admits X.cas X.clock (acts := []) hfr2 happ hP trivial
  rw [State.frames_setTop' g h.top, X.tail] at hend
  refine ⟨o, t, L, hq, hL, ?_⟩
  rcases hF with ⟨⟨v, rfl⟩, hW, hsame⟩ | ⟨⟨x, rfl⟩, hW, hsame⟩
  · obtain ⟨T', X', -, -, ht⟩ := X.outOf hg hdg hend hW hsame
    exact Or.inl ⟨v, T', rfl, X', by rw [ht]; rfl, by rw [ht]; rfl, by rw [← ht]; exact hsteps⟩
  · obtain ⟨T', X', -, -, ht⟩ := X.outOfThrown hg hend hW hsame
    exact Or.inr ⟨x, T', rfl, X', by rw [ht]; rfl, by rw [ht]; rfl, by rw [← ht]; exact hsteps⟩
section XROWS
variable {X : GX} {p : Program} {l : Launch} {e : Env} {R : Room} {s : State} {m : MethodId} {args : Array Value} {below : List Frame} {meth : Method} {c : Code} {H : Heap} {locs : List Loc} {cells slots : Nat} {Q : State → Prop}
variable {cc : ByteArray} {pc nL n : Nat} {ls : Array Slot} {rest : List Value} {own : String} {σ σ1 : Sg}
variable {y : MethodName} {bytes : ByteArray} {maxL index : Nat} {ret : Option FieldType} {rm : Room} {As : List Value} {res : Option Value ⊕ Nat} {mc ms : Nat}
/-- what a call gives to the caller -/
def XRun (X : GX) (n : Nat) (σ1 : Sg) (res : Option Value ⊕ Nat) (p : Program) (l : Launch) (e : Env) (R : Room) (s : State) (m : MethodId) (args : Array Value) (below : List Frame) (meth : Method) (c : Code) (H : Heap) (locs : List Loc) (cells slots mc ms : Nat) (g : JFrame) (rest : List Value) : Prop :=
  ∀ T : State, T.heap = H → Stand p l e R s m args below meth c T locs cells slots → ∃ (o : Outcome) (t st : State) (L : List Loc) (a : Array Value), st.heap = H ∧ QcX X n σ1 res a st o t ∧ (∀ q ∈ L, fr X n q.base) ∧
      ((∃ (v : Option Value) (T' : State), o = .returned v ∧ Stand p l e R s m args below meth c T' (locs ++ L) cells slots ∧ T'.heap = t.heap ∧ T'.vm = t.vm ∧ ∀ tg, Steps p.tables e below (T'.setTop { g with pc := g.pc + 3, stack := v.toList ++ rest }) tg → Steps p.tables e below (T.setTop g) tg) ∨
       (∃ (x : Addr) (T' : State), o = .threw x ∧ Stand p l e R s m args below meth c T' (locs ++ L) (cells + mc) (slots + ms) ∧ T'.heap = t.heap ∧ T'.vm = t.vm ∧ ∀ tg, Steps p.tables e below ((T'.setTop { g with stack := rest }).pushFrame (.throwing x)) tg → Steps p.tables e below (T.setTop g) tg))
theorem xr_ret {r : Option Value} {st0 : List Value} (hP : St X n σ s.heap H locs) (hr : XRun X n σ1 (.inl r) p l e R s m args below meth c H locs cells slots mc ms (F0 m pc ls st0) rest)
    (kk : ∀ (H1 : Heap) (locs1 : List Loc), St X n σ1 s.heap H1 locs1 → W p l e R s m args below meth c H1 locs1 cells slots Q (F0 m (pc + 3) ls (r.toList ++ rest))) : W p l e R s m args below meth c H locs cells slots Q (F0 m pc ls st0) := by
  intro T hT X1
  obtain ⟨o, t, st, L, a, h0, ⟨rfl, hn, hPic, hz, hk⟩, hL, hh⟩ := hr T hT X1
  rcases hh with ⟨v, T', hv, X', e1, e2, st1⟩ | ⟨x, T', hv, -⟩
  · cases hv
    rw [h0] at hz hk
    obtain ⟨t2, a1, b1⟩ := kk t.heap (locs ++ L) ⟨hn, hPic, hz.trans hP.2.2.1, fun q hq => (hk q hq).trans (hP.2.2.2.1 q hq), fun q hq => by
      rcases List.mem_append.mp hq with h | h
      · exact hP.2.2.2.2 q h
      · exact hL q h⟩ T' e1 X'
    exact ⟨t2, st1 t2 a1, b1⟩
  · cases hv
theorem xr_thr {k : Nat} {st0 : List Value} (hP : St X n σ s.heap H locs) (hlk : meth.locks = false) (hnh : ∀ x ∈ c.exceptionTable.toList, ∀ pc, covers x pc = false) (hr : XRun X n σ1 (.inr k) p l e R s m args below meth c H locs 0 0 mc ms (F0 m pc ls st0) rest) :
    W p l e R s m args below meth c H locs 0 0 (MQX below (QcX X n σ1 (.inr k)) args s mc ms (fr X n)) (F0 m pc ls st0) := by
  intro T hT X1
  obtain ⟨o, t, st, L, a, h0, ⟨x, rfl, hn, hPic, hz, hk, hx, cell, hc1, hc2, hc3⟩, hL, hh⟩ := hr T hT X1
  rcases hh with ⟨v, T', hv, -⟩ | ⟨x', T', hv, X', e1, e2, st1⟩
  · cases hv
  · cases hv
    obtain ⟨w1, w2, w3, w4, w5⟩ := X'.leaveThrown x (g := { F0 m pc ls st0 with stack := rest }) rfl rfl rfl (fun y hy => hnh y hy _) hlk
    refine ⟨_, st1 _ w1, .threw x, w2, w3, ⟨x, rfl, hn, ?_, ?_, fun q hq1 hq2 => ?_, ?_, cell, ?_, hc2, ?_⟩, locs ++ L, Or.inr ⟨⟨x, rfl⟩, w4, by simpa using w5⟩, fun q hq => ?_⟩
    · show Pic X σ1 T'.heap; rw [e1]; exact hPic
    · show s.heap.size ≤ T'.heap.size; rw [e1]; rw [h0] at hz; have := hP.2.2.1; omega
    · show T'.heap[q]? = _; rw [e1, hk q (by rw [h0]; have := hP.2.2.1; omega) hq2, h0]; exact hP.2.2.2.1 q hq2
    · rw [h0] at hx; have := hP.2.2.1; omega
    · show T'.heap[x]? = _; rw [e1]; exact hc1
    · show T'.vm.findClass _ = _; rw [e2]; exact hc3
    · rcases List.mem_append.mp hq with h | h
      · exact hP.2.2.2.2 q h
      · exact hL q h
theorem g_xS (F : Fx X p s m c cc nL args own) (hP : St X n σ s.heap H locs) (hM : MetX l y (cw y bytes maxL ret) rm (PcG X n σ As) (QcX X n σ1 res) mc ms (fr X n))
    (hd : y.cls ≠ "java/lang/invoke/MethodHandle" ∧ y.cls ≠ "java/lang/invoke/VarHandle" ∧ (parseMethodDescriptor y.desc).map (fun d => d.parameters.length) = some As.length) (hcode : Cond.code y bytes maxL ret ∈ TB) (hini : Cond.initialized y.cls ∈ TB) (hlink : Cond.methodLink own index y ∈ TB) (hst : Cond.static y ∈ TB)
    (hR : rm.frames + 1 ≤ R.frames ∧ 8 + (maxL + 11) + rm.locals ≤ R.locals) (hsize : ls.size = nL) (hW : (rest.map fun v => v.category).sum ≤ 8) (hc : cells + rm.cells ≤ R.cells ∧ slots + rm.slots ≤ R.slots) (hdg : decode cc pc = .ok (.invokestatic index, 3)) {stk : List Value} (hstk : stk = As.reverse ++ rest) :
    XRun X n σ1 res p l e R s m args below meth c H locs cells slots mc ms (F0 m pc ls stk) rest := by
  obtain ⟨hx, hb, hml, hown, hts, hC⟩ := F
  intro T hT X1
  obtain ⟨mk, hnamed⟩ := Cond.code_named (hts _ hcode)
  obtain ⟨methM, cM, hmethM, -, -, -, -, -, -, hsigM⟩ := Cond.code_spec hnamed (hts _ hcode)
  have hstatic : methM.isStatic = true := Cond.static_spec hnamed hmethM (hts _ hst)
  obtain ⟨kP, hkP, -⟩ := className_of_methodNamed hnamed
  have hinitP : kP.init = .initialized := Cond.initialized_spec (findClass_of_methodNamed hnamed) hkP (hts _ hini)
  have hlen : As.length = methM.sig.parameters.length := by
    have h2 := hd.2.2
    rw [hsigM] at h2
    exact (Option.some.inj h2).symm
  obtain ⟨vm₁, X₁, hstep₁⟩ := X1.invokestatic hx hown (hts _ hlink) hnamed hmethM hstatic hkP hinitP ⟨hd.1, hd.2.1⟩ (g := F0 m pc ls stk) rfl (argsL := As) (rest := rest) hlen hstk (by rw [hb]; exact hdg)
  have hW1 : s.WarmedH (T.setVm vm₁).vm := X₁.warmed
  have hws : ∀ w ∈ cw y bytes maxL ret, w.before As.toArray (T.setVm vm₁) = true := by
    intro w hw
    have hm : w ∈ TB := by
      rcases List.mem_cons.mp hw with rfl | hw
      · exact hcode
      · exact hw
    exact word_at hW1 (tb_good hm) (hts _ hm)
  obtain ⟨o, t, L, hq, hL, hh⟩ := xcall X₁ hM (g := { F0 m pc ls stk with stack := rest }) rfl (hsize.trans hml.symm) (by rw [hb]; exact hdg) (X₁.named hnamed) (a := As.toArray) (bytes := bytes) (maxL := maxL) (ret := ret) hR.1 (by have := lv_room (m := m) (pc := pc) (ls := ls) (rest := rest) hW; have h8 := hR.2; show 2 * (F0 m pc ls rest).monitorRoom + (rest.map fun v => v.category).sum + (maxL + 11) + rm.locals ≤ R.locals; omega) hc.1 hc.2 hws (hws _ List.mem_cons_self)
    (word_at hW1 (tb_good hini) (hts _ hini)) (PcG.blind _ _ _ _ (hP.fits hC hW1 hT As))
  refine ⟨o, t, (T.setVm vm₁).calling _ mk As.toArray, L, As.toArray, hT, hq, hL, ?_⟩
  rcases hh with ⟨v, T', hv, X', e1, e2, st⟩ | ⟨x, T', hv, X', e1, e2, st⟩
  · exact Or.inl ⟨v, T', hv, X', e1, e2, fun tg h => hstep₁ _ fun acts => by rw [doInvoke_state]; exact st.trans h⟩
  · exact Or.inr ⟨x, T', hv, X', e1, e2, fun tg h => hstep₁ _ fun acts => by rw [doInvoke_state]; exact st.trans h⟩
theorem g_xV (F : Fx X p s m c cc nL args own) (hP : St X n σ s.heap H locs) (k i : Nat) (hk : k < 10) (hi : i < cnt n k) (hM : MetX l y (cw y bytes maxL ret) rm (PcG X n σ (.ref (xL X k i) :: As)) (QcX X n σ1 res) mc ms (fr X n)) (hcls : y.cls = cN k)
    (hd : (parseMethodDescriptor y.desc).map (fun d => d.parameters.length) = some As.length) (hcode : Cond.code y bytes maxL ret ∈ TB) (hini : Cond.initialized (cN k) ∈ TB) (hlink : Cond.methodLink own index y ∈ TB) (hin : Cond.instanceMethod y ∈ TB) (hsel : Cond.selects (cN k) y y ∈ TB)
    (hR : rm.frames + 1 ≤ R.frames ∧ 8 + (maxL + 11) + rm.locals ≤ R.locals) (hsize : ls.size = nL) (hW : (rest.map fun v => v.category).sum ≤ 8) (hc : cells + rm.cells ≤ R.cells ∧ slots + rm.slots ≤ R.slots) (hdg : decode cc pc = .ok (.invokevirtual index, 3)) {stk : List Value} (hstk : stk = As.reverse ++ .ref (xL X k i) :: rest) :
    XRun X n σ1 res p l e R s m args below meth c H locs cells slots mc ms (F0 m pc ls stk) rest := by
  have F' := F
  obtain ⟨hx, hb, hml, hown, hts, hC⟩ := F
  have hne : ∀ k, k < 10 → cN k ≠ "java/lang/invoke/MethodHandle" ∧ cN k ≠ "java/lang/invoke/VarHandle" := by decide +kernel
  have hy : y.cls ≠ "java/lang/invoke/MethodHandle" ∧ y.cls ≠ "java/lang/invoke/VarHandle" := by rw [hcls]; exact hne k hk
  intro T hT X1
  obtain ⟨cellB, hcB, hobj, hclB⟩ := g_recv F' hP k i hk hi
  obtain ⟨mk, methM, hnamed, hmethM, hstM, habM⟩ := Cond.instanceMethod_spec (hts _ hin)
  obtain ⟨methM', cM, hmethM', -, -, -, -, -, -, hsigM⟩ := Cond.code_spec hnamed (hts _ hcode)
  cases hmethM.symm.trans hmethM'
  obtain ⟨c2, r2, m2, q1, q2, q3, q4, kP, hkP, hkPi⟩ := Cond.selects_spec (hts _ hsel)
  cases hclB.symm.trans q1
  cases (State.methodFound?_of_named hnamed hy).symm.trans q2
  cases hnamed.symm.trans q3
  have hselP : selectMethod e.platform s.vm cellB.cls mk = .method mk := by rw [Launch.admits_selectMethod X1.admits]; exact q4
  have hlen : As.length = methM.sig.parameters.length := by
    have h2 := hd
    rw [hsigM] at h2
    exact (Option.some.inj h2).symm
  obtain ⟨vm₁, X₁, hstep₁⟩ := X1.invokevirtual hx hown (hts _ hlink) hnamed hmethM hstM hkP hkPi hy (a := xL X k i) (cell := cellB) (by rw [hT]; exact hcB)
    (fun z h => by rw [h] at hobj; cases hobj) hselP hmethM habM hkP hkPi (g := F0 m pc ls stk) rfl (argsL := As) (rest := rest) hlen hstk (by rw [hb]; exact hdg)
  have hW1 : s.WarmedH (T.setVm vm₁).vm := X₁.warmed
  have hws : ∀ w ∈ cw y bytes maxL ret, w.before (Value.ref (xL X k i) :: As).toArray (T.setVm vm₁) = true := by
    intro w hw
    have hm : w ∈ TB := by
      rcases List.mem_cons.mp hw with rfl | hw
      · exact hcode
      · exact hw
    exact word_at hW1 (tb_good hm) (hts _ hm)
  have hini' : Cond.initialized y.cls ∈ TB := by rw [hcls]; exact hini
  obtain ⟨o, t, L, hq, hL, hh⟩ := xcall X₁ hM (g := { F0 m pc ls stk with stack := rest }) rfl (hsize.trans hml.symm) (by rw [hb]; exact hdg) (X₁.named hnamed) (a := (Value.ref (xL X k i) :: As).toArray) (bytes := bytes) (maxL := maxL) (ret := ret) hR.1 (by have := lv_room (m := m) (pc := pc) (ls := ls) (rest := rest) hW; have h8 := hR.2; show 2 * (F0 m pc ls rest).monitorRoom + (rest.map fun v => v.category).sum + (maxL + 11) + rm.locals ≤ R.locals; omega) hc.1 hc.2 hws (hws _ List.mem_cons_self)
    (word_at hW1 (tb_good hini') (hts _ hini')) (PcG.blind _ _ _ _ (hP.fits hC hW1 hT (.ref (xL X k i) :: As)))
  refine ⟨o, t, (T.setVm vm₁).calling _ mk (Value.ref (xL X k i) :: As).toArray, L, (Value.ref (xL X k i) :: As).toArray, hT, hq, hL, ?_⟩
  rcases hh with ⟨v, T', hv, X', e1, e2, st⟩ | ⟨x, T', hv, X', e1, e2, st⟩
  · exact Or.inl ⟨v, T', hv, X', e1, e2, fun tg h => hstep₁ _ fun acts => by rw [doInvoke_state]; exact st.trans h⟩
  · exact Or.inr ⟨x, T', hv, X', e1, e2, fun tg h => hstep₁ _ fun acts => by rw [doInvoke_state]; exact st.trans h⟩
end XROWS
