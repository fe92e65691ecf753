/-! the law's small methods: a call whose exception is caught; the classes of the handlers are linked or not yet -/
/-- the number of the class that an entry of the law's pool names -/
def exP (ct : Nat) : Nat := match ct with
  | 13 => 0
  | 15 => 1
  | 46 => 2
  | 28 => 3
  | _ => 4
/-- where the class k that is thrown at pc is caught -/
def hsel (pc k : Nat) : List (Nat × Nat × Nat × Nat) → Option Nat
  | [] => none
  | (a, b, h, ct) :: t => if a ≤ pc ∧ pc < b then (if exP ct = k then some h else if exP ct < 4 then hsel pc k t else none) else none
theorem exP_w : ∀ ct, exP ct < 4 → Cond.classLink "TableMachineLaw" ct (exN (exP ct)) ∈ TB := by
  have h : ∀ ct ∈ [13, 15, 46, 28], Cond.classLink "TableMachineLaw" ct (exN (exP ct)) ∈ TB := by decide +kernel
  intro ct hc
  apply h
  unfold exP at hc
  split at hc <;> first | (exact absurd hc (by decide)) | simp
theorem exP_0 {ct : Nat} (h : exP ct < 4) : ct ≠ 0 := by
  rintro rfl
  exact absurd h (by decide)
theorem ex_nc : ∀ a, a < 4 → ∀ b, b < 4 → a ≠ b → Cond.not (.castable (exN a) (exN b)) ∈ flatC (Jvm.Cond.and given_1 narrow_1) := by decide +kernel
section XCATCH
variable {X : GX} {p : Program} {l : Launch} {e : Env} {R : Room} {s : State} {m : MethodId} {args : Array Value} {below : List Frame} {meth : Method} {c : Code} {H : Heap} {locs : List Loc}
/-- one row of the table, whose class is linked or not yet -/
theorem hrow {Q : Handler → Pre} {E : CtlPost} {d : Bool} {acts : List Action} {S : State} {f : JFrame} {a : Addr} {x : ExceptionTableEntry} {t : List ExceptionTableEntry} {cT : ClassId} {cell : Cell} (hx : covers x f.pc = true) (h0 : x.catchType ≠ 0)
    (hl : S.vm.ClassLinks e.platform f.method.cls x.catchType cT) (hcell : S.heap[a]? = some cell) (hobj : ∀ k, cell.vm ≠ .statics k) (hk : ∃ k, S.vm.classes[cell.cls]? = some k) (hc : ∃ k, S.vm.classes[cT]? = some k) :
    wp (findHandler.go f a (x :: t)) Q E e d acts S ↔ if S.vm.assignable cell.cls cT = true then Q (.found x.handlerPc) d acts (S.setVm (S.vm.noted f.method.cls x.catchType (.cls cT))) else wp (findHandler.go f a t) Q E e d acts (S.setVm (S.vm.noted f.method.cls x.catchType (.cls cT))) := by
  simp only [covers] at hx
  obtain ⟨ha, ht⟩ := (resolveClass_links e.toSetting hl).op (op := VmOp.resolveClass f.method.cls x.catchType) rfl
  have hal : S.vm.Alike (S.vm.noted f.method.cls x.catchType (.cls cT)) := (Vm.Alike.refl S.vm).noted _ _ _
  obtain ⟨k1, hk1⟩ := hk
  obtain ⟨k2, hk2⟩ := hc
  obtain ⟨k1', hk1', -⟩ := hal.2.2 _ _ hk1
  obtain ⟨k2', hk2', -⟩ := hal.2.2 _ _ hk2
  have hfit := hal.assignable cell.cls cT
  cases hb : S.vm.assignable cell.cls cT <;> rw [hb] at hfit <;> simp [findHandler.go, hx, h0, ha, ht, hcell, hobj, hk1', hk2', hfit, VmOp.dirties, VmOp.acts]
theorem hfind {f : JFrame} {a : Addr} {cell : Cell} (hpl : e.platform.magicAccessors = ({} : Platform).magicAccessors) (hown : s.vm.findClass "TableMachineLaw" = some f.method.cls) (hts : ∀ w ∈ TB, w.before args s = true) (hT : CtT X s s.heap) (hobj : ∀ k, cell.vm ≠ .statics k) {k : Nat} (hk : k < 4) (hcls : s.vm.findClass (exN k) = some cell.cls) :
    ∀ (hh : List (Nat × Nat × Nat × Nat)) (h : Nat) (S : State), s.WarmedH S.vm → S.heap[a]? = some cell → hsel f.pc k hh = some h →
      ∃ vm', s.WarmedH vm' ∧ ∀ (Q : Handler → Pre) (E : CtlPost) (d : Bool) (acts : List Action), wp (findHandler.go f a (tableOf hh)) Q E e d acts S ↔ Q (.found h) d acts (S.setVm vm') := by
  intro hh
  induction hh with
  | nil => intro h S _ _ hs; cases hs
  | cons q t ih =>
    obtain ⟨a0, b0, h0, ct⟩ := q
    intro h S hW hcell hs
    unfold hsel at hs
    split at hs
    case isFalse => cases hs
    rename_i hcov
    have hx : covers (⟨a0, b0, h0, ct⟩ : ExceptionTableEntry) f.pc = true := by simpa [covers] using hcov
    obtain ⟨kc, hkc⟩ := Vm.classAt_of_findClass hcls
    obtain ⟨kc', hkc', -⟩ := hW.alike.2.2 _ _ hkc
    have go : ∀ (hlt : exP ct < 4), ∃ cT, s.vm.findClass (exN (exP ct)) = some cT ∧ s.WarmedH (S.vm.noted f.method.cls ct (.cls cT)) ∧ ∀ (Q : Handler → Pre) (E : CtlPost) (d : Bool) (acts : List Action), wp (findHandler.go f a (tableOf ((a0, b0, h0, ct) :: t))) Q E e d acts S ↔ if s.vm.assignable cell.cls cT = true then Q (.found h0) d acts (S.setVm (S.vm.noted f.method.cls ct (.cls cT))) else wp (findHandler.go f a (tableOf t)) Q E e d acts (S.setVm (S.vm.noted f.method.cls ct (.cls cT))) := by
      intro hlt
      obtain ⟨cT, hcT, hcl⟩ := Cond.classLink_spec hown (hts _ (exP_w ct hlt)) e.platform hpl
      obtain ⟨dk, _, _, kt, hd, _, _, _, _, hkt, _, hopen⟩ := hcl.here
      obtain ⟨kt', hkt', -⟩ := hW.alike.2.2 _ _ hkt
      refine ⟨cT, hcT, hW.noted hd hopen (State.rightAt_cls hcl), fun Q E d acts => ?_⟩
      have := hrow (e := e) (Q := Q) (E := E) (d := d) (acts := acts) (S := S) (f := f) (a := a) (x := ⟨a0, b0, h0, ct⟩) (t := tableOf t) (cT := cT) (cell := cell) hx (exP_0 hlt) (hW.classLinks hcl) hcell hobj ⟨kc', hkc'⟩ ⟨kt', hkt'⟩
      rw [hW.alike.assignable] at this
      exact this
    split at hs
    · rename_i hek
      cases hs
      obtain ⟨cT, hcT, hW', hq⟩ := go (by rw [hek]; exact hk)
      rw [hek, hcls] at hcT
      cases hcT
      have hself : s.vm.assignable cell.cls cell.cls = true := by
        show s.vm.assignableAux 256 _ _ = true
        unfold Vm.assignableAux
        simp
      exact ⟨_, hW', fun Q E d acts => by rw [hq, if_pos hself]⟩
    · rename_i hne
      split at hs
      case isFalse => cases hs
      rename_i hlt
      obtain ⟨cT, hcT, hW', hq⟩ := go hlt
      obtain ⟨c1, t1, e1, e2, e3⟩ := ctT_nc hT (ex_nc k hk (exP ct) hlt (fun z => hne z.symm))
      cases hcls.symm.trans e1
      cases hcT.symm.trans e2
      obtain ⟨vm', hW2, hq2⟩ := ih h (S.setVm (S.vm.noted f.method.cls ct (.cls cT))) hW' hcell hs
      exact ⟨vm', hW2, fun Q E d acts => by rw [hq, if_neg (by rw [e3]; decide)]; exact hq2 Q E d acts⟩
/-- what is thrown is caught -/
theorem hcaught {T : State} {cells slots : Nat} (X1 : Stand p l e R s m args below meth c T locs cells slots) {a : Addr} {g : JFrame} (hg : g.method = m) {cell : Cell} (hcell : T.heap[a]? = some cell) (hobj : cell.vm.isStatics = false) (hown : s.vm.findClass "TableMachineLaw" = some m.cls) (hts : ∀ w ∈ TB, w.before args s = true) (hC : CtT X s s.heap) {k : Nat} (hk : k < 4) (hcls : s.vm.findClass (exN k) = some cell.cls)
    {hh : List (Nat × Nat × Nat × Nat)} (htab : c.exceptionTable.toList = tableOf hh) {h : Nat} (hs : hsel g.pc k hh = some h) :
    ∃ vm', Stand p l e R s m args below meth c (T.setVm vm') locs cells slots ∧ ∀ tg, Steps p.tables e below ((T.setVm vm').setTop { g with pc := h, stack := [.ref a] }) tg → Steps p.tables e below ((T.setTop g).pushFrame (.throwing a)) tg := by
  subst hg
  have hpl : e.platform.magicAccessors = ({} : Platform).magicAccessors := by rw [X1.admits.platform]
  have hvm : ((T.setTop g).pushFrame (.throwing a)).vm = T.vm := Stand.throwing_vm T g a
  have hhp : ((T.setTop g).pushFrame (.throwing a)).heap = T.heap := Stand.throwing_heap T g a
  obtain ⟨vm', hW', hq⟩ := hfind (e := e) (s := s) (f := g) (a := a) (args := args) hpl hown hts hC (VmData.ne_statics_of hobj) hk hcls hh h ((T.setTop g).pushFrame (.throwing a)) (by rw [hvm]; exact X1.warmed) (by rw [hhp]; exact hcell) hs
  refine ⟨vm', X1.noted hW', fun tg hrest => ?_⟩
  obtain ⟨hgo, hw⟩ := X1.here.throwing a
  have hm : ((T.setTop g).pushFrame (.throwing a)).vm.method? g.method = some meth := by rw [hvm]; exact X1.method'
  have hstep : (stepThrowing e ((T.setTop g).pushFrame (.throwing a)) a (.java g :: T.frames.tail)).Is ((((T.setTop g).pushFrame (.throwing a)).setVm vm').setFrames (.java { g with pc := h, stack := [.ref a] } :: T.frames.tail)) [] := by
    simp only [stepThrowing, searchFrame, vmDo]
    generalize hr : Sem.go _ e false [] ((T.setTop g).pushFrame (.throwing a)) = res
    obtain ⟨as, rfl, ha⟩ := Sem.eq_ok_of hr (a := Handler.found h) (s' := ((T.setTop g).pushFrame (.throwing a)).setVm vm') (acts' := []) (by simp [W.findHandler_eq hm X1.code, htab, hq])
    exact ⟨rfl, ha⟩
  refine Steps.head hgo hw ?_
  rw [stepThread_throwing (frames_entered X1.here.top _), hstep.1]
  obtain ⟨g₀, hg0⟩ := Option.isSome_iff_exists.mp X1.here.top
  obtain ⟨r, hr⟩ := State.topJava?_eq_some.mp hg0
  have hr' : (T.setVm vm').frames = .java g₀ :: r := hr
  rw [State.setTop_of_frames _ hr'] at hrest
  have e1 : (((T.setTop g).pushFrame (.throwing a)).setVm vm').setFrames (.java { g with pc := h, stack := [.ref a] } :: T.frames.tail) = (T.setVm vm').setFrames (.java { g with pc := h, stack := [.ref a] } :: r) := by
    rw [hr, List.tail_cons, State.pushFrame, State.setTop_of_frames _ hr, State.setFrames_setFrames]
    show ((T.setVm vm').setFrames _).setFrames _ = _
    rw [State.setFrames_setFrames]
  rw [e1]
  exact hrest
end XCATCH
/-- the outcome of the law's small methods: the heap may have grown -/
def QcH (X : GX) (n : Nat) (σ' : Sg) (r : Option Value) : Array Value → State → Outcome → State → Prop := fun _ st o t => o = .returned r ∧ nt σ' = n ∧ Pic X σ' t.heap ∧ st.heap.size ≤ t.heap.size ∧ ∀ q : Nat, q < st.heap.size → ¬ fr X n q → t.heap[q]? = st.heap[q]?
def ch (y : MethodName) (b : ByteArray) (n : Nat) (r : Option FieldType) (hh : List (Nat × Nat × Nat × Nat)) : List Cond := .codeWith y b n r hh :: TB
abbrev WH (l : Launch) (X : GX) (n : Nat) (rm : Room) (σ' : Sg) (r : Option Value) (p : Program) (e : Env) (s : State) (m : MethodId) (args : Array Value) (below : List Frame) (meth : Method) (c : Code) (H : Heap) (locs : List Loc) (g : JFrame) : Prop := W p l e rm s m args below meth c H locs 0 0 (MQ below (QcH X n σ' r) args s 1 6 (fr X n)) g
section HROWS
variable {X : GX} {p : Program} {l : Launch} {e : Env} {R : Room} {s : State} {m : MethodId} {args : Array Value} {below : List Frame} {meth : Method} {c : Code} {H : Heap} {locs : List Loc}
variable {cc : ByteArray} {pc nL n : Nat} {ls : Array Slot} {σ σ1 : Sg}
theorem g_headH {y : MethodName} {b : ByteArray} {N : Nat} {hh : List (Nat × Nat × Nat × Nat)} {rm : Room} {σ σ' : Sg} {vs : List Value} {r : Option Value} (hy : plainName y.cls = true) (hown : y.cls = "TableMachineLaw") (hN : (lg_sl vs).length ≤ N)
    (body : ∀ (p : Program) (e : Env) (s : State) (m : MethodId) (args : Array Value) (below : List Frame) (meth : Method) (c : Code) (ls : Array Slot), Fx X p s m c b N args "TableMachineLaw" → meth.sig.returnType = some .int → meth.locks = false → c.exceptionTable.toList = tableOf hh → St X n σ s.heap s.heap [] → lv_has ls N (lv_args 0 vs) →
      WH l X n rm σ' r p e s m args below meth c s.heap [] (F0 m 0 ls [])) : Met l y (ch y b N (some .int) hh) rm (PcG X n σ vs) (QcH X n σ' r) 1 6 (fr X n) := by
  refine va_MetW (cc := b) (maxL := N) (ret := some .int) (hh := hh) hy rfl ?_
  intro p e s m args below meth c s₁ B hml hv
  obtain ⟨ha, hn, hC, hP⟩ := hv
  obtain ⟨ls, hl, he⟩ := g_entry (m := m) ha hN
  have hts := atoms_spec (ws := ch y b N (some .int) hh) B.pre
  obtain ⟨m9, meth9, c9, hn9, h1, h2, h3, h4, h5, -⟩ := Cond.codeWith_spec (hts _ List.mem_cons_self)
  cases B.named.symm.trans hn9
  cases B.method.symm.trans h1
  have hcc : c9 = c := by
    have := B.here.code
    rw [State.code?_eq, B.state] at this
    have h6 : s.vm.method? m = some meth := B.method
    simp only [State.setFrames] at this
    rw [h6] at this
    exact Option.some.inj (h2.symm.trans this)
  subst hcc
  exact W.eq he (body p e s m args below meth c9 ls ⟨B.exec, B.bytes, hml, by rw [← hown]; exact findClass_of_methodNamed B.named, fun w hw => hts w (List.mem_cons_of_mem _ hw), hC⟩ B.returns B.notSynchronized (by rw [← h5, table_eq]) ⟨hn, hP, Sx.rf⟩ hl)
theorem g_hret (F : Fx X p s m c cc nL args "TableMachineLaw") (hP : St X n σ s.heap H locs) (hr : meth.sig.returnType = some .int) (hlk : meth.locks = false) {v : Int32} (hdg : decode cc pc = .ok (.ireturn, 1)) : WH l X n R σ (some (.int v)) p e s m args below meth c H locs (F0 m pc ls [.int v]) :=
  W.widen (Nat.zero_le 1) (Nat.zero_le 6) (W.iret F.1 F.2.1 hr (fun t ht _ => ⟨rfl, hP.1, by rw [ht]; exact hP.2.1, by rw [ht]; exact Nat.le_of_eq hP.2.2.1.symm, fun q _ hq => by rw [ht]; exact hP.2.2.2.1 q hq⟩) hP.2.2.2.2 hdg hlk)
/-- the callee threw: the handler returns a number -/
theorem g_hcat (F : Fx X p s m c cc nL args "TableMachineLaw") (hP : St X n σ s.heap H locs) (hr : meth.sig.returnType = some .int) (hlk : meth.locks = false) {hh : List (Nat × Nat × Nat × Nat)} (htab : c.exceptionTable.toList = tableOf hh) {k : Nat} {st0 rest : List Value} (hx : XRun X n σ1 (.inr k) p l e R s m args below meth c H locs 0 0 1 6 (F0 m pc ls st0) rest) (hk : k < 4)
    {lvs : List (Nat × Value)} (hsz : lv_has ls nL lvs) {h i q : Nat} (hs : hsel pc k hh = some h) {vi : Int} {v : Int32} (hd0 : (decode cc h = .ok (.astore i, 2) ∧ q = h + 2) ∨ (∃ i4 : Fin 4, decode cc h = .ok (.astore_n i4, 1) ∧ i4.val = i ∧ q = h + 1)) (hi : i < nL) (hd1 : decode cc q = .ok (.iconst vi, 1)) (hv : Int32.ofInt vi = v) (hd2 : decode cc (q + 1) = .ok (.ireturn, 1)) :
    WH l X n R σ1 (some (.int v)) p e s m args below meth c H locs (F0 m pc ls st0) := by
  intro T hT X1
  obtain ⟨o, t, st, L, a, h0, ⟨x, rfl, hn, hPic, hz, hkp, hx0, cell, hc1, hc2, hc3⟩, hL, hh1⟩ := hx T hT X1
  rcases hh1 with ⟨v, T', hv, -⟩ | ⟨x', T', hv, X', e1, e2, st1⟩
  · cases hv
  cases hv
  have hcls : s.vm.findClass (exN k) = some cell.cls := by rw [← X'.warmed.alike.findClass, e2]; exact hc3
  obtain ⟨vm', X2, st2⟩ := hcaught X' (g := { F0 m pc ls st0 with stack := rest }) rfl (a := x) (cell := cell) (by rw [e1]; exact hc1) hc2 F.2.2.2.1 F.2.2.2.2.1 F.2.2.2.2.2.2.2.2.2.2.2 hk hcls htab hs
  have hlocs : ∀ q ∈ locs ++ L, fr X n q.base := fun q hq => by
    rcases List.mem_append.mp hq with h | h
    · exact hP.2.2.2.2 q h
    · exact hL q h
  have key : W p l e R s m args below meth c t.heap (locs ++ L) (0 + 1) (0 + 6) (MQ below (QcH X n σ1 (some (.int v))) args s 1 6 (fr X n)) (F0 m h ls [.ref x]) := by
    have k2 : ∀ ls : Array Slot, W p l e R s m args below meth c t.heap (locs ++ L) (0 + 1) (0 + 6) (MQ below (QcH X n σ1 (some (.int v))) args s 1 6 (fr X n)) (F0 m q ls []) := by
      intro ls
      refine lv_iconst F.1 F.2.1 hd1 hv ?_
      refine W.iret F.1 F.2.1 hr (fun t' ht _ => ⟨rfl, hn, by rw [ht]; exact hPic, by rw [ht]; rw [h0] at hz; have := hP.2.2.1; omega, fun q hq1 hq2 => ?_⟩) hlocs hd2 hlk
      rw [ht, hkp q (by rw [h0]; have := hP.2.2.1; omega) hq2, h0]
      exact hP.2.2.2.1 q hq2
    rcases hd0 with ⟨hd0, rfl⟩ | ⟨i4, hd0, hi4, rfl⟩
    · exact lv_astore F.1 F.2.1 hd0 hsz hi rfl (fun ls hl => k2 ls)
    · exact lv_astore_n F.1 F.2.1 hd0 hi4 hsz hi rfl (fun ls hl => k2 ls)
  obtain ⟨t2, a1, b1⟩ := key (T'.setVm vm') e1 X2
  exact ⟨t2, st1 _ (st2 _ a1), b1⟩
end HROWS
