/-! 'throw new X()' -/
/-- the walk, said of the state that it has come to -/
theorem st_rebase {p : Program} {l : Launch} {e : Env} {R : Room} {s : State} {m : MethodId} {args : Array Value} {below : List Frame} {meth : Method} {c : Code} {T : State} {locs : List Loc} (X : Stand p l e R s m args below meth c T locs 0 0) :
    Stand p l e R (T.setFrames (.invoking m args :: below)) m args below meth c T [] 0 0 := by
  obtain ⟨g₀, hfr⟩ := X.frames_eq
  have hcur : T.cur < T.threads.size := State.cur_lt_of_frames hfr
  have hF : (T.setFrames (.invoking m args :: below)).frames = .invoking m args :: below := State.frames_setFrames _ hcur
  have hmeth : T.vm.method? m = some meth := X.method'
  have hmm : ∀ q, T.vm.method? q = s.vm.method? q := fun q => by rw [X.warmed.alike.method?]
  have hcode : ∀ q, (T.setFrames (.invoking m args :: below)).code? q = s.code? q := fun q => by
    rw [State.code?_eq, State.code?_eq]
    show (T.vm.method? q).bind _ = _
    rw [hmm]
  refine ⟨X.admits, X.cas, X.clock, hF, ?_, ?_, hmeth, X.code, X.here, X.tail, State.WarmedH.refl _, ?_, ?_, ?_⟩
  · have hr := X.room
    have h1 := X.heapSize
    have h2 := X.used
    have e1 : (T.setFrames (.invoking m args :: below)).localsInUse = s.localsInUse := by
      rw [State.localsInUse_invoking hF hmeth X.code, State.localsInUse_invoking X.frames X.method X.code]
    have e2 : (T.setFrames (.invoking m args :: below)).frames.length = s.frames.length := by rw [hF, X.frames]
    have e3 : e.platform.stackLimits (T.setFrames (.invoking m args :: below)).me = e.platform.stackLimits s.me := by rw [State.stackLimits_setFrames, X.limits]
    have e4 : (T.setFrames (.invoking m args :: below)).me.stackBytes = s.me.stackBytes := by rw [State.stackBytes_setFrames, X.bytes]
    simp only [State.hasRoom, Bool.and_eq_true, decide_eq_true_eq] at hr ⊢
    rw [e1, e2, e3, e4]
    exact ⟨⟨⟨hr.1.1.1, by show T.heap.size + _ ≤ _; omega⟩, by show T.slotsUsed + _ ≤ _; omega⟩, X.book⟩
  · have hh := X.hears
    cases below with
    | nil => simpa [State.hears, State.setFrames, hmm] using hh
    | cons f r => cases f <;> first | (simp only [State.hears, hcode] at hh ⊢; exact hh) | rfl | (show (T.vm.method? m).any _ = _; rw [hmm]; exact hh)
  · rw [State.stackLimits_setFrames]
  · rw [State.stackBytes_setFrames]
  · obtain ⟨t, ht, -⟩ := State.frames_cons hfr
    refine ⟨?_, Nat.le_refl _, Nat.le_refl _, ?_, ?_, fun a c h => ⟨c, h, rfl, rfl, fun _ _ => rfl⟩⟩
    · show T.setVm T.vm = _
      have h1 : ((T.setFrames (.invoking m args :: below)).setFrames T.frames) = T := by rw [State.setFrames_setFrames, State.setFrames_self ht]
      show T = { (T.setFrames (.invoking m args :: below)).setFrames T.frames with heap := T.heap, slotsUsed := T.slotsUsed }
      rw [h1]
    · show T.slotsUsed = T.slotsUsed + ((T.heap.toList.drop T.heap.size).map _).sum
      rw [List.drop_of_length_le (by simp)]
      simp
    · show ((T.heap.toList.drop T.heap.size).map _).sum ≤ 0
      rw [List.drop_of_length_le (by simp)]
      simp
theorem Pic.grow {X : GX} {σ : Sg} {H H1 : Heap} (h : Pic X σ H) (hk : ∀ q : Nat, q < H.size → H1[q]? = H[q]?) : Pic X σ H1 := by
  obtain ⟨h1, h2, h3, h4⟩ := h
  refine ⟨fun k i hk1 hi => ?_, fun k i hk0 hk1 hi => ?_, h3, h4⟩
  · have h9 := h1 k i hk1 hi
    refine h9.kept (hk _ ?_)
    obtain ⟨cell, q, -⟩ := h9
    exact (Array.getElem?_eq_some_iff.mp q).1
  · have h9 := h2 k i hk0 hk1 hi
    rw [hk _ (Array.getElem?_eq_some_iff.mp h9).1]
    exact h9
theorem same_nil {s t : State} {k n : Nat} (h : s.sameButNew t [] k n) (q : Nat) (hq : q < s.heap.size) : t.heap[q]? = s.heap[q]? := by
  obtain ⟨c', h1, h2, h3, h4⟩ := h.2.2.2.2.2 q s.heap[q] (Array.getElem?_eq_getElem hq)
  rw [h1, Array.getElem?_eq_getElem hq]
  have hs : c'.slots = s.heap[q].slots := by
    apply Array.ext h3
    intro i h5 h6
    have := h4 i (by simp)
    rw [Array.getElem?_eq_getElem h5, Array.getElem?_eq_getElem h6] at this
    exact Option.some.inj this
  rw [h2, hs]
theorem same_setF {s t : State} {F : List Frame} {L : List Loc} {k n : Nat} (h : (s.setFrames F).sameButNew t L k n) : s.sameButNew t L k n := by
  obtain ⟨h1, h2⟩ := h
  rw [State.setFrames_setFrames] at h1
  exact ⟨h1, h2⟩
section XTHROW
variable {X : GX} {p : Program} {l : Launch} {e : Env} {R : Room} {s : State} {m : MethodId} {args : Array Value} {below : List Frame} {meth : Method} {c : Code} {H : Heap} {locs : List Loc}
variable {cc : ByteArray} {pc nL n : Nat} {ls : Array Slot} {σ : Sg}
theorem exN_fit : ∀ k, k < 4 → Bundle.fit (exN k) = true := by decide +kernel
theorem exL_fit : ∀ nm ∈ exL, Bundle.fit nm = true := by decide +kernel
theorem exW : ∀ k, k < 4 → (Cond.classLink "TableMachine" (exC k) (exN k) ∈ TB ∧ Cond.instantiable (exN k) 6 ∈ TB ∧ Cond.initialized (exN k) ∈ TB) := by decide +kernel
theorem x_throw (F : Fx X p s m c cc nL args "TableMachine") (hfl : l.flags = flags0) (hP : St X n σ s.heap H locs) {k : Nat} (hk : k < 4) (hlk : meth.locks = false) (hnh : ∀ x ∈ c.exceptionTable.toList, ∀ pc, covers x pc = false)
    (hR : 6 ≤ R.frames ∧ 100 ≤ R.locals) (hRc : 1 ≤ R.cells ∧ 6 ≤ R.slots) (hsize : ls.size = nL) (hd0 : decode cc pc = .ok (.new (exC k), 3)) (hd1 : decode cc (pc + 3) = .ok (.dup, 1)) (hd2 : decode cc (pc + 4) = .ok (.invokespecial (exI k), 3)) (hd3 : decode cc (pc + 7) = .ok (.athrow, 1)) :
    W p l e R s m args below meth c H locs 0 0 (MQX below (QcX X n σ (.inr k)) args s 1 6 (fr X n)) (F0 m pc ls []) := by
  intro T hT X0
  have F' := F
  obtain ⟨hx, hb, hml, hown, hts, hC⟩ := F
  have htr : e.platform.stackTraces = false := Launch.traces_off (by rw [hfl]; rfl) X0.admits
  have XR := st_rebase X0
  generalize hs' : T.setFrames (.invoking m args :: below) = s' at XR
  have hvm : s'.vm = T.vm := by rw [← hs']; rfl
  have hhp : s'.heap = H := by rw [← hs']; exact hT
  have hW : s.WarmedH s'.vm := by rw [hvm]; exact X0.warmed
  have hC' : Ctx X s' s'.heap := hP.ctx hC hW hhp
  have hts' : ∀ w ∈ TB, w.before args s' = true := fun w hw => word_at hW (tb_good hw) (hts w hw)
  have hown' : s'.vm.findClass "TableMachine" = some m.cls := by rw [hW.alike.findClass]; exact hown
  have hat : ∀ a ∈ Bundle.ownAtoms0 "TableMachine" (exI k) (exN k) exL, a.before args s' = true := by
    intro a ha
    rcases ex_in k hk a ha with h | h
    · exact hts' _ h
    · exact xs_ok hC'.2.2.2.2.2.2 args _ h
  obtain ⟨w1, w2, w3⟩ := exW k hk
  have key : W p l e R s' m args below meth c s'.heap [] 0 0 (fun U => U.status = .running ∧ Ended U below (.threw s'.heap.size) ∧ s'.WarmedH U.vm ∧ s'.sameButNew ({ U with vm := s'.vm } : State) [] 1 6 ∧ ∃ ce, U.heap[s'.heap.size]? = some ce ∧ Bundle.OwnCell args s' (exN k) s'.heap.size .null ce) (F0 m pc ls []) := by
    refine W.newc hx hb hown' (hts' _ w1) (hts' _ w2) (hts' _ w3) rfl hd0 (by simpa using hRc.1) (by simpa using hRc.2) (fun cC kC h1 h2 h3 h4 => ?_)
    refine W.eq (g2 := F0 m (pc + 3) ls [.ref s'.heap.size]) rfl ?_
    refine lv_dup hx hb hd1 rfl ?_
    intro T1 hT1 X1
    have hcell : T1.heap[s'.heap.size]? = some (freshCell cC kC) := by
      rw [hT1, Array.getElem?_push_size]
    obtain ⟨U, u1, u2, u3, u4, u5, u6⟩ := X1.ctorThrow0 hx htr hown' (exN_fit k hk) exL_fit hat (fun x hx => by cases hx) h1 h2 hcell (Nat.le_refl _) (g := F0 m (pc + 4) ls [.ref s'.heap.size, .ref s'.heap.size]) rfl (hsize.trans hml.symm) rfl rfl (rest := []) rfl (by rw [hb]; exact hd2) (by rw [hb]; exact hd3) (fun x hx => hnh x hx _) (by have := hR.1; simp; omega) (by
      show 2 * 0 + _ + _ ≤ _
      have := hR.2
      simp [Value.category]
      omega) hlk
    exact ⟨U, u1, u2, u3, u4, u5, u6⟩
  obtain ⟨U, u1, u2, u3, u4, u5, ce, u6, u7⟩ := key T (by rw [hhp]; exact hT) XR
  have hold : ∀ q : Nat, q < H.size → U.heap[q]? = H[q]? := fun q hq => by
    have := same_nil u5 q (by rw [hhp]; exact hq)
    rw [hhp] at this
    exact this
  have hsz : H.size ≤ U.heap.size := by
    have := u5.2.1
    rw [hhp] at this
    exact this
  refine ⟨U, u1, .threw s'.heap.size, u2, u3, ⟨s'.heap.size, rfl, hP.1, hP.2.1.grow hold, ?_, fun q hq1 hq2 => ?_, ?_, ce, u6, ?_, ?_⟩, locs, Or.inr ⟨⟨_, rfl⟩, ?_, ?_⟩, hP.2.2.2.2⟩
  · have := hP.2.2.1; omega
  · rw [hold q (by have := hP.2.2.1; omega)]; exact hP.2.2.2.1 q hq2
  · rw [hhp]; have := hP.2.2.1; omega
  · rw [u7.vm]; rfl
  · rw [u4.alike.findClass]; exact u7.cls
  · have h2 : T.WarmedH U.vm := by
      rw [← hs'] at u4
      exact u4
    exact State.WarmedH.trans X0.warmed h2
  · have h2 : T.sameButNew (U.setVm T.vm) [] 1 6 := by
      rw [← hs'] at u5
      exact same_setF u5
    have h3 := X0.same.trans (h2.setVm s.vm)
    rw [List.append_nil] at h3
    exact h3
end XTHROW
def bnX {α β : Type} (x : Option ((α ⊕ Nat) × Sg)) (k : α → Sg → Option ((β ⊕ Nat) × Sg)) : Option ((β ⊕ Nat) × Sg) := match x with
  | none => none
  | some (.inl a, σ) => k a σ
  | some (.inr e, σ) => some (.inr e, σ)
theorem bnX_some {α β : Type} {x : Option ((α ⊕ Nat) × Sg)} {k : α → Sg → Option ((β ⊕ Nat) × Sg)} {r : (β ⊕ Nat) × Sg} (h : bnX x k = some r) : (∃ a σ, x = some (.inl a, σ) ∧ k a σ = some r) ∨ (∃ e σ, x = some (.inr e, σ) ∧ (.inr e, σ) = r) := by
  match x, h with
  | some (.inl a, σ), h => exact Or.inl ⟨a, σ, rfl, h⟩
  | some (.inr e, σ), h => exact Or.inr ⟨e, σ, rfl, Option.some.inj h⟩
def rU (r : Unit ⊕ Nat) : Option Value ⊕ Nat := match r with
  | .inl _ => .inl none
  | .inr k => .inr k
def rI (r : Int32 ⊕ Nat) : Option Value ⊕ Nat := match r with
  | .inl v => .inl (some (.int v))
  | .inr k => .inr k
def rJ (r : Int64 ⊕ Nat) : Option Value ⊕ Nat := match r with
  | .inl v => .inl (some (.long v))
  | .inr k => .inr k
def rR (X : GX) (kd : Nat) (r : Nat ⊕ Nat) : Option Value ⊕ Nat := match r with
  | .inl v => .inl (some (.ref (xL X kd v)))
  | .inr k => .inr k
abbrev WX (l : Launch) (X : GX) (n : Nat) (rm : Room) (σ' : Sg) (r : Option Value ⊕ Nat) (p : Program) (e : Env) (s : State) (m : MethodId) (args : Array Value) (below : List Frame) (meth : Method) (c : Code) (H : Heap) (locs : List Loc) (g : JFrame) : Prop := W p l e rm s m args below meth c H locs 0 0 (MQX below (QcX X n σ' r) args s 1 6 (fr X n)) g
