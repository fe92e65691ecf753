/-! exceptions: what is carried of the start, contracts that may throw, calls of them -/
theorem ctT_decl {X : GX} {U : State} {H : Heap} (h : CtT X U H) {x : MethodName} (hx : Cond.declares x ∈ tables_1) (args : Array Value) : (Cond.declares x).before args U = true := by
  obtain ⟨s0, a0, h1, h2, h3, h4, h5⟩ := h
  exact va_Nw.use rfl (va_Nw.warmD h1 (va_Nw.of rfl (h4 _ hx)))
theorem ctT_cast {X : GX} {U : State} {H : Heap} (h : CtT X U H) {C T : String} (hx : Cond.castable C T ∈ tables_1) (args : Array Value) : (Cond.castable C T).before args U = true := by
  obtain ⟨s0, a0, h1, h2, h3, h4, h5⟩ := h
  exact va_Nw.use rfl (va_Nw.warmC h1 (va_Nw.of rfl (h4 _ hx)))
theorem ctT_lays {X : GX} {U : State} (h : CtT X U U.heap) {O f d : String} (hx : Cond.laysStatic O f d ∈ tables_1) (args : Array Value) : (Cond.laysStatic O f d).before args U = true := by
  obtain ⟨s0, a0, h1, h2, h3, h4, h5⟩ := h
  obtain ⟨c, k, i, f, a, cell, hc, hi, hst, ha, hcell, hs, hcls, hlt, hty⟩ := Cond.laysStatic_spec (h4 _ hx)
  obtain ⟨k', hi', hek⟩ := State.fieldFound?_setVm h1.alike hi
  exact Cond.laysStatic_of (s := U) (by rw [h1.alike.findClass]; exact hc) hi' hst (by rw [hek]; exact ha) (by rw [h3 a (Array.getElem?_eq_some_iff.mp hcell).1]; exact hcell) hs hcls hlt (by rw [hek]; exact hty)
theorem ctT_ref {X : GX} {U : State} (h : CtT X U U.heap) {O f d : String} (hx : Cond.laysStatic O f d ∈ tables_1) (hr : Cond.isRef (.static O f d) ∈ flatC (Jvm.Cond.and given_1 narrow_1)) (args : Array Value) : (Cond.isRef (.static O f d)).before args U = true := by
  obtain ⟨s0, a0, h1, h2, h3, h4, h5⟩ := h
  obtain ⟨c, k, i, f, a, cell, hc, hi, hst, ha, hcell, hs, hcls, hlt, hty⟩ := Cond.laysStatic_spec (h4 _ hx)
  obtain ⟨k', hi', hek⟩ := State.fieldFound?_setVm h1.alike hi
  have hr0 := flat_of_before _ h5 _ hr
  have hv : cell.slots[f.slot]? = some cell.slots[f.slot] := Array.getElem?_eq_getElem hlt
  have e0 : (Term.static O _ d).eval a0 s0 none [] s0 = some cell.slots[f.slot] := Term.static_eval hi hst ha hcell hs hv
  have e1 : (Term.static O _ d).eval args U none [] U = some cell.slots[f.slot] := Term.static_eval (s := U) hi' hst (by rw [hek]; exact ha) (by rw [h3 a (Array.getElem?_eq_some_iff.mp hcell).1]; exact hcell) hs hv
  simp only [Cond.before, Cond.holds, Cond.value, e0] at hr0
  simp only [Cond.before, Cond.holds, Cond.value, e1]
  exact hr0
theorem ctT_nc {X : GX} {U : State} {H : Heap} (h : CtT X U H) {C T : String} (hx : Cond.not (.castable C T) ∈ flatC (Jvm.Cond.and given_1 narrow_1)) : va_Nc C T U := by
  obtain ⟨s0, a0, h1, h2, h3, h4, h5⟩ := h
  obtain ⟨c, t, e1, e2, e3⟩ := va_Nc.of (flat_of_before _ h5 _ hx)
  exact ⟨c, t, by rw [h1.alike.findClass]; exact e1, by rw [h1.alike.findClass]; exact e2, by rw [h1.alike.assignable]; exact e3⟩
-- the four classes that are thrown
def exN (k : Nat) : String := match k with
  | 0 => "java/lang/IllegalArgumentException"
  | 1 => "java/lang/IllegalStateException"
  | 2 => "java/lang/IndexOutOfBoundsException"
  | _ => "java/util/NoSuchElementException"
def exI (k : Nat) : Nat := match k with
  | 0 => 89
  | 1 => 92
  | 2 => 95
  | _ => 143
def exC (k : Nat) : Nat := match k with
  | 0 => 87
  | 1 => 90
  | 2 => 93
  | _ => 141
abbrev exL : List String := ["java/lang/RuntimeException", "java/lang/Exception"]
def XS : List Cond := [.laysStatic Bundle.tN "UNASSIGNED_STACK" Bundle.steD, .laysStatic Bundle.tN "SUPPRESSED_SENTINEL" Bundle.listD, .isRef (.static Bundle.tN "UNASSIGNED_STACK" Bundle.steD), .isRef (.static Bundle.tN "SUPPRESSED_SENTINEL" Bundle.listD),
  .declares (Bundle.init0 "java/lang/RuntimeException"), .declares (Bundle.init0 "java/lang/Exception"), .declares (Bundle.init0 "java/lang/Throwable"), .castable (exN 0) (exN 0), .castable (exN 1) (exN 1), .castable (exN 2) (exN 2), .castable (exN 3) (exN 3)]
theorem ex_in0 : ∀ a ∈ Bundle.ownAtoms0 "TableMachine" (exI 0) (exN 0) exL, a ∈ TB ∨ a ∈ XS := by decide +kernel
theorem ex_in1 : ∀ a ∈ Bundle.ownAtoms0 "TableMachine" (exI 1) (exN 1) exL, a ∈ TB ∨ a ∈ XS := by decide +kernel
theorem ex_in2 : ∀ a ∈ Bundle.ownAtoms0 "TableMachine" (exI 2) (exN 2) exL, a ∈ TB ∨ a ∈ XS := by decide +kernel
theorem ex_in3 : ∀ a ∈ Bundle.ownAtoms0 "TableMachine" (exI 3) (exN 3) exL, a ∈ TB ∨ a ∈ XS := by decide +kernel
theorem ex_in : ∀ k, k < 4 → ∀ a ∈ Bundle.ownAtoms0 "TableMachine" (exI k) (exN k) exL, a ∈ TB ∨ a ∈ XS := by
  intro k hk
  match k, hk with
  | 0, _ => exact ex_in0
  | 1, _ => exact ex_in1
  | 2, _ => exact ex_in2
  | 3, _ => exact ex_in3
theorem xs_T : (Cond.laysStatic Bundle.tN "UNASSIGNED_STACK" Bundle.steD ∈ tables_1 ∧ Cond.laysStatic Bundle.tN "SUPPRESSED_SENTINEL" Bundle.listD ∈ tables_1) ∧ (Cond.isRef (.static Bundle.tN "UNASSIGNED_STACK" Bundle.steD) ∈ flatC (Jvm.Cond.and given_1 narrow_1) ∧ Cond.isRef (.static Bundle.tN "SUPPRESSED_SENTINEL" Bundle.listD) ∈ flatC (Jvm.Cond.and given_1 narrow_1)) ∧
  (Cond.declares (Bundle.init0 "java/lang/RuntimeException") ∈ tables_1 ∧ Cond.declares (Bundle.init0 "java/lang/Exception") ∈ tables_1 ∧ Cond.declares (Bundle.init0 "java/lang/Throwable") ∈ tables_1) ∧ (∀ k, k < 4 → Cond.castable (exN k) (exN k) ∈ tables_1) := by decide +kernel
theorem xs_ok {X : GX} {U : State} (h : CtT X U U.heap) (args : Array Value) : ∀ a ∈ XS, a.before args U = true := by
  obtain ⟨⟨a1, a2⟩, ⟨b1, b2⟩, ⟨c1, c2, c3⟩, d⟩ := xs_T
  intro a ha
  simp only [XS, List.mem_cons, List.not_mem_nil, or_false] at ha
  rcases ha with rfl | rfl | rfl | rfl | rfl | rfl | rfl | rfl | rfl | rfl | rfl
  · exact ctT_lays h a1 args
  · exact ctT_lays h a2 args
  · exact ctT_ref h a1 b1 args
  · exact ctT_ref h a2 b2 args
  · exact ctT_decl h c1 args
  · exact ctT_decl h c2 args
  · exact ctT_decl h c3 args
  · exact ctT_cast h (d 0 (by decide)) args
  · exact ctT_cast h (d 1 (by decide)) args
  · exact ctT_cast h (d 2 (by decide)) args
  · exact ctT_cast h (d 3 (by decide)) args
theorem Fx.atoms {X : GX} {p : Program} {s : State} {m : MethodId} {c : Code} {cc : ByteArray} {nL : Nat} {args : Array Value} {own : String} (F : Fx X p s m c cc nL args own) {k : Nat} (hk : k < 4) : ∀ a ∈ Bundle.ownAtoms0 "TableMachine" (exI k) (exN k) exL, a.before args s = true := by
  intro a ha
  rcases ex_in k hk a ha with h | h
  · exact F.2.2.2.2.1 _ h
  · exact xs_ok F.2.2.2.2.2.2.2.2.2.2.2 args _ h
