/-! rows for the law's own body: everything that it has made lies behind what was there -/
def SL (X : GX) (n : Nat) (σ : Sg) (H0 H : Heap) (locs : List Loc) : Prop := nt σ = n ∧ Pic X σ H ∧ xb X = H0.size ∧ (∀ q : Nat, q < xb X → H[q]? = H0[q]?) ∧ ∀ l ∈ locs, xb X ≤ l.base
section LROWS
variable {X : GX} {p : Program} {l : Launch} {e : Env} {R : Room} {s : State} {m : MethodId} {args : Array Value} {below : List Frame} {meth : Method} {c : Code} {H : Heap} {locs : List Loc} {cells slots : Nat} {Q : State → Prop}
variable {cc : ByteArray} {pc nL n : Nat} {ls : Array Slot} {rest : List Value} {own : String} {σ σ' : Sg}
variable {y : MethodName} {bytes : ByteArray} {maxL index : Nat} {ret : Option FieldType} {rm : Room} {As : List Value} {r : Option Value}
theorem SL.fits {U : State} (hP : SL X n σ s.heap H locs) (hC : Ctx X s s.heap) (hW : s.WarmedH U.vm) (hU : U.heap = H) (av : List Value) : PcG X n σ av av.toArray U := ⟨rfl, hP.1, by rw [hU]; exact hC.go hW (fun q hq => hP.2.2.2.1 q hq), by rw [hU]; exact hP.2.1⟩
theorem SL.rf {n : Nat} {H : Heap} {H0 : Heap} {locs : List Loc} (hP : SL X n σ H0 H locs) : ∀ q, fr X n q → xb X ≤ q := by
  rintro q ⟨k', i', hk', hi', rfl⟩
  exact hP.2.1.2.2.2 k' i' hk' (by rw [hP.1]; exact hi')
theorem h_back {st0 : List Value} {a : Array Value} (hP : SL X n σ s.heap H locs) (hr : va_Run p l e R s m args below meth c H locs cells slots 0 0 (F0 m pc ls st0) rest (QcG X n σ' r a) (fr X n))
    (kk : ∀ (H1 : Heap) (locs1 : List Loc), SL X n σ' s.heap H1 locs1 → W p l e R s m args below meth c H1 locs1 cells slots Q (F0 m (pc + 3) ls (r.toList ++ rest))) : W p l e R s m args below meth c H locs cells slots Q (F0 m pc ls st0) := by
  intro T hT X1
  obtain ⟨v, st₀, t, T', L, h0, X', hL, e1, e2, ⟨hv, hn, hPic, hz, hk⟩, st⟩ := hr T hT X1
  cases hv
  rw [h0] at hz hk
  have hfr := hP.rf
  obtain ⟨t2, a1, b1⟩ := kk t.heap (locs ++ L) ⟨hn, hPic, hP.2.2.1, fun q hq => (hk q (fun z => by have := hfr q z; omega)).trans (hP.2.2.2.1 q hq), fun q hq => by
    rcases List.mem_append.mp hq with h | h
    · exact hP.2.2.2.2 q h
    · exact hfr _ (hL q h)⟩ T' e1 X'
  exact ⟨t2, st t2 a1, b1⟩
theorem h_callV (F : Fx X p s m c cc nL args own) (hP : SL X n σ s.heap H locs) (k i : Nat) (hk : k < 10) (hi : i < cnt n k) (hM : Met l y (cw y bytes maxL ret) rm (PcG X n σ (.ref (xL X k i) :: As)) (QcG X n σ' r) 0 0 (fr X n)) (hcls : y.cls = cN k)
    (hd : (parseMethodDescriptor y.desc).map (fun d => d.parameters.length) = some As.length) (hcode : Cond.code y bytes maxL ret ∈ TB) (hini : Cond.initialized (cN k) ∈ TB) (hlink : Cond.methodLink own index y ∈ TB) (hin : Cond.instanceMethod y ∈ TB) (hsel : Cond.selects (cN k) y y ∈ TB) (hrm : rm.cells = 0 ∧ rm.slots = 0) (hR : rm.frames + 1 ≤ R.frames ∧ 8 + (maxL + 11) + rm.locals ≤ R.locals)
    (hsize : ls.size = nL) (hW : (rest.map fun v => v.category).sum ≤ 8) (hc : cells ≤ R.cells ∧ slots ≤ R.slots) (hdg : decode cc pc = .ok (.invokevirtual index, 3)) {stk : List Value} (hstk : stk = As.reverse ++ .ref (xL X k i) :: rest)
    (kk : ∀ (H1 : Heap) (locs1 : List Loc), SL X n σ' s.heap H1 locs1 → W p l e R s m args below meth c H1 locs1 cells slots Q (F0 m (pc + 3) ls (r.toList ++ rest))) : W p l e R s m args below meth c H locs cells slots Q (F0 m pc ls stk) := by
  obtain ⟨hx, hb, hml, hown, hts, hC⟩ := F
  have hne : ∀ k, k < 10 → cN k ≠ "java/lang/invoke/MethodHandle" ∧ cN k ≠ "java/lang/invoke/VarHandle" := by decide +kernel
  have hrecv : ∃ cell : Cell, H[xL X k i]? = some cell ∧ cell.vm.isStatics = false ∧ s.vm.findClass (cN k) = some cell.cls := by
    obtain ⟨cell, q1, q2, q3, -⟩ := hP.2.1.1 k i hk (by rw [hP.1]; exact hi)
    exact ⟨cell, q1, by rw [q3]; rfl, by rw [q2]; exact (hC.1 k hk).2.1⟩
  refine h_back hP (va_runV (C := cN k) (b := xL X k i) (As := As) (n := As.length) (Ts := TB) (own := own) ⟨hx, hb, hml, hown, hts⟩ hM ⟨callB_of As.length hts (fun w hw => by
    rcases List.mem_cons.mp hw with rfl | hw
    · exact ⟨hcode, tb_good hcode⟩
    · exact ⟨hw, tb_good hw⟩) rfl hrm.1 hrm.2 (by rw [hcls]; exact hts _ hini) (hts _ hlink) ⟨by rw [hcls]; exact (hne k hk).1, by rw [hcls]; exact (hne k hk).2, hd⟩ hR, hts _ hin, hts _ hsel⟩ ⟨PcG.blind, hrecv, fun U hU hW => hP.fits hC hW hU _⟩ rfl rfl hsize hstk (lv_room hW) hdg ⟨by simpa using hc.1, by simpa using hc.2⟩) kk
theorem h_lld {i : Nat} (F : Fx X p s m c cc nL args own) (hP : SL X n σ s.heap H locs) (k : Nat) (hk0 : 10 ≤ k) (hk : k < 45) (hi : i < cnt n k) (hety : ety k = .long) (haty : aty k = 1) {q : Int32} (hin : vp_in q (alen k i)) (hdg : decode cc pc = .ok (.laload, 1))
    (kk : W p l e R s m args below meth c H locs cells slots Q (F0 m (pc + 1) ls (.long (gj σ k i q.toNatClampNeg) :: rest))) : W p l e R s m args below meth c H locs cells slots Q (F0 m pc ls (.int q :: .ref (xL X k i) :: rest)) := by
  obtain ⟨hx, hb, hml, hown, hts, hC⟩ := F
  obtain ⟨hn, hPic, -⟩ := hP
  have h9 := hPic.2.1 k i hk0 hk (by rw [hn]; exact hi)
  have harr := (hC.2.1 k hk0 hk).1
  rw [hety] at harr
  exact W.lald (v := .long (gj σ k i q.toNatClampNeg)) hx hb h9 (harr _ _) (fun z => by cases z) (by rw [arrV_size]; exact hin) (by rw [arrV_read _ _ (vin_lt hin)]; simp [av, haty]) rfl rfl hdg kk
/-- a cell of the script -/
theorem h_scr (F : Fx X p s m c cc nL args own) (hP : SL X n σ s.heap H locs) {b L : Nat} {xs : Nat → Int32} (hX : va_X b L xs s s.heap) (hbl : b < s.heap.size) {i : Int32} {a : Int32} (hin : vp_in i L) (ha : xs i.toNatClampNeg = a) (hdg : decode cc pc = .ok (.iaload, 1))
    (kk : W p l e R s m args below meth c H locs cells slots Q (F0 m (pc + 1) ls (.int a :: rest))) : W p l e R s m args below meth c H locs cells slots Q (F0 m pc ls (.int i :: .ref b :: rest)) := by
  subst ha
  obtain ⟨scr, h1, h2, h3, h4, h5⟩ := hX
  exact W.iald (v := .int (xs i.toNatClampNeg)) F.1 F.2.1 (by rw [hP.2.2.2.1 b (by rw [hP.2.2.1]; exact hbl)]; exact h1) h2 h3 (by rw [h4]; exact hin) (h5 _ (vin_lt hin)) rfl rfl hdg kk
/-- a call of one of the law's small methods -/
theorem h_runH {hh : List (Nat × Nat × Nat × Nat)} {mc ms : Nat} {Qc : Array Value → State → Outcome → State → Prop} {free : Addr → Prop} (F : Fx X p s m c cc nL args "TableMachineLaw") (hP : SL X n σ s.heap H locs) (hM : Met l y (ch y bytes maxL ret hh) rm (PcG X n σ As) Qc mc ms free)
    (hd : y.cls ≠ "java/lang/invoke/MethodHandle" ∧ y.cls ≠ "java/lang/invoke/VarHandle" ∧ (parseMethodDescriptor y.desc).map (fun d => d.parameters.length) = some As.length) (hcode : Cond.codeWith y bytes maxL ret hh ∈ TB) (hini : Cond.initialized y.cls ∈ TB) (hlink : Cond.methodLink "TableMachineLaw" index y ∈ TB) (hst : Cond.static y ∈ TB) (hrm : rm.cells = mc ∧ rm.slots = ms) (hR : rm.frames + 1 ≤ R.frames ∧ 8 + (maxL + 11) + rm.locals ≤ R.locals)
    (hsize : ls.size = nL) (hW : (rest.map fun v => v.category).sum ≤ 8) (hc : cells + mc ≤ R.cells ∧ slots + ms ≤ R.slots) (hdg : decode cc pc = .ok (.invokestatic index, 3)) {stk : List Value} (hstk : stk = As.reverse ++ rest) :
    va_Run p l e R s m args below meth c H locs cells slots mc ms (F0 m pc ls stk) rest (Qc As.toArray) free := by
  obtain ⟨hx, hb, hml, hown, hts, hC⟩ := F
  have hK : Back l R p e below s args y 3 8 (PreOf R mc ms (PcG X n σ As)) (PostOf Qc mc ms free) := va_backW (bytes := bytes) (maxL := maxL) (ret := ret) (hh := hh) hM PcG.blind hrm.1 hrm.2 hR.1 hR.2 (fun w hw a' U hW => by
    rcases List.mem_cons.mp hw with rfl | hw
    · exact word_at hW (tb_good hcode) (hts _ hcode)
    · exact word_at hW (tb_good hw) (hts _ hw)) List.mem_cons_self (fun a' U hW => word_at hW (tb_good hini) (hts _ hini))
  intro T hT X1
  obtain ⟨m9, methM, cM, hnamed, hmethM, -, -, -, -, -, -, hsigM⟩ := Cond.codeWith_spec (hts _ hcode)
  have hstatic : methM.isStatic = true := Cond.static_spec hnamed hmethM (hts _ hst)
  obtain ⟨kP, hkP, -⟩ := className_of_methodNamed hnamed
  have hinitP : kP.init = .initialized := Cond.initialized_spec (findClass_of_methodNamed hnamed) hkP (hts _ hini)
  have hlen : As.length = methM.sig.parameters.length := by
    have h2 := hd.2.2
    rw [hsigM] at h2
    exact (Option.some.inj h2).symm
  obtain ⟨vm₁, X₁, hstep₁⟩ := X1.invokestatic hx hown (hts _ hlink) hnamed hmethM hstatic hkP hinitP ⟨hd.1, hd.2.1⟩ (g := F0 m pc ls stk) rfl (argsL := As) (rest := rest) hlen hstk (by rw [hb]; exact hdg)
  obtain ⟨v, ⟨U', l2, c2, s2⟩, X', ⟨g', mk, t, L, e1, e2, hq, h1, hL, h2, h3⟩, hsteps⟩ := hK m meth c ⟨T.setVm vm₁, locs, cells, slots⟩ { F0 m pc ls stk with stack := rest } (.invokestatic index) m9 As.toArray X₁ rfl (hsize.trans hml.symm) (by rw [hb]; exact hdg) (lv_room hW) (X₁.named hnamed) ⟨hc.1, hc.2, hP.fits hC X₁.warmed hT As⟩
  dsimp only [Pt.U, Pt.locs, Pt.cells, Pt.slots] at X' e1 e2 h1 h2 h3 hsteps
  subst h1; subst h2; subst h3
  exact ⟨v, (T.setVm vm₁).calling g' mk As.toArray, t, U', L, hT, X', hL, e1, e2, hq, fun tg h => hstep₁ _ fun acts => by rw [doInvoke_state]; exact hsteps.trans h⟩
theorem h_callH {st0 : List Value} {a : Array Value} (hP : SL X n σ s.heap H locs) (hr : va_Run p l e R s m args below meth c H locs cells slots 1 6 (F0 m pc ls st0) rest (QcH X n σ' r a) (fr X n))
    (kk : ∀ (H1 : Heap) (locs1 : List Loc), SL X n σ' s.heap H1 locs1 → W p l e R s m args below meth c H1 locs1 (cells + 5) (slots + 728) Q (F0 m (pc + 3) ls (r.toList ++ rest))) : W p l e R s m args below meth c H locs cells slots Q (F0 m pc ls st0) := by
  intro T hT X1
  obtain ⟨v, st₀, t, T', L, h0, X', hL, e1, e2, ⟨hv, hn, hPic, hz, hk⟩, st⟩ := hr T hT X1
  cases hv
  rw [h0] at hz hk
  have hfr := hP.rf
  have hlt : xb X ≤ H.size := by
    obtain ⟨cell, q, -⟩ := hP.2.1.1 0 0 (by decide) Nat.zero_lt_one
    have h1 := (Array.getElem?_eq_some_iff.mp q).1
    have h2 := hP.2.1.2.2.2 0 0 (by decide) Nat.zero_lt_one
    omega
  obtain ⟨t2, a1, b1⟩ := W.widen (cells := cells + 1) (slots := slots + 6) (k := cells + 5) (n := slots + 728) (by omega) (by omega) (kk t.heap (locs ++ L) ⟨hn, hPic, hP.2.2.1, fun q hq => (hk q (by omega) (fun z => by have := hfr q z; omega)).trans (hP.2.2.2.1 q hq), fun q hq => by
    rcases List.mem_append.mp hq with h | h
    · exact hP.2.2.2.2 q h
    · exact hfr _ (hL q h)⟩) T' e1 X'
  exact ⟨t2, st t2 a1, b1⟩
theorem uX_xb {X : GX} {n n' h : Nat} : xb (uX X n n' h) = xb X := by
  unfold uX
  split <;> rfl
theorem uX_old {X : GX} {n n' h k i : Nat} (hi : i < cnt n k) : xL (uX X n n' h) k i = xL X k i := by
  unfold uX
  split
  · rfl
  · exact tX_old hi
theorem h_callT {st0 : List Value} {a : Array Value} (F : Fx X p s m c cc nL args own) (hP : SL X n σ s.heap H locs) (hr : va_Run p l e R s m args below meth c H locs cells slots 5 728 (F0 m pc ls st0) rest (QcW X n σ' r a) (eA X))
    (kk : ∀ (X' : GX) (H1 : Heap) (locs1 : List Loc), Fx X' p s m c cc nL args own → (∀ k, k < 45 → 0 < cnt n k → xL X' k 0 = xL X k 0) → SL X' (nt σ') σ' s.heap H1 locs1 → W p l e R s m args below meth c H1 locs1 (cells + 5) (slots + 728) Q (F0 m (pc + 3) ls (r.toList ++ rest))) : W p l e R s m args below meth c H locs cells slots Q (F0 m pc ls st0) := by
  intro T hT X1
  obtain ⟨v, st₀, t, T', L, h0, X', hL, e1, e2, ⟨hv, hPic, hz, hk⟩, st⟩ := hr T hT X1
  cases hv
  rw [h0] at hz hk hPic
  have F' : Fx (uX X n (nt σ') H.size) p s m c cc nL args own := by
    unfold uX
    split
    · exact F
    · exact F
  obtain ⟨t2, a1, b1⟩ := kk (uX X n (nt σ') H.size) t.heap (locs ++ L) F' (fun k _ hi => uX_old hi) ⟨rfl, hPic, by rw [uX_xb]; exact hP.2.2.1, fun q hq => by rw [uX_xb] at hq; exact (hk q hq).trans (hP.2.2.2.1 q hq), fun q hq => by
    rw [uX_xb]
    rcases List.mem_append.mp hq with h | h
    · exact hP.2.2.2.2 q h
    · exact hL q h⟩ T' e1 X'
  exact ⟨t2, st t2 a1, b1⟩
end LROWS
