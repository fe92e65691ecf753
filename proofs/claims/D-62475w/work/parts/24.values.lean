theorem d_Op_values_0 : decode b_Op_values 0 = .ok (.getstatic 70, 3) := by decide +kernel
theorem d_Op_values_3 : decode b_Op_values 3 = .ok (.invokevirtual 74, 3) := by decide +kernel
theorem d_Op_values_6 : decode b_Op_values 6 = .ok (.checkcast 75, 3) := by decide +kernel
theorem d_Op_values_9 : decode b_Op_values 9 = .ok (.areturn, 1) := by decide +kernel
/-! Op.values: the array of the constants, copied -/
def CtV (X : GX) (U : State) (H : Heap) : Prop := ∃ v : Nat, va_Z "TableMachine$Op" "$VALUES" "[LTableMachine$Op;" (.ref v) (eA X) U H ∧ v < xb X ∧ ∃ cell : Cell, H[v]? = some cell ∧ (∀ k, cell.vm ≠ .statics k) ∧ cell.vm ≠ .unknown ∧ cell.cls = xE X 18 ∧ cell.slots = (arrV (xE X 18) 22 (fun j => .ref (xad X j))).slots
theorem CtV.go {X : GX} {s U : State} {H0 H : Heap} (h : CtV X s H0) (hW : s.WarmedH U.vm) (hk : ∀ q : Nat, q < xb X → H[q]? = H0[q]?) : CtV X U H := by
  obtain ⟨v, h1, h2, cell, h3, h4⟩ := h
  exact ⟨v, (va_Z.moved hW.alike h1).kept (fun a _ hn => hk a (Nat.not_le.mp hn)), h2, cell, by rw [hk v h2]; exact h3, h4⟩
def PcV (X : GX) (σ : Sg) (Al : Nat → Nat → Bool) (A : Nat → Nat → Nat → Bool) (N : Nat) (av : List Value) : Array Value → State → Prop := fun v U => PcP X σ Al A N av v U ∧ CtV X U U.heap
theorem PcV.blind {X : GX} {σ : Sg} {Al : Nat → Nat → Bool} {A : Nat → Nat → Nat → Bool} {N : Nat} {av : List Value} : FrameBlind (PcV X σ Al A N av) := fun a U g mk q => ⟨PcP.blind a U g mk q.1, q.2.go (U := U.calling g mk a) (State.WarmedH.refl U) (fun _ _ => rfl)⟩
theorem SP.vaS {X : GX} {σ : Sg} {Al : Nat → Nat → Bool} {A : Nat → Nat → Nat → Bool} {N : Nat} {s : State} {H : Heap} {locs : List Loc} (hs : s.heap.size ≤ H.size) (hP : SP X σ Al A N s.heap H locs) : va_S (eA X) s.heap H locs := ⟨hs, fun q _ h => hP.2.2.2.1 q (Nat.not_le.mp h), hP.2.2.2.2⟩
theorem c_Op_values (l : Launch) (X : GX) (σ : Sg) (Al : Nat → Nat → Bool) (A : Nat → Nat → Nat → Bool) (N : Nat) (hx : xL X 18 0 = N) :
    Met l y_Op_values (cw y_Op_values b_Op_values 0 (some (.array (.object "TableMachine$Op")))) { frames := 1, cells := 1, slots := 22, locals := 100 } (PcV X σ Al A N []) (QcP X σ (uL Al 18 0) A (N + 1) (some (.ref (xL X 18 0)))) 1 22 (eA X) := by
  refine Met.ofW (cc := b_Op_values) (maxL := 0) (ret := some (.array (.object "TableMachine$Op"))) (by decide) rfl ?_
  intro p e s m args below meth c s₁ B hml hv
  obtain ⟨⟨ha, hC, hPP, hn, hxb⟩, v, hZ, hvl, cv, hvc, hv1, hv2, hv3, hv4⟩ := hv
  obtain ⟨ls, hl, he⟩ := g_entry (m := m) (N := 0) ha (Nat.le_of_ble_eq_true rfl)
  have hts := tb_of (atoms_spec (ws := cw y_Op_values b_Op_values 0 (some (.array (.object "TableMachine$Op")))) B.pre)
  have hown : s.vm.findClass "TableMachine$Op" = some m.cls := findClass_of_methodNamed B.named
  have F : Fx X p s m c b_Op_values 0 args "TableMachine$Op" := ⟨B.exec, B.bytes, hml, hown, hts, hC⟩
  have hP : SP X σ Al A N s.heap s.heap [] := ⟨hPP, hn, hxb, fun _ _ => rfl, fun _ h => by cases h⟩
  refine W.eq he ?_
  refine va_gets F.1 F.2.1 hZ (hP.vaS (Nat.le_refl _)) hown (hts _ w_102) (fun _ h => h) d_Op_values_0 ?_
  obtain ⟨kA, comp, r1, r2, r3, r4⟩ := (hC.2.1 18 (by decide) (by decide)).2
  have hnm : s.vm.findClass "[LTableMachine$Op;" = some (xE X 18) := by
    have e0 : "[" ++ (FieldType.object "TableMachine$Op").toString = "[LTableMachine$Op;" := by decide +kernel
    rw [← e0]; exact r4
  have hcast := ctT_cast hC.2.2.2.2.2.2 (t1_in (i := 109) rfl) args
  obtain ⟨c0, t0, f1, f2, f3⟩ := Cond.castable_spec hcast
  cases hnm.symm.trans f1
  have key : W p l e { frames := 1, cells := 1, slots := 22, locals := 100 } s m args below meth c (s.heap.push (arrV (xE X 18) 22 (fun j => .ref (xad X j)))) [] 1 22 (MQ below (QcP X σ (uL Al 18 0) A (N + 1) (some (.ref (xL X 18 0)))) args s 1 22 (eA X)) (F0 m 6 ls [.ref s.heap.size]) := by
    have hnew : (s.heap.push (arrV (xE X 18) 22 (fun j => .ref (xad X j))))[s.heap.size]? = some (arrV (xE X 18) 22 (fun j => .ref (xad X j))) := Array.getElem?_push_size
    intro T hT X1
    obtain ⟨vm', X', st⟩ := X1.checkcastYes F.1 hown (hts _ w_111) (by rw [hT]; exact hnew) rfl hnm (va_asg _ _) (g := F0 m 6 ls [.ref s.heap.size]) rfl rfl (by rw [F.2.1]; exact d_Op_values_6)
    suffices k : W p l e { frames := 1, cells := 1, slots := 22, locals := 100 } s m args below meth c (s.heap.push (arrV (xE X 18) 22 (fun j => .ref (xad X j)))) [] 1 22 (MQ below (QcP X σ (uL Al 18 0) A (N + 1) (some (.ref (xL X 18 0)))) args s 1 22 (eA X)) (F0 m 9 ls [.ref s.heap.size]) by
      obtain ⟨t, a1, b1⟩ := k (T.setVm vm') hT X'
      exact ⟨t, st t a1, b1⟩
    clear st X' X1 hT T
    have e1 : s.heap.size = xL X 18 0 := by rw [hx]; exact hn
    rw [e1]
    refine W.aret F.1 F.2.1 B.returns (Or.inr ⟨_, rfl⟩) (Or.inr ⟨_, rfl⟩) (fun t ht _ => ⟨rfl, ?_, ?_, fun q hq => ?_⟩) (fun q hq => by cases hq) d_Op_values_9 B.notSynchronized
    · rw [ht]
      refine hPP.grow (by rw [hx, hn]) (by omega) (fun q hq => by rw [Array.getElem?_push, if_neg (Nat.ne_of_lt hq)]) (fun h => absurd h (by decide)) (fun _ _ => ?_)
      rw [← e1, hnew]
      rfl
    · rw [ht, Array.size_push, hn]
    · rw [ht, Array.getElem?_push, if_neg (by omega)]
  intro T hT X1
  have hcellT : T.heap[v]? = some cv := by rw [hT]; exact hvc
  have hAT := (hC.2.1 18 (by decide) (by decide)).1
  obtain ⟨-, kA2, hkA2, comp2, hkind2⟩ := State.isArrayOf_alike X1.warmed.alike (hAT 0 (fun _ => .null))
  obtain ⟨-, kS, hkS, compS, hkindS⟩ := hAT 0 (fun _ => .null)
  obtain ⟨vm', X', st⟩ := X1.cloneArray F.1 hown (hts _ w_104) (hts _ w_105) (hts _ w_106) (hts _ w_107) (hts _ w_108) (a := v) (cell := cv) hcellT hv1 hv2 (by rw [hv3]; exact hnm) f2 (by rw [hv3]; exact f3)
    (fun i v hv => by
      have hk' : T.vm.classes[xE X 18]? = some kA2 := hkA2
      rw [hv4] at hv
      have h9 : fits (.object "TableMachine$Op") v = true := va_fit (fun i _ => rfl) i v hv
      have hk2 : kA2.kind = .array comp2 (.object "TableMachine$Op") := hkind2
      rw [hv3]
      simpa [State.fitsSlot, State.slotType?, hk', hk2] using h9)
    (g := F0 m 3 ls [.ref v]) rfl (by rw [hml]; exact hl.1) rfl (by rw [F.2.1]; exact d_Op_values_3) (Nat.le_of_ble_eq_true rfl) (Nat.le_of_ble_eq_true rfl) (Nat.le_of_ble_eq_true rfl) (by rw [hv4, arrV_size]; exact Nat.le_of_ble_eq_true rfl) (hloader := by rw [hv3]; exact Vm.clonesLoader_of_array hkS hkindS)
  rw [hv4, arrV_size, hv3] at X'
  rw [hv4, hv3] at st
  obtain ⟨t, a1, b1⟩ := key _ (by show (T.heap.push _) = _; rw [hT]; rfl) X'
  rw [hT] at st
  exact ⟨t, st _ a1, b1⟩
section PVAL
variable {X : GX} {p : Program} {l : Launch} {e : Env} {R : Room} {s : State} {m : MethodId} {args : Array Value} {below : List Frame} {meth : Method} {c : Code} {H : Heap} {locs : List Loc} {cells slots : Nat} {Q : State → Prop}
variable {cc : ByteArray} {pc nL N : Nat} {ls : Array Slot} {rest : List Value} {own : String} {σ : Sg} {Al : Nat → Nat → Bool} {A : Nat → Nat → Nat → Bool} {index : Nat}
theorem p_values (F : Fx X p s m c cc nL args own) (hP : SP X σ Al A N s.heap H locs) (hx : xL X 18 0 = N) (hV : CtV X s s.heap) (hsize : ls.size = nL) (hR : 2 ≤ R.frames ∧ 200 ≤ R.locals) (hW : (rest.map fun v => v.category).sum ≤ 8) (hc : cells + 1 ≤ R.cells ∧ slots + 22 ≤ R.slots) (hlink : Cond.methodLink own index y_Op_values ∈ TB) (hdg : decode cc pc = .ok (.invokestatic index, 3))
    (kk : ∀ (H1 : Heap) (locs1 : List Loc), SP X σ (uL Al 18 0) A (N + 1) s.heap H1 locs1 → W p l e R s m args below meth c H1 locs1 (cells + 1) (slots + 22) Q (F0 m (pc + 3) ls (.ref (xL X 18 0) :: rest))) : W p l e R s m args below meth c H locs cells slots Q (F0 m pc ls rest) := by
  obtain ⟨hx0, hb, hml, hown, hts, hC⟩ := F
  have hG : GoodIn TB (cw y_Op_values b_Op_values 0 (some (.array (.object "TableMachine$Op")))) := fun w hw => by
    rcases List.mem_cons.mp hw with rfl | hw
    · exact ⟨w_101, tb_good w_101⟩
    · exact ⟨hw, tb_good hw⟩
  exact p_back hP (Nat.le_succ N) (va_runS (As := []) (n := 0) (Ts := TB) (own := own) ⟨hx0, hb, hml, hown, hts⟩ (c_Op_values l X σ Al A N hx) ⟨callB_of 0 hts hG rfl rfl rfl (hts _ w_7) (hts _ hlink) ⟨by decide, by decide, q_Op_values⟩ ⟨by show 1 + 1 ≤ _; omega, by show 8 + (0 + 11) + 100 ≤ _; omega⟩, hts _ w_100⟩ ⟨PcV.blind, fun U hU hW => ⟨hP.fits hC hW hU _, hV.go hW (fun q hq => by rw [hU]; exact hP.2.2.2.1 q hq)⟩⟩ rfl rfl hsize rfl (lv_room hW) hdg hc) kk
end PVAL
