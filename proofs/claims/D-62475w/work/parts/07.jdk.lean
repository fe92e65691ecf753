/-! the JDK's members that are called: String.charAt and what it calls, Enum.ordinal -/
abbrev WG (l : Launch) (X : GX) (n : Nat) (rm : Room) (σ' : Sg) (r : Option Value) (p : Program) (e : Env) (s : State) (m : MethodId) (args : Array Value) (below : List Frame) (meth : Method) (c : Code) (H : Heap) (locs : List Loc) (g : JFrame) : Prop := W p l e rm s m args below meth c H locs 0 0 (MQ below (QcG X n σ' r) args s 0 0 (fr X n)) g
theorem lt_some2 {α β : Type} {a : α} {k : α → Option β} {r : β} (h : lt_ a k = some r) : ∃ x, a = x ∧ k x = some r := ⟨a, rfl, h⟩
def sE {α β γ : Type} (f : α → Option γ) (g : β → Option γ) (q : α ⊕ β) : Option γ := match q with
  | .inl a => f a
  | .inr b => g b
theorem sE_l {α β γ : Type} (f : α → Option γ) (g : β → Option γ) (a : α) : sE f g (.inl a) = f a := rfl
theorem sE_r {α β γ : Type} (f : α → Option γ) (g : β → Option γ) (b : β) : sE f g (.inr b) = g b := rfl
def sP {α β : Type} (f : α → Prop) (g : β → Prop) (q : α ⊕ β) : Prop := match q with
  | .inl a => f a
  | .inr b => g b
theorem o02 : (0 : Nat) < 2 := by decide
theorem o12 : (1 : Nat) < 2 := by decide
theorem St.lt {X : GX} {n : Nat} {σ : Sg} {H0 H : Heap} {locs : List Loc} (hP : St X n σ H0 H locs) {t : Nat} (h : t < nt σ) : t < cnt n 3 := by
  show t < n
  rw [← hP.1]; exact h
theorem ve11 {n : Nat} {q : Int32} (h : vp_in q 240) : q.toNatClampNeg < cnt n 2 := by
  have := vin_lt h
  show _ < 240 + n
  omega
theorem ve15 {n i : Nat} {q : Int32} (hi : i < cnt n 15) (h : vp_in q 4) : 4 * i + q.toNatClampNeg < cnt n 5 := by
  have := vin_lt h
  have h2 : i < 2 := hi
  show _ < 280
  omega
theorem ve20 {n : Nat} {q : Int32} (h : vp_in q 16) : 8 + q.toNatClampNeg < cnt n 5 := by
  have := vin_lt h
  show _ < 280
  omega
theorem ve22 {n : Nat} {q : Int32} (h : vp_in q 256) : 24 + q.toNatClampNeg < cnt n 5 := by
  have := vin_lt h
  show _ < 280
  omega
section GJDK
variable {X : GX} {p : Program} {l : Launch} {e : Env} {R : Room} {s : State} {m : MethodId} {args : Array Value} {below : List Frame} {meth : Method} {c : Code} {H : Heap} {locs : List Loc} {cells slots : Nat} {Q : State → Prop}
variable {cc : ByteArray} {pc nL n : Nat} {ls : Array Slot} {rest : List Value} {own : String} {σ : Sg}
theorem g_sget (F : Fx X p s m c cc nL args own) (hP : St X n σ s.heap H locs) {C nm d : String} {v : Value} (hZ : va_Z C nm d v (eA X) s s.heap) {index : Nat} (hlink : Cond.fieldLink own index C nm d ∈ TB) (hdg : decode cc pc = .ok (.getstatic index, 3))
    (kk : W p l e R s m args below meth c H locs cells slots Q (F0 m (pc + 3) ls (v :: rest))) : W p l e R s m args below meth c H locs cells slots Q (F0 m pc ls rest) :=
  va_gets F.1 F.2.1 hZ hP.vaS F.2.2.2.1 (F.2.2.2.2.1 _ hlink) (fun _ h => h) hdg kk
theorem g_oget (F : Fx X p s m c cc nL args own) (hP : St X n σ s.heap H locs) {o nm d : String} {v : Value} {q : Nat} (hE : va_OF o nm d v q (eA X) s s.heap) {index : Nat} (hlink : Cond.fieldLink own index o nm d ∈ TB) (hdg : decode cc pc = .ok (.getfield index, 3))
    (kk : W p l e R s m args below meth c H locs cells slots Q (F0 m (pc + 3) ls (v :: rest))) : W p l e R s m args below meth c H locs cells slots Q (F0 m pc ls (.ref q :: rest)) :=
  vk_getf F.1 F.2.1 hE hP.vaS F.2.2.2.1 (F.2.2.2.2.1 _ hlink) (fun _ h => h) hdg kk
variable {y : MethodName} {bytes : ByteArray} {maxL index : Nat} {ret : Option FieldType} {rm : Room} {As : List Value} {σ' : Sg} {r : Option Value}
theorem g_callX (F : Fx X p s m c cc nL args own) (hP : St X n σ s.heap H locs) {b : Nat} {C : String} (hrecv : ∃ cell : Cell, H[b]? = some cell ∧ cell.vm.isStatics = false ∧ s.vm.findClass C = some cell.cls) (hM : Met l y (cw y bytes maxL ret) rm (PcG X n σ (.ref b :: As)) (QcG X n σ' r) 0 0 (fr X n))
    (hd : y.cls ≠ "java/lang/invoke/MethodHandle" ∧ y.cls ≠ "java/lang/invoke/VarHandle" ∧ (parseMethodDescriptor y.desc).map (fun d => d.parameters.length) = some As.length) (hcode : Cond.code y bytes maxL ret ∈ TB) (hini : Cond.initialized y.cls ∈ TB) (hlink : Cond.methodLink own index y ∈ TB) (hin : Cond.instanceMethod y ∈ TB) (hsel : Cond.selects C y y ∈ TB) (hrm : rm.cells = 0 ∧ rm.slots = 0) (hR : rm.frames + 1 ≤ R.frames ∧ 8 + (maxL + 11) + rm.locals ≤ R.locals)
    (hsize : ls.size = nL) (hW : (rest.map fun v => v.category).sum ≤ 8) (hc : cells ≤ R.cells ∧ slots ≤ R.slots) (hdg : decode cc pc = .ok (.invokevirtual index, 3)) {stk : List Value} (hstk : stk = As.reverse ++ .ref b :: rest)
    (kk : ∀ (H1 : Heap) (locs1 : List Loc), St X n σ' s.heap H1 locs1 → W p l e R s m args below meth c H1 locs1 cells slots Q (F0 m (pc + 3) ls (r.toList ++ rest))) : W p l e R s m args below meth c H locs cells slots Q (F0 m pc ls stk) := by
  obtain ⟨hx, hb, hml, hown, hts, hC⟩ := F
  refine g_back hP (va_runV (C := C) (b := b) (As := As) (n := As.length) (Ts := TB) (own := own) ⟨hx, hb, hml, hown, hts⟩ hM ⟨callB_of As.length hts (fun w hw => by
    rcases List.mem_cons.mp hw with rfl | hw
    · exact ⟨hcode, tb_good hcode⟩
    · exact ⟨hw, tb_good hw⟩) rfl hrm.1 hrm.2 (hts _ hini) (hts _ hlink) hd hR, hts _ hin, hts _ hsel⟩ ⟨PcG.blind, hrecv, fun U hU hW => hP.fits hC hW hU _⟩ rfl rfl hsize hstk (lv_room hW) hdg ⟨by simpa using hc.1, by simpa using hc.2⟩) kk
theorem g_zret' (F : Fx X p s m c cc nL args own) (hP : St X n σ s.heap H locs) {ty : FieldType} (hr : meth.sig.returnType = some ty) (hlocks : meth.locks = false) {v : Int32} (hz : narrow ty (.int v) = .int v) (hdg : decode cc pc = .ok (.ireturn, 1)) : W p l e R s m args below meth c H locs 0 0 (MQ below (QcG X n σ (some (.int v))) args s 0 0 (fr X n)) (F0 m pc ls [.int v]) :=
  W.zret F.1 F.2.1 hr hz (fun t ht _ => g_end hP ht) hP.2.2.2.2 hdg hlocks
end GJDK
abbrev rm_leaf : Room := { frames := 0, cells := 0, slots := 0, locals := 0 }
theorem d_Pc_0 : decode b_Precond_checkIndex 0 = .ok (.iload_n 0, 1) := by decide +kernel
theorem d_Pc_1 : decode b_Precond_checkIndex 1 = .ok (.ifCond .lt 8, 3) := by decide +kernel
theorem d_Pc_4 : decode b_Precond_checkIndex 4 = .ok (.iload_n 0, 1) := by decide +kernel
theorem d_Pc_5 : decode b_Precond_checkIndex 5 = .ok (.iload_n 1, 1) := by decide +kernel
theorem d_Pc_6 : decode b_Precond_checkIndex 6 = .ok (.if_icmp .lt 10, 3) := by decide +kernel
theorem d_Pc_16 : decode b_Precond_checkIndex 16 = .ok (.iload_n 0, 1) := by decide +kernel
theorem d_Pc_17 : decode b_Precond_checkIndex 17 = .ok (.ireturn, 1) := by decide +kernel
theorem c_Precond (l : Launch) (X : GX) (n : Nat) {σ : Sg} {i len : Int32} {fmt : Value} (hf : fmt = .null ∨ ∃ a, fmt = .ref a) (h0 : ¬ i < 0) (h1 : i < len) : Met l y_Precond_checkIndex (cw y_Precond_checkIndex b_Precond_checkIndex 3 (some .int)) rm_leaf (PcG X n σ [.int i, .int len, fmt]) (QcG X n σ (some (.int i))) 0 0 (fr X n) := by
  have hc : fmt.category = 1 := by rcases hf with rfl | ⟨a, rfl⟩ <;> rfl
  refine g_head (own := "jdk/internal/util/Preconditions") (by decide) rfl (by rcases hf with rfl | ⟨a, rfl⟩ <;> exact Nat.le_of_ble_eq_true rfl) ?_
  intro p e s m args below meth c ls F hr hlk hP hl
  have hl : lv_has ls 3 [(0, .int i), (1, .int len), (2, fmt)] := by rcases hf with rfl | ⟨a, rfl⟩ <;> exact hl
  refine lv_iload_n F.1 F.2.1 d_Pc_0 rfl (lv_at hl 0 rfl) ?_
  refine lv_if_lt F.1 F.2.1 d_Pc_1 rfl (fun h => absurd h h0) (fun _ => ?_)
  refine lv_iload_n F.1 F.2.1 d_Pc_4 rfl (lv_at hl 0 rfl) ?_
  refine lv_iload_n F.1 F.2.1 d_Pc_5 rfl (lv_at hl 1 rfl) ?_
  refine lv_icmp_lt F.1 F.2.1 d_Pc_6 rfl (fun _ => ?_) (fun h => absurd h1 h)
  refine lv_iload_n F.1 F.2.1 d_Pc_16 rfl (lv_at hl 0 rfl) ?_
  exact g_iret F hP hr hlk d_Pc_17
theorem d_Sc_0 : decode b_String_checkIndex 0 = .ok (.iload_n 0, 1) := by decide +kernel
theorem d_Sc_1 : decode b_String_checkIndex 1 = .ok (.iload_n 1, 1) := by decide +kernel
theorem d_Sc_2 : decode b_String_checkIndex 2 = .ok (.getstatic 1053, 3) := by decide +kernel
theorem d_Sc_5 : decode b_String_checkIndex 5 = .ok (.invokestatic 1059, 3) := by decide +kernel
theorem d_Sc_8 : decode b_String_checkIndex 8 = .ok (.pop, 1) := by decide +kernel
theorem d_Sc_9 : decode b_String_checkIndex 9 = .ok (.return_, 1) := by decide +kernel
abbrev rm_Sc : Room := { frames := 1, cells := 0, slots := 0, locals := 22 }
theorem c_Scheck (l : Launch) (X : GX) (n : Nat) {σ : Sg} {i len : Int32} (h0 : ¬ i < 0) (h1 : i < len) : Met l y_String_checkIndex (cw y_String_checkIndex b_String_checkIndex 2 none) rm_Sc (PcG X n σ [.int i, .int len]) (QcG X n σ none) 0 0 (fr X n) := by
  refine g_head (own := "java/lang/String") (by decide) rfl (Nat.le_of_ble_eq_true rfl) ?_
  intro p e s m args below meth c ls F hr hlk hP hl
  have hl : lv_has ls 2 [(0, .int i), (1, .int len)] := hl
  refine lv_iload_n F.1 F.2.1 d_Sc_0 rfl (lv_at hl 0 rfl) ?_
  refine lv_iload_n F.1 F.2.1 d_Sc_1 rfl (lv_at hl 1 rfl) ?_
  have K : ∀ v : Value, (v = .null ∨ ∃ a, v = .ref a) → va_Z "jdk/internal/util/Preconditions" "SIOOBE_FORMATTER" "Ljava/util/function/BiFunction;" v (eA X) s s.heap → W p l e rm_Sc s m args below meth c s.heap [] 0 0 (MQ below (QcG X n σ none) args s 0 0 (fr X n)) (F0 m 2 ls [.int len, .int i]) := by
    intro v hv hZ
    refine g_sget F hP hZ w_664 d_Sc_2 ?_
    refine g_callS (As := [.int i, .int len, v]) (rest := []) F hP (c_Precond l X n hv h0 h1) ⟨by decide, by decide, q_Precond_checkIndex⟩ w_668 w_21 w_666 w_667 ⟨rfl, rfl⟩ ⟨by decide, by decide⟩ hl.1 (Nat.le_of_ble_eq_true rfl) ⟨Nat.zero_le _, Nat.zero_le _⟩ d_Sc_5 rfl (fun H locs hP => ?_)
    refine W.eq (g2 := F0 m 8 ls [.int i]) rfl ?_
    refine lv_pop F.1 F.2.1 d_Sc_8 rfl ?_
    exact g_vret F hP hr hlk d_Sc_9
  rcases F.2.2.2.2.2.2.2.2.2.2.1 with h | ⟨t, h⟩
  · exact K _ (Or.inl rfl) h
  · exact K _ (Or.inr ⟨t, rfl⟩) h
theorem chr_ok : ∀ o, o < 22 → ∀ j, j < 3 → ((chr o j &&& 255).toUInt32 % 65536).toInt32 = chr o j ∧ narrow .char (.int (chr o j)) = .int (chr o j) := by decide +kernel
theorem d_L_0 : decode b_Latin1_charAt 0 = .ok (.iload_n 1, 1) := by decide +kernel
theorem d_L_1 : decode b_Latin1_charAt 1 = .ok (.aload_n 0, 1) := by decide +kernel
theorem d_L_2 : decode b_Latin1_charAt 2 = .ok (.arraylength, 1) := by decide +kernel
theorem d_L_3 : decode b_Latin1_charAt 3 = .ok (.invokestatic 9, 3) := by decide +kernel
theorem d_L_6 : decode b_Latin1_charAt 6 = .ok (.aload_n 0, 1) := by decide +kernel
theorem d_L_7 : decode b_Latin1_charAt 7 = .ok (.iload_n 1, 1) := by decide +kernel
theorem d_L_8 : decode b_Latin1_charAt 8 = .ok (.baload, 1) := by decide +kernel
theorem d_L_9 : decode b_Latin1_charAt 9 = .ok (.sipush 255, 3) := by decide +kernel
theorem d_L_12 : decode b_Latin1_charAt 12 = .ok (.iand, 1) := by decide +kernel
theorem d_L_13 : decode b_Latin1_charAt 13 = .ok (.i2c, 1) := by decide +kernel
theorem d_L_14 : decode b_Latin1_charAt 14 = .ok (.ireturn, 1) := by decide +kernel
abbrev rm_L : Room := { frames := 2, cells := 0, slots := 0, locals := 43 }
theorem vin3 {w : Int32} (h : vp_in w 3) : ¬ w < 0 ∧ w < 3 := by
  refine ⟨fun q => h (Or.inl q), ?_⟩
  obtain ⟨j, hj, e⟩ := vp_in_of h (by decide)
  rw [e]
  exact nI_lt (a := j) (b := 3) hj (by decide)
theorem c_Latin1 (l : Launch) (X : GX) (n : Nat) {σ : Sg} {o : Nat} (ho : o < 22) {w : Int32} (hw : vp_in w 3) : Met l y_Latin1_charAt (cw y_Latin1_charAt b_Latin1_charAt 2 (some .char)) rm_L (PcG X n σ [.ref (xsv X o), .int w]) (QcG X n σ (some (.int (chr o w.toNatClampNeg)))) 0 0 (fr X n) := by
  refine g_head (own := "java/lang/StringLatin1") (by decide) rfl (Nat.le_of_ble_eq_true rfl) ?_
  intro p e s m args below meth c ls F hr hlk hP hl
  have hl : lv_has ls 2 [(0, .ref (xsv X o)), (1, .int w)] := hl
  have hT := (F.2.2.2.2.2.2.2.2.1 o ho).2.2.2.2.2.2.2
  refine lv_iload_n F.1 F.2.1 d_L_0 rfl (lv_at hl 1 rfl) ?_
  refine lv_aload_n F.1 F.2.1 d_L_1 rfl (lv_at hl 0 rfl) ?_
  obtain ⟨cell, h1, h2, h3, h4, h5, h6, h7⟩ := hT
  refine W.alen (n := 3) F.1 F.2.1 h1 h2 h5 rfl rfl d_L_2 ?_
  refine g_callS (As := [.int w, .int 3]) (rest := []) F hP (c_Scheck l X n (vin3 hw).1 (vin3 hw).2) ⟨by decide, by decide, q_String_checkIndex⟩ w_663 w_19 w_661 w_662 ⟨rfl, rfl⟩ ⟨by decide, by decide⟩ hl.1 (Nat.le_of_ble_eq_true rfl) ⟨Nat.zero_le _, Nat.zero_le _⟩ d_L_3 rfl (fun H locs hP => ?_)
  refine W.eq (g2 := F0 m 6 ls []) rfl ?_
  refine lv_aload_n F.1 F.2.1 d_L_6 rfl (lv_at hl 0 rfl) ?_
  refine lv_iload_n F.1 F.2.1 d_L_7 rfl (lv_at hl 1 rfl) ?_
  refine va_tb (v := .int (chr o w.toNatClampNeg)) F.1 F.2.1 (F.2.2.2.2.2.2.2.2.1 o ho).2.2.2.2.2.2.2 hP.vaS hw rfl d_L_8 ?_
  refine lv_sipush (v := 255) F.1 F.2.1 d_L_9 (by decide) ?_
  refine lv_iand F.1 F.2.1 d_L_12 ?_
  refine lv_i2c F.1 F.2.1 d_L_13 (chr_ok o ho _ (vin_lt hw)).1 ?_
  exact g_zret' F hP hr hlk (chr_ok o ho _ (vin_lt hw)).2 d_L_14
theorem d_I_0 : decode b_String_isLatin1 0 = .ok (.getstatic 38, 3) := by decide +kernel
theorem d_I_3 : decode b_String_isLatin1 3 = .ok (.ifCond .eq 14, 3) := by decide +kernel
theorem d_I_6 : decode b_String_isLatin1 6 = .ok (.aload_n 0, 1) := by decide +kernel
theorem d_I_7 : decode b_String_isLatin1 7 = .ok (.getfield 15, 3) := by decide +kernel
theorem d_I_10 : decode b_String_isLatin1 10 = .ok (.ifCond .ne 7, 3) := by decide +kernel
theorem d_I_13 : decode b_String_isLatin1 13 = .ok (.iconst 1, 1) := by decide +kernel
theorem d_I_14 : decode b_String_isLatin1 14 = .ok (.goto 4, 3) := by decide +kernel
theorem d_I_18 : decode b_String_isLatin1 18 = .ok (.ireturn, 1) := by decide +kernel
theorem c_isLatin1 (l : Launch) (X : GX) (n : Nat) {σ : Sg} {o : Nat} (ho : o < 22) : Met l y_String_isLatin1 (cw y_String_isLatin1 b_String_isLatin1 1 (some .boolean)) rm_leaf (PcG X n σ [.ref (xsk X o)]) (QcG X n σ (some (.int 1))) 0 0 (fr X n) := by
  refine g_head (own := "java/lang/String") (by decide) rfl (Nat.le_of_ble_eq_true rfl) ?_
  intro p e s m args below meth c ls F hr hlk hP hl
  have hl : lv_has ls 1 [(0, .ref (xsk X o))] := hl
  refine g_sget F hP F.2.2.2.2.2.2.2.2.2.1 w_656 d_I_0 ?_
  refine lv_if_eq F.1 F.2.1 d_I_3 rfl (fun h => absurd h (by decide)) (fun _ => ?_)
  refine lv_aload_n F.1 F.2.1 d_I_6 rfl (lv_at hl 0 rfl) ?_
  refine g_oget F hP (F.2.2.2.2.2.2.2.2.1 o ho).2.2.2.2.2.1 w_1162 d_I_7 ?_
  refine lv_if_ne F.1 F.2.1 d_I_10 rfl (fun h => absurd rfl h) (fun _ => ?_)
  refine lv_iconst (v := 1) F.1 F.2.1 d_I_13 (by decide) ?_
  refine lv_goto F.1 F.2.1 d_I_14 rfl ?_
  exact g_zret F hP hr hlk zb1 d_I_18
theorem d_C_0 : decode b_String_charAt 0 = .ok (.aload_n 0, 1) := by decide +kernel
theorem d_C_1 : decode b_String_charAt 1 = .ok (.invokevirtual 492, 3) := by decide +kernel
theorem d_C_4 : decode b_String_charAt 4 = .ok (.ifCond .eq 12, 3) := by decide +kernel
theorem d_C_7 : decode b_String_charAt 7 = .ok (.aload_n 0, 1) := by decide +kernel
theorem d_C_8 : decode b_String_charAt 8 = .ok (.getfield 9, 3) := by decide +kernel
theorem d_C_11 : decode b_String_charAt 11 = .ok (.iload_n 1, 1) := by decide +kernel
theorem d_C_12 : decode b_String_charAt 12 = .ok (.invokestatic 495, 3) := by decide +kernel
theorem d_C_15 : decode b_String_charAt 15 = .ok (.ireturn, 1) := by decide +kernel
abbrev rm_C : Room := { frames := 3, cells := 0, slots := 0, locals := 64 }
theorem g_recvS {X : GX} {p : Program} {s : State} {m : MethodId} {c : Code} {cc : ByteArray} {nL n : Nat} {args : Array Value} {own : String} {σ : Sg} {H : Heap} {locs : List Loc} (F : Fx X p s m c cc nL args own) (hP : St X n σ s.heap H locs) {o : Nat} (ho : o < 22) : ∃ cell : Cell, H[xsk X o]? = some cell ∧ cell.vm.isStatics = false ∧ s.vm.findClass "java/lang/String" = some cell.cls := by
  obtain ⟨cell, h1, h2, h3, -⟩ := (F.2.2.2.2.2.2.2.2.1 o ho).2.2.2.2.1.kept hP.vaS.2.1
  exact ⟨cell, h1, h2, h3⟩
theorem c_charAt (l : Launch) (X : GX) (n : Nat) {σ : Sg} {o : Nat} (ho : o < 22) {w : Int32} (hw : vp_in w 3) : Met l y_String_charAt (cw y_String_charAt b_String_charAt 2 (some .char)) rm_C (PcG X n σ [.ref (xsk X o), .int w]) (QcG X n σ (some (.int (chr o w.toNatClampNeg)))) 0 0 (fr X n) := by
  refine g_head (own := "java/lang/String") (by decide) rfl (Nat.le_of_ble_eq_true rfl) ?_
  intro p e s m args below meth c ls F hr hlk hP hl
  have hl : lv_has ls 2 [(0, .ref (xsk X o)), (1, .int w)] := hl
  refine lv_aload_n F.1 F.2.1 d_C_0 rfl (lv_at hl 0 rfl) ?_
  refine g_callX (As := []) (rest := []) F hP (g_recvS F hP ho) (c_isLatin1 l X n ho) ⟨by decide, by decide, q_String_isLatin1⟩ w_655 w_19 w_652 w_653 w_654 ⟨rfl, rfl⟩ ⟨by decide, by decide⟩ hl.1 (Nat.le_of_ble_eq_true rfl) ⟨Nat.zero_le _, Nat.zero_le _⟩ d_C_1 rfl (fun H locs hP => ?_)
  refine W.eq (g2 := F0 m 4 ls [.int 1]) rfl ?_
  refine lv_if_eq F.1 F.2.1 d_C_4 rfl (fun h => absurd h (by decide)) (fun _ => ?_)
  refine lv_aload_n F.1 F.2.1 d_C_7 rfl (lv_at hl 0 rfl) ?_
  refine g_oget F hP (F.2.2.2.2.2.2.2.2.1 o ho).2.2.2.2.2.2.1 w_1163 d_C_8 ?_
  refine lv_iload_n F.1 F.2.1 d_C_11 rfl (lv_at hl 1 rfl) ?_
  refine g_callS (As := [.ref (xsv X o), .int w]) (rest := []) F hP (c_Latin1 l X n ho hw) ⟨by decide, by decide, q_Latin1_charAt⟩ w_660 w_20 w_658 w_659 ⟨rfl, rfl⟩ ⟨by decide, by decide⟩ hl.1 (Nat.le_of_ble_eq_true rfl) ⟨Nat.zero_le _, Nat.zero_le _⟩ d_C_12 rfl (fun H locs hP => ?_)
  refine W.eq (g2 := F0 m 15 ls [.int (chr o w.toNatClampNeg)]) rfl ?_
  exact g_zret' F hP hr hlk (chr_ok o ho _ (vin_lt hw)).2 d_C_15
theorem d_E_0 : decode b_Enum_ordinal 0 = .ok (.aload_n 0, 1) := by decide +kernel
theorem d_E_1 : decode b_Enum_ordinal 1 = .ok (.getfield 7, 3) := by decide +kernel
theorem d_E_4 : decode b_Enum_ordinal 4 = .ok (.ireturn, 1) := by decide +kernel
theorem c_ordinal (l : Launch) (X : GX) (n : Nat) {σ : Sg} {o : Nat} (ho : o < 22) : Met l y_Enum_ordinal (cw y_Enum_ordinal b_Enum_ordinal 1 (some .int)) rm_leaf (PcG X n σ [.ref (xad X o)]) (QcG X n σ (some (.int (nI o)))) 0 0 (fr X n) := by
  refine g_head (own := "java/lang/Enum") (by decide) rfl (Nat.le_of_ble_eq_true rfl) ?_
  intro p e s m args below meth c ls F hr hlk hP hl
  have hl : lv_has ls 1 [(0, .ref (xad X o))] := hl
  refine lv_aload_n F.1 F.2.1 d_E_0 rfl (lv_at hl 0 rfl) ?_
  refine g_oget F hP (F.2.2.2.2.2.2.2.2.1 o ho).2.2.1 w_1164 d_E_1 ?_
  exact g_iret F hP hr hlk d_E_4
section GJDK2
variable {X : GX} {p : Program} {l : Launch} {e : Env} {R : Room} {s : State} {m : MethodId} {args : Array Value} {below : List Frame} {meth : Method} {c : Code} {H : Heap} {locs : List Loc} {cells slots : Nat} {Q : State → Prop}
variable {cc : ByteArray} {pc nL n : Nat} {ls : Array Slot} {rest : List Value} {own : String} {σ : Sg}
theorem g_charAt (F : Fx X p s m c cc nL args own) (hP : St X n σ s.heap H locs) {o : Nat} (ho : o < 22) {w : Int32} (hw : vp_in w 3) {index : Nat} (hlink : Cond.methodLink own index y_String_charAt ∈ TB) (hR : 3 + 1 ≤ R.frames ∧ 8 + (2 + 11) + 64 ≤ R.locals) (hsize : ls.size = nL) (hW : (rest.map fun v => v.category).sum ≤ 8) (hc : cells ≤ R.cells ∧ slots ≤ R.slots) (hdg : decode cc pc = .ok (.invokevirtual index, 3))
    (kk : ∀ (H1 : Heap) (locs1 : List Loc), St X n σ s.heap H1 locs1 → W p l e R s m args below meth c H1 locs1 cells slots Q (F0 m (pc + 3) ls (.int (chr o w.toNatClampNeg) :: rest))) : W p l e R s m args below meth c H locs cells slots Q (F0 m pc ls (.int w :: .ref (xsk X o) :: rest)) :=
  g_callX (As := [.int w]) (rest := rest) F hP (g_recvS F hP ho) (c_charAt l X n ho hw) ⟨by decide, by decide, q_String_charAt⟩ w_651 w_19 hlink w_649 w_650 ⟨rfl, rfl⟩ hR hsize hW hc hdg rfl (fun H locs hP => kk H locs hP)
theorem g_ord (F : Fx X p s m c cc nL args own) (hP : St X n σ s.heap H locs) {o : Nat} (ho : o < 22) {index : Nat} (hlink : Cond.methodLink own index y_Op_ordinal ∈ TB) (hR : 0 + 1 ≤ R.frames ∧ 8 + (1 + 11) + 0 ≤ R.locals) (hsize : ls.size = nL) (hW : (rest.map fun v => v.category).sum ≤ 8) (hc : cells ≤ R.cells ∧ slots ≤ R.slots) (hdg : decode cc pc = .ok (.invokevirtual index, 3))
    (kk : ∀ (H1 : Heap) (locs1 : List Loc), St X n σ s.heap H1 locs1 → W p l e R s m args below meth c H1 locs1 cells slots Q (F0 m (pc + 3) ls (.int (nI o) :: rest))) : W p l e R s m args below meth c H locs cells slots Q (F0 m pc ls (.ref (xad X o) :: rest)) := by
  obtain ⟨hx, hb, hml, hown, hts, hC⟩ := F
  have hrecv : ∃ cell : Cell, H[xad X o]? = some cell ∧ cell.vm.isStatics = false ∧ s.vm.findClass "TableMachine$Op" = some cell.cls := by
    obtain ⟨cell, h1, h2, h3, -⟩ := (hC.2.2.2.1 o ho).2.1.kept hP.vaS.2.1
    exact ⟨cell, h1, h2, h3⟩
  have hG : GoodIn TB (va_wsU own index "TableMachine$Op" "java/lang/Enum" y_Op_ordinal y_Enum_ordinal (cw y_Enum_ordinal b_Enum_ordinal 1 (some .int))) := by
    intro w hw
    have hm : w ∈ TB := by
      rcases List.mem_append.mp hw with hw | hw
      · simp only [List.mem_cons, List.not_mem_nil, or_false] at hw
        rcases hw with rfl | rfl | rfl | rfl | rfl
        · exact hlink
        · exact w_724
        · exact w_726
        · exact w_727
        · exact w_6
      · rcases List.mem_cons.mp hw with rfl | hw
        · exact w_728
        · exact hw
    exact ⟨hm, tb_good hm⟩
  exact g_back hP (va_runU (C := "TableMachine$Op") (b := xad X o) (As := []) (n := 0) (Ts := TB) (own := own) ⟨hx, hb, hml, hown, hts⟩ (c_ordinal l X n ho) (va_cwU 0 hts hG rfl rfl rfl rfl ⟨by decide, by decide, q_Enum_ordinal⟩ hR) ⟨PcG.blind, hrecv, fun U hU hW => hP.fits hC hW hU _⟩ rfl rfl hsize rfl (lv_room hW) hdg ⟨by simpa using hc.1, by simpa using hc.2⟩) (fun H locs hP => kk H locs hP)
end GJDK2
