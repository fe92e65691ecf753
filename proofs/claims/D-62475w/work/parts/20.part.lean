/-! the picture while it is being made: what lies there (Al), which fields and cells that hold references are set (A) -/
def fvP (X : GX) (σ : Sg) (A : Nat → Nat → Nat → Bool) (k i j : Nat) : Value := if fty k j = 2 ∧ A k i j = false then .null else fv X σ k i j
def avP (X : GX) (σ : Sg) (A : Nat → Nat → Nat → Bool) (k i q : Nat) : Value := if aty k = 2 ∧ A k i q = false then .null else av X σ k i q
def PP (X : GX) (σ : Sg) (Al : Nat → Nat → Bool) (A : Nat → Nat → Nat → Bool) (H : Heap) : Prop :=
  (∀ k i, k < 10 → Al k i = true → t_OB (xL X k i) ((xD X).1 k) (fn k) ((xD X).2 k) H (fvP X σ A k i)) ∧
  (∀ k i, 10 ≤ k → k < 45 → Al k i = true → H[xL X k i]? = some (arrV (xE X k) (alen k i) (avP X σ A k i))) ∧
  (∀ k i k' i', k < 45 → Al k i = true → k' < 45 → Al k' i' = true → xL X k i = xL X k' i' → k = k' ∧ i = i') ∧
  (∀ k i, k < 45 → Al k i = true → xb X ≤ xL X k i)
def SP (X : GX) (σ : Sg) (Al : Nat → Nat → Bool) (A : Nat → Nat → Nat → Bool) (N : Nat) (H0 H : Heap) (locs : List Loc) : Prop := PP X σ Al A H ∧ H.size = N ∧ xb X ≤ N ∧ (∀ q : Nat, q < xb X → H[q]? = H0[q]?) ∧ ∀ l ∈ locs, xb X ≤ l.base
def uL (Al : Nat → Nat → Bool) (k i : Nat) : Nat → Nat → Bool := fun a b => Al a b || (a == k && b == i)
def uA (A : Nat → Nat → Nat → Bool) (k i j : Nat) : Nat → Nat → Nat → Bool := fun a b c => A a b c || (a == k && b == i && c == j)
theorem arrV_congr {c : ClassId} {N : Nat} {f g : Nat → Value} (h : ∀ j, j < N → f j = g j) : arrV c N f = arrV c N g := by
  unfold arrV
  congr 1
  apply Array.ext
  · simp
  · intro i h1 h2
    simp at h1 h2
    simp [h i h1]
theorem PP.lt {X : GX} {σ : Sg} {Al : Nat → Nat → Bool} {A : Nat → Nat → Nat → Bool} {H : Heap} (h : PP X σ Al A H) {k i : Nat} (hk : k < 45) (ha : Al k i = true) : xL X k i < H.size := by
  by_cases h1 : k < 10
  · obtain ⟨cell, q, -⟩ := h.1 k i h1 ha
    exact (Array.getElem?_eq_some_iff.mp q).1
  · exact (Array.getElem?_eq_some_iff.mp (h.2.1 k i (by omega) hk ha)).1
theorem PP.to {X : GX} {σ σ' : Sg} {Al Al' : Nat → Nat → Bool} {A A' : Nat → Nat → Nat → Bool} {H : Heap} (h : PP X σ Al A H) (hl : ∀ k i, k < 45 → Al' k i = true → Al k i = true) (hf : ∀ k i j, k < 10 → j < fn k → Al' k i = true → fvP X σ A k i j = fvP X σ' A' k i j) (ha : ∀ k i q, 10 ≤ k → k < 45 → q < alen k i → Al' k i = true → avP X σ A k i q = avP X σ' A' k i q) : PP X σ' Al' A' H := by
  obtain ⟨h1, h2, h3, h4⟩ := h
  refine ⟨fun k i hk hi => (h1 k i hk (hl k i (by omega) hi)).to (fun j hj => hf k i j hk hj hi), fun k i hk0 hk hi => ?_, fun k i k' i' hk hi hk' hi' => h3 k i k' i' hk (hl k i hk hi) hk' (hl k' i' hk' hi'), fun k i hk hi => h4 k i hk (hl k i hk hi)⟩
  rw [h2 k i hk0 hk (hl k i hk hi), arrV_congr (fun j hj => ha k i j hk0 hk hj hi)]
theorem PP.ofPic {X : GX} {σ : Sg} {H : Heap} (h : Pic X σ H) {A : Nat → Nat → Nat → Bool} (hA : ∀ k i j, k < 45 → i < cnt (nt σ) k → A k i j = true) : PP X σ (fun k i => decide (i < cnt (nt σ) k)) A H := by
  obtain ⟨h1, h2, h3, h4⟩ := h
  refine ⟨fun k i hk hi => (h1 k i hk (of_decide_eq_true hi)).to (fun j _ => ?_), fun k i hk0 hk hi => ?_, fun k i k' i' hk hi hk' hi' => h3 k i k' i' hk (of_decide_eq_true hi) hk' (of_decide_eq_true hi'), fun k i hk hi => h4 k i hk (of_decide_eq_true hi)⟩
  · unfold fvP
    rw [if_neg (fun z => by rw [hA k i j (by omega) (of_decide_eq_true hi)] at z; cases z.2)]
  · rw [h2 k i hk0 hk (of_decide_eq_true hi)]
    congr 2
    funext q
    unfold avP
    rw [if_neg (fun z => by rw [hA k i q (by omega) (of_decide_eq_true hi)] at z; cases z.2)]
theorem PP.pic {X : GX} {σ : Sg} {Al : Nat → Nat → Bool} {A : Nat → Nat → Nat → Bool} {H : Heap} (h : PP X σ Al A H) (hl : ∀ k i, k < 45 → i < cnt (nt σ) k → Al k i = true) (hf : ∀ k i j, k < 10 → i < cnt (nt σ) k → j < fn k → fty k j = 2 → A k i j = true) (ha : ∀ k i q, 10 ≤ k → k < 45 → i < cnt (nt σ) k → q < alen k i → aty k = 2 → A k i q = true) : Pic X σ H := by
  obtain ⟨h1, h2, h3, h4⟩ := h
  refine ⟨fun k i hk hi => (h1 k i hk (hl k i (by omega) hi)).to (fun j hj => ?_), fun k i hk0 hk hi => ?_, fun k i k' i' hk hi hk' hi' => h3 k i k' i' hk (hl k i hk hi) hk' (hl k' i' hk' hi'), fun k i hk hi => h4 k i hk (hl k i hk hi)⟩
  · unfold fvP
    rw [if_neg (fun z => by rw [hf k i j hk hi hj z.1] at z; cases z.2)]
  · rw [h2 k i hk0 hk (hl k i hk hi)]
    congr 1
    refine arrV_congr (fun q hq => ?_)
    unfold avP
    rw [if_neg (fun z => by rw [ha k i q hk0 hk hi hq z.1] at z; cases z.2)]
theorem PP.setO {X : GX} {σ σ' : Sg} {Al : Nat → Nat → Bool} {A A' : Nat → Nat → Nat → Bool} {H H1 : Heap} {k i : Nat} (h : PP X σ Al A H) (hk : k < 10) (hi : Al k i = true) (o : ∀ q : Nat, q ≠ xL X k i → H1[q]? = H[q]?)
    (hc : t_OB (xL X k i) ((xD X).1 k) (fn k) ((xD X).2 k) H1 (fvP X σ' A' k i)) (hv : ∀ k' i', k' < 10 → ¬ (k' = k ∧ i' = i) → ∀ j, fvP X σ' A' k' i' j = fvP X σ A k' i' j) (ha : ∀ k' i', 10 ≤ k' → k' < 45 → ∀ q, avP X σ' A' k' i' q = avP X σ A k' i' q) : PP X σ' Al A' H1 := by
  obtain ⟨h1, h2, h3, h4⟩ := h
  refine ⟨?_, ?_, h3, h4⟩
  · intro k' i' hk' hi'
    by_cases e : k' = k ∧ i' = i
    · obtain ⟨rfl, rfl⟩ := e; exact hc
    · exact ((h1 k' i' hk' hi').kept (o _ (fun q => e (h3 k' i' k i (by omega) hi' (by omega) hi q)))).to (fun j _ => (hv k' i' hk' e j).symm)
  · intro k' i' hk1 hk2 hi'
    rw [o _ (fun q => by have := (h3 k' i' k i hk2 hi' (by omega) hi q).1; omega), h2 k' i' hk1 hk2 hi', show avP X σ' A' k' i' = avP X σ A k' i' from funext (ha k' i' hk1 hk2)]
theorem PP.setA {X : GX} {σ σ' : Sg} {Al : Nat → Nat → Bool} {A A' : Nat → Nat → Nat → Bool} {H H1 : Heap} {k i : Nat} (h : PP X σ Al A H) (hk0 : 10 ≤ k) (hk : k < 45) (hi : Al k i = true) (o : ∀ q : Nat, q ≠ xL X k i → H1[q]? = H[q]?)
    (hc : H1[xL X k i]? = some (arrV (xE X k) (alen k i) (avP X σ' A' k i))) (hv : ∀ k' i', k' < 10 → ∀ j, fvP X σ' A' k' i' j = fvP X σ A k' i' j) (ha : ∀ k' i', 10 ≤ k' → k' < 45 → Al k' i' = true → ¬ (k' = k ∧ i' = i) → ∀ q, avP X σ' A' k' i' q = avP X σ A k' i' q) : PP X σ' Al A' H1 := by
  obtain ⟨h1, h2, h3, h4⟩ := h
  refine ⟨?_, ?_, h3, h4⟩
  · intro k' i' hk' hi'
    exact ((h1 k' i' hk' hi').kept (o _ (fun q => by have := (h3 k' i' k i (by omega) hi' hk hi q).1; omega))).to (fun j _ => (hv k' i' hk' j).symm)
  · intro k' i' hk1 hk2 hi'
    by_cases e : k' = k ∧ i' = i
    · obtain ⟨rfl, rfl⟩ := e; exact hc
    · rw [o _ (fun q => e (h3 k' i' k i hk2 hi' hk hi q)), h2 k' i' hk1 hk2 hi', show avP X σ' A' k' i' = avP X σ A k' i' from funext (ha k' i' hk1 hk2 hi' e)]
theorem uL_iff {Al : Nat → Nat → Bool} {k i a b : Nat} : uL Al k i a b = true ↔ Al a b = true ∨ (a = k ∧ b = i) := by
  simp [uL]
theorem uA_iff {A : Nat → Nat → Nat → Bool} {k i j a b c : Nat} : uA A k i j a b c = true ↔ A a b c = true ∨ (a = k ∧ b = i ∧ c = j) := by
  simp [uA, and_assoc]
/-- a new cell at the heap's end -/
theorem PP.grow {X : GX} {σ : Sg} {Al : Nat → Nat → Bool} {A : Nat → Nat → Nat → Bool} {H H1 : Heap} {k i : Nat} (h : PP X σ Al A H) (hx : xL X k i = H.size) (hb : xb X ≤ H.size) (o : ∀ q : Nat, q < H.size → H1[q]? = H[q]?)
    (hO : k < 10 → t_OB (xL X k i) ((xD X).1 k) (fn k) ((xD X).2 k) H1 (fvP X σ A k i)) (hA : 10 ≤ k → k < 45 → H1[xL X k i]? = some (arrV (xE X k) (alen k i) (avP X σ A k i))) : PP X σ (uL Al k i) A H1 := by
  have hlt := fun k' i' hk' (ha : Al k' i' = true) => h.lt (k := k') (i := i') hk' ha
  obtain ⟨h1, h2, h3, h4⟩ := h
  refine ⟨?_, ?_, ?_, ?_⟩
  · intro k' i' hk' hi'
    rcases uL_iff.mp hi' with ha | ⟨rfl, rfl⟩
    · exact (h1 k' i' hk' ha).kept (o _ (hlt k' i' (by omega) ha))
    · exact hO hk'
  · intro k' i' hk0 hk' hi'
    rcases uL_iff.mp hi' with ha | ⟨rfl, rfl⟩
    · rw [o _ (hlt k' i' (by omega) ha)]; exact h2 k' i' hk0 hk' ha
    · exact hA hk0 hk'
  · intro a b a' b' ha hb1 ha' hb' e
    rcases uL_iff.mp hb1 with z | ⟨rfl, rfl⟩ <;> rcases uL_iff.mp hb' with z' | ⟨rfl, rfl⟩
    · exact h3 a b a' b' ha z ha' z' e
    · have := hlt a b ha z; omega
    · have := hlt a' b' ha' z'; omega
    · exact ⟨rfl, rfl⟩
  · intro a b ha hb1
    rcases uL_iff.mp hb1 with z | ⟨rfl, rfl⟩
    · exact h4 a b ha z
    · omega
theorem ctT_ao {X : GX} {U : State} {H : Heap} (h : CtT X U H) {C : String} (hx : Cond.arrayOver (.object C) ∈ tables_1) (args : Array Value) : (Cond.arrayOver (.object C)).before args U = true := by
  obtain ⟨s0, a0, h1, h2, h3, h4, h5⟩ := h
  exact va_AO.use (va_AO.moved h1.alike (va_AO.of (h4 _ hx)))
-- the start and the end of a constructor
def PcP (X : GX) (σ : Sg) (Al : Nat → Nat → Bool) (A : Nat → Nat → Nat → Bool) (N : Nat) (av : List Value) : Array Value → State → Prop := fun v U => v = av.toArray ∧ Ctx X U U.heap ∧ PP X σ Al A U.heap ∧ U.heap.size = N ∧ xb X ≤ N
def QcP (X : GX) (σ : Sg) (Al : Nat → Nat → Bool) (A : Nat → Nat → Nat → Bool) (N : Nat) (r : Option Value) : Array Value → State → Outcome → State → Prop := fun _ st o t => o = .returned r ∧ PP X σ Al A t.heap ∧ t.heap.size = N ∧ ∀ q : Nat, q < xb X → t.heap[q]? = st.heap[q]?
theorem PcP.blind {X : GX} {σ : Sg} {Al : Nat → Nat → Bool} {A : Nat → Nat → Nat → Bool} {N : Nat} {av : List Value} : FrameBlind (PcP X σ Al A N av) := fun a U g mk q => ⟨q.1, q.2.1.go (U := U.calling g mk a) (State.WarmedH.refl U) (fun _ _ => rfl), q.2.2⟩
abbrev WP (l : Launch) (X : GX) (rm : Room) (σ' : Sg) (Al' : Nat → Nat → Bool) (A' : Nat → Nat → Nat → Bool) (N' : Nat) (r : Option Value) (mc ms : Nat) (p : Program) (e : Env) (s : State) (m : MethodId) (args : Array Value) (below : List Frame) (meth : Method) (c : Code) (H : Heap) (locs : List Loc) (cells slots : Nat) (g : JFrame) : Prop := W p l e rm s m args below meth c H locs cells slots (MQ below (QcP X σ' Al' A' N' r) args s mc ms (eA X)) g
section PROWS
variable {X : GX} {p : Program} {l : Launch} {e : Env} {R : Room} {s : State} {m : MethodId} {args : Array Value} {below : List Frame} {meth : Method} {c : Code} {H : Heap} {locs : List Loc} {cells slots : Nat} {Q : State → Prop}
variable {cc : ByteArray} {pc nL N : Nat} {ls : Array Slot} {rest : List Value} {own : String} {σ : Sg} {Al : Nat → Nat → Bool} {A : Nat → Nat → Nat → Bool}
theorem SP.ctx {U : State} (hP : SP X σ Al A N s.heap H locs) (hC : Ctx X s s.heap) (hW : s.WarmedH U.vm) (hU : U.heap = H) : Ctx X U U.heap := by
  rw [hU]
  exact hC.go hW (fun q hq => hP.2.2.2.1 q hq)
theorem SP.fits {U : State} (hP : SP X σ Al A N s.heap H locs) (hC : Ctx X s s.heap) (hW : s.WarmedH U.vm) (hU : U.heap = H) (av : List Value) : PcP X σ Al A N av av.toArray U := ⟨rfl, hP.ctx hC hW hU, by rw [hU]; exact hP.1, by rw [hU]; exact hP.2.1, hP.2.2.1⟩
theorem p_head {l : Launch} {y : MethodName} {b : ByteArray} {M : Nat} {rm : Room} {σ' : Sg} {Al' : Nat → Nat → Bool} {A' : Nat → Nat → Nat → Bool} {N' mc ms : Nat} {ret : Option FieldType} {vs : List Value} {r : Option Value} (hy : plainName y.cls = true) (hown : y.cls = own) (hN : (lg_sl vs).length ≤ M)
    (body : ∀ (p : Program) (e : Env) (s : State) (m : MethodId) (args : Array Value) (below : List Frame) (meth : Method) (c : Code) (ls : Array Slot), Fx X p s m c b M args own → meth.sig.returnType = ret → meth.locks = false → meth.name = y.name → SP X σ Al A N s.heap s.heap [] → lv_has ls M (lv_args 0 vs) →
      WP l X rm σ' Al' A' N' r mc ms p e s m args below meth c s.heap [] 0 0 (F0 m 0 ls [])) : Met l y (cw y b M ret) rm (PcP X σ Al A N vs) (QcP X σ' Al' A' N' r) mc ms (eA X) := by
  refine Met.ofW (cc := b) (maxL := M) (ret := ret) hy rfl ?_
  intro p e s m args below meth c s₁ B hml hv
  obtain ⟨ha, hC, hP, hn, hxb⟩ := hv
  obtain ⟨ls, hl, he⟩ := g_entry (m := m) ha hN
  have hts := atoms_spec (ws := cw y b M ret) B.pre
  exact W.eq he (body p e s m args below meth c ls ⟨B.exec, B.bytes, hml, by rw [← hown]; exact findClass_of_methodNamed B.named, tb_of hts, hC⟩ B.returns B.notSynchronized (name_of_methodNamed B.named B.method).1 ⟨hP, hn, hxb, fun _ _ => rfl, fun _ h => by cases h⟩ hl)
theorem p_vret (F : Fx X p s m c cc nL args own) (hP : SP X σ Al A N s.heap H locs) (hr : meth.sig.returnType = none) (hlk : meth.locks = false) (hdg : decode cc pc = .ok (.return_, 1)) : WP l X R σ Al A N none cells slots p e s m args below meth c H locs cells slots (F0 m pc ls []) :=
  W.vret F.1 F.2.1 hr (fun t ht _ => ⟨rfl, by rw [ht]; exact hP.1, by rw [ht]; exact hP.2.1, fun q hq => by rw [ht]; exact hP.2.2.2.1 q hq⟩) hP.2.2.2.2 hdg hlk
theorem p_obj (F : Fx X p s m c cc nL args own) {idx : Nat} (hlink : Cond.methodLink own idx y_Object_init ∈ TB) (hsize : ls.size = nL) {a : Nat} (hd : decode cc pc = .ok (.invokespecial idx, 3)) (hR : 1 ≤ R.frames ∧ 100 ≤ R.locals) (hW : (rest.map fun v => v.category).sum ≤ 8)
    (kk : W p l e R s m args below meth c H locs cells slots Q (F0 m (pc + 3) ls rest)) : W p l e R s m args below meth c H locs cells slots Q (F0 m pc ls (.ref a :: rest)) :=
  W.objInit F.1 F.2.1 F.2.2.2.1 (F.2.2.2.2.1 _ hlink) (F.2.2.2.2.1 (.instanceMethod y_Object_init) w_30) (F.2.2.2.2.1 (.code y_Object_init b_Object_init 1 none) w_31) rfl (by rw [F.2.2.1]; exact hsize) rfl hd hR.1 (by
    show 2 * 0 + _ + 12 ≤ _
    have := hR.2
    omega) kk
theorem p_new (F : Fx X p s m c cc nL args own) (hP : SP X σ Al A N s.heap H locs) (k i : Nat) (hk : k < 10) (hx : xL X k i = N) (hz : ∀ j, j < fn k → fvP X σ A k i j = defaultValue (fpt k j)) {index : Nat} (hcl : Cond.classLink own index (cN k) ∈ TB) (hins : Cond.instantiable (cN k) (fn k) ∈ TB) (hini : Cond.initialized (cN k) ∈ TB) (hR : cells + 1 ≤ R.cells ∧ slots + fn k ≤ R.slots) (hdg : decode cc pc = .ok (.new index, 3))
    (kk : ∀ (H1 : Heap), SP X σ (uL Al k i) A (N + 1) s.heap H1 locs → W p l e R s m args below meth c H1 locs (cells + 1) (slots + fn k) Q (F0 m (pc + 3) ls (.ref (xL X k i) :: rest))) : W p l e R s m args below meth c H locs cells slots Q (F0 m pc ls rest) := by
  obtain ⟨hx0, hb, hml, hown, hts, hC⟩ := F
  obtain ⟨hPP, hN, hxb, hold, hlocs⟩ := hP
  have hKn := hC.1 k hk
  refine W.newcK hx0 hb hown (hts _ hcl) (hts _ hins) (hts _ hini) rfl hdg hR.1 hR.2 hKn.2.1 hN fun H1 kC hkC e1 z1 o1 => ?_
  rw [← hx]
  refine kk H1 ⟨hPP.grow (by rw [hx, hN]) (by rw [hN]; exact hxb) (fun q hq => o1 q (by omega)) (fun _ => ?_) (fun h => by omega), z1, by omega, fun q hq => (o1 q (by omega)).trans (hold q hq), hlocs⟩
  exact (u_born (fpt k) hts (fT_hin k hk) hKn hkC (by rw [hx]; exact e1) (fT_ty k hk)).to (fun j hj => (hz j hj).symm)
theorem p_newa (F : Fx X p s m c cc nL args own) (hP : SP X σ Al A N s.heap H locs) (k i : Nat) (hk0 : 10 ≤ k) (hk : k < 45) (hx : xL X k i = N) {at_ : ArrayType} (hety : newarray.typeOf at_ = ety k) (hraty : va_RA s (xE X k) (ety k) = (s.vm.findClass ("[" ++ (ety k).toString) = some (xE X k))) (hz : ∀ j, j < alen k i → avP X σ A k i j = defaultValue (ety k)) (harr : Cond.arrayClass (ety k) ∈ TB) {v : Int32} (hv : v.toNatClampNeg = alen k i ∧ ¬ v < 0) (hbytes : alen k i ≤ 1000) (hR : cells + 1 ≤ R.cells ∧ slots + alen k i ≤ R.slots) (hdg : decode cc pc = .ok (.newarray at_, 2))
    (kk : ∀ (H1 : Heap), SP X σ (uL Al k i) A (N + 1) s.heap H1 locs → W p l e R s m args below meth c H1 locs (cells + 1) (slots + alen k i) Q (F0 m (pc + 2) ls (.ref (xL X k i) :: rest))) : W p l e R s m args below meth c H locs cells slots Q (F0 m pc ls (.int v :: rest)) := by
  obtain ⟨hx0, hb, hml, hown, hts, hC⟩ := F
  obtain ⟨hPP, hN, hxb, hold, hlocs⟩ := hP
  have hcb : ∀ t : FieldType, componentBytes t ≤ 8 := by intro t; cases t <;> exact Nat.le_of_ble_eq_true rfl
  refine va_newaK hx0 hb (by rw [hety]; exact hts _ harr) rfl hdg rfl hv.2 hv.1 (by have := Nat.mul_le_mul hbytes (hcb (newarray.typeOf at_)); omega) hR.1 hR.2 hN fun H1 cA e1 z1 o1 hAT hfc => ?_
  have hra := (hC.2.1 k hk0 hk).2
  rw [hraty] at hra
  rw [hety] at hfc e1
  cases hfc.symm.trans hra
  rw [← hx]
  refine kk H1 ⟨hPP.grow (by rw [hx, hN]) (by rw [hN]; exact hxb) (fun q hq => o1 q (by omega)) (fun h => by omega) (fun _ _ => ?_), z1, by omega, fun q hq => (o1 q (by omega)).trans (hold q hq), hlocs⟩
  rw [hx, e1, arrV_congr (fun j hj => (hz j hj).symm)]
theorem p_anew (F : Fx X p s m c cc nL args own) (hP : SP X σ Al A N s.heap H locs) (k i : Nat) (hk0 : 10 ≤ k) (hk : k < 45) (hx : xL X k i = N) {C : String} (hety : ety k = .object C) (hz : ∀ j, j < alen k i → avP X σ A k i j = .null) {index : Nat} (hcl : Cond.classLink own index C ∈ TB) (harr : Cond.arrayOver (.object C) ∈ tables_1) {v : Int32} (hv : v.toNatClampNeg = alen k i ∧ ¬ v < 0) (hbytes : alen k i ≤ 1000) (hR : cells + 1 ≤ R.cells ∧ slots + alen k i ≤ R.slots) (hdg : decode cc pc = .ok (.anewarray index, 3))
    (kk : ∀ (H1 : Heap), SP X σ (uL Al k i) A (N + 1) s.heap H1 locs → W p l e R s m args below meth c H1 locs (cells + 1) (slots + alen k i) Q (F0 m (pc + 3) ls (.ref (xL X k i) :: rest))) : W p l e R s m args below meth c H locs cells slots Q (F0 m pc ls (.int v :: rest)) := by
  obtain ⟨hx0, hb, hml, hown, hts, hC⟩ := F
  obtain ⟨hPP, hN, hxb, hold, hlocs⟩ := hP
  have hra := (hC.2.1 k hk0 hk).2
  rw [hety] at hra
  obtain ⟨kA0, comp0, r1, r2, r3, r4⟩ := hra
  refine W.anew hx0 hb hown (hts _ hcl) (ctT_ao hC.2.2.2.2.2.2 harr args) rfl hdg rfl hv.2 (by rw [hv.1]; omega) hR.1 (by rw [hv.1]; exact hR.2) fun cA kA comp h1 h2 h3 h4 => ?_
  cases h1.symm.trans r4
  rw [hv.1]
  have e2 : xL X k i = H.size := hx.trans hN.symm
  rw [← e2]
  refine kk _ ⟨hPP.grow e2 (by rw [hN]; exact hxb) (fun q hq => by rw [Array.getElem?_push, if_neg (Nat.ne_of_lt hq)]) (fun h => by omega) (fun _ _ => ?_), by rw [Array.size_push, hN], by omega, fun q hq => by rw [Array.getElem?_push, if_neg (by omega)]; exact hold q hq, hlocs⟩
  rw [e2, Array.getElem?_push_size, arrV_congr hz]
  congr 1
  unfold arrV
  congr 1
  apply Array.ext
  · simp
  · intro i h1 h2
    simp
theorem p_put {k : Nat} (F : Fx X p s m c cc nL args (cN k)) (hP : SP X σ Al A N s.heap H locs) (j i : Nat) (hk : k < 10) (hi : Al k i = true) (hj : j < fn k) (hnm : meth.name = "<init>" ∨ (fT k j).2.2.2 = false) {v : Value} {σ' : Sg} {A' : Nat → Nat → Nat → Bool} (hn : narrow (fpt k j) v = v) (hfit : fits (fpt k j) v = true)
    (h1 : fvP X σ' A' k i j = v) (h2 : ∀ k' i' j', k' < 10 → ¬ (k' = k ∧ i' = i ∧ j' = j) → fvP X σ' A' k' i' j' = fvP X σ A k' i' j') (h3 : ∀ k' i', 10 ≤ k' → k' < 45 → ∀ q, avP X σ' A' k' i' q = avP X σ A k' i' q) {index : Nat}
    (hlink : Cond.fieldLink (cN k) index (cN k) (fT k j).2.1 (fT k j).2.2.1 ∈ TB) (hdg : decode cc pc = .ok (.putfield index, 3))
    (kk : ∀ (H1 : Heap) (locs1 : List Loc), SP X σ' Al A' N s.heap H1 locs1 → W p l e R s m args below meth c H1 locs1 cells slots Q (F0 m (pc + 3) ls rest)) : W p l e R s m args below meth c H locs cells slots Q (F0 m pc ls (v :: .ref (xL X k i) :: rest)) := by
  obtain ⟨hx, hb, hml, hown, hts, hC⟩ := F
  obtain ⟨hPP, hN, hxb, hold, hlocs⟩ := hP
  obtain ⟨cell, q1, q2, q3, q4⟩ := hPP.1 k i hk hi
  obtain ⟨hS, hfc, kC, hkC, hkind⟩ := hC.1 k hk
  obtain ⟨cf, kf, fi, f, hfi, hsl⟩ := hS j hj
  have hfi' : s.fieldFound? (cN k) (fT k j).2.1 (fT k j).2.2.1 = some (cf, kf, fi, f) := by rw [← fT_own k hk j hj]; exact hfi
  have hap : ∀ x y, x < fn k → y < fn k → x ≠ y → (xD X).2 k x ≠ (xD X).2 k y := by
    intro x y hx hy hne
    obtain ⟨_, _, _, fa, hia, ea⟩ := hS x hx
    obtain ⟨_, _, _, fb, hib, eb⟩ := hS y hy
    rw [← ea, ← eb]
    refine u_apart (u_lays hts (fT_hin k hk) hx) (u_lays hts (fT_hin k hk) hy) hia hib ?_
    rw [(State.fieldFound?_type hia (fT_ty k hk x hx)).1, (State.fieldFound?_type hib (fT_ty k hk y hy)).1]
    exact fT_nm k hk x hx y hy hne
  have hlay := hts _ (fT_hin k hk _ (u_in_lay hj))
  have hst := (u_facts hfc hkC (u_lays hts (fT_hin k hk) hj) hfi).1
  have fin : ∀ H' : Heap, H'[xL X k i]? = some (cell.setSlot f.slot v) → H'.size = H.size → (∀ q : Nat, q ≠ xL X k i → H'[q]? = H[q]?) → W p l e R s m args below meth c H' (locs ++ [⟨xL X k i, f.slot⟩]) cells slots Q (F0 m (pc + 3) ls rest) := by
    intro H' e1 e2 e3
    rw [hsl] at e1
    refine kk H' _ ⟨hPP.setO hk hi e3 ?_ (fun k' i' hk' hne j' => h2 k' i' j' hk' (fun z => hne ⟨z.1, z.2.1⟩)) h3, by rw [e2, hN], hxb, fun q hq => (e3 q (fun z => by have := hPP.2.2.2 k i (by omega) hi; omega)).trans (hold q hq), fun q hq => ?_⟩
    · refine t_OB.to (V := updV (fvP X σ A k i) j v) ⟨_, e1, q2, q3, t_set q4 hap hj v⟩ (fun q _ => ?_)
      unfold updV
      split
      · rename_i h; rw [h, h1]
      · rename_i h; exact (h2 k i q hk (fun z => h z.2.2)).symm
    · rcases List.mem_append.mp hq with hq | hq
      · exact hlocs q hq
      · rw [List.mem_singleton.mp hq]; exact hPP.2.2.2 k i (by omega) hi
  by_cases hfin : (fT k j).2.2.2 = true
  · unfold u_lay at hlay
    rw [if_pos hfin] at hlay
    obtain ⟨c1, k1, c', k', i1, f1, hc1, hk1, hf1, hs1, hflag, hasg, hown2, -⟩ := Cond.laysFinal_spec hlay
    cases hfi.symm.trans hf1
    rw [fT_own k hk j hj] at hown2
    have hcf : m.cls = cf := Option.some.inj (hown.symm.trans hown2)
    have h8 := u_fits hfc hkC hkind (u_lays hts (fT_hin k hk) hj) hfi (fT_ty k hk j hj) hn hfit
    exact W.putFinK hx hb hown (hts _ hlink) hfi' hst hcf (hnm.resolve_right (by rw [hfin]; decide)) (by rw [q2]; exact h8) q1 q3 (by rw [hsl]; exact k2_hasslot (q4 j hj)) rfl rfl hdg fin
  · unfold u_lay at hlay
    rw [if_neg hfin] at hlay
    have h6 := u_store hfc hkC hkind hlay hfi (fT_ty k hk j hj) hn hfit
    exact W.putK hx hb (f := f) ⟨hown, hts _ hlink, ⟨_, _, _, hfi'⟩, hst⟩ (by rw [q2]; exact h6) q1 q3 (by rw [hsl]; exact k2_hasslot (q4 j hj)) rfl rfl hdg fin
theorem p_get (F : Fx X p s m c cc nL args own) (hP : SP X σ Al A N s.heap H locs) (k j i : Nat) (hk : k < 10) (hi : Al k i = true) (hj : j < fn k) {v : Value} (hv : fvP X σ A k i j = v) {index : Nat} (hlink : Cond.fieldLink own index (cN k) (fT k j).2.1 (fT k j).2.2.1 ∈ TB) (hdg : decode cc pc = .ok (.getfield index, 3))
    (kk : W p l e R s m args below meth c H locs cells slots Q (F0 m (pc + 3) ls (v :: rest))) : W p l e R s m args below meth c H locs cells slots Q (F0 m pc ls (.ref (xL X k i) :: rest)) := by
  obtain ⟨hx, hb, hml, hown, hts, hC⟩ := F
  obtain ⟨cell, q1, q2, q3, q4⟩ := hP.1.1 k i hk hi
  obtain ⟨hS, hfc, kC, hkC, hkind⟩ := hC.1 k hk
  obtain ⟨cf, kf, fi, f, hfi, hsl⟩ := hS j hj
  have hfi' : s.fieldFound? (cN k) (fT k j).2.1 (fT k j).2.2.1 = some (cf, kf, fi, f) := by rw [← fT_own k hk j hj]; exact hfi
  refine W.getf hx hb hown (hts _ hlink) hfi' (u_facts hfc hkC (u_lays hts (fT_hin k hk) hj) hfi).1 q1 (by rw [q3]; exact fun h => by cases h) (v := v) ?_ rfl rfl hdg kk
  rw [hsl, q4 j hj, hv]
theorem avP_upd {σ' : Sg} {A' : Nat → Nat → Nat → Bool} {k i j : Nat} {v : Value} (h1 : avP X σ' A' k i j = v) (h2 : ∀ q, q ≠ j → avP X σ' A' k i q = avP X σ A k i q) : updV (avP X σ A k i) j v = avP X σ' A' k i := by
  funext q
  unfold updV
  split
  · rename_i h; rw [h, h1]
  · rename_i h; exact (h2 q h).symm
/-- a made object comes into an array of its class -/
theorem p_aast (F : Fx X p s m c cc nL args own) (hP : SP X σ Al A N s.heap H locs) (k i ko io : Nat) (hk0 : 10 ≤ k) (hk : k < 45) (hi : Al k i = true) (hko : ko < 10) (hio : Al ko io = true) (hety : ety k = .object (cN ko)) {q : Int32} (hin : vp_in q (alen k i)) {A' : Nat → Nat → Nat → Bool} {σ' : Sg} (h1 : avP X σ' A' k i q.toNatClampNeg = .ref (xL X ko io)) (h2 : ∀ k' i' q', 10 ≤ k' → k' < 45 → Al k' i' = true → ¬ (k' = k ∧ i' = i ∧ q' = q.toNatClampNeg) → avP X σ' A' k' i' q' = avP X σ A k' i' q') (h3 : ∀ k' i' j', k' < 10 → fvP X σ' A' k' i' j' = fvP X σ A k' i' j') (hdg : decode cc pc = .ok (.aastore, 1))
    (kk : ∀ (H1 : Heap) (locs1 : List Loc), SP X σ' Al A' N s.heap H1 locs1 → W p l e R s m args below meth c H1 locs1 cells slots Q (F0 m (pc + 1) ls rest)) : W p l e R s m args below meth c H locs cells slots Q (F0 m pc ls (.ref (xL X ko io) :: .int q :: .ref (xL X k i) :: rest)) := by
  obtain ⟨hx, hb, hml, hown, hts, hC⟩ := F
  obtain ⟨hPP, hN, hxb, hold, hlocs⟩ := hP
  have h9 := hPP.2.1 k i hk0 hk hi
  have hra := (hC.2.1 k hk0 hk).2
  rw [hety] at hra
  obtain ⟨kA, comp, r1, r2, r3, r4⟩ := hra
  obtain ⟨cell, q1, q2, q3, q4⟩ := hPP.1 ko io hko hio
  obtain ⟨hS, hfc, kC, hkC, hkind⟩ := hC.1 ko hko
  cases r3.symm.trans hfc
  refine W.aast hx hb h9 (fun z h => by cases h) (fun z => by cases z) r1 r2 rfl hkC ⟨fun z => hin (Or.inl z), by rw [arrV_size]; exact vin_lt hin⟩ q1 (fun z h => by rw [q3] at h; cases h) (by rw [q2]; exact hkC) (by rw [q2]; exact va_asg _ _) rfl rfl hdg fun H1 e1 e2 e3 => ?_
  refine kk H1 _ ⟨hPP.setA hk0 hk hi e3 ?_ (fun k' i' hk' j => h3 k' i' j hk') (fun k' i' h10 hk' hl' hne q' => h2 k' i' q' h10 hk' hl' (fun z => hne ⟨z.1, z.2.1⟩)), by rw [e2, hN], hxb, fun q hq => (e3 q (fun z => by have := hPP.2.2.2 k i hk hi; rw [← z] at this; exact absurd hq (Nat.not_lt.mpr this))).trans (hold q hq), fun q hq => ?_⟩
  · rw [e1, arrV_store]
    congr 2
    exact avP_upd h1 (fun q' hq => h2 k i q' hk0 hk hi (fun z => hq z.2.2))
  · rcases List.mem_append.mp hq with hq | hq
    · exact hlocs q hq
    · rw [List.mem_singleton.mp hq]; exact hPP.2.2.2 k i hk hi
end PROWS
