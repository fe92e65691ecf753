/-! rows for constructors, and the small constructors -/
theorem fty_def : ∀ k, k < 10 → ∀ j, j < fn k → (fty k j = 0 → defaultValue (fpt k j) = .int 0) ∧ (fty k j = 1 → defaultValue (fpt k j) = .long 0) ∧ (1 < fty k j → defaultValue (fpt k j) = .null) := by decide +kernel
theorem aty_def : ∀ k, k < 45 → (10 ≤ k → aty k = 0 → defaultValue (ety k) = .int 0) ∧ (10 ≤ k → aty k = 1 → defaultValue (ety k) = .long 0) := by decide +kernel
/-- nothing is written there yet -/
def zz (σ : Sg) (A : Nat → Nat → Nat → Bool) (k i : Nat) : Prop := ∀ j, gi σ k i j = 0 ∧ gj σ k i j = 0 ∧ gr σ k i j = none ∧ A k i j = false
theorem zz_fv {X : GX} {σ : Sg} {A : Nat → Nat → Nat → Bool} {k i : Nat} (h : zz σ A k i) (hk : k < 10) (j : Nat) (hj : j < fn k) : fvP X σ A k i j = defaultValue (fpt k j) := by
  obtain ⟨h1, h2, h3, h4⟩ := h j
  obtain ⟨d1, d2, d3⟩ := fty_def k hk j hj
  unfold fvP
  split
  · rename_i z; rw [d3 (by omega)]
  · rename_i z
    unfold fv
    split
    · rename_i e; rw [d1 e, h1]
    · rename_i e; rw [d2 e, h2]
    · rename_i e; exact absurd ⟨e, h4⟩ z
    · rename_i e; rw [d3 (by omega), h3]; rfl
    · rename_i e1 e2 e3 e4
      have : 1 < fty k j := by
        rcases Nat.lt_or_ge 1 (fty k j) with q | q
        · exact q
        · have : fty k j = 0 ∨ fty k j = 1 := by omega
          rcases this with q | q
          · exact absurd q e1
          · exact absurd q e2
      rw [d3 this, h3]; rfl
theorem zz_av {X : GX} {σ : Sg} {A : Nat → Nat → Nat → Bool} {k i : Nat} (h : zz σ A k i) (hk0 : 10 ≤ k) (hk : k < 45) (ha : aty k = 0 ∨ aty k = 1) (j : Nat) : avP X σ A k i j = defaultValue (ety k) := by
  obtain ⟨h1, h2, h3, h4⟩ := h j
  obtain ⟨d1, d2⟩ := aty_def k hk
  unfold avP av
  rcases ha with ha | ha
  · rw [if_neg (fun z => by rw [ha] at z; cases z.1), d1 hk0 ha]; simp only [ha, h1]
  · rw [if_neg (fun z => by rw [ha] at z; cases z.1), d2 hk0 ha]; simp only [ha, h2]
theorem zz_ar {X : GX} {σ : Sg} {A : Nat → Nat → Nat → Bool} {k i : Nat} (h : zz σ A k i) (ha : aty k = 2 ∨ (aty k = 3 ∧ nt σ = 0)) (j : Nat) : avP X σ A k i j = .null := by
  obtain ⟨h1, h2, h3, h4⟩ := h j
  unfold avP av
  rcases ha with ha | ⟨ha, hn⟩
  · rw [if_pos ⟨ha, h4⟩]
  · rw [if_neg (fun z => by rw [ha] at z; cases z.1)]
    simp only [ha]
    rw [if_neg (by omega)]
theorem fvP_uA {X : GX} {σ : Sg} {A : Nat → Nat → Nat → Bool} {k i j k' i' j' : Nat} (h : ¬ (k' = k ∧ i' = i ∧ j' = j)) : fvP X σ (uA A k i j) k' i' j' = fvP X σ A k' i' j' := by
  have : uA A k i j k' i' j' = A k' i' j' := by
    unfold uA
    have : (k' == k && i' == i && j' == j) = false := by
      simp only [Bool.and_eq_false_iff, beq_eq_false_iff_ne]
      omega
    rw [this, Bool.or_false]
  unfold fvP
  rw [this]
theorem avP_uA {X : GX} {σ : Sg} {A : Nat → Nat → Nat → Bool} {k i j k' i' j' : Nat} (h : ¬ (k' = k ∧ i' = i ∧ j' = j)) : avP X σ (uA A k i j) k' i' j' = avP X σ A k' i' j' := by
  have : uA A k i j k' i' j' = A k' i' j' := by
    unfold uA
    have : (k' == k && i' == i && j' == j) = false := by
      simp only [Bool.and_eq_false_iff, beq_eq_false_iff_ne]
      omega
    rw [this, Bool.or_false]
  unfold avP
  rw [this]
section PROW2
variable {X : GX} {p : Program} {l : Launch} {e : Env} {R : Room} {s : State} {m : MethodId} {args : Array Value} {below : List Frame} {meth : Method} {c : Code} {H : Heap} {locs : List Loc} {cells slots : Nat} {Q : State → Prop}
variable {cc : ByteArray} {pc nL N : Nat} {ls : Array Slot} {rest : List Value} {own : String} {σ : Sg} {Al : Nat → Nat → Bool} {A : Nat → Nat → Nat → Bool}
theorem p_putr (k : Nat) (F : Fx X p s m c cc nL args (cN k)) (hP : SP X σ Al A N s.heap H locs) (j i : Nat) (hk : k < 10) (hi : Al k i = true) (hj : j < fn k) (hnm : meth.name = "<init>") (hf : fty k j = 2) (hrf : (fpt k j).isReference = true) {index : Nat} (hlink : Cond.fieldLink (cN k) index (cN k) (fT k j).2.1 (fT k j).2.2.1 ∈ TB) (hdg : decode cc pc = .ok (.putfield index, 3)) {a : Nat} (ha : a = xL X (ftk k j) (fti k j i))
    (kk : ∀ (H1 : Heap) (locs1 : List Loc), SP X σ Al (uA A k i j) N s.heap H1 locs1 → W p l e R s m args below meth c H1 locs1 cells slots Q (F0 m (pc + 3) ls rest)) : W p l e R s m args below meth c H locs cells slots Q (F0 m pc ls (.ref a :: .ref (xL X k i) :: rest)) := by
  subst ha
  refine p_put F hP j i hk hi hj (Or.inl hnm) ?_ ?_ ?_ (fun k' i' j' _ h => fvP_uA h) (fun k' i' h10 _ q => avP_uA (by omega)) hlink hdg kk
  · cases ht : fpt k j <;> first | rfl | (rw [ht] at hrf; cases hrf)
  · cases ht : fpt k j <;> first | rfl | (rw [ht] at hrf; cases hrf)
  · unfold fvP
    rw [if_neg (fun z => by have := z.2; simp [uA] at this)]
    simp only [fv, hf]
theorem p_putw (k : Nat) (F : Fx X p s m c cc nL args (cN k)) (hP : SP X σ Al A N s.heap H locs) (j i : Nat) (hk : k < 10) (hi : Al k i = true) (hj : j < fn k) (hnm : meth.name = "<init>" ∨ (fT k j).2.2.2 = false) (hf : fty k j = 0) (hpt : fpt k j = .int) {x : Int32} {index : Nat} (hlink : Cond.fieldLink (cN k) index (cN k) (fT k j).2.1 (fT k j).2.2.1 ∈ TB) (hdg : decode cc pc = .ok (.putfield index, 3))
    (kk : ∀ (H1 : Heap) (locs1 : List Loc), SP X (si σ k i j x) Al A N s.heap H1 locs1 → W p l e R s m args below meth c H1 locs1 cells slots Q (F0 m (pc + 3) ls rest)) : W p l e R s m args below meth c H locs cells slots Q (F0 m pc ls (.int x :: .ref (xL X k i) :: rest)) := by
  refine p_put F hP j i hk hi hj hnm (by rw [hpt]; rfl) (by rw [hpt]; rfl) ?_ (fun k' i' j' _ h => ?_) (fun k' i' h10 _ q => ?_) hlink hdg kk
  · unfold fvP
    rw [if_neg (fun z => by rw [hf] at z; cases z.1)]
    simp [fv, hf, gi_si]
  · unfold fvP; rw [fv_si h]
  · unfold avP; rw [av_si (fun z => by omega)]
theorem p_puti (k : Nat) (F : Fx X p s m c cc nL args (cN k)) (hP : SP X σ Al A N s.heap H locs) (j i : Nat) (hk : k < 10) (hi : Al k i = true) (hj : j < fn k) (hnm : meth.name = "<init>") (hf : fty k j = 0) (hpt : fpt k j = .int) {x : Int32} {index : Nat} (hlink : Cond.fieldLink (cN k) index (cN k) (fT k j).2.1 (fT k j).2.2.1 ∈ TB) (hdg : decode cc pc = .ok (.putfield index, 3))
    (kk : ∀ (H1 : Heap) (locs1 : List Loc), SP X (si σ k i j x) Al A N s.heap H1 locs1 → W p l e R s m args below meth c H1 locs1 cells slots Q (F0 m (pc + 3) ls rest)) : W p l e R s m args below meth c H locs cells slots Q (F0 m pc ls (.int x :: .ref (xL X k i) :: rest)) := p_putw k F hP j i hk hi hj (Or.inl hnm) hf hpt hlink hdg kk
theorem p_ar (F : Fx X p s m c cc nL args own) (hP : SP X σ Al A N s.heap H locs) (k i ko io : Nat) (hk0 : 10 ≤ k) (hk : k < 45) (hi : Al k i = true) (hko : ko < 10) (hio : Al ko io = true) (hety : ety k = .object (cN ko)) {q : Nat} (hq : q < alen k i) (hq2 : alen k i < 1000) (haty : aty k = 2) (hek : aek k = ko) (hei : aei k i q = io) (hdg : decode cc pc = .ok (.aastore, 1))
    (kk : ∀ (H1 : Heap) (locs1 : List Loc), SP X σ Al (uA A k i q) N s.heap H1 locs1 → W p l e R s m args below meth c H1 locs1 cells slots Q (F0 m (pc + 1) ls rest)) : W p l e R s m args below meth c H locs cells slots Q (F0 m pc ls (.ref (xL X ko io) :: .int (nI q) :: .ref (xL X k i) :: rest)) := by
  have hc : (nI q).toNatClampNeg = q := nI_clamp (by omega)
  refine p_aast F hP k i ko io hk0 hk hi hko hio hety (vp_in_nI hq (by omega)) (A' := uA A k i q) (σ' := σ) ?_ (fun k' i' q' _ _ _ h => avP_uA (by rw [hc] at h; exact h)) (fun k' i' j' hk' => fvP_uA (by omega)) hdg kk
  rw [hc]
  unfold avP
  rw [if_neg (fun z => by have := z.2; simp [uA] at this)]
  simp only [av, haty, hek, hei]
theorem p_ast (F : Fx X p s m c cc nL args own) (hP : SP X σ Al A N s.heap H locs) (k i : Nat) (hk0 : 10 ≤ k) (hk : k < 45) (hi : Al k i = true) (hety : ety k = .int) (haty : aty k = 0) {q : Nat} {x : Int32} (hq : q < alen k i) (hq2 : alen k i < 1000) (hdg : decode cc pc = .ok (.iastore, 1))
    (kk : ∀ (H1 : Heap) (locs1 : List Loc), SP X (si σ k i q x) Al A N s.heap H1 locs1 → W p l e R s m args below meth c H1 locs1 cells slots Q (F0 m (pc + 1) ls rest)) : W p l e R s m args below meth c H locs cells slots Q (F0 m pc ls (.int x :: .int (nI q) :: .ref (xL X k i) :: rest)) := by
  have hc : (nI q).toNatClampNeg = q := nI_clamp (by omega)
  obtain ⟨hx, hb, hml, hown, hts, hC⟩ := F
  obtain ⟨hPP, hN, hxb, hold, hlocs⟩ := hP
  have h9 := hPP.2.1 k i hk0 hk hi
  have harr := (hC.2.1 k hk0 hk).1
  rw [hety] at harr
  refine W.iast hx hb h9 (harr _ _) (fun z => by cases z) (by rw [arrV_size]; exact vp_in_nI hq (by omega)) rfl rfl hdg fun H1 e1 e2 e3 => ?_
  refine kk H1 _ ⟨hPP.setA hk0 hk hi e3 ?_ (fun k' i' hk' j => ?_) (fun k' i' h10 hk' hl' hne q' => ?_), by rw [e2, hN], hxb, fun q hq => (e3 q (fun z => by have := hPP.2.2.2 k i hk hi; rw [← z] at this; exact absurd hq (Nat.not_lt.mpr this))).trans (hold q hq), fun q hq => ?_⟩
  · rw [e1, arrV_store, hc]
    congr 2
    refine avP_upd ?_ (fun q' hq => ?_)
    · unfold avP; rw [if_neg (fun z => by rw [haty] at z; cases z.1)]; simp [av, haty, gi_si]
    · unfold avP; rw [av_si (fun z => hq z.2.2)]
  · unfold fvP; rw [fv_si (fun z => by omega)]
  · unfold avP; rw [av_si (fun z => hne ⟨z.1, z.2.1⟩)]
  · rcases List.mem_append.mp hq with hq | hq
    · exact hlocs q hq
    · rw [List.mem_singleton.mp hq]; exact hPP.2.2.2 k i hk hi
variable {y : MethodName} {bytes : ByteArray} {maxL index : Nat} {rm : Room} {As : List Value} {σ' : Sg} {Al' : Nat → Nat → Bool} {A' : Nat → Nat → Nat → Bool} {N' mc ms : Nat} {a : Nat}
theorem p_back {st0 : List Value} {av : Array Value} {r : Option Value} (hP : SP X σ Al A N s.heap H locs) (hN : N ≤ N') (hr : va_Run p l e R s m args below meth c H locs cells slots mc ms (F0 m pc ls st0) rest (QcP X σ' Al' A' N' r av) (eA X))
    (kk : ∀ (H1 : Heap) (locs1 : List Loc), SP X σ' Al' A' N' s.heap H1 locs1 → W p l e R s m args below meth c H1 locs1 (cells + mc) (slots + ms) Q (F0 m (pc + 3) ls (r.toList ++ rest))) : W p l e R s m args below meth c H locs cells slots Q (F0 m pc ls st0) := by
  intro T hT X1
  obtain ⟨v, st₀, t, T', L, h0, X', hL, e1, e2, ⟨hv, hPP, hn, hk⟩, st⟩ := hr T hT X1
  cases hv
  rw [h0] at hk
  obtain ⟨t2, a1, b1⟩ := kk t.heap (locs ++ L) ⟨hPP, hn, by have := hP.2.2.1; omega, fun q hq => (hk q hq).trans (hP.2.2.2.1 q hq), fun q hq => by
    rcases List.mem_append.mp hq with h | h
    · exact hP.2.2.2.2 q h
    · exact hL q h⟩ T' e1 X'
  exact ⟨t2, st t2 a1, b1⟩
theorem p_callI (F : Fx X p s m c cc nL args own) (hP : SP X σ Al A N s.heap H locs) (hM : Met l y (cw y bytes maxL none) rm (PcP X σ Al A N (.ref a :: As)) (QcP X σ' Al' A' N' none) mc ms (eA X)) (hN : N ≤ N') (hy : y.name = "<init>")
    (hd : y.cls ≠ "java/lang/invoke/MethodHandle" ∧ y.cls ≠ "java/lang/invoke/VarHandle" ∧ (parseMethodDescriptor y.desc).map (fun d => d.parameters.length) = some As.length) (hcode : Cond.code y bytes maxL none ∈ TB) (hini : Cond.initialized y.cls ∈ TB) (hlink : Cond.methodLink own index y ∈ TB ∨ Cond.methodLinkNest own index y "TableMachine" ∈ NW) (hin : Cond.instanceMethod y ∈ TB) (hrm : rm.cells = mc ∧ rm.slots = ms) (hR : rm.frames + 1 ≤ R.frames ∧ 8 + (maxL + 11) + rm.locals ≤ R.locals)
    (hsize : ls.size = nL) (hW : (rest.map fun v => v.category).sum ≤ 8) (hc : cells + mc ≤ R.cells ∧ slots + ms ≤ R.slots) (hdg : decode cc pc = .ok (.invokespecial index, 3)) {stk : List Value} (hstk : stk = As.reverse ++ .ref a :: rest)
    (kk : ∀ (H1 : Heap) (locs1 : List Loc), SP X σ' Al' A' N' s.heap H1 locs1 → W p l e R s m args below meth c H1 locs1 (cells + mc) (slots + ms) Q (F0 m (pc + 3) ls rest)) : W p l e R s m args below meth c H locs cells slots Q (F0 m pc ls stk) := by
  obtain ⟨hx, hb, hml, hown, hts, hC⟩ := F
  have hG : GoodIn TB (cw y bytes maxL none) := fun w hw => by
    rcases List.mem_cons.mp hw with rfl | hw
    · exact ⟨hcode, tb_good hcode⟩
    · exact ⟨hw, tb_good hw⟩
  rcases hlink with hlink | hlink
  · exact p_back hP hN (va_runI (b := a) (As := As) (n := As.length) (Ts := TB) (own := own) ⟨hx, hb, hml, hown, hts⟩ hM ⟨callB_of As.length hts hG rfl hrm.1 hrm.2 (hts _ hini) (hts _ hlink) hd hR, hy, hts _ hin⟩ ⟨PcP.blind, fun U hU hW => hP.fits hC hW hU _⟩ rfl rfl hsize hstk (lv_room hW) hdg hc) kk
  · exact p_back hP hN (va_runIN (b := a) (As := As) (n := As.length) (Ts := TB) (own := own) (host := "TableMachine") ⟨hx, hb, hml, hown, hts⟩ hM ⟨va_cnB As.length hts hG rfl hrm.1 hrm.2 (hC.2.2.1 _ hlink) (hts _ hini) hd hR, hy, hts _ hin⟩ ⟨PcP.blind, fun U hU hW => hP.fits hC hW hU _⟩ rfl rfl hsize hstk (lv_room hW) hdg hc) kk
/-- the loop that fills an array with new objects -/
theorem p_fill (F : Fx X p s m c cc nL args own) {kt it jf karr ko n w sl mcn q0 q1 qx : Nat} {oi : Nat → Nat} {AlI AlM : Nat → Nat → Nat → Bool} {AI AM : Nat → Nat → Nat → Nat → Bool} {N cells slots msn ic : Nat} {off1 off2 : Int}
    (hkt : kt < 10) (hjf : jf < fn kt) (hko : ko < 10) (hka : 10 ≤ karr ∧ karr < 45) (hety : ety karr = .object (cN ko)) (haty : aty karr = 2) (hek : aek karr = ko) (hlen : alen karr it = n) (hn : n < 1000) (hnL : nL = 2)
    (hg : ∀ i, i < n → fvP X σ (AI i) kt it jf = .ref (xL X karr it)) (ha0 : ∀ i, i < n → AlI i kt it = true) (ha1 : ∀ i, i < n → AlM i karr it = true) (ha2 : ∀ i, i < n → AlM i ko (oi i) = true) (hei : ∀ i, i < n → aei karr it i = oi i) (hx : ∀ i, i < n → xL X ko (oi i) = N + w * i) (hz : ∀ i, i < n → zz σ (AI i) ko (oi i))
    (hs1 : ∀ i, i < n → AlI (i + 1) = AlM i) (hs2 : ∀ i, i < n → AI (i + 1) = uA (AM i) karr it i) (hw : w = 1 + mcn) (hsl : sl = fn ko + msn) (hroom : cells + w * n ≤ R.cells ∧ slots + sl * n ≤ R.slots)
    (hcl : Cond.classLink own ic (cN ko) ∈ TB) (hins : Cond.instantiable (cN ko) (fn ko) ∈ TB) (hini : Cond.initialized (cN ko) ∈ TB) {ig : Nat} (hfl : Cond.fieldLink own ig (cN kt) (fT kt jf).2.1 (fT kt jf).2.2.1 ∈ TB)
    (hpush : ∀ (H : Heap) (locs : List Loc) (cells slots : Nat) (ls : Array Slot) (rest : List Value), W p l e R s m args below meth c H locs cells slots Q (F0 m q1 ls (.int (nI n) :: rest)) → W p l e R s m args below meth c H locs cells slots Q (F0 m (q0 + 1) ls rest))
    (hcall : ∀ (i : Nat), i < n → ∀ (H : Heap) (locs : List Loc) (ls : Array Slot) (rest : List Value), ls.size = nL → (rest.map fun v => v.category).sum ≤ 8 → SP X σ (uL (AlI i) ko (oi i)) (AI i) (N + w * i + 1) s.heap H locs → (∀ (H1 : Heap) (locs1 : List Loc), SP X σ (AlM i) (AM i) (N + w * i + 1 + mcn) s.heap H1 locs1 → W p l e R s m args below meth c H1 locs1 (cells + w * i + 1 + mcn) (slots + sl * i + fn ko + msn) Q (F0 m (q1 + 15) ls rest)) → W p l e R s m args below meth c H locs (cells + w * i + 1) (slots + sl * i + fn ko) Q (F0 m (q1 + 12) ls (.ref (xL X ko (oi i)) :: rest)))
    (d0 : decode cc q0 = .ok (.iload_n 1, 1)) (d2 : decode cc q1 = .ok (.if_icmp .ge off1, 3)) (ht1 : (q1 : Int) + off1 = (qx : Int)) (d3 : decode cc (q1 + 3) = .ok (.aload_n 0, 1)) (d4 : decode cc (q1 + 4) = .ok (.getfield ig, 3)) (d5 : decode cc (q1 + 7) = .ok (.iload_n 1, 1)) (d6 : decode cc (q1 + 8) = .ok (.new ic, 3)) (d7 : decode cc (q1 + 11) = .ok (.dup, 1))
    (d9 : decode cc (q1 + 15) = .ok (.aastore, 1)) (d10 : decode cc (q1 + 16) = .ok (.iinc 1 1, 3)) (d11 : decode cc (q1 + 19) = .ok (.goto off2, 3)) (ht2 : ((q1 + 19 : Nat) : Int) + off2 = (q0 : Int))
    (kx : ∀ (H : Heap) (locs : List Loc) (ls : Array Slot), SP X σ (AlI n) (AI n) (N + w * n) s.heap H locs → lv_has ls nL [(1, .int (nI n)), (0, .ref (xL X kt it))] → W p l e R s m args below meth c H locs (cells + w * n) (slots + sl * n) Q (F0 m qx ls [])) :
    ∀ (d i : Nat), i + d = n → ∀ (H : Heap) (locs : List Loc) (ls : Array Slot), SP X σ (AlI i) (AI i) (N + w * i) s.heap H locs → lv_has ls nL [(1, .int (nI i)), (0, .ref (xL X kt it))] → W p l e R s m args below meth c H locs (cells + w * i) (slots + sl * i) Q (F0 m q0 ls []) := by
  have hx0 := F.1
  have hb := F.2.1
  subst hnL
  intro d
  induction d with
  | zero =>
    intro i hi H locs ls hP hl
    rw [Nat.add_zero] at hi
    subst hi
    refine lv_iload_n hx0 hb d0 rfl (lv_at hl 0 rfl) ?_
    refine hpush _ _ _ _ _ _ ?_
    refine lv_icmp_ge hx0 hb d2 ht1 (fun _ => kx H locs ls hP hl) (fun h => absurd (nI_le (Nat.le_refl _) (by omega)) h)
  | succ d ih =>
    intro i hi H locs ls hP hl
    have hin : i < n := by omega
    have hm1 : w * (i + 1) = w * i + w := Nat.mul_succ w i
    have hm2 : sl * (i + 1) = sl * i + sl := Nat.mul_succ sl i
    have hle1 : w * (i + 1) ≤ w * n := Nat.mul_le_mul_left w (by omega)
    have hle2 : sl * (i + 1) ≤ sl * n := Nat.mul_le_mul_left sl (by omega)
    refine lv_iload_n hx0 hb d0 rfl (lv_at hl 0 rfl) ?_
    refine hpush _ _ _ _ _ _ ?_
    refine lv_icmp_ge hx0 hb d2 ht1 (fun h => absurd h (nI_ge hin (by omega))) (fun _ => ?_)
    refine lv_aload_n hx0 hb d3 rfl (lv_at hl 1 rfl) ?_
    refine p_get F hP kt jf it hkt (ha0 i hin) hjf (hg i hin) hfl d4 ?_
    refine lv_iload_n hx0 hb d5 rfl (lv_at hl 0 rfl) ?_
    refine p_new F hP ko (oi i) hko (hx i hin) (fun j hj => zz_fv (hz i hin) hko j hj) hcl hins hini ⟨by omega, by omega⟩ d6 (fun H hP => ?_)
    refine lv_dup hx0 hb d7 rfl ?_
    refine hcall i hin H locs ls _ hl.1 (Nat.le_of_ble_eq_true rfl) hP (fun H locs hP => ?_)
    refine p_ar F hP karr it ko (oi i) hka.1 hka.2 (ha1 i hin) hko (ha2 i hin) hety (q := i) (by rw [hlen]; exact hin) (by rw [hlen]; exact hn) haty hek (hei i hin) d9 (fun H locs hP => ?_)
    refine lv_iinc (k := 0) (v := nI (i + 1)) hx0 hb d10 hl rfl (by rw [nI_succ]; rfl) (by decide) rfl (fun ls hl => ?_)
    refine lv_goto hx0 hb d11 ht2 ?_
    have k9 := ih (i + 1) (by omega) H locs ls (by
      rw [hs1 i hin, hs2 i hin]
      have e1 : N + w * (i + 1) = N + w * i + 1 + mcn := by omega
      rw [e1]
      exact hP) hl
    have e2 : cells + w * (i + 1) = cells + w * i + 1 + mcn := by omega
    have e3 : slots + sl * (i + 1) = slots + sl * i + fn ko + msn := by omega
    rw [e2, e3] at k9
    exact k9
end PROW2
