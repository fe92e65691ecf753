/-! more rows: the head of a method, longs, constants of the enum, their texts -/
theorem zb_n {x : Int32} (h : zb x) : narrow .boolean (.int x) = .int x := by rcases h with rfl | rfl <;> rfl
theorem zb_f {x : Int32} (h : zb x) : fits .boolean (.int x) = true := by rcases h with rfl | rfl <;> rfl
theorem zb0 : zb 0 := Or.inl rfl
theorem zb1 : zb 1 := Or.inr rfl
theorem g_entry {m : MethodId} {args : Array Value} {vs : List Value} {N : Nat} (ha : args = vs.toArray) (h : (lg_sl vs).length ≤ N) : ∃ ls, lv_has ls N (lv_args 0 vs) ∧ entryFrame m args N = F0 m 0 ls [] := by
  subst ha
  exact ⟨_, lv_entry vs h, lg_entry_eq m vs N⟩
theorem g_head {l : Launch} {X : GX} {n : Nat} {y : MethodName} {b : ByteArray} {N : Nat} {ret : Option FieldType} {rm : Room} {σ σ' : Sg} {vs : List Value} {r : Option Value} {own : String} (hy : plainName y.cls = true) (hown : y.cls = own) (hN : (lg_sl vs).length ≤ N)
    (body : ∀ (p : Program) (e : Env) (s : State) (m : MethodId) (args : Array Value) (below : List Frame) (meth : Method) (c : Code) (ls : Array Slot), Fx X p s m c b N args own → meth.sig.returnType = ret → meth.locks = false → St X n σ s.heap s.heap [] → lv_has ls N (lv_args 0 vs) →
      W p l e rm s m args below meth c s.heap [] 0 0 (MQ below (QcG X n σ' r) args s 0 0 (fr X n)) (F0 m 0 ls [])) : Met l y (cw y b N ret) rm (PcG X n σ vs) (QcG X n σ' r) 0 0 (fr X n) := by
  refine Met.ofW (cc := b) (maxL := N) (ret := ret) hy rfl ?_
  intro p e s m args below meth c s₁ B hml hv
  obtain ⟨ha, hn, hC, hP⟩ := hv
  obtain ⟨ls, hl, he⟩ := g_entry (m := m) ha hN
  have hts := atoms_spec (ws := cw y b N ret) B.pre
  exact W.eq he (body p e s m args below meth c ls ⟨B.exec, B.bytes, hml, by rw [← hown]; exact findClass_of_methodNamed B.named, tb_of hts, hC⟩ B.returns B.notSynchronized ⟨hn, hP, Sx.rf⟩ hl)
theorem lg_cmp_eq0 (x y : Int64) : lg_cmp x y = 0 ↔ x = y := by
  unfold lg_cmp
  constructor
  · intro h
    split at h
    · exact absurd h (by decide)
    · split at h
      · assumption
      · exact absurd h (by decide)
  · intro h
    subst h
    simp
theorem lg_cmp_lt0 (x y : Int64) : lg_cmp x y < 0 ↔ x < y := by
  have h1 := lg_cmp_ge x y
  constructor
  · intro h
    exact Int64.not_le.mp (fun z => absurd (h1.mpr z) (Int32.not_le.mpr h))
  · intro h
    exact Int32.not_le.mp (fun z => absurd (h1.mp z) (Int64.not_le.mpr h))
theorem lg_cmp_gt0 (x y : Int64) : 0 < lg_cmp x y ↔ y < x := by
  unfold lg_cmp
  constructor
  · intro h
    split at h
    · assumption
    · split at h
      · exact absurd h (by decide)
      · exact absurd h (by decide)
  · intro h
    rw [if_pos h]
    decide
theorem lg_cmp_le0 (x y : Int64) : lg_cmp x y ≤ 0 ↔ x ≤ y := by
  have h1 := lg_cmp_gt0 x y
  constructor
  · intro h
    exact Int64.not_lt.mp (fun z => absurd (h1.mpr z) (Int32.not_lt.mpr h))
  · intro h
    exact Int32.not_lt.mp (fun z => absurd (h1.mp z) (Int64.not_lt.mpr h))
section GROWS2
variable {X : GX} {p : Program} {l : Launch} {e : Env} {R : Room} {s : State} {m : MethodId} {args : Array Value} {below : List Frame} {meth : Method} {c : Code} {H : Heap} {locs : List Loc} {cells slots : Nat} {Q : State → Prop}
variable {cc : ByteArray} {pc nL n : Nat} {ls : Array Slot} {rest : List Value} {own : String} {σ : Sg}
theorem g_lc_eq (F : Fx X p s m c cc nL args own) {x y : Int64} {off : Int} {tgt : Nat} (hd0 : decode cc pc = .ok (.lcmp, 1)) (hdg : decode cc (pc + 1) = .ok (.ifCond .eq off, 3)) (ht : ((pc + 1 : Nat) : Int) + off = (tgt : Int)) (kt : x = y → W p l e R s m args below meth c H locs cells slots Q (F0 m tgt ls rest)) (kf : ¬ x = y → W p l e R s m args below meth c H locs cells slots Q (F0 m (pc + 4) ls rest)) : W p l e R s m args below meth c H locs cells slots Q (F0 m pc ls (.long y :: .long x :: rest)) :=
  W.lcmp F.1 F.2.1 hd0 (lv_if_eq F.1 F.2.1 hdg ht (fun h => kt ((lg_cmp_eq0 x y).mp h)) (fun h => kf (fun z => h ((lg_cmp_eq0 x y).mpr z))))
theorem g_lc_ne (F : Fx X p s m c cc nL args own) {x y : Int64} {off : Int} {tgt : Nat} (hd0 : decode cc pc = .ok (.lcmp, 1)) (hdg : decode cc (pc + 1) = .ok (.ifCond .ne off, 3)) (ht : ((pc + 1 : Nat) : Int) + off = (tgt : Int)) (kt : ¬ x = y → W p l e R s m args below meth c H locs cells slots Q (F0 m tgt ls rest)) (kf : x = y → W p l e R s m args below meth c H locs cells slots Q (F0 m (pc + 4) ls rest)) : W p l e R s m args below meth c H locs cells slots Q (F0 m pc ls (.long y :: .long x :: rest)) :=
  W.lcmp F.1 F.2.1 hd0 (lv_if_ne F.1 F.2.1 hdg ht (fun h => kt (fun z => h ((lg_cmp_eq0 x y).mpr z))) (fun h => kf ((lg_cmp_eq0 x y).mp h)))
theorem g_lc_lt (F : Fx X p s m c cc nL args own) {x y : Int64} {off : Int} {tgt : Nat} (hd0 : decode cc pc = .ok (.lcmp, 1)) (hdg : decode cc (pc + 1) = .ok (.ifCond .lt off, 3)) (ht : ((pc + 1 : Nat) : Int) + off = (tgt : Int)) (kt : x < y → W p l e R s m args below meth c H locs cells slots Q (F0 m tgt ls rest)) (kf : ¬ x < y → W p l e R s m args below meth c H locs cells slots Q (F0 m (pc + 4) ls rest)) : W p l e R s m args below meth c H locs cells slots Q (F0 m pc ls (.long y :: .long x :: rest)) :=
  W.lcmp F.1 F.2.1 hd0 (lv_if_lt F.1 F.2.1 hdg ht (fun h => kt ((lg_cmp_lt0 x y).mp h)) (fun h => kf (fun z => h ((lg_cmp_lt0 x y).mpr z))))
theorem g_lc_ge (F : Fx X p s m c cc nL args own) {x y : Int64} {off : Int} {tgt : Nat} (hd0 : decode cc pc = .ok (.lcmp, 1)) (hdg : decode cc (pc + 1) = .ok (.ifCond .ge off, 3)) (ht : ((pc + 1 : Nat) : Int) + off = (tgt : Int)) (kt : y ≤ x → W p l e R s m args below meth c H locs cells slots Q (F0 m tgt ls rest)) (kf : ¬ y ≤ x → W p l e R s m args below meth c H locs cells slots Q (F0 m (pc + 4) ls rest)) : W p l e R s m args below meth c H locs cells slots Q (F0 m pc ls (.long y :: .long x :: rest)) :=
  W.lcmp F.1 F.2.1 hd0 (lv_if_ge F.1 F.2.1 hdg ht (fun h => kt ((lg_cmp_ge x y).mp h)) (fun h => kf (fun z => h ((lg_cmp_ge x y).mpr z))))
theorem g_lc_gt (F : Fx X p s m c cc nL args own) {x y : Int64} {off : Int} {tgt : Nat} (hd0 : decode cc pc = .ok (.lcmp, 1)) (hdg : decode cc (pc + 1) = .ok (.ifCond .gt off, 3)) (ht : ((pc + 1 : Nat) : Int) + off = (tgt : Int)) (kt : y < x → W p l e R s m args below meth c H locs cells slots Q (F0 m tgt ls rest)) (kf : ¬ y < x → W p l e R s m args below meth c H locs cells slots Q (F0 m (pc + 4) ls rest)) : W p l e R s m args below meth c H locs cells slots Q (F0 m pc ls (.long y :: .long x :: rest)) :=
  W.lcmp F.1 F.2.1 hd0 (lv_if_gt F.1 F.2.1 hdg ht (fun h => kt ((lg_cmp_gt0 x y).mp h)) (fun h => kf (fun z => h ((lg_cmp_gt0 x y).mpr z))))
theorem g_lc_le (F : Fx X p s m c cc nL args own) {x y : Int64} {off : Int} {tgt : Nat} (hd0 : decode cc pc = .ok (.lcmp, 1)) (hdg : decode cc (pc + 1) = .ok (.ifCond .le off, 3)) (ht : ((pc + 1 : Nat) : Int) + off = (tgt : Int)) (kt : x ≤ y → W p l e R s m args below meth c H locs cells slots Q (F0 m tgt ls rest)) (kf : ¬ x ≤ y → W p l e R s m args below meth c H locs cells slots Q (F0 m (pc + 4) ls rest)) : W p l e R s m args below meth c H locs cells slots Q (F0 m pc ls (.long y :: .long x :: rest)) :=
  W.lcmp F.1 F.2.1 hd0 (lv_if_le F.1 F.2.1 hdg ht (fun h => kt ((lg_cmp_le0 x y).mp h)) (fun h => kf (fun z => h ((lg_cmp_le0 x y).mpr z))))
-- constants of the enum
theorem St.vaS (hP : St X n σ s.heap H locs) : va_S (eA X) s.heap H locs := ⟨Nat.le_of_eq hP.2.2.1.symm, fun q _ h => hP.2.2.2.1 q (by rw [← hP.1]; exact hP.2.1.out (Nat.not_le.mp h)), fun q hq => by
  obtain ⟨k, i, hk, hi, e⟩ := hP.2.2.2.2 q hq
  rw [← e]
  exact hP.2.1.2.2.2 k i hk (by rw [hP.1]; exact hi)⟩
theorem g_enum (F : Fx X p s m c cc nL args own) (hP : St X n σ s.heap H locs) (i : Nat) (hi : i < 22) {index : Nat} (hlink : Cond.fieldLink own index "TableMachine$Op" (opN i) "LTableMachine$Op;" ∈ TB) (hdg : decode cc pc = .ok (.getstatic index, 3))
    (kk : W p l e R s m args below meth c H locs cells slots Q (F0 m (pc + 3) ls (.ref (xad X i) :: rest))) : W p l e R s m args below meth c H locs cells slots Q (F0 m pc ls rest) :=
  va_gets F.1 F.2.1 (F.2.2.2.2.2.2.2.2.1 i hi).1 hP.vaS F.2.2.2.1 (F.2.2.2.2.1 _ hlink) (fun _ h => h) hdg kk
theorem g_what (F : Fx X p s m c cc nL args own) (hP : St X n σ s.heap H locs) {i : Nat} (hi : i < 22) {index : Nat} (hlink : Cond.fieldLinkNest own index "TableMachine$Op" "what" "Ljava/lang/String;" "TableMachine" ∈ NW) (hdg : decode cc pc = .ok (.getfield index, 3))
    (kk : W p l e R s m args below meth c H locs cells slots Q (F0 m (pc + 3) ls (.ref (xsk X i) :: rest))) : W p l e R s m args below meth c H locs cells slots Q (F0 m pc ls (.ref (xad X i) :: rest)) := by
  obtain ⟨cf, k, fi, f, cell, h1, h2, h3, h4, h5, h6⟩ := (F.2.2.2.2.2.2.2.2.1 i hi).2.2.2.1.kept hP.vaS.2.1
  exact va_Wgetf F.1 F.2.1 F.2.2.2.1 (va_Nw.use rfl (F.2.2.2.2.2.2.2.1 _ hlink)) h1 h2 h3 h4 h5 rfl rfl hdg kk
theorem g_acmp_eq (F : Fx X p s m c cc nL args own) {a b : Nat} (ha : a < 22) (hb : b < 22) {off : Int} {tgt : Nat} (hdg : decode cc pc = .ok (.if_acmp .eq off, 3)) (ht : (pc : Int) + off = (tgt : Int)) (kt : a = b → W p l e R s m args below meth c H locs cells slots Q (F0 m tgt ls rest)) (kf : ¬ a = b → W p l e R s m args below meth c H locs cells slots Q (F0 m (pc + 3) ls rest)) : W p l e R s m args below meth c H locs cells slots Q (F0 m pc ls (.ref (xad X b) :: .ref (xad X a) :: rest)) :=
  lv_acmp_eq (rx := some (xad X a)) (ry := some (xad X b)) F.1 F.2.1 hdg ht (fun h => kt (ad_inj F.2.2.2.2.2.2.2.2 ha hb (Option.some.inj h))) (fun h => kf (fun z => h (by rw [z])))
theorem g_acmp_ne (F : Fx X p s m c cc nL args own) {a b : Nat} (ha : a < 22) (hb : b < 22) {off : Int} {tgt : Nat} (hdg : decode cc pc = .ok (.if_acmp .ne off, 3)) (ht : (pc : Int) + off = (tgt : Int)) (kt : ¬ a = b → W p l e R s m args below meth c H locs cells slots Q (F0 m tgt ls rest)) (kf : a = b → W p l e R s m args below meth c H locs cells slots Q (F0 m (pc + 3) ls rest)) : W p l e R s m args below meth c H locs cells slots Q (F0 m pc ls (.ref (xad X b) :: .ref (xad X a) :: rest)) :=
  lv_acmp_ne (rx := some (xad X a)) (ry := some (xad X b)) F.1 F.2.1 hdg ht (fun h => kt (fun z => h (by rw [z]))) (fun h => kf (ad_inj F.2.2.2.2.2.2.2.2 ha hb (Option.some.inj h)))
theorem g_ifnn (F : Fx X p s m c cc nL args own) {r : Option Nat} {f : Nat → Nat} {off : Int} {tgt : Nat} (hdg : decode cc pc = .ok (.ifnonnull off, 3)) (ht : (pc : Int) + off = (tgt : Int)) (kt : ¬ r = none → W p l e R s m args below meth c H locs cells slots Q (F0 m tgt ls rest)) (kf : r = none → W p l e R s m args below meth c H locs cells slots Q (F0 m (pc + 3) ls rest)) : W p l e R s m args below meth c H locs cells slots Q (F0 m pc ls (va_rf (r.map f) :: rest)) := by
  cases r with
  | none => exact lv_ifnonnullN F.1 F.2.1 hdg (kf rfl)
  | some a => exact lv_ifnonnull F.1 F.2.1 hdg ht (kt (fun h => by cases h))
theorem fv_op {i o : Nat} (h : gr σ 6 i 0 = some o) : fv X σ 6 i 0 = .ref (xad X o) := by
  show va_re (xad X) (gr σ 6 i 0) = _
  rw [h]; rfl
theorem fv_on {i o : Nat} (h : gr σ 7 i 0 = some o) : fv X σ 7 i 0 = .ref (xL X 3 o) := by
  show va_rf ((gr σ 7 i 0).map (xL X 3)) = _
  rw [h]; rfl
end GROWS2
