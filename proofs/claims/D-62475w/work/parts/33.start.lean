/-! the start of the law: classes, constants, texts -/
def opS (i : Nat) : Nat := match i with
  | 0 => 94
  | 1 => 100
  | 2 => 103
  | 3 => 103
  | 4 => 107
  | 5 => 110
  | 6 => 113
  | 7 => 116
  | 8 => 119
  | 9 => 122
  | 10 => 122
  | 11 => 122
  | 12 => 122
  | 13 => 122
  | 14 => 122
  | 15 => 130
  | 16 => 130
  | 17 => 134
  | 18 => 137
  | 19 => 140
  | 20 => 143
  | _ => 146
def eC (k : Nat) : String := match k with
  | 11 => "TableMachine$Tape"
  | 15 => "TableMachine$Value"
  | 17 => "TableMachine$Tree"
  | 18 => "TableMachine$Op"
  | 19 => "TableMachine$Instruction"
  | 20 => "TableMachine$Value"
  | 21 => "TableMachine$Cursor"
  | 22 => "TableMachine$Value"
  | _ => "TableMachine$Condition"
abbrev gN : List Cond := flatC (Jvm.Cond.and given_1 narrow_1)
abbrev oT (i : Nat) : Term := .static "TableMachine$Op" (opN i) "LTableMachine$Op;"
abbrev sT (i : Nat) : Term := .string "TableMachine$Op" (opS i)
abbrev vT (i : Nat) : Term := .field (sT i) "java/lang/String" "value" "[B"
abbrev VT : Term := .static "TableMachine$Op" "$VALUES" "[LTableMachine$Op;"
theorem b_inst : ∀ k, k < 10 → Cond.instantiable (cN k) (fn k) ∈ TB := by decide +kernel
theorem b_arr : ∀ k, k < 45 → k < 10 ∨ ((ety k).isReference = false ∧ Cond.arrayClass (ety k) ∈ tables_1) ∨ (ety k = .object (eC k) ∧ Cond.arrayOver (.object (eC k)) ∈ tables_1) := by decide +kernel
theorem b_lay : ∀ i, i < 22 → Cond.laysStatic "TableMachine$Op" (opN i) "LTableMachine$Op;" ∈ tables_1 := by decide +kernel
theorem b_ex : ∀ i, i < 22 → Cond.exactly (oT i) "TableMachine$Op" ∈ gN := by decide +kernel
theorem b_or : ∀ i, i < 22 → Cond.eq (.field (oT i) "java/lang/Enum" "ordinal" "I") (.int (nI i)) ∈ gN := by decide +kernel
theorem b_wh : ∀ i, i < 22 → Cond.eq (.field (oT i) "TableMachine$Op" "what" "Ljava/lang/String;") (sT i) ∈ gN := by decide +kernel
theorem b_se : ∀ i, i < 22 → Cond.exactly (sT i) "java/lang/String" ∈ gN := by decide +kernel
theorem b_sc : ∀ i, i < 22 → Cond.eq (.field (sT i) "java/lang/String" "coder" "B") (.int 0) ∈ gN := by decide +kernel
theorem b_sa : ∀ i, i < 22 → Cond.arrayOf (vT i) .byte ∈ gN := by decide +kernel
theorem b_sl : ∀ i, i < 22 → Cond.eq (.length (vT i)) (.int (Int32.ofNat 3)) ∈ gN := by decide +kernel
theorem b_sb : ∀ i, i < 22 → ∀ j, j < 3 → Cond.eq (.elem (vT i) (.int (Int32.ofNat j))) (.int (chr i j)) ∈ gN := by decide +kernel
theorem b_v1 : Cond.laysStatic "TableMachine$Op" "$VALUES" "[LTableMachine$Op;" ∈ tables_1 ∧ Cond.exactly VT "[LTableMachine$Op;" ∈ gN ∧ Cond.arrayOf VT (.object "TableMachine$Op") ∈ gN ∧ Cond.eq (.length VT) (.int (Int32.ofNat 22)) ∈ gN := by decide +kernel
theorem b_v2 : ∀ j, j < 22 → Cond.eq (.elem VT (.int (Int32.ofNat j))) (oT j) ∈ gN := by decide +kernel
theorem b_cs : Cond.laysStatic "java/lang/String" "COMPACT_STRINGS" "Z" ∈ tables_1 ∧ Cond.eq (.static "java/lang/String" "COMPACT_STRINGS" "Z") (.int 1) ∈ gN ∧ Cond.laysStatic "jdk/internal/util/Preconditions" "SIOOBE_FORMATTER" "Ljava/util/function/BiFunction;" ∈ tables_1 ∧ Cond.isRef (.static "jdk/internal/util/Preconditions" "SIOOBE_FORMATTER" "Ljava/util/function/BiFunction;") ∈ gN := by decide +kernel
theorem eqR {args : Array Value} {s : State} {t u : Term} {a : Nat} (h : (Cond.eq t u).before args s = true) (hu : u.eval args s none [] s = some (.ref a)) : t.eval args s none [] s = some (.ref a) := by
  cases hv : t.eval args s none [] s with
  | none => simp [Cond.before, Cond.holds, Cond.value, hv] at h
  | some w =>
    simp only [Cond.before, Cond.holds, Cond.value, hv, hu] at h
    cases w <;> simp_all
theorem len_small {t : Term} {args : Array Value} {s : State} {b : Nat} {cell : Cell} {v : Value} (hv : (Term.length t).eval args s none [] s = some v) (ht : t.eval args s none [] s = some (.ref b)) (harr : s.arrayAt? b = some cell) : cell.slots.size < 2 ^ 31 := by
  simp only [Term.eval, ht, harr, Option.bind_eq_bind, Option.bind_some] at hv
  by_cases hlt : cell.slots.size < 2147483648
  · exact hlt
  · simp [hlt] at hv
theorem start_ctx {args : Array Value} {s : State} (hts : ∀ w ∈ lw_tbl, w.before args s = true) (hgv : (Jvm.Cond.and given_1 narrow_1).before args s = true) : ∃ X : GX, xb X = s.heap.size ∧ xO X ∧ Ctx X s s.heap ∧ CtV X s s.heap := by
  have hT : ∀ w ∈ tables_1, w.before args s = true := fun w hw => hts w (List.mem_append_right _ hw)
  have hB : ∀ w ∈ TB, w.before args s = true := fun w hw => hts w (List.mem_filter.mp hw).1
  have hG : ∀ w ∈ gN, w.before args s = true := flat_of_before _ hgv
  have h1 : ∀ k : Nat, ∃ q : ClassId × (Nat → Nat), k < 10 → u_Kn s (cN k) (fT k) (fn k) q.1 q.2 := by
    intro k
    by_cases hk : k < 10
    · obtain ⟨cC, iS, h⟩ := u_known hB (fT_hin k hk) (hB _ (b_inst k hk))
      exact ⟨(cC, iS), fun _ => h⟩
    · exact ⟨(0, fun _ => 0), fun h => absurd h hk⟩
  obtain ⟨D, hD⟩ := Classical.axiomOfChoice h1
  have h2 : ∀ k : Nat, ∃ q : ClassId, 10 ≤ k → k < 45 → ArrOfT s q (ety k) ∧ va_RA s q (ety k) := by
    intro k
    by_cases hk : k < 45
    · rcases b_arr k hk with h | ⟨hp, h⟩ | ⟨he, h⟩
      · exact ⟨0, fun h9 => by omega⟩
      · obtain ⟨cA, kA, comp, f1, f2, f3⟩ := Cond.arrayClass_spec (hT _ h)
        refine ⟨cA, fun _ _ => ⟨fun n z => ⟨fun k h => (by cases h), kA, f2, comp, f3⟩, ?_⟩⟩
        generalize ety k = ty at hp f1 f3
        cases ty <;> first | exact f1 | (cases hp)
      · obtain ⟨comp, cA, kA, f1, f2, f3, f4, f5⟩ := Cond.arrayOver_spec (hT _ h)
        rw [he]
        exact ⟨cA, fun _ _ => ⟨fun n z => ⟨fun k h => (by cases h), kA, f3, comp, f4⟩, kA, comp, f3, f4, f1, f5⟩⟩
    · exact ⟨0, fun _ h => absurd h hk⟩
  obtain ⟨E, hE⟩ := Classical.axiomOfChoice h2
  have hA : ∀ a : Nat, a < s.heap.size → ¬ s.heap.size ≤ a := fun a h => by omega
  have h3 : ∀ i : Nat, ∃ q : Nat × Nat × Nat, i < 22 → (oT i).eval args s none [] s = some (.ref q.1) ∧ (sT i).eval args s none [] s = some (.ref q.2.1) ∧ va_T .byte q.2.2 3 (fun j => .int (chr i j)) (fun q => s.heap.size ≤ q) s s.heap ∧ (vT i).eval args s none [] s = some (.ref q.2.2) := by
    intro i
    by_cases hi : i < 22
    · obtain ⟨a, c, cell, k, q1, -⟩ := Cond.exactly_spec (hG _ (b_ex i hi))
      obtain ⟨b, c2, cell2, k2, q2, -⟩ := Cond.exactly_spec (hG _ (b_se i hi))
      obtain ⟨t, ht, hTT⟩ := va_Tof (f := fun j => .int (chr i j)) (A := fun q => s.heap.size ≤ q) (N := 3) (by decide) (hG _ (b_sa i hi)) (va_eqt (hG _ (b_sl i hi))) (fun j hj => va_eqt (hG _ (b_sb i hi j hj))) hA
      exact ⟨(a, b, t), fun _ => ⟨q1, q2, hTT, ht⟩⟩
    · exact ⟨(0, 0, 0), fun h => absurd h hi⟩
  obtain ⟨ad, had⟩ := Classical.axiomOfChoice h3
  let X : GX := ((fun k => (D k).1, fun k => (D k).2), E, fun k i => s.heap.size + off k i, fun i => (ad i).1, fun i => (ad i).2.1, fun i => (ad i).2.2, s.heap.size)
  have hini : (Cond.initialized "TableMachine$Op").before args s = true := hB _ w_7
  obtain ⟨c1, c2, c3, c4⟩ := b_cs
  have hC : Ctx X s s.heap := by
    refine ⟨fun k hk => hD k hk, fun k h10 hk => hE k h10 hk, fun w hw => ?_, fun i hi => ?_, ?_, ?_, ?_⟩
    · have hm := (List.mem_filter.mp hw)
      have hb := hT w hm.1
      have hg := hm.2
      cases w <;> first | (simp [isNest] at hg; done) | exact va_Nw.of rfl hb
    · obtain ⟨q1, q2, q3, q4⟩ := had i hi
      exact ⟨va_Zref (hT _ (b_lay i hi)) hini q1 hA, va_Oof (hG _ (b_ex i hi)) q1 hA, vk_OFof q1 (va_eqt (hG _ (b_or i hi))) hA, vk_OFof q1 (eqR (hG _ (b_wh i hi)) q2) hA, va_Oof (hG _ (b_se i hi)) q2 hA, vk_OFof q2 (va_eqt (hG _ (b_sc i hi))) hA, vk_OFof q2 q4 hA, q3⟩
    · exact va_Zof (hT _ c1) (hB _ w_19) (va_eqi (hG _ c2)) hA
    · exact va_Zqof (hT _ c3) (hB _ w_21) (hG _ c4) hA
    · exact ⟨s, args, State.WarmedH.refl s, Nat.le_refl _, fun _ _ => rfl, hT, hgv⟩
  refine ⟨X, rfl, fun k i _ _ => rfl, hC, ?_⟩
  obtain ⟨v1, v2, v3, v4⟩ := b_v1
  have hlen := va_eqt (hG _ v4)
  obtain ⟨t, ht, cell, t1, t2, t3, t4, t5, t6, t7⟩ := va_Tof (f := fun j => .ref (xad X j)) (A := fun q => s.heap.size ≤ q) (N := 22) (by decide) (hG _ v3) hlen (fun j hj => eqR (hG _ (b_v2 j hj)) (had j hj).1) hA
  obtain ⟨a2, cc2, cell2, k2, x1, x2, x3, x4, x5, x6, -⟩ := Cond.exactly_spec (hG _ v2)
  cases ht.symm.trans x1
  cases t1.symm.trans x3
  obtain ⟨b9, cell9, y1, y2, -⟩ := Term.length_spec hlen
  cases ht.symm.trans y1
  obtain ⟨z1, -, -, -⟩ := State.arrayAt?_spec y2
  cases t1.symm.trans z1
  have hsz : cell.slots.size < 2 ^ 31 := len_small hlen ht y2
  have h22 : cell.slots.size = 22 := by
    have e1 : Int32.ofNat cell.slots.size = Int32.ofNat 22 := t5
    exact (nI_eq hsz (by decide)).mp e1
  obtain ⟨kA, comp, r1, r2, r3, r4⟩ := (hC.2.1 18 (by decide) (by decide)).2
  have hnm : s.vm.findClass "[LTableMachine$Op;" = some (xE X 18) := by
    have e0 : "[" ++ (FieldType.object "TableMachine$Op").toString = "[LTableMachine$Op;" := by decide +kernel
    rw [← e0]; exact r4
  refine ⟨t, va_Zref (hT _ v1) hini ht hA, (Array.getElem?_eq_some_iff.mp t1).1, cell, t1, VmData.ne_statics_of x5, t3, ?_, ?_⟩
  · rw [x6]; exact Option.some.inj (x2.symm.trans hnm)
  · apply Array.ext
    · rw [h22, arrV_size]
    · intro i h1 h2
      rw [arrV_size] at h2
      have e1 := t6 i h2
      have e2 := arrV_read (xE X 18) (fun j => Value.ref (xad X j)) h2
      rw [Array.getElem?_eq_getElem h1] at e1
      rw [Array.getElem?_eq_getElem (by rw [arrV_size]; exact h2)] at e2
      exact Option.some.inj (e1.trans e2.symm)
