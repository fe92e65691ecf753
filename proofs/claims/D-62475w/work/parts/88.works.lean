/-! the plain law: the instructions without a cursor -/
/-- both machines make the same step -/
def Sim (jp : Prop) (N : Nat) (col : Nat → Nat) (σ : Sg) (R : List Row) (rg : Nat → Option Int64) (cu : Nat → Cur) (Rs : List Vals) (CL : Option (Int32 × Sg)) (ML : Sg → Option (Int32 × Sg)) : Prop :=
  ∃ j σ' R' rg' cu' Rs', (j = 0 ∨ (j = 1 ∧ jp)) ∧ CL = some (j, σ') ∧ KC σ' N col R' rg' cu' Rs' ∧ fKc σ σ' ∧ gi σ' 0 0 14 = gi σ 0 0 14 ∧ ∀ τ, KM τ N col R rg cu Rs → ∃ τ', ML τ = some (j, τ') ∧ KM τ' N col R' rg' cu' Rs' ∧ fKm τ τ' ∧ gi τ' 9 0 18 = gi τ 9 0 18 ∧ gi τ' 9 0 17 = gi τ 9 0 17
theorem Sim.mono {jp jp' : Prop} {N : Nat} {col : Nat → Nat} {σ : Sg} {R : List Row} {rg : Nat → Option Int64} {cu : Nat → Cur} {Rs : List Vals} {CL : Option (Int32 × Sg)} {ML : Sg → Option (Int32 × Sg)} (hp : jp → jp') (h : Sim jp N col σ R rg cu Rs CL ML) : Sim jp' N col σ R rg cu Rs CL ML := by
  obtain ⟨j, σ', R', rg', cu', Rs', h1, h2⟩ := h
  exact ⟨j, σ', R', rg', cu', Rs', h1.imp id (fun z => ⟨z.1, hp z.2⟩), h2⟩
section
variable {N : Nat} {col : Nat → Nat} {σ : Sg} {R : List Row} {rg : Nat → Option Int64} {cu : Nat → Cur} {Rs : List Vals} {i : Nat}
theorem v03 : vp_in 0 3 := in0 (by decide) (by decide)
theorem v13 : vp_in 1 3 := in1 (by decide) (by decide)
theorem v23 : vp_in 2 3 := vp_in_nI (n := 2) (by decide) (by decide)
theorem t2c : (2 : Int32).toNatClampNeg = 2 := by decide
theorem vr16 {k : Nat} (h : k < 16) : vp_in (nI k) 16 := vp_in_nI h (by decide)
theorem vc3 {k : Nat} (h : k < 3) : vp_in (nI k) 3 := vp_in_nI h (by decide)
theorem nar0 : vp_nar .boolean 0 = 0 := rfl
/-- the head of works -/
theorem works_head {o : Nat} {a b c : Int32} (hI : insC σ i (o, a, b, c)) (ho : o < 22) (K : Option (Int32 × Sg)) (hK : (if nI o = 0 then (lt_ (si σ 0 0 14 0) (fun σ8 => some (0, σ8))) else (if nI o = 1 then (chk (vp_in a 3) (chk (vp_in b 3) (chk (b.toNatClampNeg < nt σ) (lt_ (sr σ 7 a.toNatClampNeg 0 (some b.toNatClampNeg)) (fun σ13 => chk (vp_in a 3) ((f_Cu_clear a.toNatClampNeg σ13).bind (fun σ15 => some (0, σ15)))))))) else (if nI o = 6 then (chk (vp_in b 16) ((f_Vl_to (8 + b.toNatClampNeg) a.toInt64 σ).bind (fun σ18 => some (0, σ18)))) else (if nI o = 7 then (chk (vp_in a 16) ((f_Vl_none (8 + a.toNatClampNeg) σ).bind (fun σ21 => some (0, σ21)))) else (if nI o = 15 then (chk (vp_in a 16) (lt_ ((if (gi σ 5 (8 + a.toNatClampNeg) 0) = 0 then 1 else 0) : Int32) (fun (x24 : Int32) => chk (zb x24) (some (x24, σ))))) else (if nI o = 16 then (chk (vp_in a 16) (chk (zb (gi σ 5 (8 + a.toNatClampNeg) 0)) (some (gi σ 5 (8 + a.toNatClampNeg) 0, σ)))) else (if nI o = 17 then (chk (vp_in a 16) (chk (vp_in b 16) (chk (vp_in c 16) ((f_TM_sum (8 + a.toNatClampNeg) (8 + b.toNatClampNeg) (8 + c.toNatClampNeg) σ).bind (fun σ35 => some (0, σ35)))))) else (if nI o = 18 then ((f_TM_tell a b σ).bind (fun σ37 => some (0, σ37))) else (if nI o = 19 then (some (1, σ)) else (chk (vp_in a 16) (bn2 (if (gi σ 5 (8 + a.toNatClampNeg) 0) = 0 then (some (0, σ)) else (chk (vp_in c 16) ((if (gi σ 5 (8 + c.toNatClampNeg) 0) = 0 then (some (0, σ)) else (bn2 (f_TM_compares o (gj σ 5 (8 + a.toNatClampNeg) 1) (gj σ 5 (8 + c.toNatClampNeg) 1) σ) (fun r53 σ51 => (if r53 = 0 then (some (0, σ51)) else (some (1, σ51))))))))) (fun (x40 : Int32) (σ41 : Sg) => chk (zb x40) (some (x40, σ41)))))))))))))) = K) : f_TM_works i σ = K := by
  obtain ⟨h1, h2, h3, h4⟩ := hI
  have h2' : gi σ 16 i 0 = a := h2
  have h3' : gi σ 16 i 1 = b := h3
  have h4' : gi σ 16 i 2 = c := h4
  have h1' : gr σ 6 i 0 = some o := h1
  rw [← hK]
  unfold f_TM_works
  rw [chk_pos v03, lt_eq, chk_pos v13, lt_eq, c0, c1, h2', h3', h1', bnd_eq, chk_pos ho]
  simp only [chk_pos v23, t2c, h4', bnd_eq, chk_pos ho]
  by_cases q : vp_in a 16
  · simp only [chk_pos q]
    by_cases q2 : vp_in c 16
    · simp only [chk_pos q2]
    · have e : ∀ {β : Type} (k : Option β), chk (vp_in c 16) k = none := fun k => if_neg q2
      simp only [e]
  · have e : ∀ {β : Type} (k : Option β), chk (vp_in a 16) k = none := fun k => if_neg q
    simp only [e]
end
