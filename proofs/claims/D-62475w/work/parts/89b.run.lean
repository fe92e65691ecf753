/-! the plain law: a step, the run -/
section
variable {N : Nat} {col : Nat → Nat} {σ : Sg} {R : List Row} {rg : Nat → Option Int64} {cu : Nat → Cur} {Rs : List Vals}
theorem insC_fr {σ σ' : Sg} {i : Nat} {x : Ins} (h : fKc σ σ') (hI : insC σ i x) : insC σ' i x := ⟨(h.2.2.1 _ _ _ (by omega)).trans hI.1, (h.1 _ _ _ (by omega)).trans hI.2.1, (h.1 _ _ _ (by omega)).trans hI.2.2.1, (h.1 _ _ _ (by omega)).trans hI.2.2.2⟩
/-- where the step leads -/
def nx (x : Ins) (pc : Nat) (j : Int32) : Int32 := if j = 0 then nI (pc + 1) else gl x
theorem step_w {pc : Nat} {x : Ins} (hpc : pc < 60) (hI : insC σ pc x) (ho : x.1 < 22) (hn : nd x.1 = 0) {j : Int32} {σ' : Sg} (hw : f_TM_works pc σ = some (j, σ')) (hI' : j ≠ 0 → insC σ' pc x) : f_TM_step (nI pc) σ = some (nx x pc j, σ') := by
  have hcl : (nI pc).toNatClampNeg = pc := nI_clamp (by omega)
  unfold f_TM_step nx
  rw [chk_pos (vp_in_nI hpc (by decide)), hcl, hI.1, bnd_eq, chk_pos ho, needs_S, bn2_eq, hn, i00, hI.1, bnd_eq, chk_pos ho, needs_S, bn2_eq, hn, i00, hw, bn2_eq, bn2_eq]
  by_cases hj : j = 0
  · rw [if_pos hj, if_pos hj, bn2_eq, nI_1]
  · rw [if_neg hj, if_neg hj, goal_S (hI' hj) ho, bn2_eq, bn2_eq]
theorem step_m {pc k t : Nat} {x : Ins} (hpc : pc < 60) (hI : insC σ pc x) (ho : x.1 < 22) (hn : nd x.1 = 1) (hk : k < 3) (hx : x.2.1 = nI k) (hg : gr σ 7 k 0 = some t) {j : Int32} {σ' : Sg} (hw : f_TM_moves pc k σ = some (j, σ')) (hI' : j ≠ 0 → insC σ' pc x) : f_TM_step (nI pc) σ = some (nx x pc j, σ') := by
  have hcl : (nI pc).toNatClampNeg = pc := nI_clamp (by omega)
  have hck : (nI k).toNatClampNeg = k := nI_clamp (by omega)
  unfold f_TM_step nx
  rw [chk_pos (vp_in_nI hpc (by decide)), hcl, hI.1, bnd_eq, chk_pos ho, needs_S, bn2_eq, hn, i10, chk_pos v03, c0, hI.2.1, hx, chk_pos (vc3 hk), hck, hg, if_neg (fun z => by cases z), hI.1, bnd_eq, chk_pos ho, needs_S, bn2_eq, hn, i10, chk_pos v03, hI.2.1, hx, chk_pos (vc3 hk), hck, hw, bn2_eq, bn2_eq]
  by_cases hj : j = 0
  · rw [if_pos hj, if_pos hj, bn2_eq, nI_1]
  · rw [if_neg hj, if_neg hj, goal_S (hI' hj) ho, bn2_eq, bn2_eq]
theorem step_3 {pc k : Nat} {x : Ins} (hpc : pc < 60) (hI : insC σ pc x) (ho : x.1 < 22) (hn : nd x.1 = 1) (hk : k < 3) (hx : x.2.1 = nI k) (hg : gr σ 7 k 0 = none) : f_TM_step (nI pc) σ = some (nI pc, si σ 0 0 14 3) := by
  have hcl : (nI pc).toNatClampNeg = pc := nI_clamp (by omega)
  have hck : (nI k).toNatClampNeg = k := nI_clamp (by omega)
  unfold f_TM_step
  rw [chk_pos (vp_in_nI hpc (by decide)), hcl, hI.1, bnd_eq, chk_pos ho, needs_S, bn2_eq, hn, i10, chk_pos v03, c0, hI.2.1, hx, chk_pos (vc3 hk), hck, hg, if_pos rfl, lt_eq]
/-- an instruction as the model holds it -/
def insM (τ : Sg) (i : Nat) (x : Ins) : Prop := gi τ 33 0 (4 * i) = nI x.1 ∧ gi τ 33 0 (4 * i + 1) = x.2.1 ∧ gi τ 33 0 (4 * i + 2) = x.2.2.1 ∧ gi τ 33 0 (4 * i + 3) = x.2.2.2
theorem stepM_head {τ : Sg} {pc : Nat} {x : Ins} (hpc : pc < 60) (h18 : gi τ 9 0 18 = nI pc) (hI : insM τ pc x) (ho : x.1 < 22) (K : Option (Int32 × Sg)) (hK : (if nI x.1 = 0 then (some (0, τ)) else (if nd x.1 = 0 then (if nI x.1 = 18 then (if (gi τ 9 0 19) = 64 then (lt_ (si τ 9 0 17 2) (fun σ60 => some (0, σ60))) else (bn2 (f_Md_without (nI x.1) x.2.1 x.2.2.1 x.2.2.2 τ) (fun x39 σ40 => bn2 (if x39 = 0 then (some ((gi σ40 9 0 18) + 1, σ40)) else (if mgF (nI x.1) = 1 then (some (x.2.1, σ40)) else (some (x.2.2.1, σ40)))) (fun (x50 : Int32) (σ51 : Sg) => lt_ (si σ51 9 0 18 x50) (fun σ59 => some (1, σ59)))))) else (bn2 (f_Md_without (nI x.1) x.2.1 x.2.2.1 x.2.2.2 τ) (fun x39 σ40 => bn2 (if x39 = 0 then (some ((gi σ40 9 0 18) + 1, σ40)) else (if mgF (nI x.1) = 1 then (some (x.2.1, σ40)) else (some (x.2.2.1, σ40)))) (fun (x50 : Int32) (σ51 : Sg) => lt_ (si σ51 9 0 18 x50) (fun σ59 => some (1, σ59)))))) else (chk (vp_in x.2.1 3) ((if 0 ≤ (gi τ 36 0 x.2.1.toNatClampNeg) then (bn2 (f_Md_withCursor (nI x.1) x.2.1 x.2.2.1 x.2.2.2 τ) (fun x39 σ40 => bn2 (if x39 = 0 then (some ((gi σ40 9 0 18) + 1, σ40)) else (if mgF (nI x.1) = 1 then (some (x.2.1, σ40)) else (some (x.2.2.1, σ40)))) (fun (x50 : Int32) (σ51 : Sg) => lt_ (si σ51 9 0 18 x50) (fun σ59 => some (1, σ59))))) else (lt_ (si τ 9 0 17 3) (fun σ115 => some (0, σ115)))))))) = K) : f_Md_step τ = K := by
  obtain ⟨h1, h2, h3, h4⟩ := hI
  have p2 : nI (4 * pc) + 2 = nI (4 * pc + 2) := nI_plus (4 * pc) 2
  have p3 : nI (4 * pc) + 3 = nI (4 * pc + 3) := nI_plus (4 * pc) 3
  have hi : ∀ k, k < 4 → vp_in (nI (4 * pc + k)) 240 := fun k hk => vp_in_nI (by omega) (by decide)
  have hc : ∀ k, k < 4 → (nI (4 * pc + k)).toNatClampNeg = 4 * pc + k := fun k hk => nI_clamp (by omega)
  have g0 : gi τ 33 0 (4 * pc + 0) = nI x.1 := h1
  rw [← hK]
  unfold f_Md_step
  rw [h18, nI_4, chk_pos (show vp_in (nI (4 * pc)) 240 from hi 0 (by decide)), lt_eq, show (nI (4 * pc)).toNatClampNeg = 4 * pc from hc 0 (by decide), h1, nI_1, chk_pos (hi 1 (by decide)), lt_eq, hc 1 (by decide), h2, p2, chk_pos (hi 2 (by decide)), lt_eq, hc 2 (by decide), h3, p3, chk_pos (hi 3 (by decide)), lt_eq, hc 3 (by decide), h4]
  simp only [needs_M ho, goal_M, bn2_eq]
  by_cases h0 : nI x.1 = 0
  · rw [if_pos h0, if_pos h0]
  · rw [if_neg h0, if_neg h0]
    have same : ∀ (X : Option (Int32 × Sg)), bn2 X (fun r45 σ43 => some (r45, σ43)) = X := fun X => by
      cases X with
      | none => rfl
      | some y => rfl
    rcases nd01 x.1 with hn | hn
    · simp only [hn, if_true, same]
    · simp only [hn, n10, if_false, same]
      by_cases hv : vp_in x.2.1 3
      · rw [chk_pos hv, chk_pos hv]
        have h18' : ¬ nI x.1 = 18 := fun z => by
          have := nI_inj (by omega) (by decide) (z.trans (show (18 : Int32) = nI 18 by decide))
          rw [this] at hn
          exact absurd hn (by decide)
        simp only [h18', if_false]
      · have e : ∀ {β : Type} (k : Option β), chk (vp_in x.2.1 3) k = none := fun k => if_neg hv
        rw [e, e]
/-- what follows a move of the model -/
theorem stepM_go {τ' : Sg} {pc : Nat} {x : Ins} {j : Int32} (hok : okI x) (h18 : gi τ' 9 0 18 = nI pc) (hj : j = 0 ∨ (j = 1 ∧ mgF (nI x.1) ≠ 0)) : bn2 (some (j, τ')) (fun x39 σ40 => bn2 (if x39 = 0 then (some ((gi σ40 9 0 18) + 1, σ40)) else (if mgF (nI x.1) = 1 then (some (x.2.1, σ40)) else (some (x.2.2.1, σ40)))) (fun (x50 : Int32) (σ51 : Sg) => lt_ (si σ51 9 0 18 x50) (fun σ59 => some ((1 : Int32), σ59)))) = some (1, si τ' 9 0 18 (nx x pc j)) := by
  unfold nx
  rw [bn2_eq]
  rcases hj with rfl | ⟨rfl, hm⟩
  · rw [i00, i00, bn2_eq, h18, nI_1, lt_eq]
  · rw [i10, i10]
    rcases gl_cs hok with ⟨m, -⟩ | ⟨m, g, -⟩ | ⟨m, g, -⟩
    · exact absurd m hm
    · rw [m, if_pos rfl, bn2_eq, lt_eq, g]
    · rw [m, if_neg (by decide), bn2_eq, lt_eq, g]
end
