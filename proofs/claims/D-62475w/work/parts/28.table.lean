/-! TableMachine.table and the law's small method for it -/
def isT (n a b : Nat) : Bool := ((a == 3 || a == 13 || a == 14) && b == n) || ((a == 2 || a == 10) && b == 240 + n)
theorem isT_iff {n a b : Nat} : isT n a b = true ↔ ((a = 3 ∨ a = 13 ∨ a = 14) ∧ b = n) ∨ ((a = 2 ∨ a = 10) ∧ b = 240 + n) := by simp [isT, or_assoc]
def zT (σ : Sg) (n : Nat) : Sg := (fun a b c => if isT n a b then 0 else σ.1 a b c, fun a b c => if isT n a b then 0 else σ.2.1 a b c, fun a b c => if isT n a b then none else σ.2.2.1 a b c, σ.2.2.2)
def nT (σ : Sg) : Sg := (σ.1, σ.2.1, σ.2.2.1, σ.2.2.2 + 1)
def tX (X : GX) (n h : Nat) : GX := (X.1, X.2.1, fun k i => if k = 3 ∧ i = n then h else if k = 13 ∧ i = n then h + 1 else if k = 14 ∧ i = n then h + 2 else if k = 2 ∧ i = 240 + n then h + 3 else if k = 10 ∧ i = 240 + n then h + 4 else xL X k i, X.2.2.2)
theorem gi_zT (σ : Sg) (n a b c : Nat) : gi (zT σ n) a b c = if isT n a b then 0 else gi σ a b c := rfl
theorem gj_zT (σ : Sg) (n a b c : Nat) : gj (zT σ n) a b c = if isT n a b then 0 else gj σ a b c := rfl
theorem gr_zT (σ : Sg) (n a b c : Nat) : gr (zT σ n) a b c = if isT n a b then none else gr σ a b c := rfl
theorem nt_zT (σ : Sg) (n : Nat) : nt (zT σ n) = nt σ := rfl
theorem gi_nT (σ : Sg) (a b c : Nat) : gi (nT σ) a b c = gi σ a b c := rfl
theorem gj_nT (σ : Sg) (a b c : Nat) : gj (nT σ) a b c = gj σ a b c := rfl
theorem gr_nT (σ : Sg) (a b c : Nat) : gr (nT σ) a b c = gr σ a b c := rfl
theorem nt_nT (σ : Sg) : nt (nT σ) = nt σ + 1 := rfl
theorem isT_cnt {n a b : Nat} (h : isT n a b = true) : ¬ b < cnt n a := by
  rcases isT_iff.mp h with ⟨rfl | rfl | rfl, rfl⟩ | ⟨rfl | rfl, rfl⟩ <;> exact Nat.lt_irrefl _
theorem cnt_succ {n k i : Nat} (h : i < cnt (n + 1) k) : i < cnt n k ∨ isT n k i = true := by
  rw [isT_iff]
  unfold cnt at h ⊢
  split at h <;> omega
theorem tX_ne {X : GX} {n h k i : Nat} (hz : ¬ isT n k i = true) : xL (tX X n h) k i = xL X k i := by
  rw [isT_iff] at hz
  show (if k = 3 ∧ i = n then h else if k = 13 ∧ i = n then h + 1 else if k = 14 ∧ i = n then h + 2 else if k = 2 ∧ i = 240 + n then h + 3 else if k = 10 ∧ i = 240 + n then h + 4 else xL X k i) = xL X k i
  rw [if_neg (by omega), if_neg (by omega), if_neg (by omega), if_neg (by omega), if_neg (by omega)]
theorem tX_old {X : GX} {n h k i : Nat} (hi : i < cnt n k) : xL (tX X n h) k i = xL X k i := tX_ne (fun z => isT_cnt z hi)
theorem tX_3 (X : GX) (n h : Nat) : xL (tX X n h) 3 n = h := by simp [xL, tX]
theorem tX_13 (X : GX) (n h : Nat) : xL (tX X n h) 13 n = h + 1 := by simp [xL, tX]
theorem tX_14 (X : GX) (n h : Nat) : xL (tX X n h) 14 n = h + 1 + 1 := by simp [xL, tX]
theorem tX_2 (X : GX) (n h : Nat) : xL (tX X n h) 2 (240 + n) = h + 1 + 2 := by simp [xL, tX]
theorem tX_10 (X : GX) (n h : Nat) : xL (tX X n h) 10 (240 + n) = h + 1 + 3 := by simp [xL, tX]
theorem tk1' : ∀ k, k < 10 → ∀ j, j < fn k → (k = 2 ∨ k = 3 ∨ ¬ fty k j = 2 ∨ (ftk k j ≠ 3 ∧ ftk k j ≠ 13 ∧ ftk k j ≠ 14 ∧ ftk k j ≠ 2 ∧ ftk k j ≠ 10)) := by decide +kernel
theorem tk1 (k : Nat) (hk : k < 10) (h2 : k ≠ 2) (h3 : k ≠ 3) (j : Nat) (hj : j < fn k) (hf : fty k j = 2) : ftk k j ≠ 3 ∧ ftk k j ≠ 13 ∧ ftk k j ≠ 14 ∧ ftk k j ≠ 2 ∧ ftk k j ≠ 10 := by
  rcases tk1' k hk j hj with h | h | h | h
  · exact absurd h h2
  · exact absurd h h3
  · exact absurd hf h
  · exact h
theorem tk3 : ∀ j, j < 14 → fty 3 j = 2 → j = 0 ∨ j = 4 ∨ j = 5 ∨ j = 11 := by decide +kernel
theorem tk2 : ∀ j, j < 2 → fty 2 j = 2 → j = 0 := by decide +kernel
theorem tka' : ∀ k, k < 45 → (¬ aty k = 2 ∨ k = 11 ∨ (aek k ≠ 3 ∧ aek k ≠ 13 ∧ aek k ≠ 14 ∧ aek k ≠ 2 ∧ aek k ≠ 10)) := by decide +kernel
theorem tka (k : Nat) (hk : k < 45) (ha : aty k = 2) (h : k ≠ 11) : aek k ≠ 3 ∧ aek k ≠ 13 ∧ aek k ≠ 14 ∧ aek k ≠ 2 ∧ aek k ≠ 10 := by
  rcases tka' k hk with z | z | z
  · exact absurd ha z
  · exact absurd z h
  · exact z
theorem tk_on : ∀ k, k < 10 → ∀ j, j < fn k → fty k j = 3 → k = 7 ∧ j = 0 := by decide +kernel
theorem ta_3 : ∀ k, k < 45 → aty k = 3 → k = 17 := by decide +kernel
theorem nisT {n a b : Nat} (h : ¬ (((a = 3 ∨ a = 13 ∨ a = 14) ∧ b = n) ∨ ((a = 2 ∨ a = 10) ∧ b = 240 + n))) : ¬ isT n a b = true := fun z => h (isT_iff.mp z)
/-- every cursor's tree is there -/
def onOk (σ : Sg) : Prop := ∀ i t, i < 3 → gr σ 7 i 0 = some t → t < nt σ
theorem fv_tX {X : GX} {σ : Sg} {h k i j : Nat} (ho : onOk σ) (hk : k < 10) (hj : j < fn k) (hi : i < cnt (nt σ) k) : fv (tX X (nt σ) h) σ k i j = fv X σ k i j := by
  unfold fv
  split
  · rfl
  · rfl
  · rename_i e2
    rw [tX_ne]
    refine nisT (fun z => ?_)
    by_cases h2 : k = 2
    · subst h2
      have hj0 := tk2 j hj e2
      subst hj0
      have hi' : i < 240 + nt σ := hi
      have e1 : ftk 2 0 = 10 := rfl
      have e3 : fti 2 0 i = i := rfl
      rw [e1, e3] at z
      omega
    · by_cases h3 : k = 3
      · subst h3
        have hi' : i < nt σ := hi
        rcases tk3 j hj e2 with rfl | rfl | rfl | rfl
        · have e1 : ftk 3 0 = 1 := rfl
          rw [e1] at z; omega
        · have e1 : ftk 3 4 = 13 := rfl
          have e3 : fti 3 4 i = i := rfl
          rw [e1, e3] at z; omega
        · have e1 : ftk 3 5 = 14 := rfl
          have e3 : fti 3 5 i = i := rfl
          rw [e1, e3] at z; omega
        · have e1 : ftk 3 11 = 2 := rfl
          have e3 : fti 3 11 i = 240 + i := rfl
          rw [e1, e3] at z; omega
      · have := tk1 k hk h2 h3 j hj e2
        omega
  · rename_i e3
    obtain ⟨rfl, rfl⟩ := tk_on k hk j hj e3
    congr 1
    cases hg : gr σ 7 i 0 with
    | none => rfl
    | some t =>
      have ht := ho i t hi hg
      simp only [Option.map_some]
      rw [tX_old (show t < cnt (nt σ) 3 from ht)]
  · rfl
theorem av_tX {X : GX} {σ : Sg} {h k i p : Nat} (hk : k < 45) (hp : p < alen k i) : av (tX X (nt σ) h) σ k i p = av X σ k i p := by
  unfold av
  split
  · rfl
  · rfl
  · rename_i e2
    rw [tX_ne]
    refine nisT (fun z => ?_)
    by_cases h2 : k = 11
    · subst h2
      have hp' : p < 240 := hp
      have e3 : aei 11 i p = p := rfl
      have e1 : aek 11 = 2 := rfl
      rw [e1, e3] at z
      omega
    · have := tka k hk e2 h2
      omega
  · split
    · rename_i hlt
      rw [tX_old (show p < cnt (nt σ) 3 from hlt)]
    · rfl
  · rfl
theorem Pic.tX {X : GX} {σ : Sg} {H : Heap} (h : Pic X σ H) (ho : onOk σ) (q : Nat) : Pic (tX X (nt σ) q) σ H := by
  obtain ⟨h1, h2, h3, h4⟩ := h
  refine ⟨fun k i hk hi => ?_, fun k i hk0 hk hi => ?_, fun k i k' i' hk hi hk' hi' e => ?_, fun k i hk hi => ?_⟩
  · rw [tX_old hi]
    exact (h1 k i hk hi).to (fun j hj => (fv_tX ho hk hj hi).symm)
  · rw [tX_old hi, h2 k i hk0 hk hi]
    congr 1
    exact arrV_congr (fun j hj => (av_tX hk hj).symm)
  · rw [tX_old hi, tX_old hi'] at e
    exact h3 k i k' i' hk hi hk' hi' e
  · rw [tX_old hi]
    exact h4 k i hk hi
theorem Pic.zT {X : GX} {σ : Sg} {H : Heap} (h : Pic X σ H) : Pic X (zT σ (nt σ)) H := by
  obtain ⟨h1, h2, h3, h4⟩ := h
  refine ⟨fun k i hk hi => ?_, fun k i hk0 hk hi => ?_, h3, h4⟩
  · refine (h1 k i hk hi).to (fun j hj => ?_)
    have hz : isT (nt σ) k i = false := bfalse (fun z => isT_cnt z hi)
    unfold fv
    rw [gi_zT, gj_zT, gr_zT, hz]
    rfl
  · rw [h2 k i hk0 hk hi]
    congr 2
    funext p
    have hz : isT (nt σ) k i = false := bfalse (fun z => isT_cnt z hi)
    unfold av
    rw [gi_zT, gj_zT, nt_zT, hz]
    rfl
theorem onOk_zT {σ : Sg} {n : Nat} (h : onOk σ) : onOk (zT σ n) := fun i t hi hg => by
  rw [gr_zT] at hg
  have hz : isT n 7 i = false := rfl
  rw [hz] at hg
  exact h i t hi hg
noncomputable def f_TM_table (a : Int32) (σ : Sg) : Option ((Int32 ⊕ Nat) × Sg) :=
  bnX (f_TM_check (if a < 1 then 0 else if 4 < a then 0 else 1) σ) (fun (_ : Unit) (σ1 : Sg) => bnX (f_TM_demand (if 3 ≤ gi σ1 0 0 2 then 0 else 1) σ1) (fun (_ : Unit) (σ2 : Sg) => chk (gi σ2 0 0 2 = nI (nt σ2) ∧ nt σ2 < 3 ∧ onOk σ2) (bn2 (f_Pg_fresh (si (zT σ2 (nt σ2)) 3 (nt σ2) 2 a)) (fun r σ3 => Option.bind (f_Pg_head r 1 0 (si σ3 3 (nt σ2) 1 r)) (fun σ5 => some (.inl (nI (nt σ2)), si (nT σ5) 0 0 2 (nI (nt σ2 + 1))))))))
-- contracts that may allocate, and may throw
def QY (Qc : Array Value → State → Outcome → State → Prop) (mc ms : Nat) (free : Addr → Prop) : Array Value → State → Outcome → State → Prop := fun a st o t => Qc a st o t ∧ ∃ L, (FrameEnd st o t L mc ms ∨ FEt st o t L mc ms) ∧ ∀ q ∈ L, free q.base
def MQY (below : List Frame) (Qc : Array Value → State → Outcome → State → Prop) (a : Array Value) (s : State) (mc ms : Nat) (free : Addr → Prop) : State → Prop := fun t => ∃ o, t.status = .running ∧ Ended t below o ∧ QY Qc mc ms free a s o t
def MetY (l : Launch) (y : MethodName) (ws : List Cond) (rm : Room) (Pc : Array Value → State → Prop) (Qc : Array Value → State → Outcome → State → Prop) (mc ms : Nat) (free : Addr → Prop) : Prop :=
  MetFree l y (headSpec ws rm) Pc (fun _ _ _ _ _ => True) (QY Qc mc ms free)
/-- what table does: a tree more, at the heap's end; or it throws -/
def QcTb (X : GX) (n : Nat) (σ' : Sg) (res : Int32 ⊕ Nat) : Array Value → State → Outcome → State → Prop := fun a st o t => match res with
  | .inl v => o = .returned (some (.int v)) ∧ nt σ' = n + 1 ∧ Pic (tX X n st.heap.size) σ' t.heap ∧ st.heap.size ≤ t.heap.size ∧ ∀ q : Nat, q < xb X → t.heap[q]? = st.heap[q]?
  | .inr k => QcX X n σ' (.inr k) a st o t
theorem FEt.widen {st t : State} {o : Outcome} {L : List Loc} {k n k' n' : Nat} (h : FEt st o t L k n) (h1 : k ≤ k') (h2 : n ≤ n') : FEt st o t L k' n' := by
  obtain ⟨a, b, c1, c2, c3, c4, c5, c6⟩ := h
  exact ⟨a, b, c1, c2, Nat.le_trans c3 (by omega), c4, Nat.le_trans c5 h2, c6⟩
theorem mqx_mqy {below : List Frame} {X : GX} {n k : Nat} {σ' : Sg} {a : Array Value} {s : State} (t : State) (h : MQX below (QcX X n σ' (.inr k)) a s 1 6 (fr X n) t) : MQY below (QcTb X n σ' (.inr k)) a s 5 728 (eA X) t := by
  obtain ⟨o, h1, h2, h3, L, h4, h5⟩ := h
  have h3' := h3
  obtain ⟨x, rfl, hn, hPic, -⟩ := h3
  refine ⟨_, h1, h2, h3', L, ?_, fun q hq => ?_⟩
  · rcases h4 with h4 | h4
    · obtain ⟨⟨v, hv⟩, -⟩ := h4
      cases hv
    · exact Or.inr (h4.widen (by decide) (by decide))
  · obtain ⟨k', i', hk', hi', e⟩ := h5 q hq
    rw [← e]
    exact hPic.2.2.2 k' i' hk' (by rw [hn]; exact hi')
