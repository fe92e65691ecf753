/-! the plain law: the invariant -/
def V5 (σ : Sg) (i : Nat) (o : Option Int64) : Prop := gi σ 5 i 0 = ob o ∧ gj σ 5 i 1 = o.getD 0
def Vm (σ : Sg) (kb kv i : Nat) (o : Option Int64) : Prop := gi σ kb 0 i = ob o ∧ gj σ kv 0 i = o.getD 0
def Co (σ : Sg) (v : Nat → Option Int64) : Prop := ∀ k, k < 4 → V5 σ k (v k) ∧ Vm σ 32 31 k (v k)
/-- an instruction: its code, its operands -/
abbrev Ins : Type := Nat × Int32 × Int32 × Int32
def Prc (σ : Sg) (Q : List Ins) : Prop := gi σ 0 0 8 = nI Q.length ∧ ∀ i x, Q[i]? = some x → gr σ 6 i 0 = some x.1 ∧ gi σ 16 i 0 = x.2.1 ∧ gi σ 16 i 1 = x.2.2.1 ∧ gi σ 16 i 2 = x.2.2.2
def Prm (σ : Sg) (Q : List Ins) : Prop := gi σ 9 0 10 = nI Q.length ∧ ∀ i x, Q[i]? = some x → gi σ 33 0 (4 * i) = nI x.1 ∧ gi σ 33 0 (4 * i + 1) = x.2.1 ∧ gi σ 33 0 (4 * i + 2) = x.2.2.1 ∧ gi σ 33 0 (4 * i + 3) = x.2.2.2
/-- what an operand may be, by its letter -/
def okA (l a : Int32) : Prop := if l = 99 then (∃ k, k < 3 ∧ a = nI k) else if l = 105 then (∃ k, k < 12 ∧ a = nI k) else if l = 106 then (∃ k, k ≤ 60 ∧ a = nI k) else if l = 107 then (∃ k, k < 4 ∧ a = nI k) else if l = 110 then (∃ k, 1 ≤ k ∧ k ≤ 4 ∧ a = nI k) else if l = 114 then (∃ k, k < 16 ∧ a = nI k) else if l = 116 then (∃ k, k < 3 ∧ a = nI k) else if l = 46 then a = 0 else True
def okI (x : Ins) : Prop := x.1 < 22 ∧ okA (chr x.1 0) x.2.1 ∧ okA (chr x.1 1) x.2.2.1 ∧ okA (chr x.1 2) x.2.2.2 ∧ (x.1 = 18 → ∀ a b, a < 16 → b ≤ 4 → x.2.1 = nI a → x.2.2.1 = nI b → a + b ≤ 16)
def wQ (Q : List Ins) : Prop := Q.length ≤ 60 ∧ ∀ x ∈ Q, okI x
abbrev Vals : Type := List (Option Int64)
def Rsc (σ : Sg) (Rs : List Vals) : Prop := gi σ 0 0 13 = nI Rs.length ∧ ∀ i w, Rs[i]? = some w → gi σ 23 0 i = nI w.length ∧ ∀ k, k < w.length → V5 σ (24 + (4 * i + k)) (w.getD k none)
def Rsm (σ : Sg) (Rs : List Vals) : Prop := gi σ 9 0 19 = nI Rs.length ∧ ∀ i w, Rs[i]? = some w → gi σ 39 0 i = nI w.length ∧ ∀ k, k < w.length → Vm σ 41 40 (4 * i + k) (w.getD k none)
def wRs (Rs : List Vals) : Prop := Rs.length ≤ 64 ∧ ∀ w ∈ Rs, w.length ≤ 4
/-- the question: the two tables, the conditions, the outputs, the join -/
abbrev Que : Type := Int32 × Int32 × List (Int32 × Int32 × Int32 × Int32) × List (Int32 × Int32) × Int32 × Int32 × Int32
def Quc (σ : Sg) (q : Que) : Prop := gi σ 0 0 15 = q.1 ∧ gi σ 0 0 16 = q.2.1 ∧ gi σ 0 0 18 = nI q.2.2.1.length ∧ gi σ 0 0 20 = nI q.2.2.2.1.length ∧ gi σ 0 0 21 = q.2.2.2.2.1 ∧ gi σ 0 0 22 = q.2.2.2.2.2.1 ∧ gi σ 0 0 23 = q.2.2.2.2.2.2 ∧ (∀ i x, q.2.2.1[i]? = some x → gi σ 8 i 0 = x.1 ∧ gi σ 8 i 1 = x.2.1 ∧ gi σ 8 i 2 = x.2.2.1 ∧ gi σ 8 i 3 = x.2.2.2) ∧ (∀ i x, q.2.2.2.1[i]? = some x → gi σ 25 0 (2 * i) = x.1 ∧ gi σ 25 0 (2 * i + 1) = x.2)
def Qum (σ : Sg) (q : Que) : Prop := gi σ 9 0 23 = q.1 ∧ gi σ 9 0 24 = q.2.1 ∧ gi σ 9 0 27 = nI q.2.2.1.length ∧ gi σ 9 0 25 = nI q.2.2.2.1.length ∧ gi σ 9 0 29 = q.2.2.2.2.1 ∧ gi σ 9 0 30 = q.2.2.2.2.2.1 ∧ gi σ 9 0 31 = q.2.2.2.2.2.2 ∧ (∀ i x, q.2.2.1[i]? = some x → gi σ 43 0 (4 * i) = x.1 ∧ gi σ 43 0 (4 * i + 1) = x.2.1 ∧ gi σ 43 0 (4 * i + 2) = x.2.2.1 ∧ gi σ 43 0 (4 * i + 3) = x.2.2.2) ∧ (∀ i x, q.2.2.2.1[i]? = some x → gi σ 42 0 (2 * i) = x.1 ∧ gi σ 42 0 (2 * i + 1) = x.2)
/-- a table of the question: none, or one that is there -/
def qT (N : Nat) (a : Int32) : Prop := a = -1 ∨ ∃ t, t < N ∧ a = nI t
/-- a column of the question: the key, or one of four -/
def qC (a : Int32) : Prop := a = -1 ∨ ∃ k, k < 4 ∧ a = nI k
def qP (q : Que) (a : Int32) : Prop := a = 0 ∨ (a = 1 ∧ q.2.1 ≠ -1)
def wQu (N : Nat) (q : Que) : Prop := qT N q.1 ∧ qT N q.2.1 ∧ (q.1 = -1 → q.2.1 = -1) ∧ q.2.2.1.length ≤ 4 ∧ q.2.2.2.1.length ≤ 4 ∧ (∀ x ∈ q.2.2.1, qP q x.1 ∧ qC x.2.1 ∧ ∃ k, k ≤ 7 ∧ x.2.2.1 = nI k) ∧ (∀ x ∈ q.2.2.2.1, qP q x.1 ∧ qC x.2) ∧ zb q.2.2.2.2.1 ∧ (q.2.2.2.2.1 = 1 → q.2.1 ≠ -1 ∧ qC q.2.2.2.2.2.1 ∧ qC q.2.2.2.2.2.2)
/-- all but the rows -/
def Rt (σ : Sg) (N : Nat) (v : Nat → Option Int64) (Q : List Ins) (Rs : List Vals) (q : Que) : Prop := Co σ v ∧ (Prc σ Q ∧ Prm σ Q ∧ wQ Q) ∧ (Rsc σ Rs ∧ Rsm σ Rs ∧ wRs Rs) ∧ (Quc σ q ∧ Qum σ q ∧ wQu N q) ∧ onOk σ
/-- the rows, on both sides -/
def Db (σ : Sg) (N : Nat) (col : Nat → Nat) (R : List Row) : Prop := Ct σ N col R ∧ gi σ 0 0 3 = nI R.length ∧ Mo σ N col R ∧ wR N col R
def Iv (σ : Sg) : Prop := ∃ N col R v Q Rs q, Db σ N col R ∧ Rt σ N v Q Rs q
-- ===== frames =====
def rsI (a b c : Nat) : Prop := (a = 5 ∧ (b < 4 ∨ 24 ≤ b)) ∨ a = 32 ∨ (a = 0 ∧ (c = 8 ∨ c = 13 ∨ 15 ≤ c)) ∨ (a = 9 ∧ (c = 10 ∨ c = 19 ∨ 23 ≤ c)) ∨ a = 16 ∨ a = 33 ∨ a = 23 ∨ a = 39 ∨ a = 41 ∨ a = 8 ∨ a = 25 ∨ a = 42 ∨ a = 43
def rsJ (a b : Nat) : Prop := (a = 5 ∧ (b < 4 ∨ 24 ≤ b)) ∨ a = 31 ∨ a = 40
def fR (σ σ' : Sg) : Prop := (∀ a b c, rsI a b c → gi σ' a b c = gi σ a b c) ∧ (∀ a b c, rsJ a b → gj σ' a b c = gj σ a b c) ∧ (∀ a b c, (a = 6 ∨ a = 7) → gr σ' a b c = gr σ a b c) ∧ nt σ ≤ nt σ'
theorem fR.tr {σ τ υ : Sg} (h1 : fR σ τ) (h2 : fR τ υ) : fR σ υ := ⟨fun a b c x => (h2.1 a b c x).trans (h1.1 a b c x), fun a b c h => (h2.2.1 a b c h).trans (h1.2.1 a b c h), fun a b c h => (h2.2.2.1 a b c h).trans (h1.2.2.1 a b c h), Nat.le_trans h1.2.2.2 h2.2.2.2⟩
theorem fR_rf (σ : Sg) : fR σ σ := ⟨fun _ _ _ _ => rfl, fun _ _ _ _ => rfl, fun _ _ _ _ => rfl, Nat.le_refl _⟩
theorem Co_fr {σ σ' : Sg} {v : Nat → Option Int64} (h1 : ∀ a b c, ((a = 5 ∧ b < 4) ∨ a = 32) → gi σ' a b c = gi σ a b c) (h2 : ∀ a b c, ((a = 5 ∧ b < 4) ∨ a = 31) → gj σ' a b c = gj σ a b c) (h : Co σ v) : Co σ' v := fun k hk => ⟨⟨(h1 _ _ _ (by omega)).trans (h k hk).1.1, (h2 _ _ _ (by omega)).trans (h k hk).1.2⟩, ⟨(h1 _ _ _ (by omega)).trans (h k hk).2.1, (h2 _ _ _ (by omega)).trans (h k hk).2.2⟩⟩
theorem Prc_fr {σ σ' : Sg} {Q : List Ins} (h1 : ∀ a b c, (a = 16 ∨ (a = 0 ∧ c = 8)) → gi σ' a b c = gi σ a b c) (h2 : ∀ a b c, a = 6 → gr σ' a b c = gr σ a b c) (h : Prc σ Q) : Prc σ' Q := ⟨(h1 _ _ _ (by omega)).trans h.1, fun i x hx => ⟨(h2 _ _ _ rfl).trans (h.2 i x hx).1, (h1 _ _ _ (by omega)).trans (h.2 i x hx).2.1, (h1 _ _ _ (by omega)).trans (h.2 i x hx).2.2.1, (h1 _ _ _ (by omega)).trans (h.2 i x hx).2.2.2⟩⟩
theorem Prm_fr {σ σ' : Sg} {Q : List Ins} (h1 : ∀ a b c, (a = 33 ∨ (a = 9 ∧ c = 10)) → gi σ' a b c = gi σ a b c) (h : Prm σ Q) : Prm σ' Q := ⟨(h1 _ _ _ (by omega)).trans h.1, fun i x hx => ⟨(h1 _ _ _ (by omega)).trans (h.2 i x hx).1, (h1 _ _ _ (by omega)).trans (h.2 i x hx).2.1, (h1 _ _ _ (by omega)).trans (h.2 i x hx).2.2.1, (h1 _ _ _ (by omega)).trans (h.2 i x hx).2.2.2⟩⟩
theorem Rsc_fr {σ σ' : Sg} {Rs : List Vals} (h1 : ∀ a b c, ((a = 5 ∧ 24 ≤ b) ∨ a = 23 ∨ (a = 0 ∧ c = 13)) → gi σ' a b c = gi σ a b c) (h2 : ∀ a b c, (a = 5 ∧ 24 ≤ b) → gj σ' a b c = gj σ a b c) (h : Rsc σ Rs) : Rsc σ' Rs := ⟨(h1 _ _ _ (by omega)).trans h.1, fun i w hw => ⟨(h1 _ _ _ (by omega)).trans (h.2 i w hw).1, fun k hk => ⟨(h1 _ _ _ (by omega)).trans ((h.2 i w hw).2 k hk).1, (h2 _ _ _ (by omega)).trans ((h.2 i w hw).2 k hk).2⟩⟩⟩
theorem Rsm_fr {σ σ' : Sg} {Rs : List Vals} (h1 : ∀ a b c, (a = 39 ∨ a = 41 ∨ (a = 9 ∧ c = 19)) → gi σ' a b c = gi σ a b c) (h2 : ∀ a b c, a = 40 → gj σ' a b c = gj σ a b c) (h : Rsm σ Rs) : Rsm σ' Rs := ⟨(h1 _ _ _ (by omega)).trans h.1, fun i w hw => ⟨(h1 _ _ _ (by omega)).trans (h.2 i w hw).1, fun k hk => ⟨(h1 _ _ _ (by omega)).trans ((h.2 i w hw).2 k hk).1, (h2 _ _ _ (by omega)).trans ((h.2 i w hw).2 k hk).2⟩⟩⟩
theorem Quc_fr {σ σ' : Sg} {q : Que} (h1 : ∀ a b c, (a = 8 ∨ a = 25 ∨ (a = 0 ∧ 15 ≤ c)) → gi σ' a b c = gi σ a b c) (h : Quc σ q) : Quc σ' q := by
  obtain ⟨x1, x2, x3, x4, x5, x6, x7, x8, x9⟩ := h
  exact ⟨(h1 _ _ _ (by omega)).trans x1, (h1 _ _ _ (by omega)).trans x2, (h1 _ _ _ (by omega)).trans x3, (h1 _ _ _ (by omega)).trans x4, (h1 _ _ _ (by omega)).trans x5, (h1 _ _ _ (by omega)).trans x6, (h1 _ _ _ (by omega)).trans x7, fun i x hx => ⟨(h1 _ _ _ (by omega)).trans (x8 i x hx).1, (h1 _ _ _ (by omega)).trans (x8 i x hx).2.1, (h1 _ _ _ (by omega)).trans (x8 i x hx).2.2.1, (h1 _ _ _ (by omega)).trans (x8 i x hx).2.2.2⟩, fun i x hx => ⟨(h1 _ _ _ (by omega)).trans (x9 i x hx).1, (h1 _ _ _ (by omega)).trans (x9 i x hx).2⟩⟩
theorem Qum_fr {σ σ' : Sg} {q : Que} (h1 : ∀ a b c, (a = 42 ∨ a = 43 ∨ (a = 9 ∧ 23 ≤ c)) → gi σ' a b c = gi σ a b c) (h : Qum σ q) : Qum σ' q := by
  obtain ⟨x1, x2, x3, x4, x5, x6, x7, x8, x9⟩ := h
  exact ⟨(h1 _ _ _ (by omega)).trans x1, (h1 _ _ _ (by omega)).trans x2, (h1 _ _ _ (by omega)).trans x3, (h1 _ _ _ (by omega)).trans x4, (h1 _ _ _ (by omega)).trans x5, (h1 _ _ _ (by omega)).trans x6, (h1 _ _ _ (by omega)).trans x7, fun i x hx => ⟨(h1 _ _ _ (by omega)).trans (x8 i x hx).1, (h1 _ _ _ (by omega)).trans (x8 i x hx).2.1, (h1 _ _ _ (by omega)).trans (x8 i x hx).2.2.1, (h1 _ _ _ (by omega)).trans (x8 i x hx).2.2.2⟩, fun i x hx => ⟨(h1 _ _ _ (by omega)).trans (x9 i x hx).1, (h1 _ _ _ (by omega)).trans (x9 i x hx).2⟩⟩
theorem Rt_fR {σ σ' : Sg} {N : Nat} {v : Nat → Option Int64} {Q : List Ins} {Rs : List Vals} {q : Que} (h : fR σ σ') (hr : Rt σ N v Q Rs q) : Rt σ' N v Q Rs q := by
  obtain ⟨c, ⟨p1, p2, p3⟩, ⟨r1, r2, r3⟩, ⟨q1, q2, q3⟩, o⟩ := hr
  obtain ⟨k1, k2, k3, k4⟩ := h
  exact ⟨Co_fr (fun a b c hh => k1 a b c (by unfold rsI; omega)) (fun a b c hh => k2 a b c (by unfold rsJ; omega)) c,
    ⟨Prc_fr (fun a b c hh => k1 a b c (by unfold rsI; omega)) (fun a b c hh => k3 a b c (Or.inl hh)) p1, Prm_fr (fun a b c hh => k1 a b c (by unfold rsI; omega)) p2, p3⟩,
    ⟨Rsc_fr (fun a b c hh => k1 a b c (by unfold rsI; omega)) (fun a b c hh => k2 a b c (by unfold rsJ; omega)) r1, Rsm_fr (fun a b c hh => k1 a b c (by unfold rsI; omega)) (fun a b c hh => k2 a b c (by unfold rsJ; omega)) r2, r3⟩,
    ⟨Quc_fr (fun a b c hh => k1 a b c (by unfold rsI; omega)) q1, Qum_fr (fun a b c hh => k1 a b c (by unfold rsI; omega)) q2, q3⟩,
    fun i t hi ht => Nat.lt_of_lt_of_le (o i t hi ((k3 7 i 0 (Or.inr rfl)).symm.trans ht)) k4⟩
theorem fR_fT {σ σ' : Sg} (h : fTr σ σ') : fR σ σ' := ⟨fun a b c hh => h.1 a b c (by unfold rsI at hh; omega), fun a b c hh => h.2.1 a b c (by unfold rsJ at hh; omega), fun a b c _ => h.2.2.1 a b c, Nat.le_of_eq h.2.2.2.symm⟩
theorem fR_fTk {σ σ' : Sg} (h : fTk σ σ') : fR σ σ' := ⟨fun a b c hh => h.1 a b c (by unfold rsI at hh; omega), fun a b c hh => h.2.1 a b c (by unfold rsJ at hh; omega), fun a b c _ => h.2.2.1 a b c, Nat.le_of_eq h.2.2.2.symm⟩
theorem fR_si {σ : Sg} {k i j : Nat} {x : Int32} (h : ¬ rsI k i j) : fR σ (si σ k i j x) := ⟨fun a b c hh => gi_ne (fun z => h (by rw [← z.1, ← z.2.1, ← z.2.2]; exact hh)), fun _ _ _ _ => rfl, fun _ _ _ _ => rfl, Nat.le_refl _⟩
theorem fR_sj {σ : Sg} {k i j : Nat} {x : Int64} (h : ¬ rsJ k i) : fR σ (sj σ k i j x) := ⟨fun _ _ _ _ => rfl, fun a b c hh => gj_ne (fun z => h (by rw [← z.1, ← z.2.1]; exact hh)), fun _ _ _ _ => rfl, Nat.le_refl _⟩
theorem fR_LI {σ τ : Sg} {t L k : Nat} {key : Int64} {vs : List (Option Int64)} (h : LI σ t key vs L k τ) : fR σ τ := ⟨fun a b c hh => h.1 a b c (by unfold rsI at hh; omega), fun a b c hh => h.2.1 a b c (by unfold rsJ at hh; omega), fun a b c _ => h.2.2.1 a b c, Nat.le_of_eq h.2.2.2.1.symm⟩
/-- what the rows rest on, on both sides -/
def fD (σ σ' : Sg) : Prop := (∀ a b c, (a = 1 ∨ a = 12 ∨ (a = 10 ∧ b < 240) ∨ (a = 3 ∧ c < 6) ∨ (a = 0 ∧ (c = 2 ∨ c = 3)) ∨ a = 26 ∨ a = 27 ∨ a = 30 ∨ (a = 9 ∧ (c = 1 ∨ c = 3))) → gi σ' a b c = gi σ a b c) ∧ (∀ a b c, (a = 28 ∨ a = 29) → gj σ' a b c = gj σ a b c) ∧ nt σ' = nt σ
theorem Db_fD {σ σ' : Sg} {N : Nat} {col : Nat → Nat} {R : List Row} (h : fD σ σ') (hd : Db σ N col R) : Db σ' N col R := ⟨Ct_fC ⟨fun a b c hh => h.1 a b c (by omega), h.2.2⟩ hd.1, (h.1 _ _ _ (by omega)).trans hd.2.1, Mo_fr (fun a b c hh => h.1 a b c (by omega)) (fun a b c hh => h.2.1 a b c hh) hd.2.2.1, hd.2.2.2⟩
theorem fD.tr {σ τ υ : Sg} (h1 : fD σ τ) (h2 : fD τ υ) : fD σ υ := ⟨fun a b c x => (h2.1 a b c x).trans (h1.1 a b c x), fun a b c h => (h2.2.1 a b c h).trans (h1.2.1 a b c h), h2.2.2.trans h1.2.2⟩
theorem fD_si {σ : Sg} {k i j : Nat} {x : Int32} (h : ¬ (k = 1 ∨ k = 12 ∨ (k = 10 ∧ i < 240) ∨ (k = 3 ∧ j < 6) ∨ (k = 0 ∧ (j = 2 ∨ j = 3)) ∨ k = 26 ∨ k = 27 ∨ k = 30 ∨ (k = 9 ∧ (j = 1 ∨ j = 3)))) : fD σ (si σ k i j x) := ⟨fun a b c hh => gi_ne (fun z => h (by omega)), fun _ _ _ _ => rfl, rfl⟩
theorem fD_sj {σ : Sg} {k i j : Nat} {x : Int64} (h : ¬ (k = 28 ∨ k = 29)) : fD σ (sj σ k i j x) := ⟨fun _ _ _ _ => rfl, fun a b c hh => gj_ne (fun z => h (by omega)), rfl⟩
theorem fD_eqS {σ σ' : Sg} (h : eqS σ σ') : fD σ σ' := ⟨fun a b c hh => h.1 a b c (by unfold scr; omega), fun a b c hh => h.2.1 a b c (by omega), h.2.2.2⟩
theorem fR_eqS {σ σ' : Sg} (h : eqS σ σ') : fR σ σ' := fR_fT (fT_eqS h)
theorem fD_sVs {σ : Sg} {i : Nat} {l : List (Option Int64)} : fD σ (sVs σ i l) := ⟨fun a b c hh => by rw [gi_sVs, if_neg (by omega)], fun a b c hh => by rw [gj_sVs, if_neg (by omega)], nt_sVs _ _ _⟩
theorem fR_sVs {σ : Sg} {i : Nat} {l : List (Option Int64)} (h1 : 4 ≤ i) (h2 : i + l.length ≤ 24) : fR σ (sVs σ i l) := ⟨fun a b c hh => by rw [gi_sVs, if_neg (by unfold rsI at hh; omega)], fun a b c hh => by rw [gj_sVs, if_neg (by unfold rsJ at hh; omega)], fun a b c _ => gr_sVs _ _ _ _ _ _, Nat.le_of_eq (nt_sVs _ _ _).symm⟩
/-- changes that both parts bear -/
def fI (σ σ' : Sg) : Prop := fD σ σ' ∧ fR σ σ'
theorem fI.tr {σ τ υ : Sg} (h1 : fI σ τ) (h2 : fI τ υ) : fI σ υ := ⟨h1.1.tr h2.1, h1.2.tr h2.2⟩
theorem fI_eqS {σ σ' : Sg} (h : eqS σ σ') : fI σ σ' := ⟨fD_eqS h, fR_eqS h⟩
theorem fI_thr {σ : Sg} {x : Int32} : fI σ (si σ 9 0 0 x) := ⟨fD_si (by omega), fR_si (by unfold rsI; omega)⟩
theorem fI_out {σ : Sg} {j : Nat} {x : Int64} : fI σ (sj σ 44 0 j x) := ⟨fD_sj (by omega), fR_sj (by unfold rsJ; omega)⟩
theorem fI_rf (σ : Sg) : fI σ σ := ⟨⟨fun _ _ _ _ => rfl, fun _ _ _ _ => rfl, rfl⟩, fR_rf σ⟩
theorem fI_sVs {σ : Sg} {i : Nat} {l : List (Option Int64)} (h1 : 4 ≤ i) (h2 : i + l.length ≤ 24) : fI σ (sVs σ i l) := ⟨fD_sVs, fR_sVs h1 h2⟩
theorem Iv_fI {σ σ' : Sg} (h : fI σ σ') (hi : Iv σ) : Iv σ' := by
  obtain ⟨N, col, R, v, Q, Rs, q, h1, h2⟩ := hi
  exact ⟨N, col, R, v, Q, Rs, q, Db_fD h.1 h1, Rt_fR h.2 h2⟩
-- ===== throwing =====
theorem bnX_l {α β : Type} (a : α) (σ : Sg) (k : α → Sg → Option ((β ⊕ Nat) × Sg)) : bnX (some (.inl a, σ)) k = k a σ := rfl
theorem bnX_r {α β : Type} (e : Nat) (σ : Sg) (k : α → Sg → Option ((β ⊕ Nat) × Sg)) : bnX (some (.inr e, σ)) k = some (.inr e, σ) := rfl
theorem bnH_l {α β : Type} (a : α) (σ : Sg) (hm : Nat → Option β) (k : α → Sg → Option (β × Sg)) : bnH (some (.inl a, σ)) hm k = k a σ := rfl
theorem bnH_r {α β : Type} (e : Nat) (σ : Sg) (hm : Nat → Option β) (k : α → Sg → Option (β × Sg)) : bnH (some (.inr e, σ)) hm k = (hm e).map (fun v => (v, σ)) := rfl
theorem check_0 (σ : Sg) : f_TM_check 0 σ = some (.inr 0, σ) := by unfold f_TM_check; rw [if_pos rfl]
theorem check_1 (σ : Sg) : f_TM_check 1 σ = some (.inl (), σ) := by unfold f_TM_check; rw [if_neg (by decide)]
theorem demand_0 (σ : Sg) : f_TM_demand 0 σ = some (.inr 1, σ) := by unfold f_TM_demand; rw [if_pos rfl]
theorem demand_1 (σ : Sg) : f_TM_demand 1 σ = some (.inl (), σ) := by unfold f_TM_demand; rw [if_neg (by decide)]
theorem there_0 (σ : Sg) : f_TM_there 0 σ = some (.inr 2, σ) := by unfold f_TM_there; rw [if_pos rfl]
theorem there_1 (σ : Sg) : f_TM_there 1 σ = some (.inl (), σ) := by unfold f_TM_there; rw [if_neg (by decide)]
theorem thr_eq {σ : Sg} : f_Md_thrown σ = some (gi σ 9 0 0, σ) := rfl
theorem in01 : vp_in 0 1 := in0 (by decide) (by decide)
