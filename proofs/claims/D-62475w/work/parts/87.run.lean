/-! the plain law: both machines' states while a program runs -/
abbrev Cur : Type := Option (Nat × Option Int64)
def cuC (σ : Sg) (N i : Nat) (c : Cur) : Prop := match c with
  | none => gr σ 7 i 0 = none
  | some (t, k) => t < N ∧ gr σ 7 i 0 = some t ∧ gi σ 7 i 1 = ob k ∧ (∀ key, k = some key → gj σ 7 i 2 = key)
def cuM (τ : Sg) (i : Nat) (c : Cur) : Prop := match c with
  | none => gi τ 36 0 i = -1
  | some (t, k) => gi τ 36 0 i = nI t ∧ gi τ 37 0 i = ob k ∧ (∀ key, k = some key → gj τ 38 0 i = key)
def KC (σ : Sg) (N : Nat) (col : Nat → Nat) (R : List Row) (rg : Nat → Option Int64) (cu : Nat → Cur) (Rs : List Vals) : Prop :=
  Ct σ N col R ∧ gi σ 0 0 3 = nI R.length ∧ wR N col R ∧ (∀ i, i < 16 → V5 σ (8 + i) (rg i)) ∧ (∀ i, i < 3 → cuC σ N i (cu i)) ∧ Rsc σ Rs ∧ wRs Rs
def KM (τ : Sg) (N : Nat) (col : Nat → Nat) (R : List Row) (rg : Nat → Option Int64) (cu : Nat → Cur) (Rs : List Vals) : Prop :=
  Mo τ N col R ∧ (∀ i, i < 16 → Vm τ 35 34 i (rg i)) ∧ (∀ i, i < 3 → cuM τ i (cu i)) ∧ Rsm τ Rs
def fKc (σ σ' : Sg) : Prop := (∀ a b c, ¬ (a = 1 ∨ a = 2 ∨ a = 3 ∨ a = 10 ∨ a = 12 ∨ a = 13 ∨ a = 14 ∨ (a = 5 ∧ 4 ≤ b) ∨ a = 7 ∨ (a = 0 ∧ (c = 3 ∨ c = 13 ∨ c = 14)) ∨ a = 23) → gi σ' a b c = gi σ a b c) ∧ (∀ a b c, ¬ (a = 3 ∨ (a = 5 ∧ 4 ≤ b) ∨ a = 7) → gj σ' a b c = gj σ a b c) ∧ (∀ a b c, ¬ a = 7 → gr σ' a b c = gr σ a b c) ∧ nt σ' = nt σ
def fKm (σ σ' : Sg) : Prop := (∀ a b c, ¬ ((a = 9 ∧ (c = 3 ∨ c = 17 ∨ c = 18 ∨ c = 19)) ∨ a = 27 ∨ a = 30 ∨ a = 35 ∨ a = 36 ∨ a = 37 ∨ a = 39 ∨ a = 41) → gi σ' a b c = gi σ a b c) ∧ (∀ a b c, ¬ (a = 28 ∨ a = 29 ∨ a = 34 ∨ a = 38 ∨ a = 40) → gj σ' a b c = gj σ a b c) ∧ (∀ a b c, gr σ' a b c = gr σ a b c) ∧ nt σ' = nt σ
theorem fKc.tr {σ τ υ : Sg} (h1 : fKc σ τ) (h2 : fKc τ υ) : fKc σ υ := ⟨fun a b c x => (h2.1 a b c x).trans (h1.1 a b c x), fun a b c h => (h2.2.1 a b c h).trans (h1.2.1 a b c h), fun a b c h => (h2.2.2.1 a b c h).trans (h1.2.2.1 a b c h), h2.2.2.2.trans h1.2.2.2⟩
theorem fKm.tr {σ τ υ : Sg} (h1 : fKm σ τ) (h2 : fKm τ υ) : fKm σ υ := ⟨fun a b c x => (h2.1 a b c x).trans (h1.1 a b c x), fun a b c h => (h2.2.1 a b c h).trans (h1.2.1 a b c h), fun a b c => (h2.2.2.1 a b c).trans (h1.2.2.1 a b c), h2.2.2.2.trans h1.2.2.2⟩
theorem fKc_rf (σ : Sg) : fKc σ σ := ⟨fun _ _ _ _ => rfl, fun _ _ _ _ => rfl, fun _ _ _ _ => rfl, rfl⟩
theorem fKm_rf (σ : Sg) : fKm σ σ := ⟨fun _ _ _ _ => rfl, fun _ _ _ _ => rfl, fun _ _ _ => rfl, rfl⟩
theorem fKc_fTr {σ σ' : Sg} (h : fTr σ σ') : fKc σ σ' := ⟨fun a b c z => h.1 a b c (by omega), fun a b c z => h.2.1 a b c (by omega), fun a b c _ => h.2.2.1 a b c, h.2.2.2⟩
theorem fKc_eqS {σ σ' : Sg} (h : eqS σ σ') : fKc σ σ' := fKc_fTr (fT_eqS h)
theorem fKc_si {σ : Sg} {k i j : Nat} {x : Int32} (h : k = 7 ∨ (k = 0 ∧ (j = 3 ∨ j = 13 ∨ j = 14)) ∨ k = 23 ∨ (k = 5 ∧ 4 ≤ i)) : fKc σ (si σ k i j x) := ⟨fun a b c z => gi_ne (by omega), fun _ _ _ _ => rfl, fun _ _ _ _ => rfl, rfl⟩
theorem fKc_sj {σ : Sg} {k i j : Nat} {x : Int64} (h : k = 7 ∨ (k = 5 ∧ 4 ≤ i)) : fKc σ (sj σ k i j x) := ⟨fun _ _ _ _ => rfl, fun a b c z => gj_ne (by omega), fun _ _ _ _ => rfl, rfl⟩
theorem fKc_sr {σ : Sg} {i j : Nat} {x : Option Nat} : fKc σ (sr σ 7 i j x) := ⟨fun _ _ _ _ => rfl, fun _ _ _ _ => rfl, fun a b c z => by rw [gr_sr, if_neg (by omega)], rfl⟩
theorem fKc_sV {σ : Sg} {i : Nat} {o : Option Int64} (h : 4 ≤ i) : fKc σ (sV σ i o) := ⟨fun a b c z => by rw [gi_sV, if_neg (by omega)], fun a b c z => by rw [gj_sV, if_neg (by omega)], fun _ _ _ _ => rfl, rfl⟩
theorem fKc_sVs {σ : Sg} {i : Nat} {l : List (Option Int64)} (h : 4 ≤ i) : fKc σ (sVs σ i l) := ⟨fun a b c z => by rw [gi_sVs, if_neg (by omega)], fun a b c z => by rw [gj_sVs, if_neg (by omega)], fun a b c _ => gr_sVs _ _ _ _ _ _, nt_sVs _ _ _⟩
theorem fKm_si {σ : Sg} {k i j : Nat} {x : Int32} (h : (k = 9 ∧ (j = 3 ∨ j = 17 ∨ j = 18 ∨ j = 19)) ∨ k = 27 ∨ k = 30 ∨ k = 35 ∨ k = 36 ∨ k = 37 ∨ k = 39 ∨ k = 41) : fKm σ (si σ k i j x) := ⟨fun a b c z => gi_ne (by omega), fun _ _ _ _ => rfl, fun _ _ _ => rfl, rfl⟩
theorem fKm_sj {σ : Sg} {k i j : Nat} {x : Int64} (h : k = 28 ∨ k = 29 ∨ k = 34 ∨ k = 38 ∨ k = 40) : fKm σ (sj σ k i j x) := ⟨fun _ _ _ _ => rfl, fun a b c z => gj_ne (by omega), fun _ _ _ => rfl, rfl⟩
theorem fKm_fTk {σ σ' : Sg} (h : fTk σ σ') : fKm σ σ' := ⟨fun a b c z => h.1 a b c (by omega), fun a b c z => h.2.1 a b c (by omega), h.2.2.1, h.2.2.2⟩
theorem fKm_LI {σ τ : Sg} {t L k : Nat} {key : Int64} {vs : List (Option Int64)} (h : LI σ t key vs L k τ) : fKm σ τ := ⟨fun a b c z => h.1 a b c (by omega), fun a b c z => h.2.1 a b c (by omega), h.2.2.1, h.2.2.2.1⟩
-- ===== what keeps the states =====
theorem cuC_fr {σ σ' : Sg} {N i : Nat} {c : Cur} (h1 : ∀ j, gi σ' 7 i j = gi σ 7 i j) (h2 : ∀ j, gj σ' 7 i j = gj σ 7 i j) (h3 : ∀ j, gr σ' 7 i j = gr σ 7 i j) (h : cuC σ N i c) : cuC σ' N i c := by
  cases c with
  | none => exact (h3 0).trans h
  | some p => exact ⟨h.1, (h3 0).trans h.2.1, (h1 1).trans h.2.2.1, fun key hk => (h2 2).trans (h.2.2.2 key hk)⟩
theorem cuM_fr {σ σ' : Sg} {i : Nat} {c : Cur} (h1 : gi σ' 36 0 i = gi σ 36 0 i) (h2 : gi σ' 37 0 i = gi σ 37 0 i) (h3 : gj σ' 38 0 i = gj σ 38 0 i) (h : cuM σ i c) : cuM σ' i c := by
  cases c with
  | none => exact h1.trans h
  | some p => exact ⟨h1.trans h.1, h2.trans h.2.1, fun key hk => h3.trans (h.2.2 key hk)⟩
theorem KC_fTr {σ σ' : Sg} {N : Nat} {col : Nat → Nat} {R R' : List Row} {rg : Nat → Option Int64} {cu : Nat → Cur} {Rs : List Vals} (h : KC σ N col R rg cu Rs) (hf : fTr σ σ') (hc : Ct σ' N col R') (h3 : gi σ' 0 0 3 = nI R'.length) (hw : wR N col R') : KC σ' N col R' rg cu Rs := by
  obtain ⟨k1, k2, k3, k4, k5, k6, k7⟩ := h
  exact ⟨hc, h3, hw, fun i hi => ⟨(hf.1 _ _ _ (by omega)).trans (k4 i hi).1, (hf.2.1 _ _ _ (by omega)).trans (k4 i hi).2⟩, fun i hi => cuC_fr (fun j => hf.1 _ _ _ (by omega)) (fun j => hf.2.1 _ _ _ (by omega)) (fun j => hf.2.2.1 _ _ _) (k5 i hi), Rsc_fr (fun a b c hh => hf.1 _ _ _ (by omega)) (fun a b c hh => hf.2.1 _ _ _ (by omega)) k6, k7⟩
theorem KC_eqS {σ σ' : Sg} {N : Nat} {col : Nat → Nat} {R : List Row} {rg : Nat → Option Int64} {cu : Nat → Cur} {Rs : List Vals} (h : KC σ N col R rg cu Rs) (hf : eqS σ σ') : KC σ' N col R rg cu Rs := KC_fTr h (fT_eqS hf) (Ct_fC (fC_eqS hf) h.1) ((hf.1 _ _ _ (by unfold scr; omega)).trans h.2.1) h.2.2.1
/-- changes that do not touch what the class's state rests on -/
theorem KC_fr {σ σ' : Sg} {N : Nat} {col : Nat → Nat} {R : List Row} {rg : Nat → Option Int64} {cu : Nat → Cur} {Rs : List Vals} (h : KC σ N col R rg cu Rs) (h1 : ∀ a b c, (a = 1 ∨ a = 12 ∨ (a = 10 ∧ b < 240) ∨ (a = 3 ∧ c < 6) ∨ (a = 0 ∧ (c = 2 ∨ c = 3 ∨ c = 13)) ∨ (a = 5 ∧ 8 ≤ b) ∨ a = 7 ∨ a = 23) → gi σ' a b c = gi σ a b c) (h2 : ∀ a b c, ((a = 5 ∧ 8 ≤ b) ∨ a = 7) → gj σ' a b c = gj σ a b c) (h3 : ∀ a b c, a = 7 → gr σ' a b c = gr σ a b c) (h4 : nt σ' = nt σ) : KC σ' N col R rg cu Rs := by
  obtain ⟨k1, k2, k3, k4, k5, k6, k7⟩ := h
  exact ⟨Ct_fC ⟨fun a b c hh => h1 a b c (by omega), h4⟩ k1, (h1 _ _ _ (by omega)).trans k2, k3, fun i hi => ⟨(h1 _ _ _ (by omega)).trans (k4 i hi).1, (h2 _ _ _ (by omega)).trans (k4 i hi).2⟩, fun i hi => cuC_fr (fun j => h1 _ _ _ (by omega)) (fun j => h2 _ _ _ (by omega)) (fun j => h3 _ _ _ rfl) (k5 i hi), Rsc_fr (fun a b c hh => h1 _ _ _ (by omega)) (fun a b c hh => h2 _ _ _ (by omega)) k6, k7⟩
def up {α : Type} (f : Nat → α) (i : Nat) (x : α) : Nat → α := fun j => if j = i then x else f j
theorem up_eq {α : Type} (f : Nat → α) (i : Nat) (x : α) : up f i x i = x := if_pos rfl
theorem up_ne {α : Type} {f : Nat → α} {i j : Nat} {x : α} (h : j ≠ i) : up f i x j = f j := if_neg h
theorem KC_reg {σ : Sg} {N : Nat} {col : Nat → Nat} {R : List Row} {rg : Nat → Option Int64} {cu : Nat → Cur} {Rs : List Vals} (h : KC σ N col R rg cu Rs) {r : Nat} (hr : r < 16) (o : Option Int64) : KC (sV σ (8 + r) o) N col R (up rg r o) cu Rs := by
  obtain ⟨k1, k2, k3, k4, k5, k6, k7⟩ := h
  have h1 : ∀ a b c, ¬ (a = 5 ∧ b = 8 + r) → gi (sV σ (8 + r) o) a b c = gi σ a b c := fun a b c z => by rw [gi_sV, if_neg (by omega)]
  have h2 : ∀ a b c, ¬ (a = 5 ∧ b = 8 + r) → gj (sV σ (8 + r) o) a b c = gj σ a b c := fun a b c z => by rw [gj_sV, if_neg (by omega)]
  refine ⟨Ct_fC ⟨fun a b c hh => h1 a b c (by omega), rfl⟩ k1, (h1 _ _ _ (by omega)).trans k2, k3, fun i hi => ?_, fun i hi => cuC_fr (fun j => h1 _ _ _ (by omega)) (fun j => h2 _ _ _ (by omega)) (fun j => rfl) (k5 i hi), Rsc_fr (fun a b c hh => h1 _ _ _ (by omega)) (fun a b c hh => h2 _ _ _ (by omega)) k6, k7⟩
  by_cases hir : i = r
  · subst hir
    rw [up_eq]
    exact ⟨by rw [gi_sV, if_pos ⟨rfl, rfl, rfl⟩], by rw [gj_sV, if_pos ⟨rfl, rfl, rfl⟩]⟩
  · rw [up_ne hir]
    exact ⟨(h1 _ _ _ (by omega)).trans (k4 i hi).1, (h2 _ _ _ (by omega)).trans (k4 i hi).2⟩
theorem keep_S {τ : Sg} {r : Nat} (hr : r < 16) (o : Option Int64) (w : Int64) (hw : (if ob o = 0 then 0 else w) = o.getD 0) : f_Md_keep (nI r) (ob o) w τ = some (sj (si τ 35 0 r (ob o)) 34 0 r (o.getD 0)) := by
  have hin : vp_in (nI r) 16 := vp_in_nI hr (by decide)
  have hcl : (nI r).toNatClampNeg = r := nI_clamp (by omega)
  unfold f_Md_keep
  rw [chk_pos hin, lt_eq, lt_eq, chk_pos hin, lt_eq, hcl, nar_ob, hw]
theorem KM_reg {τ : Sg} {N : Nat} {col : Nat → Nat} {R : List Row} {rg : Nat → Option Int64} {cu : Nat → Cur} {Rs : List Vals} (h : KM τ N col R rg cu Rs) {r : Nat} (hr : r < 16) (o : Option Int64) : KM (sj (si τ 35 0 r (ob o)) 34 0 r (o.getD 0)) N col R (up rg r o) cu Rs := by
  obtain ⟨k1, k2, k3, k4⟩ := h
  have h1 : ∀ a b c, ¬ (a = 35 ∧ c = r) → gi (sj (si τ 35 0 r (ob o)) 34 0 r (o.getD 0)) a b c = gi τ a b c := fun a b c z => by rw [gi_sj, gi_ne (by omega)]
  have h2 : ∀ a b c, ¬ (a = 34 ∧ c = r) → gj (sj (si τ 35 0 r (ob o)) 34 0 r (o.getD 0)) a b c = gj τ a b c := fun a b c z => by rw [gj_ne (by omega)]; rfl
  refine ⟨Mo_fr (fun a b c hh => h1 a b c (by omega)) (fun a b c hh => h2 a b c (by omega)) k1, fun i hi => ?_, fun i hi => cuM_fr (h1 _ _ _ (by omega)) (h1 _ _ _ (by omega)) (h2 _ _ _ (by omega)) (k3 i hi), Rsm_fr (fun a b c hh => h1 _ _ _ (by omega)) (fun a b c hh => h2 _ _ _ (by omega)) k4⟩
  by_cases hir : i = r
  · subst hir
    rw [up_eq]
    exact ⟨by rw [gi_sj, gi_eq], by rw [gj_eq]⟩
  · rw [up_ne hir]
    exact ⟨(h1 _ _ _ (by omega)).trans (k2 i hi).1, (h2 _ _ _ (by omega)).trans (k2 i hi).2⟩
theorem fKm_reg {τ : Sg} {r : Nat} {x : Int32} {y : Int64} : fKm τ (sj (si τ 35 0 r x) 34 0 r y) := (fKm_si (by omega)).tr (fKm_sj (by omega))
/-- the class's cursor is put somewhere -/
theorem KC_cur {σ σ' : Sg} {N : Nat} {col : Nat → Nat} {R : List Row} {rg : Nat → Option Int64} {cu : Nat → Cur} {Rs : List Vals} (h : KC σ N col R rg cu Rs) {i : Nat} (k : Cur) (h1 : ∀ a b c, ¬ (a = 7 ∧ b = i) → gi σ' a b c = gi σ a b c) (h2 : ∀ a b c, ¬ (a = 7 ∧ b = i) → gj σ' a b c = gj σ a b c) (h3 : ∀ a b c, ¬ (a = 7 ∧ b = i) → gr σ' a b c = gr σ a b c) (h4 : nt σ' = nt σ) (hk : cuC σ' N i k) : KC σ' N col R rg (up cu i k) Rs := by
  obtain ⟨k1, k2, k3, k4, k5, k6, k7⟩ := h
  refine ⟨Ct_fC ⟨fun a b c hh => h1 a b c (by omega), h4⟩ k1, (h1 _ _ _ (by omega)).trans k2, k3, fun i hi => ⟨(h1 _ _ _ (by omega)).trans (k4 i hi).1, (h2 _ _ _ (by omega)).trans (k4 i hi).2⟩, fun j hj => ?_, Rsc_fr (fun a b c hh => h1 _ _ _ (by omega)) (fun a b c hh => h2 _ _ _ (by omega)) k6, k7⟩
  by_cases hji : j = i
  · subst hji; rw [up_eq]; exact hk
  · rw [up_ne hji]; exact cuC_fr (fun _ => h1 _ _ _ (by omega)) (fun _ => h2 _ _ _ (by omega)) (fun _ => h3 _ _ _ (by omega)) (k5 j hj)
theorem KM_cur {τ τ' : Sg} {N : Nat} {col : Nat → Nat} {R : List Row} {rg : Nat → Option Int64} {cu : Nat → Cur} {Rs : List Vals} (h : KM τ N col R rg cu Rs) {i : Nat} (k : Cur) (h1 : ∀ a b c, ¬ ((a = 36 ∨ a = 37) ∧ c = i) → gi τ' a b c = gi τ a b c) (h2 : ∀ a b c, ¬ (a = 38 ∧ c = i) → gj τ' a b c = gj τ a b c) (hk : cuM τ' i k) : KM τ' N col R rg (up cu i k) Rs := by
  obtain ⟨k1, k2, k3, k4⟩ := h
  refine ⟨Mo_fr (fun a b c hh => h1 a b c (by omega)) (fun a b c hh => h2 a b c (by omega)) k1, fun i hi => ⟨(h1 _ _ _ (by omega)).trans (k2 i hi).1, (h2 _ _ _ (by omega)).trans (k2 i hi).2⟩, fun j hj => ?_, Rsm_fr (fun a b c hh => h1 _ _ _ (by omega)) (fun a b c hh => h2 _ _ _ (by omega)) k4⟩
  by_cases hji : j = i
  · subst hji; rw [up_eq]; exact hk
  · rw [up_ne hji]; exact cuM_fr (h1 _ _ _ (by omega)) (h1 _ _ _ (by omega)) (h2 _ _ _ (by omega)) (k3 j hj)
theorem KM_fr {τ τ' : Sg} {N : Nat} {col : Nat → Nat} {R : List Row} {rg : Nat → Option Int64} {cu : Nat → Cur} {Rs : List Vals} (h : KM τ N col R rg cu Rs) (h1 : ∀ a b c, ¬ (a = 9 ∧ (c = 0 ∨ c = 17 ∨ c = 18)) → a = 9 ∨ 26 ≤ a → gi τ' a b c = gi τ a b c) (h2 : ∀ a b c, 26 ≤ a → a ≠ 44 → gj τ' a b c = gj τ a b c) : KM τ' N col R rg cu Rs := by
  obtain ⟨k1, k2, k3, k4⟩ := h
  exact ⟨Mo_fr (fun a b c hh => h1 a b c (by omega) (by omega)) (fun a b c hh => h2 a b c (by omega) (by omega)) k1, fun i hi => ⟨(h1 _ _ _ (by omega) (by omega)).trans (k2 i hi).1, (h2 _ _ _ (by omega) (by omega)).trans (k2 i hi).2⟩, fun i hi => cuM_fr (h1 _ _ _ (by omega) (by omega)) (h1 _ _ _ (by omega) (by omega)) (h2 _ _ _ (by omega) (by omega)) (k3 i hi), Rsm_fr (fun a b c hh => h1 _ _ _ (by omega) (by omega)) (fun a b c hh => h2 _ _ _ (by omega) (by omega)) k4⟩
-- ===== operands =====
theorem ex_c {a : Int32} (h : okA 99 a) : ∃ k, k < 3 ∧ a = nI k := by unfold okA at h; rw [if_pos rfl] at h; exact h
theorem ex_i {a : Int32} (h : okA 105 a) : ∃ k, k < 12 ∧ a = nI k := by unfold okA at h; rw [if_neg (by decide), if_pos rfl] at h; exact h
theorem ex_j {a : Int32} (h : okA 106 a) : ∃ k, k ≤ 60 ∧ a = nI k := by unfold okA at h; rw [if_neg (by decide), if_neg (by decide), if_pos rfl] at h; exact h
theorem ex_k {a : Int32} (h : okA 107 a) : ∃ k, k < 4 ∧ a = nI k := by unfold okA at h; rw [if_neg (by decide), if_neg (by decide), if_neg (by decide), if_pos rfl] at h; exact h
theorem ex_n {a : Int32} (h : okA 110 a) : ∃ k, 1 ≤ k ∧ k ≤ 4 ∧ a = nI k := by unfold okA at h; rw [if_neg (by decide), if_neg (by decide), if_neg (by decide), if_neg (by decide), if_pos rfl] at h; exact h
theorem ex_r {a : Int32} (h : okA 114 a) : ∃ k, k < 16 ∧ a = nI k := by unfold okA at h; rw [if_neg (by decide), if_neg (by decide), if_neg (by decide), if_neg (by decide), if_neg (by decide), if_pos rfl] at h; exact h
theorem ex_t {a : Int32} (h : okA 116 a) : ∃ k, k < 3 ∧ a = nI k := by unfold okA at h; rw [if_neg (by decide), if_neg (by decide), if_neg (by decide), if_neg (by decide), if_neg (by decide), if_neg (by decide), if_pos rfl] at h; exact h
/-- an instruction as the class holds it -/
def insC (σ : Sg) (i : Nat) (x : Ins) : Prop := gr σ 6 i 0 = some x.1 ∧ gi σ 16 i 0 = x.2.1 ∧ gi σ 16 i 1 = x.2.2.1 ∧ gi σ 16 i 2 = x.2.2.2
