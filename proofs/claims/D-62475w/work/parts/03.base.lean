/-! the ghost state, its picture in the heap, and rows over it -/
-- ===== the words =====
def TB : List Cond := lw_tbl.filter goodWord
theorem tb_in {w : Cond} (h : w ∈ tables_1) (g : goodWord w = true) : w ∈ TB := List.mem_filter.mpr ⟨List.mem_append_right _ h, g⟩
theorem tb_sel {q : MethodName × Nat} (h : q ∈ lw_privs) : Cond.selects q.1.cls q.1 q.1 ∈ TB := List.mem_filter.mpr ⟨List.mem_append_left _ (List.mem_map.mpr ⟨q, h, rfl⟩), rfl⟩
theorem tb_good {w : Cond} (h : w ∈ TB) : (w.onTables && w.keeps) = true ∨ ∃ ty, w = .arrayClass ty := good_of_word (List.mem_filter.mp h).2
def cw (y : MethodName) (b : ByteArray) (n : Nat) (r : Option FieldType) : List Cond := .code y b n r :: TB
theorem cw_good {y y' : MethodName} {b b' : ByteArray} {n n' : Nat} {r r' : Option FieldType} (h : Cond.code y' b' n' r' ∈ TB) : GoodIn (cw y b n r) (cw y' b' n' r') := by
  intro w hw
  rcases List.mem_cons.mp hw with rfl | hw
  · exact ⟨List.mem_cons_of_mem _ h, tb_good h⟩
  · exact ⟨List.mem_cons_of_mem _ hw, tb_good hw⟩
theorem tb_of {y : MethodName} {b : ByteArray} {n : Nat} {r : Option FieldType} {args : Array Value} {s : State} (h : ∀ w ∈ cw y b n r, w.before args s = true) : ∀ w ∈ TB, w.before args s = true := fun w hw => h w (List.mem_cons_of_mem _ hw)
def isNest : Cond → Bool
  | .fieldLinkNest .. => true
  | .methodLinkNest .. => true
  | _ => false
def NW : List Cond := tables_1.filter isNest
theorem nw_in {w : Cond} (h : w ∈ tables_1) (g : isNest w = true) : w ∈ NW := List.mem_filter.mpr ⟨h, g⟩
theorem nw_warm {w : Cond} (h : w ∈ NW) {s U : State} (hW : s.WarmedH U.vm) (hZ : va_Nw w s) : va_Nw w U := by
  have hg := (List.mem_filter.mp h).2
  cases w <;> first | (simp [isNest] at hg; done) | exact va_Nw.warmF hW hZ | exact va_Nw.warmM hW hZ
-- ===== static rows of the layout =====
theorem fT_hin : ∀ k, k < 10 → ∀ w ∈ u_ws (cN k) (fT k) (fn k), w ∈ TB := by decide +kernel
theorem fT_ty : ∀ k, k < 10 → ∀ j, j < fn k → parseFieldDescriptor (fT k j).2.2.1 = some (fpt k j) := by decide +kernel
theorem fT_nm : ∀ k, k < 10 → ∀ a, a < fn k → ∀ b, b < fn k → a ≠ b → (fT k a).2.1 ≠ (fT k b).2.1 := by decide +kernel
theorem fT_own : ∀ k, k < 10 → ∀ j, j < fn k → (fT k j).1 = cN k := by decide +kernel
-- ===== the ghost state =====
abbrev Sg : Type := (Nat → Nat → Nat → Int32) × (Nat → Nat → Nat → Int64) × (Nat → Nat → Nat → Option Nat) × Nat
def gi (σ : Sg) (k i p : Nat) : Int32 := σ.1 k i p
def gj (σ : Sg) (k i p : Nat) : Int64 := σ.2.1 k i p
def gr (σ : Sg) (k i p : Nat) : Option Nat := σ.2.2.1 k i p
def nt (σ : Sg) : Nat := σ.2.2.2
def u3 {α : Type} (f : Nat → Nat → Nat → α) (k i p : Nat) (v : α) : Nat → Nat → Nat → α := fun a b c => if a = k ∧ b = i ∧ c = p then v else f a b c
def si (σ : Sg) (k i p : Nat) (v : Int32) : Sg := (u3 σ.1 k i p v, σ.2)
def sj (σ : Sg) (k i p : Nat) (v : Int64) : Sg := (σ.1, u3 σ.2.1 k i p v, σ.2.2)
def sr (σ : Sg) (k i p : Nat) (v : Option Nat) : Sg := (σ.1, σ.2.1, u3 σ.2.2.1 k i p v, σ.2.2.2)
theorem gi_si (σ : Sg) (k i p : Nat) (v : Int32) (a b c : Nat) : gi (si σ k i p v) a b c = if a = k ∧ b = i ∧ c = p then v else gi σ a b c := rfl
theorem gi_sj (σ : Sg) (k i p : Nat) (v : Int64) (a b c : Nat) : gi (sj σ k i p v) a b c = gi σ a b c := rfl
theorem gi_sr (σ : Sg) (k i p : Nat) (v : Option Nat) (a b c : Nat) : gi (sr σ k i p v) a b c = gi σ a b c := rfl
theorem gj_si (σ : Sg) (k i p : Nat) (v : Int32) (a b c : Nat) : gj (si σ k i p v) a b c = gj σ a b c := rfl
theorem gj_sj (σ : Sg) (k i p : Nat) (v : Int64) (a b c : Nat) : gj (sj σ k i p v) a b c = if a = k ∧ b = i ∧ c = p then v else gj σ a b c := rfl
theorem gj_sr (σ : Sg) (k i p : Nat) (v : Option Nat) (a b c : Nat) : gj (sr σ k i p v) a b c = gj σ a b c := rfl
theorem gr_si (σ : Sg) (k i p : Nat) (v : Int32) (a b c : Nat) : gr (si σ k i p v) a b c = gr σ a b c := rfl
theorem gr_sj (σ : Sg) (k i p : Nat) (v : Int64) (a b c : Nat) : gr (sj σ k i p v) a b c = gr σ a b c := rfl
theorem gr_sr (σ : Sg) (k i p : Nat) (v : Option Nat) (a b c : Nat) : gr (sr σ k i p v) a b c = if a = k ∧ b = i ∧ c = p then v else gr σ a b c := rfl
theorem nt_si (σ : Sg) (k i p : Nat) (v : Int32) : nt (si σ k i p v) = nt σ := rfl
theorem nt_sj (σ : Sg) (k i p : Nat) (v : Int64) : nt (sj σ k i p v) = nt σ := rfl
theorem nt_sr (σ : Sg) (k i p : Nat) (v : Option Nat) : nt (sr σ k i p v) = nt σ := rfl
-- ===== combinators of the printed functions =====
noncomputable def chk {β : Type} (c : Prop) (k : Option β) : Option β := @ite _ c (Classical.propDecidable c) k none
def lt_ {α β : Type} (a : α) (k : α → Option β) : Option β := k a
def lp {S E : Type} (body : S → Option (S ⊕ E)) : Nat → S → Option E
  | 0, _ => none
  | n + 1, s => (body s).bind (fun r => match r with
    | .inl s' => lp body n s'
    | .inr e => some e)
def FU : Nat := 5000
def zb (v : Int32) : Prop := v = 0 ∨ v = 1
theorem chk_pos {β : Type} {c : Prop} (h : c) (k : Option β) : chk c k = k := if_pos h
theorem chk_some {β : Type} {c : Prop} {k : Option β} {r : β} (h : chk c k = some r) : c ∧ k = some r := by
  unfold chk at h
  split at h
  · exact ⟨by assumption, h⟩
  · cases h
theorem lt_some {α β : Type} {a : α} {k : α → Option β} {r : β} (h : lt_ a k = some r) : ∃ x, x = a ∧ k x = some r := ⟨a, rfl, h⟩
theorem bnd_some {α β : Type} {x : Option α} {k : α → Option β} {r : β} (h : x.bind k = some r) : ∃ a, x = some a ∧ k a = some r := by
  cases x with
  | none => cases h
  | some a => exact ⟨a, rfl, h⟩
def bn2 {α1 α2 β : Type} (x : Option (α1 × α2)) (k : α1 → α2 → Option β) : Option β := x.bind (fun q => k q.1 q.2)
theorem bn2_some {α1 α2 β : Type} {x : Option (α1 × α2)} {k : α1 → α2 → Option β} {r : β} (h : bn2 x k = some r) : ∃ a1 a2, x = some (a1, a2) ∧ k a1 a2 = some r := by
  obtain ⟨q, e, h⟩ := bnd_some h
  exact ⟨q.1, q.2, e, h⟩
theorem bn2_eq {α1 α2 β : Type} (a1 : α1) (a2 : α2) (k : α1 → α2 → Option β) : bn2 (some (a1, a2)) k = k a1 a2 := rfl
def bn3 {α1 α2 α3 β : Type} (x : Option (α1 × α2 × α3)) (k : α1 → α2 → α3 → Option β) : Option β := x.bind (fun q => k q.1 q.2.1 q.2.2)
theorem bn3_some {α1 α2 α3 β : Type} {x : Option (α1 × α2 × α3)} {k : α1 → α2 → α3 → Option β} {r : β} (h : bn3 x k = some r) : ∃ a1 a2 a3, x = some (a1, a2, a3) ∧ k a1 a2 a3 = some r := by
  obtain ⟨q, e, h⟩ := bnd_some h
  exact ⟨q.1, q.2.1, q.2.2, e, h⟩
theorem bn3_eq {α1 α2 α3 β : Type} (a1 : α1) (a2 : α2) (a3 : α3) (k : α1 → α2 → α3 → Option β) : bn3 (some (a1, a2, a3)) k = k a1 a2 a3 := rfl
def bn4 {α1 α2 α3 α4 β : Type} (x : Option (α1 × α2 × α3 × α4)) (k : α1 → α2 → α3 → α4 → Option β) : Option β := x.bind (fun q => k q.1 q.2.1 q.2.2.1 q.2.2.2)
theorem bn4_some {α1 α2 α3 α4 β : Type} {x : Option (α1 × α2 × α3 × α4)} {k : α1 → α2 → α3 → α4 → Option β} {r : β} (h : bn4 x k = some r) : ∃ a1 a2 a3 a4, x = some (a1, a2, a3, a4) ∧ k a1 a2 a3 a4 = some r := by
  obtain ⟨q, e, h⟩ := bnd_some h
  exact ⟨q.1, q.2.1, q.2.2.1, q.2.2.2, e, h⟩
theorem bn4_eq {α1 α2 α3 α4 β : Type} (a1 : α1) (a2 : α2) (a3 : α3) (a4 : α4) (k : α1 → α2 → α3 → α4 → Option β) : bn4 (some (a1, a2, a3, a4)) k = k a1 a2 a3 a4 := rfl
def bn5 {α1 α2 α3 α4 α5 β : Type} (x : Option (α1 × α2 × α3 × α4 × α5)) (k : α1 → α2 → α3 → α4 → α5 → Option β) : Option β := x.bind (fun q => k q.1 q.2.1 q.2.2.1 q.2.2.2.1 q.2.2.2.2)
theorem bn5_some {α1 α2 α3 α4 α5 β : Type} {x : Option (α1 × α2 × α3 × α4 × α5)} {k : α1 → α2 → α3 → α4 → α5 → Option β} {r : β} (h : bn5 x k = some r) : ∃ a1 a2 a3 a4 a5, x = some (a1, a2, a3, a4, a5) ∧ k a1 a2 a3 a4 a5 = some r := by
  obtain ⟨q, e, h⟩ := bnd_some h
  exact ⟨q.1, q.2.1, q.2.2.1, q.2.2.2.1, q.2.2.2.2, e, h⟩
theorem bn5_eq {α1 α2 α3 α4 α5 β : Type} (a1 : α1) (a2 : α2) (a3 : α3) (a4 : α4) (a5 : α5) (k : α1 → α2 → α3 → α4 → α5 → Option β) : bn5 (some (a1, a2, a3, a4, a5)) k = k a1 a2 a3 a4 a5 := rfl
def bn6 {α1 α2 α3 α4 α5 α6 β : Type} (x : Option (α1 × α2 × α3 × α4 × α5 × α6)) (k : α1 → α2 → α3 → α4 → α5 → α6 → Option β) : Option β := x.bind (fun q => k q.1 q.2.1 q.2.2.1 q.2.2.2.1 q.2.2.2.2.1 q.2.2.2.2.2)
theorem bn6_some {α1 α2 α3 α4 α5 α6 β : Type} {x : Option (α1 × α2 × α3 × α4 × α5 × α6)} {k : α1 → α2 → α3 → α4 → α5 → α6 → Option β} {r : β} (h : bn6 x k = some r) : ∃ a1 a2 a3 a4 a5 a6, x = some (a1, a2, a3, a4, a5, a6) ∧ k a1 a2 a3 a4 a5 a6 = some r := by
  obtain ⟨q, e, h⟩ := bnd_some h
  exact ⟨q.1, q.2.1, q.2.2.1, q.2.2.2.1, q.2.2.2.2.1, q.2.2.2.2.2, e, h⟩
theorem bn6_eq {α1 α2 α3 α4 α5 α6 β : Type} (a1 : α1) (a2 : α2) (a3 : α3) (a4 : α4) (a5 : α5) (a6 : α6) (k : α1 → α2 → α3 → α4 → α5 → α6 → Option β) : bn6 (some (a1, a2, a3, a4, a5, a6)) k = k a1 a2 a3 a4 a5 a6 := rfl
def bn7 {α1 α2 α3 α4 α5 α6 α7 β : Type} (x : Option (α1 × α2 × α3 × α4 × α5 × α6 × α7)) (k : α1 → α2 → α3 → α4 → α5 → α6 → α7 → Option β) : Option β := x.bind (fun q => k q.1 q.2.1 q.2.2.1 q.2.2.2.1 q.2.2.2.2.1 q.2.2.2.2.2.1 q.2.2.2.2.2.2)
theorem bn7_some {α1 α2 α3 α4 α5 α6 α7 β : Type} {x : Option (α1 × α2 × α3 × α4 × α5 × α6 × α7)} {k : α1 → α2 → α3 → α4 → α5 → α6 → α7 → Option β} {r : β} (h : bn7 x k = some r) : ∃ a1 a2 a3 a4 a5 a6 a7, x = some (a1, a2, a3, a4, a5, a6, a7) ∧ k a1 a2 a3 a4 a5 a6 a7 = some r := by
  obtain ⟨q, e, h⟩ := bnd_some h
  exact ⟨q.1, q.2.1, q.2.2.1, q.2.2.2.1, q.2.2.2.2.1, q.2.2.2.2.2.1, q.2.2.2.2.2.2, e, h⟩
theorem bn7_eq {α1 α2 α3 α4 α5 α6 α7 β : Type} (a1 : α1) (a2 : α2) (a3 : α3) (a4 : α4) (a5 : α5) (a6 : α6) (a7 : α7) (k : α1 → α2 → α3 → α4 → α5 → α6 → α7 → Option β) : bn7 (some (a1, a2, a3, a4, a5, a6, a7)) k = k a1 a2 a3 a4 a5 a6 a7 := rfl
def bn8 {α1 α2 α3 α4 α5 α6 α7 α8 β : Type} (x : Option (α1 × α2 × α3 × α4 × α5 × α6 × α7 × α8)) (k : α1 → α2 → α3 → α4 → α5 → α6 → α7 → α8 → Option β) : Option β := x.bind (fun q => k q.1 q.2.1 q.2.2.1 q.2.2.2.1 q.2.2.2.2.1 q.2.2.2.2.2.1 q.2.2.2.2.2.2.1 q.2.2.2.2.2.2.2)
theorem bn8_some {α1 α2 α3 α4 α5 α6 α7 α8 β : Type} {x : Option (α1 × α2 × α3 × α4 × α5 × α6 × α7 × α8)} {k : α1 → α2 → α3 → α4 → α5 → α6 → α7 → α8 → Option β} {r : β} (h : bn8 x k = some r) : ∃ a1 a2 a3 a4 a5 a6 a7 a8, x = some (a1, a2, a3, a4, a5, a6, a7, a8) ∧ k a1 a2 a3 a4 a5 a6 a7 a8 = some r := by
  obtain ⟨q, e, h⟩ := bnd_some h
  exact ⟨q.1, q.2.1, q.2.2.1, q.2.2.2.1, q.2.2.2.2.1, q.2.2.2.2.2.1, q.2.2.2.2.2.2.1, q.2.2.2.2.2.2.2, e, h⟩
theorem bn8_eq {α1 α2 α3 α4 α5 α6 α7 α8 β : Type} (a1 : α1) (a2 : α2) (a3 : α3) (a4 : α4) (a5 : α5) (a6 : α6) (a7 : α7) (a8 : α8) (k : α1 → α2 → α3 → α4 → α5 → α6 → α7 → α8 → Option β) : bn8 (some (a1, a2, a3, a4, a5, a6, a7, a8)) k = k a1 a2 a3 a4 a5 a6 a7 a8 := rfl
theorem lp_W {S E : Type} {body : S → Option (S ⊕ E)} {PW : S → Prop} {PE : E → Prop} (hs : ∀ s r, body s = some r → (∀ s', r = .inl s' → PW s') → (∀ e, r = .inr e → PE e) → PW s) : ∀ n s e, lp body n s = some e → PE e → PW s := by
  intro n
  induction n with
  | zero => intro s e h; cases h
  | succ n ih =>
    intro s e h he
    obtain ⟨r, hr, h⟩ := bnd_some h
    refine hs s r hr (fun s' e1 => ?_) (fun e' e1 => ?_)
    · subst e1; exact ih s' e h he
    · subst e1; cases h; exact he
-- ===== the picture =====
abbrev GX : Type := va_G × (Nat → ClassId) × (Nat → Nat → Nat) × (Nat → Nat) × (Nat → Nat) × (Nat → Nat) × Nat
def xD (X : GX) : va_G := X.1
def xE (X : GX) : Nat → ClassId := X.2.1
def xL (X : GX) : Nat → Nat → Nat := X.2.2.1
def xad (X : GX) : Nat → Nat := X.2.2.2.1
def xsk (X : GX) : Nat → Nat := X.2.2.2.2.1
def xsv (X : GX) : Nat → Nat := X.2.2.2.2.2.1
def xb (X : GX) : Nat := X.2.2.2.2.2.2
def fv (X : GX) (σ : Sg) (k i j : Nat) : Value := match fty k j with
  | 0 => .int (gi σ k i j)
  | 1 => .long (gj σ k i j)
  | 2 => .ref (xL X (ftk k j) (fti k j i))
  | 3 => va_rf ((gr σ k i j).map (xL X 3))
  | _ => va_re (xad X) (gr σ k i j)
def av (X : GX) (σ : Sg) (k i p : Nat) : Value := match aty k with
  | 0 => .int (gi σ k i p)
  | 1 => .long (gj σ k i p)
  | 2 => .ref (xL X (aek k) (aei k i p))
  | 3 => if p < nt σ then .ref (xL X 3 p) else .null
  | _ => .ref (xad X p)
def Pic (X : GX) (σ : Sg) (H : Heap) : Prop :=
  (∀ k i, k < 10 → i < cnt (nt σ) k → t_OB (xL X k i) ((xD X).1 k) (fn k) ((xD X).2 k) H (fv X σ k i)) ∧
  (∀ k i, 10 ≤ k → k < 45 → i < cnt (nt σ) k → H[xL X k i]? = some (arrV (xE X k) (alen k i) (av X σ k i))) ∧
  (∀ k i k' i', k < 45 → i < cnt (nt σ) k → k' < 45 → i' < cnt (nt σ) k' → xL X k i = xL X k' i' → k = k' ∧ i = i') ∧
  (∀ k i, k < 45 → i < cnt (nt σ) k → xb X ≤ xL X k i)
def fr (X : GX) (n : Nat) (q : Nat) : Prop := ∃ k i, k < 45 ∧ i < cnt n k ∧ xL X k i = q
def Sx (X : GX) (n : Nat) (H0 H : Heap) (locs : List Loc) : Prop := H.size = H0.size ∧ (∀ q : Nat, ¬ fr X n q → H[q]? = H0[q]?) ∧ ∀ l ∈ locs, fr X n l.base
def St (X : GX) (n : Nat) (σ : Sg) (H0 H : Heap) (locs : List Loc) : Prop := nt σ = n ∧ Pic X σ H ∧ Sx X n H0 H locs
theorem Pic.out {X : GX} {σ : Sg} {H : Heap} (h : Pic X σ H) {q : Nat} (hq : q < xb X) : ¬ fr X (nt σ) q := by
  rintro ⟨k, i, hk, hi, e⟩
  have := h.2.2.2 k i hk hi
  omega
theorem Sx.rf {X : GX} {n : Nat} {H : Heap} : Sx X n H H [] := ⟨rfl, fun _ _ => rfl, fun _ h => by cases h⟩
theorem Sx.put {X : GX} {n : Nat} {H0 H H1 : Heap} {locs : List Loc} {a i : Nat} (h : Sx X n H0 H locs) (ha : fr X n a) (z : H1.size = H.size) (o : ∀ q : Nat, q ≠ a → H1[q]? = H[q]?) : Sx X n H0 H1 (locs ++ [⟨a, i⟩]) := by
  refine ⟨z.trans h.1, fun q hq => ?_, fun l hl => ?_⟩
  · rw [o q (fun e => hq (e ▸ ha))]; exact h.2.1 q hq
  · rcases List.mem_append.mp hl with hl | hl
    · exact h.2.2 l hl
    · rw [List.mem_singleton.mp hl]; exact ha
/-- a cell changes, the picture with it -/
theorem Pic.setO {X : GX} {σ σ' : Sg} {H H1 : Heap} {k i : Nat} (h : Pic X σ H) (hk : k < 10) (hi : i < cnt (nt σ) k) (hn : nt σ' = nt σ) (o : ∀ q : Nat, q ≠ xL X k i → H1[q]? = H[q]?)
    (hc : t_OB (xL X k i) ((xD X).1 k) (fn k) ((xD X).2 k) H1 (fv X σ' k i)) (hv : ∀ k' i', k' < 10 → ¬ (k' = k ∧ i' = i) → ∀ j, fv X σ' k' i' j = fv X σ k' i' j) (ha : ∀ k' i', 10 ≤ k' → ∀ p, av X σ' k' i' p = av X σ k' i' p) : Pic X σ' H1 := by
  obtain ⟨h1, h2, h3, h4⟩ := h
  refine ⟨?_, ?_, by rw [hn]; exact h3, by rw [hn]; exact h4⟩
  · intro k' i' hk' hi'
    rw [hn] at hi'
    by_cases e : k' = k ∧ i' = i
    · obtain ⟨rfl, rfl⟩ := e; exact hc
    · exact ((h1 k' i' hk' hi').kept (o _ (fun q => e (h3 k' i' k i (by omega) hi' (by omega) hi q)))).to (fun j _ => (hv k' i' hk' e j).symm)
  · intro k' i' hk1 hk2 hi'
    rw [hn] at hi'
    rw [o _ (fun q => by have := (h3 k' i' k i hk2 hi' (by omega) hi q).1; omega), h2 k' i' hk1 hk2 hi', show av X σ' k' i' = av X σ k' i' from funext (ha k' i' hk1)]
theorem Pic.setA {X : GX} {σ σ' : Sg} {H H1 : Heap} {k i : Nat} (h : Pic X σ H) (hk0 : 10 ≤ k) (hk : k < 45) (hi : i < cnt (nt σ) k) (hn : nt σ' = nt σ) (o : ∀ q : Nat, q ≠ xL X k i → H1[q]? = H[q]?)
    (hc : H1[xL X k i]? = some (arrV (xE X k) (alen k i) (av X σ' k i))) (hv : ∀ k' i', k' < 10 → ∀ j, fv X σ' k' i' j = fv X σ k' i' j) (ha : ∀ k' i', ¬ (k' = k ∧ i' = i) → ∀ p, av X σ' k' i' p = av X σ k' i' p) : Pic X σ' H1 := by
  obtain ⟨h1, h2, h3, h4⟩ := h
  refine ⟨?_, ?_, by rw [hn]; exact h3, by rw [hn]; exact h4⟩
  · intro k' i' hk' hi'
    rw [hn] at hi'
    exact ((h1 k' i' hk' hi').kept (o _ (fun q => by have := (h3 k' i' k i (by omega) hi' hk hi q).1; omega))).to (fun j _ => (hv k' i' hk' j).symm)
  · intro k' i' hk1 hk2 hi'
    rw [hn] at hi'
    by_cases e : k' = k ∧ i' = i
    · obtain ⟨rfl, rfl⟩ := e; exact hc
    · rw [o _ (fun q => e (h3 k' i' k i hk2 hi' hk hi q)), h2 k' i' hk1 hk2 hi', show av X σ' k' i' = av X σ k' i' from funext (ha k' i' e)]
-- ===== what stays: classes, array classes, constants, texts, words of nest mates =====
abbrev eA (X : GX) : Nat → Prop := fun q => xb X ≤ q
/-- the state at the law's start, told by what has become of it -/
def CtT (X : GX) (U : State) (H : Heap) : Prop := ∃ (s0 : State) (a0 : Array Value), s0.WarmedH U.vm ∧ s0.heap.size ≤ xb X ∧ (∀ q : Nat, q < s0.heap.size → H[q]? = s0.heap[q]?) ∧ (∀ w ∈ tables_1, w.before a0 s0 = true) ∧ (Jvm.Cond.and given_1 narrow_1).before a0 s0 = true
theorem CtT.go {X : GX} {s U : State} {H0 H : Heap} (h : CtT X s H0) (hW : s.WarmedH U.vm) (hk : ∀ q : Nat, q < xb X → H[q]? = H0[q]?) : CtT X U H := by
  obtain ⟨s0, a0, h1, h2, h3, h4, h5⟩ := h
  exact ⟨s0, a0, State.WarmedH.trans h1 hW, h2, fun q hq => (hk q (by omega)).trans (h3 q hq), h4, h5⟩
def CtE (X : GX) (U : State) (H : Heap) : Prop :=
  (∀ i, i < 22 → va_Z "TableMachine$Op" (opN i) "LTableMachine$Op;" (.ref (xad X i)) (eA X) U H ∧ va_O "TableMachine$Op" (xad X i) (eA X) U H ∧ va_OF "java/lang/Enum" "ordinal" "I" (.int (nI i)) (xad X i) (eA X) U H ∧ va_OF "TableMachine$Op" "what" "Ljava/lang/String;" (.ref (xsk X i)) (xad X i) (eA X) U H ∧
    va_O "java/lang/String" (xsk X i) (eA X) U H ∧ va_OF "java/lang/String" "coder" "B" (.int 0) (xsk X i) (eA X) U H ∧ va_OF "java/lang/String" "value" "[B" (.ref (xsv X i)) (xsk X i) (eA X) U H ∧ va_T .byte (xsv X i) 3 (fun j => .int (chr i j)) (eA X) U H) ∧
  va_Z "java/lang/String" "COMPACT_STRINGS" "Z" (.int 1) (eA X) U H ∧ va_Zq "jdk/internal/util/Preconditions" "SIOOBE_FORMATTER" "Ljava/util/function/BiFunction;" (eA X) U H ∧ CtT X U H
def Ctx (X : GX) (U : State) (H : Heap) : Prop :=
  (∀ k, k < 10 → u_Kn U (cN k) (fT k) (fn k) ((xD X).1 k) ((xD X).2 k)) ∧ (∀ k, 10 ≤ k → k < 45 → ArrOfT U (xE X k) (ety k) ∧ va_RA U (xE X k) (ety k)) ∧ (∀ w ∈ NW, va_Nw w U) ∧ CtE X U H
theorem CtE.go {X : GX} {s U : State} {H0 H : Heap} (h : CtE X s H0) (hW : s.WarmedH U.vm) (hk : ∀ q : Nat, q < xb X → H[q]? = H0[q]?) : CtE X U H := by
  obtain ⟨h1, h2, h3, h9⟩ := h
  have hvm := hW.alike
  have hq : ∀ a : Nat, a < H0.size → ¬ eA X a → H[a]? = H0[a]? := fun a _ hn => hk a (Nat.not_le.mp hn)
  refine ⟨fun i hi => ?_, (va_Z.moved hvm h2).kept hq, (va_Zq.moved hvm h3).kept hq, h9.go hW hk⟩
  obtain ⟨a1, a2, a3, a4, a5, a6, a7, a8⟩ := h1 i hi
  exact ⟨(va_Z.moved hvm a1).kept hq, (va_O.moved hvm a2).kept hq, (va_OF.moved hvm a3).kept hq, (va_OF.moved hvm a4).kept hq, (va_O.moved hvm a5).kept hq, (va_OF.moved hvm a6).kept hq, (va_OF.moved hvm a7).kept hq, (va_T.moved hvm a8).kept hq⟩
theorem Ctx.go {X : GX} {s U : State} {H0 H : Heap} (h : Ctx X s H0) (hW : s.WarmedH U.vm) (hk : ∀ q : Nat, q < xb X → H[q]? = H0[q]?) : Ctx X U H :=
  ⟨fun k h1 => u_Kn_moved hW.alike (h.1 k h1), fun k h1 h2 => ⟨arrOfT_moved hW.alike (h.2.1 k h1 h2).1, (h.2.1 k h1 h2).2.moved hW.alike⟩, fun w hw => nw_warm hw hW (h.2.2.1 w hw), h.2.2.2.go hW hk⟩
theorem ad_inj {X : GX} {U : State} {H : Heap} (h : CtE X U H) {i j : Nat} (hi : i < 22) (hj : j < 22) (e : xad X i = xad X j) : i = j := by
  obtain ⟨cf, k, fi, f, cell, a1, a2, a3, a4, a5, a6⟩ := (h.1 i hi).2.2.1
  obtain ⟨cf', k', fi', f', cell', b1, b2, b3, b4, b5, b6⟩ := (h.1 j hj).2.2.1
  rw [e] at a3
  cases a3.symm.trans b3
  cases a1.symm.trans b1
  have := a5.symm.trans b5
  have h2 : nI i = nI j := by injection this with this; injection this
  exact (nI_eq (by omega) (by omega)).mp h2
/-- what a walk holds on to -/
def Fx (X : GX) (p : Program) (s : State) (m : MethodId) (c : Code) (cc : ByteArray) (nL : Nat) (args : Array Value) (own : String) : Prop :=
  p.tables.exec = Jvm.exec ∧ c.code = cc ∧ c.maxLocals = nL ∧ s.vm.findClass own = some m.cls ∧ (∀ w ∈ TB, w.before args s = true) ∧ Ctx X s s.heap
/-- a contract's start and end -/
def PcG (X : GX) (n : Nat) (σ : Sg) (av : List Value) : Array Value → State → Prop := fun v U => v = av.toArray ∧ nt σ = n ∧ Ctx X U U.heap ∧ Pic X σ U.heap
def QcG (X : GX) (n : Nat) (σ' : Sg) (r : Option Value) : Array Value → State → Outcome → State → Prop := fun _ st o t => o = .returned r ∧ nt σ' = n ∧ Pic X σ' t.heap ∧ t.heap.size = st.heap.size ∧ ∀ q : Nat, ¬ fr X n q → t.heap[q]? = st.heap[q]?
theorem PcG.blind {X : GX} {n : Nat} {σ : Sg} {av : List Value} : FrameBlind (PcG X n σ av) := fun a U g mk q => ⟨q.1, q.2.1, q.2.2.1.go (U := U.calling g mk a) (State.WarmedH.refl U) (fun _ _ => rfl), q.2.2.2⟩
theorem St.ctx {X : GX} {n : Nat} {σ : Sg} {s U : State} {H : Heap} {locs : List Loc} (hP : St X n σ s.heap H locs) (hC : Ctx X s s.heap) (hW : s.WarmedH U.vm) (hU : U.heap = H) : Ctx X U U.heap := by
  rw [hU]
  exact hC.go hW (fun q hq => hP.2.2.2.1 q (by rw [← hP.1]; exact hP.2.1.out hq))
theorem St.fits {X : GX} {n : Nat} {σ : Sg} {s U : State} {H : Heap} {locs : List Loc} (hP : St X n σ s.heap H locs) (hC : Ctx X s s.heap) (hW : s.WarmedH U.vm) (hU : U.heap = H) (av : List Value) : PcG X n σ av av.toArray U := ⟨rfl, hP.1, hP.ctx hC hW hU, by rw [hU]; exact hP.2.1⟩
