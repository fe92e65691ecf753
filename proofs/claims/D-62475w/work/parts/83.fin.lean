/-! the plain law: the compiled program -/
def hdN (a1 : Int32) (cs : List Cnd) : Nat := (hdL a1 0 cs).length
theorem hdN_eq (a1 j : Int32) (cs : List Cnd) : (hdL a1 j cs).length = hdN a1 cs := hdL_l a1 j 0 cs
theorem hdN_2 (a1 : Int32) (cs : List Cnd) : hdN a1 cs ≤ 2 := hdL_2 a1 0 cs
def jpL (j0 j1 j2 : Int32) (p : Nat) (jmp : Int32) : List Ins := if j0 = 0 then [] else jnL j1 j2 p jmp
def jpN (j0 : Int32) : Nat := if j0 = 0 then 0 else 4
theorem jpL_len (j0 j1 j2 : Int32) (p : Nat) (jmp : Int32) : (jpL j0 j1 j2 p jmp).length = jpN j0 := by
  unfold jpL jpN
  split <;> rfl
theorem jpN_4 (j0 : Int32) : jpN j0 ≤ 4 := by
  unfold jpN
  split <;> omega
theorem fix_jp (n j0 j1 j2 : Int32) (p : Nat) (hp : p < 100) (jmp : Int32) : (jpL j0 j1 j2 p jmp).map (fixI n) = jpL j0 j1 j2 p (fx n 106 jmp) := by
  unfold jpL
  split
  · rfl
  · exact fix_jn n j1 j2 p hp jmp
def uP (cs : List Cnd) : Nat := 1 + hdN 0 cs
def uN (cs : List Cnd) (os : List (Int32 × Int32)) : Nat := uP cs + cls 0 cs + os.length + 1
def finU (q1 : Int32) (cs : List Cnd) (os : List (Int32 × Int32)) : List Ins := [insOf 1 0 q1 0] ++ (hdL 0 (nI (uN cs os + 1)) cs ++ (cndsL 0 (nI (uN cs os)) (uP cs) cs ++ resL os) ++ [insOf 3 0 (nI (uP cs)) 0]) ++ [insOf 0 0 0 0]
def vP (cs : List Cnd) : Nat := 2 + hdN 0 cs
def vR (cs : List Cnd) : Nat := vP cs + cls 0 cs + hdN 1 cs
def vN (cs : List Cnd) (os : List (Int32 × Int32)) (j0 : Int32) : Nat := vR cs + cls 1 cs + jpN j0 + os.length + 1
def finJ (q1 q2 : Int32) (cs : List Cnd) (os : List (Int32 × Int32)) (j0 j1 j2 : Int32) : List Ins := [insOf 1 0 q1 0, insOf 1 1 q2 0] ++ (hdL 0 (nI (vN cs os j0 + 2)) cs ++ (cndsL 0 (nI (vN cs os j0 + 1)) (vP cs) cs ++ hdL 1 (nI (vN cs os j0 + 1)) cs ++ (cndsL 1 (nI (vN cs os j0)) (vR cs) cs ++ jpL j0 j1 j2 (vR cs + cls 1 cs) (nI (vN cs os j0)) ++ resL os) ++ [insOf 3 1 (nI (vR cs)) 0]) ++ [insOf 3 0 (nI (vP cs)) 0]) ++ [insOf 0 0 0 0]
-- ===== codes =====
def op22 (X : List Ins) : Prop := ∀ x ∈ X, x.1 < 22
theorem op_app {A B : List Ins} (ha : op22 A) (hb : op22 B) : op22 (A ++ B) := fun x hx => (List.mem_append.mp hx).elim (ha x) (hb x)
theorem op_one {o : Nat} {a b c : Int32} (h : o < 22) : op22 [insOf o a b c] := fun x hx => by
  rcases List.mem_singleton.mp hx with rfl
  exact h
theorem op_cons {x : Ins} {X : List Ins} (h : x.1 < 22) (hx : op22 X) : op22 (x :: X) := fun y hy => (List.mem_cons.mp hy).elim (fun z => by rw [z]; exact h) (hx y)
theorem op_nil : op22 [] := fun x hx => by cases hx
theorem op_ftc (a col r : Int32) : (ftc a col r).1 < 22 := by
  unfold ftc
  split
  · exact (by decide : 5 < 22)
  · exact (by decide : 4 < 22)
theorem op_hd (a1 j : Int32) (cs : List Cnd) : op22 (hdL a1 j cs) := by
  rcases sk_hd a1 cs 0 with ⟨-, h⟩ | ⟨i, c, -, -, h⟩
  · rw [h j]; exact op_one (by decide)
  · rw [h j]; exact op_cons (by show 6 < 22; decide) (op_one (by decide))
theorem op_cnds (a1 j : Int32) : ∀ (cs : List Cnd) (p : Nat), (∀ c ∈ cs, okC2 c) → op22 (cndsL a1 j p cs) := by
  intro cs
  induction cs with
  | nil => intro p _; exact op_nil
  | cons c t ih =>
    intro p hk
    obtain ⟨k, hk7, hkk⟩ := hk c List.mem_cons_self
    have hcl : c.2.2.1.toNatClampNeg = k := by rw [hkk, nI_clamp (by omega)]
    rw [cndsL]
    refine op_app ?_ (ih _ (fun d hd => hk d (List.mem_cons_of_mem _ hd)))
    unfold cndL
    split
    · refine op_app ?_ (op_cons (by show 9 + _ < 22; omega) (op_one (by decide)))
      unfold cndP
      refine op_cons (op_ftc _ _ _) ?_
      split
      · exact op_nil
      · exact op_one (by decide)
    · exact op_nil
theorem op_out : ∀ (os : List (Int32 × Int32)) (i : Nat), op22 (outL i os) := by
  intro os
  induction os with
  | nil => intro i; exact op_nil
  | cons x t ih => intro i; exact op_cons (op_ftc _ _ _) (ih _)
theorem op_res (os : List (Int32 × Int32)) : op22 (resL os) := op_app (op_out os 0) (op_one (by decide))
theorem op_jp (j0 j1 j2 : Int32) (p : Nat) (jmp : Int32) : op22 (jpL j0 j1 j2 p jmp) := by
  unfold jpL
  split
  · exact op_nil
  · exact op_cons (op_ftc _ _ _) (op_cons (op_ftc _ _ _) (op_cons (by show 9 < 22; decide) (op_one (by decide))))
-- ===== well-formed =====
theorem okc {k : Nat} (h : k < 3) : okA 99 (if (99 : Int32) = 46 then 0 else nI k) := by
  rw [if_neg (by decide)]; unfold okA; rw [if_pos rfl]; exact ⟨k, h, rfl⟩
theorem okj {k : Nat} (h : k ≤ 60) : okA 106 (if (106 : Int32) = 46 then 0 else nI k) := by
  rw [if_neg (by decide)]; unfold okA; rw [if_neg (by decide), if_neg (by decide), if_pos rfl]; exact ⟨k, h, rfl⟩
theorem okk {k : Nat} (h : k < 4) : okA 107 (if (107 : Int32) = 46 then 0 else nI k) := by
  rw [if_neg (by decide)]; unfold okA; rw [if_neg (by decide), if_neg (by decide), if_neg (by decide), if_pos rfl]; exact ⟨k, h, rfl⟩
theorem okn {k : Nat} (h1 : 1 ≤ k) (h : k ≤ 4) : okA 110 (if (110 : Int32) = 46 then 0 else nI k) := by
  rw [if_neg (by decide)]; unfold okA; rw [if_neg (by decide), if_neg (by decide), if_neg (by decide), if_neg (by decide), if_pos rfl]; exact ⟨k, h1, h, rfl⟩
theorem okr {k : Nat} (h : k < 16) : okA 114 (if (114 : Int32) = 46 then 0 else nI k) := by
  rw [if_neg (by decide)]; unfold okA; rw [if_neg (by decide), if_neg (by decide), if_neg (by decide), if_neg (by decide), if_neg (by decide), if_pos rfl]; exact ⟨k, h, rfl⟩
theorem okt {k : Nat} (h : k < 3) : okA 116 (if (116 : Int32) = 46 then 0 else nI k) := by
  rw [if_neg (by decide)]; unfold okA; rw [if_neg (by decide), if_neg (by decide), if_neg (by decide), if_neg (by decide), if_neg (by decide), if_neg (by decide), if_pos rfl]; exact ⟨k, h, rfl⟩
theorem okv (a : Int32) : okA 118 (if (118 : Int32) = 46 then 0 else a) := by
  rw [if_neg (by decide)]; unfold okA; rw [if_neg (by decide), if_neg (by decide), if_neg (by decide), if_neg (by decide), if_neg (by decide), if_neg (by decide), if_neg (by decide), if_neg (by decide)]; trivial
theorem okd (a : Int32) : okA 46 (if (46 : Int32) = 46 then 0 else a) := by
  rw [if_pos rfl]; unfold okA; rw [if_neg (by decide), if_neg (by decide), if_neg (by decide), if_neg (by decide), if_neg (by decide), if_neg (by decide), if_neg (by decide), if_pos rfl]
theorem ok_ins {o : Nat} {l0 l1 l2 a b c : Int32} (ho : o < 22) (h18 : o ≠ 18) (e0 : chr o 0 = l0) (e1 : chr o 1 = l1) (e2 : chr o 2 = l2) (h0 : okA l0 (if l0 = 46 then 0 else a)) (h1 : okA l1 (if l1 = 46 then 0 else b)) (h2 : okA l2 (if l2 = 46 then 0 else c)) : okI (insOf o a b c) := by
  subst e0 e1 e2
  exact ⟨ho, h0, h1, h2, fun z => absurd z h18⟩
def okL (X : List Ins) : Prop := ∀ x ∈ X, okI x
theorem okL_app {A B : List Ins} (ha : okL A) (hb : okL B) : okL (A ++ B) := fun x hx => (List.mem_append.mp hx).elim (ha x) (hb x)
theorem okL_cons {x : Ins} {X : List Ins} (h : okI x) (hx : okL X) : okL (x :: X) := fun y hy => (List.mem_cons.mp hy).elim (fun z => by rw [z]; exact h) (hx y)
theorem okL_nil : okL [] := fun x hx => by cases hx
theorem ok_ftc {a r : Nat} {col : Int32} (ha : a < 3) (hr : r < 16) (hc : qC col) : okI (ftc (nI a) col (nI r)) := by
  unfold ftc
  rcases hc with rfl | ⟨k, hk, rfl⟩
  · rw [if_pos rfl]
    exact ok_ins (by decide) (by decide) rfl rfl rfl (okc ha) (okr hr) (okd _)
  · rw [if_neg (neg1_nI (by omega))]
    exact ok_ins (by decide) (by decide) rfl rfl rfl (okc ha) (okk hk) (okr hr)
theorem ok_hd {a j : Nat} (ha : a < 3) (hj : j ≤ 60) (cs : List Cnd) : okL (hdL (nI a) (nI j) cs) := by
  rcases sk_hd (nI a) cs 0 with ⟨-, h⟩ | ⟨i, c, -, -, h⟩
  · rw [h]
    exact okL_cons (ok_ins (by decide) (by decide) rfl rfl rfl (okc ha) (okj hj) (okd _)) okL_nil
  · rw [h]
    exact okL_cons (ok_ins (by decide) (by decide) rfl rfl rfl (okv _) (okr (k := 0) (by decide)) (okd _)) (okL_cons (ok_ins (by decide) (by decide) rfl rfl rfl (okc ha) (okj hj) (okr (k := 0) (by decide))) okL_nil)
theorem cmp_chr2 : ∀ k, k ≤ 7 → chr (9 + k) 0 = 114 ∧ chr (9 + k) 1 = 106 ∧ (chr (9 + k) 2 = 114 ∨ chr (9 + k) 2 = 46) := by decide +kernel
theorem ok_cnds {a j : Nat} (ha : a < 3) (hj : j ≤ 60) : ∀ (cs : List Cnd) (p : Nat), p + 4 * cs.length + 4 ≤ 60 → (∀ c ∈ cs, okC2 c ∧ qC c.2.1) → okL (cndsL (nI a) (nI j) p cs) := by
  intro cs
  induction cs with
  | nil => intro p _ _; exact okL_nil
  | cons c t ih =>
    intro p hp hk
    rw [List.length_cons] at hp
    obtain ⟨⟨k, hk7, hkk⟩, hq⟩ := hk c List.mem_cons_self
    have hcl : c.2.2.1.toNatClampNeg = k := by rw [hkk, nI_clamp (by omega)]
    have hll := cndL_len (nI a) (nI j) p c
    have hPl := cndP_len (nI a) c
    rw [cndsL]
    refine okL_app ?_ (ih _ (by omega) (fun d hd => hk d (List.mem_cons_of_mem _ hd)))
    unfold cndL
    split
    · refine okL_app ?_ (okL_cons ?_ (okL_cons (ok_ins (by decide) (by decide) rfl rfl rfl (okj hj) (okd _) (okd _)) okL_nil))
      · unfold cndP
        refine okL_cons (ok_ftc (r := 0) ha (by decide) hq) ?_
        split
        · exact okL_nil
        · exact okL_cons (ok_ins (by decide) (by decide) rfl rfl rfl (okv _) (okr (k := 1) (by decide)) (okd _)) okL_nil
      · rw [hcl]
        obtain ⟨c1', c2', c3'⟩ := cmp_chr2 k hk7
        rcases c3' with c3' | c3'
        · exact ok_ins (by omega) (by omega) c1' c2' c3' (okr (k := 0) (by decide)) (okj (by omega)) (okr (k := 1) (by decide))
        · exact ok_ins (by omega) (by omega) c1' c2' c3' (okr (k := 0) (by decide)) (okj (by omega)) (okd _)
    · exact okL_nil
theorem ok_out : ∀ (os : List (Int32 × Int32)) (i : Nat), i + os.length ≤ 10 → (∀ x ∈ os, (x.1 = 0 ∨ x.1 = 1) ∧ qC x.2) → okL (outL i os) := by
  intro os
  induction os with
  | nil => intro i _ _; exact okL_nil
  | cons x t ih =>
    intro i hi hk
    rw [List.length_cons] at hi
    obtain ⟨h1, h2⟩ := hk x List.mem_cons_self
    refine okL_cons ?_ (ih _ (by omega) (fun d hd => hk d (List.mem_cons_of_mem _ hd)))
    rcases h1 with h1 | h1
    · rw [h1]; exact ok_ftc (a := 0) (by decide) (by omega) h2
    · rw [h1]; exact ok_ftc (a := 1) (by decide) (by omega) h2
theorem ok_res {os : List (Int32 × Int32)} (h1 : 1 ≤ os.length) (h4 : os.length ≤ 4) (hk : ∀ x ∈ os, (x.1 = 0 ∨ x.1 = 1) ∧ qC x.2) : okL (resL os) := by
  unfold resL
  refine okL_app (ok_out os 0 (by omega) hk) (okL_cons ⟨by show 18 < 22; decide, okr (k := 2) (by decide), okn h1 h4, okd 0, fun _ a b ha hb e1 e2 => ?_⟩ okL_nil)
  have e1' : nI 2 = nI a := e1
  have := nI_inj (by decide) (by omega) e1'
  omega
theorem ok_jp {j0 j1 j2 : Int32} {p n : Nat} (hp : p + 4 ≤ 60) (hn : n ≤ 60) (h1 : j0 ≠ 0 → qC j1 ∧ qC j2) : okL (jpL j0 j1 j2 p (nI n)) := by
  unfold jpL
  by_cases h0 : j0 = 0
  · rw [if_pos h0]; exact okL_nil
  · rw [if_neg h0]
    exact okL_cons (ok_ftc (a := 0) (r := 0) (by decide) (by decide) (h1 h0).1) (okL_cons (ok_ftc (a := 1) (r := 1) (by decide) (by decide) (h1 h0).2) (okL_cons (ok_ins (by decide) (by decide) rfl rfl rfl (okr (k := 0) (by decide)) (okj (by omega)) (okr (k := 1) (by decide))) (okL_cons (ok_ins (by decide) (by decide) rfl rfl rfl (okj hn) (okd _) (okd _)) okL_nil)))
theorem ok_open {a t : Nat} (ha : a < 3) (ht : t < 3) : okI (insOf 1 (nI a) (nI t) 0) := ok_ins (by decide) (by decide) rfl rfl rfl (okc ha) (okt ht) (okd _)
theorem ok_nxt {a p : Nat} (ha : a < 3) (hp : p ≤ 60) : okI (insOf 3 (nI a) (nI p) 0) := ok_ins (by decide) (by decide) rfl rfl rfl (okc ha) (okj hp) (okd _)
theorem ok_halt : okI (insOf 0 0 0 0) := ok_ins (by decide) (by decide) rfl rfl rfl (okd _) (okd _) (okd _)
theorem finU_ok {t : Nat} {cs : List Cnd} {os : List (Int32 × Int32)} (ht : t < 3) (hcs : cs.length ≤ 4) (h1 : 1 ≤ os.length) (h4 : os.length ≤ 4) (hk : ∀ c ∈ cs, okC2 c ∧ qC c.2.1) (ho : ∀ x ∈ os, (x.1 = 0 ∨ x.1 = 1) ∧ qC x.2) : wQ (finU (nI t) cs os) ∧ (finU (nI t) cs os).length = uN cs os + 2 := by
  have b1 := hdN_2 0 cs
  have b2 := cls_4 0 cs
  have hlen : (finU (nI t) cs os).length = uN cs os + 2 := by
    unfold finU
    rw [List.length_append, List.length_append, List.length_append, List.length_append, List.length_append, hdN_eq, cndsL_l, resL_len]
    simp only [List.length_cons, List.length_nil]
    unfold uN uP
    omega
  refine ⟨⟨?_, ?_⟩, hlen⟩
  · rw [hlen]
    unfold uN uP
    omega
  · have hu : uN cs os + 1 ≤ 60 := by unfold uN uP; omega
    have hp : uP cs ≤ 3 := by unfold uP; omega
    show okL _
    exact okL_app (okL_app (okL_cons (ok_open (a := 0) (by decide) ht) okL_nil) (okL_app (okL_app (ok_hd (a := 0) (by decide) hu cs) (okL_app (ok_cnds (a := 0) (by decide) (by omega) cs _ (by omega) hk) (ok_res h1 h4 ho))) (okL_cons (ok_nxt (a := 0) (by decide) (by omega)) okL_nil))) (okL_cons ok_halt okL_nil)
theorem finJ_ok {t s : Nat} {cs : List Cnd} {os : List (Int32 × Int32)} {j0 j1 j2 : Int32} (ht : t < 3) (hs : s < 3) (hcs : cs.length ≤ 4) (h1 : 1 ≤ os.length) (h4 : os.length ≤ 4) (hk : ∀ c ∈ cs, okC2 c ∧ qC c.2.1) (ho : ∀ x ∈ os, (x.1 = 0 ∨ x.1 = 1) ∧ qC x.2) (hj : j0 ≠ 0 → qC j1 ∧ qC j2) : wQ (finJ (nI t) (nI s) cs os j0 j1 j2) ∧ (finJ (nI t) (nI s) cs os j0 j1 j2).length = vN cs os j0 + 3 := by
  have b1 := hdN_2 0 cs
  have b2 := cls_4 0 cs
  have b3 := hdN_2 1 cs
  have b4 := cls_4 1 cs
  have b5 := jpN_4 j0
  have hlen : (finJ (nI t) (nI s) cs os j0 j1 j2).length = vN cs os j0 + 3 := by
    unfold finJ
    simp only [List.length_append, hdN_eq, cndsL_l, resL_len, jpL_len, List.length_cons, List.length_nil]
    unfold vN vR vP
    omega
  refine ⟨⟨?_, ?_⟩, hlen⟩
  · rw [hlen]
    unfold vN vR vP
    omega
  · have hu : vN cs os j0 + 2 ≤ 60 := by unfold vN vR vP; omega
    have hp : vP cs ≤ 4 := by unfold vP; omega
    have hr : vR cs ≤ 22 := by unfold vR; omega
    show okL _
    exact okL_app (okL_app (okL_cons (ok_open (a := 0) (by decide) ht) (okL_cons (ok_open (a := 1) (by decide) hs) okL_nil)) (okL_app (okL_app (ok_hd (a := 0) (by decide) hu cs) (okL_app (okL_app (okL_app (ok_cnds (a := 0) (by decide) (by omega) cs _ (by omega) hk) (ok_hd (a := 1) (by decide) (by omega) cs)) (okL_app (okL_app (ok_cnds (a := 1) (by decide) (by omega) cs _ (by omega) hk) (ok_jp (by omega) (by omega) hj)) (ok_res h1 h4 ho))) (okL_cons (ok_nxt (a := 1) (by decide) (by omega)) okL_nil))) (okL_cons (ok_nxt (a := 0) (by decide) (by omega)) okL_nil))) (okL_cons ok_halt okL_nil)
