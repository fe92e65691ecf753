/-! the plain law: a key in its leaf -/
theorem gi_ne {σ : Sg} {k i j a b c : Nat} {x : Int32} (h : ¬ (a = k ∧ b = i ∧ c = j)) : gi (si σ k i j x) a b c = gi σ a b c := by rw [gi_si, if_neg h]
theorem gi_eq {σ : Sg} {k i j : Nat} {x : Int32} : gi (si σ k i j x) k i j = x := by rw [gi_si, if_pos ⟨rfl, rfl, rfl⟩]
theorem Tr_h {σ : Sg} {n : Nat} : ∀ (d p : Nat) (lo hi : Option Int64) (M : List Cel) (P : List Nat), Tr σ n d p lo hi M P → Tr σ n M.length p lo hi M P := by
  intro d
  induction d with
  | zero => intro p lo hi M P h; exact Tr_le (Nat.zero_le _) h
  | succ d ih =>
    intro p lo hi M P h
    rcases h with h | ⟨e0, es, ⟨h1, h2, h3, h4, h5, h6⟩, rfl, rfl⟩
    · exact Tr_le (d := 0) (Nat.zero_le _) h
    · have hes : 1 ≤ es.length := by
        cases es with
        | nil => exact absurd rfl h3
        | cons a b => simp
      have key : ∀ (L : List Ent) (hi : Option Int64) (N : Nat), Ks (Tr σ n d) L hi → (∀ e ∈ L, e.2.2.1.length ≤ N) → Ks (Tr σ n N) L hi := by
        intro L
        induction L with
        | nil => intro hi N _ _; trivial
        | cons e t iht =>
          intro hi N hk hN
          exact ⟨Tr_le (hN e List.mem_cons_self) (ih _ _ _ _ _ hk.1), hk.2.1, iht hi N hk.2.2 (fun x hx => hN x (List.mem_cons_of_mem _ hx))⟩
      have hsum : ∀ (L : List Ent) (hi : Option Int64), Ks (Tr σ n d) L hi → ∀ e ∈ L, e.2.2.1.length + L.length ≤ (fM L).length + 1 := by
        intro L
        induction L with
        | nil => intro hi _ e he; cases he
        | cons x t iht =>
          intro hi hk e he
          have hl := fM_len t hi hk.2.2
          rw [fM, List.length_append, List.length_cons]
          rcases List.mem_cons.mp he with rfl | he
          · omega
          · have := iht hi hk.2.2 e he
            have hx : 1 ≤ x.2.2.1.length := by
              rcases hne : x.2.2.1 with _ | ⟨a, b⟩
              · exact absurd hne hk.2.1
              · simp
            omega
      have hlen := fM_len (e0 :: es) hi h6
      rw [List.length_cons] at hlen
      obtain ⟨k, hk⟩ : ∃ k, (fM (e0 :: es)).length = k + 1 := ⟨(fM (e0 :: es)).length - 1, by omega⟩
      rw [hk]
      refine Or.inr ⟨e0, es, ⟨h1, h2, h3, h4, h5, key _ _ _ h6 (fun e he => ?_)⟩, rfl, rfl⟩
      have := hsum _ _ h6 e he
      rw [List.length_cons] at this
      omega
/-- .. and the way is kept -/
def eqW (t : Nat) (σ σ' : Sg) : Prop := eqS σ σ' ∧ (∀ i j, gi σ' 13 i j = gi σ 13 i j) ∧ (∀ i j, gi σ' 14 i j = gi σ 14 i j) ∧ gi σ' 3 t 6 = gi σ 3 t 6
theorem eqW.rf (t : Nat) (σ : Sg) : eqW t σ σ := ⟨eqS.rf σ, fun _ _ => rfl, fun _ _ => rfl, rfl⟩
theorem eqW.tr {t : Nat} {σ τ υ : Sg} (h1 : eqW t σ τ) (h2 : eqW t τ υ) : eqW t σ υ := ⟨h1.1.tr h2.1, fun i j => (h2.2.1 i j).trans (h1.2.1 i j), fun i j => (h2.2.2.1 i j).trans (h1.2.2.1 i j), h2.2.2.2.trans h1.2.2.2⟩
theorem eqW_si {t : Nat} {σ : Sg} {j : Nat} {x : Int32} (h : 7 ≤ j) : eqW t σ (si σ 3 t j x) := ⟨eqS_si (by unfold scr; omega), fun i j => by rw [gi_si, if_neg (by omega)], fun i j => by rw [gi_si, if_neg (by omega)], by rw [gi_si, if_neg (by omega)]⟩
theorem eqW_sA {t : Nat} {σ : Sg} {i p : Nat} : eqW t σ (sA σ i p) := ⟨eqS_sA, fun i j => by rw [gi_sA10 _ _ _ _ _ _ (by decide)], fun i j => by rw [gi_sA10 _ _ _ _ _ _ (by decide)], by rw [gi_sA10 _ _ _ _ _ _ (by decide)]⟩
theorem Cx_W {σ σ' : Sg} {n t root : Nat} {Z : List Lv} {p : Nat} {lo hi : Option Int64} (h : eqW t σ σ') (hc : Cx σ n t root Z p lo hi) : Cx σ' n t root Z p lo hi := Cx_congr (fun q hq j => h.1.pg hq j) Z p lo hi (fun j _ => ⟨h.2.1 t j, h.2.2.1 t j⟩) hc
theorem Lf_S {σ σ' : Sg} {n p : Nat} {lo hi : Option Int64} {M : List Cel} (h : eqS σ σ') (hl : Lf σ n p lo hi M) : Lf σ' n p lo hi M := ⟨hl.1, PL_congr (fun j => h.pg hl.1 j) hl.2.1, hl.2.2⟩
theorem leaf_loop {t p n : Nat} (hp : p < 240) (key : Int64) (N : Nat) (h4 : n ≤ 4) : ∀ (rest : List Cel) (k q : Nat) (σ : Sg) (m : Nat), (∀ c ∈ rest, c.2.length = n) → gi σ 10 p 1 = nI N → k + rest.length = N → N < 1000 → gi σ 3 t 9 = nI k → gi σ 3 t 2 = nI n → gi σ 3 t 10 = 0 → gi σ 2 p 1 = nI q → q + (lB rest).length ≤ 128 → sp σ p q (lB rest) → rest.length + 2 ≤ m →
    ∃ pre post x σ', rest = pre ++ post ∧ (∀ c ∈ pre, c.1 < key) ∧ lp (fun y => b_Tr_find_98 t key (nI p) p y.1 y.2) m (1, σ) = some (x, σ') ∧ eqW t σ σ' ∧ gi σ' 3 t 9 = nI (k + pre.length) ∧
      (post = [] → x = 1 ∧ gi σ' 2 p 1 = nI (q + (lB rest).length) ∧ gi σ' 3 t 10 = 0) ∧
      (∀ c r, post = c :: r → x = 0 ∧ ¬ c.1 < key ∧ gi σ' 3 t 7 = nI (q + (lB pre).length) ∧ gi σ' 3 t 8 = nI (q + (lB pre).length + (encC c).length) ∧ gi σ' 3 t 10 = if c.1 = key then 1 else 0) := by
  intro rest
  induction rest with
  | nil =>
    intro k q σ m hc h1 hk hN hi hn hf ha hq hs hm
    obtain ⟨m, rfl⟩ : ∃ m', m = m' + 1 := ⟨m - 1, by omega⟩
    refine ⟨[], [], 1, σ, rfl, (fun _ h => by cases h), lp_r ?_, eqW.rf t σ, hi, fun _ => ⟨rfl, ha, hf⟩, fun c r h => by cases h⟩
    show b_Tr_find_98 t key (nI p) p 1 σ = _
    unfold b_Tr_find_98
    rw [if_neg (by decide), cells_eq hp, bn2_eq, h1, hi, if_pos (nI_le (by rw [List.length_nil] at hk; omega) (by omega))]
  | cons c rest ih =>
    intro k q σ m hc h1 hk hN hi hn hf ha hq hs hm
    rw [List.length_cons] at hk hm
    rw [lB, List.length_append] at hq
    rw [lB] at hs
    obtain ⟨m, rfl⟩ : ∃ m', m = m' + 2 := ⟨m - 2, by omega⟩
    obtain ⟨hs0, hs1⟩ := sp_app.mp hs
    have hcl := hc c List.mem_cons_self
    have hpass : f_Tr_pass t p 1 (si σ 3 t 7 (nI q)) = some (c.1, sA (si σ 3 t 7 (nI q)) p (q + (encC c).length)) := pass_L (by omega) (by rw [gi_si, if_neg (by omega), hcl]; exact hn) (by rw [gi_si, if_neg (by omega)]; exact ha) (by rw [pg_len hp]; omega) (fun z hz => by rw [gi_si, if_neg (by omega)]; exact hs0 z hz)
    have stepG : b_Tr_find_98 t key (nI p) p 1 σ = some (.inl ((if key ≤ c.1 then 0 else 1), si (si (si (sA (si σ 3 t 7 (nI q)) p (q + (encC c).length)) 3 t 8 (nI (q + (encC c).length))) 3 t 10 (if c.1 = key then 1 else 0)) 3 t 9 (nI k + (if (if key ≤ c.1 then (0 : Int32) else 1) = 0 then 0 else 1)))) := by
      unfold b_Tr_find_98
      rw [if_neg (by decide), cells_eq hp, bn2_eq, h1, hi, if_neg (nI_ge (by omega) (by omega)), lt_eq, ha, hpass, bn2_eq, lt_eq, at_sA, lt_eq, lt_eq, chk_pos, lt_eq, lt_eq, lt_eq]
      · rw [gi_ne (by omega), gi_ne (by omega), gi_sA10 _ _ _ _ _ _ (by decide), gi_ne (by omega), hi]
      · split
        · exact zb1
        · exact zb0
    by_cases hlt : c.1 < key
    · have hnle : ¬ key ≤ c.1 := Int64.not_le.mpr hlt
      have hne : ¬ c.1 = key := fun z => by rw [z] at hlt; exact Int64.lt_irrefl hlt
      rw [if_neg hnle, if_neg hne, if_neg (by decide), nI_1] at stepG
      generalize hσ : si (si (si (sA (si σ 3 t 7 (nI q)) p (q + (encC c).length)) 3 t 8 (nI (q + (encC c).length))) 3 t 10 0) 3 t 9 (nI (k + 1)) = σ1 at stepG
      have hW : eqW t σ σ1 := by
        rw [← hσ]
        exact eqW.tr (eqW.tr (eqW.tr (eqW.tr (eqW_si (by decide)) eqW_sA) (eqW_si (by decide))) (eqW_si (by decide))) (eqW_si (by decide))
      obtain ⟨pre, post, x, σ', r1, r2, r3, r4, r5, r6, r7⟩ := ih (k + 1) (q + (encC c).length) σ1 (m + 1) (fun z hz => hc z (List.mem_cons_of_mem _ hz)) (by rw [hW.1.pg hp]; exact h1) (by omega) hN (by rw [← hσ, gi_si, if_pos ⟨rfl, rfl, rfl⟩]) (by rw [hW.1.co]; exact hn) (by rw [← hσ, gi_si, if_neg (by omega), gi_si, if_pos ⟨rfl, rfl, rfl⟩]) (by rw [← hσ, gi_si, if_neg (by omega), gi_si, if_neg (by omega), gi_si, if_neg (by omega), at_sA]) (by omega) (sp_congr (fun j => hW.1.pg hp j) hs1) (by omega)
      refine ⟨c :: pre, post, x, σ', by rw [r1]; rfl, ?_, ?_, hW.tr r4, ?_, ?_, ?_⟩
      · intro z hz
        rcases List.mem_cons.mp hz with rfl | hz
        · exact hlt
        · exact r2 z hz
      · rw [lp_l (s' := (1, σ1)) stepG]
        exact r3
      · rw [r5, List.length_cons]; congr 1; omega
      · intro hpost
        obtain ⟨a1, a2, a3⟩ := r6 hpost
        exact ⟨a1, by rw [a2, lB, List.length_append, Nat.add_assoc], a3⟩
      · intro c' r hpost
        obtain ⟨a1, a2, a3, a4, a5⟩ := r7 c' r hpost
        exact ⟨a1, a2, by rw [a3, lB, List.length_append, Nat.add_assoc], by rw [a4, lB, List.length_append, Nat.add_assoc q], a5⟩
    · have hle : key ≤ c.1 := Int64.not_lt.mp hlt
      rw [if_pos hle, if_pos rfl] at stepG
      generalize hσ : si (si (si (sA (si σ 3 t 7 (nI q)) p (q + (encC c).length)) 3 t 8 (nI (q + (encC c).length))) 3 t 10 (if c.1 = key then 1 else 0)) 3 t 9 (nI k + 0) = σ1 at stepG
      have hW : eqW t σ σ1 := by
        rw [← hσ]
        exact eqW.tr (eqW.tr (eqW.tr (eqW.tr (eqW_si (by decide)) eqW_sA) (eqW_si (by decide))) (eqW_si (by decide))) (eqW_si (by decide))
      refine ⟨[], c :: rest, 0, σ1, rfl, (fun _ h => by cases h), ?_, hW, ?_, (fun h => by cases h), ?_⟩
      · rw [lp_l (s' := (0, σ1)) stepG, lp_r]
        show b_Tr_find_98 t key (nI p) p 0 σ1 = _
        unfold b_Tr_find_98
        rw [if_pos rfl]
      · rw [← hσ, gi_si, if_pos ⟨rfl, rfl, rfl⟩, List.length_nil, Nat.add_zero, Int32.add_zero]
      · intro c' r hcr
        obtain ⟨rfl, rfl⟩ := List.cons.inj hcr
        refine ⟨rfl, hlt, ?_, ?_, ?_⟩
        · rw [← hσ, gi_si, if_neg (by omega), gi_si, if_neg (by omega), gi_si, if_neg (by omega), gi_sA10 _ _ _ _ _ _ (by decide), gi_si, if_pos ⟨rfl, rfl, rfl⟩, lB, List.length_nil, Nat.add_zero]
        · rw [← hσ, gi_si, if_neg (by omega), gi_si, if_neg (by omega), gi_si, if_pos ⟨rfl, rfl, rfl⟩, lB, List.length_nil, Nat.add_zero]
        · rw [← hσ, gi_si, if_neg (by omega), gi_si, if_pos ⟨rfl, rfl, rfl⟩]
/-- what find leaves behind: the way Z to the leaf p, its cells, those below the key and those not -/
def Fnd (σ : Sg) (n t root : Nat) (key : Int64) (Z : List Lv) (p : Nat) (lo hi : Option Int64) (pre post : List Cel) : Prop :=
  Cx σ n t root Z p lo hi ∧ Lf σ n p lo hi (pre ++ post) ∧ oLo lo key ∧ oHi hi key ∧ gi σ 3 t 6 = nI Z.length ∧ gi σ 13 t Z.length = nI p ∧ Z.length + (pre ++ post).length ≤ 91 ∧ (pre ++ post ≠ [] ∨ Z = []) ∧ (∀ c ∈ pre, c.1 < key) ∧ (∀ c ∈ post, ¬ c.1 < key) ∧
  gi σ 3 t 9 = nI pre.length ∧ gi σ 3 t 7 = nI (2 + (lB pre).length) ∧ (∀ c r, post = c :: r → gi σ 3 t 8 = nI (2 + (lB pre).length + (encC c).length) ∧ gi σ 3 t 10 = if c.1 = key then 1 else 0) ∧ (post = [] → gi σ 3 t 10 = 0)
/-- a tree of the class -/
def TO (σ : Sg) (n t root : Nat) (M : List Cel) (P : List Nat) : Prop := gi σ 3 t 1 = nI root ∧ gi σ 3 t 2 = nI n ∧ 1 ≤ n ∧ n ≤ 4 ∧ TA σ n root none none M P ∧ M.length ≤ 91
theorem find_eq {σ : Sg} {n t root : Nat} {M : List Cel} {P : List Nat} (h : TO σ n t root M P) (key : Int64) : ∃ Z p lo hi pre post σ', f_Tr_find t key σ = some σ' ∧ eqS σ σ' ∧ Fnd σ' n t root key Z p lo hi pre post ∧ gM Z (pre ++ post) = M ∧ gP Z [p] = P := by
  obtain ⟨h1, h2, h3, h4, ⟨d0, h5⟩, h6⟩ := h
  have h5 := Tr_h _ _ _ _ _ _ h5
  have hS1 : eqS σ (si σ 3 t 6 0) := eqS_si (by unfold scr; omega)
  obtain ⟨Z, p, lo, hi, M', σ2, r1, r2, r3, r4, r5, r6, r7, r8, r9, r10, r11⟩ := find_loop (t := t) (root := root) key M.length root none none M P [] (si σ 3 t 6 0) FU (Tr_pg (fun q hq j => hS1.pg hq j) _ _ _ _ _ _ h5) ⟨rfl, rfl, rfl⟩ (fun b hb => by cases hb) (fun b hb => by cases hb) (by rw [gi_si, if_pos ⟨rfl, rfl, rfl⟩]; rfl) (by simpa using h6) (Or.inr rfl) (by unfold FU; omega)
  have hp := r4.1
  generalize hσ3 : si (si (si (si (sA (si σ2 13 t Z.length (nI p)) p 2) 3 t 9 0) 3 t 10 0) 3 t 7 2) 3 t 8 2 = σ3
  have hS3 : eqS σ2 σ3 := by
    rw [← hσ3]
    refine eqS.tr (eqS.tr (eqS.tr (eqS.tr (eqS.tr (eqS_si ?_) eqS_sA) (eqS_si ?_)) (eqS_si ?_)) (eqS_si ?_)) (eqS_si ?_) <;> (unfold scr; omega)
  have hS03 : eqS σ σ3 := (hS1.tr r2).tr hS3
  have hL3 := Lf_S hS3 r4
  obtain ⟨⟨g0, g1, gs, gl⟩, gc, gsort⟩ := hL3.2
  have hcnt := lB_cnt (fun c hc => by rw [(gc c hc).1]; exact h4)
  obtain ⟨pre, post, x, σ4, q1, q2, q3, q4, q5, q6, q7⟩ := leaf_loop (t := t) hp key M'.length h4 M' 0 2 σ3 FU (fun c hc => (gc c hc).1) g1 (by omega) (by omega) (by rw [← hσ3, gi_si, if_neg (by omega), gi_si, if_neg (by omega), gi_si, if_neg (by omega), gi_si, if_pos ⟨rfl, rfl, rfl⟩]; rfl) (by rw [hS03.co]; exact h2) (by rw [← hσ3, gi_si, if_neg (by omega), gi_si, if_neg (by omega), gi_si, if_pos ⟨rfl, rfl, rfl⟩]) (by rw [← hσ3, gi_si, if_neg (by omega), gi_si, if_neg (by omega), gi_si, if_neg (by omega), gi_si, if_neg (by omega), at_sA]) (by omega) gs (by unfold FU; omega)
  have hdep : Z.length < 100 := by omega
  have hrun : f_Tr_find t key σ = some (si σ4 3 t 7 (if x = 0 then gi σ4 3 t 7 else gi σ4 2 p 1)) := by
    unfold f_Tr_find l_Tr_find_10 l_Tr_find_98
    rw [lt_eq, lt_eq, gi_si, if_neg (by omega), h1, r1, bn2_eq, r7, chk_pos (vp_in_nI hdep (by decide)), lt_eq, nI_clamp (by omega), open_eq hp, bn2_eq, lt_eq, lt_eq, lt_eq, lt_eq, hσ3, q3, bn2_eq, lt_eq, lt_eq]
  have hW5 : eqW t σ4 (si σ4 3 t 7 (if x = 0 then gi σ4 3 t 7 else gi σ4 2 p 1)) := eqW_si (by decide)
  refine ⟨Z, p, lo, hi, pre, post, _, hrun, (hS03.tr q4.1).tr hW5.1, ?_, by rw [← q1]; exact r10, r11⟩
  have hCx3 : Cx σ3 n t root Z p lo hi := Cx_congr (fun q hq j => hS3.pg hq j) Z p lo hi (fun j hj => by
    rw [← hσ3]
    constructor
    · rw [gi_si, if_neg (by omega), gi_si, if_neg (by omega), gi_si, if_neg (by omega), gi_si, if_neg (by omega), gi_sA10 _ _ _ _ _ _ (by decide), gi_si, if_neg (by omega)]
    · rw [gi_si, if_neg (by omega), gi_si, if_neg (by omega), gi_si, if_neg (by omega), gi_si, if_neg (by omega), gi_sA10 _ _ _ _ _ _ (by decide), gi_si, if_neg (by omega)]) r3
  have hd6 : gi σ3 3 t 6 = nI Z.length := by
    rw [← hσ3, gi_si, if_neg (by omega), gi_si, if_neg (by omega), gi_si, if_neg (by omega), gi_si, if_neg (by omega), gi_sA10 _ _ _ _ _ _ (by decide), gi_si, if_neg (by omega)]
    exact r7
  have hwp : gi σ3 13 t Z.length = nI p := by
    rw [← hσ3, gi_si, if_neg (by omega), gi_si, if_neg (by omega), gi_si, if_neg (by omega), gi_si, if_neg (by omega), gi_sA10 _ _ _ _ _ _ (by decide), gi_si, if_pos ⟨rfl, rfl, rfl⟩]
  have hW := q4.tr hW5
  have hpost : ∀ c ∈ post, ¬ c.1 < key := by
    cases post with
    | nil => intro c hc; cases hc
    | cons c r =>
      have hc1 := (q7 c r rfl).2.1
      intro z hz
      rcases List.mem_cons.mp hz with rfl | hz
      · exact hc1
      · rw [q1] at gsort
        have h9 := (List.pairwise_append.mp gsort).2.1
        have h8 := (List.pairwise_cons.mp h9).1 z hz
        exact fun z9 => hc1 (Int64.lt_trans h8 z9)
  refine ⟨Cx_W hW hCx3, by rw [← q1]; exact Lf_S hW.1 hL3, r5, r6, by rw [hW.2.2.2]; exact hd6, by rw [hW.2.1]; exact hwp, by rw [← q1]; exact r8, by rw [← q1]; exact r9, q2, hpost, ?_, ?_, ?_, ?_⟩
  · rw [gi_si, if_neg (by omega), q5, Nat.zero_add]
  · rw [gi_si, if_pos ⟨rfl, rfl, rfl⟩]
    cases post with
    | nil =>
      obtain ⟨a1, a2, a3⟩ := q6 rfl
      rw [a1, if_neg (by decide), a2, q1, List.append_nil]
    | cons c r =>
      obtain ⟨a1, a2, a3, a4, a5⟩ := q7 c r rfl
      rw [a1, if_pos rfl, a3]
  · intro c r hcr
    obtain ⟨a1, a2, a3, a4, a5⟩ := q7 c r hcr
    exact ⟨by rw [gi_si, if_neg (by omega), a4], by rw [gi_si, if_neg (by omega), a5]⟩
  · intro hnil
    obtain ⟨a1, a2, a3⟩ := q6 hnil
    rw [gi_si, if_neg (by omega), a3]
