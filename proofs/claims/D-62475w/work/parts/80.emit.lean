/-! the plain law: what the two compilers write -/
def fEm (σ σ' : Sg) : Prop := (∀ a b c, ¬ (a = 16 ∨ (a = 0 ∧ c = 8)) → gi σ' a b c = gi σ a b c) ∧ (∀ a b c, gj σ' a b c = gj σ a b c) ∧ (∀ a b c, ¬ a = 6 → gr σ' a b c = gr σ a b c) ∧ nt σ' = nt σ
def fPt (σ σ' : Sg) : Prop := (∀ a b c, ¬ (a = 33 ∨ (a = 9 ∧ c = 10)) → gi σ' a b c = gi σ a b c) ∧ (∀ a b c, gj σ' a b c = gj σ a b c) ∧ (∀ a b c, gr σ' a b c = gr σ a b c) ∧ nt σ' = nt σ
theorem fEm.tr {σ τ υ : Sg} (h1 : fEm σ τ) (h2 : fEm τ υ) : fEm σ υ := ⟨fun a b c x => (h2.1 a b c x).trans (h1.1 a b c x), fun a b c => (h2.2.1 a b c).trans (h1.2.1 a b c), fun a b c h => (h2.2.2.1 a b c h).trans (h1.2.2.1 a b c h), h2.2.2.2.trans h1.2.2.2⟩
theorem fPt.tr {σ τ υ : Sg} (h1 : fPt σ τ) (h2 : fPt τ υ) : fPt σ υ := ⟨fun a b c x => (h2.1 a b c x).trans (h1.1 a b c x), fun a b c => (h2.2.1 a b c).trans (h1.2.1 a b c), fun a b c => (h2.2.2.1 a b c).trans (h1.2.2.1 a b c), h2.2.2.2.trans h1.2.2.2⟩
theorem fEm_rf (σ : Sg) : fEm σ σ := ⟨fun _ _ _ _ => rfl, fun _ _ _ => rfl, fun _ _ _ _ => rfl, rfl⟩
theorem fPt_rf (σ : Sg) : fPt σ σ := ⟨fun _ _ _ _ => rfl, fun _ _ _ => rfl, fun _ _ _ => rfl, rfl⟩
theorem emit_A {σ : Sg} {Q : List Ins} (o : Nat) (a b c : Int32) (hP : Prc σ Q) (hl : Q.length < 60) : ∃ σ', f_TM_emit o a b c σ = some σ' ∧ Prc σ' (Q ++ [insOf o a b c]) ∧ fEm σ σ' := ⟨emS σ Q.length (insOf o a b c), emit_S hl hP.1, emS_Prc hP, fun _ _ _ h => emS_gi (by omega) (by omega), fun _ _ _ => rfl, fun _ _ _ h => emS_gr (by omega), rfl⟩
theorem put_A {σ : Sg} {Q : List Ins} {o : Nat} (ho : o < 22) (a b c : Int32) (hP : Prm σ Q) (hl : Q.length < 60) : ∃ σ', f_Md_put (nI o) a b c σ = some σ' ∧ Prm σ' (Q ++ [insOf o a b c]) ∧ fPt σ σ' := ⟨ptS σ Q.length (insOf o a b c), put_S hl ho hP.1, ptS_Prm hP, fun _ _ _ h => ptS_gi (by omega) (by omega), fun _ _ _ => rfl, fun _ _ _ => rfl, rfl⟩
def ftc (a col r : Int32) : Ins := if col = -1 then insOf 5 a r 0 else insOf 4 a col r
theorem fetch_A {σ : Sg} {Q : List Ins} (a col r : Int32) (hP : Prc σ Q) (hl : Q.length < 60) : ∃ σ', f_TM_fetch a col r σ = some σ' ∧ Prc σ' (Q ++ [ftc a col r]) ∧ fEm σ σ' := by
  unfold f_TM_fetch ftc
  by_cases h : col = -1
  · obtain ⟨σ', h1, h2, h3⟩ := emit_A 5 a r 0 hP hl
    rw [if_pos h, if_pos h, h1, bnd_eq, bnd_eq]
    exact ⟨σ', rfl, h2, h3⟩
  · obtain ⟨σ', h1, h2, h3⟩ := emit_A 4 a col r hP hl
    rw [if_neg h, if_neg h, h1, bnd_eq, bnd_eq]
    exact ⟨σ', rfl, h2, h3⟩
theorem read_A {σ : Sg} {Q : List Ins} (a col r : Int32) (hP : Prm σ Q) (hl : Q.length < 60) : ∃ σ', f_Md_read a col r σ = some σ' ∧ Prm σ' (Q ++ [ftc a col r]) ∧ fPt σ σ' := by
  unfold f_Md_read ftc
  by_cases h : col = -1
  · obtain ⟨σ', h1, h2, h3⟩ := put_A (o := 5) (by decide) a r 0 hP hl
    rw [if_pos h, if_pos h, show (5 : Int32) = nI 5 from rfl, h1, bnd_eq, bnd_eq]
    exact ⟨σ', rfl, h2, h3⟩
  · obtain ⟨σ', h1, h2, h3⟩ := put_A (o := 4) (by decide) a col r hP hl
    rw [if_neg h, if_neg h, show (4 : Int32) = nI 4 from rfl, h1, bnd_eq, bnd_eq]
    exact ⟨σ', rfl, h2, h3⟩
theorem app2 {Q : List Ins} {a b : Ins} : Q ++ [a] ++ [b] = Q ++ [a, b] := by rw [List.append_assoc]; rfl
theorem orElse_A {σ : Sg} {Q : List Ins} (o : Nat) (hP : Prc σ Q) (hl : Q.length + 1 < 60) : ∃ σ', f_TM_orElse o σ = some σ' ∧ Prc σ' (Q ++ [insOf o 0 (nI (Q.length + 2)) 1, insOf 19 (-1) 0 0]) ∧ fEm σ σ' := by
  unfold f_TM_orElse
  have e : nI Q.length + 2 = nI (Q.length + 2) := nI_plus Q.length 2
  obtain ⟨σ1, h1, h2, h3⟩ := emit_A o 0 (nI (Q.length + 2)) 1 hP (by omega)
  obtain ⟨σ2, k1, k2, k3⟩ := emit_A 19 (-1) 0 0 h2 (by rw [List.length_append, List.length_singleton]; omega)
  rw [hP.1, e, h1, bnd_eq, k1, bnd_eq]
  exact ⟨σ2, rfl, by rw [← app2]; exact k2, h3.tr k3⟩
-- ===== conditions =====
abbrev Cnd : Type := Int32 × Int32 × Int32 × Int32
def Cdc (σ : Sg) (cs : List Cnd) : Prop := gi σ 0 0 18 = nI cs.length ∧ ∀ i x, cs[i]? = some x → gi σ 8 i 0 = x.1 ∧ gi σ 8 i 1 = x.2.1 ∧ gi σ 8 i 2 = x.2.2.1 ∧ gi σ 8 i 3 = x.2.2.2
def Cdm (σ : Sg) (cs : List Cnd) : Prop := gi σ 9 0 27 = nI cs.length ∧ ∀ i x, cs[i]? = some x → gi σ 43 0 (4 * i) = x.1 ∧ gi σ 43 0 (4 * i + 1) = x.2.1 ∧ gi σ 43 0 (4 * i + 2) = x.2.2.1 ∧ gi σ 43 0 (4 * i + 3) = x.2.2.2
theorem Cdc_fr {σ σ' : Sg} {cs : List Cnd} (h : fEm σ σ') (hc : Cdc σ cs) : Cdc σ' cs := ⟨(h.1 _ _ _ (by omega)).trans hc.1, fun i x hx => ⟨(h.1 _ _ _ (by omega)).trans (hc.2 i x hx).1, (h.1 _ _ _ (by omega)).trans (hc.2 i x hx).2.1, (h.1 _ _ _ (by omega)).trans (hc.2 i x hx).2.2.1, (h.1 _ _ _ (by omega)).trans (hc.2 i x hx).2.2.2⟩⟩
theorem Cdm_fr {σ σ' : Sg} {cs : List Cnd} (h : fPt σ σ') (hc : Cdm σ cs) : Cdm σ' cs := ⟨(h.1 _ _ _ (by omega)).trans hc.1, fun i x hx => ⟨(h.1 _ _ _ (by omega)).trans (hc.2 i x hx).1, (h.1 _ _ _ (by omega)).trans (hc.2 i x hx).2.1, (h.1 _ _ _ (by omega)).trans (hc.2 i x hx).2.2.1, (h.1 _ _ _ (by omega)).trans (hc.2 i x hx).2.2.2⟩⟩
def skF (a1 : Int32) : Nat → List Cnd → Int32
  | _, [] => -1
  | i, c :: t => if c.1 = a1 ∧ c.2.1 = -1 ∧ (c.2.2.1 = 0 ∨ c.2.2.1 = 4 ∨ c.2.2.1 = 5) then nI i else skF a1 (i + 1) t
def hdL (a1 jmp : Int32) : List Cnd → List Ins
  | [] => [insOf 2 a1 jmp 0]
  | c :: t => if c.1 = a1 ∧ c.2.1 = -1 ∧ (c.2.2.1 = 0 ∨ c.2.2.1 = 4 ∨ c.2.2.1 = 5) then [insOf 6 c.2.2.2 0 0, insOf 8 a1 jmp 0] else hdL a1 jmp t
theorem sk_hd (a1 : Int32) : ∀ (cs : List Cnd) (i : Nat), (skF a1 i cs = -1 ∧ ∀ jmp, hdL a1 jmp cs = [insOf 2 a1 jmp 0]) ∨ ∃ j c, cs[j]? = some c ∧ skF a1 i cs = nI (i + j) ∧ ∀ jmp, hdL a1 jmp cs = [insOf 6 c.2.2.2 0 0, insOf 8 a1 jmp 0] := by
  intro cs
  induction cs with
  | nil => intro i; exact Or.inl ⟨rfl, fun _ => rfl⟩
  | cons c t ih =>
    intro i
    by_cases h : c.1 = a1 ∧ c.2.1 = -1 ∧ (c.2.2.1 = 0 ∨ c.2.2.1 = 4 ∨ c.2.2.1 = 5)
    · refine Or.inr ⟨0, c, rfl, ?_, fun jmp => ?_⟩
      · rw [skF, if_pos h]; rfl
      · rw [hdL, if_pos h]
    · rcases ih (i + 1) with ⟨h1, h2⟩ | ⟨j, d, h1, h2, h3⟩
      · exact Or.inl ⟨by rw [skF, if_neg h]; exact h1, fun jmp => by rw [hdL, if_neg h]; exact h2 jmp⟩
      · exact Or.inr ⟨j + 1, d, h1, by rw [skF, if_neg h, h2]; congr 1; omega, fun jmp => by rw [hdL, if_neg h]; exact h3 jmp⟩
theorem drop_cons {cs : List Cnd} {i : Nat} (h : i < cs.length) : ∃ c, cs[i]? = some c ∧ cs.drop i = c :: cs.drop (i + 1) := ⟨cs[i], List.getElem?_eq_getElem h, List.drop_eq_getElem_cons h⟩
theorem opens_loop {σ : Sg} {cs : List Cnd} (a1 : Int32) (hc : Cdc σ cs) (h4 : cs.length ≤ 4) : ∀ (i m : Nat), i ≤ cs.length → i + 1 ≤ m → lp (fun q => b_TM_opens_9 a1 q.1 q.2.1 q.2.2) m (skF a1 i (cs.drop i), nI i - 1, σ) = some (skF a1 0 cs, σ) := by
  intro i
  induction i with
  | zero =>
    intro m h1 h2
    obtain ⟨m, rfl⟩ : ∃ m', m = m' + 1 := ⟨m - 1, by omega⟩
    rw [lp_r (e := (skF a1 0 cs, σ))]
    show b_TM_opens_9 a1 (skF a1 0 (cs.drop 0)) (nI 0 - 1) σ = _
    unfold b_TM_opens_9
    rw [if_pos (by decide), List.drop_zero]
  | succ i ih =>
    intro m h1 h2
    obtain ⟨m, rfl⟩ : ∃ m', m = m' + 1 := ⟨m - 1, by omega⟩
    obtain ⟨c, hci, hdr⟩ := drop_cons (cs := cs) (i := i) (by omega)
    obtain ⟨x1, x2, x3, x4⟩ := hc.2 i c hci
    have step : b_TM_opens_9 a1 (skF a1 (i + 1) (cs.drop (i + 1))) (nI i) σ = some (.inl (skF a1 i (cs.drop i), nI i - 1, σ)) := by
      unfold b_TM_opens_9
      rw [if_neg (nI_pos (by omega)), chk_pos (vp_in_nI (by omega) (by decide)), nI_clamp (by omega), lt_eq, lt_eq, lt_eq, x1, x2, x3, ← Int32.sub_eq_add_neg, hdr, skF]
      by_cases h1 : c.1 = a1
      · rw [if_pos h1]
        by_cases h2 : c.2.1 = -1
        · rw [if_pos h2]
          by_cases h3 : c.2.2.1 = 0
          · rw [if_pos h3, i10, if_pos ⟨h1, h2, Or.inl h3⟩]
          · rw [if_neg h3]
            by_cases h4 : c.2.2.1 = 4
            · rw [if_pos h4, i10, if_pos ⟨h1, h2, Or.inr (Or.inl h4)⟩]
            · rw [if_neg h4]
              by_cases h5 : c.2.2.1 = 5
              · rw [if_pos h5, i10, if_pos ⟨h1, h2, Or.inr (Or.inr h5)⟩]
              · rw [if_neg h5, i00, if_neg (fun z => z.2.2.elim h3 (fun z => z.elim h4 h5))]
        · rw [if_neg h2, if_neg (fun z => h2 z.2.1)]
      · rw [if_neg h1, if_neg (fun z => h1 z.1)]
    rw [nI_pred, lp_l (s' := (skF a1 i (cs.drop i), nI i - 1, σ)) step]
    exact ih m (by omega) (by omega)
theorem seeker_loop {σ : Sg} {cs : List Cnd} (a1 : Int32) (hc : Cdm σ cs) (h4 : cs.length ≤ 4) : ∀ (i m : Nat), i ≤ cs.length → i + 1 ≤ m → lp (fun q => b_Md_seeker_9 a1 q.1 q.2.1 q.2.2) m (skF a1 i (cs.drop i), nI i - 1, σ) = some (skF a1 0 cs, σ) := by
  intro i
  induction i with
  | zero =>
    intro m h1 h2
    obtain ⟨m, rfl⟩ : ∃ m', m = m' + 1 := ⟨m - 1, by omega⟩
    rw [lp_r (e := (skF a1 0 cs, σ))]
    show b_Md_seeker_9 a1 (skF a1 0 (cs.drop 0)) (nI 0 - 1) σ = _
    unfold b_Md_seeker_9
    rw [if_pos (by decide), List.drop_zero]
  | succ i ih =>
    intro m h1 h2
    obtain ⟨m, rfl⟩ : ∃ m', m = m' + 1 := ⟨m - 1, by omega⟩
    obtain ⟨c, hci, hdr⟩ := drop_cons (cs := cs) (i := i) (by omega)
    obtain ⟨x1, x2, x3, x4⟩ := hc.2 i c hci
    have p2 : nI (4 * i) + 2 = nI (4 * i + 2) := nI_plus (4 * i) 2
    have step : b_Md_seeker_9 a1 (skF a1 (i + 1) (cs.drop (i + 1))) (nI i) σ = some (.inl (skF a1 i (cs.drop i), nI i - 1, σ)) := by
      unfold b_Md_seeker_9
      rw [if_neg (nI_pos (by omega)), nI_4, p2, chk_pos (vp_in_nI (by omega) (by decide)), lt_eq, chk_pos (vp_in_nI (by omega) (by decide)), nI_1, nI_clamp (by omega), nI_clamp (by omega), nI_clamp (by omega), x1, x2, x3, hdr, skF]
      by_cases h1 : c.1 = a1
      · rw [if_pos h1, chk_pos (vp_in_nI (by omega) (by decide))]
        by_cases h2 : c.2.1 = -1
        · rw [if_pos h2]
          by_cases h3 : c.2.2.1 = 0
          · rw [if_pos h3, bnd_eq, lt_eq, lt_eq, i10, if_pos ⟨h1, h2, Or.inl h3⟩, ← Int32.sub_eq_add_neg]
          · rw [if_neg h3]
            by_cases h4 : c.2.2.1 = 4
            · rw [if_pos h4, bnd_eq, lt_eq, lt_eq, i10, if_pos ⟨h1, h2, Or.inr (Or.inl h4)⟩, ← Int32.sub_eq_add_neg]
            · rw [if_neg h4]
              by_cases h5 : c.2.2.1 = 5
              · rw [if_pos h5, bnd_eq, lt_eq, lt_eq, i10, if_pos ⟨h1, h2, Or.inr (Or.inr h5)⟩, ← Int32.sub_eq_add_neg]
              · rw [if_neg h5, bnd_eq, lt_eq, lt_eq, i00, if_neg (fun z => z.2.2.elim h3 (fun z => z.elim h4 h5)), ← Int32.sub_eq_add_neg]
        · rw [if_neg h2, bnd_eq, lt_eq, lt_eq, i00, if_neg (fun z => h2 z.2.1), ← Int32.sub_eq_add_neg]
      · rw [if_neg h1, bnd_eq, lt_eq, lt_eq, i00, if_neg (fun z => h1 z.1), ← Int32.sub_eq_add_neg]
    rw [nI_pred, lp_l (s' := (skF a1 i (cs.drop i), nI i - 1, σ)) step]
    exact ih m (by omega) (by omega)
theorem opens_A {σ : Sg} {Q : List Ins} {cs : List Cnd} (a1 : Int32) (hc : Cdc σ cs) (h4 : cs.length ≤ 4) (hP : Prc σ Q) (hl : Q.length + 1 < 60) : ∃ σ', f_TM_opens a1 σ = some σ' ∧ Prc σ' (Q ++ hdL a1 (-1) cs) ∧ fEm σ σ' := by
  have lo := opens_loop a1 hc h4 cs.length FU (Nat.le_refl _) (by unfold FU; omega)
  rw [List.drop_length, skF] at lo
  unfold f_TM_opens l_TM_opens_9
  rw [lt_eq, lt_eq, hc.1, lo, bn2_eq]
  rcases sk_hd a1 cs 0 with ⟨h1, h2⟩ | ⟨j, c, h1, h2, h3⟩
  · obtain ⟨σ1, e1, e2, e3⟩ := emit_A 2 a1 (-1) 0 hP (by omega)
    rw [h1, if_pos rfl, e1, bnd_eq, bnd_eq, h2]
    exact ⟨σ1, rfl, e2, e3⟩
  · have hj := (List.getElem?_eq_some_iff.mp h1).1
    obtain ⟨σ1, e1, e2, e3⟩ := emit_A 6 c.2.2.2 0 0 hP (by omega)
    obtain ⟨σ2, k1, k2, k3⟩ := emit_A 8 a1 (-1) 0 e2 (by rw [List.length_append, List.length_singleton]; omega)
    rw [h2, Nat.zero_add, if_neg (neg1_nI (by omega)), chk_pos (vp_in_nI (by omega) (by decide)), nI_clamp (by omega), (hc.2 j c h1).2.2.2, e1, bnd_eq, k1, bnd_eq, bnd_eq, h3, ← app2]
    exact ⟨σ2, rfl, k2, e3.tr k3⟩
theorem seeker_eq {σ : Sg} {cs : List Cnd} (a1 : Int32) (hc : Cdm σ cs) (h4 : cs.length ≤ 4) : f_Md_seeker a1 σ = some (skF a1 0 cs, σ) := by
  have lo := seeker_loop a1 hc h4 cs.length FU (Nat.le_refl _) (by unfold FU; omega)
  rw [List.drop_length, skF] at lo
  unfold f_Md_seeker l_Md_seeker_9
  rw [lt_eq, lt_eq, hc.1, lo, bn2_eq]
-- ===== one condition =====
def cndP (a1 : Int32) (c : Cnd) : List Ins := ftc a1 c.2.1 0 :: (if 6 ≤ c.2.2.1 then [] else [insOf 6 c.2.2.2 1 0])
def cndL (a1 jmp : Int32) (p : Nat) (c : Cnd) : List Ins := if c.1 = a1 then cndP a1 c ++ [insOf (9 + c.2.2.1.toNatClampNeg) 0 (nI (p + (cndP a1 c).length + 2)) 1, insOf 19 jmp 0 0] else []
def cndsL (a1 jmp : Int32) : Nat → List Cnd → List Ins
  | _, [] => []
  | p, c :: t => cndL a1 jmp p c ++ cndsL a1 jmp (p + (cndL a1 jmp p c).length) t
theorem cndsL_app (a1 jmp : Int32) : ∀ (A B : List Cnd) (p : Nat), cndsL a1 jmp p (A ++ B) = cndsL a1 jmp p A ++ cndsL a1 jmp (p + (cndsL a1 jmp p A).length) B := by
  intro A
  induction A with
  | nil => intro B p; rfl
  | cons c t ih =>
    intro B p
    rw [List.cons_append, cndsL, cndsL, ih, List.append_assoc, List.length_append, Nat.add_assoc]
theorem cndP_len (a1 : Int32) (c : Cnd) : (cndP a1 c).length ≤ 2 := by
  unfold cndP
  split <;> simp
theorem cndL_len (a1 jmp : Int32) (p : Nat) (c : Cnd) : (cndL a1 jmp p c).length ≤ 4 := by
  unfold cndL
  have := cndP_len a1 c
  split
  · rw [List.length_append]
    simp only [List.length_cons, List.length_nil]
    omega
  · simp
theorem cndsL_len (a1 jmp : Int32) : ∀ (cs : List Cnd) (p : Nat), (cndsL a1 jmp p cs).length ≤ 4 * cs.length := by
  intro cs
  induction cs with
  | nil => intro p; exact Nat.le_refl _
  | cons c t ih =>
    intro p
    rw [cndsL, List.length_append, List.length_cons]
    have := cndL_len a1 jmp p c
    have := ih (p + (cndL a1 jmp p c).length)
    omega
def okC2 (c : Cnd) : Prop := ∃ k, k ≤ 7 ∧ c.2.2.1 = nI k
theorem kind6 {k : Nat} (hk : k ≤ 7) : (6 : Int32) ≤ nI k ↔ 6 ≤ k := nI_le_iff (a := 6) (by decide) (by omega)
/-- what the class writes for one condition -/
theorem cnd_A {σ : Sg} {Q : List Ins} {c : Cnd} {i : Nat} (a1 : Int32) (hi : i < 4) (hx : gi σ 8 i 0 = c.1 ∧ gi σ 8 i 1 = c.2.1 ∧ gi σ 8 i 2 = c.2.2.1 ∧ gi σ 8 i 3 = c.2.2.2) (hk : okC2 c) (hP : Prc σ Q) (hl : Q.length + 4 < 60) :
    ∃ σ', (if (gi σ 8 (nI i).toNatClampNeg 0) = a1 then ((f_TM_fetch a1 (gi σ 8 (nI i).toNatClampNeg 1) 0 σ).bind (fun σ10 => Option.bind (if 6 ≤ (gi σ10 8 (nI i).toNatClampNeg 2) then (some (σ10)) else ((f_TM_emit 6 (gi σ10 8 (nI i).toNatClampNeg 3) 1 0 σ10).bind (fun σ15 => some (σ15)))) (fun (σ12 : Sg) => chk (vp_in ((nI 9) + (gi σ12 8 (nI i).toNatClampNeg 2)) 22) ((f_TM_orElse (((nI 9) + (gi σ12 8 (nI i).toNatClampNeg 2)).toNatClampNeg) σ12).bind (fun σ19 => some (σ19)))))) else (some (σ))) = some σ' ∧ Prc σ' (Q ++ cndL a1 (-1) Q.length c) ∧ fEm σ σ' := by
  obtain ⟨x1, x2, x3, x4⟩ := hx
  obtain ⟨k, hk7, hkk⟩ := hk
  rw [nI_clamp (by omega), x1, x2]
  unfold cndL
  by_cases h1 : c.1 = a1
  · rw [if_pos h1, if_pos h1]
    obtain ⟨σ1, e1, e2, e3⟩ := fetch_A a1 c.2.1 0 hP (by omega)
    have y3 : gi σ1 8 i 2 = nI k := (e3.1 _ _ _ (by omega)).trans (x3.trans hkk)
    have y4 : gi σ1 8 i 3 = c.2.2.2 := (e3.1 _ _ _ (by omega)).trans x4
    have hcl : c.2.2.1.toNatClampNeg = k := by rw [hkk, nI_clamp (by omega)]
    have hp9 : nI 9 + nI k = nI (9 + k) := nI_plus 9 k
    rw [e1, bnd_eq, y3, hcl]
    by_cases h6 : 6 ≤ k
    · have hP2 : cndP a1 c = [ftc a1 c.2.1 0] := by unfold cndP; rw [hkk, if_pos ((kind6 hk7).mpr h6)]
      obtain ⟨σ2, k1, k2, k3⟩ := orElse_A (9 + k) e2 (by rw [List.length_append, List.length_singleton]; omega)
      rw [if_pos ((kind6 hk7).mpr h6), bnd_eq, y3, hp9, chk_pos (vp_in_nI (by omega) (by decide)), nI_clamp (by omega), k1, bnd_eq]
      refine ⟨σ2, rfl, ?_, e3.tr k3⟩
      rw [hP2, ← List.append_assoc]
      rw [List.length_append] at k2
      exact k2
    · have hP2 : cndP a1 c = [ftc a1 c.2.1 0, insOf 6 c.2.2.2 1 0] := by unfold cndP; rw [hkk, if_neg (fun z => h6 ((kind6 hk7).mp z))]
      obtain ⟨σ2, f1, f2, f3⟩ := emit_A 6 c.2.2.2 1 0 e2 (by rw [List.length_append, List.length_singleton]; omega)
      rw [app2] at f2
      have z3 : gi σ2 8 i 2 = nI k := (f3.1 _ _ _ (by omega)).trans y3
      obtain ⟨σ3, k1, k2, k3⟩ := orElse_A (9 + k) f2 (by rw [List.length_append]; simp only [List.length_cons, List.length_nil]; omega)
      rw [if_neg (fun z => h6 ((kind6 hk7).mp z)), y4, f1, bnd_eq, bnd_eq, z3, hp9, chk_pos (vp_in_nI (by omega) (by decide)), nI_clamp (by omega), k1, bnd_eq]
      refine ⟨σ3, rfl, ?_, e3.tr (f3.tr k3)⟩
      rw [hP2, ← List.append_assoc]
      rw [List.length_append] at k2
      exact k2
  · rw [if_neg h1, if_neg h1, List.append_nil]
    exact ⟨σ, rfl, hP, fEm_rf σ⟩
