/-! the plain law: the parts of the compilers -/
theorem take_gg {α : Type} {R : List α} {i : Nat} (hi : i < R.length) : ∃ r, R[i]? = some r ∧ R.take (i + 1) = R.take i ++ [r] := by
  refine ⟨R[i], List.getElem?_eq_getElem hi, ?_⟩
  rw [List.take_add_one, List.getElem?_eq_getElem hi]
  rfl
theorem asksAll_A {σ : Sg} {Q : List Ins} {cs : List Cnd} (a1 : Int32) (hc : Cdc σ cs) (h4 : cs.length ≤ 4) (hk : ∀ c ∈ cs, okC2 c) (hP : Prc σ Q) (hl : Q.length + 4 * cs.length + 4 < 60) : ∃ σ', f_TM_asksAll a1 σ = some σ' ∧ Prc σ' (Q ++ cndsL a1 (-1) Q.length cs) ∧ fEm σ σ' := by
  unfold f_TM_asksAll l_TM_asksAll_2
  obtain ⟨e, h1, h2⟩ := lp_for (body := fun q : Int32 × Sg => b_TM_asksAll_2 a1 q.1 q.2) (s := (0, σ)) (fun i s => s.1 = nI i ∧ Prc s.2 (Q ++ cndsL a1 (-1) Q.length (cs.take i)) ∧ fEm σ s.2) (fun e => Prc e (Q ++ cndsL a1 (-1) Q.length cs) ∧ fEm σ e) cs.length (by omega) ⟨rfl, by rw [List.take_zero, cndsL, List.append_nil]; exact hP, fEm_rf σ⟩
    (fun i s hi hs => by
      obtain ⟨x, τ⟩ := s
      obtain ⟨rfl, s1, s2⟩ := hs
      obtain ⟨c, hci, htk⟩ := take_gg hi
      have hcτ := Cdc_fr s2 hc
      have hlen : (Q ++ cndsL a1 (-1) Q.length (cs.take i)).length + 4 < 60 := by
        have := cndsL_len a1 (-1) (cs.take i) Q.length
        rw [List.length_take] at this
        rw [List.length_append]
        omega
      obtain ⟨σ', e1, e2, e3⟩ := cnd_A a1 (by omega) (hcτ.2 i c hci) (hk c (List.mem_of_getElem? hci)) s1 hlen
      show ∃ s', b_TM_asksAll_2 a1 (nI i) τ = _ ∧ _
      unfold b_TM_asksAll_2
      rw [hcτ.1, if_neg (nI_ge hi (by omega)), chk_pos (vp_in_nI (by omega) (by decide)), e1, bnd_eq, lt_eq, nI_1]
      refine ⟨_, rfl, rfl, ?_, s2.tr e3⟩
      show Prc σ' _
      rw [htk, cndsL_app, cndsL, cndsL, List.append_nil, ← List.append_assoc]
      rw [List.length_append] at e2
      exact e2)
    (fun s hs => by
      obtain ⟨x, τ⟩ := s
      obtain ⟨rfl, s1, s2⟩ := hs
      have hcτ := Cdc_fr s2 hc
      refine ⟨τ, ?_, by rw [List.take_length] at s1; exact s1, s2⟩
      show b_TM_asksAll_2 a1 (nI cs.length) τ = _
      unfold b_TM_asksAll_2
      rw [hcτ.1, if_pos (Int32.le_refl _)])
  rw [h1, bnd_eq]
  exact ⟨e, rfl, h2⟩
-- ===== outputs =====
def Otc (σ : Sg) (os : List (Int32 × Int32)) : Prop := gi σ 0 0 20 = nI os.length ∧ ∀ i x, os[i]? = some x → gi σ 25 0 (2 * i) = x.1 ∧ gi σ 25 0 (2 * i + 1) = x.2
def Otm (σ : Sg) (os : List (Int32 × Int32)) : Prop := gi σ 9 0 25 = nI os.length ∧ ∀ i x, os[i]? = some x → gi σ 42 0 (2 * i) = x.1 ∧ gi σ 42 0 (2 * i + 1) = x.2
theorem Otc_fr {σ σ' : Sg} {os : List (Int32 × Int32)} (h : fEm σ σ') (hc : Otc σ os) : Otc σ' os := ⟨(h.1 _ _ _ (by omega)).trans hc.1, fun i x hx => ⟨(h.1 _ _ _ (by omega)).trans (hc.2 i x hx).1, (h.1 _ _ _ (by omega)).trans (hc.2 i x hx).2⟩⟩
theorem Otm_fr {σ σ' : Sg} {os : List (Int32 × Int32)} (h : fPt σ σ') (hc : Otm σ os) : Otm σ' os := ⟨(h.1 _ _ _ (by omega)).trans hc.1, fun i x hx => ⟨(h.1 _ _ _ (by omega)).trans (hc.2 i x hx).1, (h.1 _ _ _ (by omega)).trans (hc.2 i x hx).2⟩⟩
def outL : Nat → List (Int32 × Int32) → List Ins
  | _, [] => []
  | i, x :: t => ftc x.1 x.2 (nI (2 + i)) :: outL (i + 1) t
theorem outL_app : ∀ (A B : List (Int32 × Int32)) (i : Nat), outL i (A ++ B) = outL i A ++ outL (i + A.length) B := by
  intro A
  induction A with
  | nil => intro B i; rfl
  | cons c t ih =>
    intro B i
    rw [List.cons_append, outL, outL, ih, List.cons_append, List.length_cons]
    congr 3
    omega
theorem outL_len : ∀ (A : List (Int32 × Int32)) (i : Nat), (outL i A).length = A.length := by
  intro A
  induction A with
  | nil => intro i; rfl
  | cons c t ih => intro i; rw [outL, List.length_cons, List.length_cons, ih]
def resL (os : List (Int32 × Int32)) : List Ins := outL 0 os ++ [insOf 18 2 (nI os.length) 0]
theorem resL_len (os : List (Int32 × Int32)) : (resL os).length = os.length + 1 := by
  unfold resL
  rw [List.length_append, outL_len, List.length_singleton]
theorem tells_A {σ : Sg} {Q : List Ins} {os : List (Int32 × Int32)} (hc : Otc σ os) (h4 : os.length ≤ 4) (hP : Prc σ Q) (hl : Q.length + os.length + 1 < 60) : ∃ σ', f_TM_tells σ = some σ' ∧ Prc σ' (Q ++ resL os) ∧ fEm σ σ' := by
  unfold f_TM_tells l_TM_tells_2
  obtain ⟨e, h1, h2, h3⟩ := lp_for (body := fun q : Int32 × Sg => b_TM_tells_2 q.1 q.2) (s := (0, σ)) (fun i s => s.1 = nI i ∧ Prc s.2 (Q ++ outL 0 (os.take i)) ∧ fEm σ s.2) (fun e => Prc e (Q ++ outL 0 os) ∧ fEm σ e) os.length (by omega) ⟨rfl, by rw [List.take_zero, outL, List.append_nil]; exact hP, fEm_rf σ⟩
    (fun i s hi hs => by
      obtain ⟨x, τ⟩ := s
      obtain ⟨rfl, s1, s2⟩ := hs
      obtain ⟨c, hci, htk⟩ := take_gg hi
      have hcτ := Otc_fr s2 hc
      have hlt : (os.take i).length = i := by rw [List.length_take]; omega
      have hlen : (Q ++ outL 0 (os.take i)).length < 60 := by
        rw [List.length_append, outL_len, hlt]
        omega
      obtain ⟨σ', e1, e2, e3⟩ := fetch_A c.1 c.2 (nI (2 + i)) s1 hlen
      obtain ⟨y1, y2⟩ := hcτ.2 i c hci
      have p2 : (2 : Int32) + nI i = nI (2 + i) := nI_plus 2 i
      show ∃ s', b_TM_tells_2 (nI i) τ = _ ∧ _
      unfold b_TM_tells_2
      rw [hcτ.1, if_neg (nI_ge hi (by omega)), nI_2, nI_1, chk_pos (vp_in_nI (by omega) (by decide)), chk_pos (vp_in_nI (by omega) (by decide)), nI_clamp (by omega), nI_clamp (by omega), y1, y2, p2, e1, bnd_eq, lt_eq, nI_1]
      refine ⟨_, rfl, rfl, ?_, s2.tr e3⟩
      show Prc σ' _
      rw [htk, outL_app, outL, outL, ← List.append_assoc, hlt, Nat.zero_add]
      exact e2)
    (fun s hs => by
      obtain ⟨x, τ⟩ := s
      obtain ⟨rfl, s1, s2⟩ := hs
      have hcτ := Otc_fr s2 hc
      refine ⟨τ, ?_, by rw [List.take_length] at s1; exact s1, s2⟩
      show b_TM_tells_2 (nI os.length) τ = _
      unfold b_TM_tells_2
      rw [hcτ.1, if_pos (Int32.le_refl _)])
  obtain ⟨σ', e1, e2, e3⟩ := emit_A 18 2 (nI os.length) 0 h2 (by rw [List.length_append, outL_len]; omega)
  rw [h1, bnd_eq, (Otc_fr h3 hc).1, e1, bnd_eq]
  refine ⟨σ', rfl, ?_, h3.tr e3⟩
  unfold resL
  rw [← List.append_assoc]
  exact e2
theorem results_A {σ : Sg} {Q : List Ins} {os : List (Int32 × Int32)} (hc : Otm σ os) (h4 : os.length ≤ 4) (hP : Prm σ Q) (hl : Q.length + os.length + 1 < 60) : ∃ σ', f_Md_outputsAndResult σ = some σ' ∧ Prm σ' (Q ++ resL os) ∧ fPt σ σ' := by
  unfold f_Md_outputsAndResult l_Md_outputsAndResult_2
  obtain ⟨e, h1, h2, h3⟩ := lp_for (body := fun q : Int32 × Sg => b_Md_outputsAndResult_2 q.1 q.2) (s := (0, σ)) (fun i s => s.1 = nI i ∧ Prm s.2 (Q ++ outL 0 (os.take i)) ∧ fPt σ s.2) (fun e => Prm e (Q ++ outL 0 os) ∧ fPt σ e) os.length (by omega) ⟨rfl, by rw [List.take_zero, outL, List.append_nil]; exact hP, fPt_rf σ⟩
    (fun i s hi hs => by
      obtain ⟨x, τ⟩ := s
      obtain ⟨rfl, s1, s2⟩ := hs
      obtain ⟨c, hci, htk⟩ := take_gg hi
      have hcτ := Otm_fr s2 hc
      have hlt : (os.take i).length = i := by rw [List.length_take]; omega
      have hlen : (Q ++ outL 0 (os.take i)).length < 60 := by
        rw [List.length_append, outL_len, hlt]
        omega
      obtain ⟨σ', e1, e2, e3⟩ := read_A c.1 c.2 (nI (2 + i)) s1 hlen
      obtain ⟨y1, y2⟩ := hcτ.2 i c hci
      have p2 : (2 : Int32) + nI i = nI (2 + i) := nI_plus 2 i
      show ∃ s', b_Md_outputsAndResult_2 (nI i) τ = _ ∧ _
      unfold b_Md_outputsAndResult_2
      rw [hcτ.1, if_neg (nI_ge hi (by omega)), nI_2, nI_1, chk_pos (vp_in_nI (by omega) (by decide)), chk_pos (vp_in_nI (by omega) (by decide)), nI_clamp (by omega), nI_clamp (by omega), y1, y2, p2, e1, bnd_eq, lt_eq, nI_1]
      refine ⟨_, rfl, rfl, ?_, s2.tr e3⟩
      show Prm σ' _
      rw [htk, outL_app, outL, outL, ← List.append_assoc, hlt, Nat.zero_add]
      exact e2)
    (fun s hs => by
      obtain ⟨x, τ⟩ := s
      obtain ⟨rfl, s1, s2⟩ := hs
      have hcτ := Otm_fr s2 hc
      refine ⟨τ, ?_, by rw [List.take_length] at s1; exact s1, s2⟩
      show b_Md_outputsAndResult_2 (nI os.length) τ = _
      unfold b_Md_outputsAndResult_2
      rw [hcτ.1, if_pos (Int32.le_refl _)])
  obtain ⟨σ', e1, e2, e3⟩ := put_A (o := 18) (by decide) 2 (nI os.length) 0 h2 (by rw [List.length_append, outL_len]; omega)
  rw [h1, bnd_eq, (Otm_fr h3 hc).1, show (18 : Int32) = nI 18 from rfl, e1, bnd_eq]
  refine ⟨σ', rfl, ?_, h3.tr e3⟩
  unfold resL
  rw [← List.append_assoc]
  exact e2
-- ===== the places that are filled in later =====
def fx (n l a : Int32) : Int32 := if l = 106 then (if a = -1 then n else a) else a
def fixI (n : Int32) (x : Ins) : Ins := (x.1, fx n (chr x.1 0) x.2.1, fx n (chr x.1 1) x.2.2.1, x.2.2.2)
theorem settle_one {σ : Sg} {i : Nat} {x : Ins} (hi : i < 60) (ho : x.1 < 22) (h1 : gr σ 6 i 0 = some x.1) (h2 : gi σ 16 i 0 = x.2.1) (h3 : gi σ 16 i 1 = x.2.2.1) : l_TM_settle_20 (nI i) 0 σ = some (si (si σ 16 i 0 (fx (gi σ 0 0 8) (chr x.1 0) x.2.1)) 16 i 1 (fx (gi σ 0 0 8) (chr x.1 1) x.2.2.1)) := by
  have hcl : (nI i).toNatClampNeg = i := nI_clamp (by omega)
  have v0 : vp_in 0 3 := in0 (by decide) (by decide)
  have v1 : vp_in 1 3 := in1 (by decide) (by decide)
  have sel : ∀ (l a n : Int32) (K : Int32 → Option ((Int32 × Sg) ⊕ Sg)), Option.bind (if l = 106 then (if a = (-1) then (some (1 : Int32)) else (some 0)) else (some 0)) (fun (x15 : Int32) => Option.bind (if x15 = 0 then (some a) else (some n)) K) = K (fx n l a) := fun l a n K => by
    unfold fx
    by_cases hl : l = 106
    · rw [if_pos hl, if_pos hl]
      by_cases ha : a = -1
      · rw [if_pos ha, if_pos ha, bnd_eq, i10, bnd_eq]
      · rw [if_neg ha, if_neg ha, bnd_eq, i00, bnd_eq]
    · rw [if_neg hl, if_neg hl, bnd_eq, i00, bnd_eq]
  generalize hσ1 : si σ 16 i 0 (fx (gi σ 0 0 8) (chr x.1 0) x.2.1) = σ1
  have s1 : b_TM_settle_20 (nI i) 0 σ = some (.inl (1, σ1)) := by
    unfold b_TM_settle_20
    rw [if_neg (by decide), hcl, h1, bnd_eq, chk_pos ho, chk_pos v0, chk_pos v0, chk_pos v0, c0, h2, sel, chk_pos v0, lt_eq, lt_eq, hσ1]
    rfl
  have k1 : ∀ a b c, ¬ (a = 16 ∧ b = i ∧ c = 0) → gi σ1 a b c = gi σ a b c := fun a b c z => by rw [← hσ1, gi_ne z]
  have s2 : b_TM_settle_20 (nI i) 1 σ1 = some (.inl (2, si σ1 16 i 1 (fx (gi σ 0 0 8) (chr x.1 1) x.2.2.1))) := by
    unfold b_TM_settle_20
    rw [if_neg (by decide), hcl, show gr σ1 6 i 0 = some x.1 by rw [← hσ1]; exact h1, bnd_eq, chk_pos ho, chk_pos v1, chk_pos v1, chk_pos v1, c1, k1 16 i 1 (by omega), h3, k1 0 0 8 (by omega), sel, chk_pos v1, lt_eq, lt_eq]
    rfl
  unfold l_TM_settle_20
  rw [show FU = 4997 + 1 + 1 + 1 from rfl, lp_l (s' := (1, σ1)) s1, lp_l (s' := (2, si σ1 16 i 1 (fx (gi σ 0 0 8) (chr x.1 1) x.2.2.1))) s2, lp_r (e := si σ1 16 i 1 (fx (gi σ 0 0 8) (chr x.1 1) x.2.2.1))]
  show b_TM_settle_20 (nI i) 2 _ = _
  unfold b_TM_settle_20
  rw [if_pos (by decide)]
theorem settle_A {σ : Sg} {A B : List Ins} (hP : Prc σ (A ++ B)) (hl : (A ++ B).length ≤ 60) (ho : ∀ x ∈ B, x.1 < 22) : ∃ σ', f_TM_settle (nI A.length) σ = some σ' ∧ Prc σ' (A ++ B.map (fixI (nI (A ++ B).length))) ∧ fEm σ σ' := by
  unfold f_TM_settle l_TM_settle_2
  generalize hn : nI (A ++ B).length = n
  obtain ⟨e, h1, h2, h3⟩ := lp_inv (body := fun q : Int32 × Sg => b_TM_settle_2 q.1 q.2) (I := fun j s => s.1 = nI j ∧ Prc s.2 (A ++ ((B.take (j - A.length)).map (fixI n) ++ B.drop (j - A.length))) ∧ fEm σ s.2 ∧ gi s.2 0 0 8 = n ∧ A.length ≤ j) (Q := fun e => Prc e (A ++ B.map (fixI n)) ∧ fEm σ e) (n := (A ++ B).length)
    (fun j s hj hs => by
      obtain ⟨y, τ⟩ := s
      obtain ⟨rfl, s1, s2, s3, s4⟩ := hs
      rw [List.length_append] at hj hl
      have hB : j - A.length < B.length := by omega
      obtain ⟨x, hx, htk⟩ := take_gg hB
      have hdr : B.drop (j - A.length) = x :: B.drop (j - A.length + 1) := by
        have := List.drop_eq_getElem_cons hB
        rw [this]
        congr 1
        exact (List.getElem?_eq_some_iff.mp hx).2
      have hA' : (A ++ (B.take (j - A.length)).map (fixI n)).length = j := by
        rw [List.length_append, List.length_map, List.length_take]
        omega
      have hlist : A ++ ((B.take (j - A.length)).map (fixI n) ++ B.drop (j - A.length)) = (A ++ (B.take (j - A.length)).map (fixI n)) ++ x :: B.drop (j - A.length + 1) := by rw [hdr, List.append_assoc]
      rw [hlist] at s1
      have hxj : ((A ++ (B.take (j - A.length)).map (fixI n)) ++ x :: B.drop (j - A.length + 1))[j]? = some x := by
        rw [List.getElem?_append_right (by omega), hA', Nat.sub_self]
        rfl
      obtain ⟨w1, w2, w3, w4⟩ := s1.2 j x hxj
      have hox := ho x (List.mem_of_getElem? hx)
      have so := settle_one (σ := τ) (i := j) (x := x) (by omega) hox w1 w2 w3
      rw [show gi τ 0 0 8 = n from s3] at so
      show ∃ s', b_TM_settle_2 (nI j) τ = _ ∧ _
      unfold b_TM_settle_2
      rw [show gi τ 0 0 8 = n from s3, if_neg (show ¬ n ≤ nI j by rw [← hn]; exact nI_ge (by rw [List.length_append]; omega) (by rw [List.length_append]; omega)), chk_pos (vp_in_nI (by omega) (by decide)), so, bnd_eq, lt_eq, nI_1]
      refine ⟨_, rfl, rfl, ?_, ?_, ?_, by omega⟩
      · show Prc (si (si τ 16 j 0 _) 16 j 1 _) _
        rw [show j + 1 - A.length = j - A.length + 1 by omega, htk, List.map_append, List.map_cons, List.map_nil, List.append_assoc]
        show Prc (si (si τ 16 j 0 _) 16 j 1 _) (A ++ (List.map (fixI n) (B.take (j - A.length)) ++ (fixI n x :: B.drop (j - A.length + 1))))
        rw [← List.append_assoc]
        refine ⟨?_, fun i y hy => ?_⟩
        · rw [gi_ne (by omega), gi_ne (by omega), s1.1, List.length_append, List.length_append (bs := fixI n x :: _), List.length_cons, List.length_cons]
        · by_cases hij : i = j
          · subst hij
            rw [List.getElem?_append_right (by omega), hA', Nat.sub_self] at hy
            have hy' : fixI n x = y := by simpa using hy
            subst hy'
            refine ⟨w1, ?_, ?_, ?_⟩
            · rw [gi_ne (by omega), gi_eq]
              rfl
            · rw [gi_eq]
              rfl
            · rw [gi_ne (by omega), gi_ne (by omega)]
              exact w4
          · have hy2 : ((A ++ (B.take (j - A.length)).map (fixI n)) ++ x :: B.drop (j - A.length + 1))[i]? = some y := by
              by_cases hlt : i < j
              · rw [List.getElem?_append_left (by omega)] at hy ⊢
                exact hy
              · rw [List.getElem?_append_right (by omega), hA'] at hy ⊢
                rw [List.getElem?_cons, if_neg (by omega)] at hy ⊢
                exact hy
            obtain ⟨u1, u2, u3, u4⟩ := s1.2 i y hy2
            refine ⟨u1, ?_, ?_, ?_⟩
            · rw [gi_ne (by omega), gi_ne (by omega)]; exact u2
            · rw [gi_ne (by omega), gi_ne (by omega)]; exact u3
            · rw [gi_ne (by omega), gi_ne (by omega)]; exact u4
      · exact s2.tr ⟨fun a b c z => by rw [gi_ne (by omega), gi_ne (by omega)], fun _ _ _ => rfl, fun _ _ _ _ => rfl, rfl⟩
      · rw [gi_ne (by omega), gi_ne (by omega)]; exact s3)
    (fun s hs => by
      obtain ⟨y, τ⟩ := s
      obtain ⟨rfl, s1, s2, s3, s4⟩ := hs
      rw [List.length_append, Nat.add_sub_cancel_left, List.take_length, List.drop_length, List.append_nil] at s1
      refine ⟨τ, ?_, s1, s2⟩
      show b_TM_settle_2 (nI (A ++ B).length) τ = _
      unfold b_TM_settle_2
      rw [show gi τ 0 0 8 = n from s3, hn, if_pos (Int32.le_refl _)]) B.length A.length (nI A.length, σ) FU (by rw [List.length_append]) ⟨rfl, by rw [Nat.sub_self, List.take_zero, List.map_nil, List.nil_append, List.drop_zero]; exact hP, fEm_rf σ, by rw [← hn]; exact hP.1, Nat.le_refl _⟩ (by rw [List.length_append] at hl; unfold FU; omega)
  rw [h1, bnd_eq]
  exact ⟨e, rfl, h2, h3⟩
