/-! the plain law: the model's loops, lengths, and the places filled in -/
def cl1 (a1 : Int32) (c : Cnd) : Nat := if c.1 = a1 then (if 6 ≤ c.2.2.1 then 3 else 4) else 0
def cls (a1 : Int32) : List Cnd → Nat
  | [] => 0
  | c :: t => cl1 a1 c + cls a1 t
theorem cls_app (a1 : Int32) : ∀ (A B : List Cnd), cls a1 (A ++ B) = cls a1 A + cls a1 B := by
  intro A
  induction A with
  | nil => intro B; rw [List.nil_append, cls, Nat.zero_add]
  | cons c t ih => intro B; rw [List.cons_append, cls, cls, ih, Nat.add_assoc]
theorem cndL_l (a1 jmp : Int32) (p : Nat) (c : Cnd) : (cndL a1 jmp p c).length = cl1 a1 c := by
  unfold cndL cl1
  by_cases h : c.1 = a1
  · rw [if_pos h, if_pos h, List.length_append]
    unfold cndP
    by_cases h6 : 6 ≤ c.2.2.1
    · rw [if_pos h6, if_pos h6]; rfl
    · rw [if_neg h6, if_neg h6]; rfl
  · rw [if_neg h, if_neg h]; rfl
theorem cndsL_l (a1 jmp : Int32) : ∀ (cs : List Cnd) (p : Nat), (cndsL a1 jmp p cs).length = cls a1 cs := by
  intro cs
  induction cs with
  | nil => intro p; rfl
  | cons c t ih => intro p; rw [cndsL, List.length_append, cndL_l, ih, cls]
theorem hdL_l (a1 j j' : Int32) (cs : List Cnd) : (hdL a1 j cs).length = (hdL a1 j' cs).length := by
  rcases sk_hd a1 cs 0 with ⟨-, h⟩ | ⟨i, c, -, -, h⟩
  · rw [h j, h j']; rfl
  · rw [h j, h j']; rfl
theorem hdL_2 (a1 j : Int32) (cs : List Cnd) : (hdL a1 j cs).length ≤ 2 := by
  rcases sk_hd a1 cs 0 with ⟨-, h⟩ | ⟨i, c, -, -, h⟩
  · rw [h j]; exact Nat.le_succ 1
  · rw [h j]; exact Nat.le_refl 2
theorem cls_4 (a1 : Int32) : ∀ (cs : List Cnd), cls a1 cs ≤ 4 * cs.length := by
  intro cs
  have := cndsL_len a1 0 cs 0
  rw [cndsL_l] at this
  exact this
theorem length_eq {σ : Sg} {cs : List Cnd} (a1 : Int32) (hc : Cdm σ cs) (h4 : cs.length ≤ 4) (hk : ∀ c ∈ cs, okC2 c) : f_Md_length a1 σ = some (nI ((hdL a1 0 cs).length + cls a1 cs), σ) := by
  unfold f_Md_length l_Md_length_16
  generalize hH : (hdL a1 0 cs).length = H
  have hx4 : ((if 0 ≤ skF a1 0 cs then 2 else 1) : Int32) = nI H := by
    rw [← hH]
    rcases sk_hd a1 cs 0 with ⟨h1, h2⟩ | ⟨j, c, h1, h2, h3⟩
    · rw [h1, if_neg n0p, h2]; rfl
    · have hj := (List.getElem?_eq_some_iff.mp h1).1
      rw [h2, if_pos (nI_pos' (by omega)), h3]; rfl
  have hH2 : H ≤ 2 := by rw [← hH]; exact hdL_2 _ _ _
  obtain ⟨e, h1, h2, h3⟩ := lp_for (body := fun q : Int32 × Int32 × Sg => b_Md_length_16 a1 q.1 q.2.1 q.2.2) (s := (nI H, 0, σ)) (fun i s => s.2.1 = nI i ∧ s.2.2 = σ ∧ s.1 = nI (H + cls a1 (cs.take i))) (fun e => e.2 = σ ∧ e.1 = nI (H + cls a1 cs)) cs.length (by omega) ⟨rfl, rfl, rfl⟩
    (fun i s hi hs => by
      obtain ⟨x, y, τ⟩ := s
      obtain ⟨rfl, rfl, s3⟩ := hs
      have s3' : x = nI (H + cls a1 (cs.take i)) := s3
      subst s3'
      obtain ⟨c, hci, htk⟩ := take_gg hi
      obtain ⟨y1, y2, y3, y4⟩ := hc.2 i c hci
      obtain ⟨k, hk7, hkk⟩ := hk c (List.mem_of_getElem? hci)
      have p2 : nI (4 * i) + 2 = nI (4 * i + 2) := nI_plus (4 * i) 2
      show ∃ s', b_Md_length_16 a1 (nI (H + cls a1 (cs.take i))) (nI i) τ = _ ∧ _
      unfold b_Md_length_16
      rw [hc.1, if_neg (nI_ge hi (by omega)), nI_4, chk_pos (vp_in_nI (by omega) (by decide)), p2, nI_clamp (by omega), nI_clamp (by omega), y1, y3]
      have hval : (if c.1 = a1 then (chk (vp_in (nI (4 * i + 2)) 16) ((if 6 ≤ c.2.2.1 then (some (3 : Int32)) else (some 4)))) else (some 0)) = some (nI (cl1 a1 c)) := by
        rw [chk_pos (vp_in_nI (by omega) (by decide))]
        unfold cl1
        by_cases h1 : c.1 = a1
        · rw [if_pos h1, if_pos h1]
          by_cases h6 : 6 ≤ c.2.2.1
          · rw [if_pos h6, if_pos h6]; rfl
          · rw [if_neg h6, if_neg h6]; rfl
        · rw [if_neg h1, if_neg h1]; rfl
      rw [hval, bnd_eq, lt_eq, lt_eq, nI_1, nI_plus]
      refine ⟨_, rfl, rfl, rfl, ?_⟩
      show nI _ = nI _
      rw [htk, cls_app, cls, cls, Nat.add_zero, Nat.add_assoc])
    (fun s hs => by
      obtain ⟨x, y, τ⟩ := s
      obtain ⟨rfl, rfl, s3⟩ := hs
      refine ⟨(x, τ), ?_, rfl, by rw [List.take_length] at s3; exact s3⟩
      show b_Md_length_16 a1 x (nI cs.length) τ = _
      unfold b_Md_length_16
      rw [hc.1, if_pos (Int32.le_refl _)])
  obtain ⟨e1, e2⟩ := e
  have h2' : e2 = σ := h2
  have h3' : e1 = nI (H + cls a1 cs) := h3
  subst h2' h3'
  rw [seeker_eq a1 hc h4, bn2_eq, lt_eq, hx4, h1, bn2_eq]
theorem loop_A {σ : Sg} {Q : List Ins} {cs : List Cnd} (a1 a2 a3 : Int32) (hc : Cdm σ cs) (h4 : cs.length ≤ 4) (hk : ∀ c ∈ cs, okC2 c) (hP : Prm σ Q) (hl : Q.length + 2 + 4 * cs.length + 4 < 60) : ∃ σ', f_Md_loop a1 a2 a3 σ = some (nI (Q ++ hdL a1 a2 cs).length, σ') ∧ Prm σ' (Q ++ hdL a1 a2 cs ++ cndsL a1 a3 (Q ++ hdL a1 a2 cs).length cs) ∧ fPt σ σ' := by
  unfold f_Md_loop l_Md_loop_60
  rw [seeker_eq a1 hc h4, bn2_eq]
  have head : ∃ σ1, (if 0 ≤ skF a1 0 cs then (chk (vp_in ((4 * skF a1 0 cs) + 3) 16) ((f_Md_put 6 (gi σ 43 0 (((4 * skF a1 0 cs) + 3).toNatClampNeg)) 0 0 σ).bind (fun σ8 => (f_Md_put 8 a1 a2 0 σ8).bind (fun σ10 => some (σ10))))) else ((f_Md_put 2 a1 a2 0 σ).bind (fun σ12 => some (σ12)))) = some σ1 ∧ Prm σ1 (Q ++ hdL a1 a2 cs) ∧ fPt σ σ1 := by
    rcases sk_hd a1 cs 0 with ⟨h1, h2⟩ | ⟨j, c, h1, h2, h3⟩
    · obtain ⟨σ1, e1, e2, e3⟩ := put_A (o := 2) (by decide) a1 a2 0 hP (by omega)
      rw [h1, if_neg n0p, show (2 : Int32) = nI 2 from rfl, e1, bnd_eq, h2]
      exact ⟨σ1, rfl, e2, e3⟩
    · have hj := (List.getElem?_eq_some_iff.mp h1).1
      have p3 : nI (4 * j) + 3 = nI (4 * j + 3) := nI_plus (4 * j) 3
      obtain ⟨σ1, e1, e2, e3⟩ := put_A (o := 6) (by decide) c.2.2.2 0 0 hP (by omega)
      obtain ⟨σ2, k1, k2, k3⟩ := put_A (o := 8) (by decide) a1 a2 0 e2 (by rw [List.length_append, List.length_singleton]; omega)
      rw [h2, Nat.zero_add, if_pos (nI_pos' (by omega)), nI_4, p3, chk_pos (vp_in_nI (by omega) (by decide)), nI_clamp (by omega), (hc.2 j c h1).2.2.2, show (6 : Int32) = nI 6 from rfl, e1, bnd_eq, show (8 : Int32) = nI 8 from rfl, k1, bnd_eq, h3, ← app2]
      exact ⟨σ2, rfl, k2, e3.tr k3⟩
  obtain ⟨σ1, g1, g2, g3⟩ := head
  rw [g1, bnd_eq, lt_eq, g2.1]
  have hQ2 : (Q ++ hdL a1 a2 cs).length ≤ Q.length + 2 := by
    have := hdL_2 a1 a2 cs
    rw [List.length_append]
    omega
  generalize hQ1 : Q ++ hdL a1 a2 cs = Q1 at *
  obtain ⟨e, h1, h2, h3⟩ := lp_for (body := fun q : Int32 × Sg => b_Md_loop_60 a1 a3 q.1 q.2) (s := (0, σ1)) (fun i s => s.1 = nI i ∧ Prm s.2 (Q1 ++ cndsL a1 a3 Q1.length (cs.take i)) ∧ fPt σ s.2) (fun e => Prm e (Q1 ++ cndsL a1 a3 Q1.length cs) ∧ fPt σ e) cs.length (by omega) ⟨rfl, by rw [List.take_zero, cndsL, List.append_nil]; exact g2, g3⟩
    (fun i s hi hs => by
      obtain ⟨x, τ⟩ := s
      obtain ⟨rfl, s1, s2⟩ := hs
      obtain ⟨c, hci, htk⟩ := take_gg hi
      have hcτ := Cdm_fr s2 hc
      obtain ⟨y1, y2, y3, y4⟩ := hcτ.2 i c hci
      obtain ⟨k, hk7, hkk⟩ := hk c (List.mem_of_getElem? hci)
      have hlen : (Q1 ++ cndsL a1 a3 Q1.length (cs.take i)).length + 4 < 60 := by
        have := cndsL_len a1 a3 (cs.take i) Q1.length
        rw [List.length_take] at this
        rw [List.length_append]
        omega
      have p1 : nI (4 * i) + 1 = nI (4 * i + 1) := nI_plus (4 * i) 1
      have p2 : nI (4 * i) + 2 = nI (4 * i + 2) := nI_plus (4 * i) 2
      have p3 : nI (4 * i) + 3 = nI (4 * i + 3) := nI_plus (4 * i) 3
      have hp9 : (9 : Int32) + nI k = nI (9 + k) := nI_plus 9 k
      have hcl : c.2.2.1.toNatClampNeg = k := by rw [hkk, nI_clamp (by omega)]
      generalize hQ3 : Q1 ++ cndsL a1 a3 Q1.length (cs.take i) = Q3 at *
      show ∃ s', b_Md_loop_60 a1 a3 (nI i) τ = _ ∧ _
      have main : ∃ σ', (if c.1 = a1 then (chk (vp_in (nI (4 * i + 2)) 16) (lt_ (nI k : Int32) (fun (x26 : Int32) => chk (vp_in (nI (4 * i + 1)) 16) ((f_Md_read a1 c.2.1 0 τ).bind (fun σ28 => Option.bind (if 6 ≤ x26 then (some (σ28)) else (chk (vp_in (nI (4 * i + 3)) 16) ((f_Md_put 6 (gi σ28 43 0 (4 * i + 3)) 1 0 σ28).bind (fun σ34 => some (σ34))))) (fun (σ30 : Sg) => (f_Md_put (9 + x26) 0 ((gi σ30 9 0 10) + 2) 1 σ30).bind (fun σ37 => (f_Md_put 19 a3 0 0 σ37).bind (fun σ39 => some (σ39))))))))) else (some τ)) = some σ' ∧ Prm σ' (Q3 ++ cndL a1 a3 Q3.length c) ∧ fPt τ σ' := by
        unfold cndL
        by_cases hc1 : c.1 = a1
        · rw [if_pos hc1, if_pos hc1]
          obtain ⟨σ1, e1, e2, e3⟩ := read_A a1 c.2.1 0 s1 (by omega)
          have z4 : gi σ1 43 0 (4 * i + 3) = c.2.2.2 := (e3.1 _ _ _ (by omega)).trans y4
          rw [chk_pos (vp_in_nI (by omega) (by decide)), lt_eq, chk_pos (vp_in_nI (by omega) (by decide)), e1, bnd_eq, z4, hcl]
          by_cases h6 : 6 ≤ k
          · have hP2 : cndP a1 c = [ftc a1 c.2.1 0] := by unfold cndP; rw [hkk, if_pos ((kind6 hk7).mpr h6)]
            have e : nI (Q3 ++ [ftc a1 c.2.1 0]).length + 2 = nI ((Q3 ++ [ftc a1 c.2.1 0]).length + 2) := nI_plus _ 2
            obtain ⟨σ2, k1, k2, k3⟩ := put_A (o := 9 + k) (by omega) 0 (nI ((Q3 ++ [ftc a1 c.2.1 0]).length + 2)) 1 e2 (by rw [List.length_append, List.length_singleton]; omega)
            obtain ⟨σ3, l1, l2, l3⟩ := put_A (o := 19) (by decide) a3 0 0 k2 (by rw [List.length_append, List.length_append, List.length_singleton, List.length_singleton]; omega)
            rw [if_pos ((kind6 hk7).mpr h6), bnd_eq, e2.1, e, hp9, k1, bnd_eq, show (19 : Int32) = nI 19 from rfl, l1, bnd_eq]
            refine ⟨σ3, rfl, ?_, e3.tr (k3.tr l3)⟩
            rw [hP2, ← List.append_assoc, ← app2]
            rw [List.length_append] at l2
            exact l2
          · have hP2 : cndP a1 c = [ftc a1 c.2.1 0, insOf 6 c.2.2.2 1 0] := by unfold cndP; rw [hkk, if_neg (fun z => h6 ((kind6 hk7).mp z))]
            obtain ⟨σ2, f1, f2, f3⟩ := put_A (o := 6) (by decide) c.2.2.2 1 0 e2 (by rw [List.length_append, List.length_singleton]; omega)
            rw [app2] at f2
            have e : nI (Q3 ++ [ftc a1 c.2.1 0, insOf 6 c.2.2.2 1 0]).length + 2 = nI ((Q3 ++ [ftc a1 c.2.1 0, insOf 6 c.2.2.2 1 0]).length + 2) := nI_plus _ 2
            obtain ⟨σ3, k1, k2, k3⟩ := put_A (o := 9 + k) (by omega) 0 (nI ((Q3 ++ [ftc a1 c.2.1 0, insOf 6 c.2.2.2 1 0]).length + 2)) 1 f2 (by rw [List.length_append]; simp only [List.length_cons, List.length_nil]; omega)
            obtain ⟨σ4, l1, l2, l3⟩ := put_A (o := 19) (by decide) a3 0 0 k2 (by rw [List.length_append, List.length_append]; simp only [List.length_cons, List.length_nil]; omega)
            rw [if_neg (fun z => h6 ((kind6 hk7).mp z)), chk_pos (vp_in_nI (by omega) (by decide)), show (6 : Int32) = nI 6 from rfl, f1, bnd_eq, bnd_eq, f2.1, e, hp9, k1, bnd_eq, show (19 : Int32) = nI 19 from rfl, l1, bnd_eq]
            refine ⟨σ4, rfl, ?_, e3.tr (f3.tr (k3.tr l3))⟩
            rw [hP2, ← List.append_assoc, ← app2]
            rw [List.length_append] at l2
            exact l2
        · rw [if_neg hc1, if_neg hc1, List.append_nil]
          exact ⟨τ, rfl, s1, fPt_rf τ⟩
      obtain ⟨σ', m1, m2, m3⟩ := main
      have t1 : (nI (4 * i)).toNatClampNeg = 4 * i := nI_clamp (by omega)
      have t2 : (nI (4 * i + 1)).toNatClampNeg = 4 * i + 1 := nI_clamp (by omega)
      have t3 : (nI (4 * i + 2)).toNatClampNeg = 4 * i + 2 := nI_clamp (by omega)
      have t4 : (nI (4 * i + 3)).toNatClampNeg = 4 * i + 3 := nI_clamp (by omega)
      refine ⟨(nI (i + 1), σ'), ?_, rfl, ?_, s2.tr m3⟩
      · unfold b_Md_loop_60
        rw [hcτ.1, if_neg (nI_ge hi (by omega)), nI_4, chk_pos (vp_in_nI (by omega) (by decide)), p1, p2, p3, t1, t2, t3, t4, y1, y2, y3, hkk, m1, bnd_eq, lt_eq, nI_1]
      · show Prm σ' _
        rw [htk, cndsL_app, cndsL, cndsL, List.append_nil, ← List.append_assoc, hQ3]
        have e9 : Q1.length + (cndsL a1 a3 Q1.length (List.take i cs)).length = Q3.length := by rw [← hQ3, List.length_append]
        rw [e9]
        exact m2)
    (fun s hs => by
      obtain ⟨x, τ⟩ := s
      obtain ⟨rfl, s1, s2⟩ := hs
      have hcτ := Cdm_fr s2 hc
      refine ⟨τ, ?_, by rw [List.take_length] at s1; exact s1, s2⟩
      show b_Md_loop_60 a1 a3 (nI cs.length) τ = _
      unfold b_Md_loop_60
      rw [hcτ.1, if_pos (Int32.le_refl _)])
  rw [h1, bnd_eq]
  exact ⟨e, rfl, h2, h3⟩
-- ===== filling in =====
theorem fx_n {n l a : Int32} (h : l ≠ 106) : fx n l a = a := if_neg h
theorem fx_j {n a : Int32} (h : a ≠ -1) : fx n 106 a = a := by unfold fx; rw [if_pos rfl, if_neg h]
theorem fx_m {n : Int32} : fx n 106 (-1) = n := by unfold fx; rw [if_pos rfl, if_pos rfl]
theorem fix_ins (n : Int32) (o : Nat) (a b c : Int32) : fixI n (insOf o a b c) = insOf o (fx n (chr o 0) a) (fx n (chr o 1) b) c := by
  have h : ∀ l x : Int32, fx n l (if l = 46 then 0 else x) = if l = 46 then 0 else fx n l x := fun l x => by
    by_cases hl : l = 46
    · rw [if_pos hl, if_pos hl, hl]
      exact fx_n (by decide)
    · rw [if_neg hl, if_neg hl]
  show (o, fx n (chr o 0) (if chr o 0 = 46 then 0 else a), fx n (chr o 1) (if chr o 1 = 46 then 0 else b), (if chr o 2 = 46 then 0 else c)) = (o, (if chr o 0 = 46 then 0 else fx n (chr o 0) a), (if chr o 1 = 46 then 0 else fx n (chr o 1) b), (if chr o 2 = 46 then 0 else c))
  rw [h, h]
theorem fix_ftc (n a col r : Int32) : fixI n (ftc a col r) = ftc a col r := by
  unfold ftc
  by_cases h : col = -1
  · rw [if_pos h, fix_ins, show chr 5 0 = 99 from rfl, show chr 5 1 = 114 from rfl, fx_n (by decide), fx_n (by decide)]
  · rw [if_neg h, fix_ins, show chr 4 0 = 99 from rfl, show chr 4 1 = 107 from rfl, fx_n (by decide), fx_n (by decide)]
theorem fix_hd (n a1 : Int32) (cs : List Cnd) (j : Int32) : (hdL a1 j cs).map (fixI n) = hdL a1 (fx n 106 j) cs := by
  rcases sk_hd a1 cs 0 with ⟨-, h⟩ | ⟨i, c, -, -, h⟩
  · rw [h j, h, List.map_cons, List.map_nil, fix_ins, show chr 2 0 = 99 from rfl, show chr 2 1 = 106 from rfl, fx_n (l := 99) (by decide)]
  · rw [h j, h, List.map_cons, List.map_cons, List.map_nil, fix_ins, fix_ins, show chr 6 0 = 118 from rfl, show chr 6 1 = 114 from rfl, show chr 8 0 = 99 from rfl, show chr 8 1 = 106 from rfl, fx_n (l := 118) (by decide), fx_n (l := 114) (by decide), fx_n (l := 99) (by decide)]
theorem cmp_chr : ∀ k, k ≤ 7 → chr (9 + k) 0 = 114 ∧ chr (9 + k) 1 = 106 := by decide +kernel
theorem fix_cnd (n a1 j : Int32) (p : Nat) (hp : p < 100) (c : Cnd) (hk : okC2 c) : (cndL a1 j p c).map (fixI n) = cndL a1 (fx n 106 j) p c := by
  obtain ⟨k, hk7, hkk⟩ := hk
  have hcl : c.2.2.1.toNatClampNeg = k := by rw [hkk, nI_clamp (by omega)]
  have hPl := cndP_len a1 c
  obtain ⟨c1', c2'⟩ := cmp_chr k hk7
  unfold cndL
  by_cases h1 : c.1 = a1
  · rw [if_pos h1, if_pos h1, List.map_append, List.map_cons, List.map_cons, List.map_nil, hcl, fix_ins, fix_ins, c1', c2', show chr 19 0 = 106 from rfl, show chr 19 1 = 46 from rfl, fx_n (l := 114) (by decide), fx_n (l := 46) (by decide), fx_j (neg1_nI (by omega))]
    congr 1
    unfold cndP
    rw [List.map_cons, fix_ftc]
    congr 1
    split
    · rfl
    · rw [List.map_cons, List.map_nil, fix_ins, show chr 6 0 = 118 from rfl, show chr 6 1 = 114 from rfl, fx_n (by decide), fx_n (by decide)]
  · rw [if_neg h1, if_neg h1, List.map_nil]
theorem fix_cnds (n a1 j : Int32) : ∀ (cs : List Cnd) (p : Nat), p + 4 * cs.length < 100 → (∀ c ∈ cs, okC2 c) → (cndsL a1 j p cs).map (fixI n) = cndsL a1 (fx n 106 j) p cs := by
  intro cs
  induction cs with
  | nil => intro p _ _; rfl
  | cons c t ih =>
    intro p hp hk
    rw [List.length_cons] at hp
    have hl := cndL_len a1 j p c
    rw [cndsL, cndsL, List.map_append, fix_cnd n a1 j p (by omega) c (hk c List.mem_cons_self), ih _ (by omega) (fun d hd => hk d (List.mem_cons_of_mem _ hd)), cndL_l, cndL_l]
theorem fix_out (n : Int32) : ∀ (os : List (Int32 × Int32)) (i : Nat), (outL i os).map (fixI n) = outL i os := by
  intro os
  induction os with
  | nil => intro i; rfl
  | cons x t ih => intro i; rw [outL, List.map_cons, fix_ftc, ih]
theorem fix_res (n : Int32) (os : List (Int32 × Int32)) : (resL os).map (fixI n) = resL os := by
  unfold resL
  rw [List.map_append, fix_out, List.map_cons, List.map_nil, fix_ins, show chr 18 0 = 114 from rfl, show chr 18 1 = 110 from rfl, fx_n (by decide), fx_n (by decide)]
theorem fix_nxt (n c : Int32) (p : Nat) (hp : p < 100) : fixI n (insOf 3 c (nI p) 0) = insOf 3 c (nI p) 0 := by
  rw [fix_ins, show chr 3 0 = 99 from rfl, show chr 3 1 = 106 from rfl, fx_n (by decide), fx_j (neg1_nI (by omega))]
def jnL (j1 j2 : Int32) (p : Nat) (jmp : Int32) : List Ins := [ftc 0 j1 0, ftc 1 j2 1, insOf 9 0 (nI (p + 4)) 1, insOf 19 jmp 0 0]
theorem fix_jn (n j1 j2 : Int32) (p : Nat) (hp : p < 100) (jmp : Int32) : (jnL j1 j2 p jmp).map (fixI n) = jnL j1 j2 p (fx n 106 jmp) := by
  unfold jnL
  rw [List.map_cons, List.map_cons, List.map_cons, List.map_cons, List.map_nil, fix_ftc, fix_ftc, fix_ins, fix_ins, show chr 9 0 = 114 from rfl, show chr 9 1 = 106 from rfl, show chr 19 0 = 106 from rfl, show chr 19 1 = 46 from rfl, fx_n (l := 114) (by decide), fx_n (l := 46) (by decide), fx_j (neg1_nI (by omega))]
