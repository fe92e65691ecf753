/-! the plain law: a table more -/
theorem gi_zTn {σ : Sg} {n a b c : Nat} (h : isT n a b = false) : gi (zT σ n) a b c = gi σ a b c := by
  show (if isT n a b then 0 else σ.1 a b c) = σ.1 a b c
  rw [h]
  rfl
theorem gi_zT0 {σ : Sg} {n a b c : Nat} (h : isT n a b = true) : gi (zT σ n) a b c = 0 := by
  show (if isT n a b then 0 else σ.1 a b c) = 0
  rw [h]
  rfl
theorem gj_zTn {σ : Sg} {n a b c : Nat} (h : isT n a b = false) : gj (zT σ n) a b c = gj σ a b c := by
  show (if isT n a b then 0 else σ.2.1 a b c) = σ.2.1 a b c
  rw [h]
  rfl
theorem gr_zTn {σ : Sg} {n a b c : Nat} (h : isT n a b = false) : gr (zT σ n) a b c = gr σ a b c := by
  show (if isT n a b then none else σ.2.2.1 a b c) = σ.2.2.1 a b c
  rw [h]
  rfl
theorem isT_no {n a b : Nat} (h : ¬ ((a = 3 ∨ a = 13 ∨ a = 14) ∧ b = n)) (h2 : ¬ ((a = 2 ∨ a = 10) ∧ b = 240 + n)) : isT n a b = false := by
  unfold isT
  rw [Bool.eq_false_iff]
  intro z
  simp only [Bool.or_eq_true, Bool.and_eq_true, beq_iff_eq] at z
  omega
theorem Rt_N {σ : Sg} {N N' : Nat} {v : Nat → Option Int64} {Q : List Ins} {Rs : List Vals} {q : Que} (h : N ≤ N') (hr : Rt σ N v Q Rs q) : Rt σ N' v Q Rs q := by
  obtain ⟨c, p, r, ⟨q1, q2, x1, x2, x3⟩, o⟩ := hr
  exact ⟨c, p, r, ⟨q1, q2, x1.imp id (fun ⟨t, a, b⟩ => ⟨t, by omega, b⟩), x2.imp id (fun ⟨t, a, b⟩ => ⟨t, by omega, b⟩), x3⟩, o⟩
theorem law_0 {σ : Sg} (a1 a2 a3 a4 : Int32) (h : Iv σ) : ∃ σ', g_law_0 a1 a2 a3 a4 σ = some σ' ∧ Iv σ' := by
  unfold g_law_0
  have hi := h
  obtain ⟨N, col, R, v, Q, Rs, q, hd, hr⟩ := h
  obtain ⟨f1, f2, f3, f4, f5, f6, f7⟩ := Db_fit hd
  unfold f_Lw_table f_TM_table f_Md_table
  have bad : (a1 < 1 ∨ (¬ a1 < 1 ∧ 4 < a1)) → ∃ σ', bn2 (bnH (bnX (f_TM_check (if a1 < 1 then 0 else if 4 < a1 then 0 else 1) σ) (fun (_ : Unit) (σ1 : Sg) => bnX (f_TM_demand (if 3 ≤ gi σ1 0 0 2 then 0 else 1) σ1) (fun (_ : Unit) (σ2 : Sg) => chk (gi σ2 0 0 2 = nI (nt σ2) ∧ nt σ2 < 3 ∧ onOk σ2) (bn2 (f_Pg_fresh (si (zT σ2 (nt σ2)) 3 (nt σ2) 2 a1)) (fun r σ3 => Option.bind (f_Pg_head r 1 0 (si σ3 3 (nt σ2) 1 r)) (fun σ5 => some (.inl (nI (nt σ2)), si (nT σ5) 0 0 2 (nI (nt σ2 + 1))))))))) (fun e => if e = 0 then some 1 else if e = 1 then some 2 else none) (fun (r : Int32) (σ1 : Sg) => some (0, sj σ1 44 0 0 r.toInt64)))
      (fun (r3 : Int32) (σ1 : Sg) => bn2 (lt_ ((if a1 < 1 then 1 else (if a1 ≤ 4 then (if (gi σ1 9 0 1) = 3 then 2 else 0) else 1)) : Int32) (fun (x1 : Int32) => lt_ (si σ1 9 0 0 x1) (fun σ7 => (if (gi σ7 9 0 0) ≤ 0 then (chk (vp_in (gi σ7 9 0 1) 3) (lt_ (si σ7 26 0 ((gi σ7 9 0 1).toNatClampNeg) a1) (fun σ9 => lt_ (si σ9 9 0 1 ((gi σ9 9 0 1) + 1)) (fun σ10 => some ((gi σ10 9 0 1) - 1, σ10))))) else (some (0, σ7)))))) (fun (r6 : Int32) (σ4 : Sg) => bn2 (f_Md_thrown σ4) (fun (r9 : Int32) (σ7 : Sg) => (if r9 = r3 then (if r3 = 0 then (chk (vp_in 0 1) ((if (gj σ7 44 0 ((0 : Int32).toNatClampNeg)) = r6.toInt64 then (some σ7) else none))) else (some σ7)) else none)))) = some σ' ∧ Iv σ' := fun hb => by
    refine ⟨si σ 9 0 0 1, ?_, Iv_fI fI_thr hi⟩
    have e1 : ((if a1 < 1 then 0 else if 4 < a1 then 0 else 1) : Int32) = 0 := by
      rcases hb with hb | ⟨hb, hb2⟩
      · rw [if_pos hb]
      · rw [if_neg hb, if_pos hb2]
    have e2 : ∀ x : Int32, ((if a1 < 1 then 1 else (if a1 ≤ 4 then x else 1)) : Int32) = 1 := fun x => by
      rcases hb with hb | ⟨hb, hb2⟩
      · rw [if_pos hb]
      · rw [if_neg hb, if_neg (Int32.not_le.mpr hb2)]
    rw [e1, check_0, bnX_r, bnH_r, if_pos rfl]
    show bn2 (some (1, σ)) _ = _
    rw [bn2_eq, lt_eq, e2, lt_eq, gi_eq, if_neg le01, bn2_eq, thr_eq, bn2_eq, gi_eq, if_pos rfl, if_neg (by decide)]
  have h5 : ∀ {x : Int32}, (5 : Int32) ≤ x → 4 < x := fun {x} z => by
    rw [lt_toInt]
    have := le_toInt.mp z
    rw [show (5 : Int32).toInt = 5 by decide] at this
    rw [show (4 : Int32).toInt = 4 by decide]
    omega
  have h1' : ∀ {x : Int32}, x < 0 → x < 1 := fun {x} z => by
    rw [lt_toInt] at z ⊢
    rw [show (0 : Int32).toInt = 0 by decide] at z
    rw [show (1 : Int32).toInt = 1 by decide]
    omega
  rcases i_cs a1 (N := 5) (by decide) with h1 | ⟨h1, h2⟩ | ⟨n, hn, rfl⟩
  · exact bad (Or.inl (h1' h1))
  · by_cases z : a1 < 1
    · exact bad (Or.inl z)
    · exact bad (Or.inr ⟨z, h5 h2⟩)
  · by_cases hn0 : n = 0
    · subst hn0
      exact bad (Or.inl (by decide))
    · clear bad
      have c1' : ¬ nI n < 1 := nI_nlt (b := 1) (by omega) (by omega)
      have c2' : ¬ (4 : Int32) < nI n := nI_nlt (a := 4) (by omega) (by decide)
      have c3' : nI n ≤ (4 : Int32) := nI_le (b := 4) (by omega) (by decide)
      by_cases hN : N = 3
      · subst hN
        refine ⟨si σ 9 0 0 2, ?_, Iv_fI fI_thr hi⟩
        rw [if_neg c1', if_neg c2', check_1, bnX_l, f3, if_pos (show (3 : Int32) ≤ nI 3 by decide), demand_0, bnX_r, bnH_r, if_neg (by decide), if_pos rfl]
        show bn2 (some (2, σ)) _ = _
        rw [bn2_eq, lt_eq, if_neg c1', if_pos c3', f4, if_pos (show nI 3 = (3 : Int32) by decide), lt_eq, gi_eq, if_neg le02, bn2_eq, thr_eq, bn2_eq, gi_eq, if_pos rfl, if_neg (by decide)]
      · have hN3 : N < 3 := by omega
        obtain ⟨root, M, P, F, g1, g4, g5, g6, g7⟩ := hd.1
        have hsum := own_sum R f6
        have hlen := (pgs_len g7 (t := 0) (by decide)).2.2
        have hFne : F ≠ [] := by
          rintro rfl
          rw [List.length_nil] at hlen
          have hb : ∀ s, s < 3 → (P s).length ≤ 2 * (own R s).length + (if s < N then 1 else 0) := fun s hs => by
            by_cases hsN : s < N
            · have := TO_pgs (g4 s hsN).1
              rw [(g4 s hsN).2.2.length_eq] at this
              rw [if_pos hsN]
              exact this
            · rw [g5 s (by omega)]
              simp
          have b0 := hb 0 (by decide)
          have b1 := hb 1 (by decide)
          have b2 := hb 2 (by decide)
          have i0 : (if 0 < N then 1 else 0) ≤ 1 := by split <;> omega
          have i1 : (if 1 < N then 1 else 0) ≤ 1 := by split <;> omega
          have i2 : (if 2 < N then 1 else 0) ≤ 1 := by split <;> omega
          omega
        obtain ⟨F1, x, rfl⟩ : ∃ F1 x, F = F1 ++ [x] := ⟨F.dropLast, F.getLast hFne, (List.dropLast_concat_getLast hFne).symm⟩
        have hFτ : FL (si (zT σ N) 3 N 2 (nI n)) (F1 ++ [x]) := FL_congr (by rw [gi_ne (by omega), gi_zTn (isT_no (by omega) (by omega))]) (fun k => by rw [gi_ne (by omega), gi_zTn (isT_no (by omega) (by omega))]) g6
        obtain ⟨e1, e2, hx⟩ := fresh_FL hFτ
        have hhead := head_fill (σ := si (si (si (zT σ N) 3 N 2 (nI n)) 1 0 2 (nI F1.length)) 3 N 1 (nI x)) (p := x) (n := 0) (lf := 1) hx (by decide) (by decide)
        rw [show nI 1 = (1 : Int32) from rfl, show nI 0 = (0 : Int32) from rfl] at hhead
        generalize hσ5 : sA (si (si (si (si (si (zT σ N) 3 N 2 (nI n)) 1 0 2 (nI F1.length)) 3 N 1 (nI x)) 10 x 0 1) 10 x 1 0) x 2 = σ5 at hhead
        generalize hσ6 : si (nT σ5) 0 0 2 (nI (N + 1)) = σ6
        have k6 : ∀ a b c, ¬ (a = 0 ∧ c = 2) → ¬ a = 2 → ¬ (a = 10 ∧ (b = x ∨ 240 ≤ b)) → ¬ (a = 3 ∧ b = N) → ¬ a = 13 → ¬ a = 14 → ¬ a = 1 → gi σ6 a b c = gi σ a b c := fun a b c x1 x2 x3 x4 x5 x6 x7 => by
          rw [← hσ6, gi_ne (by omega)]
          show gi σ5 a b c = _
          rw [← hσ5, gi_sA10 _ _ _ _ _ _ x2, gi_ne (by omega), gi_ne (by omega), gi_ne (by omega), gi_ne (by omega), gi_ne (by omega), gi_zTn (isT_no (by omega) (by omega))]
        have j6 : ∀ a b c, ¬ (a = 3 ∨ a = 13 ∨ a = 14 ∨ a = 2 ∨ a = 10) → gj σ6 a b c = gj σ a b c := fun a b c x1 => by
          rw [← hσ6, gj_si]
          show gj σ5 a b c = _
          rw [← hσ5]
          show gj (zT σ N) a b c = _
          exact gj_zTn (isT_no (by omega) (by omega))
        have r6 : ∀ a b c, (a = 6 ∨ a = 7) → gr σ6 a b c = gr σ a b c := fun a b c x1 => by
          rw [← hσ6, gr_si]
          show gr σ5 a b c = _
          rw [← hσ5]
          show gr (zT σ N) a b c = _
          exact gr_zTn (isT_no (by omega) (by omega))
        have n6 : nt σ6 = N + 1 := by
          rw [← hσ6, nt_si]
          show nt σ5 + 1 = _
          rw [← hσ5]
          show nt σ + 1 = _
          rw [f1]
        have w1 : gi σ6 3 N 1 = nI x := by
          rw [← hσ6, gi_ne (by omega)]
          show gi σ5 3 N 1 = _
          rw [← hσ5, gi_sA10 _ _ _ _ _ _ (by decide), gi_ne (by omega), gi_ne (by omega), gi_eq]
        have w2 : gi σ6 3 N 2 = nI n := by
          rw [← hσ6, gi_ne (by omega)]
          show gi σ5 3 N 2 = _
          rw [← hσ5, gi_sA10 _ _ _ _ _ _ (by decide), gi_ne (by omega), gi_ne (by omega), gi_ne (by omega), gi_ne (by omega), gi_eq]
        have w3 : gi σ6 3 N 3 = nI 0 := by
          rw [← hσ6, gi_ne (by omega)]
          show gi σ5 3 N 3 = _
          rw [← hσ5, gi_sA10 _ _ _ _ _ _ (by decide), gi_ne (by omega), gi_ne (by omega), gi_ne (by omega), gi_ne (by omega), gi_ne (by omega), gi_zT0 (by unfold isT; simp)]
          rfl
        have w4 : gi σ6 10 x 0 = 1 := by
          rw [← hσ6, gi_ne (by omega)]
          show gi σ5 10 x 0 = _
          rw [← hσ5, gi_sA10 _ _ _ _ _ _ (by decide), gi_ne (by omega), gi_eq]
        have w5 : gi σ6 10 x 1 = nI 0 := by
          rw [← hσ6, gi_ne (by omega)]
          show gi σ5 10 x 1 = _
          rw [← hσ5, gi_sA10 _ _ _ _ _ _ (by decide), gi_eq]
          rfl
        have w6 : gi σ6 0 0 2 = nI (N + 1) := by rw [← hσ6, gi_eq]
        have hF6 : FL σ6 F1 := by
          refine FL_congr ?_ (fun k => ?_) e2
          · rw [← hσ6, gi_ne (by omega)]
            show gi σ5 1 0 2 = _
            rw [← hσ5, gi_sA10 _ _ _ _ _ _ (by decide), gi_ne (by omega), gi_ne (by omega), gi_ne (by omega)]
          · rw [← hσ6, gi_ne (by omega)]
            show gi σ5 12 0 k = _
            rw [← hσ5, gi_sA10 _ _ _ _ _ _ (by decide), gi_ne (by omega), gi_ne (by omega), gi_ne (by omega)]
        have hxF : x ∈ F1 ++ [x] := List.mem_append_right _ List.mem_cons_self
        have hxP : ∀ t, t < 3 → ∀ z ∈ P t, z ≠ x := fun t ht z hz => (List.nodup_append.mp (pgs_len g7 (t := t) ht).1).2.2 z hz x hxF
        have ownN : own R N = [] := by
          cases hO : own R N with
          | nil => rfl
          | cons c l =>
            have := (hd.2.2.2.2 (N, c) (mem_own.mp (by rw [hO]; exact List.mem_cons_self))).1
            exact absurd this (Nat.lt_irrefl _)
        have hC6 : Ct σ6 (N + 1) (fun s => if s = N then n else col s) R := by
          refine ⟨fun s => if s = N then x else root s, fun s => if s = N then [] else M s, fun s => if s = N then [x] else P s, F1, ⟨n6, by omega, w6⟩, fun t ht => ?_, fun t ht => ?_, hF6, ?_⟩
          · by_cases htN : t = N
            · subst htN
              simp only [if_true]
              refine ⟨⟨w1, w2, by omega, by omega, ?_, by simp⟩, w3, by rw [ownN]⟩
              rw [TA_iff]
              left
              refine ⟨⟨hx, ⟨w4, w5, fun k hk => absurd hk (by simp [lB]), by simp [lB]⟩, fun c hc => (by cases hc), List.Pairwise.nil⟩, rfl⟩
            · simp only [htN, if_false]
              obtain ⟨y1, y2, y3⟩ := g4 t (by omega)
              refine ⟨⟨(k6 _ _ _ (by omega) (by omega) (by omega) (by omega) (by omega) (by omega) (by omega)).trans y1.1, (k6 _ _ _ (by omega) (by omega) (by omega) (by omega) (by omega) (by omega) (by omega)).trans y1.2.1, y1.2.2.1, y1.2.2.2.1, ?_, y1.2.2.2.2.2⟩, (k6 _ _ _ (by omega) (by omega) (by omega) (by omega) (by omega) (by omega) (by omega)).trans y2, y3⟩
              obtain ⟨d, hdd⟩ := y1.2.2.2.2.1
              refine TA_congr (fun z hz j => ?_) ⟨d, hdd⟩
              have hz1 := TA_P _ _ _ _ _ _ hdd z hz
              have hz2 := hxP t (by omega) z hz
              exact k6 _ _ _ (by omega) (by omega) (by omega) (by omega) (by omega) (by omega) (by omega)
          · have htN : ¬ t = N := by omega
            simp only [htN, if_false]
            exact g5 t (by omega)
          · refine (pg3 (P := P) (F := F1 ++ [x]) (t := N) hN3 [x] F1 ?_).trans g7
            rw [g5 N (Nat.le_refl _), List.nil_append, List.singleton_append]
            exact (List.perm_append_singleton x F1).symm
        have hM6 : Mo σ6 N col R := Mo_fr (fun a b c hh => k6 a b c (by omega) (by omega) (by omega) (by omega) (by omega) (by omega) (by omega)) (fun a b c hh => j6 a b c (by omega)) hd.2.2.1
        have hR6 : fR σ σ6 := ⟨fun a b c hh => k6 a b c (by unfold rsI at hh; omega) (by unfold rsI at hh; omega) (by unfold rsI at hh; omega) (by unfold rsI at hh; omega) (by unfold rsI at hh; omega) (by unfold rsI at hh; omega) (by unfold rsI at hh; omega), fun a b c hh => j6 a b c (by unfold rsJ at hh; omega), r6, by rw [n6, f1]; omega⟩
        have g03 : gi σ6 0 0 3 = nI R.length := (k6 _ _ _ (by omega) (by omega) (by omega) (by omega) (by omega) (by omega) (by omega)).trans hd.2.1
        have p3n : ¬ (3 : Int32) ≤ nI N := nI_ge (b := 3) hN3 (by decide)
        have e3n : ¬ nI N = (3 : Int32) := fun z => hN (nI_inj (by omega) (by decide) (z.trans (show (3 : Int32) = nI 3 by decide)))
        have q91 : gi (sj σ6 44 0 0 (nI N).toInt64) 9 0 1 = nI N := hM6.1
        have z91 : ∀ y, gi (si (sj σ6 44 0 0 (nI N).toInt64) 9 0 0 y) 9 0 1 = nI N := fun y => by rw [gi_ne (by omega)]; exact hM6.1
        have z92 : ∀ y u, gi (si (si (sj σ6 44 0 0 (nI N).toInt64) 9 0 0 y) 26 0 N u) 9 0 1 = nI N := fun y u => by rw [gi_ne (by omega), z91]
        generalize hσ8 : si (si (si (sj σ6 44 0 0 (nI N).toInt64) 9 0 0 0) 26 0 N (nI n)) 9 0 1 (nI (N + 1)) = σ8
        have k8 : ∀ a b c, ¬ (a = 9 ∧ (c = 0 ∨ c = 1)) → ¬ (a = 26 ∧ c = N) → gi σ8 a b c = gi σ6 a b c := fun a b c x1 x2 => by
          rw [← hσ8, gi_ne (by omega), gi_ne (by omega), gi_ne (by omega), gi_sj]
        have j8 : ∀ a b c, ¬ a = 44 → gj σ8 a b c = gj σ6 a b c := fun a b c x1 => by
          rw [← hσ8, gj_si, gj_si, gj_si, gj_ne (by omega)]
        refine ⟨σ8, ?_, N + 1, fun s => if s = N then n else col s, R, v, Q, Rs, q, ⟨?_, ?_, ⟨?_, fun t ht => ?_, ?_, ?_⟩, ?_⟩, ?_⟩
        · rw [if_neg c1', if_neg c2', check_1, bnX_l, f3, if_neg p3n, demand_1, bnX_l, chk_pos ⟨by rw [f3, f1], by rw [f1]; exact hN3, hr.2.2.2.2⟩, f1, e1, bn2_eq, hhead, bnd_eq, bnH_l, hσ6, bn2_eq, lt_eq, if_neg c1', if_pos c3', q91, if_neg e3n, lt_eq, gi_eq, if_pos le00, z91, chk_pos (vp_in_nI hN3 (by decide)), lt_eq, nI_clamp (by omega), z92, nI_1, lt_eq, hσ8, bn2_eq, thr_eq, bn2_eq]
          have t8 : gi σ8 9 0 0 = 0 := by rw [← hσ8, gi_ne (by omega), gi_ne (by omega), gi_eq]
          have t9 : gi σ8 9 0 1 = nI (N + 1) := by rw [← hσ8, gi_eq]
          rw [t8, if_pos rfl, if_pos rfl, chk_pos in01, t9, nI_pred, if_pos ?_]
          rw [← hσ8, gj_si, gj_si, gj_si]
          exact gj_eq
        · exact Ct_fC ⟨fun a b c hh => k8 a b c (by omega) (by omega), by rw [← hσ8]; rfl⟩ hC6
        · exact (k8 _ _ _ (by omega) (by omega)).trans g03
        · rw [← hσ8, gi_eq]
        · by_cases htN : t = N
          · subst htN
            simp only [if_true]
            rw [← hσ8, gi_ne (by omega), gi_eq]
          · simp only [htN, if_false]
            rw [k8 _ _ _ (by omega) (by omega)]
            exact hM6.2.1 t (by omega)
        · exact (k8 _ _ _ (by omega) (by omega)).trans hM6.2.2.1
        · exact fun i r hr => ⟨(k8 _ _ _ (by omega) (by omega)).trans (hM6.2.2.2 i r hr).1, (j8 _ _ _ (by omega)).trans (hM6.2.2.2 i r hr).2.1, fun k hk => ⟨(k8 _ _ _ (by omega) (by omega)).trans ((hM6.2.2.2 i r hr).2.2 k hk).1, (j8 _ _ _ (by omega)).trans ((hM6.2.2.2 i r hr).2.2 k hk).2⟩⟩
        · refine ⟨hd.2.2.2.1, fun r hr => ?_⟩
          have h9 := hd.2.2.2.2 r hr
          have hne : ¬ r.1 = N := by omega
          simp only [hne, if_false]
          exact ⟨by omega, h9.2⟩
        · refine Rt_N (Nat.le_succ N) (Rt_fR (hR6.tr ⟨fun a b c hh => k8 a b c (by unfold rsI at hh; omega) (by unfold rsI at hh; omega), fun a b c hh => j8 a b c (by unfold rsJ at hh; omega), fun a b c _ => by rw [← hσ8]; rfl, by rw [← hσ8]; exact Nat.le_refl _⟩) hr)
