/-! the plain law: insert, delete, set -/
def vsOf (v : Nat → Option Int64) (n : Nat) : Vals := (List.range n).map v
theorem vsOf_len (v : Nat → Option Int64) (n : Nat) : (vsOf v n).length = n := by unfold vsOf; rw [List.length_map, List.length_range]
theorem vsOf_get {v : Nat → Option Int64} {n k : Nat} (h : k < n) : (vsOf v n).getD k none = v k := by
  unfold vsOf
  rw [List.getD_eq_getElem?_getD, List.getElem?_map, List.getElem?_range h]
  rfl
theorem hit_uq {R : List Row} {t : Nat} {key : Int64} {j j' : Nat} {c c' : Cel} (h : hit R t key j c) (h' : hit R t key j' c') : j = j' ∧ c = c' := by
  have hj : j = j' := Nat.le_antisymm (h'.2.2 j c h.1 h.2.1) (h.2.2 j' c' h'.1 h'.2.1)
  subst hj
  have := h.1.symm.trans h'.1
  exact ⟨rfl, by simpa using this⟩
theorem wR_app {N : Nat} {col : Nat → Nat} {R : List Row} (h : wR N col R) (hl : R.length < 90) {t : Nat} {key : Int64} {vs : Vals} (ht : t < N) (hv : vs.length = col t) : wR N col (R ++ [(t, (key, vs))]) := by
  refine ⟨by rw [List.length_append, List.length_singleton]; omega, fun r hr => ?_⟩
  rcases List.mem_append.mp hr with hr | hr
  · exact h.2 r hr
  · rcases List.mem_singleton.mp hr with rfl
    exact ⟨ht, hv⟩
theorem wR_del {N : Nat} {col : Nat → Nat} {R : List Row} (h : wR N col R) {j : Nat} {x : Row} (hx : R[j]? = some x) : wR N col (delR R j) := ⟨by rw [delR_len]; have := h.1; omega, fun r hr => h.2 r ((delR_perm hx).mem_iff.mpr (List.mem_cons_of_mem _ hr))⟩
theorem law_2 {σ : Sg} (a1 a2 a3 a4 : Int32) (h : Iv σ) : ∃ σ', g_law_2 a1 a2 a3 a4 σ = some σ' ∧ Iv σ' := by
  unfold g_law_2
  generalize hky : ((a2.toInt64 <<< ((32 : Int32).toInt64 &&& 63)) ||| (a3.toInt64 &&& 4294967295)) = key
  have hi := h
  obtain ⟨N, col, R, v, Q, Rs, q, hd, hr⟩ := h
  obtain ⟨f1, f2, f3, f4, f5, f6, f7⟩ := Db_fit hd
  unfold f_Lw_insert f_TM_insert f_Md_insert
  rcases isT_cs N a1 f2 with ⟨t1, t2⟩ | ⟨t, ht, rfl, t1, t2⟩
  · refine ⟨si σ 9 0 0 1, ?_, Iv_fI fI_thr hi⟩
    rw [t1 σ f3, bn2_eq, check_0, bnX_r, bnH_r, if_pos rfl]
    show bn2 (some (1, σ)) _ = _
    rw [bn2_eq, t2 _ f4, bn2_eq, lt_eq, lt_eq, i00, gi_eq, if_pos (by decide), bn2_eq, thr_eq, gi_eq, bn2_eq, if_pos rfl, if_neg (by decide)]
  · have h03 := hd.2.1
    have h93 := hd.2.2.1.2.2.1
    by_cases h90 : R.length = 90
    · refine ⟨si σ 9 0 0 2, ?_, Iv_fI fI_thr hi⟩
      rw [h90] at h03 h93
      rw [t1 σ f3, bn2_eq, check_1, bnX_l, lt_eq, h03, if_pos (show (90 : Int32) ≤ nI 90 by decide), demand_0, bnX_r, bnH_r, if_neg (by decide), if_pos rfl]
      show bn2 (some (2, σ)) _ = _
      rw [bn2_eq, t2 _ f4, bn2_eq, lt_eq, lt_eq, i10, h93, if_pos (show nI 90 = (90 : Int32) by decide), gi_eq, if_pos (by decide), bn2_eq, thr_eq, gi_eq, bn2_eq, if_pos rfl, if_neg (by decide)]
    · have hlt : R.length < 90 := by omega
      have e90 : ¬ (90 : Int32) ≤ nI R.length := (show ¬ nI 90 ≤ nI R.length from nI_ge hlt (by decide))
      have e91 : ¬ nI R.length = (90 : Int32) := fun z => h90 (nI_inj (by omega) (by decide) (z.trans (show (90 : Int32) = nI 90 by decide)))
      have hin : vp_in (nI t) 3 := vp_in_nI (by omega) (by decide)
      have hcl : (nI t).toNatClampNeg = t := nI_clamp (by omega)
      obtain ⟨r, σ1, s1, s2, s3, s4⟩ := has_Ct hd.1 ht key
      have n1 : nt σ1 = N := s2.2.2.2.trans f1
      have hd1 := Db_fD (fD_eqS s2) hd
      by_cases hK : hasK key (own R t)
      · have hr1 := s3 hK
        subst hr1
        have hf : fI σ (sj σ1 44 0 ((0 : Int32).toNatClampNeg) 0) := (fI_eqS s2).tr fI_out
        generalize hσ2 : sj σ1 44 0 ((0 : Int32).toNatClampNeg) 0 = σ2 at hf
        have hd2 := Db_fD hf.1 hd
        have hd3 := Db_fD (hf.1.tr (fI_thr (x := 0)).1) hd
        obtain ⟨x, x1, x2⟩ := rowOf_eq key hd3.2.2.1.2.2.1 hd3.2.2.1.2.2.2 f5 f6 (t := t) (by omega)
        rcases x2 with ⟨-, y⟩ | ⟨j, c, ⟨y1, y2, y3⟩, rfl⟩
        · exact absurd hK y
        have hj := (List.getElem?_eq_some_iff.mp y1).1
        refine ⟨si σ2 9 0 0 0, ?_, Iv_fI (hf.tr fI_thr) hi⟩
        rw [t1 σ f3, bn2_eq, check_1, bnX_l, lt_eq, h03, if_neg e90, demand_1, bnX_l, chk_pos hin, hcl, chk_pos (by rw [f1]; exact ht), s1, bn2_eq, i10, bnH_l, lt_eq, if_pos rfl, chk_pos in01, lt_eq, bn2_eq, hσ2, t2 _ hd2.2.2.1.1, bn2_eq, lt_eq, lt_eq, i10, hd2.2.2.1.2.2.1, if_neg e91, gi_eq, if_neg (by decide), x1, bn2_eq, if_neg (nI_pos (by omega)), bn2_eq, thr_eq, gi_eq, bn2_eq, if_pos rfl, if_pos rfl, chk_pos in01, lt_eq, if_pos rfl, if_pos ?_]
        rw [gj_si, ← hσ2, gj_eq]
      · have hr0 := s4 hK
        subst hr0
        obtain ⟨k1, k2, k3, k4⟩ := Ct_col hd.1 ht
        have hco := (Rt_fR (fR_eqS s2) hr).1
        obtain ⟨σ2, p1, p2, p3⟩ := place_Ct hd1.1 hlt (fun r hr => (hd.2.2.2.2 r hr).1) ht key hK (r := 0) (vs := vsOf v (col t)) (vsOf_len _ _) (by decide) (fun k hk => by
          rw [vsOf_len] at hk
          rw [vsOf_get hk, show 4 * 0 + k = k by omega]
          exact (hco k (by omega)).1)
        have g03 : gi σ2 0 0 3 = nI R.length := (p3.1 _ _ _ (by omega)).trans hd1.2.1
        generalize hσ3 : si σ2 0 0 3 (gi σ2 0 0 3 + 1) = σ3
        have q3 : fR σ σ3 := (fR_eqS s2).tr ((fR_fT p3).tr (by rw [← hσ3]; exact fR_si (by unfold rsI; omega)))
        have c3 : Ct σ3 N col (R ++ [(t, (key, vsOf v (col t)))]) := Ct_fC (by rw [← hσ3]; exact ⟨fun a b c hh => gi_ne (by omega), rfl⟩) p2
        have g3 : gi σ3 0 0 3 = nI (R.length + 1) := by rw [← hσ3, gi_eq, g03, nI_1]
        have m3 : Mo σ3 N col R := Mo_fr (fun a b c hh => by rw [← hσ3, gi_ne (by omega)]; exact p3.1 a b c (by omega)) (fun a b c hh => by rw [← hσ3]; exact p3.2.1 a b c (by omega)) hd1.2.2.1
        generalize hσ5 : si (sj σ3 44 0 ((0 : Int32).toNatClampNeg) 1) 9 0 0 0 = σ5
        have m5 : Mo σ5 N col R := Mo_fr (fun a b c hh => by rw [← hσ5, gi_ne (by omega)]; rfl) (fun a b c hh => by rw [← hσ5]; exact gj_ne (by omega)) m3
        have f5' : fI σ3 σ5 := by rw [← hσ5]; exact fI_out.tr fI_thr
        obtain ⟨x, x1, x2⟩ := rowOf_eq key m5.2.2.1 m5.2.2.2 f5 f6 (t := t) (by omega)
        have hx : x = -1 := by
          rcases x2 with ⟨y, -⟩ | ⟨j, d, ⟨y1, y2, y3⟩, -⟩
          · exact y
          · exact absurd ⟨d, mem_own.mpr (List.mem_of_getElem? y1), y2⟩ hK
        subst hx
        have hco5 := (Rt_fR (q3.tr f5'.2) hr).1
        obtain ⟨τ, l1, l2⟩ := ins_loop (key := key) (vs := vsOf v (col t)) m5 hlt ht f2 (by rw [vsOf_len]; exact k3) (vsOf_len _ _) (fun k hk => by
          rw [vsOf_len] at hk
          rw [vsOf_get hk]
          exact (hco5 k (by omega)).2)
        have mE := LI_end m5 f7 hlt (by rw [vsOf_len]; exact k2) (by rw [vsOf_len]; exact k3) l2
        have t0 : gi τ 9 0 0 = 0 := (l2.1 _ _ _ (by omega)).trans (by rw [← hσ5, gi_eq])
        have tj : gj τ 44 0 ((0 : Int32).toNatClampNeg) = 1 := (l2.2.1 _ _ _ (by omega)).trans (by rw [← hσ5, gj_si, gj_eq])
        refine ⟨si τ 9 0 3 (gi τ 9 0 3 + 1), ?_, N, col, R ++ [(t, (key, vsOf v (col t)))], v, Q, Rs, q, ⟨?_, ?_, mE, wR_app hd.2.2.2 hlt ht (vsOf_len _ _)⟩, ?_⟩
        · rw [t1 σ f3, bn2_eq, check_1, bnX_l, lt_eq, h03, if_neg e90, demand_1, bnX_l, chk_pos hin, hcl, chk_pos (by rw [f1]; exact ht), s1, bn2_eq, if_pos rfl, chk_pos hin, chk_pos (by rw [n1]; exact ht), p1, bnd_eq, lt_eq, hσ3, bnH_l, lt_eq, if_neg (by decide), chk_pos in01, lt_eq, bn2_eq, t2 (sj σ3 44 0 ((0 : Int32).toNatClampNeg) 1) m3.1, bn2_eq, lt_eq, lt_eq, i10, show gi (sj σ3 44 0 ((0 : Int32).toNatClampNeg) 1) 9 0 3 = nI R.length from m3.2.2.1, if_neg e91, hσ5, show gi σ5 9 0 0 = 0 by rw [← hσ5, gi_eq], if_neg (by decide), x1, bn2_eq, if_pos neg1_lt, l1, bnd_eq, lt_eq, bn2_eq, thr_eq, bn2_eq, gi_ne (by omega), t0, if_pos rfl, if_pos rfl, chk_pos in01, lt_eq, i10, gj_si, if_pos tj]
        · refine Ct_fC ⟨fun a b c hh => ?_, ?_⟩ c3
          · rw [gi_ne (by omega), l2.1 a b c (by omega)]
            exact f5'.1.1 a b c (by omega)
          · exact l2.2.2.2.1.trans f5'.1.2.2
        · rw [gi_ne (by omega), l2.1 _ _ _ (by omega), f5'.1.1 _ _ _ (by omega), g3, List.length_append, List.length_singleton]
        · exact Rt_fR (q3.tr (f5'.2.tr ((fR_LI l2).tr (fR_si (by unfold rsI; omega))))) hr
theorem law_3 {σ : Sg} (a1 a2 a3 a4 : Int32) (h : Iv σ) : ∃ σ', g_law_3 a1 a2 a3 a4 σ = some σ' ∧ Iv σ' := by
  unfold g_law_3
  generalize hky : ((a2.toInt64 <<< ((32 : Int32).toInt64 &&& 63)) ||| (a3.toInt64 &&& 4294967295)) = key
  have hi := h
  obtain ⟨N, col, R, v, Q, Rs, q, hd, hr⟩ := h
  obtain ⟨f1, f2, f3, f4, f5, f6, f7⟩ := Db_fit hd
  unfold f_Lw_delete f_TM_delete f_Md_delete
  rcases isT_cs N a1 f2 with ⟨t1, t2⟩ | ⟨t, ht, rfl, t1, t2⟩
  · refine ⟨si σ 9 0 0 1, ?_, Iv_fI fI_thr hi⟩
    rw [t1 σ f3, bn2_eq, check_0, bnX_r, bnH_r, if_pos rfl]
    show bn2 (some (1, σ)) _ = _
    rw [bn2_eq, t2 _ f4, bn2_eq, lt_eq, lt_eq, i00, gi_eq, if_neg le01, bn2_eq, thr_eq, gi_eq, bn2_eq, if_pos rfl, if_neg (by decide)]
  · have hin : vp_in (nI t) 3 := vp_in_nI (by omega) (by decide)
    have hcl : (nI t).toNatClampNeg = t := nI_clamp (by omega)
    obtain ⟨r, σ1, s1, s2, s3, s4⟩ := has_Ct hd.1 ht key
    have n1 : nt σ1 = N := s2.2.2.2.trans f1
    have hd1 := Db_fD (fD_eqS s2) hd
    by_cases hK : hasK key (own R t)
    · have hr1 := s3 hK
      subst hr1
      obtain ⟨x0, -, x02⟩ := rowOf_eq key hd.2.2.1.2.2.1 hd.2.2.1.2.2.2 f5 f6 (t := t) (by omega)
      rcases x02 with ⟨-, y⟩ | ⟨j, c, hj, -⟩
      · exact absurd hK y
      have hjl := (List.getElem?_eq_some_iff.mp hj.1).1
      obtain ⟨σ2, p1, p2, p3⟩ := remove_Ct hd1.1 ht (delR_perm hj.1)
      rw [hj.2.1] at p1
      have g03 : gi σ2 0 0 3 = nI R.length := (p3.1 _ _ _ (by omega)).trans hd1.2.1
      generalize hσ3 : si σ2 0 0 3 (gi σ2 0 0 3 - 1) = σ3
      have q3 : fR σ σ3 := (fR_eqS s2).tr ((fR_fT p3).tr (by rw [← hσ3]; exact fR_si (by unfold rsI; omega)))
      have c3 : Ct σ3 N col (delR R j) := Ct_fC (by rw [← hσ3]; exact ⟨fun a b c hh => gi_ne (by omega), rfl⟩) p2
      have g3 : gi σ3 0 0 3 = nI (R.length - 1) := by
        rw [← hσ3, gi_eq, g03]
        obtain ⟨L, hL⟩ : ∃ L, R.length = L + 1 := ⟨R.length - 1, by omega⟩
        rw [hL, nI_pred, Nat.add_sub_cancel]
      have m3 : Mo σ3 N col R := Mo_fr (fun a b c hh => by rw [← hσ3, gi_ne (by omega)]; exact p3.1 a b c (by omega)) (fun a b c hh => by rw [← hσ3]; exact p3.2.1 a b c (by omega)) hd1.2.2.1
      generalize hσ5 : si (sj σ3 44 0 ((0 : Int32).toNatClampNeg) 1) 9 0 0 0 = σ5
      have m5 : Mo σ5 N col R := Mo_fr (fun a b c hh => by rw [← hσ5, gi_ne (by omega)]; rfl) (fun a b c hh => by rw [← hσ5]; exact gj_ne (by omega)) m3
      have f5' : fI σ3 σ5 := by rw [← hσ5]; exact fI_out.tr fI_thr
      obtain ⟨x, x1, x2⟩ := rowOf_eq key m5.2.2.1 m5.2.2.2 f5 f6 (t := t) (by omega)
      rcases x2 with ⟨-, y⟩ | ⟨j', c', hj', rfl⟩
      · exact absurd hK y
      obtain ⟨e1, -⟩ := hit_uq hj' hj
      subst e1
      obtain ⟨σ6, w1, w2, w3⟩ := take_row m5 f7 f5 hjl
      have t0 : gi σ6 9 0 0 = 0 := (w3.1 _ _ _ (by omega)).trans (by rw [← hσ5, gi_eq])
      have tj : gj σ6 44 0 ((0 : Int32).toNatClampNeg) = 1 := (w3.2.1 _ _ _ (by omega)).trans (by rw [← hσ5, gj_si, gj_eq])
      refine ⟨σ6, ?_, N, col, delR R j', v, Q, Rs, q, ⟨?_, ?_, w2, wR_del hd.2.2.2 hj.1⟩, ?_⟩
      · rw [t1 σ f3, bn2_eq, check_1, bnX_l, chk_pos hin, hcl, chk_pos (by rw [f1]; exact ht), s1, bn2_eq, i10, chk_pos hin, chk_pos (by rw [n1]; exact ht), p1, bnd_eq, lt_eq, hσ3, bnH_l, lt_eq, if_neg (by decide), chk_pos in01, lt_eq, bn2_eq, t2 (sj σ3 44 0 ((0 : Int32).toNatClampNeg) 1) m3.1, bn2_eq, lt_eq, lt_eq, i10, hσ5, show gi σ5 9 0 0 = 0 by rw [← hσ5, gi_eq], if_pos le00, x1, bn2_eq, if_neg (nI_pos (by omega)), w1, bnd_eq, bnd_eq, lt_eq, if_neg (nI_pos (by omega)), chk_pos zb1, bn2_eq, thr_eq, bn2_eq, t0, if_pos rfl, if_pos rfl, chk_pos in01, lt_eq, i10, if_pos tj]
      · refine Ct_fC ⟨fun a b c hh => ?_, ?_⟩ c3
        · rw [w3.1 a b c (by omega)]
          exact f5'.1.1 a b c (by omega)
        · exact w3.2.2.2.trans f5'.1.2.2
      · rw [w3.1 _ _ _ (by omega), f5'.1.1 _ _ _ (by omega), g3, delR_len]
      · exact Rt_fR (q3.tr (f5'.2.tr (fR_fTk w3))) hr
    · have hr0 := s4 hK
      subst hr0
      have hf : fI σ (sj σ1 44 0 ((0 : Int32).toNatClampNeg) 0) := (fI_eqS s2).tr fI_out
      generalize hσ2 : sj σ1 44 0 ((0 : Int32).toNatClampNeg) 0 = σ2 at hf
      have hd2 := Db_fD hf.1 hd
      have hd3 := Db_fD (hf.1.tr (fI_thr (x := 0)).1) hd
      obtain ⟨x, x1, x2⟩ := rowOf_eq key hd3.2.2.1.2.2.1 hd3.2.2.1.2.2.2 f5 f6 (t := t) (by omega)
      have hx : x = -1 := by
        rcases x2 with ⟨y, -⟩ | ⟨j, d, ⟨y1, y2, y3⟩, -⟩
        · exact y
        · exact absurd ⟨d, mem_own.mpr (List.mem_of_getElem? y1), y2⟩ hK
      subst hx
      refine ⟨si σ2 9 0 0 0, ?_, Iv_fI (hf.tr fI_thr) hi⟩
      rw [t1 σ f3, bn2_eq, check_1, bnX_l, chk_pos hin, hcl, chk_pos (by rw [f1]; exact ht), s1, bn2_eq, if_pos rfl, bnH_l, lt_eq, if_pos rfl, chk_pos in01, lt_eq, bn2_eq, hσ2, t2 _ hd2.2.2.1.1, bn2_eq, lt_eq, lt_eq, i10, gi_eq, if_pos le00, x1, bn2_eq, if_pos neg1_lt, bnd_eq, lt_eq, if_pos neg1_lt, chk_pos zb0, bn2_eq, thr_eq, gi_eq, bn2_eq, if_pos rfl, if_pos rfl, chk_pos in01, lt_eq, if_pos rfl, if_pos ?_]
      rw [gj_si, ← hσ2, gj_eq]
theorem law_1 {σ : Sg} (a1 a2 a3 a4 : Int32) (h : Iv σ) : ∃ σ', g_law_1 a1 a2 a3 a4 σ = some σ' ∧ Iv σ' := by
  unfold g_law_1
  generalize hky : ((a3.toInt64 <<< ((32 : Int32).toInt64 &&& 63)) ||| (a4.toInt64 &&& 4294967295)) = key
  have hi := h
  obtain ⟨N, col, R, v, Q, Rs, q, hd, hr⟩ := h
  rw [lt_eq]
  unfold f_TM_set f_Md_set
  rcases i_cs a1 (N := 4) (by decide) with h1 | ⟨h1, h2⟩ | ⟨k, hk, rfl⟩
  · refine ⟨si σ 9 0 0 0, ?_, Iv_fI fI_thr hi⟩
    rw [if_pos h1, bn2_eq, lt_eq, lt_eq, if_pos h1, bn2_eq, if_pos rfl]
  · refine ⟨si σ 9 0 0 0, ?_, Iv_fI fI_thr hi⟩
    have h2' : (4 : Int32) ≤ a1 := h2
    have h3 : ¬ a1 ≤ 3 := fun z => by
      have y1 := le_toInt.mp h2'
      have y2 := le_toInt.mp z
      rw [show (4 : Int32).toInt = 4 by decide] at y1
      rw [show (3 : Int32).toInt = 3 by decide] at y2
      omega
    rw [if_neg h1, if_neg (Int32.not_lt.mpr h2'), bn2_eq, lt_eq, lt_eq, if_neg h1, if_neg h3, bn2_eq, if_pos rfl]
  · generalize ho : (if a2 = 0 then none else some key : Option Int64) = o
    have hob : ((if a2 = 0 then 0 else 1) : Int32) = ob o := by rw [← ho]; split <;> rfl
    have hval : (if ob o = 0 then 0 else key) = o.getD 0 := by
      rw [← ho]
      split
      · rw [ob_n, if_pos rfl]; rfl
      · rw [ob_s, if_neg (by decide)]; rfl
    rw [hob]
    have hk4 : nI k < (4 : Int32) := nI_lt (b := 4) hk (by decide)
    have hk3 : nI k ≤ (3 : Int32) := nI_le (b := 3) (by omega) (by decide)
    have hin : vp_in (nI k) 4 := vp_in_nI hk (by decide)
    have hcl : (nI k).toNatClampNeg = k := nI_clamp (by omega)
    have hset : (if ob o = 0 then (chk (vp_in (nI k) 4) ((f_Vl_none (4 * 0 + (nI k).toNatClampNeg) σ).bind (fun σ5 => some (σ5)))) else (chk (vp_in (nI k) 4) ((f_Vl_to (4 * 0 + (nI k).toNatClampNeg) key σ).bind (fun σ8 => some (σ8))))) = some (sV σ k o) := by
      rw [chk_pos hin, chk_pos hin, hcl, show 4 * 0 + k = k by omega, none_eq, to_eq, bnd_eq, bnd_eq, ← ho]
      by_cases ha : a2 = 0
      · rw [if_pos ha, ob_n, if_pos rfl]
      · rw [if_neg ha, ob_s, if_neg (by decide)]
    rw [if_neg (nI_pos (by omega)), if_pos hk4, hset, bnd_eq, bn2_eq, lt_eq, lt_eq, if_neg (nI_pos (by omega)), if_pos hk3, chk_pos hin, lt_eq, lt_eq, chk_pos hin, lt_eq, bn2_eq, if_pos rfl, hcl, nar_ob, hval]
    refine ⟨_, rfl, N, col, R, fun i => if i = k then o else v i, Q, Rs, q, ?_, ?_⟩
    · refine Db_fD (σ := σ) ⟨fun a b c hh => ?_, fun a b c hh => ?_, rfl⟩ hd
      · rw [gi_sj, gi_ne (by omega), gi_ne (by omega), gi_sV, if_neg (by omega)]
      · rw [gj_ne (by omega), gj_si, gj_si, gj_sV, if_neg (by omega)]
    · obtain ⟨c, ⟨p1, p2, p3⟩, ⟨r1, r2, r3⟩, ⟨q1, q2, q3⟩, o'⟩ := hr
      have k1 : ∀ a b c, ¬ (a = 5 ∧ b = k) → ¬ (a = 32 ∧ c = k) → ¬ (a = 9 ∧ c = 0) → gi (sj (si (si (sV σ k o) 9 0 0 0) 32 0 k (ob o)) 31 0 k (o.getD 0)) a b c = gi σ a b c := fun a b c x1 x2 x3 => by
        rw [gi_sj, gi_ne (by omega), gi_ne (by omega), gi_sV, if_neg (by omega)]
      have k2 : ∀ a b c, ¬ (a = 5 ∧ b = k) → ¬ (a = 31 ∧ c = k) → gj (sj (si (si (sV σ k o) 9 0 0 0) 32 0 k (ob o)) 31 0 k (o.getD 0)) a b c = gj σ a b c := fun a b c x1 x2 => by
        rw [gj_ne (by omega), gj_si, gj_si, gj_sV, if_neg (by omega)]
      refine ⟨fun i hi => ?_, ⟨Prc_fr (fun a b c hh => k1 a b c (by omega) (by omega) (by omega)) (fun _ _ _ _ => rfl) p1, Prm_fr (fun a b c hh => k1 a b c (by omega) (by omega) (by omega)) p2, p3⟩,
        ⟨Rsc_fr (fun a b c hh => k1 a b c (by omega) (by omega) (by omega)) (fun a b c hh => k2 a b c (by omega) (by omega)) r1, Rsm_fr (fun a b c hh => k1 a b c (by omega) (by omega) (by omega)) (fun a b c hh => k2 a b c (by omega) (by omega)) r2, r3⟩,
        ⟨Quc_fr (fun a b c hh => k1 a b c (by omega) (by omega) (by omega)) q1, Qum_fr (fun a b c hh => k1 a b c (by omega) (by omega) (by omega)) q2, q3⟩, o'⟩
      by_cases hik : i = k
      · subst hik
        simp only [if_true]
        refine ⟨⟨?_, ?_⟩, ?_, ?_⟩
        · rw [gi_sj, gi_ne (by omega), gi_ne (by omega), gi_sV, if_pos ⟨rfl, rfl, rfl⟩]
        · rw [gj_ne (by omega), gj_si, gj_si, gj_sV, if_pos ⟨rfl, rfl, rfl⟩]
        · rw [gi_sj, gi_eq]
        · rw [gj_eq]
      · simp only [hik, if_false]
        obtain ⟨⟨x1, x2⟩, x3, x4⟩ := c i hi
        exact ⟨⟨(k1 _ _ _ (by omega) (by omega) (by omega)).trans x1, (k2 _ _ _ (by omega) (by omega)).trans x2⟩, (k1 _ _ _ (by omega) (by omega) (by omega)).trans x3, (k2 _ _ _ (by omega) (by omega)).trans x4⟩
