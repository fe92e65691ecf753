/-! the plain law: compile -/
theorem Iv_comp {σ σ1 σ3 : Sg} {N : Nat} {col : Nat → Nat} {R : List Row} {v : Nat → Option Int64} {Q Q' : List Ins} {Rs : List Vals} {q : Que} {z : Int64} (hd : Db σ N col R) (hr : Rt σ N v Q Rs q) (f1 : fEm σ σ1) (c1 : Prc σ1 Q') (f3 : fPm (sj σ1 44 0 ((0 : Int32).toNatClampNeg) z) σ3) (c3 : Prm σ3 Q') (hw : wQ Q') : Iv σ3 := by
  obtain ⟨cc, ⟨p1, p2, p3⟩, ⟨r1, r2, r3⟩, ⟨q1, q2, q3⟩, oo⟩ := hr
  have k3 : ∀ a b c, ¬ (a = 16 ∨ (a = 0 ∧ c = 8)) → ¬ (a = 33 ∨ (a = 9 ∧ (c = 10 ∨ c = 0))) → gi σ3 a b c = gi σ a b c := fun a b c z1 z2 => by
    rw [f3.1 a b c z2, gi_sj]
    exact f1.1 a b c z1
  have j3 : ∀ a b c, ¬ a = 44 → gj σ3 a b c = gj σ a b c := fun a b c z1 => by
    rw [f3.2.1, gj_ne (by omega)]
    exact f1.2.1 a b c
  have r3' : ∀ a b c, ¬ a = 6 → gr σ3 a b c = gr σ a b c := fun a b c z1 => by
    rw [f3.2.2.1]
    exact f1.2.2.1 a b c z1
  have nt3 : nt σ3 = nt σ := by rw [f3.2.2.2]; exact f1.2.2.2
  refine ⟨N, col, R, v, Q', Rs, q, Db_fD ⟨fun a b c hh => k3 a b c (by omega) (by omega), fun a b c hh => j3 a b c (by omega), nt3⟩ hd, Co_fr (fun a b c hh => k3 a b c (by omega) (by omega)) (fun a b c hh => j3 a b c (by omega)) cc, ⟨?_, c3, hw⟩, ⟨Rsc_fr (fun a b c hh => k3 a b c (by omega) (by omega)) (fun a b c hh => j3 a b c (by omega)) r1, Rsm_fr (fun a b c hh => k3 a b c (by omega) (by omega)) (fun a b c hh => j3 a b c (by omega)) r2, r3⟩, ⟨Quc_fr (fun a b c hh => k3 a b c (by omega) (by omega)) q1, Qum_fr (fun a b c hh => k3 a b c (by omega) (by omega)) q2, q3⟩, fun i t hi ht => by rw [nt3]; exact oo i t hi ((r3' 7 i 0 (by omega)).symm.trans ht)⟩
  refine Prc_fr (σ := σ1) (fun a b c hh => ?_) (fun a b c hh => ?_) c1
  · rw [f3.1 a b c (by omega), gi_sj]
  · rw [f3.2.2.1]; rfl
theorem law_18 {σ : Sg} (a1 a2 a3 a4 : Int32) (h : Iv σ) : ∃ σ', g_law_18 a1 a2 a3 a4 σ = some σ' ∧ Iv σ' := by
  unfold g_law_18
  have hi := h
  obtain ⟨N, col, R, v, Q, Rs, ⟨q1, q2, cs, os, j0, j1, j2⟩, hd, hr⟩ := h
  obtain ⟨f1, f2, f3, f4, f5, f6, f7⟩ := Db_fit hd
  obtain ⟨qc, qm, qw⟩ := hr.2.2.2.1
  obtain ⟨x1, x2, x3, x4, x5, x6, x7, x8, x9⟩ := qc
  obtain ⟨y1, y2, y3, y4, y5, y6, y7, y8, y9⟩ := qm
  obtain ⟨u1, u2, u3, u4, u5, u6, u7, u8, u9⟩ := qw
  have hcs : cs.length ≤ 4 := u4
  have hos : os.length ≤ 4 := u5
  have x1' : gi σ 0 0 15 = q1 := x1
  have y1' : gi σ 9 0 23 = q1 := y1
  have x4' : gi σ 0 0 20 = nI os.length := x4
  have y4' : gi σ 9 0 25 = nI os.length := y4
  have hck : ∀ c ∈ cs, okC2 c ∧ qC c.2.1 := fun c hc => ⟨(u6 c hc).2.2, (u6 c hc).2.1⟩
  have hk : ∀ c ∈ cs, okC2 c := fun c hc => (u6 c hc).2.2
  have hok : ∀ x ∈ os, (x.1 = 0 ∨ x.1 = 1) ∧ qC x.2 := fun x hx => ⟨(u7 x hx).1.imp id (fun z => z.1), (u7 x hx).2⟩
  have bad : ((if q1 = (-1) then 0 else (if nI os.length ≤ 0 then 0 else 1)) : Int32) = 0 → ((if q1 < 0 then 1 else (if nI os.length = 0 then 1 else 0)) : Int32) = 1 → ∃ σ', bn2 (f_Lw_compile σ) (fun (r224 : Int32) (σ222 : Sg) => bn2 (f_Md_compile σ222) (fun (r227 : Int32) (σ225 : Sg) => bn2 (f_Md_thrown σ225) (fun (r230 : Int32) (σ228 : Sg) => (if r230 = r224 then (if r224 = 0 then (chk (vp_in 0 1) ((if (gj σ228 44 0 ((0 : Int32).toNatClampNeg)) = r227.toInt64 then (some σ228) else none))) else (some σ228)) else none)))) = some σ' ∧ Iv σ' := fun e1 e2 => by
    refine ⟨si σ 9 0 0 1, ?_, Iv_fI fI_thr hi⟩
    have c1 : f_TM_compile σ = some (.inr 1, σ) := by
      unfold f_TM_compile
      rw [lt_eq, x1', x4', e1, demand_0, bnX_r]
    have c2 : f_Md_compile σ = some (0, si σ 9 0 0 1) := by
      unfold f_Md_compile
      rw [lt_eq, y1', y4', e2, lt_eq, gi_eq, if_neg le01]
    unfold f_Lw_compile
    rw [c1, bnH_r, if_pos rfl]
    show bn2 (some (1, σ)) _ = _
    rw [bn2_eq, c2, bn2_eq, thr_eq, bn2_eq, gi_eq, if_pos rfl, if_neg (by decide)]
  rcases u1 with z | ⟨t, ht, hq1⟩
  · have z' : q1 = -1 := z
    exact bad (by rw [if_pos z']) (by rw [z', if_pos neg1_lt])
  have hq1' : q1 = nI t := hq1
  have hn1 : q1 ≠ -1 := by rw [hq1']; exact neg1_nI (by omega)
  have hn1' : ¬ q1 < 0 := by rw [hq1']; exact nI_pos (by omega)
  by_cases h0 : os.length = 0
  · exact bad (by rw [if_neg hn1, h0, if_pos (by decide)]) (by rw [if_neg hn1', h0, if_pos (by decide)])
  clear bad
  have h1 : 1 ≤ os.length := by omega
  have fin : ∀ (n : Nat) (F : List Ins) (σ1 : Sg), f_TM_compile σ = some (.inl (nI n), σ1) → Prc σ1 F → fEm σ σ1 → wQ F → (∃ σ3, f_Md_compile (sj σ1 44 0 ((0 : Int32).toNatClampNeg) (nI n).toInt64) = some (nI n, σ3) ∧ Prm σ3 F ∧ fPm (sj σ1 44 0 ((0 : Int32).toNatClampNeg) (nI n).toInt64) σ3 ∧ gi σ3 9 0 0 = 0) → ∃ σ', bn2 (f_Lw_compile σ) (fun (r224 : Int32) (σ222 : Sg) => bn2 (f_Md_compile σ222) (fun (r227 : Int32) (σ225 : Sg) => bn2 (f_Md_thrown σ225) (fun (r230 : Int32) (σ228 : Sg) => (if r230 = r224 then (if r224 = 0 then (chk (vp_in 0 1) ((if (gj σ228 44 0 ((0 : Int32).toNatClampNeg)) = r227.toInt64 then (some σ228) else none))) else (some σ228)) else none)))) = some σ' ∧ Iv σ' := fun n F σ1 e1 e2 e3 e4 ⟨σ3, g1, g2, g3, g4⟩ => by
    refine ⟨σ3, ?_, Iv_comp hd hr e3 e2 g3 g2 e4⟩
    unfold f_Lw_compile
    rw [e1, bnH_l, chk_pos in01, lt_eq, bn2_eq, g1, bn2_eq, thr_eq, bn2_eq, g4, if_pos rfl, if_pos rfl, chk_pos in01, if_pos ?_]
    rw [g3.2.1]
    exact gj_eq
  have mf : ∀ (σ1 : Sg) (z : Int64), fEm σ σ1 → ∀ a b c, ¬ (a = 16 ∨ (a = 0 ∧ c = 8)) → gi (sj σ1 44 0 ((0 : Int32).toNatClampNeg) z) a b c = gi σ a b c := fun σ1 z hf a b c hn => by rw [gi_sj]; exact hf.1 a b c hn
  have mC : ∀ (σ1 : Sg) (z : Int64), fEm σ σ1 → Cdm (sj σ1 44 0 ((0 : Int32).toNatClampNeg) z) cs := fun σ1 z hf => ⟨(mf σ1 z hf _ _ _ (by omega)).trans y3, fun i x hx => ⟨(mf σ1 z hf _ _ _ (by omega)).trans (y8 i x hx).1, (mf σ1 z hf _ _ _ (by omega)).trans (y8 i x hx).2.1, (mf σ1 z hf _ _ _ (by omega)).trans (y8 i x hx).2.2.1, (mf σ1 z hf _ _ _ (by omega)).trans (y8 i x hx).2.2.2⟩⟩
  have mO : ∀ (σ1 : Sg) (z : Int64), fEm σ σ1 → Otm (sj σ1 44 0 ((0 : Int32).toNatClampNeg) z) os := fun σ1 z hf => ⟨(mf σ1 z hf _ _ _ (by omega)).trans y4, fun i x hx => ⟨(mf σ1 z hf _ _ _ (by omega)).trans (y9 i x hx).1, (mf σ1 z hf _ _ _ (by omega)).trans (y9 i x hx).2⟩⟩
  have cC : Cdc σ cs := ⟨x3, x8⟩
  have cO : Otc σ os := ⟨x4, x9⟩
  rcases u2 with z | ⟨s, hs, hq2⟩
  · have z' : q2 = -1 := z
    have x2' : gi σ 0 0 16 = -1 := x2.trans z
    obtain ⟨σ1, e1, e2, e3⟩ := compU_c x1' x2' hn1 cC cO hcs h1 hos hk
    refine fin _ _ σ1 e1 e2 e3 ?_ ?_
    · rw [hq1']
      exact (finU_ok (by omega) hcs h1 hos hck hok).1
    · exact compU_m ((mf σ1 _ e3 _ _ _ (by omega)).trans y1) ((mf σ1 _ e3 _ _ _ (by omega)).trans (y2.trans z)) hn1' (mC σ1 _ e3) (mO σ1 _ e3) hcs h1 hos hk
  · have hq2' : q2 = nI s := hq2
    have hn2 : q2 ≠ -1 := by rw [hq2']; exact neg1_nI (by omega)
    have hn2' : ¬ q2 < 0 := by rw [hq2']; exact nI_pos (by omega)
    obtain ⟨σ1, e1, e2, e3⟩ := compJ_c x1' x2 x5 x6 x7 hn1 hn2 cC cO hcs h1 hos hk
    refine fin _ _ σ1 e1 e2 e3 ?_ ?_
    · have hjj : j0 ≠ 0 → qC j1 ∧ qC j2 := fun hz => by
        have u8' : zb j0 := u8
        rcases u8' with w | w
        · exact absurd w hz
        · exact (u9 w).2
      have := (finJ_ok (t := t) (s := s) (j0 := j0) (j1 := j1) (j2 := j2) (by omega) (by omega) hcs h1 hos hck hok hjj).1
      rw [← hq1', ← hq2'] at this
      exact this
    · exact compJ_m ((mf σ1 _ e3 _ _ _ (by omega)).trans y1) ((mf σ1 _ e3 _ _ _ (by omega)).trans y2) ((mf σ1 _ e3 _ _ _ (by omega)).trans y5) ((mf σ1 _ e3 _ _ _ (by omega)).trans y6) ((mf σ1 _ e3 _ _ _ (by omega)).trans y7) hn1' hn2' (mC σ1 _ e3) (mO σ1 _ e3) hcs h1 hos hk
