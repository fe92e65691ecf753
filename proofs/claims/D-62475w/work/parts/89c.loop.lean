/-! the plain law: both machines run in step -/
section
variable {N : Nat} {col : Nat → Nat} {Q : List Ins}
theorem Prc_fK {σ σ' : Sg} (h : fKc σ σ') (hP : Prc σ Q) : Prc σ' Q := Prc_fr (fun a b c hh => h.1 a b c (by omega)) (fun a b c hh => h.2.2.1 a b c (by omega)) hP
theorem Prm_fK {σ σ' : Sg} (h : fKm σ σ') (hP : Prm σ Q) : Prm σ' Q := Prm_fr (fun a b c hh => h.1 a b c (by omega)) hP
theorem KM_si {τ : Sg} {R : List Row} {rg : Nat → Option Int64} {cu : Nat → Cur} {Rs : List Vals} {c : Nat} {x : Int32} (hc : c = 0 ∨ c = 17 ∨ c = 18) (h : KM τ N col R rg cu Rs) : KM (si τ 9 0 c x) N col R rg cu Rs := KM_fr h (fun a b d h1 h2 => gi_ne (by omega)) (fun _ _ _ _ _ => rfl)
theorem KC_halt {σ : Sg} {R : List Row} {rg : Nat → Option Int64} {cu : Nat → Cur} {Rs : List Vals} {x : Int32} (h : KC σ N col R rg cu Rs) : KC (si σ 0 0 14 x) N col R rg cu Rs := KC_fr h (fun a b c h => gi_ne (by omega)) (fun _ _ _ _ => rfl) (fun _ _ _ _ => rfl) rfl
/-- one step: both stop with the same code, or both go on -/
theorem step_ok {σ : Sg} {R : List Row} {rg : Nat → Option Int64} {cu : Nat → Cur} {Rs : List Vals} (hK : KC σ N col R rg cu Rs) (hP : Prc σ Q) (hw : wQ Q) (hs : ∀ x ∈ Q, snd1 N Q.length x) {pc : Nat} (hpc : pc < Q.length) :
    (∃ cd pc', (cd = 0 ∨ cd = 2 ∨ cd = 3) ∧ f_TM_step (nI pc) σ = some (pc', si σ 0 0 14 cd) ∧ ∀ τ, KM τ N col R rg cu Rs → Prm τ Q → gi τ 9 0 18 = nI pc → gi τ 9 0 17 = 0 → ∃ τ', f_Md_step τ = some (0, τ') ∧ KM τ' N col R rg cu Rs ∧ fKm τ τ' ∧ gi τ' 9 0 17 = cd) ∨
    (∃ pc' σ' R' rg' cu' Rs', pc' ≤ Q.length ∧ f_TM_step (nI pc) σ = some (nI pc', σ') ∧ KC σ' N col R' rg' cu' Rs' ∧ fKc σ σ' ∧ gi σ' 0 0 14 = gi σ 0 0 14 ∧ ∀ τ, KM τ N col R rg cu Rs → Prm τ Q → gi τ 9 0 18 = nI pc → ∃ τ', f_Md_step τ = some (1, τ') ∧ KM τ' N col R' rg' cu' Rs' ∧ fKm τ τ' ∧ gi τ' 9 0 18 = nI pc' ∧ gi τ' 9 0 17 = gi τ 9 0 17) := by
  obtain ⟨x, hx⟩ : ∃ x, Q[pc]? = some x := ⟨Q[pc], List.getElem?_eq_getElem hpc⟩
  have hxm := List.mem_of_getElem? hx
  have hok := hw.2 x hxm
  have hsn := hs x hxm
  have hI : insC σ pc x := hP.2 pc x hx
  have hIM : ∀ τ, Prm τ Q → insM τ pc x := fun τ h => h.2 pc x hx
  have h60 : pc < 60 := Nat.lt_of_lt_of_le hpc hw.1
  have ho := hok.1
  -- where it goes on
  have nxt : ∀ j : Int32, (j = 0 ∨ (j = 1 ∧ mgF (nI x.1) ≠ 0)) → ∃ pc', pc' ≤ Q.length ∧ nx x pc j = nI pc' := fun j hj => by
    rcases hj with rfl | ⟨rfl, hm⟩
    · exact ⟨pc + 1, hpc, if_pos rfl⟩
    · have e : nx x pc 1 = gl x := if_neg (by decide)
      have hl := hw.1
      rcases gl_cs hok with ⟨m, -⟩ | ⟨m, -, p, hp, g⟩ | ⟨m, -, p, hp, g⟩
      · exact absurd m hm
      · refine ⟨p, ?_, e.trans g⟩
        have := hsn.2
        rw [g] at this
        exact (nI_le_iff (by omega) (by omega)).mp this
      · refine ⟨p, ?_, e.trans g⟩
        have := hsn.2
        rw [g] at this
        exact (nI_le_iff (by omega) (by omega)).mp this
  by_cases h0 : x.1 = 0
  · left
    have hI0 : insC σ pc (0, x.2.1, x.2.2.1, x.2.2.2) := by rw [← h0]; exact hI
    have hwk : f_TM_works pc σ = some (0, si σ 0 0 14 0) := works_head hI0 (by decide) _ (by rw [if_pos (by decide), lt_eq])
    refine ⟨0, nx x pc 0, Or.inl rfl, step_w h60 hI ho (by rw [h0]; decide) hwk (fun z => absurd rfl z), fun τ hτ hPm h18 h17 => ⟨τ, ?_, hτ, fKm_rf τ, h17⟩⟩
    refine stepM_head h60 h18 (hIM τ hPm) ho _ ?_
    rw [if_pos (by rw [h0]; decide)]
  · have h0' : ¬ nI x.1 = 0 := fun z => h0 (nI_inj (by omega) (by decide) (z.trans (show (0 : Int32) = nI 0 from rfl)))
    rcases nd01 x.1 with hn | hn
    · by_cases hfull : x.1 = 18 ∧ Rs.length = 64
      · left
        obtain ⟨h18x, h64⟩ := hfull
        have hI18 : insC σ pc (18, x.2.1, x.2.2.1, x.2.2.2) := by rw [← h18x]; exact hI
        have hwk : f_TM_works pc σ = some (0, si σ 0 0 14 2) := works_head hI18 (by decide) _ (by
          rw [if_neg (by decide), if_neg (by decide), if_neg (by decide), if_neg (by decide), if_neg (by decide), if_neg (by decide), if_neg (by decide), if_pos (by decide)]
          unfold f_TM_tell
          rw [hK.2.2.2.2.2.1.1, h64, if_pos (show nI 64 = (64 : Int32) by decide), lt_eq, bnd_eq])
        refine ⟨2, nx x pc 0, Or.inr (Or.inl rfl), step_w h60 hI ho hn hwk (fun z => absurd rfl z), fun τ hτ hPm h18 h17 => ⟨si τ 9 0 17 2, ?_, KM_si (by omega) hτ, fKm_si (by omega), gi_eq⟩⟩
        refine stepM_head h60 h18 (hIM τ hPm) ho _ ?_
        rw [if_neg h0', hn, i00, if_pos (by rw [h18x]; decide), hτ.2.2.2.1, h64, if_pos (show nI 64 = (64 : Int32) by decide), lt_eq]
      · right
        obtain ⟨j, σ', R', rg', cu', Rs', hj, hwk, hK', hf, hh, hmm⟩ := disp_w hK hI hok hsn h0 hn (fun z => by
          have := hK.2.2.2.2.2.2.1
          rcases Nat.lt_or_ge Rs.length 64 with y | y
          · exact y
          · exact absurd ⟨z, by omega⟩ hfull)
        obtain ⟨pc', hpc', hnx⟩ := nxt j hj
        have hst := step_w h60 hI ho hn hwk (fun _ => insC_fr hf hI)
        rw [hnx] at hst
        refine ⟨pc', σ', R', rg', cu', Rs', hpc', hst, hK', hf, hh, fun τ hτ hPm h18 => ?_⟩
        obtain ⟨τ', m1, m2, m3, m4, m5⟩ := hmm τ hτ
        refine ⟨si τ' 9 0 18 (nI pc'), ?_, KM_si (by omega) m2, m3.tr (fKm_si (by omega)), gi_eq, by rw [gi_ne (by omega)]; exact m5⟩
        refine stepM_head h60 h18 (hIM τ hPm) ho _ ?_
        have m1' : f_Md_without (nI x.1) x.2.1 x.2.2.1 x.2.2.2 τ = some (j, τ') := m1
        have n64 : nI x.1 = 18 → ¬ gi τ 9 0 19 = 64 := fun z y => by
          rw [hτ.2.2.2.1] at y
          have h1 := nI_inj (by omega) (by decide) (z.trans (show (18 : Int32) = nI 18 by decide))
          have h2 := hK.2.2.2.2.2.2.1
          have h3 := nI_inj (by omega) (by decide) (y.trans (show (64 : Int32) = nI 64 by decide))
          exact hfull ⟨h1, h3⟩
        rw [if_neg h0', hn, i00, m1', stepM_go hok (m4.trans h18) hj, hnx]
        by_cases h18x : nI x.1 = 18
        · rw [if_pos h18x, if_neg (n64 h18x)]
        · rw [if_neg h18x]
    · have hc99 : chr x.1 0 = 99 := by
        unfold nd at hn
        by_cases h1 : x.1 = 1
        · rw [if_pos h1] at hn; exact absurd hn (by decide)
        · rw [if_neg h1] at hn
          by_cases h2 : chr x.1 0 = 99
          · exact h2
          · rw [if_neg h2] at hn; exact absurd hn (by decide)
      have h2 := hok.2.1
      rw [hc99] at h2
      obtain ⟨k, hk, hxk⟩ := ex_c h2
      have hck : (nI k).toNatClampNeg = k := nI_clamp (by omega)
      have hcu := hK.2.2.2.2.1 k hk
      cases hc : cu k with
      | none =>
        left
        rw [hc] at hcu
        refine ⟨3, nI pc, Or.inr (Or.inr rfl), step_3 h60 hI ho hn hk hxk hcu, fun τ hτ hPm h18 h17 => ⟨si τ 9 0 17 3, ?_, KM_si (by omega) hτ, fKm_si (by omega), gi_eq⟩⟩
        have h36 := hτ.2.2.1 k hk
        rw [hc] at h36
        have h36' : gi τ 36 0 k = -1 := h36
        refine stepM_head h60 h18 (hIM τ hPm) ho _ ?_
        rw [if_neg h0', hn, i10, hxk, chk_pos (vc3 hk), hck, h36', if_neg n0p, lt_eq]
      | some p =>
        right
        obtain ⟨t, q⟩ := p
        obtain ⟨j, σ', R', rg', cu', Rs', hj, hwk, hK', hf, hh, hmm⟩ := disp_m hK hI hok hn hk hxk hc
        obtain ⟨pc', hpc', hnx⟩ := nxt j hj
        obtain ⟨c1', c2', c3', c4'⟩ := cu_open hK hk hc
        have hst := step_m h60 hI ho hn hk hxk c2' hwk (fun _ => insC_fr hf hI)
        rw [hnx] at hst
        refine ⟨pc', σ', R', rg', cu', Rs', hpc', hst, hK', hf, hh, fun τ hτ hPm h18 => ?_⟩
        obtain ⟨τ', m1, m2, m3, m4, m5⟩ := hmm τ hτ
        refine ⟨si τ' 9 0 18 (nI pc'), ?_, KM_si (by omega) m2, m3.tr (fKm_si (by omega)), gi_eq, by rw [gi_ne (by omega)]; exact m5⟩
        refine stepM_head h60 h18 (hIM τ hPm) ho _ ?_
        have m1' : f_Md_withCursor (nI x.1) (nI k) x.2.2.1 x.2.2.2 τ = some (j, τ') := m1
        have hN := (KC_N hK).2
        rw [if_neg h0', hn, i10, hxk, chk_pos (vc3 hk), hck, mo_t hτ hk hc, if_pos (nI_pos' (by omega)), m1']
        rw [← hxk, stepM_go hok (m4.trans h18) hj, hnx]
/-- the whole run -/
theorem run_ok (hw : wQ Q) (hs : ∀ x ∈ Q, snd1 N Q.length x) {T : Nat} (hT : T ≤ 4000) : ∀ (n pc s : Nat) (σ : Sg) (R : List Row) (rg : Nat → Option Int64) (cu : Nat → Cur) (Rs : List Vals) (m : Nat), n + s = T → KC σ N col R rg cu Rs → Prc σ Q → gi σ 0 0 14 = -1 → pc ≤ Q.length → n + 3 ≤ m →
    ∃ σ' R' rg' cu' Rs' cd, lp (fun q => b_TM_run_95 (nI T) q.1 q.2.1 q.2.2) m (nI pc, nI s, σ) = some σ' ∧ KC σ' N col R' rg' cu' Rs' ∧ fKc σ σ' ∧ gi σ' 0 0 14 = cd ∧
      ∀ τ m', KM τ N col R rg cu Rs → Prm τ Q → gi τ 9 0 18 = nI pc → gi τ 9 0 17 = 0 → n + 3 ≤ m' → ∃ τ', KM τ' N col R' rg' cu' Rs' ∧ fKm τ τ' ∧ ((lp (fun q => b_Md_run_103 (nI T) q.1 q.2.1 q.2.2) m' (nI s, 1, τ) = some (.inr τ') ∧ gi τ' 9 0 17 = cd) ∨ (lp (fun q => b_Md_run_103 (nI T) q.1 q.2.1 q.2.2) m' (nI s, 1, τ) = some (.inl τ') ∧ cd = 1)) := by
  -- the class stops
  have stop : ∀ (pc' s' : Int32) (σ : Sg) (cd : Int32) (m : Nat), 0 ≤ cd → gi σ 0 0 14 = cd → 1 ≤ m → lp (fun q => b_TM_run_95 (nI T) q.1 q.2.1 q.2.2) m (pc', s', σ) = some σ := fun pc' s' σ cd m h0 h1 hm => by
    obtain ⟨m, rfl⟩ : ∃ m', m = m' + 1 := ⟨m - 1, by omega⟩
    rw [lp_r (e := σ)]
    show b_TM_run_95 (nI T) pc' s' σ = _
    unfold b_TM_run_95
    rw [h1, if_pos h0]
  have neg : ¬ (0 : Int32) ≤ -1 := n0p
  intro n
  induction n with
  | zero =>
    intro pc s σ R rg cu Rs m hns hK hP h14 hpc hm
    have hsT : s = T := by omega
    subst hsT
    obtain ⟨m, rfl⟩ : ∃ m', m = m' + 1 := ⟨m - 1, by omega⟩
    by_cases hend : pc = Q.length
    · have st : b_TM_run_95 (nI s) (nI pc) (nI s) σ = some (.inl (nI pc, nI (s + 1), si σ 0 0 14 0)) := by
        unfold b_TM_run_95
        rw [h14, if_neg neg, hP.1, if_pos (by rw [hend]), lt_eq, bn2_eq, lt_eq, nI_1]
      refine ⟨si σ 0 0 14 0, R, rg, cu, Rs, 0, ?_, KC_halt hK, fKc_si (by omega), gi_eq, fun τ m' hτ hPm h18 h17 hm' => ⟨τ, hτ, fKm_rf τ, Or.inl ⟨?_, h17⟩⟩⟩
      · rw [lp_l (s' := (nI pc, nI (s + 1), si σ 0 0 14 0)) st]
        exact stop _ _ _ 0 m (by decide) gi_eq (by omega)
      · obtain ⟨m', rfl⟩ : ∃ m'', m' = m'' + 1 := ⟨m' - 1, by omega⟩
        rw [lp_r (e := .inr τ)]
        show b_Md_run_103 (nI s) (nI s) 1 τ = _
        unfold b_Md_run_103
        rw [if_neg (by decide), hPm.1, h18, if_pos (by rw [hend]; exact Int32.le_refl _)]
    · have hlt : pc < Q.length := by omega
      have hl := hw.1
      have hne : ¬ nI pc = nI Q.length := fun z => hend (nI_inj (by omega) (by omega) z)
      have st : b_TM_run_95 (nI s) (nI pc) (nI s) σ = some (.inl (nI pc, nI (s + 1), si σ 0 0 14 1)) := by
        unfold b_TM_run_95
        rw [h14, if_neg neg, hP.1, if_neg hne, if_pos rfl, lt_eq, bn2_eq, lt_eq, nI_1]
      refine ⟨si σ 0 0 14 1, R, rg, cu, Rs, 1, ?_, KC_halt hK, fKc_si (by omega), gi_eq, fun τ m' hτ hPm h18 h17 hm' => ⟨τ, hτ, fKm_rf τ, Or.inr ⟨?_, rfl⟩⟩⟩
      · rw [lp_l (s' := (nI pc, nI (s + 1), si σ 0 0 14 1)) st]
        exact stop _ _ _ 1 m (by decide) gi_eq (by omega)
      · obtain ⟨m', rfl⟩ : ∃ m'', m' = m'' + 1 := ⟨m' - 1, by omega⟩
        rw [lp_r (e := .inl τ)]
        show b_Md_run_103 (nI s) (nI s) 1 τ = _
        unfold b_Md_run_103
        rw [if_neg (by decide), hPm.1, h18, if_neg (nI_ge hlt (by omega)), if_pos rfl]
  | succ n ih =>
    intro pc s σ R rg cu Rs m hns hK hP h14 hpc hm
    obtain ⟨m, rfl⟩ : ∃ m', m = m' + 1 := ⟨m - 1, by omega⟩
    have hl := hw.1
    by_cases hend : pc = Q.length
    · have st : b_TM_run_95 (nI T) (nI pc) (nI s) σ = some (.inl (nI pc, nI (s + 1), si σ 0 0 14 0)) := by
        unfold b_TM_run_95
        rw [h14, if_neg neg, hP.1, if_pos (by rw [hend]), lt_eq, bn2_eq, lt_eq, nI_1]
      refine ⟨si σ 0 0 14 0, R, rg, cu, Rs, 0, ?_, KC_halt hK, fKc_si (by omega), gi_eq, fun τ m' hτ hPm h18 h17 hm' => ⟨τ, hτ, fKm_rf τ, Or.inl ⟨?_, h17⟩⟩⟩
      · rw [lp_l (s' := (nI pc, nI (s + 1), si σ 0 0 14 0)) st]
        exact stop _ _ _ 0 m (by decide) gi_eq (by omega)
      · obtain ⟨m', rfl⟩ : ∃ m'', m' = m'' + 1 := ⟨m' - 1, by omega⟩
        rw [lp_r (e := .inr τ)]
        show b_Md_run_103 (nI T) (nI s) 1 τ = _
        unfold b_Md_run_103
        rw [if_neg (by decide), hPm.1, h18, if_pos (by rw [hend]; exact Int32.le_refl _)]
    · have hlt : pc < Q.length := by omega
      have hne : ¬ nI pc = nI Q.length := fun z => hend (nI_inj (by omega) (by omega) z)
      have hsT : ¬ nI s = nI T := fun z => by
        have := nI_inj (by omega) (by omega) z
        omega
      have mst : ∀ τ (g : Int32) (τ' : Sg), Prm τ Q → gi τ 9 0 18 = nI pc → f_Md_step τ = some (g, τ') → b_Md_run_103 (nI T) (nI s) 1 τ = some (.inl (nI (s + 1), g, τ')) := fun τ g τ' hPm h18 he => by
        unfold b_Md_run_103
        rw [if_neg (by decide), hPm.1, h18, if_neg (nI_ge hlt (by omega)), if_neg hsT, he, bn2_eq, lt_eq, nI_1]
      rcases step_ok hK hP hw hs hlt with ⟨cd, pc', hcd, hst, hmm⟩ | ⟨pc', σ', R', rg', cu', Rs', hpc', hst, hK', hf, hh, hmm⟩
      · have hcd0 : 0 ≤ cd := by
          rcases hcd with rfl | rfl | rfl <;> decide
        have st : b_TM_run_95 (nI T) (nI pc) (nI s) σ = some (.inl (pc', nI (s + 1), si σ 0 0 14 cd)) := by
          unfold b_TM_run_95
          rw [h14, if_neg neg, hP.1, if_neg hne, if_neg hsT, hst, bn2_eq, bn2_eq, lt_eq, nI_1]
        refine ⟨si σ 0 0 14 cd, R, rg, cu, Rs, cd, ?_, KC_halt hK, fKc_si (by omega), gi_eq, fun τ m' hτ hPm h18 h17 hm' => ?_⟩
        · rw [lp_l (s' := (pc', nI (s + 1), si σ 0 0 14 cd)) st]
          exact stop _ _ _ cd m hcd0 gi_eq (by omega)
        · obtain ⟨τ', k1, k2, k3, k4⟩ := hmm τ hτ hPm h18 h17
          refine ⟨τ', k2, k3, Or.inl ⟨?_, k4⟩⟩
          obtain ⟨m', rfl⟩ : ∃ m'', m' = m'' + 2 := ⟨m' - 2, by omega⟩
          rw [lp_l (s' := (nI (s + 1), 0, τ')) (mst τ 0 τ' hPm h18 k1), lp_r (e := .inr τ')]
          show b_Md_run_103 (nI T) (nI (s + 1)) 0 τ' = _
          unfold b_Md_run_103
          rw [if_pos rfl]
      · have st : b_TM_run_95 (nI T) (nI pc) (nI s) σ = some (.inl (nI pc', nI (s + 1), σ')) := by
          unfold b_TM_run_95
          rw [h14, if_neg neg, hP.1, if_neg hne, if_neg hsT, hst, bn2_eq, bn2_eq, lt_eq, nI_1]
        obtain ⟨σ'', R'', rg'', cu'', Rs'', cd, a1, a2, a3, a4, a5⟩ := ih pc' (s + 1) σ' R' rg' cu' Rs' m (by omega) hK' (Prc_fK hf hP) (hh.trans h14) hpc' (by omega)
        refine ⟨σ'', R'', rg'', cu'', Rs'', cd, ?_, a2, hf.tr a3, a4, fun τ m' hτ hPm h18 h17 hm' => ?_⟩
        · rw [lp_l (s' := (nI pc', nI (s + 1), σ')) st]
          exact a1
        · obtain ⟨τ', k1, k2, k3, k4, k5⟩ := hmm τ hτ hPm h18
          obtain ⟨m', rfl⟩ : ∃ m'', m' = m'' + 1 := ⟨m' - 1, by omega⟩
          obtain ⟨τ'', b1, b2, b3⟩ := a5 τ' m' k2 (Prm_fK k3 hPm) k4 (k5.trans h17) (by omega)
          refine ⟨τ'', b1, k3.tr b2, ?_⟩
          rw [lp_l (s' := (nI (s + 1), 1, τ')) (mst τ 1 τ' hPm h18 k1)]
          exact b3
end
