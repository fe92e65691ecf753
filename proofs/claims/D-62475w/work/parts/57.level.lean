/-! the plain law: one level of the way up -/
theorem lvl {A B es : List Ent} {e0 : Ent} {lo : Option Int64} {p : Nat} (hE : A ++ hole lo p :: B = e0 :: es) (f : Int64) (x : Nat) (Ma Mb : List Cel) (Pa Pb : List Nat) : ∃ (e0' : Ent) (es' : List Ent) (ca cb : List ICel), A ++ (lo, p, Ma, Pa) :: (some f, x, Mb, Pb) :: B = e0' :: es' ∧ e0'.1 = e0.1 ∧ e0'.2.1 = e0.2.1 ∧ es.map ic = ca ++ cb ∧ ca.length = A.length ∧ es'.map ic = ca ++ (f, x) :: cb ∧ (∀ e ∈ es', e ∈ es ∨ e.1 = some f ∨ (e.1 = lo ∧ hole lo p ∈ es)) := by
  cases A with
  | nil =>
    rw [List.nil_append] at hE
    obtain ⟨rfl, rfl⟩ := List.cons.inj hE
    refine ⟨(lo, p, Ma, Pa), (some f, x, Mb, Pb) :: B, [], B.map ic, rfl, rfl, rfl, rfl, rfl, rfl, ?_⟩
    intro e he
    rcases List.mem_cons.mp he with rfl | he
    · exact Or.inr (Or.inl rfl)
    · exact Or.inl he
  | cons a A' =>
    rw [List.cons_append] at hE
    obtain ⟨rfl, rfl⟩ := List.cons.inj hE
    refine ⟨a, A' ++ (lo, p, Ma, Pa) :: (some f, x, Mb, Pb) :: B, A'.map ic ++ [ic (hole lo p)], B.map ic, rfl, rfl, rfl, ?_, ?_, ?_, ?_⟩
    · rw [List.map_append, List.map_cons, List.append_assoc, List.singleton_append]
    · rw [List.length_append, List.length_map, List.length_singleton, List.length_cons]
    · rw [List.map_append, List.map_cons, List.map_cons, List.append_assoc, List.singleton_append]
      rfl
    · intro e he
      rcases List.mem_append.mp he with he | he
      · exact Or.inl (List.mem_append_left _ he)
      · rcases List.mem_cons.mp he with rfl | he
        · exact Or.inr (Or.inr ⟨rfl, List.mem_append_right _ List.mem_cons_self⟩)
        · rcases List.mem_cons.mp he with rfl | he
          · exact Or.inr (Or.inl rfl)
          · exact Or.inl (List.mem_append_right _ (List.mem_cons_of_mem _ he))
theorem map_cut {es : List Ent} : ∀ {A : List ICel} {c : ICel} {B : List ICel}, es.map ic = A ++ c :: B → ∃ EA ec EB, es = EA ++ ec :: EB ∧ EA.map ic = A ∧ ic ec = c ∧ EB.map ic = B := by
  intro A c B h
  obtain ⟨EA, EB0, h1, h2, h3⟩ := List.map_eq_append_iff.mp h
  obtain ⟨ec, EB, h4, h5, h6⟩ := List.map_eq_cons_iff.mp h3
  exact ⟨EA, ec, EB, by rw [h1, h4], h2, h5, h6⟩
theorem level_eq {t n q p x y : Nat} {f : Int64} {lo hi loq hiq : Option Int64} {A B es : List Ent} {e0 : Ent} {Ma Mb : List Cel} {Pa Pb F : List Nat} {σ : Sg} (hq : q < 240) (hE : A ++ hole lo p :: B = e0 :: es) (hPI : PI σ q e0.2.1 (es.map ic)) (hes : ∀ e ∈ es, e.1.isSome = true ∧ (∀ b, e.1 = some b → oLo loq b ∧ oHi hiq b)) (h0 : e0.1 = loq) (hhi : hi = nL B hiq) (hA : Ks (TA σ n) A lo) (hB : Ks (TA σ n) B hiq) (ha : TA σ n p lo (some f) Ma Pa) (hb : TA σ n x (some f) hi Mb Pb) (hMa : Ma ≠ []) (hMb : Mb ≠ []) (hF : FL σ (F ++ [y])) (hnd : ((q :: fP (A ++ (lo, p, Ma, Pa) :: (some f, x, Mb, Pb) :: B)) ++ (F ++ [y])).Nodup) :
    (∃ σ', f_Tr_widen t (nI q) (nI A.length) f (nI x) σ = some (0, σ') ∧ TA σ' n q loq hiq (fM (A ++ (lo, p, Ma, Pa) :: (some f, x, Mb, Pb) :: B)) (q :: fP (A ++ (lo, p, Ma, Pa) :: (some f, x, Mb, Pb) :: B)) ∧ FL σ' (F ++ [y]) ∧ cg (fun p => p = q) σ σ') ∨
    (∃ σ' f' La Lb, fM La ++ fM Lb = fM (A ++ (lo, p, Ma, Pa) :: (some f, x, Mb, Pb) :: B) ∧ fP La ++ fP Lb = fP (A ++ (lo, p, Ma, Pa) :: (some f, x, Mb, Pb) :: B) ∧ f_Tr_widen t (nI q) (nI A.length) f (nI x) σ = some (1, σ') ∧ gj σ' 3 t 12 = f' ∧ gi σ' 3 t 13 = nI y ∧ TA σ' n q loq (some f') (fM La) (q :: fP La) ∧ TA σ' n y (some f') hiq (fM Lb) (y :: fP Lb) ∧ fM La ≠ [] ∧ fM Lb ≠ [] ∧ FL σ' F ∧ cg (fun p => p = q ∨ p = y) σ σ') := by
  have hx := (TA_head hb).1
  have hy : y < 240 := hF.2.2.2 y (List.mem_append_right _ List.mem_cons_self)
  obtain ⟨ka, hka⟩ := List.exists_mem_of_ne_nil _ hMa
  obtain ⟨kb, hkb⟩ := List.exists_mem_of_ne_nil _ hMb
  have bka := (TA_bnd ha).1 ka hka
  have bkb := (TA_bnd hb).1 kb hkb
  have hKs : Ks (TA σ n) (A ++ (lo, p, Ma, Pa) :: (some f, x, Mb, Pb) :: B) hiq := Ks_app.mpr ⟨hA, ha, hMa, by rw [← hhi]; exact hb, hMb, hB⟩
  -- the new key lies within the page's bounds
  have hlof : oLo loq f := by
    intro b hb'
    have hlk : b ≤ ka.1 := by
      cases A with
      | nil =>
        rw [List.nil_append] at hE
        obtain ⟨rfl, rfl⟩ := List.cons.inj hE
        exact bka.2.1 b (by rw [← hb']; exact h0)
      | cons a A' =>
        rw [List.cons_append] at hE
        obtain ⟨rfl, rfl⟩ := List.cons.inj hE
        have h9 := hes (hole lo p) (List.mem_append_right _ List.mem_cons_self)
        obtain ⟨l, hl⟩ := Option.isSome_iff_exists.mp h9.1
        have h10 := (h9.2 l hl).1 b hb'
        exact Int64.le_trans h10 (bka.2.1 l hl)
    exact Int64.le_of_lt (Int64.lt_of_le_of_lt hlk (bka.2.2 f rfl))
  have hhif : oHi hiq f := by
    intro b hb'
    cases B with
    | nil => exact Int64.lt_of_le_of_lt (bkb.2.1 f rfl) (bkb.2.2 b (by rw [hhi]; exact hb'))
    | cons e B' =>
      have hin : e ∈ es := by
        cases A with
        | nil => rw [← (List.cons.inj hE).2]; exact List.mem_cons_self
        | cons a A' => rw [← (List.cons.inj hE).2]; exact List.mem_append_right _ (List.mem_cons_of_mem _ List.mem_cons_self)
      have h9 := hes e hin
      obtain ⟨l, hl⟩ := Option.isSome_iff_exists.mp h9.1
      have h10 := (h9.2 l hl).2 b hb'
      exact Int64.lt_trans (Int64.lt_of_le_of_lt (bkb.2.1 f rfl) (bkb.2.2 l (by rw [hhi]; exact hl))) h10
  obtain ⟨e0', es', ca, cb, l1, l2, l3, l4, l5, l6, l7⟩ := lvl hE f x Ma Mb Pa Pb
  rw [l1] at hKs hnd ⊢
  have hes' : ∀ e ∈ es', e.1.isSome = true ∧ (∀ b, e.1 = some b → oLo loq b ∧ oHi hiq b) := by
    intro e he
    rcases l7 e he with h9 | h9 | ⟨h9, h10⟩
    · exact hes e h9
    · exact ⟨by rw [h9]; rfl, fun b hb' => by rw [h9] at hb'; cases hb'; exact ⟨hlof, hhif⟩⟩
    · have := hes _ h10
      exact ⟨by rw [h9]; exact this.1, fun b hb' => this.2 b (by rw [← hb', h9]; rfl)⟩
  have hyF : y ∈ F ++ [y] := List.mem_append_right _ List.mem_cons_self
  have hdis := (List.nodup_append.mp hnd).2.2
  have hqy : q ≠ y := hdis q List.mem_cons_self y hyF
  have hqP : ∀ z ∈ fP (e0' :: es'), z ≠ q := fun z hz h => (List.nodup_cons.mp (List.nodup_append.mp hnd).1).1 (h ▸ hz)
  have hyP : ∀ z ∈ fP (e0' :: es'), z ≠ y := fun z hz => hdis z (List.mem_cons_of_mem _ hz) y hyF
  rw [l4] at hPI
  rw [← l5]
  rcases widen_eq (t := t) (f := f) hq hx hPI hF hqy with ⟨σ', w1, w2, w3, w4⟩ | ⟨A1, c, B1, σ', w0, w1, w2, w3, w4, w5, w6, w7, w8, w9⟩
  · left
    refine ⟨σ', w1, ?_, w3, w4⟩
    rw [TA_iff]
    right
    exact ⟨e0', es', ⟨hq, by rw [l3, l6]; exact w2, fun z => by rw [z] at l6; exact absurd l6 (by simp), hes', l2.trans h0, Ks_congr _ _ (fun _ _ _ _ _ hPP hr => TA_cg w4 (fun z hz => hqP z (hPP z hz)) hr) hKs⟩, rfl, rfl⟩
  · right
    obtain ⟨EA, ec, EB, m1, m2, m3, m4⟩ := map_cut (l6.trans w0)
    obtain ⟨f', hf'⟩ := Option.isSome_iff_exists.mp (hes' ec (by rw [m1]; exact List.mem_append_right _ List.mem_cons_self)).1
    have hKs2 : Ks (TA σ' n) (e0' :: es') hiq := Ks_congr _ _ (fun _ _ _ _ _ hPP hr => TA_cg w9 (fun z hz h => h.elim (hqP z (hPP z hz)) (hyP z (hPP z hz))) hr) hKs
    rw [m1, ← List.cons_append] at hKs2
    obtain ⟨k1, k2⟩ := Ks_app.mp hKs2
    have k1' : Ks (TA σ' n) (e0' :: EA) (some f') := by rw [← hf']; exact k1
    have hk2 := Ks_key (fun _ _ _ _ _ h => TA_bnd h) EB ec hiq f' k2 hf' (fun e he => (hes' e (by rw [m1]; exact List.mem_append_right _ (List.mem_cons_of_mem _ he))).1)
    have hEA : ∀ e ∈ EA, ∀ b, e.1 = some b → b < f' := by
      intro e he b hb'
      obtain ⟨E1, E2, rfl⟩ := List.append_of_mem he
      have k3 := hKs2
      rw [List.cons_append, List.append_assoc, List.cons_append] at k3
      have k4 := (Ks_app (a := e0' :: E1).mp k3).2
      exact Ks_key (fun _ _ _ _ _ h => TA_bnd h) _ e hiq b k4 hb' (fun z hz => (hes' z (by rw [m1, List.append_assoc, List.cons_append]; exact List.mem_append_right _ (List.mem_cons_of_mem _ hz))).1) ec (List.mem_append_right _ List.mem_cons_self) f' hf'
    refine ⟨σ', f', e0' :: EA, ec :: EB, by rw [← fM_app, List.cons_append, ← m1], by rw [← fP_app, List.cons_append, ← m1], w3, ?_, w7, ?_, ?_, fM_ne k1, fM_ne k2, w8, w9⟩
    · rw [w6, ← m3]
      unfold ic
      rw [hf']
      rfl
    · rw [TA_iff]
      right
      refine ⟨e0', EA, ⟨hq, by rw [l3, m2]; exact w4, fun z => w1 (by rw [← m2, z]; rfl), fun e he => ?_, l2.trans h0, k1'⟩, rfl, rfl⟩
      have h9 := hes' e (by rw [m1]; exact List.mem_append_left _ he)
      exact ⟨h9.1, fun b hb' => ⟨(h9.2 b hb').1, fun z hz => by cases hz; exact hEA e he b hb'⟩⟩
    · rw [TA_iff]
      right
      refine ⟨ec, EB, ⟨hy, ?_, fun z => w2 (by rw [← m4, z]; rfl), fun e he => ?_, hf', k2⟩, rfl, rfl⟩
      · rw [m4]
        rw [← m3] at w5
        exact w5
      · have h9 := hes' e (by rw [m1]; exact List.mem_append_right _ (List.mem_cons_of_mem _ he))
        exact ⟨h9.1, fun b hb' => ⟨fun z hz => by cases hz; exact Int64.le_of_lt (hk2 e he b hb'), (h9.2 b hb').2⟩⟩
