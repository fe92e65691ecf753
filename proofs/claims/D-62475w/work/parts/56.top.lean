/-! the plain law: the root is parted -/
theorem TA_head {σ : Sg} {n p : Nat} {lo hi : Option Int64} {M : List Cel} {P : List Nat} (h : TA σ n p lo hi M P) : p < 240 ∧ ∃ P1, P = p :: P1 := by
  rcases TA_iff.mp h with ⟨h1, rfl⟩ | ⟨e0, es, h1, -, rfl⟩
  · exact ⟨h1.1, [], rfl⟩
  · exact ⟨h1.1, _, rfl⟩
theorem cg_pg {S : Nat → Prop} {σ σ' : Sg} (h : cg S σ σ') {q : Nat} (hq : ¬ S q) (hq2 : q < 240) (j : Nat) : gi σ' 10 q j = gi σ 10 q j := h.1 10 q j (by decide) (by decide) (by decide) (fun z => z.2.elim hq (fun z => absurd z (by omega))) (by omega)
theorem TA_P {σ : Sg} {n : Nat} : ∀ (d p : Nat) (lo hi : Option Int64) (M : List Cel) (P : List Nat), Tr σ n d p lo hi M P → ∀ q ∈ P, q < 240 := by
  intro d
  induction d with
  | zero =>
    rintro p lo hi M P ⟨h, rfl⟩ q hq
    rcases List.mem_singleton.mp hq with rfl
    exact h.1
  | succ d ih =>
    intro p lo hi M P h q hq
    rcases h with ⟨h, rfl⟩ | ⟨e0, es, h1, -, rfl⟩
    · rcases List.mem_singleton.mp hq with rfl
      exact h.1
    · rcases List.mem_cons.mp hq with rfl | hq
      · exact h1.1
      · have key : ∀ (l : List Ent) (hi : Option Int64), Ks (Tr σ n d) l hi → ∀ q ∈ fP l, q < 240 := by
          intro l
          induction l with
          | nil => intro _ _ q hq; cases hq
          | cons e l ih2 =>
            intro hi hk q hq
            rw [fP] at hq
            rcases List.mem_append.mp hq with hq | hq
            · exact ih _ _ _ _ _ hk.1 q hq
            · exact ih2 hi hk.2.2 q hq
        exact key _ _ h1.2.2.2.2.2 q hq
theorem TA_cg {S : Nat → Prop} {σ σ' : Sg} {n p : Nat} {lo hi : Option Int64} {M : List Cel} {P : List Nat} (hc : cg S σ σ') (hS : ∀ q ∈ P, ¬ S q) (h : TA σ n p lo hi M P) : TA σ' n p lo hi M P := TA_congr (fun q hq j => cg_pg hc (hS q hq) (by obtain ⟨d, hd⟩ := h; exact TA_P _ _ _ _ _ _ hd q hq) j) h
theorem top_eq {t n r x y : Nat} {f : Int64} {Ma Mb : List Cel} {Pa Pb F : List Nat} {σ : Sg} (hroot : gi σ 3 t 1 = nI r) (hn : gi σ 3 t 2 = nI n) (h4 : n ≤ 4) (ha : TA σ n r none (some f) Ma Pa) (hb : TA σ n x (some f) none Mb Pb) (hMa : Ma ≠ []) (hMb : Mb ≠ []) (hF : FL σ (F ++ [y])) (hnd : (Pa ++ Pb ++ (F ++ [y])).Nodup) :
    ∃ σ' P', f_Tr_raise t f (nI x) σ = some σ' ∧ TA σ' n r none none (Ma ++ Mb) P' ∧ FL σ' F ∧ (P' ++ F).Perm (Pa ++ Pb ++ (F ++ [y])) ∧ cg (fun p => p = r ∨ p = y) σ σ' := by
  obtain ⟨hr, P1, hPa⟩ := TA_head ha
  obtain ⟨hx, -⟩ := TA_head hb
  have hy : y < 240 := hF.2.2.2 y (List.mem_append_right _ List.mem_cons_self)
  have hdis := (List.nodup_append.mp hnd).2.2
  have hdis2 := (List.nodup_append.mp (List.nodup_append.mp hnd).1).2.2
  have hnda := (List.nodup_append.mp (List.nodup_append.mp hnd).1).1
  have hyF : y ∈ F ++ [y] := List.mem_append_right _ List.mem_cons_self
  have hrPa : r ∈ Pa := by rw [hPa]; exact List.mem_cons_self
  have hry : r ≠ y := hdis r (List.mem_append_left _ hrPa) y hyF
  have hSb : ∀ q ∈ Pb, ¬ (q = r ∨ q = y) := fun q hq z => by
    rcases z with z | z
    · exact hdis2 r hrPa q hq z.symm
    · exact hdis q (List.mem_append_right _ hq) y hyF z
  have hS1 : ∀ q ∈ P1, ¬ (q = r ∨ q = y) := fun q hq z => by
    rw [hPa] at hnda
    rcases z with z | z
    · rw [z] at hq
      exact (List.nodup_cons.mp hnda).1 hq
    · exact hdis q (List.mem_append_left _ (by rw [hPa]; exact List.mem_cons_of_mem _ hq)) y hyF z
  have fin : ∀ σ', cg (fun p => p = r ∨ p = y) σ σ' → PI σ' r y [(f, x)] → TA σ' n y none (some f) Ma (y :: P1) → TA σ' n r none none (Ma ++ Mb) (r :: (y :: P1 ++ Pb)) := fun σ' hc hp hya => by
    rw [TA_iff]
    right
    refine ⟨(none, y, Ma, y :: P1), [(some f, x, Mb, Pb)], ⟨hr, hp, by simp, ?_, rfl, hya, hMa, TA_cg hc hSb hb, hMb, trivial⟩, ?_, ?_⟩
    · intro e he
      rcases List.mem_singleton.mp he with rfl
      exact ⟨rfl, fun b _ => ⟨fun _ z => (by cases z), fun _ z => (by cases z)⟩⟩
    · rw [fM, fM, fM, List.append_nil]
    · rw [fP, fP, fP, List.append_nil]
  have hperm : ((r :: (y :: P1 ++ Pb)) ++ F).Perm (Pa ++ Pb ++ (F ++ [y])) := by
    have e1 : (r :: (y :: P1 ++ Pb)) ++ F = r :: (y :: (P1 ++ Pb ++ F)) := by simp
    have e2 : Pa ++ Pb ++ (F ++ [y]) = r :: ((P1 ++ Pb ++ F) ++ [y]) := by rw [hPa]; simp
    rw [e1, e2]
    exact List.Perm.cons r (List.perm_append_singleton y _).symm
  rcases TA_iff.mp ha with ⟨hl, hP⟩ | ⟨e0, es, hnd1, hM, hP⟩
  · obtain ⟨σ', s1, s2, s3, s4, s5⟩ := raise_eq (t := t) (f := f) (Q := fun τ => PL τ y Ma) hr hx hry hroot hF (fun τ k1 k2 k3 => become_L hr hy (PL_congr k2 hl.2.1) (fun c hc => ⟨by rw [(hl.2.2.1 c hc).1]; exact h4, by rw [k3, (hl.2.2.1 c hc).1]; exact hn⟩) k1) (fun τ τ' k1 k2 => PL_congr k1 k2)
    refine ⟨σ', _, s1, fin σ' s5 s2 ?_, s4, hperm, s5⟩
    have hP1 : P1 = [] := by rw [hP] at hPa; exact (List.cons.inj hPa).2.symm
    rw [hP1, TA_iff]
    exact Or.inl ⟨⟨hy, s3, hl.2.2⟩, rfl⟩
  · obtain ⟨-, n2, n3, n4, n5, n6⟩ := hnd1
    obtain ⟨σ', s1, s2, s3, s4, s5⟩ := raise_eq (t := t) (f := f) (Q := fun τ => PI τ y e0.2.1 (es.map ic)) hr hx hry hroot hF (fun τ k1 k2 k3 => become_I hr hy (PI_congr k2 n2) k1) (fun τ τ' k1 k2 => PI_congr k1 k2)
    refine ⟨σ', _, s1, fin σ' s5 s2 ?_, s4, hperm, s5⟩
    have hP1 : P1 = fP (e0 :: es) := by rw [hP] at hPa; exact (List.cons.inj hPa).2.symm
    rw [TA_iff]
    right
    refine ⟨e0, es, ⟨hy, s3, n3, n4, n5, Ks_congr _ _ (fun _ _ _ _ _ hPP hr => TA_cg s5 (fun q hq => hS1 q (by rw [hP1]; exact hPP q hq)) hr) n6⟩, hM, by rw [hP1]⟩
