/-! rows over the ghost state -/
section GROWS
variable {X : GX} {p : Program} {l : Launch} {e : Env} {R : Room} {s : State} {m : MethodId} {args : Array Value} {below : List Frame} {meth : Method} {c : Code} {H : Heap} {locs : List Loc} {cells slots : Nat} {Q : State → Prop}
variable {cc : ByteArray} {pc nL n : Nat} {ls : Array Slot} {rest : List Value} {own : String} {σ : Sg}
theorem vin_lt {i : Int32} {N : Nat} (h : vp_in i N) : i.toNatClampNeg < N := Nat.not_le.mp fun q => h (Or.inr q)
/-- getfield -/
theorem g_get (F : Fx X p s m c cc nL args own) (hP : St X n σ s.heap H locs) (k j i : Nat) (hk : k < 10) (hi : i < cnt n k) (hj : j < fn k) {v : Value} (hv : fv X σ k i j = v) {index : Nat} (hlink : Cond.fieldLink own index (cN k) (fT k j).2.1 (fT k j).2.2.1 ∈ TB) (hdg : decode cc pc = .ok (.getfield index, 3))
    (kk : W p l e R s m args below meth c H locs cells slots Q (F0 m (pc + 3) ls (v :: rest))) : W p l e R s m args below meth c H locs cells slots Q (F0 m pc ls (.ref (xL X k i) :: rest)) := by
  obtain ⟨hx, hb, hml, hown, hts, hC⟩ := F
  obtain ⟨hn, hPic, -⟩ := hP
  obtain ⟨cell, q1, q2, q3, q4⟩ := hPic.1 k i hk (by rw [hn]; exact hi)
  obtain ⟨hS, hfc, kC, hkC, hkind⟩ := hC.1 k hk
  obtain ⟨cf, kf, fi, f, hfi, hsl⟩ := hS j hj
  have hfi' : s.fieldFound? (cN k) (fT k j).2.1 (fT k j).2.2.1 = some (cf, kf, fi, f) := by rw [← fT_own k hk j hj]; exact hfi
  refine W.getf hx hb hown (hts _ hlink) hfi' (u_facts hfc hkC (u_lays hts (fT_hin k hk) hj) hfi).1 q1 (by rw [q3]; exact fun h => by cases h) (v := v) ?_ rfl rfl hdg kk
  rw [hsl, q4 j hj, hv]
/-- getfield of a nest mate -/
theorem g_getN (F : Fx X p s m c cc nL args own) (hP : St X n σ s.heap H locs) (k j i : Nat) (hk : k < 10) (hi : i < cnt n k) (hj : j < fn k) {v : Value} (hv : fv X σ k i j = v) {index : Nat} (hlink : Cond.fieldLinkNest own index (cN k) (fT k j).2.1 (fT k j).2.2.1 "TableMachine" ∈ NW) (hdg : decode cc pc = .ok (.getfield index, 3))
    (kk : W p l e R s m args below meth c H locs cells slots Q (F0 m (pc + 3) ls (v :: rest))) : W p l e R s m args below meth c H locs cells slots Q (F0 m pc ls (.ref (xL X k i) :: rest)) := by
  obtain ⟨hx, hb, hml, hown, hts, hC⟩ := F
  obtain ⟨hn, hPic, -⟩ := hP
  obtain ⟨cell, q1, q2, q3, q4⟩ := hPic.1 k i hk (by rw [hn]; exact hi)
  obtain ⟨hS, hfc, kC, hkC, hkind⟩ := hC.1 k hk
  obtain ⟨cf, kf, fi, f, hfi, hsl⟩ := hS j hj
  have hfi' : s.fieldFound? (cN k) (fT k j).2.1 (fT k j).2.2.1 = some (cf, kf, fi, f) := by rw [← fT_own k hk j hj]; exact hfi
  refine va_Wgetf hx hb hown (va_Nw.use rfl (hC.2.2.1 _ hlink)) hfi' (u_facts hfc hkC (u_lays hts (fT_hin k hk) hj) hfi).1 q1 (by rw [q3]; exact fun h => by cases h) (v := v) ?_ rfl rfl hdg kk
  rw [hsl, q4 j hj, hv]
theorem fv_set {σ' : Sg} {k i j : Nat} {v : Value} (h1 : fv X σ' k i j = v) (h2 : ∀ j', j' ≠ j → fv X σ' k i j' = fv X σ k i j') (q : Nat) : updV (fv X σ k i) j v q = fv X σ' k i q := by
  unfold updV
  split
  · rename_i h; rw [h, h1]
  · rename_i h; exact (h2 q h).symm
theorem g_putw (F : Fx X p s m c cc nL args own) (hP : St X n σ s.heap H locs) (k j i : Nat) (hk : k < 10) (hi : i < cnt n k) (hj : j < fn k) (hfin : (fT k j).2.2.2 = false) {v : Value} {σ' : Sg} (hn : narrow (fpt k j) v = v) (hfit : fits (fpt k j) v = true)
    (hnt : nt σ' = nt σ) (h1 : fv X σ' k i j = v) (h2 : ∀ k' i' j', k' < 10 → ¬ (k' = k ∧ i' = i ∧ j' = j) → fv X σ' k' i' j' = fv X σ k' i' j') (h3 : ∀ k' i', 10 ≤ k' → ∀ q, av X σ' k' i' q = av X σ k' i' q) {index : Nat}
    (hlink : Cond.fieldLink own index (cN k) (fT k j).2.1 (fT k j).2.2.1 ∈ TB ∨ Cond.fieldLinkNest own index (cN k) (fT k j).2.1 (fT k j).2.2.1 "TableMachine" ∈ NW) (hdg : decode cc pc = .ok (.putfield index, 3))
    (kk : ∀ (H1 : Heap) (locs1 : List Loc), St X n σ' s.heap H1 locs1 → W p l e R s m args below meth c H1 locs1 cells slots Q (F0 m (pc + 3) ls rest)) : W p l e R s m args below meth c H locs cells slots Q (F0 m pc ls (v :: .ref (xL X k i) :: rest)) := by
  obtain ⟨hx, hb, hml, hown, hts, hC⟩ := F
  obtain ⟨hn0, hPic, hS0⟩ := hP
  have hi' : i < cnt (nt σ) k := by rw [hn0]; exact hi
  obtain ⟨cell, q1, q2, q3, q4⟩ := hPic.1 k i hk hi'
  obtain ⟨hS, hfc, kC, hkC, hkind⟩ := hC.1 k hk
  obtain ⟨cf, kf, fi, f, hfi, hsl⟩ := hS j hj
  have hfi' : s.fieldFound? (cN k) (fT k j).2.1 (fT k j).2.2.1 = some (cf, kf, fi, f) := by rw [← fT_own k hk j hj]; exact hfi
  have hap : ∀ x y, x < fn k → y < fn k → x ≠ y → (xD X).2 k x ≠ (xD X).2 k y := by
    intro x y hx hy hne
    obtain ⟨_, _, _, fa, hia, ea⟩ := hS x hx
    obtain ⟨_, _, _, fb, hib, eb⟩ := hS y hy
    rw [← ea, ← eb]
    refine u_apart (u_lays hts (fT_hin k hk) hx) (u_lays hts (fT_hin k hk) hy) hia hib ?_
    rw [(State.fieldFound?_type hia (fT_ty k hk x hx)).1, (State.fieldFound?_type hib (fT_ty k hk y hy)).1]
    exact fT_nm k hk x hx y hy hne
  have hlay := hts _ (fT_hin k hk _ (u_in_lay hj))
  unfold u_lay at hlay
  rw [if_neg (by rw [hfin]; decide)] at hlay
  have hst := (u_facts hfc hkC (u_lays hts (fT_hin k hk) hj) hfi).1
  have h6 := u_store hfc hkC hkind hlay hfi (fT_ty k hk j hj) hn hfit
  have fin : ∀ H' : Heap, H'[xL X k i]? = some (cell.setSlot f.slot v) → H'.size = H.size → (∀ q : Nat, q ≠ xL X k i → H'[q]? = H[q]?) → W p l e R s m args below meth c H' (locs ++ [⟨xL X k i, f.slot⟩]) cells slots Q (F0 m (pc + 3) ls rest) := by
    intro H' e1 e2 e3
    rw [hsl] at e1
    refine kk H' _ ⟨hnt.trans hn0, hPic.setO hk hi' hnt e3 ?_ (fun k' i' hk' hne j' => h2 k' i' j' hk' (fun z => hne ⟨z.1, z.2.1⟩)) h3, hS0.put ⟨k, i, by omega, hi, rfl⟩ e2 e3⟩
    exact t_OB.to (V := updV (fv X σ k i) j v) ⟨_, e1, q2, q3, t_set q4 hap hj v⟩ (fun q _ => fv_set h1 (fun j' hj' => h2 k i j' hk (fun z => hj' z.2.2)) q)
  rcases hlink with hlink | hlink
  · exact W.putK hx hb (f := f) ⟨hown, hts _ hlink, ⟨_, _, _, hfi'⟩, hst⟩ (by rw [q2]; exact h6) q1 q3 (by rw [hsl]; exact k2_hasslot (q4 j hj)) rfl rfl hdg fin
  · exact va_WputK hx hb (f := f) hown (va_Nw.use rfl (hC.2.2.1 _ hlink)) hfi' hst (by rw [q2]; exact h6) q1 q3 (by rw [hsl]; exact k2_hasslot (q4 j hj)) rfl rfl hdg fin
theorem fv_si {k i j k' i' j' : Nat} {x : Int32} (h : ¬ (k' = k ∧ i' = i ∧ j' = j)) : fv X (si σ k i j x) k' i' j' = fv X σ k' i' j' := by
  unfold fv; split <;> simp [gi_si, gj_si, gr_si, h]
theorem fv_sj {k i j k' i' j' : Nat} {x : Int64} (h : ¬ (k' = k ∧ i' = i ∧ j' = j)) : fv X (sj σ k i j x) k' i' j' = fv X σ k' i' j' := by
  unfold fv; split <;> simp [gi_sj, gj_sj, gr_sj, h]
theorem fv_sr {k i j k' i' j' : Nat} {x : Option Nat} (h : ¬ (k' = k ∧ i' = i ∧ j' = j)) : fv X (sr σ k i j x) k' i' j' = fv X σ k' i' j' := by
  unfold fv; split <;> simp [gi_sr, gj_sr, gr_sr, h]
theorem av_si {k i j k' i' q : Nat} {x : Int32} (h : ¬ (k' = k ∧ i' = i ∧ q = j)) : av X (si σ k i j x) k' i' q = av X σ k' i' q := by
  unfold av; split <;> first | rfl | simp [gi_si, gj_si, nt_si, h]
theorem av_sj {k i j k' i' q : Nat} {x : Int64} (h : ¬ (k' = k ∧ i' = i ∧ q = j)) : av X (sj σ k i j x) k' i' q = av X σ k' i' q := by
  unfold av; split <;> first | rfl | simp [gi_sj, gj_sj, nt_sj, h]
theorem av_sr {k i j k' i' q : Nat} {x : Option Nat} : av X (sr σ k i j x) k' i' q = av X σ k' i' q := by
  unfold av; split <;> first | rfl | simp [gi_sr, gj_sr, nt_sr]
/-- putfield of an int -/
theorem g_puti (F : Fx X p s m c cc nL args own) (hP : St X n σ s.heap H locs) (k j i : Nat) (hk : k < 10) (hi : i < cnt n k) (hj : j < fn k) (hfin : (fT k j).2.2.2 = false) (hty : fty k j = 0) {x : Int32} (hn : narrow (fpt k j) (.int x) = .int x) (hfit : fits (fpt k j) (.int x) = true) {index : Nat}
    (hlink : Cond.fieldLink own index (cN k) (fT k j).2.1 (fT k j).2.2.1 ∈ TB ∨ Cond.fieldLinkNest own index (cN k) (fT k j).2.1 (fT k j).2.2.1 "TableMachine" ∈ NW) (hdg : decode cc pc = .ok (.putfield index, 3)) {σ' : Sg} (hσ : σ' = si σ k i j x)
    (kk : ∀ (H1 : Heap) (locs1 : List Loc), St X n σ' s.heap H1 locs1 → W p l e R s m args below meth c H1 locs1 cells slots Q (F0 m (pc + 3) ls rest)) : W p l e R s m args below meth c H locs cells slots Q (F0 m pc ls (.int x :: .ref (xL X k i) :: rest)) := by
  subst hσ
  exact g_putw (σ' := si σ k i j x) F hP k j i hk hi hj hfin hn hfit rfl (by unfold fv; rw [hty]; simp [gi_si]) (fun k' i' j' _ h => fv_si h) (fun k' i' h q => av_si (fun z => by omega)) hlink hdg kk
theorem g_putj (F : Fx X p s m c cc nL args own) (hP : St X n σ s.heap H locs) (k j i : Nat) (hk : k < 10) (hi : i < cnt n k) (hj : j < fn k) (hfin : (fT k j).2.2.2 = false) (hty : fty k j = 1) (hft : fpt k j = .long) {x : Int64} {index : Nat}
    (hlink : Cond.fieldLink own index (cN k) (fT k j).2.1 (fT k j).2.2.1 ∈ TB ∨ Cond.fieldLinkNest own index (cN k) (fT k j).2.1 (fT k j).2.2.1 "TableMachine" ∈ NW) (hdg : decode cc pc = .ok (.putfield index, 3)) {σ' : Sg} (hσ : σ' = sj σ k i j x)
    (kk : ∀ (H1 : Heap) (locs1 : List Loc), St X n σ' s.heap H1 locs1 → W p l e R s m args below meth c H1 locs1 cells slots Q (F0 m (pc + 3) ls rest)) : W p l e R s m args below meth c H locs cells slots Q (F0 m pc ls (.long x :: .ref (xL X k i) :: rest)) := by
  subst hσ
  exact g_putw (σ' := sj σ k i j x) F hP k j i hk hi hj hfin (by rw [hft]; rfl) (by rw [hft]; rfl) rfl (by unfold fv; rw [hty]; simp [gj_sj]) (fun k' i' j' _ h => fv_sj h) (fun k' i' h q => av_sj (fun z => by omega)) hlink hdg kk
/-- a cursor's tree -/
theorem g_putT (F : Fx X p s m c cc nL args own) (hP : St X n σ s.heap H locs) (i : Nat) (hi : i < cnt n 7) {x : Option Nat} {v : Value} (hv : va_rf (x.map (xL X 3)) = v) {index : Nat}
    (hlink : Cond.fieldLink own index (cN 7) (fT 7 0).2.1 (fT 7 0).2.2.1 ∈ TB ∨ Cond.fieldLinkNest own index (cN 7) (fT 7 0).2.1 (fT 7 0).2.2.1 "TableMachine" ∈ NW) (hdg : decode cc pc = .ok (.putfield index, 3)) {σ' : Sg} (hσ : σ' = sr σ 7 i 0 x)
    (kk : ∀ (H1 : Heap) (locs1 : List Loc), St X n σ' s.heap H1 locs1 → W p l e R s m args below meth c H1 locs1 cells slots Q (F0 m (pc + 3) ls rest)) : W p l e R s m args below meth c H locs cells slots Q (F0 m pc ls (v :: .ref (xL X 7 i) :: rest)) := by
  subst hσ; subst hv
  exact g_putw (σ' := sr σ 7 i 0 x) F hP 7 0 i (by decide) hi (by decide) rfl (by cases x <;> rfl) (by cases x <;> rfl) rfl (by unfold fv; simp [fty, fty_7, gr_sr]) (fun k' i' j' _ h => fv_sr h) (fun k' i' h q => av_sr) hlink hdg kk
/-- an instruction's operation -/
theorem g_putO (F : Fx X p s m c cc nL args own) (hP : St X n σ s.heap H locs) (i : Nat) (hi : i < cnt n 6) {x : Nat} {index : Nat}
    (hlink : Cond.fieldLink own index (cN 6) (fT 6 0).2.1 (fT 6 0).2.2.1 ∈ TB ∨ Cond.fieldLinkNest own index (cN 6) (fT 6 0).2.1 (fT 6 0).2.2.1 "TableMachine" ∈ NW) (hdg : decode cc pc = .ok (.putfield index, 3)) {σ' : Sg} (hσ : σ' = sr σ 6 i 0 (some x))
    (kk : ∀ (H1 : Heap) (locs1 : List Loc), St X n σ' s.heap H1 locs1 → W p l e R s m args below meth c H1 locs1 cells slots Q (F0 m (pc + 3) ls rest)) : W p l e R s m args below meth c H locs cells slots Q (F0 m pc ls (.ref (xad X x) :: .ref (xL X 6 i) :: rest)) := by
  subst hσ
  exact g_putw (σ' := sr σ 6 i 0 (some x)) F hP 6 0 i (by decide) hi (by decide) rfl rfl rfl rfl (by unfold fv; simp [fty, fty_6, gr_sr, va_re, va_rf]) (fun k' i' j' _ h => fv_sr h) (fun k' i' h q => av_sr) hlink hdg kk
-- arrays
theorem g_ald {i : Nat} (F : Fx X p s m c cc nL args own) (hP : St X n σ s.heap H locs) (k : Nat) (hk0 : 10 ≤ k) (hk : k < 45) (hi : i < cnt n k) (hety : ety k = .int) (haty : aty k = 0) {q : Int32} (hin : vp_in q (alen k i)) (hdg : decode cc pc = .ok (.iaload, 1))
    (kk : W p l e R s m args below meth c H locs cells slots Q (F0 m (pc + 1) ls (.int (gi σ k i q.toNatClampNeg) :: rest))) : W p l e R s m args below meth c H locs cells slots Q (F0 m pc ls (.int q :: .ref (xL X k i) :: rest)) := by
  obtain ⟨hx, hb, hml, hown, hts, hC⟩ := F
  obtain ⟨hn, hPic, -⟩ := hP
  have h9 := hPic.2.1 k i hk0 hk (by rw [hn]; exact hi)
  have harr := (hC.2.1 k hk0 hk).1
  rw [hety] at harr
  exact W.iald (v := .int (gi σ k i q.toNatClampNeg)) hx hb h9 (harr _ _) (fun z => by cases z) (by rw [arrV_size]; exact hin) (by rw [arrV_read _ _ (vin_lt hin)]; simp [av, haty]) rfl rfl hdg kk
theorem g_bld {i : Nat} (F : Fx X p s m c cc nL args own) (hP : St X n σ s.heap H locs) (k : Nat) (hk0 : 10 ≤ k) (hk : k < 45) (hi : i < cnt n k) (hety : ety k = .byte) (haty : aty k = 0) {q : Int32} (hin : vp_in q (alen k i)) (hdg : decode cc pc = .ok (.baload, 1))
    (kk : W p l e R s m args below meth c H locs cells slots Q (F0 m (pc + 1) ls (.int (gi σ k i q.toNatClampNeg) :: rest))) : W p l e R s m args below meth c H locs cells slots Q (F0 m pc ls (.int q :: .ref (xL X k i) :: rest)) := by
  obtain ⟨hx, hb, hml, hown, hts, hC⟩ := F
  obtain ⟨hn, hPic, -⟩ := hP
  have h9 := hPic.2.1 k i hk0 hk (by rw [hn]; exact hi)
  have harr := (hC.2.1 k hk0 hk).1
  rw [hety] at harr
  exact W.bald (v := .int (gi σ k i q.toNatClampNeg)) hx hb h9 (harr _ _) (fun z => by cases z) (by rw [arrV_size]; exact hin) (by rw [arrV_read _ _ (vin_lt hin)]; simp [av, haty]) rfl rfl hdg kk
theorem g_zld {i : Nat} (F : Fx X p s m c cc nL args own) (hP : St X n σ s.heap H locs) (k : Nat) (hk0 : 10 ≤ k) (hk : k < 45) (hi : i < cnt n k) (hety : ety k = .boolean) (haty : aty k = 0) {q : Int32} (hin : vp_in q (alen k i)) (hdg : decode cc pc = .ok (.baload, 1))
    (kk : W p l e R s m args below meth c H locs cells slots Q (F0 m (pc + 1) ls (.int (gi σ k i q.toNatClampNeg) :: rest))) : W p l e R s m args below meth c H locs cells slots Q (F0 m pc ls (.int q :: .ref (xL X k i) :: rest)) := by
  obtain ⟨hx, hb, hml, hown, hts, hC⟩ := F
  obtain ⟨hn, hPic, -⟩ := hP
  have h9 := hPic.2.1 k i hk0 hk (by rw [hn]; exact hi)
  have harr := (hC.2.1 k hk0 hk).1
  rw [hety] at harr
  exact W.zald (v := .int (gi σ k i q.toNatClampNeg)) hx hb h9 (harr _ _) (fun z => by cases z) (by rw [arrV_size]; exact hin) (by rw [arrV_read _ _ (vin_lt hin)]; simp [av, haty]) rfl rfl hdg kk
theorem g_lld {i : Nat} (F : Fx X p s m c cc nL args own) (hP : St X n σ s.heap H locs) (k : Nat) (hk0 : 10 ≤ k) (hk : k < 45) (hi : i < cnt n k) (hety : ety k = .long) (haty : aty k = 1) {q : Int32} (hin : vp_in q (alen k i)) (hdg : decode cc pc = .ok (.laload, 1))
    (kk : W p l e R s m args below meth c H locs cells slots Q (F0 m (pc + 1) ls (.long (gj σ k i q.toNatClampNeg) :: rest))) : W p l e R s m args below meth c H locs cells slots Q (F0 m pc ls (.int q :: .ref (xL X k i) :: rest)) := by
  obtain ⟨hx, hb, hml, hown, hts, hC⟩ := F
  obtain ⟨hn, hPic, -⟩ := hP
  have h9 := hPic.2.1 k i hk0 hk (by rw [hn]; exact hi)
  have harr := (hC.2.1 k hk0 hk).1
  rw [hety] at harr
  exact W.lald (v := .long (gj σ k i q.toNatClampNeg)) hx hb h9 (harr _ _) (fun z => by cases z) (by rw [arrV_size]; exact hin) (by rw [arrV_read _ _ (vin_lt hin)]; simp [av, haty]) rfl rfl hdg kk
theorem g_rld {i : Nat} (F : Fx X p s m c cc nL args own) (hP : St X n σ s.heap H locs) (k : Nat) (hk0 : 10 ≤ k) (hk : k < 45) (hi : i < cnt n k) (hety : (ety k).isReference = true) {q : Int32} (hin : vp_in q (alen k i)) {v : Value} (hv : av X σ k i q.toNatClampNeg = v) (hdg : decode cc pc = .ok (.aaload, 1))
    (kk : W p l e R s m args below meth c H locs cells slots Q (F0 m (pc + 1) ls (v :: rest))) : W p l e R s m args below meth c H locs cells slots Q (F0 m pc ls (.int q :: .ref (xL X k i) :: rest)) := by
  obtain ⟨hx, hb, hml, hown, hts, hC⟩ := F
  obtain ⟨hn, hPic, -⟩ := hP
  have h9 := hPic.2.1 k i hk0 hk (by rw [hn]; exact hi)
  exact W.aald (v := v) hx hb h9 ((hC.2.1 k hk0 hk).1 _ _) hety (fun z => by cases z) (by rw [arrV_size]; exact hin) (by rw [arrV_read _ _ (vin_lt hin), hv]) rfl rfl hdg kk
theorem av_tab {q : Nat} (h : q < nt σ) : av X σ 17 0 q = .ref (xL X 3 q) := by
  show (if q < nt σ then Value.ref (xL X 3 q) else .null) = _
  rw [if_pos h]
theorem g_alen {i : Nat} (F : Fx X p s m c cc nL args own) (hP : St X n σ s.heap H locs) (k : Nat) (hk0 : 10 ≤ k) (hk : k < 45) (hi : i < cnt n k) {v : Int32} (hv : (alen k i).toInt32 = v) (hdg : decode cc pc = .ok (.arraylength, 1))
    (kk : W p l e R s m args below meth c H locs cells slots Q (F0 m (pc + 1) ls (.int v :: rest))) : W p l e R s m args below meth c H locs cells slots Q (F0 m pc ls (.ref (xL X k i) :: rest)) := by
  obtain ⟨hx, hb, hml, hown, hts, hC⟩ := F
  obtain ⟨hn, hPic, -⟩ := hP
  exact W.alen hx hb (hPic.2.1 k i hk0 hk (by rw [hn]; exact hi)) ((hC.2.1 k hk0 hk).1 _ _) (by rw [arrV_size]; exact hv) rfl rfl hdg kk
theorem av_upd {σ' : Sg} {k i j : Nat} {v : Value} (h1 : av X σ' k i j = v) (h2 : ∀ q, q ≠ j → av X σ' k i q = av X σ k i q) : updV (av X σ k i) j v = av X σ' k i := by
  funext q
  unfold updV
  split
  · rename_i h; rw [h, h1]
  · rename_i h; exact (h2 q h).symm
theorem g_ast {i : Nat} (F : Fx X p s m c cc nL args own) (hP : St X n σ s.heap H locs) (k : Nat) (hk0 : 10 ≤ k) (hk : k < 45) (hi : i < cnt n k) (hety : ety k = .int) (haty : aty k = 0) {q x : Int32} (hin : vp_in q (alen k i)) (hdg : decode cc pc = .ok (.iastore, 1)) {σ' : Sg} (hσ : σ' = si σ k i q.toNatClampNeg x)
    (kk : ∀ (H1 : Heap) (locs1 : List Loc), St X n σ' s.heap H1 locs1 → W p l e R s m args below meth c H1 locs1 cells slots Q (F0 m (pc + 1) ls rest)) : W p l e R s m args below meth c H locs cells slots Q (F0 m pc ls (.int x :: .int q :: .ref (xL X k i) :: rest)) := by
  subst hσ
  obtain ⟨hx, hb, hml, hown, hts, hC⟩ := F
  obtain ⟨hn, hPic, hS0⟩ := hP
  have hi' : i < cnt (nt σ) k := by rw [hn]; exact hi
  have h9 := hPic.2.1 k i hk0 hk hi'
  have harr := (hC.2.1 k hk0 hk).1
  rw [hety] at harr
  refine W.iast hx hb h9 (harr _ _) (fun z => by cases z) (by rw [arrV_size]; exact hin) rfl rfl hdg fun H1 e1 e2 e3 => ?_
  refine kk H1 _ ⟨hn, hPic.setA hk0 hk hi' rfl e3 ?_ (fun k' i' hk' j => fv_si (fun z => by omega)) (fun k' i' hne q' => av_si (fun z => hne ⟨z.1, z.2.1⟩)), hS0.put ⟨k, i, hk, hi, rfl⟩ e2 e3⟩
  rw [e1, arrV_store]
  congr 2
  exact av_upd (by simp [av, haty, gi_si]) (fun q' hq => av_si (fun z => hq z.2.2))
theorem g_bst {i : Nat} (F : Fx X p s m c cc nL args own) (hP : St X n σ s.heap H locs) (k : Nat) (hk0 : 10 ≤ k) (hk : k < 45) (hi : i < cnt n k) (hety : ety k = .byte) (haty : aty k = 0) {q x : Int32} (hin : vp_in q (alen k i)) (hdg : decode cc pc = .ok (.bastore, 1)) {σ' : Sg} (hσ : σ' = si σ k i q.toNatClampNeg (vp_nar .byte x))
    (kk : ∀ (H1 : Heap) (locs1 : List Loc), St X n σ' s.heap H1 locs1 → W p l e R s m args below meth c H1 locs1 cells slots Q (F0 m (pc + 1) ls rest)) : W p l e R s m args below meth c H locs cells slots Q (F0 m pc ls (.int x :: .int q :: .ref (xL X k i) :: rest)) := by
  subst hσ
  obtain ⟨hx, hb, hml, hown, hts, hC⟩ := F
  obtain ⟨hn, hPic, hS0⟩ := hP
  have hi' : i < cnt (nt σ) k := by rw [hn]; exact hi
  have h9 := hPic.2.1 k i hk0 hk hi'
  have harr := (hC.2.1 k hk0 hk).1
  rw [hety] at harr
  refine W.bast hx hb h9 (harr _ _) (fun z => by cases z) (by rw [arrV_size]; exact hin) rfl rfl hdg fun H1 e1 e2 e3 => ?_
  refine kk H1 _ ⟨hn, hPic.setA hk0 hk hi' rfl e3 ?_ (fun k' i' hk' j => fv_si (fun z => by omega)) (fun k' i' hne q' => av_si (fun z => hne ⟨z.1, z.2.1⟩)), hS0.put ⟨k, i, hk, hi, rfl⟩ e2 e3⟩
  rw [e1, arrV_store]
  congr 2
  exact av_upd (by simp [av, haty, gi_si, vp_nar_byte]; rfl) (fun q' hq => av_si (fun z => hq z.2.2))
theorem g_zst {i : Nat} (F : Fx X p s m c cc nL args own) (hP : St X n σ s.heap H locs) (k : Nat) (hk0 : 10 ≤ k) (hk : k < 45) (hi : i < cnt n k) (hety : ety k = .boolean) (haty : aty k = 0) {q x : Int32} (hin : vp_in q (alen k i)) (hdg : decode cc pc = .ok (.bastore, 1)) {σ' : Sg} (hσ : σ' = si σ k i q.toNatClampNeg (vp_nar .boolean x))
    (kk : ∀ (H1 : Heap) (locs1 : List Loc), St X n σ' s.heap H1 locs1 → W p l e R s m args below meth c H1 locs1 cells slots Q (F0 m (pc + 1) ls rest)) : W p l e R s m args below meth c H locs cells slots Q (F0 m pc ls (.int x :: .int q :: .ref (xL X k i) :: rest)) := by
  subst hσ
  obtain ⟨hx, hb, hml, hown, hts, hC⟩ := F
  obtain ⟨hn, hPic, hS0⟩ := hP
  have hi' : i < cnt (nt σ) k := by rw [hn]; exact hi
  have h9 := hPic.2.1 k i hk0 hk hi'
  have harr := (hC.2.1 k hk0 hk).1
  rw [hety] at harr
  refine W.zast hx hb h9 (harr _ _) (fun z => by cases z) (by rw [arrV_size]; exact hin) rfl rfl hdg fun H1 e1 e2 e3 => ?_
  refine kk H1 _ ⟨hn, hPic.setA hk0 hk hi' rfl e3 ?_ (fun k' i' hk' j => fv_si (fun z => by omega)) (fun k' i' hne q' => av_si (fun z => hne ⟨z.1, z.2.1⟩)), hS0.put ⟨k, i, hk, hi, rfl⟩ e2 e3⟩
  rw [e1, arrV_store]
  congr 2
  exact av_upd (by simp [av, haty, gi_si, vp_nar]; rfl) (fun q' hq => av_si (fun z => hq z.2.2))
theorem g_lst {i : Nat} (F : Fx X p s m c cc nL args own) (hP : St X n σ s.heap H locs) (k : Nat) (hk0 : 10 ≤ k) (hk : k < 45) (hi : i < cnt n k) (hety : ety k = .long) (haty : aty k = 1) {q : Int32} {x : Int64} (hin : vp_in q (alen k i)) (hdg : decode cc pc = .ok (.lastore, 1)) {σ' : Sg} (hσ : σ' = sj σ k i q.toNatClampNeg x)
    (kk : ∀ (H1 : Heap) (locs1 : List Loc), St X n σ' s.heap H1 locs1 → W p l e R s m args below meth c H1 locs1 cells slots Q (F0 m (pc + 1) ls rest)) : W p l e R s m args below meth c H locs cells slots Q (F0 m pc ls (.long x :: .int q :: .ref (xL X k i) :: rest)) := by
  subst hσ
  obtain ⟨hx, hb, hml, hown, hts, hC⟩ := F
  obtain ⟨hn, hPic, hS0⟩ := hP
  have hi' : i < cnt (nt σ) k := by rw [hn]; exact hi
  have h9 := hPic.2.1 k i hk0 hk hi'
  have harr := (hC.2.1 k hk0 hk).1
  rw [hety] at harr
  refine W.last hx hb h9 (harr _ _) (fun z => by cases z) (by rw [arrV_size]; exact hin) rfl rfl hdg fun H1 e1 e2 e3 => ?_
  refine kk H1 _ ⟨hn, hPic.setA hk0 hk hi' rfl e3 ?_ (fun k' i' hk' j => fv_sj (fun z => by omega)) (fun k' i' hne q' => av_sj (fun z => hne ⟨z.1, z.2.1⟩)), hS0.put ⟨k, i, hk, hi, rfl⟩ e2 e3⟩
  rw [e1, arrV_store]
  congr 2
  exact av_upd (by simp [av, haty, gj_sj]) (fun q' hq => av_sj (fun z => hq z.2.2))
-- calls of methods that return
theorem va_S_of (hP : St X n σ s.heap H locs) : va_S (eA X) s.heap H [] := ⟨Nat.le_of_eq hP.2.2.1.symm, fun q _ h => hP.2.2.2.1 q (by rw [← hP.1]; exact hP.2.1.out (Nat.not_le.mp h)), fun _ h => by cases h⟩
theorem g_recv (F : Fx X p s m c cc nL args own) (hP : St X n σ s.heap H locs) (k i : Nat) (hk : k < 10) (hi : i < cnt n k) : ∃ cell : Cell, H[xL X k i]? = some cell ∧ cell.vm.isStatics = false ∧ s.vm.findClass (cN k) = some cell.cls := by
  obtain ⟨cell, q1, q2, q3, -⟩ := hP.2.1.1 k i hk (by rw [hP.1]; exact hi)
  exact ⟨cell, q1, by rw [q3]; rfl, by rw [q2]; exact (F.2.2.2.2.2.1 k hk).2.1⟩
theorem g_back {σ' : Sg} {r : Option Value} {st0 : List Value} {a : Array Value} (hP : St X n σ s.heap H locs) (hr : va_Run p l e R s m args below meth c H locs cells slots 0 0 (F0 m pc ls st0) rest (QcG X n σ' r a) (fr X n))
    (kk : ∀ (H1 : Heap) (locs1 : List Loc), St X n σ' s.heap H1 locs1 → W p l e R s m args below meth c H1 locs1 cells slots Q (F0 m (pc + 3) ls (r.toList ++ rest))) : W p l e R s m args below meth c H locs cells slots Q (F0 m pc ls st0) := by
  intro T hT X1
  obtain ⟨v, st₀, t, T', L, h0, X', hL, e1, e2, ⟨hv, hn, hPic, hz, hk⟩, st⟩ := hr T hT X1
  cases hv
  rw [h0] at hz hk
  obtain ⟨t2, a1, b1⟩ := kk t.heap (locs ++ L) ⟨hn, hPic, hz.trans hP.2.2.1, fun q hq => (hk q hq).trans (hP.2.2.2.1 q hq), fun q hq => by
    rcases List.mem_append.mp hq with h | h
    · exact hP.2.2.2.2 q h
    · exact hL q h⟩ T' e1 X'
  exact ⟨t2, st t2 a1, b1⟩
variable {y : MethodName} {bytes : ByteArray} {maxL index : Nat} {ret : Option FieldType} {rm : Room} {As : List Value} {σ' : Sg} {r : Option Value} {y0 : MethodName} {b0 : ByteArray} {n0 : Nat} {r0 : Option FieldType}
/-- a call of a method of the object's own class, by the tables' words -/
theorem g_callV (F : Fx X p s m c cc nL args own) (hP : St X n σ s.heap H locs) (k i : Nat) (hk : k < 10) (hi : i < cnt n k) (hM : Met l y (cw y bytes maxL ret) rm (PcG X n σ (.ref (xL X k i) :: As)) (QcG X n σ' r) 0 0 (fr X n)) (hcls : y.cls = cN k)
    (hd : (parseMethodDescriptor y.desc).map (fun d => d.parameters.length) = some As.length) (hcode : Cond.code y bytes maxL ret ∈ TB) (hini : Cond.initialized (cN k) ∈ TB) (hlink : Cond.methodLink own index y ∈ TB) (hin : Cond.instanceMethod y ∈ TB) (hsel : Cond.selects (cN k) y y ∈ TB) (hrm : rm.cells = 0 ∧ rm.slots = 0) (hR : rm.frames + 1 ≤ R.frames ∧ 8 + (maxL + 11) + rm.locals ≤ R.locals)
    (hsize : ls.size = nL) (hW : (rest.map fun v => v.category).sum ≤ 8) (hc : cells ≤ R.cells ∧ slots ≤ R.slots) (hdg : decode cc pc = .ok (.invokevirtual index, 3)) {stk : List Value} (hstk : stk = As.reverse ++ .ref (xL X k i) :: rest)
    (kk : ∀ (H1 : Heap) (locs1 : List Loc), St X n σ' s.heap H1 locs1 → W p l e R s m args below meth c H1 locs1 cells slots Q (F0 m (pc + 3) ls (r.toList ++ rest))) : W p l e R s m args below meth c H locs cells slots Q (F0 m pc ls stk) := by
  have F' := F
  obtain ⟨hx, hb, hml, hown, hts, hC⟩ := F
  have hne : ∀ k, k < 10 → cN k ≠ "java/lang/invoke/MethodHandle" ∧ cN k ≠ "java/lang/invoke/VarHandle" := by decide +kernel
  refine g_back hP (va_runV (C := cN k) (b := xL X k i) (As := As) (n := As.length) (Ts := TB) (own := own) ⟨hx, hb, hml, hown, hts⟩ hM ⟨callB_of As.length hts (fun w hw => by
    rcases List.mem_cons.mp hw with rfl | hw
    · exact ⟨hcode, tb_good hcode⟩
    · exact ⟨hw, tb_good hw⟩) rfl hrm.1 hrm.2 (by rw [hcls]; exact hts _ hini) (hts _ hlink) ⟨by rw [hcls]; exact (hne k hk).1, by rw [hcls]; exact (hne k hk).2, hd⟩ hR, hts _ hin, hts _ hsel⟩ ⟨PcG.blind, g_recv F' hP k i hk hi, fun U hU hW => hP.fits hC hW hU _⟩ rfl rfl hsize hstk (lv_room hW) hdg ⟨by simpa using hc.1, by simpa using hc.2⟩) kk
/-- a call of a static method of ours -/
theorem g_callS (F : Fx X p s m c cc nL args own) (hP : St X n σ s.heap H locs) (hM : Met l y (cw y bytes maxL ret) rm (PcG X n σ As) (QcG X n σ' r) 0 0 (fr X n))
    (hd : y.cls ≠ "java/lang/invoke/MethodHandle" ∧ y.cls ≠ "java/lang/invoke/VarHandle" ∧ (parseMethodDescriptor y.desc).map (fun d => d.parameters.length) = some As.length) (hcode : Cond.code y bytes maxL ret ∈ TB) (hini : Cond.initialized y.cls ∈ TB) (hlink : Cond.methodLink own index y ∈ TB) (hst : Cond.static y ∈ TB) (hrm : rm.cells = 0 ∧ rm.slots = 0) (hR : rm.frames + 1 ≤ R.frames ∧ 8 + (maxL + 11) + rm.locals ≤ R.locals)
    (hsize : ls.size = nL) (hW : (rest.map fun v => v.category).sum ≤ 8) (hc : cells ≤ R.cells ∧ slots ≤ R.slots) (hdg : decode cc pc = .ok (.invokestatic index, 3)) {stk : List Value} (hstk : stk = As.reverse ++ rest)
    (kk : ∀ (H1 : Heap) (locs1 : List Loc), St X n σ' s.heap H1 locs1 → W p l e R s m args below meth c H1 locs1 cells slots Q (F0 m (pc + 3) ls (r.toList ++ rest))) : W p l e R s m args below meth c H locs cells slots Q (F0 m pc ls stk) := by
  obtain ⟨hx, hb, hml, hown, hts, hC⟩ := F
  refine g_back hP (va_runS (As := As) (n := As.length) (Ts := TB) (own := own) ⟨hx, hb, hml, hown, hts⟩ hM ⟨callB_of As.length hts (fun w hw => by
    rcases List.mem_cons.mp hw with rfl | hw
    · exact ⟨hcode, tb_good hcode⟩
    · exact ⟨hw, tb_good hw⟩) rfl hrm.1 hrm.2 (hts _ hini) (hts _ hlink) hd hR, hts _ hst⟩ ⟨PcG.blind, fun U hU hW => hP.fits hC hW hU _⟩ rfl rfl hsize hstk (lv_room hW) hdg ⟨by simpa using hc.1, by simpa using hc.2⟩) kk
-- the ends
theorem g_end {σ' : Sg} {r : Option Value} {t : State} {a : Array Value} (hP : St X n σ' s.heap H locs) (ht : t.heap = H) : QcG X n σ' r a s (.returned r) t := ⟨rfl, hP.1, by rw [ht]; exact hP.2.1, by rw [ht]; exact hP.2.2.1, fun q hq => by rw [ht]; exact hP.2.2.2.1 q hq⟩
theorem g_iret (F : Fx X p s m c cc nL args own) (hP : St X n σ s.heap H locs) (hr : meth.sig.returnType = some .int) (hlocks : meth.locks = false) {v : Int32} (hdg : decode cc pc = .ok (.ireturn, 1)) : W p l e R s m args below meth c H locs 0 0 (MQ below (QcG X n σ (some (.int v))) args s 0 0 (fr X n)) (F0 m pc ls [.int v]) :=
  W.iret F.1 F.2.1 hr (fun t ht _ => g_end hP ht) hP.2.2.2.2 hdg hlocks
theorem g_zret (F : Fx X p s m c cc nL args own) (hP : St X n σ s.heap H locs) (hr : meth.sig.returnType = some .boolean) (hlocks : meth.locks = false) {v : Int32} (hz : zb v) (hdg : decode cc pc = .ok (.ireturn, 1)) : W p l e R s m args below meth c H locs 0 0 (MQ below (QcG X n σ (some (.int v))) args s 0 0 (fr X n)) (F0 m pc ls [.int v]) :=
  W.zret F.1 F.2.1 hr (by rcases hz with rfl | rfl <;> rfl) (fun t ht _ => g_end hP ht) hP.2.2.2.2 hdg hlocks
theorem g_lret (F : Fx X p s m c cc nL args own) (hP : St X n σ s.heap H locs) (hr : meth.sig.returnType = some .long) (hlocks : meth.locks = false) {v : Int64} (hdg : decode cc pc = .ok (.lreturn, 1)) : W p l e R s m args below meth c H locs 0 0 (MQ below (QcG X n σ (some (.long v))) args s 0 0 (fr X n)) (F0 m pc ls [.long v]) :=
  W.lret F.1 F.2.1 hr (fun t ht _ => g_end hP ht) hP.2.2.2.2 hdg hlocks
theorem g_vret (F : Fx X p s m c cc nL args own) (hP : St X n σ s.heap H locs) (hr : meth.sig.returnType = none) (hlocks : meth.locks = false) (hdg : decode cc pc = .ok (.return_, 1)) : W p l e R s m args below meth c H locs 0 0 (MQ below (QcG X n σ none) args s 0 0 (fr X n)) (F0 m pc ls []) :=
  W.vret F.1 F.2.1 hr (fun t ht _ => g_end hP ht) hP.2.2.2.2 hdg hlocks
theorem g_aret (F : Fx X p s m c cc nL args own) (hP : St X n σ s.heap H locs) {rt : String} (hr : meth.sig.returnType = some (.object rt)) (hlocks : meth.locks = false) {a : Nat} (hdg : decode cc pc = .ok (.areturn, 1)) : W p l e R s m args below meth c H locs 0 0 (MQ below (QcG X n σ (some (.ref a))) args s 0 0 (fr X n)) (F0 m pc ls [.ref a]) :=
  W.aret F.1 F.2.1 hr (Or.inl ⟨_, rfl⟩) (Or.inr ⟨_, rfl⟩) (fun t ht _ => g_end hP ht) hP.2.2.2.2 hdg hlocks
end GROWS
