/-! printed by wip/gen/wgen.py: the law's loop, and its start -/
theorem d_law_0 : decode code 0 = .ok (.new 8, 3) := by decide +kernel
theorem d_law_3 : decode code 3 = .ok (.dup, 1) := by decide +kernel
theorem d_law_4 : decode code 4 = .ok (.invokespecial 63, 3) := by decide +kernel
theorem d_law_7 : decode code 7 = .ok (.astore_n 1, 1) := by decide +kernel
theorem d_law_8 : decode code 8 = .ok (.new 64, 3) := by decide +kernel
theorem d_law_11 : decode code 11 = .ok (.dup, 1) := by decide +kernel
theorem d_law_12 : decode code 12 = .ok (.invokespecial 66, 3) := by decide +kernel
theorem d_law_15 : decode code 15 = .ok (.astore_n 2, 1) := by decide +kernel
theorem d_law_16 : decode code 16 = .ok (.iconst 1, 1) := by decide +kernel
theorem d_law_17 : decode code 17 = .ok (.newarray .long, 2) := by decide +kernel
theorem d_law_19 : decode code 19 = .ok (.astore_n 3, 1) := by decide +kernel
theorem d_law_20 : decode code 20 = .ok (.iconst 0, 1) := by decide +kernel
theorem d_law_21 : decode code 21 = .ok (.istore 4, 2) := by decide +kernel
theorem d_law_23 : decode code 23 = .ok (.iload 4, 2) := by decide +kernel
theorem d_law_25 : decode code 25 = .ok (.aload_n 0, 1) := by decide +kernel
theorem d_law_26 : decode code 26 = .ok (.arraylength, 1) := by decide +kernel
theorem d_law_27 : decode code 27 = .ok (.iconst 5, 1) := by decide +kernel
theorem d_law_28 : decode code 28 = .ok (.isub, 1) := by decide +kernel
theorem d_law_29 : decode code 29 = .ok (.if_icmp .gt 1439, 3) := by decide +kernel
theorem d_law_32 : decode code 32 = .ok (.aload_n 0, 1) := by decide +kernel
theorem d_law_33 : decode code 33 = .ok (.iload 4, 2) := by decide +kernel
theorem d_law_35 : decode code 35 = .ok (.iaload, 1) := by decide +kernel
theorem d_law_36 : decode code 36 = .ok (.bipush 31, 2) := by decide +kernel
theorem d_law_38 : decode code 38 = .ok (.iand, 1) := by decide +kernel
theorem d_law_39 : decode code 39 = .ok (.tableswitch 1423 0 18 #[89, 145, 242, 349, 456, 481, 608, 719, 838, 930, 941, 1009, 1065, 1132, 1207, 1244, 1281, 1342, 1379], 89) := by decide +kernel
theorem d_law_1462 : decode code 1462 = .ok (.iinc 4 5, 3) := by decide +kernel
theorem d_law_1465 : decode code 1465 = .ok (.goto (-1442), 3) := by decide +kernel
theorem d_law_1468 : decode code 1468 = .ok (.iconst 1, 1) := by decide +kernel
theorem d_law_1469 : decode code 1469 = .ok (.ireturn, 1) := by decide +kernel
noncomputable def g_step (op a1 a2 a3 a4 : Int32) (σ : Sg) : Option Sg :=
  if op &&& 31 = 0 then g_law_0 a1 a2 a3 a4 σ else if op &&& 31 = 1 then g_law_1 a1 a2 a3 a4 σ else if op &&& 31 = 2 then g_law_2 a1 a2 a3 a4 σ else if op &&& 31 = 3 then g_law_3 a1 a2 a3 a4 σ else if op &&& 31 = 4 then g_law_4 a1 a2 a3 a4 σ else if op &&& 31 = 5 then g_law_5 a1 a2 a3 a4 σ else if op &&& 31 = 6 then g_law_6 a1 a2 a3 a4 σ else if op &&& 31 = 7 then g_law_7 a1 a2 a3 a4 σ else if op &&& 31 = 8 then g_law_8 a1 a2 a3 a4 σ else if op &&& 31 = 9 then g_law_9 a1 a2 a3 a4 σ else if op &&& 31 = 10 then g_law_10 a1 a2 a3 a4 σ else if op &&& 31 = 11 then g_law_11 a1 a2 a3 a4 σ else if op &&& 31 = 12 then g_law_12 a1 a2 a3 a4 σ else if op &&& 31 = 13 then g_law_13 a1 a2 a3 a4 σ else if op &&& 31 = 14 then g_law_14 a1 a2 a3 a4 σ else if op &&& 31 = 15 then g_law_15 a1 a2 a3 a4 σ else if op &&& 31 = 16 then g_law_16 a1 a2 a3 a4 σ else if op &&& 31 = 17 then g_law_17 a1 a2 a3 a4 σ else if op &&& 31 = 18 then g_law_18 a1 a2 a3 a4 σ else some σ
noncomputable def f_loop (xs : Nat → Int32) : Nat → Nat → Sg → Option Sg
  | 0, _, σ => some σ
  | d + 1, j, σ => (g_step (xs (5 * j)) (xs (5 * j + 1)) (xs (5 * j + 2)) (xs (5 * j + 3)) (xs (5 * j + 4)) σ).bind (f_loop xs d (j + 1))
theorem lim_eq {L i : Nat} (hL : L ≤ 2560) (hi : i ≤ 2560) : Int32.ofNat L - 5 < nI i ↔ L < i + 5 := by
  have e1 : (Int32.ofNat L - 5).toInt = (L : Int) - 5 := by
    rw [Int32.toInt_sub, show (Int32.ofNat L).toInt = (L : Int) from nI_toInt (by omega), show (5 : Int32).toInt = 5 from rfl]
    exact Int.bmod_eq_of_le (by omega) (by omega)
  rw [Int32.lt_iff_toInt_lt, e1, nI_toInt (by omega)]
  omega
theorem nI_off (i d : Nat) : nI i + nI d = nI (i + d) := nI_add i d
section LWHOLE
variable {p : Program} {l : Launch} {e : Env} {s : State} {m : MethodId} {args : Array Value} {below : List Frame} {meth : Method} {c : Code} {Q : State → Prop} {b L : Nat} {xs : Nat → Int32}
theorem h_slen {X : GX} {n : Nat} {σ : Sg} {H : Heap} {locs : List Loc} {cells slots pc nL : Nat} {cc : ByteArray} {ls : Array Slot} {rest : List Value} {R : Room} {own : String} (F : Fx X p s m c cc nL args own) (hP : SL X n σ s.heap H locs) (hX : va_X b L xs s s.heap) (hbl : b < s.heap.size) (hdg : decode cc pc = .ok (.arraylength, 1))
    (kk : W p l e R s m args below meth c H locs cells slots Q (F0 m (pc + 1) ls (.int (Int32.ofNat L) :: rest))) : W p l e R s m args below meth c H locs cells slots Q (F0 m pc ls (.ref b :: rest)) := by
  obtain ⟨scr, h1, h2, h3, h4, h5⟩ := hX
  exact W.alen (n := Int32.ofNat L) F.1 F.2.1 (by rw [hP.2.2.2.1 b (by rw [hP.2.2.1]; exact hbl)]; exact h1) h2 (by rw [h4] <;> rfl) rfl rfl hdg kk
set_option maxHeartbeats 4000000 in
set_option maxRecDepth 100000 in
theorem law_loop (hfl : l.flags = flags0) (hX : va_X b L xs s s.heap) (hbl : b < s.heap.size) (hL : L ≤ 2560)
    (kx : ∀ (X : GX) (n : Nat) (σ : Sg) (H : Heap) (locs : List Loc) (ls : Array Slot) (cells slots : Nat), Fx X p s m c code 8 args "TableMachineLaw" → SL X n σ s.heap H locs → cells ≤ 601024 → slots ≤ 7293034 → W p l e room_1 s m args below meth c H locs cells slots Q (F0 m 1468 ls [])) :
    ∀ (d j : Nat), j + d = L / 5 → ∀ (X : GX) (n : Nat) (σ σ' : Sg) (H : Heap) (locs : List Loc) (ls : Array Slot) (cells slots : Nat), Fx X p s m c code 8 args "TableMachineLaw" → SL X n σ s.heap H locs → lv_has ls 8 [(0, .ref b), (1, .ref (xL X 0 0)), (2, .ref (xL X 9 0)), (3, .ref (xL X 44 0)), (4, .int (nI (5 * j)))] → cells + 5 * d ≤ 601024 → slots + 728 * d ≤ 7293034 → f_loop xs d j σ = some σ' →
      W p l e room_1 s m args below meth c H locs cells slots Q (F0 m 23 ls []) := by
  intro d
  induction d with
  | zero =>
    intro j hj X n σ σ' H locs ls cells slots F hP hl hc1 hc2 hf
    refine lv_iload F.1 F.2.1 d_law_23 (lv_at hl 4 rfl) ?_
    refine lv_aload_n F.1 F.2.1 d_law_25 rfl (lv_at hl 0 rfl) ?_
    refine h_slen F hP hX hbl d_law_26 ?_
    refine lv_iconst (v := 5) F.1 F.2.1 d_law_27 (by decide) ?_
    refine lv_isub F.1 F.2.1 d_law_28 ?_
    refine lv_icmp_gt F.1 F.2.1 d_law_29 rfl (fun _ => kx X n σ H locs ls cells slots F hP (by omega) (by omega)) (fun h => absurd ((lim_eq hL (by omega)).mpr (by omega)) h)
  | succ d ih =>
    intro j hj X n σ σ' H locs ls cells slots F hP hl hc1 hc2 hf
    obtain ⟨σ1, hs, hf⟩ := bnd_some hf
    have hj5 : 5 * j + 5 ≤ L := by omega
    refine lv_iload F.1 F.2.1 d_law_23 (lv_at hl 4 rfl) ?_
    refine lv_aload_n F.1 F.2.1 d_law_25 rfl (lv_at hl 0 rfl) ?_
    refine h_slen F hP hX hbl d_law_26 ?_
    refine lv_iconst (v := 5) F.1 F.2.1 d_law_27 (by decide) ?_
    refine lv_isub F.1 F.2.1 d_law_28 ?_
    refine lv_icmp_gt F.1 F.2.1 d_law_29 rfl (fun h => absurd ((lim_eq hL (by omega)).mp h) (by omega)) (fun _ => ?_)
    refine lv_aload_n F.1 F.2.1 d_law_32 rfl (lv_at hl 0 rfl) ?_
    refine lv_iload F.1 F.2.1 d_law_33 (lv_at hl 4 rfl) ?_
    have hcl : ∀ d, d < 5 → vp_in (nI (5 * j) + nI d) L ∧ xs (nI (5 * j) + nI d).toNatClampNeg = xs (5 * j + d) := fun d hd => by
      rw [nI_off]
      exact ⟨vp_in_nI (by omega) (by omega), by rw [nI_clamp (by omega)]⟩
    refine h_scr F hP hX hbl (a := xs (5 * j)) (vp_in_nI (by omega) (by omega)) (by rw [nI_clamp (by omega)]) d_law_35 ?_
    refine lv_bipush (v := 31) F.1 F.2.1 d_law_36 (by decide) ?_
    refine lv_iand F.1 F.2.1 d_law_38 ?_
    have hin1 : vp_in (nI (5 * j) + 1) L := (hcl 1 (by decide)).1
    have hin2 : vp_in (nI (5 * j) + 2) L := (hcl 2 (by decide)).1
    have hin3 : vp_in (nI (5 * j) + 3) L := (hcl 3 (by decide)).1
    have hin4 : vp_in (nI (5 * j) + 4) L := (hcl 4 (by decide)).1
    have hx1 : xs (nI (5 * j) + 1).toNatClampNeg = xs (5 * j + 1) := (hcl 1 (by decide)).2
    have hx2 : xs (nI (5 * j) + 2).toNatClampNeg = xs (5 * j + 2) := (hcl 2 (by decide)).2
    have hx3 : xs (nI (5 * j) + 3).toNatClampNeg = xs (5 * j + 3) := (hcl 3 (by decide)).2
    have hx4 : xs (nI (5 * j) + 4).toNatClampNeg = xs (5 * j + 4) := (hcl 4 (by decide)).2
    have kk : ∀ (X : GX) (n : Nat) (H : Heap) (locs : List Loc) (ls : Array Slot), Fx X p s m c code 8 args "TableMachineLaw" → SL X n σ1 s.heap H locs → lv_has ls 8 [(0, .ref b), (1, .ref (xL X 0 0)), (2, .ref (xL X 9 0)), (3, .ref (xL X 44 0)), (4, .int (nI (5 * j)))] → W p l e room_1 s m args below meth c H locs (cells + 5) (slots + 728) Q (F0 m 1462 ls []) := by
      intro X n H locs ls F hP hl
      refine lv_iinc (k := 4) (v := nI (5 * (j + 1))) F.1 F.2.1 d_law_1462 hl rfl (by show nI (5 * j) + nI 5 = _; rw [nI_off]; congr 1) (by decide) rfl (fun ls hl => ?_)
      refine lv_goto F.1 F.2.1 d_law_1465 rfl ?_
      exact ih (j + 1) (by omega) X n σ1 σ' H locs ls (cells + 5) (slots + 728) F hP (lv_sub hl [1, 2, 3, 4, 0] rfl) (by omega) (by omega) hf
    have hcs : cells + 5 ≤ 601024 ∧ slots + 728 ≤ 7293034 := ⟨by omega, by omega⟩
    unfold g_step at hs
    generalize hop : xs (5 * j) &&& 31 = op at hs ⊢
    by_cases z0 : op = 0
    · rw [if_pos z0] at hs
      refine lv_tableIn F.1 F.2.1 d_law_39 (by rw [z0]; decide) (by rw [z0]; decide) (off := 89) (by rw [z0]; decide) rfl ?_
      exact s_law_0 hfl F hP hl hX hbl hin1 hin2 hin3 hin4 hx1 hx2 hx3 hx4 hcs hs kk
    rw [if_neg z0] at hs
    by_cases z1 : op = 1
    · rw [if_pos z1] at hs
      refine lv_tableIn F.1 F.2.1 d_law_39 (by rw [z1]; decide) (by rw [z1]; decide) (off := 145) (by rw [z1]; decide) rfl ?_
      exact s_law_1 hfl F hP hl hX hbl hin1 hin2 hin3 hin4 hx1 hx2 hx3 hx4 hcs hs kk
    rw [if_neg z1] at hs
    by_cases z2 : op = 2
    · rw [if_pos z2] at hs
      refine lv_tableIn F.1 F.2.1 d_law_39 (by rw [z2]; decide) (by rw [z2]; decide) (off := 242) (by rw [z2]; decide) rfl ?_
      exact s_law_2 hfl F hP hl hX hbl hin1 hin2 hin3 hin4 hx1 hx2 hx3 hx4 hcs hs kk
    rw [if_neg z2] at hs
    by_cases z3 : op = 3
    · rw [if_pos z3] at hs
      refine lv_tableIn F.1 F.2.1 d_law_39 (by rw [z3]; decide) (by rw [z3]; decide) (off := 349) (by rw [z3]; decide) rfl ?_
      exact s_law_3 hfl F hP hl hX hbl hin1 hin2 hin3 hin4 hx1 hx2 hx3 hx4 hcs hs kk
    rw [if_neg z3] at hs
    by_cases z4 : op = 4
    · rw [if_pos z4] at hs
      refine lv_tableIn F.1 F.2.1 d_law_39 (by rw [z4]; decide) (by rw [z4]; decide) (off := 456) (by rw [z4]; decide) rfl ?_
      exact s_law_4 hfl F hP hl hX hbl hin1 hin2 hin3 hin4 hx1 hx2 hx3 hx4 hcs hs kk
    rw [if_neg z4] at hs
    by_cases z5 : op = 5
    · rw [if_pos z5] at hs
      refine lv_tableIn F.1 F.2.1 d_law_39 (by rw [z5]; decide) (by rw [z5]; decide) (off := 481) (by rw [z5]; decide) rfl ?_
      exact s_law_5 hfl F hP hl hX hbl hin1 hin2 hin3 hin4 hx1 hx2 hx3 hx4 hcs hs kk
    rw [if_neg z5] at hs
    by_cases z6 : op = 6
    · rw [if_pos z6] at hs
      refine lv_tableIn F.1 F.2.1 d_law_39 (by rw [z6]; decide) (by rw [z6]; decide) (off := 608) (by rw [z6]; decide) rfl ?_
      exact s_law_6 hfl F hP hl hX hbl hin1 hin2 hin3 hin4 hx1 hx2 hx3 hx4 hcs hs kk
    rw [if_neg z6] at hs
    by_cases z7 : op = 7
    · rw [if_pos z7] at hs
      refine lv_tableIn F.1 F.2.1 d_law_39 (by rw [z7]; decide) (by rw [z7]; decide) (off := 719) (by rw [z7]; decide) rfl ?_
      exact s_law_7 hfl F hP hl hX hbl hin1 hin2 hin3 hin4 hx1 hx2 hx3 hx4 hcs hs kk
    rw [if_neg z7] at hs
    by_cases z8 : op = 8
    · rw [if_pos z8] at hs
      refine lv_tableIn F.1 F.2.1 d_law_39 (by rw [z8]; decide) (by rw [z8]; decide) (off := 838) (by rw [z8]; decide) rfl ?_
      exact s_law_8 hfl F hP hl hX hbl hin1 hin2 hin3 hin4 hx1 hx2 hx3 hx4 hcs hs kk
    rw [if_neg z8] at hs
    by_cases z9 : op = 9
    · rw [if_pos z9] at hs
      refine lv_tableIn F.1 F.2.1 d_law_39 (by rw [z9]; decide) (by rw [z9]; decide) (off := 930) (by rw [z9]; decide) rfl ?_
      exact s_law_9 hfl F hP hl hX hbl hin1 hin2 hin3 hin4 hx1 hx2 hx3 hx4 hcs hs kk
    rw [if_neg z9] at hs
    by_cases z10 : op = 10
    · rw [if_pos z10] at hs
      refine lv_tableIn F.1 F.2.1 d_law_39 (by rw [z10]; decide) (by rw [z10]; decide) (off := 941) (by rw [z10]; decide) rfl ?_
      exact s_law_10 hfl F hP hl hX hbl hin1 hin2 hin3 hin4 hx1 hx2 hx3 hx4 hcs hs kk
    rw [if_neg z10] at hs
    by_cases z11 : op = 11
    · rw [if_pos z11] at hs
      refine lv_tableIn F.1 F.2.1 d_law_39 (by rw [z11]; decide) (by rw [z11]; decide) (off := 1009) (by rw [z11]; decide) rfl ?_
      exact s_law_11 hfl F hP hl hX hbl hin1 hin2 hin3 hin4 hx1 hx2 hx3 hx4 hcs hs kk
    rw [if_neg z11] at hs
    by_cases z12 : op = 12
    · rw [if_pos z12] at hs
      refine lv_tableIn F.1 F.2.1 d_law_39 (by rw [z12]; decide) (by rw [z12]; decide) (off := 1065) (by rw [z12]; decide) rfl ?_
      exact s_law_12 hfl F hP hl hX hbl hin1 hin2 hin3 hin4 hx1 hx2 hx3 hx4 hcs hs kk
    rw [if_neg z12] at hs
    by_cases z13 : op = 13
    · rw [if_pos z13] at hs
      refine lv_tableIn F.1 F.2.1 d_law_39 (by rw [z13]; decide) (by rw [z13]; decide) (off := 1132) (by rw [z13]; decide) rfl ?_
      exact s_law_13 hfl F hP hl hX hbl hin1 hin2 hin3 hin4 hx1 hx2 hx3 hx4 hcs hs kk
    rw [if_neg z13] at hs
    by_cases z14 : op = 14
    · rw [if_pos z14] at hs
      refine lv_tableIn F.1 F.2.1 d_law_39 (by rw [z14]; decide) (by rw [z14]; decide) (off := 1207) (by rw [z14]; decide) rfl ?_
      exact s_law_14 hfl F hP hl hX hbl hin1 hin2 hin3 hin4 hx1 hx2 hx3 hx4 hcs hs kk
    rw [if_neg z14] at hs
    by_cases z15 : op = 15
    · rw [if_pos z15] at hs
      refine lv_tableIn F.1 F.2.1 d_law_39 (by rw [z15]; decide) (by rw [z15]; decide) (off := 1244) (by rw [z15]; decide) rfl ?_
      exact s_law_15 hfl F hP hl hX hbl hin1 hin2 hin3 hin4 hx1 hx2 hx3 hx4 hcs hs kk
    rw [if_neg z15] at hs
    by_cases z16 : op = 16
    · rw [if_pos z16] at hs
      refine lv_tableIn F.1 F.2.1 d_law_39 (by rw [z16]; decide) (by rw [z16]; decide) (off := 1281) (by rw [z16]; decide) rfl ?_
      exact s_law_16 hfl F hP hl hX hbl hin1 hin2 hin3 hin4 hx1 hx2 hx3 hx4 hcs hs kk
    rw [if_neg z16] at hs
    by_cases z17 : op = 17
    · rw [if_pos z17] at hs
      refine lv_tableIn F.1 F.2.1 d_law_39 (by rw [z17]; decide) (by rw [z17]; decide) (off := 1342) (by rw [z17]; decide) rfl ?_
      exact s_law_17 hfl F hP hl hX hbl hin1 hin2 hin3 hin4 hx1 hx2 hx3 hx4 hcs hs kk
    rw [if_neg z17] at hs
    by_cases z18 : op = 18
    · rw [if_pos z18] at hs
      refine lv_tableIn F.1 F.2.1 d_law_39 (by rw [z18]; decide) (by rw [z18]; decide) (off := 1379) (by rw [z18]; decide) rfl ?_
      exact s_law_18 hfl F hP hl hX hbl hin1 hin2 hin3 hin4 hx1 hx2 hx3 hx4 hcs hs kk
    rw [if_neg z18] at hs
    have y0 := lv_neT z0 (k := 0) (a := 0) rfl
    have y1 := lv_neT z1 (k := 1) (a := 1) rfl
    have y2 := lv_neT z2 (k := 2) (a := 2) rfl
    have y3 := lv_neT z3 (k := 3) (a := 3) rfl
    have y4 := lv_neT z4 (k := 4) (a := 4) rfl
    have y5 := lv_neT z5 (k := 5) (a := 5) rfl
    have y6 := lv_neT z6 (k := 6) (a := 6) rfl
    have y7 := lv_neT z7 (k := 7) (a := 7) rfl
    have y8 := lv_neT z8 (k := 8) (a := 8) rfl
    have y9 := lv_neT z9 (k := 9) (a := 9) rfl
    have y10 := lv_neT z10 (k := 10) (a := 10) rfl
    have y11 := lv_neT z11 (k := 11) (a := 11) rfl
    have y12 := lv_neT z12 (k := 12) (a := 12) rfl
    have y13 := lv_neT z13 (k := 13) (a := 13) rfl
    have y14 := lv_neT z14 (k := 14) (a := 14) rfl
    have y15 := lv_neT z15 (k := 15) (a := 15) rfl
    have y16 := lv_neT z16 (k := 16) (a := 16) rfl
    have y17 := lv_neT z17 (k := 17) (a := 17) rfl
    have y18 := lv_neT z18 (k := 18) (a := 18) rfl
    cases hs
    refine lv_tableOut F.1 F.2.1 d_law_39 (by omega) rfl ?_
    exact W.widen (by omega) (by omega) (kk X n H locs ls F hP hl)
end LWHOLE
