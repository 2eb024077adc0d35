set_option maxRecDepth 100000
section
variable {p : Program} {l : Launch} {e : Env} {s : State} {m : MethodId} {args : Array Value} {below : List Frame} {meth : Method} {c : Code} {H : Heap} {Q : State → Prop} {K : oK} {D : va_G} {dA : Nat → ClassId} {o oM : Nat} {q qM : Nat → Nat} {S : sX} {M : sM} {b L u w N : Nat} {xs : Nat → Int32} {ls : Array Slot} {i0 : Int32} {INV : sX → sM → Prop}

theorem law_loop (hS : LWS K l p m c s args b L xs) (hob : OBS N INV) (hL : L ≤ 384) (hend : ∀ (H : Heap) (ls : Array Slot) (u w : Nat), u ≤ 603072 → w ≤ 7262314 → W p l e room_1 s m args below meth c H [] u w Q (F0 m 1645 ls [])) :
    ∀ (n k : Nat) (S : sX) (M : sM) (H : Heap) (ls : Array Slot), n + k = 65 → INV S M → LH D dA o q oM qM S M s H → lv_has ls 4 [(0, .ref b), (1, .ref o), (2, .ref oM), (3, .int (nI (6 * k)))] → W p l e room_1 s m args below meth c H [] (300 + 9000 * k) (20000 + 110000 * k) Q (F0 m 18 ls []) := by
  have X := hS.1
  have hx := X.1
  have hb := X.2.1
  intro n
  induction n with
  | zero =>
    intro k S M H ls hk hI hM hl
    have hk : k = 65 := by omega
    subst hk
    refine lv_iload_n hx hb dL_law_18 rfl (lv_at hl 3 rfl) ?_
    refine lv_aload_n hx hb dL_law_19 rfl (lv_at hl 0 rfl) ?_
    refine va_slen hx hb hS.2.1 hS.2.2.1 (Nat.not_le.mpr hS.2.2.1) hM.2.2.2 dL_law_20 ?_
    refine lv_bipush (v := 6) hx hb dL_law_21 (by decide) ?_
    refine lv_isub hx hb dL_law_23 ?_
    refine lv_icmp_gt (tgt := 1645) hx hb dL_law_24 rfl (fun _ => hend _ _ _ _ (by decide) (by decide)) (fun cnd => absurd ?_ cnd)
    rw [Int32.lt_iff_toInt_lt, show (Int32.ofNat L - 6).toInt = (L : Int) - 6 from pk_sub_toInt (a := L) (b := 6) (by omega) (by decide), nI_toInt (by decide)]
    omega
  | succ n ih =>
    intro k S M H ls hk hI hM hl
    refine lv_iload_n hx hb dL_law_18 rfl (lv_at hl 3 rfl) ?_
    refine lv_aload_n hx hb dL_law_19 rfl (lv_at hl 0 rfl) ?_
    refine va_slen hx hb hS.2.1 hS.2.2.1 (Nat.not_le.mpr hS.2.2.1) hM.2.2.2 dL_law_20 ?_
    refine lv_bipush (v := 6) hx hb dL_law_21 (by decide) ?_
    refine lv_isub hx hb dL_law_23 ?_
    refine lv_icmp_gt (tgt := 1645) hx hb dL_law_24 rfl (fun _ => hend _ _ _ _ (by omega) (by omega)) (fun cnd => ?_)
    have hkL : 6 * k + 6 ≤ L := by
      rw [Int32.lt_iff_toInt_lt, show (Int32.ofNat L - 6).toInt = (L : Int) - 6 from pk_sub_toInt (a := L) (b := 6) (by omega) (by decide), nI_toInt (by omega)] at cnd
      omega
    have hi : ∀ j : Nat, j < 6 → vp_in (nI (6 * k) + Int32.ofNat j) L := fun j hj => by
      rw [show nI (6 * k) + Int32.ofNat j = nI (6 * k + j) from nI_add _ _]
      exact vp_in_nI (by omega) (by omega)
    have hu : 300 + 9000 * k + 9000 ≤ 603072 := by omega
    have hw : 20000 + 110000 * k + 110000 ≤ 7262314 := by omega
    have hnext : ∀ (S1 : sX) (M1 : sM) (H1 : Heap), INV S1 M1 → LH D dA o q oM qM S1 M1 s H1 → W p l e room_1 s m args below meth c H1 [] (300 + 9000 * k + 9000) (20000 + 110000 * k + 110000) Q (F0 m 1639 ls []) := fun S1 M1 H1 hI1 hM1 => by
      refine e_inc (w := 6) (f := fun v => [(3, .int v), (0, .ref b), (1, .ref o), (2, .ref oM)]) hx hb dL_law_1639 hl (k := 3) rfl (by decide) (by decide) (fun _ => rfl) (fun v ex ls hl => ?_)
      refine lv_goto (tgt := 18) hx hb dL_law_1642 rfl ?_
      have ev : v = nI (6 * (k + 1)) := by rw [ex, show (6 : Int32) = nI 6 from rfl, nI_add]; congr 1
      subst ev
      have := ih (k + 1) S1 M1 H1 ls (by omega) hI1 hM1 (lv_sub hl [1, 2, 3, 0] rfl)
      rw [show 300 + 9000 * (k + 1) = 300 + 9000 * k + 9000 by omega, show 20000 + 110000 * (k + 1) = 20000 + 110000 * k + 110000 by omega] at this
      exact this
    refine lv_aload_n hx hb dL_law_27 rfl (lv_at hl 0 rfl) ?_
    refine lv_iload_n hx hb dL_law_28 rfl (lv_at hl 3 rfl) ?_
    refine va_sld hx hb hS.2.1 hS.2.2.1 (Nat.not_le.mpr hS.2.2.1) hM.2.2.2 (by have h0 := hi 0 (by decide); rwa [show nI (6 * k) + Int32.ofNat 0 = nI (6 * k) from nI_add (6 * k) 0] at h0) dL_law_29 ?_
    refine lv_bipush (v := 63) hx hb dL_law_30 (by decide) ?_
    refine lv_iand hx hb dL_law_32 ?_
    generalize (xs (nI (6 * k)).toNatClampNeg &&& (63 : Int32)) = z
    by_cases c0 : z = (0 : Int32)
    · refine lv_tableIn (off := 163) (tgt := 196) hx hb dL_law_33 (by rw [c0]; decide) (by rw [c0]; decide) (by rw [c0]; rfl) rfl ?_
      exact cL_feed hS hob.1 hI hM hi hl hu hw hnext
    by_cases c1 : z = (1 : Int32)
    · refine lv_tableIn (off := 216) (tgt := 249) hx hb dL_law_33 (by rw [c1]; decide) (by rw [c1]; decide) (by rw [c1]; rfl) rfl ?_
      exact cL_end hS hob.2.1 hI hM hi hl hu hw hnext
    by_cases c2 : z = (2 : Int32)
    · refine lv_tableIn (off := 239) (tgt := 272) hx hb dL_law_33 (by rw [c2]; decide) (by rw [c2]; decide) (by rw [c2]; rfl) rfl ?_
      exact cL_program hS hob.2.2.1 hI hM hi hl hu hw hnext
    by_cases c3 : z = (3 : Int32)
    · refine lv_tableIn (off := 252) (tgt := 285) hx hb dL_law_33 (by rw [c3]; decide) (by rw [c3]; decide) (by rw [c3]; rfl) rfl ?_
      exact cL_fault hS hob.2.2.2.1 hI hM hi hl hu hw hnext
    by_cases c4 : z = (4 : Int32)
    · refine lv_tableIn (off := 265) (tgt := 298) hx hb dL_law_33 (by rw [c4]; decide) (by rw [c4]; decide) (by rw [c4]; rfl) rfl ?_
      exact cL_line hS hob.2.2.2.2.1 hI hM hi hl hu hw hnext
    by_cases c5 : z = (5 : Int32)
    · refine lv_tableIn (off := 298) (tgt := 331) hx hb dL_law_33 (by rw [c5]; decide) (by rw [c5]; decide) (by rw [c5]; rfl) rfl ?_
      exact cL_step hS hob.2.2.2.2.2.1 hI hM hi hl hu hw hnext
    by_cases c6 : z = (6 : Int32)
    · refine lv_tableIn (off := 321) (tgt := 354) hx hb dL_law_33 (by rw [c6]; decide) (by rw [c6]; decide) (by rw [c6]; rfl) rfl ?_
      exact cL_whole hS hob.2.2.2.2.2.2.1 hI hM hi hl hu hw hnext
    by_cases c7 : z = (7 : Int32)
    · refine lv_tableIn (off := 344) (tgt := 377) hx hb dL_law_33 (by rw [c7]; decide) (by rw [c7]; decide) (by rw [c7]; rfl) rfl ?_
      exact cL_ratio hS hob.2.2.2.2.2.2.2.1 hI hM hi hl hu hw hnext
    by_cases c8 : z = (8 : Int32)
    · refine lv_tableIn (off := 397) (tgt := 430) hx hb dL_law_33 (by rw [c8]; decide) (by rw [c8]; decide) (by rw [c8]; rfl) rfl ?_
      exact cL_loop hS hob.2.2.2.2.2.2.2.2.1 hI hM hi hl hu hw hnext
    by_cases c9 : z = (9 : Int32)
    · refine lv_tableIn (off := 430) (tgt := 463) hx hb dL_law_33 (by rw [c9]; decide) (by rw [c9]; decide) (by rw [c9]; rfl) rfl ?_
      exact cL_went hS hob.2.2.2.2.2.2.2.2.2.1 hI hM hi hl hu hw hnext
    by_cases c10 : z = (10 : Int32)
    · refine lv_tableIn (off := 473) (tgt := 506) hx hb dL_law_33 (by rw [c10]; decide) (by rw [c10]; decide) (by rw [c10]; rfl) rfl ?_
      exact cL_hot hS hob.2.2.2.2.2.2.2.2.2.2.1 hI hM hi hl hu hw hnext
    by_cases c11 : z = (11 : Int32)
    · refine lv_tableIn (off := 516) (tgt := 549) hx hb dL_law_33 (by rw [c11]; decide) (by rw [c11]; decide) (by rw [c11]; rfl) rfl ?_
      exact cL_keep hS hob.2.2.2.2.2.2.2.2.2.2.2.1 hI hM hi hl hu hw hnext
    by_cases c12 : z = (12 : Int32)
    · refine lv_tableIn (off := 529) (tgt := 562) hx hb dL_law_33 (by rw [c12]; decide) (by rw [c12]; decide) (by rw [c12]; rfl) rfl ?_
      exact cL_beside hS hob.2.2.2.2.2.2.2.2.2.2.2.2.1 hI hM hi hl hu hw hnext
    by_cases c13 : z = (13 : Int32)
    · refine lv_tableIn (off := 562) (tgt := 595) hx hb dL_law_33 (by rw [c13]; decide) (by rw [c13]; decide) (by rw [c13]; rfl) rfl ?_
      exact cL_counters hS hob.2.2.2.2.2.2.2.2.2.2.2.2.2.1 hI hM hi hl hu hw hnext
    by_cases c14 : z = (14 : Int32)
    · refine lv_tableIn (off := 585) (tgt := 618) hx hb dL_law_33 (by rw [c14]; decide) (by rw [c14]; decide) (by rw [c14]; rfl) rfl ?_
      exact cL_mask hS hob.2.2.2.2.2.2.2.2.2.2.2.2.2.2.1 hI hM hi hl hu hw hnext
    by_cases c15 : z = (15 : Int32)
    · refine lv_tableIn (off := 618) (tgt := 651) hx hb dL_law_33 (by rw [c15]; decide) (by rw [c15]; decide) (by rw [c15]; rfl) rfl ?_
      exact cL_width hS hob.2.2.2.2.2.2.2.2.2.2.2.2.2.2.2.1 hI hM hi hl hu hw hnext
    by_cases c16 : z = (16 : Int32)
    · refine lv_tableIn (off := 651) (tgt := 684) hx hb dL_law_33 (by rw [c16]; decide) (by rw [c16]; decide) (by rw [c16]; rfl) rfl ?_
      exact cL_together hS hob.2.2.2.2.2.2.2.2.2.2.2.2.2.2.2.2.1 hI hM hi hl hu hw hnext
    by_cases c17 : z = (17 : Int32)
    · refine lv_tableIn (off := 674) (tgt := 707) hx hb dL_law_33 (by rw [c17]; decide) (by rw [c17]; decide) (by rw [c17]; rfl) rfl ?_
      exact cL_goes hS hob.2.2.2.2.2.2.2.2.2.2.2.2.2.2.2.2.2.1 hI hM hi hl hu hw hnext
    by_cases c18 : z = (18 : Int32)
    · refine lv_tableIn (off := 707) (tgt := 740) hx hb dL_law_33 (by rw [c18]; decide) (by rw [c18]; decide) (by rw [c18]; rfl) rfl ?_
      exact cL_rounds hS hob.2.2.2.2.2.2.2.2.2.2.2.2.2.2.2.2.2.2.1 hI hM hi hl hu hw hnext
    by_cases c19 : z = (19 : Int32)
    · refine lv_tableIn (off := 740) (tgt := 773) hx hb dL_law_33 (by rw [c19]; decide) (by rw [c19]; decide) (by rw [c19]; rfl) rfl ?_
      exact cL_sliced hS hob.2.2.2.2.2.2.2.2.2.2.2.2.2.2.2.2.2.2.2.1 hI hM hi hl hu hw hnext
    by_cases c20 : z = (20 : Int32)
    · refine lv_tableIn (off := 793) (tgt := 826) hx hb dL_law_33 (by rw [c20]; decide) (by rw [c20]; decide) (by rw [c20]; rfl) rfl ?_
      exact cL_scaled hS hob.2.2.2.2.2.2.2.2.2.2.2.2.2.2.2.2.2.2.2.2.1 hI hM hi hl hu hw hnext
    by_cases c21 : z = (21 : Int32)
    · refine lv_tableIn (off := 847) (tgt := 880) hx hb dL_law_33 (by rw [c21]; decide) (by rw [c21]; decide) (by rw [c21]; rfl) rfl ?_
      exact cL_finest hS hob.2.2.2.2.2.2.2.2.2.2.2.2.2.2.2.2.2.2.2.2.2.1 hI hM hi hl hu hw hnext
    by_cases c22 : z = (22 : Int32)
    · refine lv_tableIn (off := 900) (tgt := 933) hx hb dL_law_33 (by rw [c22]; decide) (by rw [c22]; decide) (by rw [c22]; rfl) rfl ?_
      exact cL_shows hS hob.2.2.2.2.2.2.2.2.2.2.2.2.2.2.2.2.2.2.2.2.2.2.1 hI hM hi hl hu hw hnext
    by_cases c23 : z = (23 : Int32)
    · refine lv_tableIn (off := 963) (tgt := 996) hx hb dL_law_33 (by rw [c23]; decide) (by rw [c23]; decide) (by rw [c23]; rfl) rfl ?_
      exact cL_samples hS hob.2.2.2.2.2.2.2.2.2.2.2.2.2.2.2.2.2.2.2.2.2.2.2.1 hI hM hi hl hu hw hnext
    by_cases c24 : z = (24 : Int32)
    · refine lv_tableIn (off := 1026) (tgt := 1059) hx hb dL_law_33 (by rw [c24]; decide) (by rw [c24]; decide) (by rw [c24]; rfl) rfl ?_
      exact cL_far hS hob.2.2.2.2.2.2.2.2.2.2.2.2.2.2.2.2.2.2.2.2.2.2.2.2.1 hI hM hi hl hu hw hnext
    by_cases c25 : z = (25 : Int32)
    · refine lv_tableIn (off := 1090) (tgt := 1123) hx hb dL_law_33 (by rw [c25]; decide) (by rw [c25]; decide) (by rw [c25]; rfl) rfl ?_
      exact cL_truest hS hob.2.2.2.2.2.2.2.2.2.2.2.2.2.2.2.2.2.2.2.2.2.2.2.2.2.1 hI hM hi hl hu hw hnext
    by_cases c26 : z = (26 : Int32)
    · refine lv_tableIn (off := 1143) (tgt := 1176) hx hb dL_law_33 (by rw [c26]; decide) (by rw [c26]; decide) (by rw [c26]; rfl) rfl ?_
      exact cL_beats hS hob.2.2.2.2.2.2.2.2.2.2.2.2.2.2.2.2.2.2.2.2.2.2.2.2.2.2.1 hI hM hi hl hu hw hnext
    by_cases c27 : z = (27 : Int32)
    · refine lv_tableIn (off := 1196) (tgt := 1229) hx hb dL_law_33 (by rw [c27]; decide) (by rw [c27]; decide) (by rw [c27]; rfl) rfl ?_
      exact cL_over hS hob.2.2.2.2.2.2.2.2.2.2.2.2.2.2.2.2.2.2.2.2.2.2.2.2.2.2.2.1 hI hM hi hl hu hw hnext
    by_cases c28 : z = (28 : Int32)
    · refine lv_tableIn (off := 1249) (tgt := 1282) hx hb dL_law_33 (by rw [c28]; decide) (by rw [c28]; decide) (by rw [c28]; rfl) rfl ?_
      exact cL_looked hS hob.2.2.2.2.2.2.2.2.2.2.2.2.2.2.2.2.2.2.2.2.2.2.2.2.2.2.2.2.1 hI hM hi hl hu hw hnext
    by_cases c29 : z = (29 : Int32)
    · refine lv_tableIn (off := 1302) (tgt := 1335) hx hb dL_law_33 (by rw [c29]; decide) (by rw [c29]; decide) (by rw [c29]; rfl) rfl ?_
      exact cL_seldom hS hob.2.2.2.2.2.2.2.2.2.2.2.2.2.2.2.2.2.2.2.2.2.2.2.2.2.2.2.2.2.1 hI hM hi hl hu hw hnext
    by_cases c30 : z = (30 : Int32)
    · refine lv_tableIn (off := 1335) (tgt := 1368) hx hb dL_law_33 (by rw [c30]; decide) (by rw [c30]; decide) (by rw [c30]; rfl) rfl ?_
      exact cL_run hS hob.2.2.2.2.2.2.2.2.2.2.2.2.2.2.2.2.2.2.2.2.2.2.2.2.2.2.2.2.2.2.1 hI hM hi hl hu hw hnext
    by_cases c31 : z = (31 : Int32)
    · refine lv_tableIn (off := 1378) (tgt := 1411) hx hb dL_law_33 (by rw [c31]; decide) (by rw [c31]; decide) (by rw [c31]; rfl) rfl ?_
      exact cL_forget hS hob.2.2.2.2.2.2.2.2.2.2.2.2.2.2.2.2.2.2.2.2.2.2.2.2.2.2.2.2.2.2.2.1 hI hM hi hl hu hw hnext
    by_cases c32 : z = (32 : Int32)
    · refine lv_tableIn (off := 1391) (tgt := 1424) hx hb dL_law_33 (by rw [c32]; decide) (by rw [c32]; decide) (by rw [c32]; rfl) rfl ?_
      exact cL_wired hS hob.2.2.2.2.2.2.2.2.2.2.2.2.2.2.2.2.2.2.2.2.2.2.2.2.2.2.2.2.2.2.2.2.1 hI hM hi hl hu hw hnext
    by_cases c33 : z = (33 : Int32)
    · refine lv_tableIn (off := 1434) (tgt := 1467) hx hb dL_law_33 (by rw [c33]; decide) (by rw [c33]; decide) (by rw [c33]; rfl) rfl ?_
      exact cL_sheet hS hob.2.2.2.2.2.2.2.2.2.2.2.2.2.2.2.2.2.2.2.2.2.2.2.2.2.2.2.2.2.2.2.2.2.1 hI hM hi hl hu hw hnext
    by_cases c34 : z = (34 : Int32)
    · refine lv_tableIn (off := 1477) (tgt := 1510) hx hb dL_law_33 (by rw [c34]; decide) (by rw [c34]; decide) (by rw [c34]; rfl) rfl ?_
      exact cL_lay hS hob.2.2.2.2.2.2.2.2.2.2.2.2.2.2.2.2.2.2.2.2.2.2.2.2.2.2.2.2.2.2.2.2.2.2.1 hI hM hi hl hu hw hnext
    by_cases c35 : z = (35 : Int32)
    · refine lv_tableIn (off := 1520) (tgt := 1553) hx hb dL_law_33 (by rw [c35]; decide) (by rw [c35]; decide) (by rw [c35]; rfl) rfl ?_
      exact cL_said hS hob.2.2.2.2.2.2.2.2.2.2.2.2.2.2.2.2.2.2.2.2.2.2.2.2.2.2.2.2.2.2.2.2.2.2.2.1 hI hM hi hl hu hw hnext
    by_cases c36 : z = (36 : Int32)
    · refine lv_tableIn (off := 1583) (tgt := 1616) hx hb dL_law_33 (by rw [c36]; decide) (by rw [c36]; decide) (by rw [c36]; rfl) rfl ?_
      exact cL_count hS hob.2.2.2.2.2.2.2.2.2.2.2.2.2.2.2.2.2.2.2.2.2.2.2.2.2.2.2.2.2.2.2.2.2.2.2.2 hI hM hi hl hu hw hnext
    refine lv_tableOut (tgt := 1639) hx hb dL_law_33 (by
      have a0 := ec_ne (z := 0) (by decide) c0
      have a1 := ec_ne (z := 1) (by decide) c1
      have a2 := ec_ne (z := 2) (by decide) c2
      have a3 := ec_ne (z := 3) (by decide) c3
      have a4 := ec_ne (z := 4) (by decide) c4
      have a5 := ec_ne (z := 5) (by decide) c5
      have a6 := ec_ne (z := 6) (by decide) c6
      have a7 := ec_ne (z := 7) (by decide) c7
      have a8 := ec_ne (z := 8) (by decide) c8
      have a9 := ec_ne (z := 9) (by decide) c9
      have a10 := ec_ne (z := 10) (by decide) c10
      have a11 := ec_ne (z := 11) (by decide) c11
      have a12 := ec_ne (z := 12) (by decide) c12
      have a13 := ec_ne (z := 13) (by decide) c13
      have a14 := ec_ne (z := 14) (by decide) c14
      have a15 := ec_ne (z := 15) (by decide) c15
      have a16 := ec_ne (z := 16) (by decide) c16
      have a17 := ec_ne (z := 17) (by decide) c17
      have a18 := ec_ne (z := 18) (by decide) c18
      have a19 := ec_ne (z := 19) (by decide) c19
      have a20 := ec_ne (z := 20) (by decide) c20
      have a21 := ec_ne (z := 21) (by decide) c21
      have a22 := ec_ne (z := 22) (by decide) c22
      have a23 := ec_ne (z := 23) (by decide) c23
      have a24 := ec_ne (z := 24) (by decide) c24
      have a25 := ec_ne (z := 25) (by decide) c25
      have a26 := ec_ne (z := 26) (by decide) c26
      have a27 := ec_ne (z := 27) (by decide) c27
      have a28 := ec_ne (z := 28) (by decide) c28
      have a29 := ec_ne (z := 29) (by decide) c29
      have a30 := ec_ne (z := 30) (by decide) c30
      have a31 := ec_ne (z := 31) (by decide) c31
      have a32 := ec_ne (z := 32) (by decide) c32
      have a33 := ec_ne (z := 33) (by decide) c33
      have a34 := ec_ne (z := 34) (by decide) c34
      have a35 := ec_ne (z := 35) (by decide) c35
      have a36 := ec_ne (z := 36) (by decide) c36
      omega) rfl ?_
    exact W.widen (Nat.le_add_right _ _) (Nat.le_add_right _ _) (hnext S M H hI hM)
end
