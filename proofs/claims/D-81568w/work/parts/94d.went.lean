/-! went -/
set_option maxRecDepth 100000
section
variable {M : sM} {nl N : Nat}
/-- the Model's two sums along the lines -/
theorem went_loop (h0 : M.1 0 = nI nl) (hl : nl ≤ 16) {s c e q : Nat} (hs : s < 65536) (he : e < 8) (hq : q < 40) (hc : M.2.2 5 q = nI c) (hc0 : 0 < c) (hc9 : c ≤ 99) (ht : ∀ l, l < nl → ∃ k, k ≤ 6000 ∧ M.2.2 9 l = nI k) (hm : ∀ l, l < nl → ∃ k, k ≤ 99 ∧ M.2.2 2 (8 * l + e) = nI k) (kx : Int32 → Int32 → Int32 → Option Int32) (x3 : Int32) : ∀ k l n, l + k = nl → k < n →
    fX3_went_53 N M kx n (nI q) (nI e) x3 (nI s) (nI (sN (fun l => if s.testBit l then 0 else (M.2.2 9 l).toNatClampNeg * (M.2.2 2 (8 * l + e)).toNatClampNeg) 0 l)) (nI (sN (fun l => if s.testBit l then (M.2.2 9 l).toNatClampNeg / c * (M.2.2 2 (8 * l + e)).toNatClampNeg else 0) 0 l)) (nI l) =
      kx x3 (nI (sN (fun l => if s.testBit l then 0 else (M.2.2 9 l).toNatClampNeg * (M.2.2 2 (8 * l + e)).toNatClampNeg) 0 nl)) (nI (sN (fun l => if s.testBit l then (M.2.2 9 l).toNatClampNeg / c * (M.2.2 2 (8 * l + e)).toNatClampNeg else 0) 0 nl)) := by
  intro k
  induction k with
  | zero =>
    intro l n hk hn
    obtain ⟨n, rfl⟩ : ∃ m, n = m + 1 := ⟨n - 1, by omega⟩
    have : l = nl := by omega
    subst this
    rw [fX3_went_53, h0, if_pos (nI_le (Nat.le_refl _) (by omega))]
  | succ k ih =>
    intro l n hk hn
    obtain ⟨n, rfl⟩ : ∃ m, n = m + 1 := ⟨n - 1, by omega⟩
    have nx := ih (l + 1) n (by omega) (by omega)
    rw [sN, sN, Nat.zero_add] at nx
    obtain ⟨t, t1, t2⟩ := ht l (by omega)
    obtain ⟨m, m1, m2⟩ := hm l (by omega)
    rw [fX3_went_53, h0, if_neg (nI_ge (by omega) (by omega))]
    unfold fX3_went_78 fX3_went_106 fX3_went_142
    simp only [ec_lt]
    rw [nI_1, ag_at (show l < 16 by omega) (by decide), q_made (by omega) he, ag_at hq (by decide), hc, t2, m2]
    simp only [Option.bind_some]
    rw [show ec_dv (nI t) (nI c) = some (nI (t / c)) from by unfold ec_dv; rw [if_neg (nI_ne0 hc0 (by omega)), pk_div (by omega) hc0 (by omega)]]
    simp only [Option.bind_some, pk_mul]
    rw [t2, m2, nI_clamp (by omega), nI_clamp (by omega)] at nx
    cases hb : s.testBit l with
    | false =>
      rw [hb, if_neg (by decide), if_neg (by decide), ← nI_add, ← nI_add] at nx
      rw [if_pos ((bit_n1 (by omega) (by omega)).mpr hb), if_pos trivial, if_pos trivial]
      exact nx
    | true =>
      rw [hb, if_pos rfl, if_pos rfl, ← nI_add, ← nI_add] at nx
      rw [if_neg (fun h => by rw [(bit_n1 (by omega) (by omega)).mp h] at hb; cases hb), if_neg (by decide), if_neg (by decide)]
      exact nx
end
theorem tot_sN (tm mk : Nat → Int32) (e : Nat) : ∀ nl, (∀ l, l < nl → ∃ k, k ≤ 6000 ∧ tm l = nI k) → (∀ l, l < nl → ∃ k, k ≤ 99 ∧ mk (8 * l + e) = nI k) → tot tm mk nl e = nI (sN (fun l => (tm l).toNatClampNeg * (mk (8 * l + e)).toNatClampNeg) 0 nl)
  | 0, _, _ => rfl
  | nl + 1, h1, h2 => by
    rw [tot, sN, tot_sN tm mk e nl (fun l hl => h1 l (by omega)) (fun l hl => h2 l (by omega)), Nat.zero_add]
    obtain ⟨t, t1, t2⟩ := h1 nl (by omega)
    obtain ⟨m, m1, m2⟩ := h2 nl (by omega)
    rw [t2, m2, nI_clamp (by omega), nI_clamp (by omega), pk_mul, nI_add]
/-- the answer, of what is so many each time and of the rest -/
theorem went_ans {x A O c T : Nat} (hx : x ≤ 999999) (hA : A ≤ 10000000) (hO : O ≤ 10000000) (hT : T ≤ 10000000) (hs : T = O + A * c) (hc : c ≤ 99) (N : Nat) (S : sX) (M : sM) :
    ∃ r, (ec_lt (lN A) fun x5_8 => (some (nI T)).bind fun v_9 => (some (nI c)).bind fun v_10 => ec_lt ((nI x).toInt64 - ((v_9.toInt64) - (x5_8 * (v_10.toInt64)))) fun x7_11 =>
        if ¬ (lg_cmp x5_8 (0 : Int64)) = 0 then (if (lg_cmp x7_11 (0 : Int64)) < 0 then (fX0_went_134 N S) else ((ec_lrm x7_11 x5_8).bind fun v_12 => if ¬ (lg_cmp v_12 (0 : Int64)) = 0 then (fX0_went_134 N S) else ((ec_ldv x7_11 x5_8).bind fun v_13 => if 0 < (lg_cmp v_13 (9999 : Int64)) then (fX0_went_134 N S) else ((ec_ldv x7_11 x5_8).bind fun v_14 => some (v_14.toInt32)))))
        else (if ¬ (lg_cmp x7_11 (0 : Int64)) = 0 then (some (-4 : Int32)) else (some (0 : Int32)))) = some r ∧
      (ec_lt (nI x - nI O) fun x7_17 => if ¬ nI A = 0 then (if x7_17 < 0 then (fX3_went_206 N M) else ((ec_rm x7_17 (nI A)).bind fun v_18 => if ¬ v_18 = 0 then (fX3_went_206 N M) else ((ec_dv x7_17 (nI A)).bind fun v_19 => if (9999 : Int32) < v_19 then (fX3_went_206 N M) else ((ec_dv x7_17 (nI A)).bind fun v_20 => some v_20))))
        else (if ¬ x7_17 = 0 then (some (-4 : Int32)) else (some (0 : Int32)))) = some r := by
  unfold fX0_went_134 fX3_went_206
  simp only [ec_lt, Option.bind_some]
  have hAc : A * c ≤ T := by omega
  have eT : (nI T).toInt64 - lN A * (nI c).toInt64 = lN O := by
    rw [nI_l (by omega), nI_l (by omega), lN_mul, lN_sub hAc]
    congr 1
    omega
  rw [eT, nI_l (n := x) (by omega)]
  have eA : (lg_cmp (lN A) 0 = 0) ↔ A = 0 := lz_nat (by omega)
  have eA' : nI A = (0 : Int32) ↔ A = 0 := nI_z (by omega)
  have d64 : (lN x - lN O).toInt = (x : Int) - O := by
    rw [Int64.toInt_sub, pk_lT (by omega), pk_lT (by omega)]
    exact Int.bmod_eq_of_le (by omega) (by omega)
  have d32 : (nI x - nI O).toInt = (x : Int) - O := pk_sub_toInt (by omega) (by omega)
  have z64 : (0 : Int64).toInt = 0 := rfl
  have z32 : (0 : Int32).toInt = 0 := rfl
  simp only [lg_cmp_lt]
  by_cases h0 : A = 0
  · rw [if_neg (not_not_intro (eA.mpr h0)), if_neg (not_not_intro (eA'.mpr h0))]
    by_cases h1 : x = O
    · subst h1
      have e1 : lN x - lN x = 0 := Int64.sub_self _
      have e2 : nI x - nI x = 0 := Int32.sub_self _
      rw [e1, e2]
      exact ⟨0, rfl, rfl⟩
    · have n32 : ¬ nI x - nI O = 0 := fun e => by have := congrArg Int32.toInt e; rw [d32, z32] at this; omega
      have n64 : ¬ lg_cmp (lN x - lN O) 0 = 0 := fun e => by
        by_cases hle : O ≤ x
        · rw [lN_sub hle] at e
          have := (lz_nat (by omega)).mp e
          omega
        · have hlt : lN x - lN O < 0 := by rw [fa_lt64, d64, z64]; omega
          have := (lg_cmp_lt _ _).mpr hlt
          rw [e] at this
          exact absurd this (by decide)
      rw [if_pos n64, if_pos n32]
      exact ⟨-4, rfl, rfl⟩
  rw [if_pos (fun h => h0 (eA.mp h)), if_pos (fun h => h0 (eA'.mp h))]
  by_cases h1 : O ≤ x
  · rw [if_neg (by rw [fa_lt64, d64, z64]; omega), if_neg (by rw [fa_lt, d32, z32]; omega), lN_sub h1, pk_sub h1]
    rw [show ec_lrm (lN (x - O)) (lN A) = some (lN ((x - O) % A)) from lrm_nat (by omega) (by omega) (by omega), Option.bind_some]
    rw [show ec_rm (nI (x - O)) (nI A) = some (nI ((x - O) % A)) from by unfold ec_rm; rw [if_neg (nI_ne0 (by omega) (by omega)), pk_rem (by omega) (by omega) (by omega)], Option.bind_some]
    rw [show ec_ldv (lN (x - O)) (lN A) = some (lN ((x - O) / A)) from by unfold ec_ldv; rw [if_neg (show ¬ lN A = 0 from fun e => h0 ((pk_lEQ (a := A) (b := 0) (by omega) (by decide)).mp e)), pk_lDiv (by omega) (by omega) (by omega)], Option.bind_some]
    rw [show ec_dv (nI (x - O)) (nI A) = some (nI ((x - O) / A)) from by unfold ec_dv; rw [if_neg (nI_ne0 (by omega) (by omega)), pk_div (by omega) (by omega) (by omega)]]
    simp only [Option.bind_some]
    have hmod : (x - O) % A < A := Nat.mod_lt _ (by omega)
    have hdv : (x - O) / A ≤ x - O := Nat.div_le_self _ _
    by_cases h2 : (x - O) % A = 0
    · rw [if_neg (not_not_intro ((lz_nat (by omega)).mpr h2)), if_neg (not_not_intro ((nI_z (by omega)).mpr h2))]
      simp only [lg_cmp_gt]
      by_cases h3 : 9999 < (x - O) / A
      · rw [if_pos (show (9999 : Int64) < lN ((x - O) / A) from (pk_lLT (a := 9999) (by decide) (by omega)).mpr h3), if_pos (show (9999 : Int32) < nI ((x - O) / A) from nI_lt (a := 9999) h3 (by omega))]
        exact ⟨-4, rfl, rfl⟩
      · rw [if_neg (show ¬ (9999 : Int64) < lN ((x - O) / A) from fun h => h3 ((pk_lLT (a := 9999) (by decide) (by omega)).mp h)), if_neg (show ¬ (9999 : Int32) < nI ((x - O) / A) from fun h => h3 ((nI_ltI (a := 9999) (by decide) (by omega)).mp h)), lN_i]
        exact ⟨_, rfl, rfl⟩
    · rw [if_pos (fun h => h2 ((lz_nat (by omega)).mp h)), if_pos (fun h => h2 ((nI_z (by omega)).mp h))]
      exact ⟨-4, rfl, rfl⟩
  · rw [if_pos (by rw [fa_lt64, d64, z64]; omega), if_pos (by rw [fa_lt, d32, z32]; omega)]
    exact ⟨-4, rfl, rfl⟩
theorem ob_went {N : Nat} (hN : 2000 ≤ N) : OB_went N INV := by
  intro S M x1 x2 x3 hI
  obtain ⟨ad, tg, row, dp, nl, n, nq, ch, dq, cm, hT, hC, hR, hH, hK, hP, hQ⟩ := hI
  have hQ2 := hQ
  obtain ⟨e1, e2, e3, e4, ⟨f, m, f1, f2, f3, f4⟩, e5, g, -⟩ := hQ2
  have hP2 := hP
  obtain ⟨p1, p2, p3, -, -, -, -, -, -, -, -, gl, ptl, -⟩ := hP2
  unfold fX0_went fX3_went fX0_went_27 fX3_went_35
  rw [x_isLoop, m_in, x_isEvent, m_isEvent, x_isIn, m_in, e2, e3]
  simp only [Option.bind_some, z01]
  by_cases h1 : inB x1.toInt64 0 ((nI nq - 1).toInt64)
  rotate_left
  · rw [if_pos h1, if_pos h1]
    exact ⟨_, rfl, rfl⟩
  rw [if_neg (not_not_intro h1), if_neg (not_not_intro h1)]
  by_cases h2 : inB x2.toInt64 0 7
  rotate_left
  · rw [if_pos h2, if_pos h2]
    exact ⟨_, rfl, rfl⟩
  rw [if_neg (not_not_intro h2), if_neg (not_not_intro h2)]
  by_cases h3 : inB x3.toInt64 0 999999
  rotate_left
  · rw [if_neg (not_not_intro h3), if_neg (not_not_intro h3)]
    exact ⟨_, rfl, rfl⟩
  rw [if_pos (not_not_intro h3), if_pos (not_not_intro h3)]
  obtain ⟨q, hq, rfl⟩ := (in_nat (by omega)).mp h1
  obtain ⟨e, -, he, rfl⟩ := (in_lit 0 7 (by decide) (by decide)).mp h2
  obtain ⟨x, -, hx, rfl⟩ := (in_lit 0 999999 (by decide) (by decide)).mp h3
  have he8 : e < 8 := by omega
  obtain ⟨b, lo, c, b1, b2, b3, b4, b5, b6, b7, b8, b9, b10, b11, b12⟩ := loop_at hP hQ hN hq
  obtain ⟨k1, k2, k3, k4, k5, k6, fq, mq, k7, k8, k9, k10⟩ := g q hq
  have hE := INV_EV hP hQ
  have hbk : bkO S.2.2.2 (ad 8) (ad 10) (ad 10 q) (ch q) := bkO_at k6 (Or.inr rfl) k7 k8 k9 k10
  have hkb : (foK b).length ≤ 1000 := by rw [← b8]; exact hbk.1
  have ht : ∀ l, l < nl → ∃ k, k ≤ 6000 ∧ M.2.2 9 l = nI k := fun l hl => by
    obtain ⟨-, -, -, -, -, -, k, t1, t2, t3⟩ := gl l hl
    exact ⟨k, t3, t1⟩
  have hm : ∀ l, l < nl → ∃ k, k ≤ 99 ∧ M.2.2 2 (8 * l + e) = nI k := fun l hl => by
    obtain ⟨-, -, -, -, -, t1, -⟩ := gl l hl
    exact t1 e he8
  have hmask : bmN lo (foNL b) < 65536 := bmN_lt _ _ (by omega)
  -- sums
  have hbit : ∀ l, (bmN lo (foNL b)).testBit l = decide (lo ≤ l ∧ l < lo + foNL b) := fun l => bmN_tb lo l (foNL b)
  have hcm : cm q * c ≤ 99 ^ 4 := Nat.le_trans b11 (Nat.pow_le_pow_right (by decide) (by omega))
  have s1 := wF_sum (c := c) (by omega) (fun l => (M.2.2 2 (8 * l + e)).toNatClampNeg) b lo (q + 1) (nI q) (dq q + 1) (cm q) (by rw [Nat.mul_comm]; exact b12) (by rw [Nat.mul_comm]; exact b11) (by omega)
  have s2 := wF_sum (c := 1) (by decide) (fun l => (M.2.2 2 (8 * l + e)).toNatClampNeg) b lo (q + 1) (nI q) (dq q + 1) (cm q * c) (by rw [Nat.one_mul]; exact b12) (by rw [Nat.one_mul]; exact b11) (by omega)
  have bd : ∀ l, l < nl → (M.2.2 9 l).toNatClampNeg * (M.2.2 2 (8 * l + e)).toNatClampNeg ≤ 594000 := fun l hl => by
    obtain ⟨t, t1, t2⟩ := ht l hl
    obtain ⟨m, m1, m2⟩ := hm l hl
    rw [t2, m2, nI_clamp (by omega), nI_clamp (by omega)]
    exact Nat.mul_le_mul t1 m1
  have hTs : sN (fun l => (M.2.2 9 l).toNatClampNeg * (M.2.2 2 (8 * l + e)).toNatClampNeg) 0 nl ≤ 9504000 := by
    have := sN_le (g := fun l => (M.2.2 9 l).toNatClampNeg * (M.2.2 2 (8 * l + e)).toNatClampNeg) (B := 594000) (lo := 0) (n := nl) (fun l _ h2 => bd l (by omega))
    omega
  have i1 : sN (fun l => if (bmN lo (foNL b)).testBit l then (M.2.2 9 l).toNatClampNeg / c * (M.2.2 2 (8 * l + e)).toNatClampNeg else 0) 0 nl = cm q * foMk (M.2.2 5) (fun l => (M.2.2 2 (8 * l + e)).toNatClampNeg) b := by
    rw [← s1, ← sN_ind (nl := nl) _ b1]
    refine sN_congr (fun l h1 h2 => ?_)
    rw [hbit]
    by_cases c : lo ≤ l ∧ l < lo + foNL b
    · rw [decide_eq_true c, if_pos rfl, if_pos c]
    · rw [decide_eq_false c, if_neg (by decide), if_neg c]
  have i2 : sN (fun l => (M.2.2 9 l).toNatClampNeg * (M.2.2 2 (8 * l + e)).toNatClampNeg) 0 nl = sN (fun l => if (bmN lo (foNL b)).testBit l then 0 else (M.2.2 9 l).toNatClampNeg * (M.2.2 2 (8 * l + e)).toNatClampNeg) 0 nl + cm q * c * foMk (M.2.2 5) (fun l => (M.2.2 2 (8 * l + e)).toNatClampNeg) b := by
    rw [← s2, ← sN_ind (nl := nl) _ b1, ← sN_plus]
    refine sN_congr (fun l h1 h2 => ?_)
    rw [hbit]
    by_cases c : lo ≤ l ∧ l < lo + foNL b
    · rw [decide_eq_true c, if_pos rfl, if_pos c, Nat.zero_add, Nat.div_one]
    · rw [decide_eq_false c, if_neg (by decide), if_neg c, Nat.add_zero]
  rw [b6, Option.bind_some]
  have hw := went_loop (N := N) p3 p1 hmask he8 (show q < 40 by omega) b4 (by omega) b3 ht hm (fun x3_14 x5_15 x6_16 => ec_lt (x3_14 - x5_15) fun x7_17 => if ¬ x6_16 = 0 then (if x7_17 < 0 then (fX3_went_206 N M) else ((ec_rm x7_17 x6_16).bind fun v_18 => if ¬ v_18 = 0 then (fX3_went_206 N M) else ((ec_dv x7_17 x6_16).bind fun v_19 => if (9999 : Int32) < v_19 then (fX3_went_206 N M) else ((ec_dv x7_17 x6_16).bind fun v_20 => some v_20)))) else (if ¬ x7_17 = 0 then (some (-4 : Int32)) else (some (0 : Int32)))) (nI x) nl 0 N (by omega) (by omega)
  rw [sN, sN, i1] at hw
  rw [hAr_at f1 (by omega) (by omega) (f4 q hq), Option.bind_some, hI_at (v := nI (cm q)) k6 rfl, Option.bind_some, hObj_at k6, Option.bind_some]
  have e7 : fX9_makesOnce N S.2.2.2 (fV_makes N S.2.2.2 8) (ad 10 q) (nI e) = some (nI (foMk (M.2.2 5) (fun l => (M.2.2 2 (8 * l + e)).toNatClampNeg) b)) := by
    unfold fX9_makesOnce fX7_makes
    rw [hObj_at k6, Option.bind_some]
    have := ev_makes hE hN he8 (mkn := fun l => (M.2.2 2 (8 * l + e)).toNatClampNeg) (fun l hl => by obtain ⟨m, m1, m2⟩ := hm l hl; rw [m2, nI_clamp (by omega)]) b lo (q + 1) (nI q) (dq q + 1) (cm q * c) 8 (ch q) [] (ad 10 q) (N - (foK b).length - 1 + 1) 0 (fun x0_7 x2_8 => some x2_8) b12 b1 b9 (by omega) (by omega) hbk (by rw [b8, List.append_nil])
    rw [show N - (foK b).length - 1 + 1 + (foK b).length = N by omega] at this
    rw [show (0 : Int32) = nI 0 from rfl] at *
    rw [this, fX7_makes_4, hbk.2.1, Option.bind_some, b8, if_pos (nI_le (Nat.le_refl _) (by omega)), Nat.zero_add, Option.bind_some]
  rw [e7, Option.bind_some, ag_at he8 (by decide), (ptl e he8).1, hI_at (v := M.2.2 5 q) k6 rfl, b4, tot_sN _ _ e nl ht hm]
  generalize sN (fun l => (M.2.2 9 l).toNatClampNeg * (M.2.2 2 (8 * l + e)).toNatClampNeg) 0 nl = T at *
  generalize sN (fun l => if (bmN lo (foNL b)).testBit l then 0 else (M.2.2 9 l).toNatClampNeg * (M.2.2 2 (8 * l + e)).toNatClampNeg) 0 nl = O at *
  generalize foMk (M.2.2 5) (fun l => (M.2.2 2 (8 * l + e)).toNatClampNeg) b = K at *
  have hcm1 : 1 ≤ cm q := by
    have := (g q hq).2.2.1
    exact cm_pos hQ hq
  have hAc : cm q * c * K ≤ 9504000 := by omega
  have hA : cm q * K ≤ 9504000 := by
    have h9 : cm q * K * 1 ≤ cm q * K * c := Nat.mul_le_mul_left _ b2
    rw [Nat.mul_one, Nat.mul_right_comm] at h9
    omega
  have hK9 : K ≤ 9504000 := by
    have h9 : 1 * K ≤ cm q * K := Nat.mul_le_mul_right _ hcm1
    omega
  have eA : (nI (cm q)).toInt64 * (nI K).toInt64 = lN (cm q * K) := by rw [nI_l (by omega), nI_l (by omega), lN_mul]
  obtain ⟨r, r1, r2⟩ := went_ans (x := x) (A := cm q * K) (O := O) (c := c) (T := T) hx (by omega) (by omega) (by omega) (by rw [i2, Nat.mul_right_comm]) b3 N S M
  rw [eA]
  refine ⟨r, r1, ?_⟩
  rw [show (0 : Int32) = nI 0 from rfl] at *
  exact hw.trans r2
