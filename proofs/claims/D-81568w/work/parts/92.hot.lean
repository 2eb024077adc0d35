/-! HOT -/
set_option maxRecDepth 100000
theorem and_256 {a b c d : Nat} (ha : a < 256) (hc : c < 256) : (a + 256 * b) &&& (c + 256 * d) = (a &&& c) + 256 * (b &&& d) := by
  have h1 := Nat.and_div_two_pow (a := a + 256 * b) (b := c + 256 * d) (n := 8)
  have h2 := Nat.and_mod_two_pow (a := a + 256 * b) (b := c + 256 * d) (n := 8)
  rw [show (2 : Nat) ^ 8 = 256 from rfl] at h1 h2
  rw [show (a + 256 * b) / 256 = b by omega, show (c + 256 * d) / 256 = d by omega] at h1
  rw [show (a + 256 * b) % 256 = a by omega, show (c + 256 * d) % 256 = c by omega] at h2
  have := Nat.div_add_mod ((a + 256 * b) &&& (c + 256 * d)) 256
  omega
def pA (a : Nat) : Nat := a - (a / 2 &&& 85)
def pB (a : Nat) : Nat := (a &&& 51) + (a / 4 &&& 51)
def pC (a : Nat) : Nat := (a + a / 16) &&& 15
theorem pf1 : ∀ a, a < 256 → (a / 2 &&& 85) ≤ a ∧ (a / 2 &&& 5592405) = (a / 2 &&& 85) ∧ (a / 2 + 128 &&& 85) = (a / 2 &&& 85) ∧ pA a < 256 := by decide +kernel
theorem pf2 : ∀ a, a < 256 → (a &&& 3355443) = (a &&& 51) ∧ (a / 4 &&& 3355443) = (a / 4 &&& 51) ∧ (a / 4 + 64 * 1 &&& 51) = (a / 4 &&& 51) ∧ (a / 4 + 64 * 2 &&& 51) = (a / 4 &&& 51) ∧ (a / 4 + 64 * 3 &&& 51) = (a / 4 &&& 51) := by decide +kernel
theorem pf3 : ∀ a, a < 256 → pB (pA a) ≤ 68 ∧ pB (pA a) % 16 ≤ 4 ∧ pC (pB (pA a)) ≤ 8 ∧ pC (pB (pA a)) = fb_ct (fun j => a.testBit j) 8 := by decide +kernel
theorem pf4 : ∀ p, p < 69 → ∀ c, c < 5 → (p + p / 16 + 16 * c &&& 15) = (p + p / 16 &&& 15) ∧ (p + p / 16 &&& 986895) = (p + p / 16 &&& 15) := by decide +kernel
theorem pf5 : ∀ z, z < 17 → z &&& 63 = z := by decide +kernel
theorem ush_I {n k : Nat} (hn : n < 2 ^ 31) (hk : k < 32) : ((nI n).toUInt32 >>> ((nI k).toUInt32 &&& Int32.toUInt32 31)).toInt32 = nI (n / 2 ^ k) := pk_ushrN (by omega) (nI k) k (s_u k hk)
theorem x_pop {s : Nat} (hs : s < 65536) : fJ9_bitCount (nI s) = some (nI (fb_ct (fun j => s.testBit j) 16)) := by
  obtain ⟨a, b, ha, hb, rfl⟩ : ∃ a b, a < 256 ∧ b < 256 ∧ s = a + 256 * b := ⟨s % 256, s / 256, by omega, by omega, by omega⟩
  obtain ⟨a1, a2, a3, a4⟩ := pf1 a ha
  obtain ⟨b1, b2, b3, b4⟩ := pf1 b hb
  obtain ⟨c1, c2, c3, c4⟩ := pf3 a ha
  obtain ⟨d1, d2, d3, d4⟩ := pf3 b hb
  have E1 : (a + 256 * b) / 2 &&& 1431655765 = (a / 2 &&& 85) + 256 * (b / 2 &&& 85) := by
    rw [show (a + 256 * b) / 2 = (a / 2 + 128 * (b % 2)) + 256 * (b / 2) by omega, show 1431655765 = 85 + 256 * 5592405 from rfl, and_256 (by omega) (by omega), b2]
    rcases Nat.mod_two_eq_zero_or_one b with h | h
    · rw [h, Nat.mul_zero, Nat.add_zero]
    · rw [h, show a / 2 + 128 * 1 = a / 2 + 128 from rfl, a3]
  have E2 : ∀ p q, p < 256 → q < 256 → ((p + 256 * q) &&& 858993459) + ((p + 256 * q) / 4 &&& 858993459) = pB p + 256 * pB q := fun p q hp hq => by
    obtain ⟨q1, q2, -⟩ := pf2 q hq
    obtain ⟨-, -, p3, p4, p5⟩ := pf2 p hp
    have hq4 : q % 4 = 0 ∨ q % 4 = 1 ∨ q % 4 = 2 ∨ q % 4 = 3 := by omega
    have hl : (p / 4 + 64 * (q % 4) &&& 51) = (p / 4 &&& 51) := by
      rcases hq4 with h | h | h | h <;> rw [h]
      · rw [Nat.mul_zero, Nat.add_zero]
      · exact p3
      · exact p4
      · exact p5
    rw [show (p + 256 * q) / 4 = (p / 4 + 64 * (q % 4)) + 256 * (q / 4) by omega, show 858993459 = 51 + 256 * 3355443 from rfl, and_256 hp (by omega), and_256 (by omega) (by omega), q1, q2, hl]
    unfold pB
    omega
  have E3 : ∀ p q, p < 69 → q < 69 → q % 16 < 5 → ((p + 256 * q) + (p + 256 * q) / 16 &&& 252645135) = pC p + 256 * pC q := fun p q hp hq hq5 => by
    rw [show (p + 256 * q) + (p + 256 * q) / 16 = (p + p / 16 + 16 * (q % 16)) + 256 * (q + q / 16) by omega, show 252645135 = 15 + 256 * 986895 from rfl, and_256 (by omega) (by omega), (pf4 p hp _ hq5).1, (pf4 q hq 0 (by omega)).2]
    rfl
  have hcnt : fb_ct (fun j => (a + 256 * b).testBit j) 16 = pC (pB (pA a)) + pC (pB (pA b)) := by
    rw [c4, d4, show 16 = 8 + 8 from rfl, fb_ct_split]
    congr 1
    · apply fb_ct_cong
      intro k hk
      rw [show a + 256 * b = 2 ^ 8 * b + a by omega, Nat.testBit_two_pow_mul_add b (by omega : a < 2 ^ 8), if_pos hk]
    · apply fb_ct_cong
      intro k hk
      rw [show a + 256 * b = 2 ^ 8 * b + a by omega, Nat.testBit_two_pow_mul_add b (by omega : a < 2 ^ 8), if_neg (by omega)]
      congr 1
      omega
  have U : ∀ {n : Nat} (k : Nat), n < 2 ^ 31 → k < 32 → ((nI n).toUInt32 >>> ((nI k).toUInt32 &&& Int32.toUInt32 31)).toInt32 = nI (n / 2 ^ k) := fun k hn hk => ush_I hn hk
  unfold fJ9_bitCount
  simp only [ec_lt]
  rw [show (1 : Int32) = nI 1 from rfl, show (2 : Int32) = nI 2 from rfl, show (4 : Int32) = nI 4 from rfl, show (8 : Int32) = nI 8 from rfl, show (16 : Int32) = nI 16 from rfl, show (1431655765 : Int32) = nI 1431655765 from rfl, show (858993459 : Int32) = nI 858993459 from rfl, show (252645135 : Int32) = nI 252645135 from rfl, show (63 : Int32) = nI 63 from rfl]
  rw [U 1 (by omega) (by omega), nx_and, show (2 : Nat) ^ 1 = 2 from rfl, E1, pk_sub (by omega), show a + 256 * b - ((a / 2 &&& 85) + 256 * (b / 2 &&& 85)) = pA a + 256 * pA b by unfold pA; omega]
  rw [nx_and, U 2 (by omega) (by omega), nx_and, nI_add, show (2 : Nat) ^ 2 = 4 from rfl, E2 _ _ a4 b4]
  rw [U 4 (by omega) (by omega), nI_add, nx_and, show (2 : Nat) ^ 4 = 16 from rfl, E3 _ _ (by omega) (by omega) (by omega)]
  rw [U 8 (by omega) (by omega), nI_add, show (2 : Nat) ^ 8 = 256 from rfl, show pC (pB (pA a)) + 256 * pC (pB (pA b)) + (pC (pB (pA a)) + 256 * pC (pB (pA b))) / 256 = (pC (pB (pA a)) + pC (pB (pA b))) + 256 * pC (pB (pA b)) by omega]
  rw [U 16 (by omega) (by omega), nI_add, show (2 : Nat) ^ 16 = 65536 from rfl, show (pC (pB (pA a)) + pC (pB (pA b)) + 256 * pC (pB (pA b))) / 65536 = 0 by omega, Nat.add_zero, nx_and, show 63 = 63 + 256 * 0 from rfl, and_256 (by omega) (by omega), pf5 _ (by omega), Nat.and_zero, hcnt]
  rfl
def hwt (M : sM) (e i : Nat) : Nat := (M.2.2 9 i).toNatClampNeg * (M.2.2 2 (8 * i + e)).toNatClampNeg
section
variable {N : Nat} {S : sX} {M : sM} {ad : Nat → Nat → Nat} {tg : Nat → Nat × Nat} {dp : Nat → Int32} {nl n e : Nat}
theorem hwt_at (hP : PP ad tg dp nl n S M) (he : e < 8) {l : Nat} (hl : l < nl) : hwt M e l ≤ 594000 ∧ fX0_made S (nI l) (nI e) = some (nI (hwt M e l)) ∧ ∃ k v, ec_ag (M.2.2 9) 16 (nI l) = some (nI k) ∧ fX3_made M (nI l) (nI e) = some (nI v) ∧ nI k * nI v = nI (hwt M e l) ∧ M.2.2 9 l * M.2.2 2 (8 * l + e) = nI (hwt M e l) := by
  obtain ⟨k, v, k1, k2, v1, d1, d2, d3, d4, d5⟩ := p_made0 hP hl he
  have hkv : k * v ≤ 6000 * 99 := Nat.mul_le_mul k2 v1
  have e1 : hwt M e l = k * v := by unfold hwt; rw [d4, d5, nI_clamp (by omega), nI_clamp (by omega)]
  rw [e1]
  exact ⟨by omega, d1, k, v, d3, d2, pk_mul k v, by rw [d4, d5, pk_mul]⟩
theorem tot_sm (hP : PP ad tg dp nl n S M) (he : e < 8) : ∀ j, j ≤ nl → tot (M.2.2 9) (M.2.2 2) j e = nI (fb_sm (hwt M e) j) := by
  intro j
  induction j with
  | zero => intro _; rfl
  | succ j ih =>
    intro hj
    obtain ⟨-, -, k, v, -, -, -, h⟩ := hwt_at hP he (show j < nl by omega)
    rw [tot, ih (by omega), h, nI_add, fb_sm_succ]
theorem hs_loop (hP : PP ad tg dp nl n S M) (he : e < 8) {s : Nat} (hs : s < 65536) (x2 x3 xb x4 x5 : Int32) (kx : Int32 → Int32 → Int32 → Int32 → Int32 → Int64 → Option Int32) (ky : Int32 → Int32 → Int32 → Int32 → Int32 → Int32 → Int32 → Option Int32) : ∀ (k l m m' : Nat), l + k = nl → k < m → k < m' →
    fX0_hot_87 N S kx m (nI e) x2 x3 xb (nI s) (lN (fb_sm (fun i => if s.testBit i then hwt M e i else 0) l)) (nI l) = kx (nI e) x2 x3 xb (nI s) (lN (fb_sm (fun i => if s.testBit i then hwt M e i else 0) nl)) ∧
    fX3_hot_87 N M ky m' (nI e) x2 x3 x4 x5 (nI s) (nI (fb_sm (fun i => if s.testBit i then hwt M e i else 0) l)) (nI l) = ky (nI e) x2 x3 x4 x5 (nI s) (nI (fb_sm (fun i => if s.testBit i then hwt M e i else 0) nl)) := by
  have hP0 := hP
  obtain ⟨p1, p2, p3, -⟩ := hP0
  intro k
  induction k with
  | zero =>
    intro l m m' hl hm hm'
    obtain ⟨m, rfl⟩ : ∃ i, m = i + 1 := ⟨m - 1, by omega⟩
    obtain ⟨m', rfl⟩ : ∃ i, m' = i + 1 := ⟨m' - 1, by omega⟩
    have : l = nl := by omega
    subst this
    rw [fX0_hot_87, fX3_hot_87, p2, p3, if_pos (nI_le (Nat.le_refl _) (by omega)), if_pos (nI_le (Nat.le_refl _) (by omega))]
    exact ⟨rfl, rfl⟩
  | succ k ih =>
    intro l m m' hl hm hm'
    obtain ⟨m, rfl⟩ : ∃ i, m = i + 1 := ⟨m - 1, by omega⟩
    obtain ⟨m', rfl⟩ : ∃ i, m' = i + 1 := ⟨m' - 1, by omega⟩
    obtain ⟨w1, w2, kk, v, w3, w4, w5, -⟩ := hwt_at hP he (show l < nl by omega)
    have F := ih (l + 1) m m' (by omega) (by omega) (by omega)
    rw [fb_sm_succ] at F
    rw [fX0_hot_87, fX3_hot_87, p2, p3, if_neg (nI_ge (by omega) (by omega)), if_neg (nI_ge (by omega) (by omega))]
    unfold fX0_hot_121 fX3_hot_128
    simp only [ec_lt, nI_1, w2, w3, w4, Option.bind_some, w5, bit_n1 (show s < 2 ^ 31 by omega) (show l < 31 by omega), nI_add]
    rw [nI_l (n := hwt M e l) (by omega)]
    cases hb : s.testBit l with
    | false =>
      rw [if_pos rfl, if_pos rfl, show (0 : Int64) = lN 0 from rfl, lN_add, show (0 : Int32) = nI 0 from rfl, nI_add]
      simp only [hb, Bool.false_eq_true, if_false] at F
      exact F
    | true =>
      rw [if_neg (by decide), if_neg (by decide), lN_add]
      simp only [hb, if_true] at F
      exact F
end
theorem sm_full (w : Nat → Nat) {n : Nat} : fb_sm (fun i => if (2 ^ n - 1).testBit i then w i else 0) n = fb_sm w n := fb_sm_cong (fun k hk => by
  rw [Nat.testBit_two_pow_sub_one, decide_eq_true hk, if_pos rfl])
theorem ob_hot {N : Nat} (hN : 100000 ≤ N) : OB_hot N INV := by
  intro S M x1 x2 x3 hI
  obtain ⟨ad, tg, dp, nl, n, hP⟩ := hI.pp
  unfold fX0_hot fX3_hot fX0_hot_29 fX3_hot_29
  rw [x_isEvent, m_isEvent, x_isIn, x_isIn, m_in, m_in]
  simp only [Option.bind_some, z01]
  by_cases h1 : ¬ inB x1.toInt64 0 7
  · rw [if_pos h1, if_pos h1]; exact ⟨_, rfl, rfl⟩
  rw [if_neg h1, if_neg h1]
  by_cases h2 : ¬ inB x2.toInt64 1 100
  · rw [if_pos h2, if_pos h2]; exact ⟨_, rfl, rfl⟩
  rw [if_neg h2, if_neg h2]
  by_cases h3 : ¬ inB x3.toInt64 0 1
  · rw [if_neg (not_not_intro h3), if_neg (not_not_intro h3)]; exact ⟨_, rfl, rfl⟩
  rw [if_pos h3, if_pos h3]
  obtain ⟨e, -, he, rfl⟩ := (in_lit 0 7 (by decide) (by decide)).mp (Decidable.not_not.mp h1)
  obtain ⟨q, hq0, hq, rfl⟩ := (in_lit 1 100 (by decide) (by decide)).mp (Decidable.not_not.mp h2)
  have he8 : e < 8 := by omega
  have hP0 := hP
  obtain ⟨p1, p2, p3, p4, p5, p6, p7, p8, p9, -, -, -, pt, -⟩ := hP0
  obtain ⟨T, t1, t2, t3, t4⟩ := tot_at (N := N) (by omega) hP he8
  have htot := tot_sm hP he8 nl (Nat.le_refl _)
  have hbd : fb_sm (hwt M e) nl ≤ nl * 594000 := fb_sm_bound (fun k hk => (hwt_at hP he8 hk).1)
  have hTs : T = fb_sm (hwt M e) nl := (nI_eq (by omega) (by omega)).mp (by rw [← t2, (pt e he8).1, htot])
  rw [t3, ag_at he8 (by decide), t2, Option.bind_some, Option.bind_some]
  obtain ⟨w1, -, w3⟩ := pw_I nl (by omega)
  obtain ⟨N', rfl⟩ : ∃ i, N = i + 1 := ⟨N - 1, by omega⟩
  simp only [nI_z (show T < 2 ^ 31 by omega)]
  have hz : (nI T ≤ 0) ↔ T ≤ 0 := nI_leI (b := 0) (by omega) (by decide)
  have hpos := Nat.two_pow_pos nl
  rcases Nat.eq_zero_or_pos T with h0 | h0
  · rw [if_neg (not_not_intro h0), fX3_hot_45, p3, w1]
    simp only [hz]
    unfold fX3_hot_169
    have hT0 : T ≤ 0 := by omega
    by_cases hle : nI (2 ^ nl) ≤ 1
    · rw [if_pos hle, if_neg (fun h => h rfl)]; exact ⟨_, rfl, rfl⟩
    · rw [if_neg hle, if_pos hT0, if_neg (fun h => h rfl)]; exact ⟨_, rfl, rfl⟩
  rw [if_pos (by omega : ¬ T = 0)]
  have hnl : 0 < nl := by
    rcases Nat.eq_zero_or_pos nl with h | h
    · rw [h] at hTs; simp only [fb_sm] at hTs; omega
    · exact h
  have h2nl : 2 ≤ 2 ^ nl := by
    have := Nat.pow_le_pow_right (n := 2) (by omega) hnl
    omega
  have cmp_small : lg_cmp ((100 : Int64) * lN 0) ((nI q).toInt64 * (nI T).toInt64) < 0 := by
    rw [lg_cmp_lt, nI_l (n := q) (by omega), nI_l (n := T) (by omega), lN_mul, show (100 : Int64) * lN 0 = lN 0 from rfl]
    have := Nat.mul_pos (show 0 < q by omega) h0
    have : q * T ≤ 100 * 594000 := Nat.mul_le_mul hq t1
    exact (pk_lLT (by decide) (by omega)).mpr (by omega)
  have cmp_full : ¬ lg_cmp ((100 : Int64) * lN T) ((nI q).toInt64 * (nI T).toInt64) < 0 := by
    rw [lg_cmp_lt, nI_l (n := q) (by omega), nI_l (n := T) (by omega), lN_mul, show (100 : Int64) = lN 100 from rfl, lN_mul]
    have h100 : q * T ≤ 100 * T := Nat.mul_le_mul_right T hq
    have : 100 * T ≤ 100 * 594000 := Nat.mul_le_mul_left 100 t1
    intro h
    rw [pk_lLT (by omega) (by omega)] at h
    omega
  have loop : ∀ (k s m m' : Nat) (b : Int32), s + k = 2 ^ nl → k < m → k < m' → 0 < s → (b = -4 ∨ ∃ j, j < 65536 ∧ b = nI j) → (s = 2 ^ nl → ¬ b = -4) →
      ∃ r, fX0_hot_50 (N' + 1) S (fun x3_18 x4_19 => if ¬ x3_18 = 0 then (some x4_19) else ((fJ9_bitCount x4_19).bind fun v_20 => some v_20)) m (nI e) (nI q) x3 b (nI s) = some r ∧ fX3_hot_45 (N' + 1) M (fun x3_19 x5_20 => fX3_hot_169 (N' + 1) M x3_19 x5_20) m' (nI e) (nI q) x3 (nI T) b (nI s) = some r := by
    intro k
    induction k with
    | zero =>
      intro s m m' b hs hm hm' hs0 hb hfull
      obtain ⟨m, rfl⟩ : ∃ i, m = i + 1 := ⟨m - 1, by omega⟩
      obtain ⟨m', rfl⟩ : ∃ i, m' = i + 1 := ⟨m' - 1, by omega⟩
      have hse : s = 2 ^ nl := by omega
      have hne := hfull hse
      rw [fX0_hot_50, fX3_hot_45, p2, p3, w1, if_pos (nI_le (by omega) (by omega)), if_pos (nI_le (by omega) (by omega))]
      unfold fX3_hot_169
      rw [if_pos hne]
      rcases hb with hb | ⟨j, hj, rfl⟩
      · exact absurd hb hne
      rw [x_pop hj, m_cnt (by omega) hj, Option.bind_some]
      by_cases hx : x3 = 0
      · rw [if_neg (not_not_intro hx)]; exact ⟨_, rfl, rfl⟩
      · rw [if_pos hx]; exact ⟨_, rfl, rfl⟩
    | succ k ih =>
      intro s m m' b hs hm hm' hs0 hb hfull
      obtain ⟨m, rfl⟩ : ∃ i, m = i + 1 := ⟨m - 1, by omega⟩
      obtain ⟨m', rfl⟩ : ∃ i, m' = i + 1 := ⟨m' - 1, by omega⟩
      rw [fX0_hot_50, fX3_hot_45, p2, p3, w1, if_neg (nI_ge (by omega) (by omega)), if_neg (nI_ge (by omega) (by omega))]
      have hTn : ¬ nI T ≤ 0 := nI_nle h0 (by omega)
      rw [if_neg hTn]
      have hs16 : s < 65536 := by omega
      have step81 : (s + 1 = 2 ^ nl → b = -4 ∨ ¬ b = -4) → ∃ r, fX0_hot_81 (N' + 1) S (fX0_hot_50 (N' + 1) S (fun x3_18 x4_19 => if ¬ x3_18 = 0 then (some x4_19) else ((fJ9_bitCount x4_19).bind fun v_20 => some v_20)) m) (nI e) (nI q) x3 b (nI s) = some r ∧ fX3_hot_81 (N' + 1) M (fX3_hot_45 (N' + 1) M (fun x3_19 x5_20 => fX3_hot_169 (N' + 1) M x3_19 x5_20) m') (nI e) (nI q) x3 (nI T) b (nI s) = some r := by
        intro _
        unfold fX0_hot_81 fX3_hot_81
        obtain ⟨L1, L2⟩ := hs_loop (N := N' + 1) hP he8 hs16 (nI q) x3 b (nI T) b (fun x1_8 x2_9 x3_10 x4_11 x5_12 x6_13 =>
          (ec_ag (S.2.1 10) 8 x1_8).bind fun v_14 =>
          if (lg_cmp ((100 : Int64) * x6_13) ((x2_9.toInt64) * (v_14.toInt64))) < 0 then (
            fX0_hot_157 (N' + 1) S (fX0_hot_50 (N' + 1) S (fun x3_18 x4_19 => if ¬ x3_18 = 0 then (some x4_19) else ((fJ9_bitCount x4_19).bind fun v_20 => some v_20)) m) x1_8 x2_9 x3_10 x5_12 x4_11)
          else (
            fX0_hot_157 (N' + 1) S (fX0_hot_50 (N' + 1) S (fun x3_18 x4_19 => if ¬ x3_18 = 0 then (some x4_19) else ((fJ9_bitCount x4_19).bind fun v_20 => some v_20)) m) x1_8 x2_9 x3_10 x5_12 x5_12)) (fun x1_9 x2_10 x3_11 x4_12 x5_13 x6_14 x7_15 =>
          if (lg_cmp ((100 : Int64) * (x7_15.toInt64)) ((x2_10.toInt64) * (x4_12.toInt64))) < 0 then (
            fX3_hot_161 (N' + 1) M (fX3_hot_45 (N' + 1) M (fun x3_19 x5_20 => fX3_hot_169 (N' + 1) M x3_19 x5_20) m') x1_9 x2_10 x3_11 x4_12 x6_14 x5_13)
          else (
            fX3_hot_161 (N' + 1) M (fX3_hot_45 (N' + 1) M (fun x3_19 x5_20 => fX3_hot_169 (N' + 1) M x3_19 x5_20) m') x1_9 x2_10 x3_11 x4_12 x6_14 x6_14)) nl 0 (N' + 1) (N' + 1) (by omega) (by omega) (by omega)
        simp only [fb_sm] at L1 L2
        rw [show (lN 0 : Int64) = 0 from rfl, show (nI 0 : Int32) = 0 from rfl] at L1
        rw [show (nI 0 : Int32) = 0 from rfl] at L2
        rw [L1, L2]
        have hzb : fb_sm (fun i => if s.testBit i then hwt M e i else 0) nl ≤ nl * 594000 := fb_sm_bound (fun k hk => by
          have := (hwt_at hP he8 hk).1
          split
          · exact this
          · omega)
        have hfs : s + 1 = 2 ^ nl → fb_sm (fun i => if s.testBit i then hwt M e i else 0) nl = T := fun h => by
          rw [show s = 2 ^ nl - 1 by omega, sm_full, hTs]
        generalize fb_sm (fun i => if s.testBit i then hwt M e i else 0) nl = z at *
        rw [ag_at he8 (by decide), t2, Option.bind_some, nI_l (n := z) (by omega)]
        unfold fX0_hot_157 fX0_hot_159 fX3_hot_161 fX3_hot_163
        simp only [ec_lt, nI_1]
        by_cases hc : lg_cmp ((100 : Int64) * lN z) ((nI q).toInt64 * (nI T).toInt64) < 0
        · rw [if_pos hc, if_pos hc]
          exact ih (s + 1) m m' b (by omega) (by omega) (by omega) (by omega) hb (fun h => by
            rw [hfs h] at hc
            exact absurd hc cmp_full)
        · rw [if_neg hc, if_neg hc]
          exact ih (s + 1) m m' (nI s) (by omega) (by omega) (by omega) (by omega) (Or.inr ⟨s, hs16, rfl⟩) (fun _ => nI_nm4 (by omega))
      by_cases hb4 : b = -4
      · rw [if_pos hb4, if_pos hb4]
        exact step81 (fun _ => Or.inl hb4)
      · rw [if_neg hb4, if_neg hb4]
        rcases hb with hb | ⟨j, hj, rfl⟩
        · exact absurd hb hb4
        rw [x_pop hs16, x_pop hj, m_cnt (by omega) hs16, m_cnt (by omega) hj, Option.bind_some, Option.bind_some, Option.bind_some, Option.bind_some]
        by_cases hc : nI (fb_ct (fun i => j.testBit i) 16) ≤ nI (fb_ct (fun i => s.testBit i) 16)
        · rw [if_pos hc, if_pos hc]
          unfold fX0_hot_159 fX3_hot_163
          simp only [ec_lt, nI_1]
          exact ih (s + 1) m m' (nI j) (by omega) (by omega) (by omega) (by omega) (Or.inr ⟨j, hj, rfl⟩) (fun _ => hb4)
        · rw [if_neg hc, if_neg hc]
          exact step81 (fun _ => Or.inr hb4)
  have first : fX0_hot_50 (N' + 1) S (fun x3_18 x4_19 => if ¬ x3_18 = 0 then (some x4_19) else ((fJ9_bitCount x4_19).bind fun v_20 => some v_20)) (N' + 1) (nI e) (nI q) x3 (-4) 0 = fX0_hot_50 (N' + 1) S (fun x3_18 x4_19 => if ¬ x3_18 = 0 then (some x4_19) else ((fJ9_bitCount x4_19).bind fun v_20 => some v_20)) N' (nI e) (nI q) x3 (-4) 1 := by
    have hge : ¬ nI (2 ^ nl) ≤ 0 := nI_nle hpos (by omega)
    rw [fX0_hot_50, p2, w1, if_neg hge, if_pos rfl]
    unfold fX0_hot_81
    obtain ⟨L1, -⟩ := hs_loop (N := N' + 1) hP he8 (s := 0) (by omega) (nI q) x3 (-4) 0 0 (fun x1_8 x2_9 x3_10 x4_11 x5_12 x6_13 =>
          (ec_ag (S.2.1 10) 8 x1_8).bind fun v_14 =>
          if (lg_cmp ((100 : Int64) * x6_13) ((x2_9.toInt64) * (v_14.toInt64))) < 0 then (
            fX0_hot_157 (N' + 1) S (fX0_hot_50 (N' + 1) S (fun x3_18 x4_19 => if ¬ x3_18 = 0 then (some x4_19) else ((fJ9_bitCount x4_19).bind fun v_20 => some v_20)) N') x1_8 x2_9 x3_10 x5_12 x4_11)
          else (
            fX0_hot_157 (N' + 1) S (fX0_hot_50 (N' + 1) S (fun x3_18 x4_19 => if ¬ x3_18 = 0 then (some x4_19) else ((fJ9_bitCount x4_19).bind fun v_20 => some v_20)) N') x1_8 x2_9 x3_10 x5_12 x5_12)) (fun _ _ _ _ _ _ _ => none) nl 0 (N' + 1) (N' + 1) (by omega) (by omega) (by omega)
    have hz0 : fb_sm (fun i => if (0 : Nat).testBit i then hwt M e i else 0) nl = 0 := by
      have := fb_sm_bound (f := fun i => if (0 : Nat).testBit i then hwt M e i else 0) (c := 0) (n := nl) (fun k hk => by rw [Nat.zero_testBit]; exact Nat.le_refl 0)
      omega
    rw [hz0] at L1
    simp only [fb_sm] at L1
    rw [show (lN 0 : Int64) = 0 from rfl, show (nI 0 : Int32) = 0 from rfl] at L1
    rw [L1, ag_at he8 (by decide), t2, Option.bind_some, if_pos (show lg_cmp ((100 : Int64) * 0) ((nI q).toInt64 * (nI T).toInt64) < 0 from cmp_small)]
    rfl
  rw [first]
  exact loop (2 ^ nl - 1) 1 N' (N' + 1) (-4) (by omega) (by omega) (by omega) (by omega) (Or.inl rfl) (fun h => by omega)
