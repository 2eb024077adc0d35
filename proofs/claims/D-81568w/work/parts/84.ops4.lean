/-! greatest common divisors; ratio; beside -/
set_option maxRecDepth 100000
theorem lrm_nat {a b : Nat} (ha : a < 2 ^ 63) (hb0 : 0 < b) (hb : b < 2 ^ 63) : ec_lrm (lN a) (lN b) = some (lN (a % b)) := by
  unfold ec_lrm
  rw [if_neg (fun e => by rw [show (0 : Int64) = lN 0 from rfl, pk_lEQ hb (by decide)] at e; omega), pk_lRem ha hb0 hb]
theorem lz_nat {b : Nat} (hb : b < 2 ^ 63) : (lg_cmp (lN b) 0 = 0) ↔ b = 0 := by
  rw [lg_cmp_eq, show (0 : Int64) = lN 0 from rfl, pk_lEQ hb (by decide)]
theorem prod_half {a b : Nat} (h0 : 0 < b) (hab : b ≤ a) {k : Nat} (h : a * b < 2 ^ (k + 1)) : b * (a % b) < 2 ^ k := by
  have h1 : a % b < b := Nat.mod_lt a h0
  have h2 : b + a % b ≤ a := by
    have := Nat.div_add_mod a b
    have hq : 1 ≤ a / b := (Nat.le_div_iff_mul_le h0).mpr (by omega)
    have : b * 1 ≤ b * (a / b) := Nat.mul_le_mul_left b hq
    omega
  have h3 : 2 * (b * (a % b)) ≤ a * b := by
    have : 2 * (a % b) ≤ a := by omega
    calc 2 * (b * (a % b)) = b * (2 * (a % b)) := by rw [Nat.mul_left_comm]
      _ ≤ b * a := Nat.mul_le_mul_left b this
      _ = a * b := Nat.mul_comm b a
  rw [Nat.pow_succ] at h
  omega
theorem xgcd {N : Nat} (kx : Int64 → Option Int64) : ∀ (k n a b : Nat), b ≤ a → a < 2 ^ 63 → a * b < 2 ^ k → k < n → fX0_common_9 N kx n (lN a) (lN b) = kx (lN (Nat.gcd a b)) := by
  intro k
  induction k with
  | zero =>
    intro n a b hab ha h hn
    obtain ⟨n, rfl⟩ : ∃ m, n = m + 1 := ⟨n - 1, by omega⟩
    have hb : b = 0 := by
      rcases Nat.eq_zero_or_pos b with h0 | h0
      · exact h0
      · have := Nat.mul_pos (show 0 < a by omega) h0; omega
    subst hb
    rw [fX0_common_9, if_pos ((lz_nat (by decide)).mpr rfl), Nat.gcd_zero_right]
  | succ k ih =>
    intro n a b hab ha h hn
    obtain ⟨n, rfl⟩ : ∃ m, n = m + 1 := ⟨n - 1, by omega⟩
    rw [fX0_common_9]
    rcases Nat.eq_zero_or_pos b with h0 | h0
    · subst h0
      rw [if_pos ((lz_nat (by decide)).mpr rfl), Nat.gcd_zero_right]
    · rw [if_neg (fun e => by rw [lz_nat (by omega)] at e; omega), lrm_nat ha h0 (by omega), Option.bind_some, ih n b (a % b) (Nat.le_of_lt (Nat.mod_lt a h0)) (by omega) (prod_half h0 hab h) (by omega)]
      congr 2
      rw [Nat.gcd_comm a b, Nat.gcd_rec b a, Nat.gcd_comm]
theorem mgcd {N : Nat} (kx : Int64 → Option Int64) : ∀ (k n a b : Nat), b ≤ a → a < 2 ^ 63 → a * b < 2 ^ k → k < n → fX3_common_6 N kx n (lN a) (lN b) = kx (lN (Nat.gcd a b)) := by
  intro k
  induction k with
  | zero =>
    intro n a b hab ha h hn
    obtain ⟨n, rfl⟩ : ∃ m, n = m + 1 := ⟨n - 1, by omega⟩
    have hb : b = 0 := by
      rcases Nat.eq_zero_or_pos b with h0 | h0
      · exact h0
      · have := Nat.mul_pos (show 0 < a by omega) h0; omega
    subst hb
    rw [fX3_common_6, if_pos ((lz_nat (by decide)).mpr rfl), Nat.gcd_zero_right]
  | succ k ih =>
    intro n a b hab ha h hn
    obtain ⟨n, rfl⟩ : ∃ m, n = m + 1 := ⟨n - 1, by omega⟩
    rw [fX3_common_6]
    rcases Nat.eq_zero_or_pos b with h0 | h0
    · subst h0
      rw [if_pos ((lz_nat (by decide)).mpr rfl), Nat.gcd_zero_right]
    · rw [if_neg (fun e => by rw [lz_nat (by omega)] at e; omega), lrm_nat ha h0 (by omega), Option.bind_some, ih n b (a % b) (Nat.le_of_lt (Nat.mod_lt a h0)) (by omega) (prod_half h0 hab h) (by omega)]
      congr 2
      rw [Nat.gcd_comm a b, Nat.gcd_rec b a, Nat.gcd_comm]
theorem prod_lt {a b : Nat} (ha : a < 2 ^ 62) (hb : b < 2 ^ 62) : a * b < 2 ^ 124 := by
  calc a * b < 2 ^ 62 * 2 ^ 62 := Nat.mul_lt_mul'' ha hb
    _ = 2 ^ 124 := by decide
theorem xgcd2 {N : Nat} (kx : Int64 → Option Int64) {n a b : Nat} (ha : a < 2 ^ 62) (hb : b < 2 ^ 62) (hn : 130 ≤ n) : fX0_common_9 N kx n (lN a) (lN b) = kx (lN (Nat.gcd a b)) := by
  rcases Nat.lt_or_ge a b with h | h
  · obtain ⟨n, rfl⟩ : ∃ m, n = m + 1 := ⟨n - 1, by omega⟩
    rw [fX0_common_9, if_neg (fun e => by rw [lz_nat (by omega)] at e; omega), lrm_nat (by omega) (by omega) (by omega), Option.bind_some, Nat.mod_eq_of_lt h, xgcd kx 124 n b a (by omega) (by omega) (prod_lt hb ha) (by omega), Nat.gcd_comm]
  · exact xgcd kx 124 n a b h (by omega) (prod_lt ha hb) (by omega)
theorem mgcd2 {N : Nat} (kx : Int64 → Option Int64) {n a b : Nat} (ha : a < 2 ^ 62) (hb : b < 2 ^ 62) (hn : 130 ≤ n) : fX3_common_6 N kx n (lN a) (lN b) = kx (lN (Nat.gcd a b)) := by
  rcases Nat.lt_or_ge a b with h | h
  · obtain ⟨n, rfl⟩ : ∃ m, n = m + 1 := ⟨n - 1, by omega⟩
    rw [fX3_common_6, if_neg (fun e => by rw [lz_nat (by omega)] at e; omega), lrm_nat (by omega) (by omega) (by omega), Option.bind_some, Nat.mod_eq_of_lt h, mgcd kx 124 n b a (by omega) (by omega) (prod_lt hb ha) (by omega), Nat.gcd_comm]
  · exact mgcd kx 124 n a b h (by omega) (prod_lt ha hb) (by omega)
theorem size_nat {a : Nat} (ha : a < 2 ^ 63) : fX3_size (lN a) = some (lN a) := by
  unfold fX3_size
  rw [if_pos ((lg_cmp_ge _ _).mpr (by rw [show (0 : Int64) = lN 0 from rfl, pk_lLE (by decide) ha]; omega))]
theorem abs_nat {a : Nat} (ha : a < 2 ^ 63) : (if 0 < lN a then lN a else -lN a) = lN a := by
  by_cases h : 0 < lN a
  · rw [if_pos h]
  · rw [if_neg h]
    rw [show (0 : Int64) = lN 0 from rfl, pk_lLT (by decide) ha] at h
    have : a = 0 := by omega
    subst this
    rfl
/-- a fraction lowered, on both sides -/
theorem lowT {N : Nat} (hN : 200 ≤ N) {up : Int64} {a b w : Nat} (hup : (if 0 < up then up else -up) = lN a) (hsz : fX3_size up = some (lN a)) (ha : a < 2 ^ 62) (hb : b < 2 ^ 62) (hb0 : 0 < b) (hw : w < 2 ^ 30) : ∃ r, fX0_lowest N up (lN b) (nI w) = some r ∧ fX3_told N up (lN b) (nI (w % 2)) = some r := by
  have hg : Nat.gcd a b < 2 ^ 62 := Nat.lt_of_le_of_lt (Nat.gcd_le_right a hb0) hb
  have hg0 : 0 < Nat.gcd a b := Nat.gcd_pos_of_pos_right a hb0
  have X : fX0_common N up (lN b) = some (lN (Nat.gcd a b)) := by
    unfold fX0_common
    simp only [ec_lt]
    rw [hup]
    exact xgcd2 _ ha hb (by omega)
  have Y : fX3_common N (lN b) (lN a) = some (lN (Nat.gcd a b)) := by
    unfold fX3_common
    rw [mgcd2 _ hb ha (by omega), size_nat (by rw [Nat.gcd_comm]; omega), Nat.gcd_comm]
    rfl
  have hz : ¬ lN (Nat.gcd a b) = 0 := fun e => by rw [show (0 : Int64) = lN 0 from rfl, pk_lEQ (by omega) (by decide)] at e; omega
  unfold fX0_lowest fX0_lowest_12 fX3_told
  have R : ec_rm (nI w) 2 = some (nI (w % 2)) := by
    unfold ec_rm
    rw [if_neg (by decide)]
    exact congrArg some (pk_rem (a := w) (d := 2) (by omega) (by decide) (by decide))
  simp only [R, X, hsz, Y, Option.bind_some]
  by_cases h0 : w % 2 = 0
  · rw [h0, if_neg (fun h => h rfl)]
    unfold ec_ldv
    rw [if_neg hz]
    exact ⟨_, rfl, rfl⟩
  · have h1 : w % 2 = 1 := by omega
    rw [h1, if_pos (by decide)]
    unfold ec_ldv
    rw [if_neg hz]
    exact ⟨_, rfl, rfl⟩
theorem abs32 {a : Nat} (ha : a < 2 ^ 31) : (if 0 < (nI a).toInt64 then (nI a).toInt64 else -(nI a).toInt64) = lN a := by
  rw [nI_l ha]
  exact abs_nat (by omega)
theorem rt_end {N : Nat} (hN : 200 ≤ N) (S : sX) (M : sM) {a b w : Nat} (ha : a ≤ 594000) (hb : b ≤ 594000) (hw : w ≤ 1) : ∃ r, fX0_ratio_95 N S (nI w) (nI a) (nI b) = some r ∧ fX3_ratio_83 N M (nI w) (nI a) (nI b) = some r := by
  unfold fX0_ratio_95 fX3_ratio_83
  by_cases h0 : b = 0
  · subst h0
    rw [if_neg (fun h => h rfl), if_neg (fun h => h rfl)]
    exact ⟨_, rfl, rfl⟩
  · rw [if_pos (nI_ne0 (by omega) (by omega)), if_pos (nI_ne0 (by omega) (by omega))]
    obtain ⟨r, r1, r2⟩ := lowT hN (up := (nI a).toInt64) (a := a) (b := b) (w := w) (abs32 (by omega)) (by rw [nI_l (by omega)]; exact size_nat (by omega)) (by omega) (by omega) (by omega) (by omega)
    rw [Nat.mod_eq_of_lt (by omega)] at r2
    rw [nI_l (n := b) (by omega), r1, r2]
    exact ⟨_, rfl, rfl⟩
theorem ob_ratio {N : Nat} (hN : 200 ≤ N) : OB_ratio N INV := by
  intro S M x1 x2 x3 x4 hI
  obtain ⟨ad, tg, row, dp, nl, n, nq, ch, dq, cm, hT, hC, hR, hH, hK, hP, hQ⟩ := hI
  have hP2 := hP
  obtain ⟨p1, p2, p3, p4, p5, p6, p7, p8, p9, -, -, pg, ht, -⟩ := hP2
  have key : x1 = -4 ∨ (∃ l, l < nl ∧ x1 = nI l) → ∃ r, fX0_ratio_14 N S x1 x2 x3 x4 = some r ∧ fX3_ratio_14 N M x1 x2 x3 x4 = some r := by
    intro hx
    unfold fX0_ratio_14 fX3_ratio_14 fX0_ratio_39 fX3_ratio_39
    rw [x_isEvent, m_isEvent, x_isEvent, m_isEvent, x_isIn, m_in]
    simp only [Option.bind_some, z01]
    by_cases h2 : ¬ inB x2.toInt64 0 7
    · rw [if_pos h2, if_pos h2]; exact ⟨_, rfl, rfl⟩
    rw [if_neg h2, if_neg h2]
    by_cases h3 : ¬ inB x3.toInt64 0 7
    · rw [if_pos h3, if_pos h3]; exact ⟨_, rfl, rfl⟩
    rw [if_neg h3, if_neg h3]
    by_cases h4 : ¬ inB x4.toInt64 0 1
    · rw [if_neg (fun h => h h4), if_neg (fun h => h h4)]; exact ⟨_, rfl, rfl⟩
    rw [if_pos h4, if_pos h4]
    obtain ⟨e2, -, j2, rfl⟩ := (in_lit 0 7 (by decide) (by decide)).mp (Decidable.not_not.mp h2)
    obtain ⟨e3, -, j3, rfl⟩ := (in_lit 0 7 (by decide) (by decide)).mp (Decidable.not_not.mp h3)
    obtain ⟨w, -, j4, rfl⟩ := (in_lit 0 1 (by decide) (by decide)).mp (Decidable.not_not.mp h4)
    unfold fX0_ratio_67 fX3_ratio_61
    rcases hx with rfl | ⟨l, hl, rfl⟩
    · rw [if_neg (fun h => h rfl), if_neg (fun h => h rfl), ag_at (by omega) (by decide), q_total p3 p1 (by omega) (by omega), Option.bind_some, Option.bind_some, if_neg (fun h => h rfl), if_neg (fun h => h rfl), ag_at (by omega) (by decide), q_total p3 p1 (by omega) (by omega), Option.bind_some, Option.bind_some]
      obtain ⟨t2, k2, b2, t2'⟩ := ht e2 (by omega)
      obtain ⟨t3, k3, b3, t3'⟩ := ht e3 (by omega)
      rw [← t2, ← t3, t2', t3']
      exact rt_end hN S M b2 b3 j4
    · have hne := nI_nm4 (q := l) (by omega)
      have R := hR_at (k := 3) (v := ad 9 l) (p_obj hP hl) rfl
      simp only [if_pos hne, p_line hP hl, R, p_ev hP hl (show e2 < 8 by omega), p_ev hP hl (show e3 < 8 by omega), q_made (show l < 16 by omega) (show e2 < 8 by omega), q_made (show l < 16 by omega) (show e3 < 8 by omega), Option.bind_some]
      obtain ⟨-, -, -, -, -, mb, -⟩ := pg l hl
      obtain ⟨k2, b2, t2⟩ := mb e2 (by omega)
      obtain ⟨k3, b3, t3⟩ := mb e3 (by omega)
      rw [t2, t3]
      exact rt_end hN S M (by omega) (by omega) j4
  unfold fX0_ratio fX3_ratio
  rw [x_isLine, m_isLine, p2, p3]
  simp only [Option.bind_some, z01]
  by_cases h4 : x1 = -4
  · rw [if_neg (c := ¬ x1 = -4) (fun h => h h4), if_pos h4]
    by_cases h1 : ¬ inB x1.toInt64 0 ((nI nl - 1).toInt64)
    · rw [if_neg (fun h => h h1)]; exact key (Or.inl h4)
    · rw [if_pos h1]; exact key (Or.inl h4)
  · rw [if_pos (c := ¬ x1 = -4) h4, if_neg h4]
    by_cases h1 : ¬ inB x1.toInt64 0 ((nI nl - 1).toInt64)
    · rw [if_neg (fun h => h h1), if_pos h1]; exact ⟨_, rfl, rfl⟩
    · rw [if_pos h1, if_neg h1]
      exact key (Or.inr ((in_nat (by omega)).mp (Decidable.not_not.mp h1)))
/-- a difference of two small numbers, and its size on both sides -/
theorem diff_abs {A B : Nat} (hA : A ≤ 594000) (hB : B ≤ 594000) : ∃ z, z ≤ 594000 ∧ (if 0 ≤ nI A - nI B then nI A - nI B else 0 - (nI A - nI B)) = nI z ∧ fX3_size ((nI A - nI B).toInt64) = some (lN z) := by
  rcases Nat.lt_or_ge A B with h | h
  · have e : nI A - nI B = -(nI (B - A)) := by rw [← pk_sub (by omega : A ≤ B), Int32.neg_sub]
    have hneg := pk_sneg (a := A) (b := B) (by omega) h
    have hn2 : ¬ 0 ≤ nI A - nI B := fun hc => by rw [fa_lt] at hneg; rw [fa_le] at hc; omega
    refine ⟨B - A, by omega, ?_, ?_⟩
    · rw [if_neg hn2, e, Int32.zero_sub, Int32.neg_neg]
    · have e2 : (-(nI (B - A))).toInt64 = -(lN (B - A)) := by
        rw [Int32.toInt64_neg_of_ne (fun hc => by have := congrArg Int32.toInt hc; rw [nI_toInt (by omega), show (-2147483648 : Int32).toInt = -2147483648 from rfl] at this; omega), nI_l (by omega)]
      unfold fX3_size
      rw [if_neg]
      · rw [e, e2, Int64.neg_neg]
      · intro hc
        rw [lg_cmp_ge, fa_le64, Int32.toInt_toInt64] at hc
        rw [fa_lt] at hneg
        have : (0 : Int64).toInt = 0 := rfl
        have : (0 : Int32).toInt = 0 := rfl
        omega
  · refine ⟨A - B, by omega, ?_, ?_⟩
    · rw [pk_sub h, if_pos (nI_pos' (by omega))]
    · rw [pk_sub h, nI_l (by omega)]
      exact size_nat (by omega)
theorem bes_loop {N : Nat} {S : sX} {M : sM} (hI : INV S M) {e : Nat} (he : e < 8) (x2 : Int32) (kx ky : Int32 → Int32 → Int32 → Int32 → Int32 → Int32 → Option Int32) (hk : ∀ a b c d, ∃ r, kx (nI e) x2 a b c d = some r ∧ ky (nI e) x2 a b c d = some r) : ∀ (k l n n' m : Nat) (x3 x4 x5 x6 : Int32), l + k = 16 → m ≤ 594000 → k < n → k < n' → ∃ r, fX0_beside_39 N S kx n (nI e) x2 x3 x4 x5 x6 (nI m) (nI l) = some r ∧ fX3_beside_39 N M ky n' (nI e) x2 x3 x4 x5 x6 (nI m) (nI l) = some r := by
  obtain ⟨ad, tg, row, dp, nl, n0, nq, ch, dq, cm, hT, hC, hR, hH, hK, hP, hQ⟩ := hI
  have hP2 := hP
  obtain ⟨p1, p2, p3, -⟩ := hP2
  obtain ⟨k1, ⟨f, k2, k3⟩, k4⟩ := hK
  intro k
  induction k with
  | zero =>
    intro l n n' m x3 x4 x5 x6 hl hm hn hn'
    obtain ⟨n, rfl⟩ : ∃ m, n = m + 1 := ⟨n - 1, by omega⟩
    obtain ⟨n', rfl⟩ : ∃ m, n' = m + 1 := ⟨n' - 1, by omega⟩
    have : l = 16 := by omega
    subst this
    rw [fX0_beside_39, fX3_beside_39, if_pos (by decide), if_pos (by decide)]
    exact hk _ _ _ _
  | succ k ih =>
    intro l n n' m x3 x4 x5 x6 hl hm hn hn'
    obtain ⟨n, rfl⟩ : ∃ m, n = m + 1 := ⟨n - 1, by omega⟩
    obtain ⟨n', rfl⟩ : ∃ m, n' = m + 1 := ⟨n' - 1, by omega⟩
    have hge : ¬ (16 : Int32) ≤ nI l := nI_ge (b := 16) (by omega) (by decide)
    have step : ∀ A, A ≤ 594000 → ∃ r, fX0_beside_66 N S (fX0_beside_39 N S kx n) (nI e) x2 x3 x4 x5 x6 (nI m) (nI l) (nI A) = some r ∧ fX3_beside_74 N M (fX3_beside_39 N M ky n') (nI e) x2 x3 x4 x5 x6 (nI m) (nI l) (nI A) = some r := by
      intro A hA
      obtain ⟨-, g, g1, g2⟩ := k4 l (by omega)
      obtain ⟨g3, B, hB, g4⟩ := g2 e he
      have E1 : hAr 9 S.2.2.2 (S.2.2.1 11) (nI l) = some (ad 5 l) := hAr_at k2 (by omega) (by decide) (k3 l (by omega))
      have E2 : hAi 0 S.2.2.2 (ad 5 l) (nI e) = some (nI B) := by rw [hAi_at g1 he (by decide), g3, g4]
      have E3 : ec_ag (M.2.2 35) 128 ((8 : Int32) * nI l + nI e) = some (nI B) := by
        rw [show (8 : Int32) * nI l + nI e = nI (8 * l + e) from by rw [show (8 : Int32) = nI 8 from rfl, pk_mul, nI_add], ag_at (by omega) (by decide), g4]
      obtain ⟨z, hz, z1, z2⟩ := diff_abs hA hB
      unfold fX0_beside_66 fX3_beside_74 fX0_beside_105 fX3_beside_119 fX0_beside_123 fX3_beside_137 fX0_beside_143 fX3_beside_160 fX3_beside_187
      simp only [E1, E2, E3, z2, z1, Option.bind_some, ec_lt, nI_1, lg_cmp_le, nI_l (show m < 2 ^ 31 by omega), lN_le (show z < 2 ^ 31 by omega) (show m < 2 ^ 31 by omega), lN_i, nI_leI (show z < 2 ^ 31 by omega) (show m < 2 ^ 31 by omega), nI_ltI (show m < 2 ^ 31 by omega) (show z < 2 ^ 31 by omega)]
      have fin : ∀ x3 x4 x5 : Int32, ∃ r, (if z ≤ m then fX0_beside_39 N S kx n (nI e) x2 x3 x4 x5 x6 (if m < z then nI z else nI m) (nI (l + 1)) else fX0_beside_39 N S kx n (nI e) x2 x3 x4 x5 (nI l) (if m < z then nI z else nI m) (nI (l + 1))) = some r ∧ (if z ≤ m then if z ≤ m then fX3_beside_39 N M ky n' (nI e) x2 x3 x4 x5 x6 (nI m) (nI (l + 1)) else fX3_beside_39 N M ky n' (nI e) x2 x3 x4 x5 x6 (nI z) (nI (l + 1)) else if z ≤ m then fX3_beside_39 N M ky n' (nI e) x2 x3 x4 x5 (nI l) (nI m) (nI (l + 1)) else fX3_beside_39 N M ky n' (nI e) x2 x3 x4 x5 (nI l) (nI z) (nI (l + 1))) = some r := by
        intro x3 x4 x5
        by_cases hzm : z ≤ m
        · rw [if_pos hzm, if_pos hzm, if_pos hzm, if_neg (by omega)]
          exact ih (l + 1) n n' m _ _ _ _ (by omega) hm (by omega) (by omega)
        · rw [if_neg hzm, if_neg hzm, if_neg hzm, if_pos (by omega)]
          exact ih (l + 1) n n' z _ _ _ _ (by omega) hz (by omega) (by omega)
      by_cases c1 : nI A - nI B ≤ 0
      · rw [if_pos c1, if_pos c1]
        by_cases c2 : 0 ≤ nI A - nI B
        · rw [if_pos c2, if_pos c2]; exact fin _ _ _
        · rw [if_neg c2, if_neg c2]; exact fin _ _ _
      · rw [if_neg c1, if_neg c1]
        by_cases c2 : 0 ≤ nI A - nI B
        · rw [if_pos c2, if_pos c2]; exact fin _ _ _
        · rw [if_neg c2, if_neg c2]; exact fin _ _ _
    rw [fX0_beside_39, fX3_beside_39, if_neg hge, if_neg hge, x_isLine, Option.bind_some, p2, p3]
    simp only [z01]
    by_cases hlt : l < nl
    · rw [if_neg (fun h => h ((in_nat (by omega)).mpr ⟨l, hlt, rfl⟩)), if_neg (nI_ge hlt (by omega)), p_made hP hlt he, Option.bind_some, ag_at (by omega) (by decide), Option.bind_some, q_made (by omega) he, Option.bind_some]
      obtain ⟨A, hA, hA2⟩ := p_mb hP hlt he
      rw [hA2]
      exact step A hA
    · rw [if_pos (fun h => by obtain ⟨j, hj, e2⟩ := (in_nat (by omega)).mp h; rw [nI_eq (by omega) (by omega)] at e2; omega), if_pos (nI_le (by omega) (by omega))]
      exact step 0 (by omega)
theorem ob_beside {N : Nat} (hN : 200 ≤ N) : OB_beside N INV := by
  intro S M x1 x2 hI
  unfold fX0_beside fX3_beside fX0_beside_19 fX3_beside_19
  rw [x_isEvent, m_isEvent, x_isIn, m_in]
  simp only [Option.bind_some, z01]
  by_cases h1 : ¬ inB x1.toInt64 0 7
  · rw [if_pos h1, if_pos h1]; exact ⟨_, rfl, rfl⟩
  rw [if_neg h1, if_neg h1]
  by_cases h2 : ¬ inB x2.toInt64 0 4
  · rw [if_neg (fun h => h h2), if_neg (fun h => h h2)]; exact ⟨_, rfl, rfl⟩
  rw [if_pos h2, if_pos h2]
  obtain ⟨e, -, he, rfl⟩ := (in_lit 0 7 (by decide) (by decide)).mp (Decidable.not_not.mp h1)
  refine bes_loop hI (by omega) x2 _ _ ?_ 16 0 N N 0 0 0 0 (-4) rfl (by omega) (by omega) (by omega)
  intro a b c d
  by_cases c0 : x2 = 0
  · rw [if_neg (fun h => h c0), if_neg (fun h => h c0)]
    obtain ⟨ad, tg, row, dp, nl, n, nq, ch, dq, cm, hT, hC, hR, hH, hK, hP, hQ⟩ := hI
    obtain ⟨p1, p2, p3, p4, p5, p6, p7, p8, p9, -, -, pg, ht, -⟩ := hP
    rw [ag_at (by omega) (by decide), q_total p3 p1 (by omega) (by omega), Option.bind_some, Option.bind_some, (ht e (by omega)).1]
    exact ⟨_, rfl, rfl⟩
  rw [if_pos c0, if_pos c0]
  by_cases c1 : x2 = 1
  · rw [if_neg (fun h => h c1)]; exact ⟨_, rfl, rfl⟩
  rw [if_pos c1]
  by_cases c2 : x2 = 2
  · rw [if_neg (fun h => h c2)]; exact ⟨_, rfl, rfl⟩
  rw [if_pos c2]
  by_cases c3 : x2 = 3
  · rw [if_neg (fun h => h c3)]; exact ⟨_, rfl, rfl⟩
  rw [if_pos c3]
  exact ⟨_, rfl, rfl⟩
