/-! LOOKS: over, looked, seldom; beats -/
set_option maxRecDepth 100000
theorem can_both {S : sX} {M : sM} (hI : INV S M) (x1 x2 : Int32) : (fX0_canCount S x1 x2 = some 0 ∧ fX3_canCount M x1 x2 = some 0) ∨ ∃ c e, c < 4 ∧ e < 8 ∧ x1 = nI c ∧ x2 = nI e ∧ fX0_canCount S x1 x2 = some 1 ∧ fX3_canCount M x1 x2 = some 1 := by
  obtain ⟨n, mk, n1, n2, n3, n4, hm⟩ := hI.cw
  unfold fX0_canCount fX3_canCount fX0_canCount_32 fX3_canCount_33 fX1_canCount
  rw [x_isCounter, m_isCounter, x_isEvent, m_isEvent, n3, n4]
  simp only [Option.bind_some, z01]
  by_cases h1 : inB x1.toInt64 0 ((nI n - 1).toInt64)
  · rw [if_neg (not_not_intro h1), if_neg (not_not_intro h1)]
    by_cases h2 : inB x2.toInt64 0 7
    · rw [if_neg (not_not_intro h2), if_neg (not_not_intro h2)]
      obtain ⟨c, hc, rfl⟩ := (in_nat (by omega)).mp h1
      obtain ⟨e, -, he, rfl⟩ := (in_lit 0 7 (by decide) (by decide)).mp h2
      obtain ⟨a1, a2, a, fs, a3, a4, a5⟩ := hm c (by omega)
      rw [a3, Option.bind_some, a4, Option.bind_some, a5, Option.bind_some, ag_at (by omega) (by decide), Option.bind_some, a2]
      by_cases h3 : ((nI (mk c) >>> (nI e &&& 31)) &&& 1) = 1
      · right
        rw [if_neg (not_not_intro h3), Option.bind_some, if_neg (by decide)]
        exact ⟨c, e, by omega, by omega, rfl, rfl, rfl, rfl⟩
      · left
        rw [if_pos h3, Option.bind_some, if_pos rfl]
        exact ⟨rfl, rfl⟩
    · left; rw [if_pos h2, if_pos h2]; exact ⟨rfl, rfl⟩
  · left; rw [if_pos h1, if_pos h1]; exact ⟨rfl, rfl⟩
theorem wd_at {S : sX} {M : sM} (hV : INV S M) {c : Nat} (hc : c < 4) : ∃ a w, hAr 7 S.2.2.2 (S.2.2.1 13) (nI c) = some a ∧ hI 1 S.2.2.2 a 1 = some (nI w) ∧ ec_ag (M.2.2 38) 4 (nI c) = some (nI w) ∧ 2 ≤ w ∧ w ≤ 16 := by
  obtain ⟨ad, tg, row, dp, nl, n, nq, ch, dq, cm, hT, hC, hR, hH, hK, hP, hQ⟩ := hV
  obtain ⟨⟨k, k1, k2, k3, k4⟩, c1, ⟨f, c2, c3⟩, c4⟩ := hC
  obtain ⟨-, d1, -, w, w1, w2, w3⟩ := c4 c hc
  exact ⟨ad 1 c, w, hAr_at c2 hc (by decide) (c3 c hc), by rw [hI_at (v := M.2.2 38 c) d1 rfl, w3], by rw [ag_at hc (by decide), w3], w1, w2⟩
theorem ob_over {N : Nat} (hN : 10000 ≤ N) : OB_over N INV := by
  intro S M x1 x2 x3 x4 hI
  obtain ⟨ad, tg, dp, nl, n, hP⟩ := hI.pp
  unfold fX0_over fX3_over fX0_over_43 fX3_over_40
  rcases can_both hI x1 x2 with ⟨h1, h2⟩ | ⟨c, e, hc, he, rfl, rfl, h1, h2⟩
  · rw [h1, h2, Option.bind_some, Option.bind_some, if_pos rfl, if_pos rfl]; exact ⟨_, rfl, rfl⟩
  · obtain ⟨a, w, w1, w2, w3, w4, w5⟩ := wd_at hI hc
    obtain ⟨T, t1, t2, t3, -⟩ := tot_at (N := N) (by omega) hP he
    simp only [h1, h2, w1, w2, w3, Option.bind_some, x_isIn, m_in, z01, t3, ag_at he (show 8 < 2 ^ 31 by decide), t2, ec_lt]
    simp only [if_neg (show ¬ (1 : Int32) = 0 by decide)]
    by_cases h3 : ¬ inB x3.toInt64 0 (((1 : Int32) <<< (nI w &&& 31)) - 1).toInt64
    · simp only [if_pos h3]; exact ⟨_, rfl, rfl⟩
    simp only [if_neg h3]
    by_cases h4 : ¬ ¬ inB x4.toInt64 0 1
    · simp only [if_pos h4]
      by_cases h5 : x4 = 0
      · simp only [if_neg (not_not_intro h5)]; exact ⟨_, rfl, rfl⟩
      · simp only [if_pos h5]; exact ⟨_, rfl, rfl⟩
    · simp only [if_neg h4]; exact ⟨_, rfl, rfl⟩
theorem pw_I : ∀ w, w < 17 → (1 : Int32) <<< (nI w &&& 31) = nI (2 ^ w) ∧ (1 : Int32) <<< (nI w &&& 31) - 1 = nI (2 ^ w - 1) ∧ 2 ^ w ≤ 65536 := by decide +kernel
theorem lk_loop {N : Nat} {ad : Nat → Nat → Nat} {tg : Nat → Nat × Nat} {dp : Nat → Int32} {nl n e w b : Nat} (hw0 : 0 < w) (hw : w < 1000) (he : e < 8) (hb : b ≤ 16) (kx : sX → Int32 → Int32 → Option sX) (ky : sM → Int32 → Int32 → Int32 → Option (Int32 × sM)) : ∀ (k i m m' a t pt : Nat) (x8 : Int32) (S : sX) (M : sM), PP ad tg dp nl n S M → i + k = n → k < m → k < m' → a ≤ 99 * i → t ≤ 20 * i → pt ≤ t → S.1 23 = x8 → S.1 24 = M.1 48 →
    ∃ S' M' a' x8', fX0_layLooks_37 N kx m S (nI e) (nI w) (nI (2 ^ b - 1)) (nI a) (nI t) (nI (pt / w)) (nI i) = kx S' (nI (2 ^ b - 1)) (nI a') ∧ fX3_toldBy_30 N ky m' M (nI e) (nI w) (nI (2 ^ b)) (nI t) (nI pt) (nI a) x8 (nI i) = ky M' (nI (2 ^ b)) (nI a') x8' ∧ xFr S S' ∧ mFr M M' ∧ a' ≤ 594000 ∧ S'.1 23 = x8' ∧ S'.1 24 = M'.1 48 := by
  have hb2 := (pw_I b (by omega)).2.2
  have hbp := Nat.two_pow_pos b
  intro k
  induction k with
  | zero =>
    intro i m m' a t pt x8 S M hP hi hm hm' ha ht hpt e1 e2
    obtain ⟨m, rfl⟩ : ∃ i, m = i + 1 := ⟨m - 1, by omega⟩
    obtain ⟨m', rfl⟩ : ∃ i, m' = i + 1 := ⟨m' - 1, by omega⟩
    obtain ⟨p1, p2, p3, p4, p5, p6, -⟩ := hP
    have : i = n := by omega
    subst this
    rw [fX0_layLooks_37, fX3_toldBy_30, p5, p6, if_pos (nI_le (Nat.le_refl _) (by omega)), if_pos (nI_le (Nat.le_refl _) (by omega))]
    exact ⟨S, M, a, x8, rfl, rfl, xFr.refl S, mFr.refl M, by omega, e1, e2⟩
  | succ k ih =>
    intro i m m' a t pt x8 S M hP hi hm hm' ha ht hpt e1 e2
    obtain ⟨m, rfl⟩ : ∃ i, m = i + 1 := ⟨m - 1, by omega⟩
    obtain ⟨m', rfl⟩ : ∃ i, m' = i + 1 := ⟨m' - 1, by omega⟩
    obtain ⟨l, l1, l2, s1, s2⟩ := p_step hP (show i < n by omega)
    obtain ⟨tk, k1, k2, k3, k4⟩ := p_tk hP l1
    obtain ⟨ev, v1, v2, v3, v4⟩ := p_mk hP l1 he
    have hln := p_line hP l1
    have hP2 := hP
    obtain ⟨p1, p2, p3, p4, p5, p6, -⟩ := hP2
    have hd1 := Nat.div_le_self t w
    have hd2 := Nat.div_le_self pt w
    rw [fX0_layLooks_37, fX3_toldBy_30, p5, p6, if_neg (nI_ge (by omega) (by omega)), if_neg (nI_ge (by omega) (by omega))]
    unfold fX0_layLooks_102 fX3_toldBy_78
    have hmask : nI a &&& nI (2 ^ b - 1) = nI (a % 2 ^ b) := fa_mask a b
    simp only [s1, s2, hln, k3, k4, v2, v3, v4, Option.bind_some, ec_lt, nI_1, nI_add, dv_nat (show t < 2 ^ 31 by omega) hw0 (show w < 2 ^ 31 by omega), dv_nat (show pt < 2 ^ 31 by omega) hw0 (show w < 2 ^ 31 by omega), rm_nat (show a < 2 ^ 31 by omega) hbp (show 2 ^ b < 2 ^ 31 by omega), hmask, e1, nI_eq (show t / w < 2 ^ 31 by omega) (show pt / w < 2 ^ 31 by omega)]
    have hz : (nI i ≤ 0) ↔ i ≤ 0 := nI_leI (b := 0) (by omega) (by decide)
    simp only [hz]
    by_cases hq : t / w = pt / w
    · have F := ih (i + 1) m m' (a + ev) (t + tk) t x8 S M hP (by omega) (by omega) (by omega) (by omega) (by omega) (by omega) e1 e2
      rw [if_pos hq, if_pos hq]
      rw [← hq]
      by_cases h0 : i ≤ 0
      · rw [if_pos h0]; exact F
      · rw [if_neg h0]; exact F
    · have h0 : ¬ i ≤ 0 := fun h => hq (by
        have h1 : t = 0 := by omega
        have h2 : pt = 0 := by omega
        rw [h1, h2])
      rw [if_neg hq, if_neg h0, if_neg hq]
      have b1 : (xI S 23 (x8 + nI (a % 2 ^ b))).1 24 = M.1 48 := by rw [xI_ne _ _ (by decide)]; exact e2
      rw [b1]
      have k3' : hI 7 (xI (xI S 23 (x8 + nI (a % 2 ^ b))) 24 (M.1 48 + 1)).2.2.2 (ad 8 l) 2 = some (nI tk) := k3
      have v2' : hR 7 (xI (xI S 23 (x8 + nI (a % 2 ^ b))) 24 (M.1 48 + 1)).2.2.2 (ad 8 l) 3 = some (ad 9 l) := v2
      have v3' : hAi 0 (xI (xI S 23 (x8 + nI (a % 2 ^ b))) 24 (M.1 48 + 1)).2.2.2 (ad 9 l) (nI e) = some (nI ev) := v3
      have s2' : ec_ag ((mI M 48 (M.1 48 + 1)).2.2 8) 6000 (nI i) = some (nI l) := s2
      have k4' : ec_ag ((mI M 48 (M.1 48 + 1)).2.2 1) 16 (nI l) = some (nI tk) := k4
      have v4' : fX3_made (mI M 48 (M.1 48 + 1)) (nI l) (nI e) = some (nI ev) := v4
      simp only [k3', v2', v3', s2', k4', v4', Option.bind_some]
      have h00 : (0 : Int32) + nI ev = nI (0 + ev) := nI_add 0 ev
      rw [h00]
      simp only [nI_add]
      obtain ⟨S', M', a', x8', g1, g2, g3, g4, g5⟩ := ih (i + 1) m m' (0 + ev) (t + tk) t (x8 + nI (a % 2 ^ b)) (xI (xI S 23 (x8 + nI (a % 2 ^ b))) 24 (M.1 48 + 1)) (mI M 48 (M.1 48 + 1)) hP (by omega) (by omega) (by omega) (by omega) (by omega) (by omega) (by rw [xI_ne _ _ (by decide), xI_eq]) (by rw [xI_eq, mI_eq])
      exact ⟨S', M', a', x8', g1, g2, ((xFr.sI S 23 _ (by decide)).trans (xFr.sI _ 24 _ (by decide))).trans g3, (mFr.sI M 48 _ (by decide)).trans g4, g5⟩
theorem lay_looks {N : Nat} (hN : 10000 ≤ N) {S : sX} {M : sM} (hI : INV S M) {c e w : Nat} (hc : c < 4) (he : e < 8) (hw0 : 0 < w) (hw : w < 1000) : ∃ S' M' v, fX0_layLooks N S (nI c) (nI e) (nI w) = some S' ∧ fX3_toldBy N M (nI c) (nI e) (nI w) = some (v, M') ∧ INV S' M' ∧ xFr S S' ∧ mFr M M' ∧ S'.1 23 = v ∧ S'.1 24 = M'.1 48 := by
  obtain ⟨ad, tg, dp, nl, n, hP⟩ := hI.pp
  obtain ⟨a, b, w1, w2, w3, w4, w5⟩ := wd_at hI hc
  obtain ⟨q1, q2, q3⟩ := pw_I b (by omega)
  unfold fX0_layLooks fX3_toldBy
  rw [w1, w3]
  simp only [Option.bind_some, w2, ec_lt, q1, q2]
  have hPn := hP.2.2.2.1
  obtain ⟨S', M', a', x8', g1, g2, g3, g4, g5, g6, g7⟩ := lk_loop (N := N) (w := w) (e := e) (b := b) hw0 hw he w5 (fun S_18 x4_19 x5_20 => some (xI S_18 23 ((S_18.1 23) + (x5_20 &&& x4_19)))) (fun S_16 x4_17 x7_18 x8_19 => (ec_rm x7_18 x4_17).bind fun v_20 => some ((x8_19 + v_20), S_16)) n 0 N N 0 0 0 0 (xI (xI S 23 0) 24 1) (mI M 48 1) hP (by omega) (by omega) (by omega) (by omega) (by omega) (by omega) (by rw [xI_ne _ _ (by decide), xI_eq]) (by rw [xI_eq, mI_eq])
  rw [Nat.zero_div] at g1
  rw [show (nI 0 : Int32) = 0 from rfl] at g1 g2
  have q2' : nI (2 ^ b) - 1 = nI (2 ^ b - 1) := by rw [← q1]; exact q2
  rw [q2']
  have hx := (((xFr.sI S 23 0 (by decide)).trans (xFr.sI _ 24 1 (by decide))).trans g3).trans (xFr.sI S' 23 (x8' + nI (a' % 2 ^ b)) (by decide))
  have hm := (mFr.sI M 48 1 (by decide)).trans g4
  refine ⟨xI S' 23 (x8' + nI (a' % 2 ^ b)), M', x8' + nI (a' % 2 ^ b), ?_, ?_, hI.fr hx hm, hx, hm, xI_eq _ _ _, by rw [xI_ne _ _ (by decide)]; exact g7⟩
  · rw [g1, g6, fa_mask a' b]
  · rw [g2, rm_nat (by omega) (Nat.two_pow_pos b) (by omega), Option.bind_some]
theorem ob_looked {N : Nat} (hN : 10000 ≤ N) : OB_looked N INV := by
  intro S M x1 x2 x3 x4 hI
  unfold fX0_looked fX3_looked fX0_looked_34 fX3_looked_34
  rw [x_isIn, x_isIn, m_in, m_in]
  simp only [Option.bind_some, z01]
  rcases can_both hI x1 x2 with ⟨h1, h2⟩ | ⟨c, e, hc, he, rfl, rfl, h1, h2⟩
  · rw [h1, h2, Option.bind_some, Option.bind_some, if_pos rfl, if_pos rfl]; exact ⟨_, _, _, rfl, rfl, hI⟩
  · rw [h1, h2, Option.bind_some, Option.bind_some, if_neg (show ¬ (1 : Int32) = 0 by decide), if_neg (show ¬ (1 : Int32) = 0 by decide)]
    by_cases h3 : inB x3.toInt64 1 999
    · rw [if_neg (not_not_intro h3), if_neg (not_not_intro h3)]
      by_cases h4 : ¬ ¬ inB x4.toInt64 0 2
      · rw [if_pos h4, if_pos h4]
        obtain ⟨w, w0, w1, rfl⟩ := (in_lit 1 999 (by decide) (by decide)).mp h3
        obtain ⟨S', M', v, g1, g2, g3, g4, g5, g6, g7⟩ := lay_looks hN hI hc he (show 0 < w by omega) (show w < 1000 by omega)
        obtain ⟨ad, tg, dp, nl, n, hP⟩ := g3.pp
        obtain ⟨T, t1, t2, t3, -⟩ := tot_at (N := N) (by omega) hP he
        rw [g1, g2, Option.bind_some]
        simp only [ec_b2, t3, ag_at he (show 8 < 2 ^ 31 by decide), t2, Option.bind_some, g6, g7]
        by_cases h5 : x4 = 0
        · rw [if_neg (not_not_intro h5), if_neg (not_not_intro h5)]; exact ⟨_, _, _, rfl, rfl, g3⟩
        rw [if_pos h5, if_pos h5]
        by_cases h6 : x4 = 1
        · rw [if_neg (not_not_intro h6), if_neg (not_not_intro h6)]; exact ⟨_, _, _, rfl, rfl, g3⟩
        rw [if_pos h6, if_pos h6]
        exact ⟨_, _, _, rfl, rfl, g3⟩
      · rw [if_neg h4, if_neg h4]; exact ⟨_, _, _, rfl, rfl, hI⟩
    · rw [if_pos h3, if_pos h3]; exact ⟨_, _, _, rfl, rfl, hI⟩
theorem sel_loop {N : Nat} (hN : 10000 ≤ N) {c e T : Nat} (hc : c < 4) (he : e < 8) : ∀ (w m m' : Nat) (S : sX) (M : sM), INV S M → S.2.1 10 e = nI T → w < 1000 → w + 1 < m → w < m' →
    ∃ r S' M', fX0_seldom_19 N (fun S_5 x3_6 => fX0_seldom_65 N S_5 x3_6) m S (nI c) (nI e) (-4) (nI w) = some (r, S') ∧ fX3_seldom_22 N (fun S_6 x4_7 => some (x4_7, S_6)) (fun S_8 => some ((-4 : Int32), S_8)) m' M (nI c) (nI e) (nI T) (nI w) = some (r, M') ∧ INV S' M' := by
  intro w
  induction w with
  | zero =>
    intro m m' S M hI hT hw hm hm'
    obtain ⟨m, rfl⟩ : ∃ i, m = i + 1 := ⟨m - 1, by omega⟩
    obtain ⟨m', rfl⟩ : ∃ i, m' = i + 1 := ⟨m' - 1, by omega⟩
    rw [fX0_seldom_19, fX3_seldom_22, if_pos (by decide), if_pos (by decide)]
    exact ⟨_, _, _, rfl, rfl, hI⟩
  | succ w ih =>
    intro m m' S M hI hT hw hm hm'
    obtain ⟨m, rfl⟩ : ∃ i, m = i + 1 := ⟨m - 1, by omega⟩
    obtain ⟨m', rfl⟩ : ∃ i, m' = i + 1 := ⟨m' - 1, by omega⟩
    obtain ⟨S', M', v, g1, g2, g3, g4, g5, g6, g7⟩ := lay_looks hN hI hc he (show 0 < w + 1 by omega) hw
    have hT' : S'.2.1 10 e = nI T := by rw [g4.2.1 10 (by decide)]; exact hT
    rw [fX0_seldom_19, fX3_seldom_22, if_neg (nI_nle (by omega) (by omega)), if_neg (nI_nle (by omega) (by omega)), if_neg (fun h => h rfl), g1, g2, Option.bind_some, ag_at he (by decide), Option.bind_some, hT', g6]
    unfold fX0_seldom_58
    simp only [ec_b2, ec_lt, pk_m1]
    by_cases hv : v = nI T
    · rw [if_neg (not_not_intro hv), if_neg (not_not_intro hv)]
      obtain ⟨m, rfl⟩ : ∃ i, m = i + 1 := ⟨m - 1, by omega⟩
      rw [fX0_seldom_19]
      unfold fX0_seldom_65
      by_cases h0 : nI w ≤ 0
      · rw [if_pos h0]; exact ⟨_, _, _, rfl, rfl, g3⟩
      · rw [if_neg h0, if_pos (nI_nm4 (by omega))]; exact ⟨_, _, _, rfl, rfl, g3⟩
    · rw [if_pos hv, if_pos hv]
      exact ih m m' S' M' g3 hT' (by omega) (by omega) (by omega)
theorem ob_seldom {N : Nat} (hN : 10000 ≤ N) : OB_seldom N INV := by
  intro S M x1 x2 hI
  unfold fX0_seldom fX3_seldom
  rcases can_both hI x1 x2 with ⟨h1, h2⟩ | ⟨c, e, hc, he, rfl, rfl, h1, h2⟩
  · rw [h1, h2, Option.bind_some, Option.bind_some, if_neg (not_not_intro rfl), if_neg (not_not_intro rfl)]; exact ⟨_, _, _, rfl, rfl, hI⟩
  · obtain ⟨ad, tg, dp, nl, n, hP⟩ := hI.pp
    obtain ⟨T, t1, t2, t3, -⟩ := tot_at (N := N) (by omega) hP he
    rw [h1, h2, Option.bind_some, Option.bind_some, if_pos (show ¬ (1 : Int32) = 0 by decide), if_pos (show ¬ (1 : Int32) = 0 by decide), t3, Option.bind_some]
    exact sel_loop hN hc he 999 N N S M hI t2 (by decide) (by omega) (by omega)
theorem x_common {N : Nat} (hN : 200 ≤ N) {a b : Nat} (ha : a < 2 ^ 62) (hb : b < 2 ^ 62) : fX0_common N (lN a) (lN b) = some (lN (Nat.gcd a b)) := by
  unfold fX0_common
  simp only [ec_lt]
  rw [abs_nat (by omega)]
  exact xgcd2 _ ha hb (by omega)
theorem m_common {N : Nat} (hN : 200 ≤ N) {a b : Nat} (ha : a < 2 ^ 62) (hb : b < 2 ^ 62) (hb0 : 0 < b) : fX3_common N (lN b) (lN a) = some (lN (Nat.gcd a b)) := by
  have hg : Nat.gcd a b < 2 ^ 62 := Nat.lt_of_le_of_lt (Nat.gcd_le_right a hb0) hb
  unfold fX3_common
  rw [mgcd2 _ hb ha (by omega), size_nat (by rw [Nat.gcd_comm]; omega), Nat.gcd_comm]
  rfl
/-- the place of the next beat -/
theorem rm_neg {g d s x y : Nat} (hg0 : 0 < g) (hg : g ≤ 9999) (hd : d = g - 1 - x % g) (hs : s ≤ 600000) (hy : y = x + s) : ∃ r, ec_rm (nI d - nI s) (nI g) = some r ∧ ec_rm (r + nI g) (nI g) = some (nI (g - 1 - y % g)) := by
  have hxg := Nat.mod_lt x hg0
  have hyg := Nat.mod_lt y hg0
  have hdl : d < g := by omega
  have hZ : (nI d - nI s).toInt = (d : Int) - s := pk_sub_toInt (by omega) (by omega)
  have hG : (nI g).toInt = (g : Int) := nI_toInt (by omega)
  have hne : ¬ nI g = 0 := nI_ne0 hg0 (by omega)
  have hdv : ((nI d - nI s) / nI g).toInt = ((d : Int) - s).tdiv g := by
    rw [Int32.toInt_div_of_ne_left _ _ (fun h => by
      have := congrArg Int32.toInt h
      rw [hZ, show Int32.minValue.toInt = -2147483648 from rfl] at this
      omega), hZ, hG]
  have hab : ∀ Z : Int, Z.tdiv g * g + Z.tmod g = Z := fun Z => Int.tdiv_mul_add_tmod Z g
  have hZ0 := hab ((d : Int) - s)
  have hlt : (((d : Int) - s).tmod g) < g := Int.tmod_lt_of_pos _ (by omega)
  have hgt : -(g : Int) < ((d : Int) - s).tmod g := by
    have := Int.lt_tmod_of_pos ((d : Int) - s) (show (0 : Int) < g by omega)
    omega
  have hm : ((nI d - nI s) / nI g * nI g).toInt = ((d : Int) - s).tdiv g * g := by
    rw [fb_mulI (by rw [hdv, hG]; omega) (by rw [hdv, hG]; omega), hdv, hG]
  have hr : (nI d - nI s - (nI d - nI s) / nI g * nI g).toInt = ((d : Int) - s).tmod g := by
    rw [fb_subI (by rw [hZ, hm]; omega) (by rw [hZ, hm]; omega), hZ, hm]
    omega
  refine ⟨nI d - nI s - (nI d - nI s) / nI g * nI g, ?_, ?_⟩
  · unfold ec_rm; rw [if_neg hne]
  · have hsum : (nI d - nI s - (nI d - nI s) / nI g * nI g + nI g) = nI ((((d : Int) - s).tmod g + g).toNat) := by
      rw [fa_eq, fb_addI (by rw [hr, hG]; omega) (by rw [hr, hG]; omega), hr, hG, nI_toInt (by omega), Int.toNat_of_nonneg (by omega)]
    rw [hsum, rm_nat (by omega) hg0 (by omega)]
    congr 2
    have hk : (((((d : Int) - s).tmod g + g).toNat % g : Nat) : Int) = (g : Int) - 1 - (y % g : Nat) := by
      rw [Int.natCast_emod, Int.toNat_of_nonneg (by omega)]
      have h1 := Nat.div_add_mod x g
      have h2 := Nat.div_add_mod y g
      have h1' : (g : Int) * (x / g : Nat) + (x % g : Nat) = x := by exact_mod_cast h1
      have h2' : (g : Int) * (y / g : Nat) + (y % g : Nat) = y := by exact_mod_cast h2
      have hd' : (d : Int) = (g : Int) - 1 - (x % g : Nat) := by omega
      have e : ((d : Int) - s).tmod g + g = ((g : Int) - 1 - (y % g : Nat)) + g * (1 - ((d : Int) - s).tdiv g + ((x / g : Nat) - (y / g : Nat))) := by
        have hy' : (y : Int) = x + s := by omega
        rw [Int.mul_add, Int.mul_sub, Int.mul_sub, Int.mul_one, Int.mul_comm (g : Int) (((d : Int) - s).tdiv g)]
        omega
      rw [e, Int.add_mul_emod_self_left, Int.emod_eq_of_lt (by omega) (by omega)]
    omega
theorem bts_loop {N : Nat} {S : sX} {M : sM} {ad : Nat → Nat → Nat} {tg : Nat → Nat × Nat} {dp : Nat → Int32} {nl n e g x3 : Nat} (hP : PP ad tg dp nl n S M) (he : e < 8) (hg0 : 0 < g) (hg : g ≤ 9999) (hx3 : x3 ≤ 9999) (x2 x4 : Int32) (kx ky : Int32 → Int32 → Int32 → Int32 → Int32 → Option Int32) : ∀ (k i m m' s : Nat) (h v : Int32), i + k = n → k < m → k < m' → s ≤ 99 * i →
    ∃ h' v', fX0_beats_77 N S kx m (nI e) x2 x4 (nI g) (nI (g - 1 - x3 % g)) h v (nI s) (nI i) = kx x2 x4 (nI g) h' v' ∧ fX3_beats_62 N M ky m' (nI e) x2 x4 (nI g) h v (nI (x3 + s)) (nI i) = ky x2 x4 (nI g) h' v' := by
  have hP0 := hP
  obtain ⟨p1, p2, p3, p4, p5, p6, -⟩ := hP0
  intro k
  induction k with
  | zero =>
    intro i m m' s h v hi hm hm' hs
    obtain ⟨m, rfl⟩ : ∃ i, m = i + 1 := ⟨m - 1, by omega⟩
    obtain ⟨m', rfl⟩ : ∃ i, m' = i + 1 := ⟨m' - 1, by omega⟩
    have : i = n := by omega
    subst this
    rw [fX0_beats_77, fX3_beats_62, p5, p6, if_pos (nI_le (Nat.le_refl _) (by omega)), if_pos (nI_le (Nat.le_refl _) (by omega))]
    exact ⟨h, v, rfl, rfl⟩
  | succ k ih =>
    intro i m m' s h v hi hm hm' hs
    obtain ⟨m, rfl⟩ : ∃ i, m = i + 1 := ⟨m - 1, by omega⟩
    obtain ⟨m', rfl⟩ : ∃ i, m' = i + 1 := ⟨m' - 1, by omega⟩
    obtain ⟨l, l1, l2, s1, s2⟩ := p_step hP (show i < n by omega)
    obtain ⟨ev, v1, v2, v3, v4⟩ := p_mk hP l1 he
    have hln := p_line hP l1
    obtain ⟨r, r1, r2⟩ := rm_neg (g := g) (s := s) (x := x3) (y := x3 + s) hg0 hg rfl (by omega) rfl
    have hyg := Nat.mod_lt (x3 + s) hg0
    have hz : (nI ev ≤ 0) ↔ ev ≤ 0 := nI_leI (b := 0) (by omega) (by decide)
    rw [fX0_beats_77, fX3_beats_62, p5, p6, if_neg (nI_ge (by omega) (by omega)), if_neg (nI_ge (by omega) (by omega))]
    unfold fX0_beats_149 fX0_beats_172 fX3_beats_100 fX3_beats_140 fX3_beats_141
    simp only [s1, s2, hln, v2, v3, v4, r1, r2, Option.bind_some, ec_lt, nI_1, nI_add, hz, nI_leI (show s + ev < 2 ^ 31 by omega) (show s + (g - 1 - (x3 + s) % g) < 2 ^ 31 by omega), rm_nat (show x3 + s < 2 ^ 31 by omega) hg0 (show g < 2 ^ 31 by omega), pk_sub (show (x3 + s) % g ≤ g by omega), nI_ltI (show ev < 2 ^ 31 by omega) (show g - (x3 + s) % g < 2 ^ 31 by omega)]
    have F := fun h v => ih (i + 1) m m' (s + ev) h v (by omega) (by omega) (by omega) (by omega)
    rw [show x3 + (s + ev) = x3 + s + ev by omega] at F
    by_cases h0 : ev ≤ 0
    · have h1 : s + ev ≤ s + (g - 1 - (x3 + s) % g) := by omega
      simp only [if_pos h0, if_pos h1]
      exact F _ _
    · simp only [if_neg h0]
      by_cases h2 : ev < g - (x3 + s) % g
      · have h1 : s + ev ≤ s + (g - 1 - (x3 + s) % g) := by omega
        simp only [if_pos h1, if_pos h2]
        exact F _ _
      · have h1 : ¬ s + ev ≤ s + (g - 1 - (x3 + s) % g) := by omega
        simp only [if_neg h1, if_neg h2]
        exact F _ _
theorem ob_beats {N : Nat} (hN : 10000 ≤ N) : OB_beats N INV := by
  intro S M x1 x2 x3 x4 hI
  obtain ⟨ad, tg, dp, nl, n, hP⟩ := hI.pp
  unfold fX0_beats fX3_beats fX0_beats_23 fX3_beats_23
  rw [x_isSample, m_isSampling, x_isIn, m_in]
  simp only [Option.bind_some, z01]
  by_cases hp : inB x1.toInt64 0 7 ∧ inB x2.toInt64 1 9999 ∧ inB x3.toInt64 0 ((x2 - 1).toInt64) ∧ inB (0 : Int32).toInt64 0 9
  · rw [if_neg (not_not_intro hp), if_neg (not_not_intro hp)]
    by_cases h5 : inB x4.toInt64 0 2
    · rw [if_pos (not_not_intro h5), if_pos (not_not_intro h5)]
      obtain ⟨e, w, t, d, he, hw0, hw, ht, hd, rfl, rfl, rfl, -⟩ := sm_args hp
      obtain ⟨T, t1, t2, t3, t4⟩ := tot_at (N := N) (by omega) hP he
      rw [t3, ag_at he (by decide), t2, Option.bind_some, Option.bind_some]
      simp only [nI_z (show T < 2 ^ 31 by omega)]
      rcases Nat.eq_zero_or_pos T with h0 | h0
      · rw [if_neg (not_not_intro h0), if_neg (not_not_intro h0)]; exact ⟨_, rfl, rfl⟩
      · rw [if_pos (by omega : ¬ T = 0), if_pos (by omega : ¬ T = 0), nI_l (n := T) (by omega), nI_l (n := w) (by omega), x_common (by omega) (by omega) (by omega), m_common (by omega) (by omega) (by omega) hw0, Option.bind_some, Option.bind_some]
        have hg := Nat.gcd_le_right T hw0
        have hg0 := Nat.gcd_pos_of_pos_right T hw0
        generalize Nat.gcd T w = g at *
        simp only [ec_lt, lN_i]
        have hmd := Nat.mod_lt t hg0
        rw [rm_nat (by omega) hg0 (by omega), Option.bind_some, show nI g - 1 = nI (g - 1) from pk_sub (a := g) (b := 1) (by omega), pk_sub (by omega : t % g ≤ g - 1), rm_nat (by omega) hg0 (by omega), Option.bind_some, Nat.mod_eq_of_lt (show g - 1 - t % g < g by omega)]
        obtain ⟨h', v', f1, f2⟩ := bts_loop (N := N) (g := g) (x3 := t) hP he hg0 (by omega) (by omega) (nI w) x4 (fun x2_21 x4_22 x6_23 x8_24 x9_25 =>
          if ¬ x4_22 = 0 then (
            if ¬ x4_22 = (1 : Int32) then (
              (ec_dv x2_21 x6_23).bind fun v_26 =>
              some v_26)
            else (
              some (x9_25 &&& (x8_24 ^^^ (-1 : Int32)))))
          else (
            some x8_24)) (fun x2_16 x4_17 x6_18 x7_19 x8_20 =>
          if ¬ x4_17 = 0 then (
            if ¬ x4_17 = (1 : Int32) then (
              (ec_dv x2_16 x6_18).bind fun v_21 =>
              some v_21)
            else (
              some (x8_20 &&& (x7_19 ^^^ (-1 : Int32)))))
          else (
            some x7_19)) n 0 N N 0 0 0 (by omega) (by have := hP.2.2.2.1; omega) (by have := hP.2.2.2.1; omega) (by omega)
        rw [show (nI 0 : Int32) = 0 from rfl] at f1 f2
        rw [Nat.add_zero] at f2
        rw [f1, f2, dv_nat (by omega) hg0 (by omega), Option.bind_some]
        by_cases c0 : x4 = 0
        · simp only [if_neg (not_not_intro c0)]; exact ⟨_, rfl, rfl⟩
        simp only [if_pos c0]
        by_cases c1 : x4 = 1
        · simp only [if_neg (not_not_intro c1)]; exact ⟨_, rfl, rfl⟩
        simp only [if_pos c1]
        exact ⟨_, rfl, rfl⟩
    · rw [if_neg (not_not_intro h5), if_neg (not_not_intro h5)]; exact ⟨_, rfl, rfl⟩
  · rw [if_pos hp, if_pos hp]; exact ⟨_, rfl, rfl⟩
