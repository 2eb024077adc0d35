/-! SAMPLES: shows, samples, far, truest -/
set_option maxRecDepth 100000
theorem x_isSample (x0 x1 x2 x3 : Int32) : fX0_isSample x0 x1 x2 x3 = some (if inB x0.toInt64 0 7 ∧ inB x1.toInt64 1 9999 ∧ inB x2.toInt64 0 ((x1 - 1).toInt64) ∧ inB x3.toInt64 0 9 then 1 else 0) := by
  unfold fX0_isSample fX0_isSample_48
  rw [x_isEvent, x_isIn, x_isIn, x_isIn]
  simp only [Option.bind_some, z01]
  by_cases h1 : inB x0.toInt64 0 7
  · rw [if_neg (not_not_intro h1)]
    by_cases h2 : inB x1.toInt64 1 9999
    · rw [if_neg (not_not_intro h2)]
      by_cases h3 : inB x2.toInt64 0 ((x1 - 1).toInt64)
      · rw [if_neg (not_not_intro h3)]
        by_cases h4 : inB x3.toInt64 0 9
        · rw [if_neg (not_not_intro h4), if_pos ⟨h1, h2, h3, h4⟩]
        · rw [if_pos h4, if_neg (fun h => h4 h.2.2.2)]
      · rw [if_pos h3, if_neg (fun h => h3 h.2.2.1)]
    · rw [if_pos h2, if_neg (fun h => h2 h.2.1)]
  · rw [if_pos h1, if_neg (fun h => h1 h.1)]
theorem m_isSampling (x0 x1 x2 x3 : Int32) : fX3_isSampling x0 x1 x2 x3 = some (if inB x0.toInt64 0 7 ∧ inB x1.toInt64 1 9999 ∧ inB x2.toInt64 0 ((x1 - 1).toInt64) ∧ inB x3.toInt64 0 9 then 1 else 0) := by
  unfold fX3_isSampling fX3_isSampling_48
  rw [m_isEvent, m_in, m_in, m_in]
  simp only [Option.bind_some, z01]
  by_cases h1 : inB x0.toInt64 0 7
  · rw [if_neg (not_not_intro h1)]
    by_cases h2 : inB x1.toInt64 1 9999
    · rw [if_neg (not_not_intro h2)]
      by_cases h3 : inB x2.toInt64 0 ((x1 - 1).toInt64)
      · rw [if_neg (not_not_intro h3)]
        by_cases h4 : inB x3.toInt64 0 9
        · rw [if_neg (not_not_intro h4), if_pos ⟨h1, h2, h3, h4⟩]
        · rw [if_pos h4, if_neg (fun h => h4 h.2.2.2)]
      · rw [if_pos h3, if_neg (fun h => h3 h.2.2.1)]
    · rw [if_pos h2, if_neg (fun h => h2 h.2.1)]
  · rw [if_pos h1, if_neg (fun h => h1 h.1)]
theorem sm_args {x0 x1 x2 x3 : Int32} (h : inB x0.toInt64 0 7 ∧ inB x1.toInt64 1 9999 ∧ inB x2.toInt64 0 ((x1 - 1).toInt64) ∧ inB x3.toInt64 0 9) : ∃ e w t d, e < 8 ∧ 0 < w ∧ w ≤ 9999 ∧ t < w ∧ d < 10 ∧ x0 = nI e ∧ x1 = nI w ∧ x2 = nI t ∧ x3 = nI d := by
  obtain ⟨h1, h2, h3, h4⟩ := h
  obtain ⟨e, -, he, rfl⟩ := (in_lit 0 7 (by decide) (by decide)).mp h1
  obtain ⟨w, hw0, hw, rfl⟩ := (in_lit 1 9999 (by decide) (by decide)).mp h2
  obtain ⟨t, ht, rfl⟩ := (in_nat (by omega)).mp h3
  obtain ⟨d, -, hd, rfl⟩ := (in_lit 0 9 (by decide) (by decide)).mp h4
  exact ⟨e, w, t, d, by omega, by omega, by omega, ht, by omega, rfl, rfl, rfl, rfl⟩
theorem fill20 {N : Nat} : ∀ (k i m : Nat) (S : sX), i + k = 16 → k < m → (∀ l, l < i → S.2.1 20 l = 0) → ∃ S', fJ7_fill20_5 N m S 0 (nI i) 16 = some S' ∧ xFr S S' ∧ ∀ l, l < 16 → S'.2.1 20 l = 0 := by
  intro k
  induction k with
  | zero =>
    intro i m S hi hm hz
    obtain ⟨m, rfl⟩ : ∃ i, m = i + 1 := ⟨m - 1, by omega⟩
    have : i = 16 := by omega
    subst this
    rw [fJ7_fill20_5, if_pos (by decide)]
    exact ⟨S, rfl, xFr.refl S, hz⟩
  | succ k ih =>
    intro i m S hi hm hz
    obtain ⟨m, rfl⟩ : ∃ i, m = i + 1 := ⟨m - 1, by omega⟩
    have hge : ¬ (16 : Int32) ≤ nI i := nI_ge (b := 16) (by omega) (by decide)
    rw [fJ7_fill20_5, if_neg hge, xas_at (by omega) (by decide), Option.bind_some]
    simp only [ec_lt, nI_1]
    obtain ⟨S', e1, e2, e3⟩ := ih (i + 1) m (xA S 20 i 0) (by omega) (by omega) (fun l hl => by
      rcases Nat.lt_or_ge l i with h | h
      · rw [xA_ne _ _ _ (by omega)]; exact hz l h
      · have : l = i := by omega
        rw [this, xA_eq])
    exact ⟨S', e1, (xFr.sA S 20 i 0 (by decide)).trans e2, e3⟩
theorem fill47 {N : Nat} (kx : sM → Int32 → Int32 → Int32 → Int32 → Option sM) (x1 x2 x3 x4 : Int32) : ∀ (k i m : Nat) (M : sM), i + k = 16 → k < m → (∀ l, l < i → M.2.2 47 l = 0) → ∃ M', fX3_findSamples_13 N kx m M x1 x2 x3 x4 (nI i) = kx M' x1 x2 x3 x4 ∧ mFr M M' ∧ M'.1 = M.1 ∧ ∀ l, l < 16 → M'.2.2 47 l = 0 := by
  intro k
  induction k with
  | zero =>
    intro i m S hi hm hz
    obtain ⟨m, rfl⟩ : ∃ i, m = i + 1 := ⟨m - 1, by omega⟩
    have : i = 16 := by omega
    subst this
    rw [fX3_findSamples_13, if_pos (by decide)]
    exact ⟨S, rfl, mFr.refl S, rfl, hz⟩
  | succ k ih =>
    intro i m S hi hm hz
    obtain ⟨m, rfl⟩ : ∃ i, m = i + 1 := ⟨m - 1, by omega⟩
    have hge : ¬ (16 : Int32) ≤ nI i := nI_ge (b := 16) (by omega) (by decide)
    rw [fX3_findSamples_13, if_neg hge, as_at (by omega) (by decide), Option.bind_some]
    simp only [ec_lt, nI_1]
    obtain ⟨S', e1, e2, e4, e3⟩ := ih (i + 1) m (mA S 47 i 0) (by omega) (by omega) (fun l hl => by
      rcases Nat.lt_or_ge l i with h | h
      · rw [mA_ne _ _ _ (by omega)]; exact hz l h
      · have : l = i := by omega
        rw [this, mA_eq])
    exact ⟨S', e1, (mFr.sA S 47 i 0 (by decide)).trans e2, e4, e3⟩
/-- what the samples show, on both sides -/
def SM (e nl : Nat) (S : sX) (M : sM) (A B : Nat) (c : Nat → Nat) : Prop := S.1 21 = nI A ∧ S.1 22 = nI B ∧ M.1 45 = nI (A + B) ∧ M.1 46 = nI B ∧ (∀ l, l < 16 → S.2.1 20 l = nI (c l) ∧ M.2.2 47 l = nI (c l) ∧ c l ≤ A) ∧ (0 < A + B → ∃ l k, l < nl ∧ 0 < k ∧ k ≤ 99 ∧ M.2.2 2 (8 * l + e) = nI k)
theorem sm_loop {N : Nat} {ad : Nat → Nat → Nat} {tg : Nat → Nat × Nat} {dp : Nat → Int32} {nl n w e d : Nat} (hw0 : 0 < w) (hw : w ≤ 9999) (he : e < 8) (hd : d < 10) : ∀ (k i m m' t A B : Nat) (c : Nat → Nat) (S : sX) (M : sM), PP ad tg dp nl n S M → i + k = n → k < m → k < m' → t < w → (A + B) * w + t ≤ 9998 + 99 * i → SM e nl S M A B c →
    ∃ S' M' A' B' c', fX0_laySamples_24 N m S (nI e) (nI w) (nI d) (nI t) (nI i) = some S' ∧ fX3_findSamples_40 N m' M (nI e) (nI w) (nI d) (nI t) (nI i) = some M' ∧ xFr S S' ∧ mFr M M' ∧ A' + B' ≤ 603998 ∧ SM e nl S' M' A' B' c' := by
  intro k
  induction k with
  | zero =>
    intro i m m' t A B c S M hP hi hm hm' ht hA hS
    obtain ⟨m, rfl⟩ : ∃ i, m = i + 1 := ⟨m - 1, by omega⟩
    obtain ⟨m', rfl⟩ : ∃ i, m' = i + 1 := ⟨m' - 1, by omega⟩
    obtain ⟨p1, p2, p3, p4, p5, p6, -⟩ := hP
    have : i = n := by omega
    subst this
    rw [fX0_laySamples_24, fX3_findSamples_40, p5, p6, if_pos (nI_le (Nat.le_refl _) (by omega)), if_pos (nI_le (Nat.le_refl _) (by omega))]
    have hQ : (A + B) * 1 ≤ (A + B) * w := Nat.mul_le_mul_left _ hw0
    exact ⟨S, M, A, B, c, rfl, rfl, xFr.refl S, mFr.refl M, by omega, hS⟩
  | succ k ih =>
    intro i m m' t A B c S M hP hi hm hm' ht hA hS
    obtain ⟨m, rfl⟩ : ∃ i, m = i + 1 := ⟨m - 1, by omega⟩
    obtain ⟨m', rfl⟩ : ∃ i, m' = i + 1 := ⟨m' - 1, by omega⟩
    obtain ⟨l, l1, l2, s1, s2⟩ := p_step hP (show i < n by omega)
    obtain ⟨ev, v1, v2, v3, v4⟩ := p_mk hP l1 he
    have hln := p_line hP l1
    have hP2 := hP
    obtain ⟨p1, p2, p3, p4, p5, p6, -⟩ := hP2
    obtain ⟨e1, e2, e3, e4, e5, e6⟩ := hS
    have hQ : (A + B) * 1 ≤ (A + B) * w := Nat.mul_le_mul_left _ hw0
    have hdm := Nat.div_add_mod (t + ev) w
    have hml := Nat.mod_lt (t + ev) hw0
    have hdl := Nat.div_le_self (t + ev) w
    have hpos : 0 < (t + ev) / w → 0 < ev := fun h => by
      rcases Nat.eq_zero_or_pos ev with h0 | h0
      · rw [h0, Nat.add_zero, Nat.div_eq_of_lt ht] at h; omega
      · exact h0
    have hmk : M.2.2 2 (8 * l + e) = nI ev := by
      have := q_made (M := M) (l := l) (e := e) l2 he
      rw [v4] at this
      exact (Option.some.inj this).symm
    have hnew : (A + B + (t + ev) / w) * w + (t + ev) % w ≤ 9998 + 99 * (i + 1) := by
      rw [Nat.add_mul, Nat.mul_comm ((t + ev) / w) w]
      omega
    have hex : 0 < A + B + (t + ev) / w → ∃ l k, l < nl ∧ 0 < k ∧ k ≤ 99 ∧ M.2.2 2 (8 * l + e) = nI k := fun h => by
      rcases Nat.eq_zero_or_pos (A + B) with h0 | h0
      · exact ⟨l, ev, l1, hpos (by omega), v1, hmk⟩
      · exact e6 h0
    rw [fX0_laySamples_24, fX3_findSamples_40, p5, p6, if_neg (nI_ge (by omega) (by omega)), if_neg (nI_ge (by omega) (by omega))]
    unfold fX0_laySamples_124 fX3_findSamples_135
    have p6' : (mI M 45 (nI (A + B + (t + ev) / w))).1 7 = nI n := p6
    have e4' : (mI M 45 (nI (A + B + (t + ev) / w))).1 46 = nI B := e4
    simp only [s1, s2, hln, v2, v3, v4, Option.bind_some, ec_lt, nI_1, nI_add, e2, e3, dv_nat (show t + ev < 2 ^ 31 by omega) hw0 (show w < 2 ^ 31 by omega), rm_nat (show t + ev < 2 ^ 31 by omega) hw0 (show w < 2 ^ 31 by omega), p6', e4']
    rcases Nat.lt_or_ge (i + d) n with h | h
    · rw [if_neg (nI_ge h (by omega)), if_neg (nI_ge h (by omega))]
      obtain ⟨l', l1', l2', s1', s2'⟩ := p_step hP h
      have s2'' : ec_ag ((mI M 45 (nI (A + B + (t + ev) / w))).2.2 8) 6000 (nI (i + d)) = some (nI l') := s2'
      obtain ⟨c1, c2, c3⟩ := e5 l' l2'
      have c2' : (mI M 45 (nI (A + B + (t + ev) / w))).2.2 47 l' = nI (c l') := c2
      have e1' : (xA S 20 l' (nI (c l' + (t + ev) / w))).1 21 = nI A := e1
      simp only [s1', s2'', Option.bind_some, ag_at l2' (show 16 < 2 ^ 31 by decide), c1, c2', nI_add, xas_at l2' (show 16 < 2 ^ 31 by decide), as_at l2' (show 16 < 2 ^ 31 by decide), e1']
      obtain ⟨S', M', A', B', c', g1, g2, g3, g4, g5⟩ := ih (i + 1) m m' ((t + ev) % w) (A + (t + ev) / w) B (va_up c l' (c l' + (t + ev) / w)) (xI (xA S 20 l' (nI (c l' + (t + ev) / w))) 21 (nI (A + (t + ev) / w))) (mA (mI M 45 (nI (A + B + (t + ev) / w))) 47 l' (nI (c l' + (t + ev) / w))) hP (by omega) (by omega) (by omega) hml (by rw [show A + (t + ev) / w + B = A + B + (t + ev) / w by omega]; exact hnew) ⟨xI_eq _ _ _, e2, (by rw [show A + (t + ev) / w + B = A + B + (t + ev) / w by omega]; exact mI_eq M 45 _), e4, (fun j hj => by
          obtain ⟨d1, d2, d3⟩ := e5 j hj
          by_cases hj2 : j = l'
          · subst hj2
            refine ⟨?_, ?_, ?_⟩
            · show (xA S 20 j _).2.1 20 j = _
              rw [xA_eq, up_eq]
            · rw [mA_eq, up_eq]
            · rw [up_eq]; omega
          · refine ⟨?_, ?_, ?_⟩
            · show (xA S 20 l' _).2.1 20 j = _
              rw [xA_ne _ _ _ hj2, up_ne hj2]; exact d1
            · rw [mA_ne _ _ _ hj2, up_ne hj2]; exact d2
            · rw [up_ne hj2]; exact Nat.le_trans d3 (Nat.le_add_right _ _)), (fun h => hex (by omega))⟩
      exact ⟨S', M', A', B', c', g1, g2, ((xFr.sA S 20 l' _ (by decide)).trans (xFr.sI _ 21 _ (by decide))).trans g3, ((mFr.sI M 45 _ (by decide)).trans (mFr.sA _ 47 l' _ (by decide))).trans g4, g5⟩
    · rw [if_pos (nI_le h (by omega)), if_pos (nI_le h (by omega))]
      obtain ⟨S', M', A', B', c', g1, g2, g3, g4, g5⟩ := ih (i + 1) m m' ((t + ev) % w) A (B + (t + ev) / w) c (xI S 22 (nI (B + (t + ev) / w))) (mI (mI M 45 (nI (A + B + (t + ev) / w))) 46 (nI (B + (t + ev) / w))) hP (by omega) (by omega) (by omega) hml (by rw [← Nat.add_assoc]; exact hnew) ⟨e1, xI_eq _ _ _, (by rw [mI_ne _ _ (by decide), mI_eq, Nat.add_assoc]), mI_eq _ _ _, e5, (fun h => hex (by omega))⟩
      exact ⟨S', M', A', B', c', g1, g2, (xFr.sI S 22 _ (by decide)).trans g3, ((mFr.sI M 45 _ (by decide)).trans (mFr.sI _ 46 _ (by decide))).trans g4, g5⟩
theorem lay_samples {N : Nat} (hN : 10000 ≤ N) {S : sX} {M : sM} (hI : INV S M) {ad : Nat → Nat → Nat} {tg : Nat → Nat × Nat} {dp : Nat → Int32} {nl n : Nat} (hP : PP ad tg dp nl n S M) {w e t d : Nat} (hw0 : 0 < w) (hw : w ≤ 9999) (he : e < 8) (hd : d < 10) (ht : t < w) : ∃ S' M' A B c, fX0_laySamples N S (nI e) (nI w) (nI t) (nI d) = some S' ∧ fX3_findSamples N M (nI e) (nI w) (nI t) (nI d) = some M' ∧ INV S' M' ∧ PP ad tg dp nl n S' M' ∧ A + B ≤ 603998 ∧ SM e nl S' M' A B c := by
  obtain ⟨S1, a1, a2, a3⟩ := fill20 (N := N) 16 0 N S rfl (by omega) (fun l hl => absurd hl (Nat.not_lt_zero l))
  obtain ⟨M1, b1, b2, b4, b3⟩ := fill47 (N := N) (fun S_5 x1_6 x2_7 x3_8 x4_9 => fX3_findSamples_40 N N S_5 x1_6 x2_7 x4_9 x3_8 (0 : Int32)) (nI e) (nI w) (nI t) (nI d) 16 0 N (mI (mI M 45 0) 46 0) rfl (by omega) (fun l hl => absurd hl (Nat.not_lt_zero l))
  unfold fX0_laySamples fX3_findSamples fJ7_fill20
  rw [show (nI 0 : Int32) = 0 from rfl] at a1 b1
  simp only [ec_lt]
  rw [a1, b1, Option.bind_some]
  have hx : xFr S (xI (xI S1 21 0) 22 0) := (a2.trans (xFr.sI S1 21 0 (by decide))).trans (xFr.sI _ 22 0 (by decide))
  have hm : mFr M M1 := ((mFr.sI M 45 0 (by decide)).trans (mFr.sI _ 46 0 (by decide))).trans b2
  have ppf : ∀ {S2 : sX} {M2 : sM}, xFr S S2 → mFr M M2 → PP ad tg dp nl n S2 M2 := fun hx hm => by
    obtain ⟨h1, h2, h3⟩ := hx
    obtain ⟨g1, g2⟩ := hm
    unfold PP
    rw [h3, h1 4 (by decide), h1 8 (by decide), h1 9 (by decide), h2 10 (by decide), g1 0 (by decide), g1 7 (by decide), g1 10 (by decide), g2 1 (by decide), g2 2 (by decide), g2 8 (by decide), g2 9 (by decide)]
    exact hP
  have hPn := hP.2.2.2.1
  obtain ⟨S', M', A', B', c', g1, g2, g3, g4, g5, g6⟩ := sm_loop (N := N) (w := w) (e := e) (d := d) hw0 hw he hd n 0 N N t 0 0 (fun _ => 0) (xI (xI S1 21 0) 22 0) M1 (ppf hx hm) (by omega) (by omega) (by omega) ht (by omega) ⟨(by rw [xI_ne _ _ (by decide), xI_eq]; rfl), xI_eq _ _ _, (by rw [b4, mI_ne _ _ (by decide), mI_eq]; rfl), (by rw [b4, mI_eq]; rfl), (fun l hl => ⟨a3 l hl, b3 l hl, Nat.zero_le _⟩), fun h => absurd h (by omega)⟩
  rw [show (nI 0 : Int32) = 0 from rfl] at g1 g2
  exact ⟨S', M', A', B', c', g1, g2, hI.fr (hx.trans g3) (hm.trans g4), ppf (hx.trans g3) (hm.trans g4), g5, g6⟩
theorem ob_shows {N : Nat} (hN : 10000 ≤ N) : OB_shows N INV := by
  intro S M x1 x2 x3 x4 x5 hI
  obtain ⟨ad, tg, dp, nl, n, hP⟩ := hI.pp
  have hP2 := hP
  obtain ⟨p1, p2, p3, -⟩ := hP2
  unfold fX0_shows fX3_shows fX0_shows_20 fX3_shows_20
  rw [x_isSample, m_isSampling, x_isLine, m_isLine, p2, p3]
  simp only [Option.bind_some, z01]
  by_cases hp : inB x1.toInt64 0 7 ∧ inB x2.toInt64 1 9999 ∧ inB x3.toInt64 0 ((x2 - 1).toInt64) ∧ inB x4.toInt64 0 9
  · rw [if_neg (not_not_intro hp), if_neg (not_not_intro hp)]
    by_cases h5 : inB x5.toInt64 0 ((nI nl - 1).toInt64)
    · rw [if_pos (not_not_intro h5), if_pos (not_not_intro h5)]
      obtain ⟨l, hl, rfl⟩ := (in_nat (by omega)).mp h5
      obtain ⟨e, w, t, d, he, hw0, hw, ht, hd, rfl, rfl, rfl, rfl⟩ := sm_args hp
      obtain ⟨S', M', A, B, c, g1, g2, g3, -, g5, g6⟩ := lay_samples hN hI hP hw0 hw he hd ht
      obtain ⟨e1, e2, e3, e4, e5, e6⟩ := g6
      obtain ⟨c1, c2, c3⟩ := e5 l (by omega)
      rw [g1, g2, Option.bind_some, Option.bind_some, ag_at (by omega) (by decide), ag_at (by omega) (by decide), c1, c2]
      exact ⟨_, _, _, rfl, rfl, g3⟩
    · rw [if_neg (not_not_intro h5), if_neg (not_not_intro h5)]; exact ⟨_, _, _, rfl, rfl, hI⟩
  · rw [if_pos hp, if_pos hp]; exact ⟨_, _, _, rfl, rfl, hI⟩
/-- a set of lines as bits -/
def bitsI (p : Nat → Bool) : Nat → Int32
  | 0 => 0
  | l + 1 => bitsI p l ||| (if p l then (1 : Int32) <<< (nI l &&& 31) else 0)
theorem bitsI_at (p : Nat → Bool) : ∀ l, l ≤ 31 → ∀ i, i < 32 → bt (bitsI p l) i = (decide (i < l) && p i) := by
  intro l
  induction l with
  | zero => intro _ i _; rw [bitsI, b_0, decide_eq_false (by omega)]; rfl
  | succ l ih =>
    intro hl i hi
    rw [bitsI, b_or, ih (by omega) i hi]
    have hb1 : ∀ j, j < 32 → bt 1 j = decide (j = 0) := by decide +kernel
    by_cases hp : p l = true
    · rw [if_pos hp, b_shl l (by omega) 1 hi, hb1 _ (by omega)]
      rcases Nat.lt_trichotomy i l with h | h | h
      · rw [decide_eq_true h, decide_eq_false (by omega : ¬ l ≤ i), decide_eq_true (by omega : i < l + 1), Bool.false_and, Bool.or_false]
      · subst h
        rw [decide_eq_true (Nat.le_refl i), Nat.sub_self, hp, decide_eq_true (by omega : i < i + 1)]
        simp
      · rw [decide_eq_false (by omega : ¬ i < l), decide_eq_false (by omega : ¬ i - l = 0), decide_eq_false (by omega : ¬ i < l + 1)]
        simp
    · rw [if_neg hp, b_0, Bool.or_false]
      rcases Nat.lt_trichotomy i l with h | h | h
      · rw [decide_eq_true h, decide_eq_true (by omega : i < l + 1)]
      · subst h
        rw [Bool.not_eq_true] at hp
        rw [hp, Bool.and_false, Bool.and_false]
      · rw [decide_eq_false (by omega : ¬ i < l), decide_eq_false (by omega : ¬ i < l + 1)]
theorem bitsI_diff (p q : Nat → Bool) {l : Nat} (hl : l ≤ 31) : bitsI p l &&& (bitsI q l ^^^ (-1)) = bitsI (fun i => p i && !q i) l := by
  apply b_ext
  intro i hi
  rw [b_and, b_xor, b_m1 i hi, bitsI_at p l hl i hi, bitsI_at q l hl i hi, bitsI_at _ l hl i hi]
  cases decide (i < l) <;> cases p i <;> cases q i <;> rfl
theorem p_made0 {S : sX} {M : sM} {ad : Nat → Nat → Nat} {tg : Nat → Nat × Nat} {dp : Nat → Int32} {nl n l e : Nat} (hP : PP ad tg dp nl n S M) (hl : l < nl) (he : e < 8) : ∃ k v, 1 ≤ k ∧ k ≤ 6000 ∧ v ≤ 99 ∧ fX0_made S (nI l) (nI e) = some (nI (k * v)) ∧ fX3_made M (nI l) (nI e) = some (nI v) ∧ ec_ag (M.2.2 9) 16 (nI l) = some (nI k) ∧ M.2.2 2 (8 * l + e) = nI v ∧ M.2.2 9 l = nI k := by
  have hl16 : l < 16 := by have := hP.1; omega
  have hm := p_made hP hl he
  obtain ⟨p1, p2, p3, p4, p5, p6, p7, p8, p9, -, -, g, -⟩ := hP
  obtain ⟨-, -, -, -, -, g1, k, k1, k2, k3⟩ := g l hl
  obtain ⟨v, v1, v2⟩ := g1 e he
  exact ⟨k, v, k2, k3, v1, by rw [hm, k1, v2, pk_mul], by rw [q_made hl16 he, v2], by rw [ag_at hl16 (by decide), k1], v2, k1⟩
theorem smp_loop {N : Nat} {S : sX} {M : sM} {ad : Nat → Nat → Nat} {tg : Nat → Nat × Nat} {dp : Nat → Int32} {nl n e A B : Nat} {c : Nat → Nat} (hP : PP ad tg dp nl n S M) (he : e < 8) (hS : SM e nl S M A B c) (hAB : A + B ≤ 603998) (x5 : Int32) (kx : sX → Int32 → Int32 → Int32 → Int32 → Option (Int32 × sX)) (ky : sM → Int32 → Int32 → Int32 → Int32 → Int32 → Option (Int32 × sM)) (q : Nat → Bool) (hq : ∀ l, l < nl → ∃ v, M.2.2 2 (8 * l + e) = nI v ∧ v ≤ 99 ∧ q l = decide (0 < v)) : ∀ (k l m m' : Nat) (x8 : Int32), l + k = nl → k < m → k < m' → (x8 = -4 ∨ ∃ b, b < 16 ∧ x8 = nI b) →
    ∃ x8', fX0_samples_48 N kx m S (nI e) x5 (bitsI (fun i => decide (0 < c i)) l) (bitsI q l) x8 (nI l) = kx S x5 (bitsI (fun i => decide (0 < c i)) nl) (bitsI q nl) x8' ∧ fX3_samples_51 N ky m' M (nI e) x5 (bitsI (fun i => decide (0 < c i)) l) (bitsI (fun i => q i && !decide (0 < c i)) l) (bitsI (fun i => decide (0 < c i) && !q i) l) x8 (nI l) = ky M x5 (bitsI (fun i => decide (0 < c i)) nl) (bitsI (fun i => q i && !decide (0 < c i)) nl) (bitsI (fun i => decide (0 < c i) && !q i) nl) x8' := by
  have hP0 := hP
  obtain ⟨p1, p2, p3, -⟩ := hP0
  obtain ⟨e1, e2, e3, e4, e5, e6⟩ := hS
  intro k
  induction k with
  | zero =>
    intro l m m' x8 hl hm hm' hx
    obtain ⟨m, rfl⟩ : ∃ i, m = i + 1 := ⟨m - 1, by omega⟩
    obtain ⟨m', rfl⟩ : ∃ i, m' = i + 1 := ⟨m' - 1, by omega⟩
    have : l = nl := by omega
    subst this
    rw [fX0_samples_48, fX3_samples_51, p2, p3, if_pos (nI_le (Nat.le_refl _) (by omega)), if_pos (nI_le (Nat.le_refl _) (by omega))]
    exact ⟨x8, rfl, rfl⟩
  | succ k ih =>
    intro l m m' x8 hl hm hm' hx
    obtain ⟨m, rfl⟩ : ∃ i, m = i + 1 := ⟨m - 1, by omega⟩
    obtain ⟨m', rfl⟩ : ∃ i, m' = i + 1 := ⟨m' - 1, by omega⟩
    obtain ⟨c1, c2, c3⟩ := e5 l (by omega)
    obtain ⟨kk, v, k1, k2, v1, d1, d2, -, d4, -⟩ := p_made0 hP (show l < nl by omega) he
    obtain ⟨v', q1, q2, q3⟩ := hq l (by omega)
    have : v' = v := (nI_eq (by omega) (by omega)).mp (q1.symm.trans d4)
    subst this
    have hkv : kk * v' ≤ 6000 * 99 := Nat.mul_le_mul k2 v1
    have hz1 : (nI (c l) ≤ 0) ↔ c l ≤ 0 := nI_leI (b := 0) (by omega) (by decide)
    have hz2 : (nI (kk * v') ≤ 0) ↔ v' ≤ 0 := by
      rw [show (0 : Int32) = nI 0 from rfl, nI_leI (by omega) (by decide)]
      constructor
      · intro h
        rcases Nat.eq_zero_or_pos v' with h0 | h0
        · omega
        · have := Nat.mul_pos k1 h0; omega
      · intro h
        have : v' = 0 := by omega
        rw [this]; omega
    have hz3 : (nI v' ≤ 0) ↔ v' ≤ 0 := nI_leI (b := 0) (by omega) (by decide)
    have hz4 : (nI v' = 0) ↔ v' = 0 := nI_z (by omega)
    have hz5 : (nI (c l) = 0) ↔ c l = 0 := nI_z (by omega)
    rw [fX0_samples_48, fX3_samples_51, p2, p3, if_neg (nI_ge (by omega) (by omega)), if_neg (nI_ge (by omega) (by omega))]
    unfold fX0_samples_77 fX0_samples_100 fX0_samples_128 fX0_samples_138 fX3_samples_80 fX3_samples_112 fX3_samples_113 fX3_samples_145 fX3_samples_146 fX3_samples_183 fX3_samples_188 fX3_samples_190
    simp only [ag_at (show l < 16 by omega) (show 16 < 2 ^ 31 by decide), Option.bind_some, c1, c2, d1, d2, ec_lt, hz1, hz2, hz3, hz4, hz5, nI_1]
    have B : ∀ (p : Nat → Bool), bitsI p (l + 1) = bitsI p l ||| (if p l then (1 : Int32) <<< (nI l &&& 31) else 0) := fun p => rfl
    have fin : ∀ x8', (x8' = -4 ∨ ∃ b, b < 16 ∧ x8' = nI b) → ∃ x9, fX0_samples_48 N kx m S (nI e) x5 (bitsI (fun i => decide (0 < c i)) l ||| (if decide (0 < c l) then (1 : Int32) <<< (nI l &&& 31) else 0)) (bitsI q l ||| (if q l then (1 : Int32) <<< (nI l &&& 31) else 0)) x8' (nI (l + 1)) = kx S x5 (bitsI (fun i => decide (0 < c i)) nl) (bitsI q nl) x9 ∧ fX3_samples_51 N ky m' M (nI e) x5 (bitsI (fun i => decide (0 < c i)) l ||| (if decide (0 < c l) then (1 : Int32) <<< (nI l &&& 31) else 0)) (bitsI (fun i => q i && !decide (0 < c i)) l ||| (if q l && !decide (0 < c l) then (1 : Int32) <<< (nI l &&& 31) else 0)) (bitsI (fun i => decide (0 < c i) && !q i) l ||| (if decide (0 < c l) && !q l then (1 : Int32) <<< (nI l &&& 31) else 0)) x8' (nI (l + 1)) = ky M x5 (bitsI (fun i => decide (0 < c i)) nl) (bitsI (fun i => q i && !decide (0 < c i)) nl) (bitsI (fun i => decide (0 < c i) && !q i) nl) x9 := fun x8' hx' => ih (l + 1) m m' x8' (by omega) (by omega) (by omega) hx'
    have kept : ∀ b, b < 16 → x8 = nI b → ec_ag (S.2.1 20) 16 x8 = some (nI (c b)) ∧ ec_ag (M.2.2 47) 16 x8 = some (nI (c b)) := fun b hb hxb => by
      rw [hxb, ag_at hb (by decide), ag_at hb (by decide), (e5 b hb).1, (e5 b hb).2.1]
      exact ⟨rfl, rfl⟩
    have hx0 : ¬ (-4 : Int32) = -4 → False := fun h => h rfl
    rcases Nat.eq_zero_or_pos (c l) with hc | hc
    · rcases Nat.eq_zero_or_pos v' with hv | hv
      · have F := fin x8 hx
        rw [q3] at F
        simp only [hc, hv, Nat.lt_irrefl, decide_false, Bool.false_eq_true, if_false, Bool.not_false, Bool.and_true, Bool.and_false] at F
        simp only [hc, hv, Nat.le_refl, if_true, not_true, if_false]
        rcases hx with rfl | ⟨b, hb, hxb⟩
        · simp only [not_true, if_false, nI_0, Int32.le_refl, if_true]
          exact F
        · obtain ⟨t1, t2⟩ := kept b hb hxb
          have := (e5 b hb).2.2
          rw [if_pos (by rw [hxb]; exact nI_nm4 (by omega)), t1, Option.bind_some, if_pos (nI_le (Nat.zero_le _) (by omega))]
          exact F
      · have F := fin x8 hx
        rw [q3] at F
        have hv0 : ¬ v' ≤ 0 := by omega
        simp only [hc, hv, Nat.lt_irrefl, decide_false, decide_true, Bool.false_eq_true, if_false, if_true, Bool.not_false, Bool.not_true, Bool.and_true, Bool.and_false] at F
        simp only [hc, hv0, Nat.le_refl, if_true, not_true, if_false]
        rcases hx with rfl | ⟨b, hb, hxb⟩
        · simp only [not_true, if_false, nI_0, Int32.le_refl, if_true]
          exact F
        · obtain ⟨t1, t2⟩ := kept b hb hxb
          have := (e5 b hb).2.2
          rw [if_pos (by rw [hxb]; exact nI_nm4 (by omega)), t1, Option.bind_some, if_pos (nI_le (Nat.zero_le _) (by omega))]
          exact F
    · have hc0 : ¬ c l ≤ 0 := by omega
      have hc1 : ¬ c l = 0 := by omega
      have G : ∀ y, (y = -4 ∨ ∃ b, b < 16 ∧ y = nI b) → _ := fun y hy => fin y hy
      have hlb : nI l = -4 ∨ ∃ b, b < 16 ∧ nI l = nI b := Or.inr ⟨l, by omega, rfl⟩
      rcases Nat.eq_zero_or_pos v' with hv | hv
      · have F := fun y hy => fin y hy
        simp only [q3, hc, hv, Nat.lt_irrefl, decide_false, decide_true, Bool.false_eq_true, if_false, if_true, Bool.not_false, Bool.not_true, Bool.and_true, Bool.and_false] at F
        simp only [hc0, hc1, hv, Nat.le_refl, if_true, not_true, if_false, not_false_eq_true]
        rcases hx with rfl | ⟨b, hb, hxb⟩
        · simp only [not_true, if_false, if_true]
          exact F _ hlb
        · obtain ⟨t1, t2⟩ := kept b hb hxb
          have := (e5 b hb).2.2
          have hne : ¬ x8 = -4 := by rw [hxb]; exact nI_nm4 (by omega)
          rw [if_pos hne, if_neg hne, t1, t2, Option.bind_some, Option.bind_some]
          by_cases hle : nI (c l) ≤ nI (c b)
          · rw [if_pos hle, if_pos hle]; exact F _ (Or.inr ⟨b, hb, hxb⟩)
          · rw [if_neg hle, if_neg hle]; exact F _ hlb
      · have F := fun y hy => fin y hy
        have hv0 : ¬ v' ≤ 0 := by omega
        have hv1 : ¬ v' = 0 := by omega
        simp only [q3, hc, hv, Nat.lt_irrefl, decide_false, decide_true, Bool.false_eq_true, if_false, if_true, Bool.not_false, Bool.not_true, Bool.and_true, Bool.and_false] at F
        simp only [hc0, hc1, hv0, hv1, Nat.le_refl, if_true, not_true, if_false, not_false_eq_true]
        rcases hx with rfl | ⟨b, hb, hxb⟩
        · simp only [not_true, if_false, if_true]
          exact F _ hlb
        · obtain ⟨t1, t2⟩ := kept b hb hxb
          have := (e5 b hb).2.2
          have hne : ¬ x8 = -4 := by rw [hxb]; exact nI_nm4 (by omega)
          rw [if_pos hne, if_neg hne, t1, t2, Option.bind_some, Option.bind_some]
          by_cases hle : nI (c l) ≤ nI (c b)
          · rw [if_pos hle, if_pos hle]; exact F _ (Or.inr ⟨b, hb, hxb⟩)
          · rw [if_neg hle, if_neg hle]; exact F _ hlb
theorem ob_samples {N : Nat} (hN : 10000 ≤ N) : OB_samples N INV := by
  intro S M x1 x2 x3 x4 x5 hI
  obtain ⟨ad, tg, dp, nl, n, hP⟩ := hI.pp
  unfold fX0_samples fX3_samples fX0_samples_24 fX3_samples_24
  rw [x_isSample, m_isSampling, x_isIn, m_in]
  simp only [Option.bind_some, z01]
  by_cases hp : inB x1.toInt64 0 7 ∧ inB x2.toInt64 1 9999 ∧ inB x3.toInt64 0 ((x2 - 1).toInt64) ∧ inB x4.toInt64 0 9
  · rw [if_neg (not_not_intro hp), if_neg (not_not_intro hp)]
    by_cases h5 : inB x5.toInt64 0 5
    · rw [if_pos (not_not_intro h5), if_pos (not_not_intro h5)]
      obtain ⟨e, w, t, d, he, hw0, hw, ht, hd, rfl, rfl, rfl, rfl⟩ := sm_args hp
      obtain ⟨S', M', A, B, c, g1, g2, g3, hP', g5, g6⟩ := lay_samples hN hI hP hw0 hw he hd ht
      rw [g1, g2, Option.bind_some, Option.bind_some]
      have p1 := hP'.1
      obtain ⟨x8, f1, f2⟩ := smp_loop (N := N) hP' he g6 g5 x5 (fun S_11 x5_12 x6_13 x7_14 x8_15 =>
        if x5_12 = (0 : Int32) then (
          some (((S_11.1 21) + (S_11.1 22)), S_11))
        else if x5_12 = (1 : Int32) then (
          some ((S_11.1 22), S_11))
        else if x5_12 = (2 : Int32) then (
          some (x6_13, S_11))
        else if x5_12 = (3 : Int32) then (
          some ((x7_14 &&& (x6_13 ^^^ (-1 : Int32))), S_11))
        else if x5_12 = (4 : Int32) then (
          some ((x6_13 &&& (x7_14 ^^^ (-1 : Int32))), S_11))
        else (
          some (x8_15, S_11))) (fun S_16 x5_17 x6_18 x7_19 x8_20 x9_21 =>
        if x5_17 = (0 : Int32) then (
          some ((S_16.1 45), S_16))
        else if x5_17 = (1 : Int32) then (
          some ((S_16.1 46), S_16))
        else if x5_17 = (2 : Int32) then (
          some (x6_18, S_16))
        else if x5_17 = (3 : Int32) then (
          some (x7_19, S_16))
        else if x5_17 = (4 : Int32) then (
          some (x8_20, S_16))
        else (
          some (x9_21, S_16))) (fun l => decide (0 < (M'.2.2 2 (8 * l + e)).toNatClampNeg)) (fun l hl => by
          obtain ⟨kk, v, k1, k2, v1, d1, d2, -, d4, -⟩ := p_made0 hP' hl he
          refine ⟨v, d4, v1, ?_⟩
          rw [d4, nI_clamp (by omega)]) nl 0 N N (-4) (by omega) (by omega) (by omega) (Or.inl rfl)
      have b0 : ∀ p, bitsI p 0 = 0 := fun _ => rfl
      rw [b0, b0, show (nI 0 : Int32) = 0 from rfl] at f1
      rw [b0, b0, b0, show (nI 0 : Int32) = 0 from rfl] at f2
      rw [f1, f2, bitsI_diff _ _ (by omega), bitsI_diff _ _ (by omega), g6.1, g6.2.1, g6.2.2.1, g6.2.2.2.1, nI_add]
      by_cases c0 : x5 = 0
      · rw [if_pos c0, if_pos c0]; exact ⟨_, _, _, rfl, rfl, g3⟩
      rw [if_neg c0, if_neg c0]
      by_cases c1 : x5 = 1
      · rw [if_pos c1, if_pos c1]; exact ⟨_, _, _, rfl, rfl, g3⟩
      rw [if_neg c1, if_neg c1]
      by_cases c2 : x5 = 2
      · rw [if_pos c2, if_pos c2]; exact ⟨_, _, _, rfl, rfl, g3⟩
      rw [if_neg c2, if_neg c2]
      by_cases c3 : x5 = 3
      · rw [if_pos c3, if_pos c3]; exact ⟨_, _, _, rfl, rfl, g3⟩
      rw [if_neg c3, if_neg c3]
      by_cases c4 : x5 = 4
      · rw [if_pos c4, if_pos c4]; exact ⟨_, _, _, rfl, rfl, g3⟩
      rw [if_neg c4, if_neg c4]
      exact ⟨_, _, _, rfl, rfl, g3⟩
    · rw [if_neg (not_not_intro h5), if_neg (not_not_intro h5)]; exact ⟨_, _, _, rfl, rfl, hI⟩
  · rw [if_pos hp, if_pos hp]; exact ⟨_, _, _, rfl, rfl, hI⟩
theorem ldiff2 {P Q X : Nat} (hP : P ≤ X) (hQ : Q ≤ X) (hX : X < 2 ^ 62) : ∃ a, a ≤ X ∧ (if 0 < lN P - lN Q then lN P - lN Q else -(lN P - lN Q)) = lN a ∧ fX3_size (lN P - lN Q) = some (lN a) := by
  obtain ⟨a, a1, a2, a3⟩ := ldiff (P := P) (Q := Q) (by omega) (by omega)
  rcases Nat.lt_or_ge P Q with h | h
  · refine ⟨Q - P, by omega, ?_, ?_⟩
    all_goals
      have e : lN P - lN Q = -(lN (Q - P)) := by rw [← lN_sub (by omega : P ≤ Q), Int64.neg_sub]
      have ht : (lN P - lN Q).toInt = (P : Int) - Q := by
        rw [fb_subL (by rw [pk_lT (by omega), pk_lT (by omega)]; omega) (by rw [pk_lT (by omega), pk_lT (by omega)]; omega), pk_lT (by omega), pk_lT (by omega)]
      have h0 : (0 : Int64).toInt = 0 := rfl
    · rw [if_neg (fun hc => by rw [fa_lt64, ht] at hc; omega), e, Int64.neg_neg]
    · unfold fX3_size
      rw [if_neg (fun hc => by rw [lg_cmp_ge, fa_le64, ht] at hc; omega), e, Int64.neg_neg]
  · refine ⟨P - Q, by omega, ?_, ?_⟩
    · rw [lN_sub h]; exact abs_nat (by omega)
    · rw [lN_sub h]; exact size_nat (by omega)
theorem tot_pos {S : sX} {M : sM} {ad : Nat → Nat → Nat} {tg : Nat → Nat × Nat} {dp : Nat → Int32} {nl n e : Nat} (hP : PP ad tg dp nl n S M) (he : e < 8) : ∀ j, j ≤ nl → ∃ s, tot (M.2.2 9) (M.2.2 2) j e = nI s ∧ s ≤ j * 594000 ∧ ((∃ l k, l < j ∧ 0 < k ∧ k ≤ 99 ∧ M.2.2 2 (8 * l + e) = nI k) → 0 < s) := by
  intro j
  induction j with
  | zero => intro _; exact ⟨0, rfl, Nat.zero_le _, fun ⟨l, k, h, _⟩ => absurd h (Nat.not_lt_zero l)⟩
  | succ j ih =>
    intro hj
    obtain ⟨s, s1, s2, s3⟩ := ih (by omega)
    obtain ⟨k, v, k1, k2, v1, -, -, -, d4, d5⟩ := p_made0 hP (show j < nl by omega) he
    have hkv : k * v ≤ 6000 * 99 := Nat.mul_le_mul k2 v1
    refine ⟨s + k * v, by rw [tot, s1, d4, d5, pk_mul, nI_add], by omega, fun ⟨l, k', h1, h2, h3, h4⟩ => ?_⟩
    rcases Nat.lt_or_ge l j with h | h
    · have := s3 ⟨l, k', h, h2, h3, h4⟩; omega
    · have : l = j := by omega
      subst this
      have : k' = v := (nI_eq (by omega) (by omega)).mp (h4.symm.trans d4)
      subst this
      have := Nat.mul_pos k1 h2
      omega
theorem tot_at {N : Nat} (hN : 100 ≤ N) {S : sX} {M : sM} {ad : Nat → Nat → Nat} {tg : Nat → Nat × Nat} {dp : Nat → Int32} {nl n e : Nat} (hP : PP ad tg dp nl n S M) (he : e < 8) : ∃ T, T ≤ 594000 ∧ S.2.1 10 e = nI T ∧ fX3_total N M (nI e) = some (nI T) ∧ ((∃ l k, l < nl ∧ 0 < k ∧ k ≤ 99 ∧ M.2.2 2 (8 * l + e) = nI k) → 0 < T) := by
  obtain ⟨s, s1, s2, s3⟩ := tot_pos hP he nl (Nat.le_refl _)
  obtain ⟨p1, p2, p3, p4, p5, p6, p7, p8, p9, -, -, pg, ht, -⟩ := hP
  obtain ⟨t1, T, t2, t3⟩ := ht e he
  have : T = s := (nI_eq (by omega) (by omega)).mp (t3.symm.trans (t1.trans s1))
  subst this
  exact ⟨T, t2, t3, by rw [q_total p3 p1 he hN, s1], s3⟩
theorem ap_loop {N : Nat} {S : sX} {M : sM} {ad : Nat → Nat → Nat} {tg : Nat → Nat × Nat} {dp : Nat → Int32} {nl n e A B T : Nat} {c : Nat → Nat} (hP : PP ad tg dp nl n S M) (he : e < 8) (hS : SM e nl S M A B c) (hAB : A + B ≤ 603998) (hT : T ≤ 594000) (hT2 : S.2.1 10 e = nI T) (kx ky : Int64 → Option Int64) : ∀ (k l m m' z : Nat), l + k = nl → k < m → k < m' → z ≤ l * (603998 * 603998) → ∃ z', z' < 2 ^ 62 ∧ fX0_apart_5 N S kx m (nI e) (lN z) (nI l) = kx (lN z') ∧ fX3_farNow_13 N M ky m' (nI e) (lN T) (lN z) (nI l) = ky (lN z') := by
  have hP0 := hP
  obtain ⟨p1, p2, p3, -⟩ := hP0
  obtain ⟨e1, e2, e3, e4, e5, e6⟩ := hS
  intro k
  induction k with
  | zero =>
    intro l m m' z hl hm hm' hz
    obtain ⟨m, rfl⟩ : ∃ i, m = i + 1 := ⟨m - 1, by omega⟩
    obtain ⟨m', rfl⟩ : ∃ i, m' = i + 1 := ⟨m' - 1, by omega⟩
    have : l = nl := by omega
    subst this
    rw [fX0_apart_5, fX3_farNow_13, p2, p3, if_pos (nI_le (Nat.le_refl _) (by omega)), if_pos (nI_le (Nat.le_refl _) (by omega))]
    exact ⟨z, by omega, rfl, rfl⟩
  | succ k ih =>
    intro l m m' z hl hm hm' hz
    obtain ⟨m, rfl⟩ : ∃ i, m = i + 1 := ⟨m - 1, by omega⟩
    obtain ⟨m', rfl⟩ : ∃ i, m' = i + 1 := ⟨m' - 1, by omega⟩
    obtain ⟨c1, c2, c3⟩ := e5 l (by omega)
    obtain ⟨kk, v, k1, k2, v1, d1, d2, d3, d4, d5⟩ := p_made0 hP (show l < nl by omega) he
    have hkv : kk * v ≤ 6000 * 99 := Nat.mul_le_mul k2 v1
    have hP1 : c l * T ≤ 603998 * 603998 := Nat.mul_le_mul (by omega) (by omega)
    have hQ1 : kk * v * A ≤ 603998 * 603998 := Nat.mul_le_mul (by omega) (by omega)
    obtain ⟨a, a1, a2, a3⟩ := ldiff2 hP1 hQ1 (by decide)
    rw [fX0_apart_5, fX3_farNow_13, p2, p3, if_neg (nI_ge (by omega) (by omega)), if_neg (nI_ge (by omega) (by omega))]
    simp only [ag_at (show l < 16 by omega) (show 16 < 2 ^ 31 by decide), ag_at he (show 8 < 2 ^ 31 by decide), Option.bind_some, c1, c2, d1, d2, d5, ec_lt, nI_1, hT2, e1, e3, e4, pk_sub (show B ≤ A + B by omega), Nat.add_sub_cancel]
    rw [nI_l (n := c l) (by omega), nI_l (n := T) (by omega), nI_l (n := kk * v) (by omega), nI_l (n := A) (by omega), nI_l (n := kk) (by omega), nI_l (n := v) (by omega), lN_mul, lN_mul, lN_mul, lN_mul, a2, a3, Option.bind_some, lN_add]
    exact ih (l + 1) m m' (z + a) (by omega) (by omega) (by omega) (by omega)
theorem ap_both {N : Nat} (hN : 10000 ≤ N) {S : sX} {M : sM} {ad : Nat → Nat → Nat} {tg : Nat → Nat × Nat} {dp : Nat → Int32} {nl n e A B : Nat} {c : Nat → Nat} (hP : PP ad tg dp nl n S M) (he : e < 8) (hS : SM e nl S M A B c) (hAB : A + B ≤ 603998) : ∃ z, z < 2 ^ 62 ∧ fX0_apart N S (nI e) = some (lN z) ∧ fX3_farNow N M (nI e) = some (lN z) := by
  obtain ⟨T, t1, t2, t3, -⟩ := tot_at (N := N) (by omega) hP he
  unfold fX0_apart fX3_farNow
  rw [t3, Option.bind_some]
  simp only [ec_lt]
  rw [nI_l (n := T) (by omega)]
  have p1 := hP.1
  obtain ⟨z, z1, z2, z3⟩ := ap_loop (N := N) hP he hS hAB t1 t2 (fun x2_6 => some x2_6) (fun x4_9 => some x4_9) nl 0 N N 0 (by omega) (by omega) (by omega) (by omega)
  exact ⟨z, z1, z2, z3⟩
theorem ob_far {N : Nat} (hN : 10000 ≤ N) : OB_far N INV := by
  intro S M x1 x2 x3 x4 x5 hI
  obtain ⟨ad, tg, dp, nl, n, hP⟩ := hI.pp
  unfold fX0_far fX3_far fX0_far_22 fX3_far_22
  rw [x_isSample, m_isSampling, x_isIn, m_in]
  simp only [Option.bind_some, z01]
  by_cases hp : inB x1.toInt64 0 7 ∧ inB x2.toInt64 1 9999 ∧ inB x3.toInt64 0 ((x2 - 1).toInt64) ∧ inB x4.toInt64 0 9
  · rw [if_neg (not_not_intro hp), if_neg (not_not_intro hp)]
    by_cases h5 : inB x5.toInt64 0 1
    · rw [if_pos (not_not_intro h5), if_pos (not_not_intro h5)]
      obtain ⟨q, -, hq, rfl⟩ := (in_lit 0 1 (by decide) (by decide)).mp h5
      obtain ⟨e, w, t, d, he, hw0, hw, ht, hd, rfl, rfl, rfl, rfl⟩ := sm_args hp
      obtain ⟨S', M', A, B, c, g1, g2, g3, hP', g5, g6⟩ := lay_samples hN hI hP hw0 hw he hd ht
      rw [g1, g2, Option.bind_some, Option.bind_some]
      obtain ⟨T, t1, t2, t3, t4⟩ := tot_at (N := N) (by omega) hP' he
      obtain ⟨z, z1, z2, z3⟩ := ap_both hN hP' he g6 g5
      obtain ⟨e1, e2, e3, e4, e5, e6⟩ := g6
      rw [e1, e3, e4]
      simp only [nI_z (show A < 2 ^ 31 by omega), nI_eq (show A + B < 2 ^ 31 by omega) (show B < 2 ^ 31 by omega)]
      rcases Nat.eq_zero_or_pos A with h0 | h0
      · rw [if_neg (not_not_intro h0), if_neg (not_not_intro (by omega : A + B = B))]
        exact ⟨_, _, _, rfl, rfl, g3⟩
      · have hT : 0 < T := t4 (e6 (by omega))
        have hb : A * T < 2 ^ 62 := Nat.lt_of_le_of_lt (Nat.mul_le_mul (show A ≤ 603998 by omega) t1) (by decide)
        rw [if_pos (by omega : ¬ A = 0), if_pos (by omega : ¬ A + B = B), z2, z3, t3, ag_at he (by decide), t2]
        simp only [Option.bind_some]
        rw [pk_sub (show B ≤ A + B by omega), Nat.add_sub_cancel, nI_l (n := A) (by omega), nI_l (n := T) (by omega), lN_mul]
        obtain ⟨r, r1, r2⟩ := lowT (N := N) (w := q) (up := lN z) (a := z) (b := A * T) (by omega) (abs_nat (by omega)) (size_nat (by omega)) z1 hb (Nat.mul_pos h0 hT) (by omega)
        rw [Nat.mod_eq_of_lt (by omega)] at r2
        rw [r1, r2]
        exact ⟨_, _, _, rfl, rfl, g3⟩
    · rw [if_neg (not_not_intro h5), if_neg (not_not_intro h5)]; exact ⟨_, _, _, rfl, rfl, hI⟩
  · rw [if_pos hp, if_pos hp]; exact ⟨_, _, _, rfl, rfl, hI⟩
theorem tru_loop {N : Nat} (hN : 10000 ≤ N) {ad : Nat → Nat → Nat} {tg : Nat → Nat × Nat} {dp : Nat → Int32} {nl n e d w2 : Nat} (he : e < 8) (hd : d < 10) (hw2 : w2 ≤ 9999) : ∀ (k w m m' : Nat) (S : sX) (M : sM) (x5 : Int32) (x6 x8 : Int64), INV S M → PP ad tg dp nl n S M → 0 < w → w + k = w2 + 1 → k < m → k < m' →
    ∃ r S' M', fX0_truest_50 N (fun S_7 x5_8 => some (x5_8, S_7)) m S (nI e) (nI w2) (nI d) x5 x6 x8 (nI w) = some (r, S') ∧ fX3_truest_48 N (fun S_6 x5_7 => some (x5_7, S_6)) m' M (nI e) (nI w2) (nI d) x5 x6 x8 (nI w) = some (r, M') ∧ INV S' M' := by
  intro k
  induction k with
  | zero =>
    intro w m m' S M x5 x6 x8 hI hP h0 hw hm hm'
    obtain ⟨m, rfl⟩ : ∃ i, m = i + 1 := ⟨m - 1, by omega⟩
    obtain ⟨m', rfl⟩ : ∃ i, m' = i + 1 := ⟨m' - 1, by omega⟩
    rw [fX0_truest_50, fX3_truest_48, if_pos (nI_lt (by omega) (by omega)), if_pos (nI_lt (by omega) (by omega))]
    exact ⟨_, _, _, rfl, rfl, hI⟩
  | succ k ih =>
    intro w m m' S M x5 x6 x8 hI hP h0 hw hm hm'
    obtain ⟨m, rfl⟩ : ∃ i, m = i + 1 := ⟨m - 1, by omega⟩
    obtain ⟨m', rfl⟩ : ∃ i, m' = i + 1 := ⟨m' - 1, by omega⟩
    obtain ⟨S2, M2, A, B, c, g1, g2, g3, hP', g5, g6⟩ := lay_samples (t := 0) hN hI hP h0 (by omega) he hd h0
    obtain ⟨z, z1, z2, z3⟩ := ap_both hN hP' he g6 g5
    obtain ⟨e1, e2, e3, e4, e5, e6⟩ := g6
    rw [show (nI 0 : Int32) = 0 from rfl] at g1 g2
    rw [fX0_truest_50, fX3_truest_48, if_neg (nI_nlt (by omega) (by omega)), if_neg (nI_nlt (by omega) (by omega)), g1, g2, Option.bind_some, Option.bind_some, z2, z3, Option.bind_some, Option.bind_some]
    unfold fX3_truest_111 fX3_truest_115 fX3_truest_116 fX3_truest_130 fX3_truest_144 fX3_truest_166 fX0_truest_104 fX0_truest_119
    have hA0 : (nI A ≤ 0) ↔ A ≤ 0 := nI_leI (b := 0) (by omega) (by decide)
    have hA1 : (nI (A + B) ≤ nI B) ↔ A ≤ 0 := by rw [nI_leI (by omega) (by omega)]; omega
    rw [e1, e3, e4, pk_sub (show B ≤ A + B by omega), Nat.add_sub_cancel]
    simp only [ec_lt, nI_1, hA0, hA1]
    have step := fun x5 x6 x8 => ih (w + 1) m m' S2 M2 x5 x6 x8 g3 hP' (by omega) (by omega) (by omega) (by omega)
    by_cases c1 : A ≤ 0
    · simp only [if_pos c1, if_true]
      exact step _ _ _
    · simp only [if_neg c1]
      by_cases c2 : x5 = -4
      · simp only [if_pos c2, if_neg (show ¬ (1 : Int32) = 0 by decide)]
        exact step _ _ _
      · simp only [if_neg c2]
        by_cases c3 : 0 ≤ lg_cmp (lN z * x8) (x6 * (nI A).toInt64)
        · simp only [if_pos c3, if_true]
          exact step _ _ _
        · simp only [if_neg c3, if_neg (show ¬ (1 : Int32) = 0 by decide)]
          exact step _ _ _
theorem ob_truest {N : Nat} (hN : 10000 ≤ N) : OB_truest N INV := by
  intro S M x1 x2 x3 x4 hI
  obtain ⟨ad, tg, dp, nl, n, hP⟩ := hI.pp
  unfold fX0_truest fX3_truest fX0_truest_35 fX3_truest_33
  rw [x_isSample, m_isSampling, x_isIn, m_in]
  simp only [Option.bind_some, z01]
  by_cases hp : inB x1.toInt64 0 7 ∧ inB x2.toInt64 1 9999 ∧ inB (0 : Int32).toInt64 0 ((x2 - 1).toInt64) ∧ inB x4.toInt64 0 9
  · rw [if_neg (not_not_intro hp), if_neg (not_not_intro hp)]
    obtain ⟨e, w, t, d, he, hw0, hw, ht, hd, rfl, rfl, -, rfl⟩ := sm_args hp
    have emin : (if nI w + 200 - 1 < (9999 : Int32) then nI w + 200 - 1 else 9999) = nI (if w + 199 < 9999 then w + 199 else 9999) := by
      rw [show nI w + 200 - 1 = nI (w + 199) from by rw [show (200 : Int32) = nI 200 from rfl, nI_add, show (1 : Int32) = nI 1 from rfl, pk_sub (by omega)]; congr 1]
      have : (nI (w + 199) < (9999 : Int32)) ↔ w + 199 < 9999 := nI_ltI (b := 9999) (by omega) (by decide)
      simp only [this]
      split <;> rfl
    rw [emin, nI_l (n := w) (by omega), nI_l (n := if w + 199 < 9999 then w + 199 else 9999) (by split <;> omega)]
    by_cases h3 : ∃ w2, w ≤ w2 ∧ w2 ≤ (if w + 199 < 9999 then w + 199 else 9999) ∧ x3 = nI w2
    · have i1 := (in_lit (x := x3) w (if w + 199 < 9999 then w + 199 else 9999) (by split <;> omega) (by omega)).mpr h3
      obtain ⟨w2, j1, j2, rfl⟩ := h3
      have j3 : w2 ≤ 9999 := by split at j2 <;> omega
      have j4 : w2 ≤ w + 199 := by split at j2 <;> omega
      have i2 : inB (nI w2).toInt64 (lN w) 9999 := (in_lit w 9999 (by decide) (by omega)).mpr ⟨w2, j1, j3, rfl⟩
      have i3 : nI w2 - nI w ≤ (199 : Int32) := by
        rw [pk_sub j1]
        exact nI_le (b := 199) (by omega) (by decide)
      rw [if_pos (not_not_intro i1), if_neg (not_not_intro i2), if_pos i3]
      exact tru_loop hN he hd j3 (w2 + 1 - w) w N N S M (-4) 0 1 hI hP hw0 (by omega) (by omega) (by omega)
    · have i1 : ¬ inB x3.toInt64 (lN w) (lN (if w + 199 < 9999 then w + 199 else 9999)) := fun h => h3 ((in_lit (x := x3) w _ (by split <;> omega) (by omega)).mp h)
      rw [if_neg (not_not_intro i1)]
      by_cases i2 : inB x3.toInt64 (lN w) 9999
      · rw [if_neg (not_not_intro i2)]
        obtain ⟨w2, j1, j2, rfl⟩ := (in_lit w 9999 (by decide) (by omega)).mp i2
        have i3 : ¬ nI w2 - nI w ≤ (199 : Int32) := fun h => h3 ⟨w2, j1, by
          rw [pk_sub j1] at h
          have h : w2 - w ≤ 199 := (nI_leI (b := 199) (by omega) (by decide)).mp h
          split <;> omega, rfl⟩
        rw [if_neg i3]
        exact ⟨_, _, _, rfl, rfl, hI⟩
      · rw [if_pos i2]
        exact ⟨_, _, _, rfl, rfl, hI⟩
  · rw [if_pos hp, if_pos hp]; exact ⟨_, _, _, rfl, rfl, hI⟩
