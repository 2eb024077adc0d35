/-! SLICES: sliced, scaled, finest -/
set_option maxRecDepth 100000
abbrev PP (ad : Nat → Nat → Nat) (tg : Nat → Nat × Nat) (dp : Nat → Int32) (nl n : Nat) (S : sX) (M : sM) : Prop := iP ad tg dp nl n S.2.2.2 (S.2.2.1 3) (S.2.2.1 7) (S.1 4) (M.1 0) (S.1 8) (M.1 7) (S.1 9) (M.1 10) (S.2.1 10) (M.2.2 1) (M.2.2 2) (M.2.2 8) (M.2.2 9)
theorem INV.pp {S : sX} {M : sM} (hI : INV S M) : ∃ ad tg dp nl n, PP ad tg dp nl n S M := by
  obtain ⟨ad, tg, row, dp, nl, n, nq, ch, dq, cm, hT, hC, hR, hH, hK, hP, hQ⟩ := hI
  exact ⟨ad, tg, dp, nl, n, hP⟩
section
variable {S : sX} {M : sM} {ad : Nat → Nat → Nat} {tg : Nat → Nat × Nat} {dp : Nat → Int32} {nl n : Nat} {N : Nat}
/-- the i-th step on both sides -/
theorem p_step (hP : PP ad tg dp nl n S M) {i : Nat} (hi : i < n) : ∃ l, l < nl ∧ l < 16 ∧ hAi 0 S.2.2.2 (S.2.2.1 7) (nI i) = some (nI l) ∧ ec_ag (M.2.2 8) 6000 (nI i) = some (nI l) := by
  obtain ⟨p1, p2, p3, p4, p5, p6, p7, p8, p9, -, ⟨st, s1, s2⟩, -⟩ := hP
  obtain ⟨e1, l, hl, e2⟩ := s2 i hi
  exact ⟨l, hl, by omega, by rw [hAi_at s1 (by omega) (by decide), e1, e2], by rw [ag_at (by omega) (by decide), e2]⟩
theorem p_tk (hP : PP ad tg dp nl n S M) {l : Nat} (hl : l < nl) : ∃ k, 1 ≤ k ∧ k ≤ 20 ∧ hI 7 S.2.2.2 (ad 8 l) 2 = some (nI k) ∧ ec_ag (M.2.2 1) 16 (nI l) = some (nI k) := by
  have hl16 : l < 16 := by have := hP.1; omega
  have ho := p_obj hP hl
  obtain ⟨p1, p2, p3, p4, p5, p6, p7, p8, p9, -, -, g, -⟩ := hP
  obtain ⟨-, -, -, -, ⟨k, k1, k2, k3⟩, -⟩ := g l hl
  exact ⟨k, k1, k2, by rw [hI_at (v := M.2.2 1 l) ho rfl, k3], by rw [ag_at hl16 (by decide), k3]⟩
theorem p_mk (hP : PP ad tg dp nl n S M) {l e : Nat} (hl : l < nl) (he : e < 8) : ∃ k, k ≤ 99 ∧ hR 7 S.2.2.2 (ad 8 l) 3 = some (ad 9 l) ∧ hAi 0 S.2.2.2 (ad 9 l) (nI e) = some (nI k) ∧ fX3_made M (nI l) (nI e) = some (nI k) := by
  have hl16 : l < 16 := by have := hP.1; omega
  have ho := p_obj hP hl
  have hev := p_ev hP hl he
  obtain ⟨p1, p2, p3, p4, p5, p6, p7, p8, p9, -, -, g, -⟩ := hP
  obtain ⟨-, -, -, -, -, g1, -⟩ := g l hl
  obtain ⟨k, k1, k2⟩ := g1 e he
  exact ⟨k, k1, hR_at (v := ad 9 l) ho rfl, by rw [hev, k2], by rw [q_made hl16 he, k2]⟩
end
theorem dv_nat {a b : Nat} (ha : a < 2 ^ 31) (hb0 : 0 < b) (hb : b < 2 ^ 31) : ec_dv (nI a) (nI b) = some (nI (a / b)) := by
  unfold ec_dv
  rw [if_neg (nI_ne0 hb0 hb), pk_div ha hb0 hb]
theorem rm_nat {a b : Nat} (ha : a < 2 ^ 31) (hb0 : 0 < b) (hb : b < 2 ^ 31) : ec_rm (nI a) (nI b) = some (nI (a % b)) := by
  unfold ec_rm
  rw [if_neg (nI_ne0 hb0 hb), pk_rem ha hb0 hb]
theorem sl_find {N : Nat} (kx : sX → Int32 → Int32 → Int32 → Option sX) (ky : sM → Int32 → Int32 → Int32 → Option sM) (x1 : Int32) {S : sX} {M : sM} {r e J : Nat} (hr : r ≤ 8) (he : e < 8) (hl : ∀ j, j < r → ∃ x, x < 256 ∧ S.2.1 16 j = nI x ∧ M.2.2 42 j = nI x) (hJ : J < r) (hb : ∃ x, x < 256 ∧ S.2.1 16 J = nI x ∧ x.testBit e = true) (hno : ∀ i, i < J → ¬ ∃ x, x < 256 ∧ S.2.1 16 i = nI x ∧ x.testBit e = true) : ∀ (k j m m' : Nat), j + k = J → k < m → k < m' →
    fX0_laySlices_2 N kx m S x1 (nI e) (nI j) = kx S x1 (nI e) (nI J) ∧ fX3_countsIn_2 N ky m' M x1 (nI e) (nI j) = ky M x1 (nI e) (nI J) := by
  intro k
  induction k with
  | zero =>
    intro j m m' hj hm hm'
    obtain ⟨m, rfl⟩ : ∃ i, m = i + 1 := ⟨m - 1, by omega⟩
    obtain ⟨m', rfl⟩ : ∃ i, m' = i + 1 := ⟨m' - 1, by omega⟩
    have : j = J := by omega
    subst this
    obtain ⟨x, x1, x2, x3⟩ := hl j hJ
    obtain ⟨y, y1, y2, y3⟩ := hb
    have : x = y := (nI_eq (by omega) (by omega)).mp (x2.symm.trans y2)
    subst this
    rw [fX0_laySlices_2, fX3_countsIn_2, ag_at (by omega) (by decide), ag_at (by omega) (by decide), Option.bind_some, Option.bind_some, x2, x3]
    simp only [bit_0 (show x < 2 ^ 31 by omega) (show e < 31 by omega)]
    rw [if_pos (by rw [y3]; decide), if_pos (by rw [y3]; decide)]
    exact ⟨rfl, rfl⟩
  | succ k ih =>
    intro j m m' hj hm hm'
    obtain ⟨m, rfl⟩ : ∃ i, m = i + 1 := ⟨m - 1, by omega⟩
    obtain ⟨m', rfl⟩ : ∃ i, m' = i + 1 := ⟨m' - 1, by omega⟩
    obtain ⟨x, x1, x2, x3⟩ := hl j (by omega)
    have hf : x.testBit e = false := by
      cases h : x.testBit e with
      | false => rfl
      | true => exact absurd ⟨x, x1, x2, h⟩ (hno j (by omega))
    rw [fX0_laySlices_2, fX3_countsIn_2, ag_at (by omega) (by decide), ag_at (by omega) (by decide), Option.bind_some, Option.bind_some, x2, x3]
    simp only [bit_0 (show x < 2 ^ 31 by omega) (show e < 31 by omega)]
    rw [if_neg (not_not_intro hf), if_neg (not_not_intro hf)]
    simp only [ec_lt, nI_1]
    exact ih (j + 1) m m' (by omega) (by omega) (by omega)
theorem sl_loop {N : Nat} {ad : Nat → Nat → Nat} {tg : Nat → Nat × Nat} {dp : Nat → Int32} {nl n w e J r : Nat} (hw0 : 0 < w) (hw : w < 1000) (he : e < 8) (hr0 : 0 < r) (hr : r ≤ 8) (hJ : J < 8) : ∀ (k i m m' A T t : Nat) (S : sX) (M : sM), PP ad tg dp nl n S M → i + k = n → k < m → k < m' → t ≤ 20 * i → A ≤ 99 * i → T ≤ 20 * i → S.1 17 = nI r → M.1 41 = nI r → S.1 18 = nI A → S.1 19 = nI T → M.2.1 43 = lN A → M.2.1 44 = lN T →
    ∃ S' M' A' T', fX0_laySlices_37 N m S (nI w) (nI e) (nI J) (nI t) (nI i) = some S' ∧ fX3_countsIn_37 N m' M (nI w) (nI e) (nI J) (nI t) (nI i) = some M' ∧ xFr S S' ∧ mFr M M' ∧ S'.1 17 = nI r ∧ M'.1 41 = nI r ∧ S'.2.1 = S.2.1 ∧ M'.2.2 = M.2.2 ∧ A' ≤ 594000 ∧ T' ≤ 120000 ∧ S'.1 18 = nI A' ∧ S'.1 19 = nI T' ∧ M'.2.1 43 = lN A' ∧ M'.2.1 44 = lN T' := by
  intro k
  induction k with
  | zero =>
    intro i m m' A T t S M hP hi hm hm' ht hA hT e1 e2 e3 e4 e5 e6
    obtain ⟨m, rfl⟩ : ∃ i, m = i + 1 := ⟨m - 1, by omega⟩
    obtain ⟨m', rfl⟩ : ∃ i, m' = i + 1 := ⟨m' - 1, by omega⟩
    obtain ⟨p1, p2, p3, p4, p5, p6, -⟩ := hP
    have : i = n := by omega
    subst this
    rw [fX0_laySlices_37, fX3_countsIn_37, p5, p6, if_pos (nI_le (Nat.le_refl _) (by omega)), if_pos (nI_le (Nat.le_refl _) (by omega))]
    exact ⟨S, M, A, T, rfl, rfl, xFr.refl S, mFr.refl M, e1, e2, rfl, rfl, by omega, by omega, e3, e4, e5, e6⟩
  | succ k ih =>
    intro i m m' A T t S M hP hi hm hm' ht hA hT e1 e2 e3 e4 e5 e6
    obtain ⟨m, rfl⟩ : ∃ i, m = i + 1 := ⟨m - 1, by omega⟩
    obtain ⟨m', rfl⟩ : ∃ i, m' = i + 1 := ⟨m' - 1, by omega⟩
    obtain ⟨l, l1, l2, s1, s2⟩ := p_step hP (show i < n by omega)
    obtain ⟨tk, k1, k2, k3, k4⟩ := p_tk hP l1
    obtain ⟨ev, v1, v2, v3, v4⟩ := p_mk hP l1 he
    have hln := p_line hP l1
    have hP2 := hP
    obtain ⟨p1, p2, p3, p4, p5, p6, -⟩ := hP2
    have hd : t / w ≤ t := Nat.div_le_self _ _
    have hrm : t / w % r < 8 := Nat.lt_of_lt_of_le (Nat.mod_lt _ hr0) hr
    rw [fX0_laySlices_37, fX3_countsIn_37, p5, p6, if_neg (nI_ge (by omega) (by omega)), if_neg (nI_ge (by omega) (by omega))]
    unfold fX0_laySlices_103 fX3_countsIn_103
    simp only [s1, s2, hln, k3, k4, e1, e2, Option.bind_some, dv_nat (show t < 2 ^ 31 by omega) hw0 (show w < 2 ^ 31 by omega), rm_nat (show t / w < 2 ^ 31 by omega) hr0 (show r < 2 ^ 31 by omega), ec_lt, nI_1, nI_add, nI_eq (show t / w % r < 2 ^ 31 by omega) (show J < 2 ^ 31 by omega)]
    by_cases hq : ¬ t / w % r = J
    · rw [if_pos hq, if_pos hq]
      exact ih (i + 1) m m' A T (t + tk) S M hP (by omega) (by omega) (by omega) (by omega) (by omega) (by omega) e1 e2 e3 e4 e5 e6
    · rw [if_neg hq, if_neg hq]
      have b1 : S.1 18 + nI ev = nI (A + ev) := by rw [e3, nI_add]
      have b2 : (xI S 18 (nI (A + ev))).1 19 + nI tk = nI (T + tk) := by rw [xI_ne _ _ (by decide), e4, nI_add]
      have b3 : M.2.1 43 + (nI ev).toInt64 = lN (A + ev) := by rw [e5, nI_l (by omega), lN_add]
      have b4 : (mL M 43 (lN (A + ev))).2.1 44 + (nI tk).toInt64 = lN (T + tk) := by
        rw [mL_ne _ _ (by decide), e6, nI_l (by omega), lN_add]
      simp only [v2, v3, v4, Option.bind_some, b1, b3]
      have k3' : hI 7 (xI S 18 (nI (A + ev))).2.2.2 (ad 8 l) 2 = some (nI tk) := k3
      have k3'' : hI 7 (xI (xI S 18 (nI (A + ev))) 19 (nI (T + tk))).2.2.2 (ad 8 l) 2 = some (nI tk) := k3
      have s2' : ec_ag ((mL M 43 (lN (A + ev))).2.2 8) 6000 (nI i) = some (nI l) := s2
      have s2'' : ec_ag ((mL (mL M 43 (lN (A + ev))) 44 (lN (T + tk))).2.2 8) 6000 (nI i) = some (nI l) := s2
      have k4' : ec_ag ((mL M 43 (lN (A + ev))).2.2 1) 16 (nI l) = some (nI tk) := k4
      have k4'' : ec_ag ((mL (mL M 43 (lN (A + ev))) 44 (lN (T + tk))).2.2 1) 16 (nI l) = some (nI tk) := k4
      simp only [k3', s2', k4', Option.bind_some, b2, b4]
      simp only [k3'', s2'', k4'', Option.bind_some, nI_add]
      obtain ⟨S', M', A', T', g1, g2, g3, g4, g5⟩ := ih (i + 1) m m' (A + ev) (T + tk) (t + tk) (xI (xI S 18 (nI (A + ev))) 19 (nI (T + tk))) (mL (mL M 43 (lN (A + ev))) 44 (lN (T + tk))) hP (by omega) (by omega) (by omega) (by omega) (by omega) (by omega) e1 e2
        (by rw [xI_ne _ _ (by decide), xI_eq]) (xI_eq _ _ _) (by rw [mL_ne _ _ (by decide), mL_eq]) (mL_eq _ _ _)
      exact ⟨S', M', A', T', g1, g2, ((xFr.sI S 18 _ (by decide)).trans (xFr.sI _ 19 _ (by decide))).trans g3, ((mFr.sL M 43 _).trans (mFr.sL _ 44 _)).trans g4, g5⟩
/-- slices laid on both sides -/
theorem lay_slices {N : Nat} (hN : 10000 ≤ N) {S : sX} {M : sM} (hI : INV S M) {s w e : Nat} (hR : RL s S M 1) (hw0 : 0 < w) (hw : w < 1000) (he : e < 8) (hb : s.testBit e = true) : ∃ S' M' A T, fX0_laySlices N S (nI w) (nI e) = some S' ∧ fX3_countsIn N M (nI w) (nI e) = some M' ∧ INV S' M' ∧ RL s S' M' 1 ∧ A ≤ 594000 ∧ T ≤ 120000 ∧ S'.1 18 = nI A ∧ S'.1 19 = nI T ∧ M'.2.1 43 = lN A ∧ M'.2.1 44 = lN T ∧ xFr S S' ∧ mFr M M' := by
  rcases hR with ⟨h, -⟩ | ⟨-, r, r1, r2, r3, r4, r5⟩
  · exact absurd h (by decide)
  obtain ⟨ad, tg, dp, nl, n, hP⟩ := hI.pp
  obtain ⟨j, x, j1, j2, j3, j4⟩ := r5 e hb
  obtain ⟨J, ⟨hJ, hJ2⟩, hno⟩ := pk_least (fun j => j < r ∧ ∃ x, x < 256 ∧ S.2.1 16 j = nI x ∧ x.testBit e = true) ⟨j, j1, x, j2, j3, j4⟩
  obtain ⟨f1, f2⟩ := sl_find (N := N) (fun S_3 x1_4 x2_5 x3_6 =>
    ec_lt (xI S_3 18 (0 : Int32)) fun S_7 =>
    ec_lt (xI S_7 19 (0 : Int32)) fun S_8 =>
    fX0_laySlices_37 N N S_8 x1_4 x2_5 x3_6 (0 : Int32) (0 : Int32)) (fun S_3 x1_4 x2_5 x3_6 =>
    ec_lt (mL S_3 43 (0 : Int64)) fun S_7 =>
    ec_lt (mL S_7 44 (0 : Int64)) fun S_8 =>
    fX3_countsIn_37 N N S_8 x1_4 x2_5 x3_6 (0 : Int32) (0 : Int32)) (nI w) (S := S) (M := M) r1 he r4 hJ hJ2 (fun i hi hc => hno i hi ⟨by omega, hc⟩) J 0 N N (by omega) (by omega) (by omega)
  unfold fX0_laySlices fX3_countsIn
  rw [show (nI 0 : Int32) = 0 from rfl] at f1 f2
  rw [f1, f2]
  simp only [ec_lt]
  have p4 := hP.2.2.2.1
  obtain ⟨S', M', A', T', g1, g2, g3, g4, g5, g6, g7, g8, g9, g10, g11⟩ := sl_loop (N := N) (w := w) (e := e) (J := J) (r := r) hw0 hw he (by omega) r1 (by omega) n 0 N N 0 0 0 (xI (xI S 18 0) 19 0) (mL (mL M 43 0) 44 0) hP (by omega) (by omega) (by omega) (by omega) (by omega) (by omega) r2 r3 (by rw [xI_ne _ _ (by decide), xI_eq]; rfl) (xI_eq _ _ _) (by rw [mL_ne _ _ (by decide), mL_eq]; rfl) (mL_eq _ _ _)
  rw [show (nI 0 : Int32) = 0 from rfl] at g1 g2
  have hx := ((xFr.sI S 18 0 (by decide)).trans (xFr.sI _ 19 0 (by decide))).trans g3
  have hm := ((mFr.sL M 43 0).trans (mFr.sL _ 44 0)).trans g4
  refine ⟨S', M', A', T', g1, g2, hI.fr hx hm, Or.inr ⟨rfl, r, r1, g5, g6, ?_, ?_⟩, g9, g10, g11.1, g11.2.1, g11.2.2.1, g11.2.2.2, hx, hm⟩
  · rw [g7, g8]; exact r4
  · rw [g7]; exact r5
theorem x_isSlice (x0 x1 x2 : Int32) : fX0_isSlice x0 x1 x2 = some (if inB x0.toInt64 0 255 ∧ inB x1.toInt64 1 999 ∧ inB x2.toInt64 0 7 ∧ ((x0 >>> (x2 &&& 31)) &&& 1) = 1 then 1 else 0) := by
  unfold fX0_isSlice fX0_isSlice_39
  rw [x_isSet, x_isIn, x_isEvent]
  simp only [Option.bind_some, z01]
  by_cases h1 : inB x0.toInt64 0 255
  · rw [if_neg (not_not_intro h1)]
    by_cases h2 : inB x1.toInt64 1 999
    · rw [if_neg (not_not_intro h2)]
      by_cases h3 : inB x2.toInt64 0 7
      · rw [if_neg (not_not_intro h3)]
        by_cases h4 : ((x0 >>> (x2 &&& 31)) &&& 1) = 1
        · rw [if_neg (not_not_intro h4), if_pos ⟨h1, h2, h3, h4⟩]
        · rw [if_pos h4, if_neg (fun h => h4 h.2.2.2)]
      · rw [if_pos h3, if_neg (fun h => h3 h.2.2.1)]
    · rw [if_pos h2, if_neg (fun h => h2 h.2.1)]
  · rw [if_pos h1, if_neg (fun h => h1 h.1)]
theorem m_isOf (x0 x2 : Int32) : fX3_isOf x0 x2 = some (if inB x0.toInt64 0 255 ∧ inB x2.toInt64 0 7 ∧ ((x0 >>> (x2 &&& 31)) &&& 1) = 1 then 1 else 0) := by
  unfold fX3_isOf fX3_isOf_27
  rw [m_areEvents, m_isEvent]
  simp only [Option.bind_some, z01]
  by_cases h1 : inB x0.toInt64 0 255
  · rw [if_neg (not_not_intro h1)]
    by_cases h3 : inB x2.toInt64 0 7
    · rw [if_neg (not_not_intro h3)]
      by_cases h4 : ((x0 >>> (x2 &&& 31)) &&& 1) = 1
      · rw [if_neg (not_not_intro h4), if_pos ⟨h1, h3, h4⟩]
      · rw [if_pos h4, if_neg (fun h => h4 h.2.2)]
    · rw [if_pos h3, if_neg (fun h => h3 h.2.1)]
  · rw [if_pos h1, if_neg (fun h => h1 h.1)]
/-- a set, a width, an event of the set, as numbers -/
theorem sl_args {x0 x1 x2 : Int32} (h : inB x0.toInt64 0 255 ∧ inB x1.toInt64 1 999 ∧ inB x2.toInt64 0 7 ∧ ((x0 >>> (x2 &&& 31)) &&& 1) = 1) : ∃ s w e, s < 256 ∧ 0 < w ∧ w < 1000 ∧ e < 8 ∧ s.testBit e = true ∧ x0 = nI s ∧ x1 = nI w ∧ x2 = nI e := by
  obtain ⟨h1, h2, h3, h4⟩ := h
  obtain ⟨s, -, hs, rfl⟩ := (in_lit 0 255 (by decide) (by decide)).mp h1
  obtain ⟨w, hw0, hw, rfl⟩ := (in_lit 1 999 (by decide) (by decide)).mp h2
  obtain ⟨e, -, he, rfl⟩ := (in_lit 0 7 (by decide) (by decide)).mp h3
  refine ⟨s, w, e, by omega, by omega, by omega, by omega, ?_, rfl, rfl, rfl⟩
  cases hb : s.testBit e with
  | true => rfl
  | false => exact absurd h4 ((bit_n1 (by omega) (by omega)).mpr hb)
theorem counts_by {N : Nat} {M M' M2 : sM} {s : Nat} {w e : Int32} (h1 : fX3_findRounds N M (nI s) = some M') (h2 : ¬ M'.1 41 = -4) (h3 : fX3_countsIn N M' w e = some M2) : fX3_countsBy N M (nI s) w e = some (1, M2) := by
  unfold fX3_countsBy
  rw [h1, Option.bind_some, if_pos h2, h3, Option.bind_some]
theorem counts_no {N : Nat} {M M' : sM} {s : Nat} {w e : Int32} (h1 : fX3_findRounds N M (nI s) = some M') (h2 : M'.1 41 = -4) : fX3_countsBy N M (nI s) w e = some (0, M') := by
  unfold fX3_countsBy
  rw [h1, Option.bind_some, if_neg (not_not_intro h2)]
theorem RL.n4 {s : Nat} {S : sX} {M : sM} (h : RL s S M 1) : ¬ M.1 41 = -4 := by
  rcases h with ⟨h, -⟩ | ⟨-, r, r1, r2, r3, -⟩
  · exact absurd h (by decide)
  · rw [r3]; exact nI_nm4 (by omega)
theorem ob_sliced {N : Nat} (hN : 10000 ≤ N) : OB_sliced N INV := by
  intro S M x1 x2 x3 x4 hI
  unfold fX0_sliced fX3_sliced fX0_sliced_20 fX3_sliced_31 fX3_sliced_64
  rw [x_isSlice, m_isOf, x_isIn, m_in, m_in]
  simp only [Option.bind_some, z01]
  by_cases hp : inB x1.toInt64 0 255 ∧ inB x2.toInt64 1 999 ∧ inB x3.toInt64 0 7 ∧ ((x1 >>> (x3 &&& 31)) &&& 1) = 1
  · rw [if_neg (not_not_intro hp), if_neg (not_not_intro (And.intro hp.1 hp.2.2)), if_neg (not_not_intro hp.2.1)]
    by_cases h4 : inB x4.toInt64 0 1
    · rw [if_pos (not_not_intro h4), if_pos (not_not_intro h4)]
      obtain ⟨s, w, e, hs, hw0, hw, he, hb, rfl, rfl, rfl⟩ := sl_args hp
      obtain ⟨v, S', M', e1, e2, -, -, hI2, hR⟩ := lay_rounds (N := N) (by omega) hI hs
      rw [e1]
      simp only [ec_b2]
      have hR0 := hR
      rcases hR0 with ⟨rfl, r2⟩ | ⟨rfl, -⟩
      · rw [counts_no e2 r2]
        dsimp only
        rw [if_neg (fun h => h rfl), if_neg (fun h => h rfl)]
        exact ⟨_, _, _, rfl, rfl, hI2⟩
      · obtain ⟨S2, M2, A, T, g1, g2, g3, g4, g5, g6, g7, g8, g9, g10, -⟩ := lay_slices hN hI2 hR hw0 hw he hb
        rw [counts_by e2 hR.n4 g2, g1]
        dsimp only
        rw [if_pos (show ¬ (1 : Int32) = 0 by decide), if_pos (show ¬ (1 : Int32) = 0 by decide), Option.bind_some, g7, g8, g9, g10, lN_i, lN_i]
        by_cases hx : x4 = 0
        · rw [if_neg (not_not_intro hx), if_neg (not_not_intro hx)]; exact ⟨_, _, _, rfl, rfl, g3⟩
        · rw [if_pos hx, if_pos hx]; exact ⟨_, _, _, rfl, rfl, g3⟩
    · rw [if_neg (not_not_intro h4), if_neg (not_not_intro h4)]; exact ⟨_, _, _, rfl, rfl, hI⟩
  · rw [if_pos hp]
    by_cases h5 : inB x1.toInt64 0 255 ∧ inB x3.toInt64 0 7 ∧ ((x1 >>> (x3 &&& 31)) &&& 1) = 1
    · rw [if_neg (not_not_intro h5), if_pos (show ¬ inB x2.toInt64 1 999 from fun h => hp ⟨h5.1, h, h5.2⟩)]; exact ⟨_, _, _, rfl, rfl, hI⟩
    · rw [if_pos h5]; exact ⟨_, _, _, rfl, rfl, hI⟩
/-- a difference of two longs -/
theorem ldiff {P Q : Nat} (hP : P < 2 ^ 62) (hQ : Q < 2 ^ 62) : ∃ a, a < 2 ^ 62 ∧ (if 0 < lN P - lN Q then lN P - lN Q else -(lN P - lN Q)) = lN a ∧ fX3_size (lN P - lN Q) = some (lN a) := by
  rcases Nat.lt_or_ge P Q with h | h
  · have e : lN P - lN Q = -(lN (Q - P)) := by rw [← lN_sub (by omega : P ≤ Q), Int64.neg_sub]
    have ht : (lN P - lN Q).toInt = (P : Int) - Q := by
      rw [fb_subL (by rw [pk_lT (by omega), pk_lT (by omega)]; omega) (by rw [pk_lT (by omega), pk_lT (by omega)]; omega), pk_lT (by omega), pk_lT (by omega)]
    have h0 : (0 : Int64).toInt = 0 := rfl
    refine ⟨Q - P, by omega, ?_, ?_⟩
    · rw [if_neg (fun hc => by rw [fa_lt64, ht] at hc; omega), e, Int64.neg_neg]
    · unfold fX3_size
      rw [if_neg (fun hc => by rw [lg_cmp_ge, fa_le64, ht] at hc; omega), e, Int64.neg_neg]
  · refine ⟨P - Q, by omega, ?_, ?_⟩
    · rw [lN_sub h]; exact abs_nat (by omega)
    · rw [lN_sub h]; exact size_nat (by omega)
theorem off_at {N : Nat} (hN : 10000 ≤ N) {S : sX} {M : sM} (hI : INV S M) {e A T : Nat} (he : e < 8) (h1 : S.1 18 = nI A) (h2 : S.1 19 = nI T) (hA : A ≤ 594000) (hT : T ≤ 120000) : ∃ L t, L ≤ 120000 ∧ t ≤ 594000 ∧ S.1 9 = nI L ∧ M.1 10 = nI L ∧ fX0_off S (nI e) = some (lN (A * L) - lN (t * T)) ∧ fX3_total N M (nI e) = some (nI t) := by
  obtain ⟨ad, tg, dp, nl, n, hP⟩ := hI.pp
  obtain ⟨p1, p2, p3, p4, p5, p6, p7, p8, p9, -, -, pg, ht, L, hL, hL2⟩ := hP
  obtain ⟨t1, t, t2, t3⟩ := ht e he
  refine ⟨L, t, hL, t2, p7.trans hL2, hL2, ?_, ?_⟩
  · unfold fX0_off
    rw [ag_at he (by decide), Option.bind_some, h1, h2, p7, hL2, t3, nI_l (by omega), nI_l (by omega), nI_l (by omega), nI_l (by omega), lN_mul, lN_mul]
  · rw [q_total p3 p1 he (by omega), ← t1, t3]
theorem mul_lt62 {a b : Nat} (ha : a ≤ 594000) (hb : b ≤ 120000) : a * b < 2 ^ 62 := Nat.lt_of_le_of_lt (Nat.mul_le_mul ha hb) (by decide)
theorem ob_scaled {N : Nat} (hN : 10000 ≤ N) : OB_scaled N INV := by
  intro S M x1 x2 x3 x4 hI
  unfold fX0_scaled fX3_scaled fX0_scaled_22 fX3_scaled_33 fX3_scaled_56
  rw [x_isSlice, m_isOf, x_isIn, m_in, m_in]
  simp only [Option.bind_some, z01]
  by_cases hp : inB x1.toInt64 0 255 ∧ inB x2.toInt64 1 999 ∧ inB x3.toInt64 0 7 ∧ ((x1 >>> (x3 &&& 31)) &&& 1) = 1
  · rw [if_neg (not_not_intro hp), if_neg (not_not_intro (And.intro hp.1 hp.2.2)), if_neg (not_not_intro hp.2.1)]
    by_cases h4 : inB x4.toInt64 0 3
    · rw [if_pos (not_not_intro h4), if_pos (not_not_intro h4)]
      obtain ⟨q, -, hq, rfl⟩ := (in_lit 0 3 (by decide) (by decide)).mp h4
      obtain ⟨s, w, e, hs, hw0, hw, he, hb, rfl, rfl, rfl⟩ := sl_args hp
      obtain ⟨v, S', M', e1, e2, -, -, hI2, hR⟩ := lay_rounds (N := N) (by omega) hI hs
      rw [e1]
      simp only [ec_b2]
      have hR0 := hR
      rcases hR0 with ⟨rfl, r2⟩ | ⟨rfl, -⟩
      · rw [counts_no e2 r2]
        dsimp only
        rw [if_neg (fun h => h rfl), if_pos rfl]
        exact ⟨_, _, _, rfl, rfl, hI2⟩
      · obtain ⟨S2, M2, A, T, g1, g2, g3, g4, g5, g6, g7, g8, g9, g10, -⟩ := lay_slices hN hI2 hR hw0 hw he hb
        rw [counts_by e2 hR.n4 g2, g1]
        dsimp only
        rw [if_pos (show ¬ (1 : Int32) = 0 by decide), if_neg (show ¬ (1 : Int32) = 0 by decide), Option.bind_some, g8, g10]
        obtain ⟨L, t, b1, b2, b3, b4, b5, b6⟩ := off_at hN g3 he g7 g8 g5 g6
        have hAL := mul_lt62 g5 b1
        have htT := mul_lt62 b2 g6
        by_cases hT : T = 0
        · subst hT
          rw [if_neg (fun h => h rfl), if_neg (fun h => h ((lz_nat (by decide)).mpr rfl))]
          exact ⟨_, _, _, rfl, rfl, g3⟩
        rw [if_pos (nI_ne0 (by omega) (by omega)), if_pos (fun h => hT ((lz_nat (by omega)).mp h))]
        have R : ec_rm (nI q) 2 = some (nI (q % 2)) := rm_nat (a := q) (b := 2) (by omega) (by decide) (by decide)
        have h2q : ((2 : Int32) ≤ nI q) ↔ 2 ≤ q := nI_leI (a := 2) (by decide) (by omega)
        unfold fX0_scaled_80 fX3_scaled_91
        rw [R, g7, g8, g9, g10, b3, b4, nI_l (n := A) (by omega), nI_l (n := L) (by omega), nI_l (n := T) (by omega), lN_mul, b5, b6]
        simp only [Option.bind_some, h2q]
        rw [nI_l (n := t) (by omega), lN_mul]
        by_cases hq2 : 2 ≤ q
        · rw [if_pos hq2, if_pos hq2]
          obtain ⟨z, z1, z2, z3⟩ := ldiff hAL htT
          obtain ⟨rr, r1, r2⟩ := lowT (N := N) (w := q) (by omega) z2 z3 z1 (show T < 2 ^ 62 by omega) (by omega) (by omega)
          rw [r1, r2]
          exact ⟨_, _, _, rfl, rfl, g3⟩
        · rw [if_neg hq2, if_neg hq2, Int64.sub_zero]
          obtain ⟨rr, r1, r2⟩ := lowT (N := N) (w := q) (up := lN (A * L)) (a := A * L) (by omega) (abs_nat (by omega)) (size_nat (by omega)) hAL (show T < 2 ^ 62 by omega) (by omega) (by omega)
          rw [r1, r2]
          exact ⟨_, _, _, rfl, rfl, g3⟩
    · rw [if_neg (not_not_intro h4), if_neg (not_not_intro h4)]; exact ⟨_, _, _, rfl, rfl, hI⟩
  · rw [if_pos hp]
    by_cases h5 : inB x1.toInt64 0 255 ∧ inB x3.toInt64 0 7 ∧ ((x1 >>> (x3 &&& 31)) &&& 1) = 1
    · rw [if_neg (not_not_intro h5), if_pos (show ¬ inB x2.toInt64 1 999 from fun h => hp ⟨h5.1, h, h5.2⟩)]; exact ⟨_, _, _, rfl, rfl, hI⟩
    · rw [if_pos h5]; exact ⟨_, _, _, rfl, rfl, hI⟩
theorem fin_loop {N : Nat} (hN : 10000 ≤ N) {s e : Nat} (he : e < 8) (hb : s.testBit e = true) {w2 : Nat} (hw2 : w2 < 1000) : ∀ (k w m m' : Nat) (S : sX) (M : sM) (x5 : Int32) (x6 x8 : Int64), INV S M → RL s S M 1 → 0 < w → w + k = w2 + 1 → k < m → k < m' →
    ∃ r S' M', fX0_finest_60 N (fun S_10 x5_11 => some (x5_11, S_10)) m S (nI w2) (nI e) x5 x6 x8 (nI w) = some (r, S') ∧ fX3_finest_63 N (fun S_9 x5_10 => fX3_finest_203 N S_9 x5_10) m' M (nI w2) (nI e) x5 x6 x8 (nI w) = some (r, M') ∧ INV S' M' := by
  intro k
  induction k with
  | zero =>
    intro w m m' S M x5 x6 x8 hI hR h0 hw hm hm'
    obtain ⟨m, rfl⟩ : ∃ i, m = i + 1 := ⟨m - 1, by omega⟩
    obtain ⟨m', rfl⟩ : ∃ i, m' = i + 1 := ⟨m' - 1, by omega⟩
    rw [fX0_finest_60, fX3_finest_63, if_pos (nI_lt (by omega) (by omega)), if_pos (nI_lt (by omega) (by omega))]
    exact ⟨_, _, _, rfl, rfl, hI⟩
  | succ k ih =>
    intro w m m' S M x5 x6 x8 hI hR h0 hw hm hm'
    obtain ⟨m, rfl⟩ : ∃ i, m = i + 1 := ⟨m - 1, by omega⟩
    obtain ⟨m', rfl⟩ : ∃ i, m' = i + 1 := ⟨m' - 1, by omega⟩
    rw [fX0_finest_60, fX3_finest_63, if_neg (nI_nlt (by omega) (by omega)), if_neg (nI_nlt (by omega) (by omega)), if_neg hR.n4]
    obtain ⟨S2, M2, A, T, g1, g2, g3, g4, g5, g6, g7, g8, g9, g10, -⟩ := lay_slices hN hI hR h0 (by omega) he hb
    obtain ⟨L, t, b1, b2, b3, b4, b5, b6⟩ := off_at hN g3 he g7 g8 g5 g6
    have hAL := mul_lt62 g5 b1
    have htT := mul_lt62 b2 g6
    obtain ⟨z, z1, z2, z3⟩ := ldiff hAL htT
    rw [g1, g2, Option.bind_some, Option.bind_some, b5, b6, Option.bind_some, Option.bind_some]
    simp only [ec_lt]
    unfold fX3_finest_146 fX3_finest_150 fX3_finest_151 fX3_finest_165 fX3_finest_179 fX3_finest_195 fX0_finest_116 fX0_finest_131
    rw [z2, g8, g9, g10, b4, nI_l (n := L) (by omega), nI_l (n := T) (by omega), nI_l (n := t) (by omega), lN_mul, lN_mul, z3, Option.bind_some]
    simp only [ec_lt, nI_1]
    have step := fun x5 x6 x8 => ih (w + 1) m m' S2 M2 x5 x6 x8 g3 g4 (by omega) (by omega) (by omega) (by omega)
    have hT0 : (nI T ≤ 0) ↔ T ≤ 0 := nI_leI (b := 0) (by omega) (by decide)
    have hT1 : (lg_cmp (lN T) 0 ≤ 0) ↔ T ≤ 0 := by rw [lg_cmp_le, show (0 : Int64) = lN 0 from rfl, pk_lLE (by omega) (by decide)]
    simp only [hT0, hT1]
    by_cases c1 : T ≤ 0
    · simp only [if_pos c1, if_true]
      exact step _ _ _
    · simp only [if_neg c1]
      by_cases c2 : x5 = -4
      · simp only [if_pos c2, if_neg (show ¬ (1 : Int32) = 0 by decide)]
        exact step _ _ _
      · simp only [if_neg c2]
        by_cases c3 : 0 ≤ lg_cmp (lN z * x8) (x6 * lN T)
        · simp only [if_pos c3, if_true]
          exact step _ _ _
        · simp only [if_neg c3, if_neg (show ¬ (1 : Int32) = 0 by decide)]
          exact step _ _ _
theorem ob_finest {N : Nat} (hN : 10000 ≤ N) : OB_finest N INV := by
  intro S M x1 x2 x3 x4 hI
  unfold fX0_finest fX3_finest fX0_finest_34 fX3_finest_43
  rw [x_isSlice, m_isOf, x_isIn, m_in, m_in]
  simp only [Option.bind_some, z01]
  by_cases hp : inB x1.toInt64 0 255 ∧ inB x2.toInt64 1 999 ∧ inB x4.toInt64 0 7 ∧ ((x1 >>> (x4 &&& 31)) &&& 1) = 1
  · rw [if_neg (not_not_intro hp), if_neg (not_not_intro (And.intro hp.1 hp.2.2)), if_neg (not_not_intro hp.2.1)]
    obtain ⟨s, w, e, hs, hw0, hw, he, hb, rfl, rfl, rfl⟩ := sl_args hp
    have emin : (if nI w + 200 - 1 < (999 : Int32) then nI w + 200 - 1 else 999) = nI (if w + 199 < 999 then w + 199 else 999) := by
      rw [show nI w + 200 - 1 = nI (w + 199) from by rw [show (200 : Int32) = nI 200 from rfl, nI_add, show (1 : Int32) = nI 1 from rfl, pk_sub (by omega)]; congr 1]
      have : (nI (w + 199) < (999 : Int32)) ↔ w + 199 < 999 := nI_ltI (b := 999) (by omega) (by decide)
      simp only [this]
      split <;> rfl
    rw [emin, nI_l (n := w) (by omega), nI_l (n := if w + 199 < 999 then w + 199 else 999) (by split <;> omega)]
    by_cases h3 : ∃ w2, w ≤ w2 ∧ w2 ≤ (if w + 199 < 999 then w + 199 else 999) ∧ x3 = nI w2
    · have i1 := (in_lit (x := x3) w (if w + 199 < 999 then w + 199 else 999) (by split <;> omega) (by omega)).mpr h3
      obtain ⟨w2, j1, j2, rfl⟩ := h3
      have j3 : w2 ≤ 999 := by split at j2 <;> omega
      have j4 : w2 ≤ w + 199 := by split at j2 <;> omega
      have i2 : inB (nI w2).toInt64 (lN w) 999 := (in_lit w 999 (by decide) (by omega)).mpr ⟨w2, j1, j3, rfl⟩
      have i3 : nI w2 - nI w ≤ (199 : Int32) := by
        rw [pk_sub j1]
        exact nI_le (b := 199) (by omega) (by decide)
      rw [if_pos (not_not_intro i1), if_neg (not_not_intro i2), if_pos i3]
      obtain ⟨v, S', M', e1, e2, -, -, hI2, hR⟩ := lay_rounds (N := N) (by omega) hI hs
      rw [e1, e2, Option.bind_some]
      simp only [ec_b2]
      have hR0 := hR
      rcases hR0 with ⟨rfl, r2⟩ | ⟨rfl, -⟩
      · rw [if_neg (fun h => h rfl)]
        obtain ⟨n', rfl⟩ : ∃ i, N = i + 1 := ⟨N - 1, by omega⟩
        rw [fX3_finest_63, if_neg (nI_nlt (by omega) (by omega)), if_pos r2]
        exact ⟨_, _, _, rfl, rfl, hI2⟩
      · rw [if_pos (show ¬ (1 : Int32) = 0 by decide)]
        exact fin_loop hN he hb (w2 := w2) (by omega) (w2 + 1 - w) w N N S' M' (-4) 0 1 hI2 hR hw0 (by omega) (by omega) (by omega)
    · have i1 : ¬ inB x3.toInt64 (lN w) (lN (if w + 199 < 999 then w + 199 else 999)) := fun h => h3 ((in_lit (x := x3) w _ (by split <;> omega) (by omega)).mp h)
      rw [if_neg (not_not_intro i1)]
      by_cases i2 : inB x3.toInt64 (lN w) 999
      · rw [if_neg (not_not_intro i2)]
        obtain ⟨w2, j1, j2, rfl⟩ := (in_lit w 999 (by decide) (by omega)).mp i2
        have i3 : ¬ nI w2 - nI w ≤ (199 : Int32) := fun h => h3 ⟨w2, j1, by
          rw [pk_sub j1] at h
          have h : w2 - w ≤ 199 := (nI_leI (b := 199) (by omega) (by decide)).mp h
          split <;> omega, rfl⟩
        rw [if_neg i3]
        exact ⟨_, _, _, rfl, rfl, hI⟩
      · rw [if_pos i2]
        exact ⟨_, _, _, rfl, rfl, hI⟩
  · rw [if_pos hp]
    by_cases h5 : inB x1.toInt64 0 255 ∧ inB x4.toInt64 0 7 ∧ ((x1 >>> (x4 &&& 31)) &&& 1) = 1
    · rw [if_neg (not_not_intro h5), if_pos (show ¬ inB x2.toInt64 1 999 from fun h => hp ⟨h5.1, h, h5.2⟩)]; exact ⟨_, _, _, rfl, rfl, hI⟩
    · rw [if_pos h5]; exact ⟨_, _, _, rfl, rfl, hI⟩
