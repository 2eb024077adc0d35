/-! WIRED -/
set_option maxRecDepth 100000
def RU (S : sX) (M : sM) (n : Nat) : Prop := n ≤ 12 ∧ S.1 26 = nI n ∧ M.1 49 = nI n ∧ ∀ i, i < 12 → ∃ a, hAr 9 S.2.2.2 (S.2.2.1 25) (nI i) = some a ∧ hAi 0 S.2.2.2 a 0 = some (M.2.2 50 i) ∧ hAi 0 S.2.2.2 a 1 = some (M.2.2 51 i) ∧ hAi 0 S.2.2.2 a 2 = some (M.2.2 52 i)
theorem INV.ru {S : sX} {M : sM} (hV : INV S M) : ∃ n, RU S M n := by
  obtain ⟨ad, tg, row, dp, nl, n, nq, ch, dq, cm, hT, hC, hR, hH, hK, hP, hQ⟩ := hV
  obtain ⟨⟨r, r1, r2, r3⟩, -, ⟨f, f1, f2⟩, g⟩ := hR
  refine ⟨r, r1, r2, r3, fun i hi => ?_⟩
  obtain ⟨-, q, q1, q2, q3, q4⟩ := g i hi
  exact ⟨ad 2 i, hAr_at f1 hi (by decide) (f2 i hi), (hAi_at (c := 0) q1 (by decide) (by decide)).trans (by rw [q2]), (hAi_at (c := 1) q1 (by decide) (by decide)).trans (by rw [q3]), (hAi_at (c := 2) q1 (by decide) (by decide)).trans (by rw [q4])⟩
section
variable {N : Nat} {S : sX} {M : sM} {n : Nat}
theorem hr_loop (hR : RU S M n) (kx : Int32 → Int32 → Int32 → Int32 → Option Int32) (ky : Int32 → Option Int32) (x1 x2 x3 : Int32) : ∀ (k i m m' : Nat) (f : Int32), i + k = n → k < m → k < m' → f = 0 ∨ f = 1 → ∃ f', (f' = 0 ∨ f' = 1) ∧ fX0_wired_41 N S kx m x1 x2 x3 f (nI i) = kx x1 x2 x3 f' ∧ fX3_hasRun_5 N M ky m' x1 x2 f (nI i) = ky f' := by
  obtain ⟨r1, r2, r3, r4⟩ := hR
  intro k
  induction k with
  | zero =>
    intro i m m' f hi hm hm' hf
    obtain ⟨m, rfl⟩ : ∃ i, m = i + 1 := ⟨m - 1, by omega⟩
    obtain ⟨m', rfl⟩ : ∃ i, m' = i + 1 := ⟨m' - 1, by omega⟩
    have : i = n := by omega
    subst this
    rw [fX0_wired_41, fX3_hasRun_5, r2, r3, if_pos (nI_le (Nat.le_refl _) (by omega)), if_pos (nI_le (Nat.le_refl _) (by omega))]
    exact ⟨f, hf, rfl, rfl⟩
  | succ k ih =>
    intro i m m' f hi hm hm' hf
    obtain ⟨m, rfl⟩ : ∃ i, m = i + 1 := ⟨m - 1, by omega⟩
    obtain ⟨m', rfl⟩ : ∃ i, m' = i + 1 := ⟨m' - 1, by omega⟩
    obtain ⟨a, a1, a2, a3, a4⟩ := r4 i (by omega)
    rw [fX0_wired_41, fX3_hasRun_5, r2, r3, if_neg (nI_ge (by omega) (by omega)), if_neg (nI_ge (by omega) (by omega))]
    unfold fX0_wired_81 fX0_wired_85 fX0_wired_86 fX3_hasRun_40 fX3_hasRun_44 fX3_hasRun_45
    simp only [a1, a2, a3, Option.bind_some, ec_lt, nI_1, ag_at (show i < 12 by omega) (show 12 < 2 ^ 31 by decide)]
    have F := fun f hf => ih (i + 1) m m' f (by omega) (by omega) (by omega) hf
    by_cases c0 : ¬ f = 0
    · simp only [if_pos c0]; exact F 1 (Or.inr rfl)
    simp only [if_neg c0]
    by_cases c1 : ¬ M.2.2 50 i = x1
    · simp only [if_pos c1]; exact F 0 (Or.inl rfl)
    simp only [if_neg c1]
    by_cases c2 : ¬ M.2.2 51 i = x2
    · simp only [if_pos c2]; exact F 0 (Or.inl rfl)
    simp only [if_neg c2]
    exact F 1 (Or.inr rfl)
theorem iw_runs (hR : RU S M n) (kx ky : Int32 → Option Int32) (x1 x2 x4 : Int32) : ∀ (k i m m' : Nat) (f : Int32), i + k = n → k < m → k < m' → f = 0 ∨ f = 1 → ∃ f', (f' = 0 ∨ f' = 1) ∧ fX0_isWired_51 N S kx m x1 x2 x4 f (nI i) = kx f' ∧ fX3_fits_50 N M ky m' x1 x2 x4 f (nI i) = ky f' := by
  obtain ⟨r1, r2, r3, r4⟩ := hR
  intro k
  induction k with
  | zero =>
    intro i m m' f hi hm hm' hf
    obtain ⟨m, rfl⟩ : ∃ i, m = i + 1 := ⟨m - 1, by omega⟩
    obtain ⟨m', rfl⟩ : ∃ i, m' = i + 1 := ⟨m' - 1, by omega⟩
    have : i = n := by omega
    subst this
    rw [fX0_isWired_51, fX3_fits_50, r2, r3, if_pos (nI_le (Nat.le_refl _) (by omega)), if_pos (nI_le (Nat.le_refl _) (by omega))]
    exact ⟨f, hf, rfl, rfl⟩
  | succ k ih =>
    intro i m m' f hi hm hm' hf
    obtain ⟨m, rfl⟩ : ∃ i, m = i + 1 := ⟨m - 1, by omega⟩
    obtain ⟨m', rfl⟩ : ∃ i, m' = i + 1 := ⟨m' - 1, by omega⟩
    obtain ⟨a, a1, a2, a3, a4⟩ := r4 i (by omega)
    rw [fX0_isWired_51, fX3_fits_50, r2, r3, if_neg (nI_ge (by omega) (by omega)), if_neg (nI_ge (by omega) (by omega))]
    unfold fX0_isWired_105 fX0_isWired_109 fX0_isWired_110 fX3_fits_98 fX3_fits_102 fX3_fits_103
    simp only [a1, a2, a3, a4, Option.bind_some, ec_lt, nI_1, ag_at (show i < 12 by omega) (show 12 < 2 ^ 31 by decide)]
    have F := fun f hf => ih (i + 1) m m' f (by omega) (by omega) (by omega) hf
    by_cases c0 : f = 0
    · simp only [if_pos c0]; exact F 0 (Or.inl rfl)
    simp only [if_neg c0]
    by_cases c1 : ¬ M.2.2 50 i = x1
    · simp only [if_pos c1]; exact F 1 (Or.inr rfl)
    simp only [if_neg c1]
    by_cases c2 : ¬ M.2.2 51 i = x2
    · simp only [if_pos c2]; exact F 1 (Or.inr rfl)
    simp only [if_neg c2]
    by_cases c3 : ¬ M.2.2 52 i = x4
    · simp only [if_pos c3]; exact F 0 (Or.inl rfl)
    simp only [if_neg c3]
    exact F 1 (Or.inr rfl)
theorem iw_sum {ad : Nat → Nat → Nat} {tg : Nat → Nat × Nat} {dp : Nat → Int32} {nl n0 : Nat} (hN : 10000 ≤ N) (hP : PP ad tg dp nl n0 S M) (kx ky : Int32 → Int32 → Int32 → Option Int32) (x1 x2 : Int32) {s : Nat} (hs : s < 256) : ∀ (k e m m' : Nat) (x4 : Int32), e + k = 8 → k < m → k < m' → ∃ x4', fX0_isWired_6 N S kx m x1 x2 (nI s) x4 (nI e) = kx x1 x2 x4' ∧ fX3_fits_6 N M ky m' x1 x2 (nI s) x4 (nI e) = ky x1 x2 x4' := by
  intro k
  induction k with
  | zero =>
    intro e m m' x4 he hm hm'
    obtain ⟨m, rfl⟩ : ∃ i, m = i + 1 := ⟨m - 1, by omega⟩
    obtain ⟨m', rfl⟩ : ∃ i, m' = i + 1 := ⟨m' - 1, by omega⟩
    have : e = 8 := by omega
    subst this
    rw [fX0_isWired_6, fX3_fits_6, if_pos (by decide), if_pos (by decide)]
    exact ⟨x4, rfl, rfl⟩
  | succ k ih =>
    intro e m m' x4 he hm hm'
    obtain ⟨m, rfl⟩ : ∃ i, m = i + 1 := ⟨m - 1, by omega⟩
    obtain ⟨m', rfl⟩ : ∃ i, m' = i + 1 := ⟨m' - 1, by omega⟩
    have hge : ¬ (8 : Int32) ≤ nI e := nI_ge (b := 8) (by omega) (by decide)
    obtain ⟨T, t1, t2, t3, t4⟩ := tot_at (N := N) (by omega) hP (show e < 8 by omega)
    rw [fX0_isWired_6, fX3_fits_6, if_neg hge, if_neg hge]
    unfold fX0_isWired_36 fX3_fits_35
    simp only [t3, t2, Option.bind_some, ec_lt, nI_1, ag_at (show e < 8 by omega) (show 8 < 2 ^ 31 by decide), bit_n1 (show s < 2 ^ 31 by omega) (show e < 31 by omega)]
    by_cases hb : s.testBit e = false
    · rw [if_pos hb, if_pos hb]; exact ih (e + 1) m m' _ (by omega) (by omega) (by omega)
    · rw [if_neg hb, if_neg hb]; exact ih (e + 1) m m' _ (by omega) (by omega) (by omega)
theorem iw_both {ad : Nat → Nat → Nat} {tg : Nat → Nat × Nat} {dp : Nat → Int32} {nl n0 : Nat} (hN : 10000 ≤ N) (hP : PP ad tg dp nl n0 S M) (hR : RU S M n) (x1 x2 : Int32) {s : Nat} (hs : s < 256) : ∃ f, (f = 0 ∨ f = 1) ∧ fX0_isWired N S x1 x2 (nI s) = some f ∧ fX3_fits N M x1 x2 (nI s) = some f := by
  obtain ⟨x4, h1, h2⟩ := iw_sum hN hP (fun x1_4 x2_5 x4_6 => fX0_isWired_51 N S (fun x5_14 => ec_rz x5_14) N x1_4 x2_5 x4_6 (1 : Int32) (0 : Int32)) (fun x1_4 x2_5 x4_6 => fX3_fits_50 N M (fun x5_11 => ec_rz x5_11) N x1_4 x2_5 x4_6 (1 : Int32) (0 : Int32)) x1 x2 hs 8 0 N N 0 rfl (by omega) (by omega)
  have hn := hR.1
  obtain ⟨f, f0, f1, f2⟩ := iw_runs (N := N) hR (fun x5_14 => ec_rz x5_14) (fun x5_11 => ec_rz x5_11) x1 x2 x4 n 0 N N 1 (by omega) (by omega) (by omega) (Or.inr rfl)
  rw [show (nI 0 : Int32) = 0 from rfl] at h1 h2 f1 f2
  have hz : ec_rz f = some f := by rcases f0 with rfl | rfl <;> rfl
  refine ⟨f, f0, ?_, ?_⟩
  · unfold fX0_isWired
    rw [h1, f1, hz]
  · unfold fX3_fits
    rw [h2, f2, hz]
theorem sub10 (x y : Int32) : x = y - 10 ↔ y = 10 + x := by
  constructor
  · intro h; rw [h, Int32.add_comm, Int32.sub_add_cancel]
  · intro h; rw [h, Int32.add_comm, Int32.add_sub_cancel]
theorem wi_in {ad : Nat → Nat → Nat} {tg : Nat → Nat × Nat} {dp : Nat → Int32} {nl n0 : Nat} (hN : 10000 ≤ N) (hP : PP ad tg dp nl n0 S M) (hR : RU S M n) (x1 x2 x3 x6 : Int32) (kf kg : Int32 → Option Int32) (kx ky : Int32 → Int32 → Int32 → Int32 → Int32 → Option Int32) (h1 : ∀ z, ∃ r, kf z = some r ∧ kg z = some r) (h2 : ∀ x5, ∃ r, kx x1 x2 x3 x5 x6 = some r ∧ ky x1 x2 x3 x5 x6 = some r) : ∀ (k s m m' : Nat) (x5 : Int32), s + k = 256 → k < m → k < m' → ∃ r, fX0_wired_125 N S kf kx m x1 x2 x3 x5 x6 (nI s) = some r ∧ fX3_wired_62 N M kg ky m' x1 x2 x3 x5 x6 (nI s) = some r := by
  intro k
  induction k with
  | zero =>
    intro s m m' x5 hs hm hm'
    obtain ⟨m, rfl⟩ : ∃ i, m = i + 1 := ⟨m - 1, by omega⟩
    obtain ⟨m', rfl⟩ : ∃ i, m' = i + 1 := ⟨m' - 1, by omega⟩
    have : s = 256 := by omega
    subst this
    rw [fX0_wired_125, fX3_wired_62, if_pos (by decide), if_pos (by decide)]
    exact h2 x5
  | succ k ih =>
    intro s m m' x5 hs hm hm'
    obtain ⟨m, rfl⟩ : ∃ i, m = i + 1 := ⟨m - 1, by omega⟩
    obtain ⟨m', rfl⟩ : ∃ i, m' = i + 1 := ⟨m' - 1, by omega⟩
    have hge : ¬ (256 : Int32) ≤ nI s := nI_ge (b := 256) (by omega) (by decide)
    obtain ⟨f, f0, f1, f2⟩ := iw_both hN hP hR x1 x2 (show s < 256 by omega)
    rw [fX0_wired_125, fX3_wired_62, if_neg hge, if_neg hge, (cnt_x s (by omega)).1, m_cnt (by omega) (by omega), cnt_m s (by omega)]
    unfold fX0_wired_169 fX3_wired_106
    simp only [f1, f2, Option.bind_some, ec_lt, nI_1, sub10]
    have F := fun x5 => ih (s + 1) m m' x5 (by omega) (by omega) (by omega)
    by_cases c0 : ¬ nI (ctb s 8) = x6
    · simp only [if_pos c0]; exact F _
    simp only [if_neg c0]
    by_cases c1 : f = 0
    · simp only [if_pos c1]; exact F _
    simp only [if_neg c1]
    by_cases c2 : ¬ x3 = 10 + x5
    · simp only [if_pos c2]; exact F _
    simp only [if_neg c2]
    exact h1 _
theorem wi_out {ad : Nat → Nat → Nat} {tg : Nat → Nat × Nat} {dp : Nat → Int32} {nl n0 : Nat} (hN : 10000 ≤ N) (hP : PP ad tg dp nl n0 S M) (hR : RU S M n) (x1 x2 x3 : Int32) (kf kg : Int32 → Option Int32) (kx ky : Int32 → Int32 → Option Int32) (h1 : ∀ z, ∃ r, kf z = some r ∧ kg z = some r) (h2 : ∀ x5, ∃ r, kx x3 x5 = some r ∧ ky x3 x5 = some r) : ∀ (k b m m' : Nat) (x5 : Int32), b + k = 3 → k < m → k < m' → ∃ r, fX0_wired_116 N S kf kx m x1 x2 x3 x5 (nI b) = some r ∧ fX3_wired_53 N M kg ky m' x1 x2 x3 x5 (nI b) = some r := by
  intro k
  induction k with
  | zero =>
    intro b m m' x5 hb hm hm'
    obtain ⟨m, rfl⟩ : ∃ i, m = i + 1 := ⟨m - 1, by omega⟩
    obtain ⟨m', rfl⟩ : ∃ i, m' = i + 1 := ⟨m' - 1, by omega⟩
    have : b = 3 := by omega
    subst this
    rw [fX0_wired_116, fX3_wired_53, if_pos (by decide), if_pos (by decide)]
    exact h2 x5
  | succ k ih =>
    intro b m m' x5 hb hm hm'
    obtain ⟨m, rfl⟩ : ∃ i, m = i + 1 := ⟨m - 1, by omega⟩
    obtain ⟨m', rfl⟩ : ∃ i, m' = i + 1 := ⟨m' - 1, by omega⟩
    have hge : ¬ (3 : Int32) ≤ nI b := nI_ge (b := 3) (by omega) (by decide)
    rw [fX0_wired_116, fX3_wired_53, if_neg hge, if_neg hge]
    refine wi_in hN hP hR x1 x2 x3 (nI b) (fun x7_16 => kf x7_16) (fun x6_8 => kg x6_8) _ _ h1 (fun x5 => ?_) 255 1 N N x5 rfl (by omega) (by omega)
    simp only [ec_lt, nI_1]
    exact ih (b + 1) m m' x5 (by omega) (by omega) (by omega)
/-- a number past the last way of wiring -/
theorem wf_in {ad : Nat → Nat → Nat} {tg : Nat → Nat × Nat} {dp : Nat → Int32} {nl n0 : Nat} (hN : 10000 ≤ N) (hP : PP ad tg dp nl n0 S M) (hR : RU S M n) (x1 x2 : Int32) {x3 b base : Nat} (hx : 46 ≤ x3) (hx2 : x3 < 2 ^ 31) (hb : base + fb_ct (fun i => decide (ctb i 8 = b)) 256 ≤ 36) (hb8 : b < 9) (kg : Int32 → Option Int32) (ky : Int32 → Int32 → Int32 → Int32 → Int32 → Option Int32) : ∀ (k s m c : Nat), s + k = 256 → k < m → c ≤ base + fb_ct (fun i => decide (ctb i 8 = b)) s → ∃ c', c' ≤ base + fb_ct (fun i => decide (ctb i 8 = b)) 256 ∧ fX3_wired_62 N M kg ky m x1 x2 (nI x3) (nI c) (nI b) (nI s) = ky x1 x2 (nI x3) (nI c') (nI b) := by
  intro k
  induction k with
  | zero =>
    intro s m c hs hm hc
    obtain ⟨m, rfl⟩ : ∃ i, m = i + 1 := ⟨m - 1, by omega⟩
    have : s = 256 := by omega
    subst this
    rw [fX3_wired_62, if_pos (by decide)]
    exact ⟨c, hc, rfl⟩
  | succ k ih =>
    intro s m c hs hm hc
    obtain ⟨m, rfl⟩ : ∃ i, m = i + 1 := ⟨m - 1, by omega⟩
    have hge : ¬ (256 : Int32) ≤ nI s := nI_ge (b := 256) (by omega) (by decide)
    obtain ⟨f, f0, f1, f2⟩ := iw_both hN hP hR x1 x2 (show s < 256 by omega)
    have h8 := (cnt_x s (by omega)).2
    rw [fX3_wired_62, if_neg hge, m_cnt (by omega) (by omega), cnt_m s (by omega)]
    unfold fX3_wired_106
    have e10 : (10 : Int32) + nI c = nI (10 + c) := nI_add 10 c
    have hmono := fb_ct_mono (fun i => decide (ctb i 8 = b)) (show s + 1 ≤ 256 by omega)
    have hsucc := fb_ct_succ (fun i => decide (ctb i 8 = b)) s
    simp only [f2, Option.bind_some, ec_lt, nI_1, e10, nI_eq (show ctb s 8 < 2 ^ 31 by omega) (show b < 2 ^ 31 by omega)]
    by_cases c0 : ctb s 8 = b
    · have hsucc2 : fb_ct (fun i => decide (ctb i 8 = b)) (s + 1) = fb_ct (fun i => decide (ctb i 8 = b)) s + 1 := by rw [hsucc]; simp only [c0, decide_true, if_true]
      rw [if_neg (not_not_intro c0)]
      by_cases c1 : f = 0
      · rw [if_pos c1]; exact ih (s + 1) m c (by omega) (by omega) (by omega)
      rw [if_neg c1, if_pos (by rw [nI_eq (by omega) (by omega)]; omega)]
      exact ih (s + 1) m (c + 1) (by omega) (by omega) (by omega)
    · rw [if_pos c0]
      have := fb_ct_mono (fun i => decide (ctb i 8 = b)) (show s ≤ s + 1 by omega)
      exact ih (s + 1) m c (by omega) (by omega) (by omega)
theorem cnt_12 : fb_ct (fun i => decide (ctb i 8 = 1)) 256 = 8 ∧ fb_ct (fun i => decide (ctb i 8 = 2)) 256 = 28 := by decide +kernel
theorem wf_out {ad : Nat → Nat → Nat} {tg : Nat → Nat × Nat} {dp : Nat → Int32} {nl n0 : Nat} (hN : 10000 ≤ N) (hP : PP ad tg dp nl n0 S M) (hR : RU S M n) (x1 x2 : Int32) {x3 : Nat} (hx : 46 ≤ x3) (hx2 : x3 < 2 ^ 31) (kg : Int32 → Option Int32) (ky : Int32 → Int32 → Option Int32) (h2 : ∀ x5, ky (nI x3) x5 = some (-1)) : fX3_wired_53 N M kg ky N x1 x2 (nI x3) 0 1 = some (-1) := by
  obtain ⟨q1, q2⟩ := cnt_12
  obtain ⟨n, rfl⟩ : ∃ i, N = i + 3 := ⟨N - 3, by omega⟩
  rw [fX3_wired_53, if_neg (by decide)]
  obtain ⟨c, c1, c2⟩ := wf_in hN hP hR x1 x2 (b := 1) (base := 0) hx hx2 (by omega) (by omega) (fun x6_8 => kg x6_8) (fun x1_9 x2_10 x3_11 x4_12 x5_13 => ec_lt (x5_13 + (1 : Int32)) fun x5_14 => (fX3_wired_53 (n + 3) M kg ky (n + 2)) x1_9 x2_10 x3_11 x4_12 x5_14) 255 1 (n + 3) 0 rfl (by omega) (by omega)
  rw [show (nI 0 : Int32) = 0 from rfl, show (nI 1 : Int32) = 1 from rfl] at c2
  rw [c2]
  simp only [ec_lt]
  rw [fX3_wired_53, if_neg (by decide)]
  obtain ⟨d, d1, d2⟩ := wf_in hN hP hR x1 x2 (b := 2) (base := 8) hx hx2 (by omega) (by omega) (fun x6_8 => kg x6_8) (fun x1_9 x2_10 x3_11 x4_12 x5_13 => ec_lt (x5_13 + (1 : Int32)) fun x5_14 => (fX3_wired_53 (n + 3) M kg ky (n + 1)) x1_9 x2_10 x3_11 x4_12 x5_14) 255 1 (n + 3) c rfl (by omega) (by omega)
  rw [show (nI 1 : Int32) = 1 from rfl] at d2
  rw [show (1 : Int32) + 1 = nI 2 from rfl, d2]
  simp only [ec_lt]
  rw [fX3_wired_53, if_pos (by decide)]
  exact h2 _
end
theorem ob_wired {N : Nat} (hN : 10000 ≤ N) : OB_wired N INV := by
  intro S M x1 x2 x3 hV
  obtain ⟨ad, tg, dp, nl, n0, hP⟩ := hV.pp
  obtain ⟨n, hR⟩ := hV.ru
  obtain ⟨nc, mk, n1, n2, n3, n4, -⟩ := hV.cw
  have hn := hR.1
  obtain ⟨f, f0, f1, f2⟩ := hr_loop (N := N) hR (fun x1_8 x2_9 x3_10 x4_11 =>
    if ¬ x4_11 = 0 then (
      fX0_wired_116 N S (fun x7_23 =>
        some x7_23) (fun x3_24 x5_25 =>
        if ¬ x3_24 = 0 then (
          some (-1 : Int32))
        else (
          some x5_25)) N x1_8 x2_9 x3_10 (0 : Int32) (1 : Int32))
    else (
      if ¬ x3_10 = 0 then (
        some (-1 : Int32))
      else (
        some (-4 : Int32)))) (fun x3_4 => ec_rz x3_4) x1 x2 x3 n 0 N N 0 (by omega) (by omega) (by omega) (Or.inl rfl)
  rw [show (nI 0 : Int32) = 0 from rfl] at f1 f2
  have hz : ec_rz f = some f := by rcases f0 with rfl | rfl <;> rfl
  have key : ∃ r, fX0_wired_35 N S x1 x2 x3 = some r ∧ fX3_wired_27 N M x1 x2 x3 = some r := by
    unfold fX0_wired_35 fX3_wired_27 fX3_hasRun
    rw [f1, f2, hz, Option.bind_some]
    by_cases c0 : f = 0
    · rw [if_neg (not_not_intro c0), if_neg (not_not_intro c0)]
      by_cases c1 : x3 = 0
      · rw [if_neg (not_not_intro c1)]; exact ⟨_, rfl, rfl⟩
      · rw [if_pos c1]; exact ⟨_, rfl, rfl⟩
    · rw [if_pos c0, if_pos c0]
      refine wi_out hN hP hR x1 x2 x3 (fun x7_23 => some x7_23) (fun x6_15 => some x6_15) _ _ (fun z => ⟨z, rfl, rfl⟩) (fun x5 => ?_) 2 1 N N 0 rfl (by omega) (by omega)
      by_cases c1 : x3 = 0
      · simp only [if_neg (not_not_intro c1)]; exact ⟨_, rfl, rfl⟩
      · simp only [if_pos c1]; exact ⟨_, rfl, rfl⟩
  unfold fX0_wired fX3_wired fX0_wired_33 fX3_wired_25
  rw [x_isCounter, m_isCounter, x_isEvent, m_isEvent, x_isIn, n3, n4]
  simp only [Option.bind_some, z01]
  by_cases h1 : ¬ inB x1.toInt64 0 ((nI nc - 1).toInt64)
  · rw [if_pos h1, if_pos h1]; exact ⟨_, rfl, rfl⟩
  rw [if_neg h1, if_neg h1]
  by_cases h2 : ¬ inB x2.toInt64 0 7
  · rw [if_pos h2, if_pos h2]; exact ⟨_, rfl, rfl⟩
  rw [if_neg h2, if_neg h2]
  by_cases h3 : x3 = 0
  · rw [if_pos h3, if_pos h3]; exact key
  rw [if_neg h3, if_neg h3]
  by_cases h4 : inB x3.toInt64 10 45
  · obtain ⟨j, j1, j2, rfl⟩ := (in_lit 10 45 (by decide) (by decide)).mp h4
    have h10 : (10 : Int32) ≤ nI j := nI_le (a := 10) j1 (by omega)
    rw [if_pos (not_not_intro h4), if_pos h10]; exact key
  · rw [if_neg (not_not_intro h4)]
    by_cases h5 : (10 : Int32) ≤ x3
    · rw [if_pos h5]
      have hx0 : ¬ x3 < 0 := fun h => by
        rw [fa_lt] at h; rw [fa_le] at h5
        have e1 : (10 : Int32).toInt = 10 := rfl
        have e2 : (0 : Int32).toInt = 0 := rfl
        omega
      obtain ⟨j, hj, rfl⟩ := nI_of hx0
      have hj10 : 10 ≤ j := (nI_leI (a := 10) (by decide) hj).mp h5
      have hj46 : 46 ≤ j := by
        rcases Nat.lt_or_ge j 46 with h | h
        · exact absurd ((in_lit 10 45 (by decide) (by decide)).mpr ⟨j, hj10, by omega, rfl⟩) h4
        · exact h
      refine ⟨-1, rfl, ?_⟩
      unfold fX3_wired_27 fX3_hasRun
      rw [f2, hz, Option.bind_some]
      by_cases c0 : f = 0
      · rw [if_neg (not_not_intro c0), if_pos h3]
      · rw [if_pos c0]
        exact wf_out hN hP hR x1 x2 hj46 hj _ _ (fun x5 => if_pos h3)
    · rw [if_neg h5]; exact ⟨_, rfl, rfl⟩
