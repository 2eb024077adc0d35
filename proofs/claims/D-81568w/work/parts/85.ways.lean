/-! WAYS: which events go together -/
set_option maxRecDepth 100000
theorem bitI {s e : Nat} (hs : s < 2 ^ 31) (he : e < 31) : (nI s >>> (nI e &&& 31)) &&& 1 = nI (if s.testBit e then 1 else 0) := by
  rw [pk_shrN hs _ e (s_l e (by omega)), pk_andN (Nat.lt_of_le_of_lt (Nat.div_le_self _ _) (by omega)) 1 (by decide)]
  congr 1
  rw [Nat.testBit_eq_decide_div_mod_eq]
  have h2 := Nat.mod_two_eq_zero_or_one (s / 2 ^ e)
  rcases h2 with h | h
  · rw [h]; rfl
  · rw [h]; rfl
theorem bit_n1 {s e : Nat} (hs : s < 2 ^ 31) (he : e < 31) : (¬ ((nI s >>> (nI e &&& 31)) &&& 1) = 1) ↔ s.testBit e = false := by
  rw [bitI hs he]
  cases s.testBit e <;> decide
theorem bit_0 {s e : Nat} (hs : s < 2 ^ 31) (he : e < 31) : (((nI s >>> (nI e &&& 31)) &&& 1) = 0) ↔ s.testBit e = false := by
  rw [bitI hs he]
  cases s.testBit e <;> decide
theorem first_at {p : Nat → Bool} {n c : Nat} (h1 : p c = true) (h2 : ∀ k, k < c → p k = false) (hc : c < n) : fa_first p n = c := by
  rcases Nat.lt_trichotomy (fa_first p n) c with h | h | h
  · have := fa_first_yes p n (by omega)
    rw [h2 _ h] at this
    exact absurd this (by decide)
  · exact h
  · have := fa_first_no p n c h
    rw [h1] at this
    exact absurd this (by decide)
theorem first_none {p : Nat → Bool} {n : Nat} (h2 : ∀ k, k < n → p k = false) : fa_first p n = n := by
  rcases Nat.lt_or_ge (fa_first p n) n with h | h
  · have := fa_first_yes p n h
    rw [h2 _ h] at this
    exact absurd this (by decide)
  · have := fa_first_le p n
    omega
def ctb (s : Nat) : Nat → Nat
  | 0 => 0
  | j + 1 => ctb s j + (if s.testBit (7 - j) then 1 else 0)
def hib (s j : Nat) : Nat := s / 2 ^ (8 - j) * 2 ^ (8 - j)
def frs (n u : Nat) : Nat := (2 ^ n - 1) &&& (15 ^^^ u)
def cang (n : Nat) (mk : Nat → Nat) (s : Nat) : Nat → Nat → Bool
  | 0, _ => true
  | j + 1, u => if s.testBit (7 - j) then decide (fa_first (fun c => (frs n u).testBit c && (mk c).testBit (7 - j) && cang n mk s j (u ||| 2 ^ c)) n < n) else cang n mk s j u
def lw (n : Nat) (mk : Nat → Nat) (s : Nat) : Nat → Nat → Nat
  | 0, _ => 0
  | j + 1, u => if s.testBit (7 - j) then fa_first (fun c => (frs n u).testBit c && (mk c).testBit (7 - j) && cang n mk s j (u ||| 2 ^ c)) n * 4 ^ ctb s j + lw n mk s j (u ||| 2 ^ fa_first (fun c => (frs n u).testBit c && (mk c).testBit (7 - j) && cang n mk s j (u ||| 2 ^ c)) n) else lw n mk s j u
def goodw (n : Nat) (mk : Nat → Nat) (s w : Nat) : Nat → Nat → Bool
  | 0, _ => true
  | j + 1, u => if s.testBit (7 - j) then decide (w / 4 ^ ctb s j % 4 < n) && (!u.testBit (w / 4 ^ ctb s j % 4)) && (mk (w / 4 ^ ctb s j % 4)).testBit (7 - j) && goodw n mk s w j (u ||| 2 ^ (w / 4 ^ ctb s j % 4)) else goodw n mk s w j u
/-- finite facts -/
theorem hib_skip : ∀ s, s < 256 → ∀ j, j < 8 → s.testBit (7 - j) = false → hib s (j + 1) = hib s j := by decide +kernel
theorem hib_low : ∀ s, s < 256 → ∀ j, j < 8 → s.testBit (7 - j) = true → ¬ nI (hib s (j + 1)) = 0 ∧ fJ9_numberOfTrailingZeros (nI (hib s (j + 1))) = some (nI (7 - j)) ∧ nI (hib s (j + 1)) &&& (nI (hib s (j + 1)) - 1) = nI (hib s j) ∧ nI (hib s (j + 1)) &&& (((1 : Int32) <<< (nI (7 - j) &&& 31)) ^^^ (-1)) = nI (hib s j) := by decide +kernel
theorem hib_0 : ∀ s, s < 256 → hib s 0 = 0 ∧ hib s 8 = s := by decide +kernel
theorem frs_bit : ∀ n, n < 5 → ∀ u, u < 16 → ∀ c, c < 4 → (frs n u).testBit c = (decide (c < n) && !u.testBit c) ∧ frs n u < 16 ∧ u ||| 2 ^ c < 16 ∧ nI (frs n u) &&& (((1 : Int32) <<< (nI c &&& 31)) ^^^ (-1)) = nI (frs n (u ||| 2 ^ c)) ∧ nI u ||| ((1 : Int32) <<< (nI c &&& 31)) = nI (u ||| 2 ^ c) := by decide +kernel
theorem frs_all : ∀ n, n < 5 → ((1 : Int32) <<< (nI n &&& 31)) - 1 = nI (frs n 0) := by decide +kernel
theorem cnt_x : ∀ s, s < 256 → fJ9_bitCount (nI s) = some (nI (ctb s 8)) ∧ ctb s 8 ≤ 8 := by decide +kernel
theorem ctb_le (s : Nat) : ∀ j, ctb s j ≤ j
  | 0 => Nat.le_refl 0
  | j + 1 => by
    have := ctb_le s j
    rw [ctb]
    split <;> omega
theorem ctb_mono (s : Nat) {i : Nat} : ∀ {j : Nat}, i ≤ j → ctb s i ≤ ctb s j := by
  intro j
  induction j with
  | zero => intro h; have : i = 0 := by omega
            rw [this]; exact Nat.le_refl _
  | succ j ih =>
    intro h
    rcases Nat.lt_or_ge i (j + 1) with h1 | h1
    · have := ih (by omega)
      rw [ctb]
      omega
    · have : i = j + 1 := by omega
      rw [this]; exact Nat.le_refl _
/-- counting the bits, the Model's way -/
theorem cntof_loop {N : Nat} (kx : Int32 → Option Int32) {s : Nat} (hs : s < 65536) : ∀ (k i a n : Nat), i + k = 16 → k < n → fX3_countOf_4 N kx n (nI s) (nI a) (nI i) = kx (nI (a + fb_ct (fun j => s.testBit (i + j)) k)) := by
  intro k
  induction k with
  | zero =>
    intro i a n hi hn
    obtain ⟨n, rfl⟩ : ∃ m, n = m + 1 := ⟨n - 1, by omega⟩
    have : i = 16 := by omega
    subst this
    rw [fX3_countOf_4, if_pos (by decide)]
    rfl
  | succ k ih =>
    intro i a n hi hn
    obtain ⟨n, rfl⟩ : ∃ m, n = m + 1 := ⟨n - 1, by omega⟩
    have hge : ¬ (16 : Int32) ≤ nI i := nI_ge (b := 16) (by omega) (by decide)
    rw [fX3_countOf_4, if_neg hge]
    simp only [ec_lt]
    rw [bitI (by omega) (by omega), nI_add, nI_1, ih (i + 1) _ n (by omega) (by omega)]
    congr 2
    have := fb_ct_split (fun j => s.testBit (i + j)) 1 k
    rw [show 1 + k = k + 1 by omega] at this
    rw [this, fb_ct_succ]
    have e : (fun j => s.testBit (i + 1 + j)) = (fun j => s.testBit (i + (1 + j))) := by funext j; rw [Nat.add_assoc]
    rw [e]
    simp only [fb_ct, Nat.add_zero]
    omega
theorem m_cnt {N : Nat} (hN : 100 ≤ N) {s : Nat} (hs : s < 65536) : fX3_countOf N (nI s) = some (nI (fb_ct (fun j => s.testBit j) 16)) := by
  unfold fX3_countOf
  have := cntof_loop (N := N) (fun x => some x) hs 16 0 0 N rfl (by omega)
  rw [show (nI 0 : Int32) = 0 from rfl] at this
  rw [this, Nat.zero_add]
  simp only [Nat.zero_add]
theorem cnt_m : ∀ s, s < 256 → fb_ct (fun j => s.testBit j) 16 = ctb s 8 := by decide +kernel
theorem cnt_hi : ∀ s, s < 256 → ∀ t, t < 8 → nI s >>> ((nI t + 1) &&& 31) = nI (s / 2 ^ (t + 1)) ∧ fb_ct (fun j => (s / 2 ^ (t + 1)).testBit j) 16 = ctb s (7 - t) := by decide +kernel
section
variable {N : Nat} {S : sX} {M : sM} {n : Nat} {mk : Nat → Nat}
/-- the counters as both sides see them -/
def CW (S : sX) (M : sM) (n : Nat) (mk : Nat → Nat) : Prop := 1 ≤ n ∧ n ≤ 4 ∧ S.1 12 = nI n ∧ M.1 36 = nI n ∧ ∀ c, c < 4 → mk c < 256 ∧ M.2.2 37 c = nI (mk c) ∧ ∃ a fs, hAr 7 S.2.2.2 (S.2.2.1 13) (nI c) = some a ∧ hObj 1 S.2.2.2 a = some fs ∧ hI 1 S.2.2.2 a 0 = some (nI (mk c))
theorem INV.cw (hI : INV S M) : ∃ n mk, CW S M n mk := by
  obtain ⟨ad, tg, row, dp, nl, n, nq, ch, dq, cm, hT, hC, hR, hH, hK, hP, hQ⟩ := hI
  obtain ⟨⟨k, k1, k2, k3, k4⟩, c1, ⟨f, c2, c3⟩, c4⟩ := hC
  refine ⟨k, fun c => (M.2.2 37 c).toNatClampNeg, k1, k2, k3, k4, fun c hc => ?_⟩
  obtain ⟨-, d1, ⟨m, d2, d3⟩, -⟩ := c4 c hc
  have e : (M.2.2 37 c).toNatClampNeg = m := by rw [d3]; exact nI_clamp (by omega)
  dsimp only
  rw [e, ← d3]
  exact ⟨d2, rfl, _, _, hAr_at c2 hc (by decide) (c3 c hc), hObj_at d1, hI_at d1 rfl⟩
theorem go_loop (hw : CW S M n mk) (self : Int32 → Int32 → Option Int32) (kx : Int32 → Option Int32) (x1 : Int32) {f e : Nat} (hf : f < 16) (he : e < 8) (g : Nat → Bool)
    (hg : ∀ c, c < 4 → self (x1 &&& (x1 - 1)) (nI f &&& (((1 : Int32) <<< (nI c &&& 31)) ^^^ (-1))) = some (if g c = true then 1 else 0)) : ∀ (k c m : Nat), c + k = n → k + 1 < m → (∀ i, i < c → (f.testBit i && (mk i).testBit e && g i) = false) →
    fX0_canGo_17 N S self kx m x1 (nI f) (nI e) 0 (nI c) = kx (if fa_first (fun c => f.testBit c && (mk c).testBit e && g c) n < n then 1 else 0) := by
  obtain ⟨n1, n2, n3, n4, hm⟩ := hw
  intro k
  induction k with
  | zero =>
    intro c m hc hk hp
    obtain ⟨m, rfl⟩ : ∃ i, m = i + 1 := ⟨m - 1, by omega⟩
    have : c = n := by omega
    subst this
    rw [fX0_canGo_17, n3, if_pos (nI_le (Nat.le_refl _) (by omega)), if_neg (by rw [first_none hp]; omega)]
  | succ k ih =>
    intro c m hc hk hp
    obtain ⟨m, rfl⟩ : ∃ i, m = i + 1 := ⟨m - 1, by omega⟩
    obtain ⟨a1, a2, a, fs, a3, a4, a5⟩ := hm c (by omega)
    have next : (f.testBit c && (mk c).testBit e && g c) = false → fX0_canGo_17 N S self kx m x1 (nI f) (nI e) 0 (nI (c + 1)) = kx (if fa_first (fun c => f.testBit c && (mk c).testBit e && g c) n < n then 1 else 0) := fun hpc =>
      ih (c + 1) m (by omega) (by omega) (fun i hi => by
        rcases Nat.lt_or_ge i c with h | h
        · exact hp i h
        · have : i = c := by omega
          rw [this]; exact hpc)
    rw [fX0_canGo_17, n3, if_neg (nI_ge (by omega) (by omega)), if_neg (fun h => h rfl)]
    unfold fX0_canGo_79 fX0_canGo_80 fX1_canCount
    simp only [ec_lt, nI_1]
    rw [a3, Option.bind_some, a4, Option.bind_some, a5, Option.bind_some, hg c (by omega)]
    simp only [bit_n1 (show f < 2 ^ 31 by omega) (show c < 31 by omega), bit_n1 (show mk c < 2 ^ 31 by omega) (show e < 31 by omega)]
    by_cases b1 : f.testBit c = false
    · rw [if_pos b1]
      exact next (by rw [b1]; rfl)
    rw [if_neg b1]
    by_cases b2 : (mk c).testBit e = false
    · rw [if_pos b2, Option.bind_some, if_pos rfl]
      exact next (by rw [b2, Bool.and_false]; rfl)
    rw [if_neg b2, Option.bind_some, if_neg (by decide), Option.bind_some]
    by_cases b3 : g c = true
    · rw [if_pos b3, if_neg (by decide)]
      obtain ⟨m, rfl⟩ : ∃ i, m = i + 1 := ⟨m - 1, by omega⟩
      have hpc : (f.testBit c && (mk c).testBit e && g c) = true := by
        rw [Bool.not_eq_false] at b1 b2
        rw [b1, b2, b3]; rfl
      rw [if_pos (by rw [first_at (p := fun c => f.testBit c && (mk c).testBit e && g c) (n := n) (c := c) hpc hp (by omega)]; omega)]
      rw [fX0_canGo_17]
      by_cases h : S.1 12 ≤ nI (c + 1)
      · rw [if_pos h]
      · rw [if_neg h, if_pos (by decide)]
    · rw [if_neg b3, if_pos rfl]
      rw [Bool.not_eq_true] at b3
      exact next (by rw [b3, Bool.and_false])
theorem x_canGo (hw : CW S M n mk) (hN : 100 ≤ N) {s : Nat} (hs : s < 256) : ∀ (j : Nat), j ≤ 8 → ∀ (u dep : Nat), u < 16 → ctb s j < dep → fX0_canGo N S dep (nI (hib s j)) (nI (frs n u)) = some (if cang n mk s j u = true then 1 else 0) := by
  have n2 : n ≤ 4 := hw.2.1
  intro j
  induction j with
  | zero =>
    intro _ u dep hu hd
    obtain ⟨dep, rfl⟩ : ∃ i, dep = i + 1 := ⟨dep - 1, by omega⟩
    rw [(hib_0 s hs).1, fX0_canGo, if_neg (fun h => h rfl), cang, if_pos rfl]
  | succ j ih =>
    intro hj u dep hu hd
    rw [ctb] at hd
    cases hb : s.testBit (7 - j) with
    | false =>
      rw [hib_skip s hs j (by omega) hb, cang, hb]
      rw [hb] at hd
      exact ih (by omega) u dep hu (by omega)
    | true =>
      obtain ⟨h1, h2, h3, -⟩ := hib_low s hs j (by omega) hb
      rw [hb] at hd
      obtain ⟨dep, rfl⟩ : ∃ i, dep = i + 1 := ⟨dep - 1, by omega⟩
      rw [fX0_canGo, if_pos h1, h2, Option.bind_some]
      have hL := go_loop (N := N) hw (fX0_canGo N S dep) (fun x4_7 => fX0_canGo_88 N S (fX0_canGo N S dep) x4_7) (nI (hib s (j + 1))) (f := frs n u) (e := 7 - j) ((frs_bit n (by omega) u hu 0 (by omega)).2.1) (by omega) (fun c => cang n mk s j (u ||| 2 ^ c)) (fun c hc => by
        obtain ⟨-, -, g1, g2, -⟩ := frs_bit n (by omega) u hu c hc
        rw [h3, g2]
        exact ih (by omega) _ dep g1 (by simp only [if_true] at hd; omega)) n 0 N (by omega) (by omega) (fun i hi => absurd hi (by omega))
      rw [show (nI 0 : Int32) = 0 from rfl] at hL
      rw [hL]
      unfold fX0_canGo_88
      rw [rz_01, cang, hb, if_pos rfl]
      simp only [decide_eq_true_eq]
theorem x_go (hw : CW S M n mk) (hN : 100 ≤ N) {s : Nat} (hs : s < 256) : fX0_goTogether N S (nI s) = some (if ctb s 8 ≤ n ∧ cang n mk s 8 0 = true then 1 else 0) := by
  have n2 : n ≤ 4 := hw.2.1
  unfold fX0_goTogether fX0_goTogether_31
  obtain ⟨h1, h2⟩ := cnt_x s hs
  have h3 := x_canGo hw hN hs 8 (by omega) 0 10 (by omega) (by omega)
  rw [(hib_0 s hs).2] at h3
  rw [h1, Option.bind_some, hw.2.2.1, frs_all n (by omega), h3, Option.bind_some]
  rcases Nat.lt_or_ge n (ctb s 8) with h | h
  · rw [if_pos (nI_lt h (by omega)), if_neg (fun hc => by have := hc.1; omega)]
  · rw [if_neg (nI_nlt h (by omega))]
    by_cases hc : cang n mk s 8 0 = true
    · rw [if_pos hc, if_neg (by decide), if_pos ⟨h, hc⟩]
    · rw [if_neg hc, if_pos rfl, if_neg (fun h => hc h.2)]
theorem dig {w i : Nat} (hw : w < 2 ^ 31) (hi : i < 15) : (nI w >>> (((2 : Int32) * nI i) &&& 31)) &&& 3 = nI (w / 4 ^ i % 4) := by
  rw [show (2 : Int32) * nI i = nI (2 * i) from pk_mul 2 i, pk_shrN hw _ (2 * i) (s_l (2 * i) (by omega)), pk_andN (Nat.lt_of_le_of_lt (Nat.div_le_self _ _) (by omega)) 2 (by decide), Nat.pow_mul]
theorem way_in (hw : CW S M n mk) (kx : Int32 → Int32 → Int32 → Int32 → Option Int32) {s : Nat} (hs : s < 256) (x2 : Int32) {w : Nat} (hwb : w < 2 ^ 31) : ∀ (j m u : Nat) (x6 : Int32), j ≤ 8 → j < m → u < 16 → x6 = 0 ∨ x6 = 1 →
    fX3_wayOf_39 N M kx m (nI s) x2 (nI w) (nI u) (nI (ctb s j)) x6 (nI (8 - j)) = kx (nI s) x2 (nI w) (if x6 = 1 ∧ goodw n mk s w j u = true then 1 else 0) := by
  obtain ⟨n1, n2, n3, n4, hm⟩ := hw
  intro j
  induction j with
  | zero =>
    intro m u x6 hj hk hu hx
    obtain ⟨m, rfl⟩ : ∃ i, m = i + 1 := ⟨m - 1, by omega⟩
    rw [fX3_wayOf_39, if_pos (by decide), goodw]
    rcases hx with rfl | rfl <;> rfl
  | succ j ih =>
    intro m u x6 hj hk hu hx
    obtain ⟨m, rfl⟩ : ∃ i, m = i + 1 := ⟨m - 1, by omega⟩
    have e1 : nI (8 - (j + 1)) = nI (7 - j) := by congr 1; omega
    have e2 : nI (7 - j) + 1 = nI (8 - j) := by rw [nI_1]; congr 1; omega
    have hge : ¬ (8 : Int32) ≤ nI (7 - j) := nI_ge (b := 8) (by omega) (by decide)
    rw [fX3_wayOf_39, e1, if_neg hge]
    unfold fX3_wayOf_113 fX3_wayOf_114 fX3_wayOf_125
    simp only [ec_lt, e2, bit_n1 (show s < 2 ^ 31 by omega) (show 7 - j < 31 by omega)]
    cases hb : s.testBit (7 - j) with
    | false =>
      rw [if_pos rfl, goodw, ctb, hb]
      exact ih m u x6 (by omega) (by omega) hu hx
    | true =>
      have hcl := ctb_le s j
      have hc4 : w / 4 ^ ctb s j % 4 < 4 := Nat.mod_lt _ (by omega)
      obtain ⟨a1, a2, -⟩ := hm _ hc4
      obtain ⟨-, -, g1, -, g2⟩ := frs_bit n (by omega) u hu _ hc4
      rw [if_neg (by decide), goodw, ctb, hb]
      simp only [if_true]
      rw [pk_m1, dig hwb (by omega), n4, ag_at hc4 (by decide), a2, Option.bind_some, g2]
      simp only [bit_n1 (show mk (w / 4 ^ ctb s j % 4) < 2 ^ 31 by omega) (show 7 - j < 31 by omega), bit_0 (show u < 2 ^ 31 by omega) (show w / 4 ^ ctb s j % 4 < 31 by omega), nI_leI (show n < 2 ^ 31 by omega) (show w / 4 ^ ctb s j % 4 < 2 ^ 31 by omega)]
      have bad := ih m (u ||| 2 ^ (w / 4 ^ ctb s j % 4)) 0 (by omega) (by omega) g1 (Or.inl rfl)
      rw [if_neg (fun h => absurd h.1 (by decide))] at bad
      rcases hx with rfl | rfl
      · rw [if_pos rfl, bad, if_neg (fun h => absurd h.1 (by decide))]
      · rw [if_neg (by decide)]
        by_cases b1 : n ≤ w / 4 ^ ctb s j % 4
        · rw [if_pos b1, bad, decide_eq_false (by omega), if_neg (fun h => absurd h.2 (by rw [Bool.false_and, Bool.false_and, Bool.false_and]; decide))]
        rw [if_neg b1, decide_eq_true (by omega)]
        cases b2 : u.testBit (w / 4 ^ ctb s j % 4) with
        | true =>
          rw [if_pos (by decide), bad, if_neg (fun h => absurd h.2 (by simp))]
        | false =>
          rw [if_neg (by decide)]
          cases b3 : (mk (w / 4 ^ ctb s j % 4)).testBit (7 - j) with
          | false => rw [if_pos rfl, bad, if_neg (fun h => absurd h.2 (by simp))]
          | true =>
            rw [if_neg (by decide), ih m _ 1 (by omega) (by omega) g1 (Or.inr rfl)]
            rfl
theorem p4_sh : ∀ k, k < 5 → (1 : Int32) <<< (((2 : Int32) * nI k) &&& 31) = nI (4 ^ k) ∧ 4 ^ k ≤ 256 := by decide +kernel
theorem way_out (hw : CW S M n mk) (hN : 300 ≤ N) (kx : Int32 → Option Int32) (ky : Option Int32) {s : Nat} (hs : s < 256) (hk4 : ctb s 8 ≤ 4) : ∀ (k w m : Nat), w + k = 4 ^ ctb s 8 → k < m → (∀ i, i < w → goodw n mk s i 8 0 = false) →
    fX3_wayOf_18 N M kx ky m (nI s) (nI (ctb s 8)) (nI w) = if fa_first (fun w => goodw n mk s w 8 0) (4 ^ ctb s 8) < 4 ^ ctb s 8 then kx (nI (fa_first (fun w => goodw n mk s w 8 0) (4 ^ ctb s 8))) else ky := by
  obtain ⟨q1, q2⟩ := p4_sh (ctb s 8) (by omega)
  intro k
  induction k with
  | zero =>
    intro w m h1 h2 hp
    obtain ⟨m, rfl⟩ : ∃ i, m = i + 1 := ⟨m - 1, by omega⟩
    have e : w = 4 ^ ctb s 8 := by omega
    rw [fX3_wayOf_18, q1, if_pos (nI_le (by omega) (by omega)), if_neg (by rw [first_none (fun i hi => hp i (by omega))]; omega)]
  | succ k ih =>
    intro w m h1 h2 hp
    obtain ⟨m, rfl⟩ : ∃ i, m = i + 1 := ⟨m - 1, by omega⟩
    have hL := way_in (N := N) hw (fun x1_7 x2_8 x3_9 x6_10 => if x6_10 = 0 then (ec_lt (x3_9 + (1 : Int32)) fun x3_11 => (fX3_wayOf_18 N M kx ky m) x1_7 x2_8 x3_11) else (kx x3_9)) hs (nI (ctb s 8)) (w := w) (by omega) 8 N 0 1 (by omega) (by omega) (by omega) (Or.inr rfl)
    rw [fX3_wayOf_18, q1, if_neg (nI_ge (by omega) (by omega))]
    rw [show nI (8 - 8) = (0 : Int32) from rfl] at hL
    rw [hL]
    cases hg : goodw n mk s w 8 0 with
    | true =>
      rw [if_neg (by decide), first_at (p := fun w => goodw n mk s w 8 0) hg hp (by omega), if_pos (by omega)]
    | false =>
      rw [if_pos (by decide)]
      simp only [ec_lt, nI_1]
      exact ih (w + 1) m (by omega) (by omega) (fun i hi => by
        rcases Nat.lt_or_ge i w with h | h
        · exact hp i h
        · have : i = w := by omega
          rw [this]; exact hg)
theorem good_cong {s : Nat} {w w' : Nat} : ∀ (j u : Nat), (∀ i, i < ctb s j → w / 4 ^ i % 4 = w' / 4 ^ i % 4) → goodw n mk s w j u = goodw n mk s w' j u := by
  intro j
  induction j with
  | zero => intro u _; rfl
  | succ j ih =>
    intro u h
    rw [goodw, goodw]
    cases hb : s.testBit (7 - j) with
    | false =>
      rw [ctb, hb] at h
      exact ih u (fun i hi => h i hi)
    | true =>
      rw [ctb, hb] at h
      simp only [if_true] at h ⊢
      rw [h (ctb s j) (by omega), ih _ (fun i hi => h i (by omega))]
theorem good_mod {s w : Nat} (j u : Nat) : goodw n mk s w j u = goodw n mk s (w % 4 ^ ctb s j) j u := good_cong j u (fun i hi => by
  have e : 4 ^ ctb s j = 4 ^ i * (4 * 4 ^ (ctb s j - i - 1)) := by
    rw [← Nat.mul_assoc, ← Nat.pow_succ, ← Nat.pow_add]
    congr 1
    omega
  rw [e, Nat.mod_mul_right_div_self, Nat.mod_mul_right_mod])
theorem lw_spec {s : Nat} (hn : n ≤ 4) : ∀ (j u : Nat), u < 16 → (cang n mk s j u = true → lw n mk s j u < 4 ^ ctb s j ∧ goodw n mk s (lw n mk s j u) j u = true ∧ ∀ w, w < lw n mk s j u → goodw n mk s w j u = false) ∧ (cang n mk s j u = false → ∀ w, w < 4 ^ ctb s j → goodw n mk s w j u = false) := by
  intro j
  induction j with
  | zero =>
    intro u hu
    exact ⟨fun _ => ⟨(by rw [lw, ctb]; decide), rfl, fun w hw => absurd hw (Nat.not_lt_zero w)⟩, fun h => absurd h (by rw [cang]; decide)⟩
  | succ j ih =>
    intro u hu
    cases hb : s.testBit (7 - j) with
    | false =>
      simp only [cang, lw, goodw, ctb, hb, Bool.false_eq_true, if_false, Nat.add_zero]
      exact ih u hu
    | true =>
      have hB : 0 < 4 ^ ctb s j := Nat.pow_pos (by omega)
      have hE : 4 ^ (ctb s j + 1) = 4 * 4 ^ ctb s j := by rw [Nat.pow_succ, Nat.mul_comm]
      simp only [cang, lw, goodw, ctb, hb, if_true, hE]
      have low : ∀ w, w < 4 * 4 ^ ctb s j → w / 4 ^ ctb s j < 4 := fun w hw => (Nat.div_lt_iff_lt_mul hB).mpr hw
      have bad : ∀ w, w < 4 * 4 ^ ctb s j → ((frs n u).testBit (w / 4 ^ ctb s j) && (mk (w / 4 ^ ctb s j)).testBit (7 - j) && cang n mk s j (u ||| 2 ^ (w / 4 ^ ctb s j))) = false → (decide (w / 4 ^ ctb s j % 4 < n) && (!u.testBit (w / 4 ^ ctb s j % 4)) && (mk (w / 4 ^ ctb s j % 4)).testBit (7 - j) && goodw n mk s w j (u ||| 2 ^ (w / 4 ^ ctb s j % 4))) = false := fun w hw hp => by
        have hlw := low w hw
        rw [Nat.mod_eq_of_lt hlw]
        obtain ⟨f1, -, f2, -⟩ := frs_bit n (by omega) u hu _ hlw
        rw [← f1]
        cases hc : cang n mk s j (u ||| 2 ^ (w / 4 ^ ctb s j)) with
        | true => rw [hc, Bool.and_true] at hp; rw [hp, Bool.false_and]
        | false => rw [good_mod, (ih _ f2).2 hc _ (Nat.mod_lt _ hB), Bool.and_false]
      generalize hp : (fun c => (frs n u).testBit c && (mk c).testBit (7 - j) && cang n mk s j (u ||| 2 ^ c)) = p at *
      have hp' : ∀ c, p c = ((frs n u).testBit c && (mk c).testBit (7 - j) && cang n mk s j (u ||| 2 ^ c)) := fun c => by rw [← hp]
      constructor
      · intro hC
        have hC := of_decide_eq_true hC
        have hy := fa_first_yes p n hC
        have hno := fa_first_no p n
        generalize fa_first p n = C at *
        rw [hp', Bool.and_eq_true, Bool.and_eq_true] at hy
        obtain ⟨⟨y1, y2⟩, y3⟩ := hy
        obtain ⟨f1, -, f2, -⟩ := frs_bit n (by omega) u hu C (by omega)
        obtain ⟨i1, i2, i3⟩ := (ih _ f2).1 y3
        rw [f1, Bool.and_eq_true] at y1
        have d1 : (C * 4 ^ ctb s j + lw n mk s j (u ||| 2 ^ C)) / 4 ^ ctb s j = C := by
          rw [Nat.mul_comm C, Nat.mul_add_div hB, Nat.div_eq_of_lt i1, Nat.add_zero]
        have d2 : (C * 4 ^ ctb s j + lw n mk s j (u ||| 2 ^ C)) % 4 ^ ctb s j = lw n mk s j (u ||| 2 ^ C) := by
          rw [Nat.mul_comm C, Nat.mul_add_mod, Nat.mod_eq_of_lt i1]
        have hlt : C * 4 ^ ctb s j + lw n mk s j (u ||| 2 ^ C) < 4 * 4 ^ ctb s j := by
          have : (C + 1) * 4 ^ ctb s j ≤ 4 * 4 ^ ctb s j := Nat.mul_le_mul_right _ (by omega)
          rw [Nat.add_mul, Nat.one_mul] at this
          omega
        refine ⟨hlt, ?_, ?_⟩
        · rw [d1, Nat.mod_eq_of_lt (by omega : C < 4), good_mod, d2, i2, y1.1, y1.2, y2]; rfl
        · intro w hw
          have hw4 : w < 4 * 4 ^ ctb s j := by omega
          have hlw := low w hw4
          have hle : w / 4 ^ ctb s j ≤ C := by
            have := Nat.div_le_div_right (c := 4 ^ ctb s j) (Nat.le_of_lt hw)
            rw [d1] at this
            exact this
          rcases Nat.lt_or_ge (w / 4 ^ ctb s j) C with h | h
          · exact bad w hw4 (by rw [← hp']; exact hno _ h)
          · have e : w / 4 ^ ctb s j = C := by omega
            have hm := Nat.div_add_mod w (4 ^ ctb s j)
            rw [e, Nat.mul_comm] at hm
            rw [e, Nat.mod_eq_of_lt (by omega : C < 4), good_mod, i3 _ (by omega), Bool.and_false]
      · intro hC w hw
        have hC := of_decide_eq_false hC
        have hno := fa_first_no p n
        have hle := fa_first_le p n
        rcases Nat.lt_or_ge (w / 4 ^ ctb s j) n with h | h
        · exact bad w hw (by rw [← hp']; exact hno _ (by omega))
        · have hlw := low w hw
          rw [Nat.mod_eq_of_lt hlw, decide_eq_false (by omega)]
          rfl
theorem m_way (hw : CW S M n mk) (hN : 300 ≤ N) {s : Nat} (hs : s < 256) : fX3_wayOf N M (nI s) = some (if ctb s 8 ≤ n ∧ cang n mk s 8 0 = true then nI (lw n mk s 8 0) else -4) := by
  have n2 : n ≤ 4 := hw.2.1
  obtain ⟨-, hc8⟩ := cnt_x s hs
  unfold fX3_wayOf
  rw [m_cnt (by omega) (by omega), cnt_m s hs, Option.bind_some, hw.2.2.2.1]
  rcases Nat.lt_or_ge n (ctb s 8) with h | h
  · rw [if_neg (nI_ge h (by omega)), if_neg (fun hc => by have := hc.1; omega)]
  · rw [if_pos (nI_le h (by omega))]
    have hL := way_out (N := N) hw hN (fun x3_12 => some x3_12) (some (-4)) hs (by omega) (4 ^ ctb s 8) 0 N (by omega) (by have := (p4_sh (ctb s 8) (by omega)).2; omega) (fun i hi => absurd hi (Nat.not_lt_zero i))
    rw [show (nI 0 : Int32) = 0 from rfl] at hL
    rw [hL]
    obtain ⟨l1, l2⟩ := lw_spec (mk := mk) (s := s) n2 8 0 (by omega)
    cases hc : cang n mk s 8 0 with
    | true =>
      obtain ⟨l3, l4, l5⟩ := l1 hc
      rw [first_at (p := fun w => goodw n mk s w 8 0) l4 l5 l3, if_pos l3, if_pos ⟨h, rfl⟩]
    | false =>
      rw [first_none (p := fun w => goodw n mk s w 8 0) (l2 hc), if_neg (by omega), if_neg (fun h => absurd h.2 (by decide))]
theorem lw_lt (hw : CW S M n mk) {s : Nat} (hs : s < 256) (h : ctb s 8 ≤ n ∧ cang n mk s 8 0 = true) : lw n mk s 8 0 < 256 := by
  have n2 : n ≤ 4 := hw.2.1
  have := ((lw_spec (mk := mk) (s := s) n2 8 0 (by omega)).1 h.2).1
  have := (p4_sh (ctb s 8) (by omega)).2
  omega
end
theorem ob_together {N : Nat} (hN : 300 ≤ N) : OB_together N INV := by
  intro S M x1 hI
  obtain ⟨n, mk, hw⟩ := hI.cw
  unfold fX0_together fX3_together
  rw [x_isSet, m_areEvents]
  simp only [Option.bind_some, z01]
  by_cases h1 : ¬ inB x1.toInt64 0 255
  · rw [if_pos h1, if_neg (fun h => h h1)]; exact ⟨_, rfl, rfl⟩
  rw [if_neg h1, if_pos h1]
  obtain ⟨s, -, hs, rfl⟩ := (in_lit 0 255 (by decide) (by decide)).mp (Decidable.not_not.mp h1)
  rw [x_go hw (by omega) (by omega), m_way hw hN (by omega), Option.bind_some, Option.bind_some]
  by_cases hc : ctb s 8 ≤ n ∧ cang n mk s 8 0 = true
  · rw [if_pos hc, if_pos hc, if_neg (by decide), if_pos (nI_nm4 (by have := lw_lt hw (by omega) hc; omega))]
    exact ⟨_, rfl, rfl⟩
  · rw [if_neg hc, if_neg hc, if_pos rfl, if_neg (fun h => h rfl)]
    exact ⟨_, rfl, rfl⟩
section
variable {N : Nat} {S : sX} {M : sM} {n : Nat} {mk : Nat → Nat}
theorem dig_add {C k w i : Nat} (hi : i < k) : (C * 4 ^ k + w) / 4 ^ i % 4 = w / 4 ^ i % 4 := by
  have e : C * 4 ^ k = 4 ^ i * (4 * (4 ^ (k - i - 1) * C)) := by
    rw [← Nat.mul_assoc, ← Nat.mul_assoc, ← Nat.pow_succ, ← Nat.pow_add, Nat.mul_comm C]
    congr 2
    omega
  rw [e, Nat.mul_add_div (Nat.pow_pos (by omega)), Nat.mul_add_mod]
theorem goes_in (hw : CW S M n mk) (kx : Int32 → Int32 → Int32 → Int32 → Int32 → Int32 → Option Int32) (x1 x2 x4 : Int32) {f e C : Nat} (hf : f < 16) (he : e < 8) (g : Nat → Bool)
    (hg : ∀ c, c < 4 → fX0_canGo N S 10 x4 (nI f &&& (((1 : Int32) <<< (nI c &&& 31)) ^^^ (-1))) = some (if g c = true then 1 else 0)) (hC : C < 4) (hp : (f.testBit C && (mk C).testBit e && g C) = true) (hno : ∀ i, i < C → (f.testBit i && (mk i).testBit e && g i) = false) : ∀ (k c m : Nat), c + k = C → k < m →
    fX0_goes_84 N S kx m x1 x2 (nI f) x4 (nI c) (nI e) = kx x1 x2 (nI f) x4 (nI C) (nI e) := by
  obtain ⟨n1, n2, n3, n4, hm⟩ := hw
  intro k
  induction k with
  | zero =>
    intro c m hc hk
    obtain ⟨m, rfl⟩ : ∃ i, m = i + 1 := ⟨m - 1, by omega⟩
    have : c = C := by omega
    subst this
    obtain ⟨a1, a2, a, fs, a3, a4, a5⟩ := hm c (by omega)
    rw [Bool.and_eq_true, Bool.and_eq_true] at hp
    obtain ⟨⟨y1, y2⟩, y3⟩ := hp
    rw [fX0_goes_84]
    unfold fX1_canCount
    simp only [bit_0 (show f < 2 ^ 31 by omega) (show c < 31 by omega), y1, a3, a4, a5, Option.bind_some, bit_n1 (show mk c < 2 ^ 31 by omega) (show e < 31 by omega), y2]
    rw [if_neg (by decide), if_neg (by decide), Option.bind_some, if_neg (by decide), hg c hC, Option.bind_some, if_pos y3, if_pos (by decide)]
  | succ k ih =>
    intro c m hc hk
    obtain ⟨m, rfl⟩ : ∃ i, m = i + 1 := ⟨m - 1, by omega⟩
    obtain ⟨a1, a2, a, fs, a3, a4, a5⟩ := hm c (by omega)
    have hpc := hno c (by omega)
    have next := ih (c + 1) m (by omega) (by omega)
    rw [fX0_goes_84]
    unfold fX1_canCount fX0_goes_125
    simp only [bit_0 (show f < 2 ^ 31 by omega) (show c < 31 by omega), a3, a4, a5, Option.bind_some, bit_n1 (show mk c < 2 ^ 31 by omega) (show e < 31 by omega), ec_lt, nI_1, hg c (show c < 4 by omega)]
    cases b1 : f.testBit c with
    | false => rw [if_pos rfl]; exact next
    | true =>
      rw [if_neg (by decide)]
      cases b2 : (mk c).testBit e with
      | false => rw [if_pos rfl, Option.bind_some, if_pos rfl]; exact next
      | true =>
        rw [if_neg (by decide), Option.bind_some, if_neg (by decide)]
        rw [b1, b2] at hpc
        have hpc : g c = false := by simpa using hpc
        rw [hpc, if_neg (by decide)]
        exact next
theorem goes_out (hw : CW S M n mk) (hN : 300 ≤ N) (kx : Int32 → Option Int32) {s t : Nat} (hs : s < 256) (ht : t < 8) (hb0 : s.testBit t = true) : ∀ (j m u : Nat) (x5 : Int32), j ≤ 8 → j < m → u < 16 → 8 - j ≤ t → cang n mk s j u = true →
    fX0_goes_54 N S kx m (nI s) (nI t) (nI (frs n u)) (nI (hib s j)) x5 (nI (8 - j)) = kx (nI (lw n mk s j u / 4 ^ ctb s (7 - t) % 4)) := by
  have n2 : n ≤ 4 := hw.2.1
  intro j
  induction j with
  | zero => intro m u x5 hj hk hu h8; omega
  | succ j ih =>
    intro m u x5 hj hk hu h8 hc
    obtain ⟨m, rfl⟩ : ∃ i, m = i + 1 := ⟨m - 1, by omega⟩
    have e1 : nI (8 - (j + 1)) = nI (7 - j) := by congr 1; omega
    have e2 : nI (7 - j) + 1 = nI (8 - j) := by rw [nI_1]; congr 1; omega
    rw [fX0_goes_54, e1, if_neg (nI_nlt (by omega) (by omega))]
    simp only [bit_n1 (show s < 2 ^ 31 by omega) (show 7 - j < 31 by omega)]
    unfold fX0_goes_140
    simp only [ec_lt]
    cases hb : s.testBit (7 - j) with
    | false =>
      have hne : t ≠ 7 - j := fun h => by rw [h, hb] at hb0; exact absurd hb0 (by decide)
      rw [if_pos rfl, e2, hib_skip s hs j (by omega) hb, ih m u x5 (by omega) (by omega) hu (by omega) (by rw [cang, hb] at hc; exact hc)]
      rw [lw, hb]; rfl
    | true =>
      obtain ⟨-, -, -, h4⟩ := hib_low s hs j (by omega) hb
      rw [if_neg (by decide), h4]
      rw [cang, hb, if_pos rfl] at hc
      rw [lw, hb, if_pos rfl]
      generalize hp : (fun c => (frs n u).testBit c && (mk c).testBit (7 - j) && cang n mk s j (u ||| 2 ^ c)) = p at *
      have hp' : ∀ c, p c = ((frs n u).testBit c && (mk c).testBit (7 - j) && cang n mk s j (u ||| 2 ^ c)) := fun c => by rw [← hp]
      have hC := of_decide_eq_true hc
      have hy := fa_first_yes p n hC
      have hno := fa_first_no p n
      generalize fa_first p n = C at *
      rw [hp'] at hy
      obtain ⟨f1, f2, f3, f4, -⟩ := frs_bit n (by omega) u hu C (by omega)
      have hL := goes_in (N := N) hw (fun x1_12 x2_13 x3_14 x4_15 x5_16 x6_17 => fX0_goes_54 N S kx m x1_12 x2_13 (x3_14 &&& (((1 : Int32) <<< (x5_16 &&& 31)) ^^^ (-1 : Int32))) x4_15 x5_16 (x6_17 + (1 : Int32))) (nI s) (nI t) (nI (hib s j)) (f := frs n u) (e := 7 - j) (C := C) f2 (by omega) (fun c => cang n mk s j (u ||| 2 ^ c)) (fun c hc4 => by
        obtain ⟨-, -, g1, g2, -⟩ := frs_bit n (by omega) u hu c hc4
        rw [g2]
        exact x_canGo hw (by omega) hs j (by omega) _ 10 g1 (by have := ctb_le s j; omega)) (by omega) hy (fun i hi => by rw [← hp']; exact hno i hi) C 0 N (by omega) (by omega)
      rw [show (nI 0 : Int32) = 0 from rfl] at hL
      rw [hL, f4, e2]
      rw [Bool.and_eq_true] at hy
      have i1 := ((lw_spec (mk := mk) (s := s) n2 j _ f3).1 hy.2).1
      by_cases ht7 : t = 7 - j
      · obtain ⟨m, rfl⟩ : ∃ i, m = i + 1 := ⟨m - 1, by omega⟩
        rw [fX0_goes_54, if_pos (nI_lt (by omega) (by omega))]
        congr 2
        rw [show 7 - t = j by omega, Nat.mul_comm C, Nat.mul_add_div (Nat.pow_pos (by omega)), Nat.div_eq_of_lt i1, Nat.add_zero, Nat.mod_eq_of_lt (by omega)]
      · rw [ih m _ _ (by omega) (by omega) f3 (by omega) hy.2]
        congr 2
        have hlt : ctb s (7 - t) < ctb s j := by
          have := ctb_mono s (i := (7 - t) + 1) (j := j) (by omega)
          rw [ctb, show 7 - (7 - t) = t by omega, hb0, if_pos rfl] at this
          omega
        rw [dig_add hlt]
end
theorem ob_goes {N : Nat} (hN : 300 ≤ N) : OB_goes N INV := by
  intro S M x1 x2 hI
  obtain ⟨n, mk, hw⟩ := hI.cw
  have n2 : n ≤ 4 := hw.2.1
  unfold fX0_goes fX3_goes fX0_goes_22 fX3_goes_22
  rw [x_isSet, m_areEvents, x_isEvent, m_isEvent]
  simp only [Option.bind_some, z01]
  by_cases h1 : ¬ inB x1.toInt64 0 255
  · rw [if_pos h1, if_pos h1]; exact ⟨_, rfl, rfl⟩
  rw [if_neg h1, if_neg h1]
  by_cases h2 : ¬ inB x2.toInt64 0 7
  · rw [if_pos h2, if_pos h2]; exact ⟨_, rfl, rfl⟩
  rw [if_neg h2, if_neg h2]
  obtain ⟨s, -, hs, rfl⟩ := (in_lit 0 255 (by decide) (by decide)).mp (Decidable.not_not.mp h1)
  obtain ⟨t, -, ht, rfl⟩ := (in_lit 0 7 (by decide) (by decide)).mp (Decidable.not_not.mp h2)
  obtain ⟨d1, d2⟩ := cnt_hi s (by omega) t (by omega)
  rw [x_go hw (by omega) (by omega), m_way hw hN (by omega), Option.bind_some, Option.bind_some, d1, m_cnt (by omega) (Nat.lt_of_le_of_lt (Nat.div_le_self _ _) (by omega)), d2, Option.bind_some]
  simp only [bit_0 (show s < 2 ^ 31 by omega) (show t < 31 by omega)]
  cases hb : s.testBit t with
  | false => rw [if_neg (fun h => h rfl), if_neg (fun h => h rfl)]; exact ⟨_, rfl, rfl⟩
  | true =>
    rw [if_pos (show ¬ (true = false) by decide), if_pos (show ¬ (true = false) by decide)]
    by_cases hc : ctb s 8 ≤ n ∧ cang n mk s 8 0 = true
    · have hl := lw_lt hw (by omega) hc
      rw [if_pos hc, if_pos hc, if_pos (by decide), if_pos (nI_nm4 (by omega)), dig (by omega) (by have := ctb_le s (7 - t); omega)]
      have hL := goes_out (N := N) hw hN (fun x5_19 => some x5_19) (s := s) (t := t) (by omega) (by omega) hb 8 N 0 (-4) (by omega) (by omega) (by omega) (by omega) hc.2
      rw [(hib_0 s (by omega)).2, show nI (8 - 8) = (0 : Int32) from rfl] at hL
      simp only [ec_lt]
      rw [hw.2.2.1, frs_all n (by omega), hL]
      exact ⟨_, rfl, rfl⟩
    · rw [if_neg hc, if_neg hc, if_neg (fun h => h rfl), if_neg (fun h => h rfl)]
      exact ⟨_, rfl, rfl⟩
