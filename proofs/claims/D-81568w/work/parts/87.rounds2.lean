/-! ROUNDS, second half -/
set_option maxRecDepth 100000
section
variable {N : Nat} {n : Nat} {mk : Nat → Nat}
theorem m_inR (kx : sM → Int32 → Int32 → Option sM) (x1 : Int32) {s : Nat} (hs : s < 256) (a : Nat → Nat) (ha : ∀ i, i < s → a i ≤ 99) : ∀ (k x m v : Nat) (S : sM), x + k = s + 1 → k < m → (∀ i, i < 256 → S.2.2 40 i = nI (fit n mk i)) → (∀ i, i < s → S.2.2 39 i = nI (a i)) → S.2.2 39 s = nI v → v ≤ 99 → (v = 99 ∨ ∃ y, cand n mk s y ∧ v = 1 + a (s ^^^ y)) → (∀ y, y < x → cand n mk s y → v ≤ 1 + a (s ^^^ y)) →
    ∃ S' v', fX3_findRounds_68 N kx m S x1 (nI s) (nI (lowb s)) (nI x) = kx S' x1 (nI s) ∧ mFr S S' ∧ (∀ i, i < 256 → S'.2.2 40 i = nI (fit n mk i)) ∧ (∀ i, i < s → S'.2.2 39 i = nI (a i)) ∧ S'.2.2 39 s = nI v' ∧ v' ≤ 99 ∧ (v' = 99 ∨ ∃ y, cand n mk s y ∧ v' = 1 + a (s ^^^ y)) ∧ (∀ y, cand n mk s y → v' ≤ 1 + a (s ^^^ y)) := by
  intro k
  induction k with
  | zero =>
    intro x m v S hx hm hf hA hv hv9 hex hall
    obtain ⟨m, rfl⟩ : ∃ i, m = i + 1 := ⟨m - 1, by omega⟩
    have : x = s + 1 := by omega
    subst this
    rw [fX3_findRounds_68, if_pos (nI_lt (by omega) (by omega))]
    exact ⟨S, v, rfl, mFr.refl S, hf, hA, hv, hv9, hex, fun y hy => hall y (by have := (cand_lt hs hy).2.2.1; omega) hy⟩
  | succ k ih =>
    intro x m v S hx hm hf hA hv hv9 hex hall
    obtain ⟨m, rfl⟩ : ∃ i, m = i + 1 := ⟨m - 1, by omega⟩
    have step : ∀ (v : Nat) (S1 : sM), mFr S S1 → (∀ i, i < 256 → S1.2.2 40 i = nI (fit n mk i)) → (∀ i, i < s → S1.2.2 39 i = nI (a i)) → S1.2.2 39 s = nI v → v ≤ 99 → (v = 99 ∨ ∃ y, cand n mk s y ∧ v = 1 + a (s ^^^ y)) → (∀ y, y ≤ x → cand n mk s y → v ≤ 1 + a (s ^^^ y)) →
      ∃ S' v', fX3_findRounds_68 N kx m S1 x1 (nI s) (nI (lowb s)) (nI (x + 1)) = kx S' x1 (nI s) ∧ mFr S S' ∧ (∀ i, i < 256 → S'.2.2 40 i = nI (fit n mk i)) ∧ (∀ i, i < s → S'.2.2 39 i = nI (a i)) ∧ S'.2.2 39 s = nI v' ∧ v' ≤ 99 ∧ (v' = 99 ∨ ∃ y, cand n mk s y ∧ v' = 1 + a (s ^^^ y)) ∧ (∀ y, cand n mk s y → v' ≤ 1 + a (s ^^^ y)) := by
      intro v S1 hF hf hA hv hv9 hex hall
      obtain ⟨S', v', g1, g2, g3⟩ := ih (x + 1) m v S1 (by omega) (by omega) hf hA hv hv9 hex (fun y hy hc => hall y (by omega) hc)
      exact ⟨S', v', g1, hF.trans g2, g3⟩
    have same : ¬ cand n mk s x → ∃ S' v', fX3_findRounds_68 N kx m (mA S 39 s (nI v)) x1 (nI s) (nI (lowb s)) (nI (x + 1)) = kx S' x1 (nI s) ∧ mFr S S' ∧ (∀ i, i < 256 → S'.2.2 40 i = nI (fit n mk i)) ∧ (∀ i, i < s → S'.2.2 39 i = nI (a i)) ∧ S'.2.2 39 s = nI v' ∧ v' ≤ 99 ∧ (v' = 99 ∨ ∃ y, cand n mk s y ∧ v' = 1 + a (s ^^^ y)) ∧ (∀ y, cand n mk s y → v' ≤ 1 + a (s ^^^ y)) := fun hn =>
      step v _ (mFr.sA S 39 s _ (by decide)) (fun i hi => by rw [mA_k _ _ _ (by decide)]; exact hf i hi) (fun i hi => by rw [mA_ne _ _ _ (by omega)]; exact hA i hi) (mA_eq _ _ _ _) hv9 hex (fun y hy hc => hall y (by
        rcases Nat.lt_or_ge y x with h | h
        · exact h
        · have : y = x := by omega
          rw [this] at hc
          exact absurd hc hn) hc)
    rw [fX3_findRounds_68, if_neg (nI_nlt (by omega) (by omega))]
    unfold fX3_findRounds_104 fX3_findRounds_105 fX3_findRounds_155 fX3_findRounds_161
    simp only [ec_lt, nI_1, sub_I (show x < 256 by omega), low_I (show x < 256 by omega)]
    rw [ag_at hs (by decide), Option.bind_some, hv, as_at hs (by decide), Option.bind_some]
    by_cases hsub : x &&& s = x
    · rw [if_neg (fun h => h hsub)]
      by_cases hl : x &&& lowb s = 0
      · rw [if_pos hl, if_pos trivial]
        exact same (fun hc => hc.2.1 hl)
      rw [if_neg hl, ag_at (by omega) (by decide), Option.bind_some, hf x (by omega)]
      rcases fit_01 (n := n) (mk := mk) x with h01 | h01
      · rw [h01, if_pos (show nI 0 = 0 from rfl), if_pos trivial]
        exact same (fun hc => by have := hc.2.2; omega)
      rw [h01, if_neg (show ¬ nI 1 = 0 by decide), if_neg (by decide)]
      have hc : cand n mk s x := ⟨hsub, hl, h01⟩
      obtain ⟨-, -, -, -, c1, -⟩ := cand_lt hs hc
      have := ha _ c1
      rw [rest_I hs hsub, ag_at (by omega) (by decide), Option.bind_some, Option.bind_some, hA _ c1, nI_1]
      simp only [nI_leI (show v < 2 ^ 31 by omega) (show a (s ^^^ x) + 1 < 2 ^ 31 by omega)]
      by_cases hle : v ≤ a (s ^^^ x) + 1
      · rw [if_pos hle]
        refine step v _ (mFr.sA S 39 s _ (by decide)) (fun i hi => by rw [mA_k _ _ _ (by decide)]; exact hf i hi) (fun i hi => by rw [mA_ne _ _ _ (by omega)]; exact hA i hi) (mA_eq _ _ _ _) hv9 hex (fun y hy hcy => ?_)
        rcases Nat.lt_or_ge y x with h | h
        · exact hall y h hcy
        · have : y = x := by omega
          rw [this]; omega
      · rw [if_neg hle, Option.bind_some, nI_1, as_at hs (by decide), Option.bind_some]
        refine step (a (s ^^^ x) + 1) _ (mFr.sA S 39 s _ (by decide)) (fun i hi => by rw [mA_k _ _ _ (by decide)]; exact hf i hi) (fun i hi => by rw [mA_ne _ _ _ (by omega)]; exact hA i hi) (mA_eq _ _ _ _) (by omega) (Or.inr ⟨x, hc, by omega⟩) (fun y hy hcy => ?_)
        rcases Nat.lt_or_ge y x with h | h
        · have := hall y h hcy
          omega
        · have : y = x := by omega
          rw [this]; omega
    · rw [if_pos hsub, if_pos trivial]
      exact same (fun hc => hsub hc.1)
theorem m_outR (hN : 300 ≤ N) (kx : sM → Int32 → Option sM) (x1 : Int32) : ∀ (k s m : Nat) (S : sM) (a : Nat → Nat), s + k = 256 → k < m → 0 < s → (∀ i, i < 256 → S.2.2 40 i = nI (fit n mk i)) → (∀ i, i < s → S.2.2 39 i = nI (a i) ∧ okR n mk 99 a i) → ∃ S' a', fX3_findRounds_45 N kx m S x1 (nI s) = kx S' x1 ∧ mFr S S' ∧ (∀ i, i < 256 → S'.2.2 40 i = nI (fit n mk i)) ∧ ∀ i, i < 256 → S'.2.2 39 i = nI (a' i) ∧ okR n mk 99 a' i := by
  intro k
  induction k with
  | zero =>
    intro s m S a hs hm h0 hf hA
    obtain ⟨m, rfl⟩ : ∃ i, m = i + 1 := ⟨m - 1, by omega⟩
    have : s = 256 := by omega
    subst this
    rw [fX3_findRounds_45, if_pos (by decide)]
    exact ⟨S, a, rfl, mFr.refl S, hf, hA⟩
  | succ k ih =>
    intro s m S a hs hm h0 hf hA
    obtain ⟨m, rfl⟩ : ∃ i, m = i + 1 := ⟨m - 1, by omega⟩
    have hge : ¬ (256 : Int32) ≤ nI s := nI_ge (b := 256) (by omega) (by decide)
    rw [fX3_findRounds_45, if_neg hge]
    simp only [ec_lt]
    rw [(low_at s (by omega)).1, as_at (by omega) (by decide), Option.bind_some]
    obtain ⟨S', v', e1, e2, e3, e4, e5, e6, e7, e8⟩ := m_inR (N := N) (n := n) (mk := mk) (fun S_14 x1_15 x2_16 => fX3_findRounds_45 N kx m S_14 x1_15 (x2_16 + (1 : Int32))) x1 (s := s) (by omega) a (fun i hi => (hA i hi).2.1) s 1 N 99 (mA S 39 s 99) (by omega) (by omega) (fun i hi => by rw [mA_k _ _ _ (by decide)]; exact hf i hi) (fun i hi => by rw [mA_ne _ _ _ (by omega)]; exact (hA i hi).1) (mA_eq _ _ _ _) (Nat.le_refl _) (Or.inl rfl) (fun y hy hc => by have := (cand_lt (show s < 256 by omega) hc).2.1; omega)
    rw [show (nI 1 : Int32) = 1 from rfl] at e1
    rw [e1, nI_1]
    have key : ∀ i, i < s + 1 → S'.2.2 39 i = nI ((fun j => if j = s then v' else a j) i) ∧ okR n mk 99 (fun j => if j = s then v' else a j) i := by
      intro i hi
      rcases Nat.lt_or_ge i s with h | h
      · refine ⟨by dsimp only; rw [if_neg (by omega)]; exact e4 i h, (hA i h).2.cong (by omega) (fun j hj => if_neg (by omega))⟩
      · have : i = s := by omega
        subst this
        refine ⟨by dsimp only; rw [if_pos rfl]; exact e5, ?_, fun hz => absurd hz (by omega), fun _ => ⟨fun x hx => ?_, ?_⟩⟩
        · dsimp only; rw [if_pos rfl]; exact e6
        · have := (cand_lt (show i < 256 by omega) hx).2.2.2.2.1
          dsimp only; rw [if_pos rfl, if_neg (by omega)]; exact e8 x hx
        · dsimp only
          rw [if_pos rfl]
          rcases e7 with e7 | ⟨x, hx, e7⟩
          · exact Or.inl e7
          · have := (cand_lt (show i < 256 by omega) hx).2.2.2.2.1
            exact Or.inr ⟨x, hx, by rw [if_neg (by omega)]; exact e7⟩
    obtain ⟨S2, a2, g1, g2, g3⟩ := ih (s + 1) m S' _ (by omega) (by omega) (by omega) e3 key
    exact ⟨S2, a2, g1, ((mFr.sA S 39 s 99 (by decide)).trans e2).trans g2, g3⟩
/-- the first fitting part of a set -/
theorem x_find (kx : sX → Int32 → Int32 → Option (Int32 × sX)) {s X : Nat} (hs : s < 256) (a : Nat → Nat) (S : sX) (ha : ∀ i, i < 256 → a i ≤ 99) (hf : ∀ i, i < 256 → S.2.1 14 i = nI (fit n mk i)) (hA : ∀ i, i < 256 → S.2.1 15 i = nI (a i)) (hX : cand n mk s X ∧ 1 + a (s ^^^ X) = a s) : ∀ (k y m : Nat), y + k = X → k < m → (∀ z, y ≤ z → z < X → ¬ (cand n mk s z ∧ 1 + a (s ^^^ z) = a s)) → fX0_layRounds_152 N kx m S (nI s) (nI y) = kx S (nI s) (nI X) := by
  have hXs := (cand_lt hs hX.1).2.2.1
  have hsa := ha s hs
  have one : ∀ (y m : Nat), y ≤ X → fX0_layRounds_152 N kx (m + 1) S (nI s) (nI y) = if cand n mk s y ∧ 1 + a (s ^^^ y) = a s then kx S (nI s) (nI y) else fX0_layRounds_152 N kx m S (nI s) (nI (y + 1)) := by
    intro y m hy
    rw [fX0_layRounds_152]
    unfold fX0_layRounds_199
    simp only [ec_lt, nI_1, sub_I (show y < 256 by omega)]
    rw [Int32.and_assoc, (low_at s hs).1]
    simp only [low_I (show y < 256 by omega)]
    by_cases hsub : y &&& s = y
    · rw [if_neg (fun h => h hsub)]
      by_cases hl : y &&& lowb s = 0
      · rw [if_pos hl, if_neg (fun h => h.1.2.1 hl)]
      rw [if_neg hl, ag_at (by omega) (by decide), Option.bind_some, hf y (by omega)]
      rcases fit_01 (n := n) (mk := mk) y with h01 | h01
      · rw [if_pos (show nI (fit n mk y) = 0 by rw [h01]; rfl), if_neg (fun h => by have := h.1.2.2; omega)]
      rw [if_neg (show ¬ nI (fit n mk y) = 0 by rw [h01]; decide)]
      have hc : cand n mk s y := ⟨hsub, hl, h01⟩
      obtain ⟨-, -, -, -, c1, -⟩ := cand_lt hs hc
      have := ha _ (show s ^^^ y < 256 by omega)
      rw [rest_I hs hsub, ag_at (by omega) (by decide), Option.bind_some, ag_at hs (by decide), Option.bind_some, hA _ (by omega), hA _ hs, show (1 : Int32) + nI (a (s ^^^ y)) = nI (1 + a (s ^^^ y)) from nI_add 1 _]
      simp only [nI_eq (show 1 + a (s ^^^ y) < 2 ^ 31 by omega) (show a s < 2 ^ 31 by omega)]
      by_cases h1 : 1 + a (s ^^^ y) = a s
      · rw [if_pos h1, if_pos ⟨hc, h1⟩]
      · rw [if_neg h1, if_neg (fun h => h1 h.2)]
    · rw [if_pos hsub, if_neg (fun h => hsub h.1.1)]
  intro k
  induction k with
  | zero =>
    intro y m hy hm hno
    obtain ⟨m, rfl⟩ : ∃ i, m = i + 1 := ⟨m - 1, by omega⟩
    have : y = X := by omega
    rw [this, one X m (Nat.le_refl _), if_pos hX]
  | succ k ih =>
    intro y m hy hm hno
    obtain ⟨m, rfl⟩ : ∃ i, m = i + 1 := ⟨m - 1, by omega⟩
    rw [one y m (by omega), if_neg (hno y (Nat.le_refl _) (by omega))]
    exact ih (y + 1) m (by omega) (by omega) (fun z h1 h2 => hno z (by omega) h2)
theorem m_find (kx : sM → Int32 → Int32 → Option sM) {s X : Nat} (hs : s < 256) (a : Nat → Nat) (S : sM) (ha : ∀ i, i < 256 → a i ≤ 99) (hf : ∀ i, i < 256 → S.2.2 40 i = nI (fit n mk i)) (hA : ∀ i, i < 256 → S.2.2 39 i = nI (a i)) (hX : cand n mk s X ∧ 1 + a (s ^^^ X) = a s) : ∀ (k y m : Nat), y + k = X → k < m → (∀ z, y ≤ z → z < X → ¬ (cand n mk s z ∧ 1 + a (s ^^^ z) = a s)) → fX3_findRounds_216 N kx m S (nI s) (nI y) = kx S (nI s) (nI X) := by
  have hXs := (cand_lt hs hX.1).2.2.1
  have hsa := ha s hs
  have one : ∀ (y m : Nat), y ≤ X → fX3_findRounds_216 N kx (m + 1) S (nI s) (nI y) = if cand n mk s y ∧ 1 + a (s ^^^ y) = a s then kx S (nI s) (nI y) else fX3_findRounds_216 N kx m S (nI s) (nI (y + 1)) := by
    intro y m hy
    rw [fX3_findRounds_216]
    unfold fX3_findRounds_263
    simp only [ec_lt, nI_1, sub_I (show y < 256 by omega)]
    rw [(low_at s hs).1]
    simp only [low_I (show y < 256 by omega)]
    by_cases hsub : y &&& s = y
    · rw [if_neg (fun h => h hsub)]
      by_cases hl : y &&& lowb s = 0
      · rw [if_pos hl, if_neg (fun h => h.1.2.1 hl)]
      rw [if_neg hl, ag_at (by omega) (by decide), Option.bind_some, hf y (by omega)]
      rcases fit_01 (n := n) (mk := mk) y with h01 | h01
      · rw [if_pos (show nI (fit n mk y) = 0 by rw [h01]; rfl), if_neg (fun h => by have := h.1.2.2; omega)]
      rw [if_neg (show ¬ nI (fit n mk y) = 0 by rw [h01]; decide)]
      have hc : cand n mk s y := ⟨hsub, hl, h01⟩
      obtain ⟨-, -, -, -, c1, -⟩ := cand_lt hs hc
      have := ha _ (show s ^^^ y < 256 by omega)
      rw [rest_I hs hsub, ag_at (by omega) (by decide), Option.bind_some, ag_at hs (by decide), Option.bind_some, hA _ (by omega), hA _ hs, nI_1, Nat.add_comm _ 1]
      simp only [nI_eq (show 1 + a (s ^^^ y) < 2 ^ 31 by omega) (show a s < 2 ^ 31 by omega)]
      by_cases h1 : 1 + a (s ^^^ y) = a s
      · rw [if_pos h1, if_pos ⟨hc, h1⟩]
      · rw [if_neg h1, if_neg (fun h => h1 h.2)]
    · rw [if_pos hsub, if_neg (fun h => hsub h.1.1)]
  intro k
  induction k with
  | zero =>
    intro y m hy hm hno
    obtain ⟨m, rfl⟩ : ∃ i, m = i + 1 := ⟨m - 1, by omega⟩
    have : y = X := by omega
    rw [this, one X m (Nat.le_refl _), if_pos hX]
  | succ k ih =>
    intro y m hy hm hno
    obtain ⟨m, rfl⟩ : ∃ i, m = i + 1 := ⟨m - 1, by omega⟩
    rw [one y m (by omega), if_neg (hno y (Nat.le_refl _) (by omega))]
    exact ih (y + 1) m (by omega) (by omega) (fun z h1 h2 => hno z (by omega) h2)
/-- the rounds listed, on both sides -/
theorem rl_both (hN : 300 ≤ N) (kx : sX → Int32 → Option (Int32 × sX)) {a b : Nat → Nat} (ha : ∀ i, i < 256 → okR n mk 9 a i) (hb : ∀ i, i < 256 → okR n mk 99 b i) : ∀ (s i m m' : Nat) (S : sX) (M : sM), s < 256 → a s ≤ 8 → s < m → s < m' → (∀ i, i < 256 → S.2.1 14 i = nI (fit n mk i)) → (∀ i, i < 256 → M.2.2 40 i = nI (fit n mk i)) → (∀ i, i < 256 → S.2.1 15 i = nI (a i)) → (∀ i, i < 256 → M.2.2 39 i = nI (b i)) → S.1 17 = nI i → M.1 41 = nI i → i + a s ≤ 8 → (∀ j, j < i → ∃ x, x < 256 ∧ S.2.1 16 j = nI x ∧ M.2.2 42 j = nI x) →
    ∃ S' M', fX0_layRounds_132 N kx m S (nI s) = kx S' 0 ∧ fX3_findRounds_210 N m' M (nI s) = some M' ∧ xFr S S' ∧ mFr M M' ∧ S'.1 17 = nI (i + a s) ∧ M'.1 41 = nI (i + a s) ∧ (∀ j, j < i + a s → ∃ x, x < 256 ∧ S'.2.1 16 j = nI x ∧ M'.2.2 42 j = nI x) ∧ (∀ j, j < i → S'.2.1 16 j = S.2.1 16 j) ∧ ∀ e, s.testBit e = true → ∃ j x, j < i + a s ∧ x < 256 ∧ S'.2.1 16 j = nI x ∧ x.testBit e = true := by
  intro s
  induction s using Nat.strongRecOn with
  | _ s ih =>
    intro i m m' S M hs h8 hm hm' f1 f2 A1 A2 c1 c2 hi hl
    obtain ⟨m, rfl⟩ : ∃ i, m = i + 1 := ⟨m - 1, by omega⟩
    obtain ⟨m', rfl⟩ : ∃ i, m' = i + 1 := ⟨m' - 1, by omega⟩
    rcases Nat.eq_zero_or_pos s with h0 | h0
    · subst h0
      have e0 := (ha 0 (by omega)).2.1 rfl
      rw [fX0_layRounds_132, fX3_findRounds_210, if_pos (show nI 0 = 0 from rfl), if_pos (show nI 0 = 0 from rfl), e0, Nat.add_zero]
      exact ⟨S, M, rfl, rfl, xFr.refl S, mFr.refl M, c1, c2, hl, fun _ _ => rfl, fun e he => absurd he (by rw [Nat.zero_testBit]; decide)⟩
    obtain ⟨a1, a2, a3⟩ := ha s hs
    obtain ⟨a4, a5⟩ := a3 h0
    have ha99 : ∀ i, i < 256 → a i ≤ 99 := fun i hi => by have := (ha i hi).1; omega
    have hb99 : ∀ i, i < 256 → b i ≤ 99 := fun i hi => (hb i hi).1
    have hex : ∃ X, cand n mk s X ∧ 1 + a (s ^^^ X) = a s := by
      rcases a5 with a5 | ⟨x, hx, a5⟩
      · omega
      · exact ⟨x, hx, a5.symm⟩
    obtain ⟨X, hX, hno⟩ := pk_least _ hex
    obtain ⟨d1, d2, d3, d4, d5, d6⟩ := cand_lt hs hX.1
    have hsb : a s = b s := by
      rcases ab_rel ha hb s hs with h | h
      · exact h.1
      · omega
    have same : ∀ z, cand n mk s z → (1 + a (s ^^^ z) = a s ↔ 1 + b (s ^^^ z) = b s) := fun z hz => by
      have := (cand_lt hs hz).2.2.2.2.1
      rcases ab_rel ha hb (s ^^^ z) (by omega) with h | h
      · rw [h.1, hsb]
      · omega
    have X1 := x_find (N := N) (fun S_27 x2_28 x3_29 => (ex_as S_27 16 8 (S_27.1 17) x3_29).bind fun S_30 => fX0_layRounds_132 N kx m (xI S_30 17 ((S_30.1 17) + (1 : Int32))) (x2_28 &&& (x3_29 ^^^ (-1 : Int32)))) hs a S ha99 f1 A1 hX (X - lowb s) (lowb s) N (by omega) (by omega) (fun z h1 h2 => hno z h2)
    have X2 := m_find (N := N) (fun S_28 x2_29 x3_30 => (ec_as S_28 42 8 (S_28.1 41) x3_30).bind fun S_31 => fX3_findRounds_210 N m' (mI S_31 41 ((S_31.1 41) + (1 : Int32))) (x2_29 &&& (x3_30 ^^^ (-1 : Int32)))) hs b M hb99 f2 A2 ⟨hX.1, (same X hX.1).mp hX.2⟩ (X - 1) 1 N (by omega) (by omega) (fun z h1 h2 hc => hno z h2 ⟨hc.1, (same z hc.1).mpr hc.2⟩)
    rw [fX0_layRounds_132, fX3_findRounds_210, if_neg (nI_ne0 h0 (by omega)), if_neg (nI_ne0 h0 (by omega)), ag_at hs (by decide), Option.bind_some, A1 s hs]
    have h8n : ¬ (8 : Int32) < nI (a s) := nI_nlt (a := 8) h8 (by decide)
    rw [if_neg h8n]
    simp only [ec_lt]
    rw [(low_at s hs).1, X1]
    rw [show (nI 1 : Int32) = 1 from rfl] at X2
    rw [X2, c1, c2, xas_at (by omega) (by decide), as_at (by omega) (by decide), Option.bind_some, Option.bind_some, rest_I hs hX.1.1, show (xA S 16 i (nI X)).1 17 = nI i from c1, show (mA M 42 i (nI X)).1 41 = nI i from c2, nI_1]
    obtain ⟨S', M', g1, g2, g3, g4, g5, g6, g7, g8, g9⟩ := ih (s ^^^ X) d5 (i + 1) m m' (xI (xA S 16 i (nI X)) 17 (nI (i + 1))) (mI (mA M 42 i (nI X)) 41 (nI (i + 1))) (by omega) (by omega) (by omega) (by omega)
      (fun j hj => by show (xA S 16 i (nI X)).2.1 14 j = _; rw [xA_k _ _ _ (by decide)]; exact f1 j hj)
      (fun j hj => by show (mA M 42 i (nI X)).2.2 40 j = _; rw [mA_k _ _ _ (by decide)]; exact f2 j hj)
      (fun j hj => by show (xA S 16 i (nI X)).2.1 15 j = _; rw [xA_k _ _ _ (by decide)]; exact A1 j hj)
      (fun j hj => by show (mA M 42 i (nI X)).2.2 39 j = _; rw [mA_k _ _ _ (by decide)]; exact A2 j hj)
      (xI_eq _ _ _) (mI_eq _ _ _) (by omega) (fun j hj => by
        rcases Nat.lt_or_ge j i with h | h
        · obtain ⟨x, x1, x2, x3⟩ := hl j h
          refine ⟨x, x1, ?_, ?_⟩
          · show (xA S 16 i (nI X)).2.1 16 j = _
            rw [xA_ne _ _ _ (by omega)]; exact x2
          · show (mA M 42 i (nI X)).2.2 42 j = _
            rw [mA_ne _ _ _ (by omega)]; exact x3
        · have : j = i := by omega
          subst this
          refine ⟨X, by omega, ?_, ?_⟩
          · show (xA S 16 j (nI X)).2.1 16 j = _
            rw [xA_eq]
          · show (mA M 42 j (nI X)).2.2 42 j = _
            rw [mA_eq])
    have e1 : i + 1 + a (s ^^^ X) = i + a s := by have := hX.2; omega
    rw [e1] at g5 g6 g7 g9
    refine ⟨S', M', g1, g2, ((xFr.sA S 16 i _ (by decide)).trans (xFr.sI _ 17 _ (by decide))).trans g3, ((mFr.sA M 42 i _ (by decide)).trans (mFr.sI _ 41 _ (by decide))).trans g4, g5, g6, g7, fun j hj => ?_, fun e he => ?_⟩
    · rw [g8 j (by omega)]
      show (xA S 16 i (nI X)).2.1 16 j = _
      rw [xA_ne _ _ _ (by omega)]
    · cases hb : X.testBit e with
      | true =>
        refine ⟨i, X, by have := hX.2; omega, by omega, ?_, hb⟩
        rw [g8 i (by omega)]
        show (xA S 16 i (nI X)).2.1 16 i = _
        rw [xA_eq]
      | false => exact g9 e (by rw [xor_sub hX.1.1, he, hb]; rfl)
end
/-- rounds laid on both sides -/
def RL (s : Nat) (S : sX) (M : sM) (v : Int32) : Prop := (v = 0 ∧ M.1 41 = -4) ∨ (v = 1 ∧ ∃ r, r ≤ 8 ∧ S.1 17 = nI r ∧ M.1 41 = nI r ∧ (∀ j, j < r → ∃ x, x < 256 ∧ S.2.1 16 j = nI x ∧ M.2.2 42 j = nI x) ∧ ∀ e, s.testBit e = true → ∃ j x, j < r ∧ x < 256 ∧ S.2.1 16 j = nI x ∧ x.testBit e = true)
theorem lay_rounds {N : Nat} (hN : 300 ≤ N) {S : sX} {M : sM} (hI : INV S M) {s : Nat} (hs : s < 256) : ∃ v S' M', fX0_layRounds N S (nI s) = some (v, S') ∧ fX3_findRounds N M (nI s) = some M' ∧ xFr S S' ∧ mFr M M' ∧ INV S' M' ∧ RL s S' M' v := by
  obtain ⟨n, mk, hw⟩ := hI.cw
  obtain ⟨S1, e1, e2, e3⟩ := x_fit (M := M) (n := n) (mk := mk) hN (fun S_4 x1_5 =>
    (ex_as S_4 15 256 (0 : Int32) (0 : Int32)).bind fun S_6 =>
    fX0_layRounds_35 N (fun S_18 x1_19 =>
      ec_lt (xI S_18 17 (0 : Int32)) fun S_20 =>
      fX0_layRounds_132 N (fun S_33 x2_34 =>
        fX0_layRounds_234 N S_33 x2_34) N S_20 x1_19) N S_6 x1_5 (1 : Int32)) (nI s) 256 0 N S hw rfl (by omega) (fun i hi => absurd hi (Nat.not_lt_zero i))
  obtain ⟨M1, g1, g2, g3⟩ := m_fit (S := S) (n := n) (mk := mk) hN (fun S_4 x1_5 =>
    (ec_as S_4 39 256 (0 : Int32) (0 : Int32)).bind fun S_6 =>
    fX3_findRounds_45 N (fun S_20 x1_21 =>
      (ec_ag (S_20.2.2 39) 256 x1_21).bind fun v_22 =>
      if v_22 < (99 : Int32) then (
        fX3_findRounds_192 N S_20 x1_21 (0 : Int32))
      else (
        fX3_findRounds_192 N S_20 x1_21 (-4 : Int32))) N S_6 x1_5 (1 : Int32)) (nI s) 256 0 N M hw rfl (by omega) (fun i hi => absurd hi (Nat.not_lt_zero i))
  unfold fX0_layRounds fX3_findRounds
  rw [show (nI 0 : Int32) = 0 from rfl] at e1 g1
  rw [e1, g1]
  have k0 : ∀ (f : Nat → Int32) (D : Nat), f 0 = 0 → ∀ i, i < 1 → f i = nI ((fun _ => 0) i) ∧ okR n mk D (fun _ => 0) i := fun f D hf i hi => by
    have : i = 0 := by omega
    subst this
    exact ⟨hf, Nat.zero_le _, fun _ => rfl, fun h => absurd h (by omega)⟩
  obtain ⟨S2, a, p1, p2, p3, p4⟩ := x_out (N := N) (n := n) (mk := mk) hN (fun S_18 x1_19 =>
      ec_lt (xI S_18 17 (0 : Int32)) fun S_20 =>
      fX0_layRounds_132 N (fun S_33 x2_34 =>
        fX0_layRounds_234 N S_33 x2_34) N S_20 x1_19) (nI s) 255 1 N (xA S1 15 0 0) (fun _ => 0) rfl (by omega) (by omega) (fun i hi => by rw [xA_k _ _ _ (by decide)]; exact e3 i hi) (k0 _ 9 (xA_eq _ _ _ _))
  obtain ⟨M2, b, q1, q2, q3, q4⟩ := m_outR (N := N) (n := n) (mk := mk) hN (fun S_20 x1_21 =>
      (ec_ag (S_20.2.2 39) 256 x1_21).bind fun v_22 =>
      if v_22 < (99 : Int32) then (
        fX3_findRounds_192 N S_20 x1_21 (0 : Int32))
      else (
        fX3_findRounds_192 N S_20 x1_21 (-4 : Int32))) (nI s) 255 1 N (mA M1 39 0 0) (fun _ => 0) rfl (by omega) (by omega) (fun i hi => by rw [mA_k _ _ _ (by decide)]; exact g3 i hi) (k0 _ 99 (mA_eq _ _ _ _))
  rw [show (nI 1 : Int32) = 1 from rfl] at p1 q1
  rw [show ex_as S1 15 256 0 0 = some (xA S1 15 0 0) from xas_at (c := 0) (by decide) (by decide), show ec_as M1 39 256 0 0 = some (mA M1 39 0 0) from as_at (c := 0) (by decide) (by decide), Option.bind_some, Option.bind_some, p1, q1]
  have hxF : xFr S S2 := (e2.trans (xFr.sA S1 15 0 0 (by decide))).trans p2
  have hmF : mFr M M2 := (g2.trans (mFr.sA M1 39 0 0 (by decide))).trans q2
  have ha : ∀ i, i < 256 → okR n mk 9 a i := fun i hi => (p4 i hi).2
  have hb : ∀ i, i < 256 → okR n mk 99 b i := fun i hi => (q4 i hi).2
  unfold fX3_findRounds_192 fX3_findRounds_209
  simp only [ec_lt]
  rw [ag_at hs (by decide), Option.bind_some, (q4 s hs).1]
  obtain ⟨n', rfl⟩ : ∃ i, N = i + 1 := ⟨N - 1, by omega⟩
  rcases ab_rel ha hb s hs with ⟨r1, r2⟩ | ⟨r1, r2⟩
  · have h8 := ctb_le s 8
    obtain ⟨S3, M3, t1, t2, t3, t4, t5, t6, t7, t8, t9⟩ := rl_both (N := n' + 1) hN (fun S_33 x2_34 => fX0_layRounds_234 (n' + 1) S_33 x2_34) ha hb s 0 (n' + 1) (n' + 1) (xI S2 17 0) (mI M2 41 0) hs (by omega) (by omega) (by omega) p3 q3 (fun i hi => (p4 i hi).1) (fun i hi => (q4 i hi).1) (xI_eq _ _ _) (mI_eq _ _ _) (by omega) (fun j hj => absurd hj (Nat.not_lt_zero j))
    have h99 : nI (b s) < (99 : Int32) := nI_lt (b := 99) (by omega) (by decide)
    rw [if_pos h99, if_pos (show ¬ (mI M2 41 0).1 41 = -4 by rw [mI_eq]; decide), t1, t2]
    unfold fX0_layRounds_234
    rw [if_neg (fun h => h rfl)]
    have hxF3 := (hxF.trans (xFr.sI S2 17 0 (by decide))).trans t3
    have hmF3 := (hmF.trans (mFr.sI M2 41 0 (by decide))).trans t4
    rw [Nat.zero_add] at t5 t6 t7 t9
    exact ⟨_, _, _, rfl, rfl, hxF3, hmF3, hI.fr hxF3 hmF3, Or.inr ⟨rfl, a s, by omega, t5, t6, t7, t9⟩⟩
  · have hs0 : 0 < s := by
      rcases Nat.eq_zero_or_pos s with h | h
      · have := (ha s hs).2.1 h; omega
      · exact h
    have h99 : ¬ nI (b s) < (99 : Int32) := nI_nlt (b := 99) (by omega) (by omega)
    have h8n : (8 : Int32) < nI (a s) := nI_lt (a := 8) (by omega) (by omega)
    rw [if_neg h99, if_neg (show ¬ ¬ (mI M2 41 (-4)).1 41 = -4 from fun h => h (mI_eq _ _ _))]
    rw [fX0_layRounds_132, fX3_findRounds_210, if_neg (nI_ne0 hs0 (by omega)), if_pos (show (0 : Int32) = 0 from rfl), ag_at hs (by decide), Option.bind_some, show (xI S2 17 0).2.1 15 s = nI (a s) from (p4 s hs).1, if_pos h8n]
    unfold fX0_layRounds_234
    rw [if_pos (nI_ne0 hs0 (by omega))]
    have hxF3 := hxF.trans (xFr.sI S2 17 0 (by decide))
    have hmF3 := hmF.trans (mFr.sI M2 41 (-4) (by decide))
    exact ⟨_, _, _, rfl, rfl, hxF3, hmF3, hI.fr hxF3 hmF3, Or.inl ⟨rfl, mI_eq _ _ _⟩⟩
theorem ob_rounds {N : Nat} (hN : 300 ≤ N) : OB_rounds N INV := by
  intro S M x1 x2 hI
  unfold fX0_rounds fX3_rounds fX0_rounds_25 fX3_rounds_25
  rw [x_isSet, m_areEvents, x_isIn, m_in]
  simp only [Option.bind_some, z01]
  by_cases h1 : ¬ inB x1.toInt64 0 255
  · rw [if_pos h1, if_pos h1]; exact ⟨_, _, _, rfl, rfl, hI⟩
  rw [if_neg h1, if_neg h1]
  obtain ⟨s, -, hs, rfl⟩ := (in_lit 0 255 (by decide) (by decide)).mp (Decidable.not_not.mp h1)
  have key : x2 = 0 ∨ (∃ j, 10 ≤ j ∧ j ≤ 17 ∧ x2 = nI j) → ∃ (r : Int32) (S1 : sX) (M1 : sM), fX0_rounds_27 N S (nI s) x2 = some (r, S1) ∧ fX3_rounds_27 N M (nI s) x2 = some (r, M1) ∧ INV S1 M1 := by
    intro hx
    obtain ⟨v, S', M', e1, e2, -, -, hI2, hR⟩ := lay_rounds hN hI (s := s) (by omega)
    unfold fX0_rounds_27 fX3_rounds_27
    rw [e1, e2, Option.bind_some]
    simp only [ec_b2]
    rcases hR with ⟨rfl, r2⟩ | ⟨rfl, r, r1, r2, r3, r4, -⟩
    · rw [if_neg (fun h => h rfl), if_neg (fun h => h r2)]
      exact ⟨_, _, _, rfl, rfl, hI2⟩
    · rw [if_pos (show ¬ (1 : Int32) = 0 by decide), if_pos (show ¬ M'.1 41 = -4 by rw [r3]; exact nI_nm4 (by omega)), r2, r3]
      rcases hx with rfl | ⟨j, j1, j2, rfl⟩
      · rw [if_neg (show ¬ ¬ (0 : Int32) = 0 from fun h => h rfl), if_neg (show ¬ ¬ (0 : Int32) = 0 from fun h => h rfl)]
        exact ⟨_, _, _, rfl, rfl, hI2⟩
      · rw [if_pos (show ¬ nI j = 0 from nI_ne0 (by omega) (by omega)), if_pos (show ¬ nI j = 0 from nI_ne0 (by omega) (by omega)), show nI j - 10 = nI (j - 10) from pk_sub (a := j) (b := 10) j1]
        rcases Nat.lt_or_ge (j - 10) r with h | h
        · rw [if_neg (nI_ge h (by omega)), if_neg (nI_ge h (by omega)), ag_at (by omega) (by decide), ag_at (by omega) (by decide)]
          obtain ⟨x, x1, x2, x3⟩ := r4 _ h
          rw [x2, x3]
          exact ⟨_, _, _, rfl, rfl, hI2⟩
        · rw [if_pos (nI_le h (by omega)), if_pos (nI_le h (by omega))]
          exact ⟨_, _, _, rfl, rfl, hI2⟩
  by_cases h2 : x2 = 0
  · rw [if_pos h2, if_pos h2]; exact key (Or.inl h2)
  rw [if_neg h2, if_neg h2]
  by_cases h3 : ¬ inB x2.toInt64 10 17
  · rw [if_neg (fun h => h h3), if_neg (fun h => h h3)]; exact ⟨_, _, _, rfl, rfl, hI⟩
  · rw [if_pos h3, if_pos h3]
    exact key (Or.inr ((in_lit 10 17 (by decide) (by decide)).mp (Decidable.not_not.mp h3)))
