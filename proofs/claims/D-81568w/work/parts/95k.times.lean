/-! AFTER THE TEXT: times, steps, who is within whom -/
set_option maxRecDepth 100000
section
variable {ch : Nat → List (Bool × Nat)} {ar ou of_ tm dp : Nat → Int32} {dq cm : Nat → Nat} {nq nl : Nat}
theorem wF_out : ∀ (f : Fo) (a p : Nat) (par : Int32) (d m : Nat), wF ch ar ou of_ tm dp dq cm f a p par d m → p + foNQ f ≤ nq → ∀ q (W : Int32 → Bool), (∀ r, r < nq → W (nI r) = (decide (r = q) || W (ou r))) → W par = false → (q < p ∨ p + foNQ f ≤ q) → ∀ l, a ≤ l → l < a + foNL f → W (ar l) = false := by
  intro f
  induction f with
  | leaf => intro a p par d m _ _ q W _ _ _ l h1 h2; have h2 : l < a + 0 := h2; omega
  | inner s k u i b ihi ihb =>
    intro a p par d m hw hq q W hW hp ho l h1 h2
    obtain ⟨hi, hc⟩ := hw
    rcases hc with ⟨rfl, rfl, rfl, w1, -, -⟩ | ⟨rfl, rfl, w1, -, -, h3, h4, c, c1, c2, c3, hb⟩
    · have h2 : l < a + (foNL i + 1) := h2
      by_cases c : l < a + foNL i
      · exact ihi a p par d m hi hq q W hW hp ho l h1 c
      · have : l = a + foNL i := by omega
        subst this
        rw [w1]; exact hp
    · have h2 : l < a + (foNL i + foNL b) := h2
      have hq : p + (foNQ i + 1 + foNQ b) ≤ nq := hq
      have ho : q < p ∨ p + (foNQ i + 1 + foNQ b) ≤ q := ho
      by_cases c : l < a + foNL i
      · exact ihi a p par d m hi (by omega) q W hW hp (by omega) l h1 c
      · refine ihb _ _ _ _ _ hb (by omega) q W hW ?_ (by omega) l (by omega) (by omega)
        rw [hW _ (by omega), w1, hp, Bool.or_false]
        exact decide_eq_false (by omega)
theorem wF_in : ∀ (f : Fo) (a p : Nat) (par : Int32) (d m : Nat), wF ch ar ou of_ tm dp dq cm f a p par d m → p + foNQ f ≤ nq → ∀ q (W : Int32 → Bool), (∀ r, r < nq → W (nI r) = (decide (r = q) || W (ou r))) → W par = true → ∀ l, a ≤ l → l < a + foNL f → W (ar l) = true := by
  intro f
  induction f with
  | leaf => intro a p par d m _ _ q W _ _ l h1 h2; have h2 : l < a + 0 := h2; omega
  | inner s k u i b ihi ihb =>
    intro a p par d m hw hq q W hW hp l h1 h2
    obtain ⟨hi, hc⟩ := hw
    rcases hc with ⟨rfl, rfl, rfl, w1, -, -⟩ | ⟨rfl, rfl, w1, -, -, h3, h4, c, c1, c2, c3, hb⟩
    · have h2 : l < a + (foNL i + 1) := h2
      by_cases c : l < a + foNL i
      · exact ihi a p par d m hi hq q W hW hp l h1 c
      · have : l = a + foNL i := by omega
        subst this
        rw [w1]; exact hp
    · have h2 : l < a + (foNL i + foNL b) := h2
      have hq : p + (foNQ i + 1 + foNQ b) ≤ nq := hq
      by_cases c : l < a + foNL i
      · exact ihi a p par d m hi (by omega) q W hW hp l h1 c
      · refine ihb _ _ _ _ _ hb (by omega) q W hW ?_ l (by omega) (by omega)
        rw [hW _ (by omega), w1, hp, Bool.or_true]
/-- a property of every loop of a forest: its number, its first line, how many lines -/
def liF (L : Nat → Nat → Nat → Prop) : Fo → Nat → Prop
  | .leaf, _ => True
  | .inner s k _ i b, a => liF L i a ∧ (s = 0 ∨ (L k (a + foNL i) (foNL b) ∧ liF L b (a + foNL i)))
theorem liF.imp {L L' : Nat → Nat → Nat → Prop} (h : ∀ q lo c, L q lo c → L' q lo c) : ∀ (f : Fo) (a : Nat), liF L f a → liF L' f a := by
  intro f
  induction f with
  | leaf => intro a _; exact True.intro
  | inner s k u i b ihi ihb =>
    intro a hl
    obtain ⟨h1, h2⟩ := hl
    refine ⟨ihi a h1, ?_⟩
    rcases h2 with h2 | ⟨h2, h3⟩
    · exact Or.inl h2
    · exact Or.inr ⟨h _ _ _ h2, ihb _ h3⟩
theorem wi_lt {q : Nat} (hO : ∀ r, r < nq → ou r = -4 ∨ ∃ p, p < r ∧ ou r = nI p) (hq : nq ≤ 40) : ∀ r, r < q → r < nq → wiX ou q (nI r) = false := by
  intro r
  induction r using Nat.strongRecOn with
  | _ r ih =>
    intro h1 h2
    rw [wi_sp hO hq h2, decide_eq_false (by omega), Bool.false_or]
    rcases hO r h2 with h | ⟨p, hp, h⟩
    · rw [h]; exact if_pos rfl
    · rw [h]; exact ih p hp (by omega) (by omega)
theorem wF_nodes (hO : ∀ r, r < nq → ou r = -4 ∨ ∃ p, p < r ∧ ou r = nI p) (hq40 : nq ≤ 40) : ∀ (f : Fo) (a p : Nat) (par : Int32) (d m : Nat), wF ch ar ou of_ tm dp dq cm f a p par d m → p + foNQ f ≤ nq → (par = -4 ∨ ∃ r, r < p ∧ par = nI r) → (∀ q, p ≤ q → q < p + foNQ f → ∀ l, l < nl → ¬ (a ≤ l ∧ l < a + foNL f) → wiX ou q (ar l) = false) → a + foNL f ≤ nl → liF (fun q lo c => q < nq ∧ lo + c ≤ nl ∧ ∀ l, l < nl → wiX ou q (ar l) = decide (lo ≤ l ∧ l < lo + c)) f a := by
  intro f
  induction f with
  | leaf => intro a p par d m _ _ _ _ _; exact True.intro
  | inner s k u i b ihi ihb =>
    intro a p par d m hw hnq hpar hC hnl
    obtain ⟨hi, hc⟩ := hw
    have hpq : ∀ q, p ≤ q → wiX ou q par = false := fun q hq => by
      rcases hpar with h | ⟨r, hr, h⟩
      · rw [h]; exact if_pos rfl
      · rw [h]; exact wi_lt hO hq40 r (by omega) (by omega)
    rcases hc with ⟨rfl, rfl, rfl, w1, -, -⟩ | ⟨rfl, rfl, w1, w2, w3, h3, h4, c, c1, c2, c3, hb⟩
    · have hnl : a + (foNL i + 1) ≤ nl := hnl
      have hnq : p + foNQ i ≤ nq := hnq
      refine ⟨ihi a p par d m hi hnq hpar (fun q h1 h2 l hl hno => ?_) (by omega), Or.inl rfl⟩
      by_cases c : l = a + foNL i
      · subst c
        rw [w1]
        exact hpq q h1
      · refine hC q h1 h2 l hl (fun h => hno ?_)
        have : l < a + (foNL i + 1) := h.2
        omega
    · have hnl : a + (foNL i + foNL b) ≤ nl := hnl
      have hnq : p + (foNQ i + 1 + foNQ b) ≤ nq := hnq
      have hC : ∀ q, p ≤ q → q < p + (foNQ i + 1 + foNQ b) → ∀ l, l < nl → ¬ (a ≤ l ∧ l < a + (foNL i + foNL b)) → wiX ou q (ar l) = false := hC
      have spec : ∀ q r, r < nq → wiX ou q (nI r) = (decide (r = q) || wiX ou q (ou r)) := fun q r hr => wi_sp hO hq40 hr
      refine ⟨ihi a p par d m hi (by omega) hpar (fun q h1 h2 l hl hno => ?_) (by omega), Or.inr ⟨⟨by omega, by omega, fun l hl => ?_⟩, ihb _ _ _ _ _ hb (by omega) (Or.inr ⟨_, Nat.lt_succ_self _, rfl⟩) (fun q h1 h2 l hl hno => ?_) (by omega)⟩⟩
      · by_cases c : a ≤ l ∧ l < a + (foNL i + foNL b)
        · refine wF_out b _ _ _ _ _ hb (by omega) q (wiX ou q) (spec q) ?_ (by omega) l (by omega) (by omega)
          rw [spec q _ (by omega), w1, hpq q h1, Bool.or_false]
          exact decide_eq_false (by omega)
        · exact hC q h1 (by omega) l hl c
      · by_cases c : a ≤ l ∧ l < a + (foNL i + foNL b)
        · by_cases c2 : l < a + foNL i
          · rw [wF_out i _ _ _ _ _ hi (by omega) (p + foNQ i) (wiX ou (p + foNQ i)) (spec _) (hpq _ (by omega)) (by omega) l c.1 c2]
            exact (decide_eq_false (by omega)).symm
          · rw [wF_in b _ _ _ _ _ hb (by omega) (p + foNQ i) (wiX ou (p + foNQ i)) (spec _) (by rw [spec _ _ (by omega), decide_eq_true rfl, Bool.true_or]) l (by omega) (by omega)]
            exact (decide_eq_true (by omega)).symm
        · rw [hC _ (by omega) (by omega) l hl c]
          exact (decide_eq_false (by omega)).symm
      · by_cases c : a ≤ l ∧ l < a + (foNL i + foNL b)
        · exact wF_out i _ _ _ _ _ hi (by omega) q (wiX ou q) (spec q) (hpq q (by omega)) (by omega) l c.1 (by omega)
        · exact hC q (by omega) (by omega) l hl c
/-- each line and each loop by what is around it -/
theorem wF_cl : ∀ (f : Fo) (a p : Nat) (par : Int32) (d m : Nat), wF ch ar ou of_ tm dp dq cm f a p par d m → m ≤ 99 ^ d → 1 ≤ m → d ≤ 4 → ((par = -4 ∧ d = 0 ∧ m = 1) ∨ ∃ q k, q < p ∧ k ≤ 99 ∧ par = nI q ∧ of_ q = nI k ∧ d = dq q + 1 ∧ m = cm q * k) →
    (∀ l, a ≤ l → l < a + foNL f → ((ar l = -4 ∧ dp l = 0 ∧ tm l = 1) ∨ ∃ q k, q < p + foNQ f ∧ k ≤ 99 ∧ ar l = nI q ∧ dp l = nI (dq q + 1) ∧ of_ q = nI k ∧ tm l = nI (cm q * k)) ∧ ∃ n, 1 ≤ n ∧ n ≤ 99 ^ 4 ∧ tm l = nI n) ∧
    (∀ q, p ≤ q → q < p + foNQ f → dq q ≤ 3 ∧ (∃ k, 1 ≤ k ∧ k ≤ 99 ∧ of_ q = nI k) ∧ ((ou q = -4 ∧ dq q = 0 ∧ cm q = 1) ∨ ∃ p' k, p' < q ∧ k ≤ 99 ∧ ou q = nI p' ∧ dq q = dq p' + 1 ∧ of_ p' = nI k ∧ cm q = cm p' * k)) := by
  intro f
  induction f with
  | leaf =>
    intro a p par d m _ _ _ _ _
    refine ⟨fun l h1 h2 => ?_, fun q h1 h2 => ?_⟩
    · have h2 : l < a + 0 := h2; omega
    · have h2 : q < p + 0 := h2; omega
  | inner s k u i b ihi ihb =>
    intro a p par d m hw hm hm1 hd hpar
    obtain ⟨hi, hc⟩ := hw
    obtain ⟨A, B⟩ := ihi a p par d m hi hm hm1 hd hpar
    have h4 : (99 : Nat) ^ d ≤ 99 ^ 4 := Nat.pow_le_pow_right (by decide) hd
    rcases hc with ⟨rfl, rfl, rfl, w1, w2, w3⟩ | ⟨rfl, rfl, w1, w2, w3, h3, h4', c, c1, c2, c3, hb⟩
    · refine ⟨fun l h1 h2 => ?_, B⟩
      have h2 : l < a + (foNL i + 1) := h2
      by_cases c : l < a + foNL i
      · exact A l h1 c
      · have : l = a + foNL i := by omega
        subst this
        refine ⟨?_, m, hm1, by omega, w3⟩
        rcases hpar with ⟨p1, p2, p3⟩ | ⟨q, k, p1, p9, p2, p3, p4, p5⟩
        · left
          rw [w1, w2, w3, p1, p2, p3]
          exact ⟨rfl, rfl, rfl⟩
        · right
          refine ⟨q, k, ?_, p9, w1.trans p2, by rw [w2, p4], p3, by rw [w3, p5]⟩
          show q < p + foNQ i
          omega
    · have hmc : m * c ≤ 99 ^ (d + 1) := by rw [Nat.pow_succ]; exact Nat.mul_le_mul hm c2
      obtain ⟨A2, B2⟩ := ihb _ _ _ _ _ hb hmc (Nat.mul_pos hm1 c1) (by omega) (Or.inr ⟨p + foNQ i, c, Nat.lt_succ_self _, c2, rfl, c3, by rw [w2], by rw [w3]⟩)
      refine ⟨fun l h1 h2 => ?_, fun q h1 h2 => ?_⟩
      · have h2 : l < a + (foNL i + foNL b) := h2
        by_cases c : l < a + foNL i
        · obtain ⟨z1, z2⟩ := A l h1 c
          refine ⟨?_, z2⟩
          rcases z1 with z1 | ⟨q, k, y1, y2⟩
          · exact Or.inl z1
          · refine Or.inr ⟨q, k, ?_, y2⟩
            show q < p + (foNQ i + 1 + foNQ b)
            omega
        · obtain ⟨z1, z2⟩ := A2 l (by omega) (by omega)
          refine ⟨?_, z2⟩
          rcases z1 with z1 | ⟨q, k, y1, y2⟩
          · exact Or.inl z1
          · refine Or.inr ⟨q, k, ?_, y2⟩
            show q < p + (foNQ i + 1 + foNQ b)
            omega
      · have h2 : q < p + (foNQ i + 1 + foNQ b) := h2
        by_cases c4 : q < p + foNQ i
        · exact B q h1 c4
        by_cases c5 : q = p + foNQ i
        · subst c5
          refine ⟨by omega, ⟨c, c1, c2, c3⟩, ?_⟩
          rcases hpar with ⟨p1, p2, p3⟩ | ⟨q, k, p1, p9, p2, p3, p4, p5⟩
          · left
            exact ⟨w1.trans p1, w2.trans p2, w3.trans p3⟩
          · right
            exact ⟨q, k, by omega, p9, w1.trans p2, by rw [w2, p4], p3, by rw [w3, p5]⟩
        · exact B2 q (by omega) (by omega)
end
section
variable {M : sM} {ch : Nat → List (Bool × Nat)} {tm dp : Nat → Int32} {dq cm : Nat → Nat} {nq nl N : Nat} {F : Fo}
/-- how often a line goes, as the Model reckons it -/
theorem dt_loop (hB : ∀ q, q < nq → (∃ k, 1 ≤ k ∧ k ≤ 99 ∧ M.2.2 16 q = nI k) ∧ ((M.2.2 17 q = -4 ∧ cm q = 1) ∨ ∃ p' k, p' < q ∧ k ≤ 99 ∧ M.2.2 17 q = nI p' ∧ M.2.2 16 p' = nI k ∧ cm q = cm p' * k)) (hq40 : nq ≤ 40) (kx : Int64 → Option Int64) : ∀ q n acc k, q < nq → q + 1 < n → M.2.2 16 q = nI k → k < 2 ^ 31 → fX3_dTimes_10 N M kx n (lN acc) (nI q) = kx (lN (acc * (cm q * k))) := by
  intro q
  induction q using Nat.strongRecOn with
  | _ q ih =>
    intro n acc k hq hn hk hk2
    obtain ⟨n, rfl⟩ : ∃ m, n = m + 1 := ⟨n - 1, by omega⟩
    rw [fX3_dTimes_10, if_neg (nI_nm4 (by omega)), ag_at (by omega) (by decide), Option.bind_some, hk, nI_l hk2, lN_mul]
    simp only [ec_lt]
    rw [ag_at (by omega) (by decide), Option.bind_some]
    rcases (hB q hq).2 with ⟨h1, h2⟩ | ⟨p', k', h1, h9, h2, h3, h4⟩
    · obtain ⟨n, rfl⟩ : ∃ m, n = m + 1 := ⟨n - 1, by omega⟩
      rw [h1, fX3_dTimes_10, if_pos rfl, h2, Nat.one_mul]
    · rw [h2, ih p' h1 n _ k' (by omega) (by omega) h3 (by omega), h4]
      congr 2
      rw [Nat.mul_assoc, Nat.mul_comm k, ← Nat.mul_assoc]
theorem m_dTimes (hB : ∀ q, q < nq → (∃ k, 1 ≤ k ∧ k ≤ 99 ∧ M.2.2 16 q = nI k) ∧ ((M.2.2 17 q = -4 ∧ cm q = 1) ∨ ∃ p' k, p' < q ∧ k ≤ 99 ∧ M.2.2 17 q = nI p' ∧ M.2.2 16 p' = nI k ∧ cm q = cm p' * k)) (hq40 : nq ≤ 40) (hN : 100 ≤ N) {l n : Nat} (hl : l < 16) (hA : (M.2.2 14 l = -4 ∧ tm l = 1) ∨ ∃ q k, q < nq ∧ k ≤ 99 ∧ M.2.2 14 l = nI q ∧ M.2.2 16 q = nI k ∧ tm l = nI (cm q * k)) (hb : ∀ q, q < nq → cm q ≤ 99 ^ 3) (ht : tm l = nI n) (hn : n ≤ 99 ^ 4) : fX3_dTimes N M (nI l) = some (lN n) := by
  unfold fX3_dTimes
  rw [ag_at hl (by decide), Option.bind_some]
  rcases hA with ⟨h1, h2⟩ | ⟨q, k, h1, h2, h3, h4, h5⟩
  · obtain ⟨n', rfl⟩ : ∃ m, N = m + 1 := ⟨N - 1, by omega⟩
    have : n = 1 := (nI_eq (b := 1) (by omega) (by decide)).mp (ht.symm.trans h2)
    rw [h1, fX3_dTimes_10, if_pos rfl, this]
    rfl
  · have hc : cm q * k ≤ 99 ^ 3 * 99 := Nat.mul_le_mul (hb q h1) h2
    have : n = cm q * k := (nI_eq (by omega) (by omega)).mp (ht.symm.trans h5)
    have hl := dt_loop (N := N) hB hq40 (fun x2_5 => some x2_5) q N 1 k h1 (by omega) h4 (by omega)
    rw [h3, show (1 : Int64) = lN 1 from rfl, hl, this, Nat.one_mul]
theorem p76 (hd : ∀ l, l < nl → ∃ n, n ≤ 99 ^ 4 ∧ tm l = nI n ∧ fX3_dTimes N M (nI l) = some (lN n)) (h11 : M.1 11 = nI nl) (hnl : nl ≤ 16) (kx : sM → Int64 → Option (Int32 × sM)) : ∀ k l n, l + k = nl → k < n → fX3_program_76 N kx n M (lN (sN (fun l => (tm l).toNatClampNeg) 0 l)) (nI l) = kx M (lN (sN (fun l => (tm l).toNatClampNeg) 0 nl)) := by
  intro k
  induction k with
  | zero =>
    intro l n hk hn
    obtain ⟨n, rfl⟩ : ∃ m, n = m + 1 := ⟨n - 1, by omega⟩
    have : l = nl := by omega
    subst this
    rw [fX3_program_76, h11, if_pos (nI_le (Nat.le_refl _) (by omega))]
  | succ k ih =>
    intro l n hk hn
    obtain ⟨n, rfl⟩ : ∃ m, n = m + 1 := ⟨n - 1, by omega⟩
    obtain ⟨x, x1, x2, x3⟩ := hd l (by omega)
    have nx := ih (l + 1) n (by omega) (by omega)
    rw [sN, Nat.zero_add, x2, nI_clamp (by omega), ← lN_add] at nx
    rw [fX3_program_76, h11, if_neg (nI_ge (by omega) (by omega)), x3, Option.bind_some]
    simp only [ec_lt]
    rw [nI_1]
    exact nx
end
