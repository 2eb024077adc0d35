/-! plain facts to paste, each family by itself; over the kit's nI, lN and upd -/
/-! ===== drawers: more things than places ===== -/
theorem fb_holes : ∀ (m n : Nat) (f : Nat → Nat), (∀ i, i < n → f i < m) → (∀ i j, i < j → j < n → f i ≠ f j) → n ≤ m := by
  intro m
  induction m with
  | zero =>
    intro n f h1 _
    rcases Nat.eq_zero_or_pos n with h | h
    · omega
    · exact absurd (h1 0 h) (Nat.not_lt_zero _)
  | succ m ih =>
    intro n f h1 h2
    by_cases hx : ∃ i, i < n ∧ f i = m
    · obtain ⟨a, ha, hfa⟩ := hx
      have hg := ih (n - 1) (fun i => if i < a then f i else f (i + 1)) (by
        intro i hi
        by_cases q : i < a
        · simp only [if_pos q]
          have b1 := h1 i (by omega)
          have b2 := h2 i a q ha
          omega
        · simp only [if_neg q]
          have b1 := h1 (i + 1) (by omega)
          have b2 := h2 a (i + 1) (by omega) (by omega)
          omega) (by
        intro i j hij hj
        by_cases q : i < a
        · by_cases r : j < a
          · simp only [if_pos q, if_pos r]
            exact h2 i j hij (by omega)
          · simp only [if_pos q, if_neg r]
            exact h2 i (j + 1) (by omega) (by omega)
        · have r : ¬ j < a := by omega
          simp only [if_neg q, if_neg r]
          exact h2 (i + 1) (j + 1) (by omega) (by omega))
      omega
    · have hg := ih n f (fun i hi => by
        have b1 := h1 i hi
        have b2 : f i ≠ m := fun e => hx ⟨i, hi, e⟩
        omega) h2
      omega
/-- two of them in one place -/
theorem fb_twice {m n : Nat} {f : Nat → Nat} (h : ∀ i, i < n → f i < m) (hm : m < n) : ∃ i j, i < j ∧ j < n ∧ f i = f j := by
  refine Classical.byContradiction fun hx => ?_
  have := fb_holes m n f h (fun i j hij hj e => hx ⟨i, j, hij, hj, e⟩)
  omega
/-- as many as places, none twice: each place is taken -/
theorem fb_onto {n : Nat} {f : Nat → Nat} (h : ∀ i, i < n → f i < n) (h2 : ∀ i j, i < j → j < n → f i ≠ f j) {y : Nat} (hy : y < n) : ∃ i, i < n ∧ f i = y := by
  refine Classical.byContradiction fun hx => ?_
  have hne : ∀ i, i < n → f i ≠ y := fun i hi e => hx ⟨i, hi, e⟩
  have := fb_holes (n - 1) n (fun i => if f i < y then f i else f i - 1) (by
    intro i hi
    have b1 := h i hi
    have b2 := hne i hi
    by_cases q : f i < y
    · simp only [if_pos q]; omega
    · simp only [if_neg q]; omega) (by
    intro i j hij hj
    have b1 := hne i (by omega)
    have b2 := hne j hj
    have b3 := h2 i j hij hj
    by_cases q : f i < y
    · by_cases r : f j < y
      · simp only [if_pos q, if_pos r]; exact b3
      · simp only [if_pos q, if_neg r]; omega
    · by_cases r : f j < y
      · simp only [if_neg q, if_pos r]; omega
      · simp only [if_neg q, if_neg r]; omega)
  omega
/-! ===== how many places have a property ===== -/
def fb_ct (p : Nat → Bool) : Nat → Nat
  | 0 => 0
  | n + 1 => fb_ct p n + (if p n then 1 else 0)
theorem fb_ct_succ (p : Nat → Bool) (n : Nat) : fb_ct p (n + 1) = fb_ct p n + (if p n then 1 else 0) := rfl
theorem fb_ct_le (p : Nat → Bool) : ∀ n, fb_ct p n ≤ n
  | 0 => Nat.le_refl _
  | n + 1 => by
    have h := fb_ct_le p n
    rw [fb_ct_succ]
    split <;> omega
theorem fb_ct_step (p : Nat → Bool) (m : Nat) : ∀ n, fb_ct p m ≤ fb_ct p (m + n)
  | 0 => Nat.le_refl _
  | n + 1 => by
    have h := fb_ct_step p m n
    show fb_ct p m ≤ fb_ct p (m + n + 1)
    rw [fb_ct_succ]
    omega
theorem fb_ct_mono (p : Nat → Bool) {m n : Nat} (h : m ≤ n) : fb_ct p m ≤ fb_ct p n := by
  have := fb_ct_step p m (n - m)
  rwa [Nat.add_sub_cancel' h] at this
theorem fb_ct_cong {p q : Nat → Bool} : ∀ {n : Nat}, (∀ k, k < n → p k = q k) → fb_ct p n = fb_ct q n
  | 0, _ => rfl
  | n + 1, h => by
    rw [fb_ct_succ, fb_ct_succ, fb_ct_cong (fun k hk => h k (by omega)), h n (by omega)]
/-- one place changed -/
theorem fb_ct_out (p : Nat → Bool) (b : Bool) {i n : Nat} (h : n ≤ i) : fb_ct (fun k => if k = i then b else p k) n = fb_ct p n :=
  fb_ct_cong fun k hk => if_neg (by omega)
theorem fb_ct_upd (p : Nat → Bool) (b : Bool) {i : Nat} : ∀ {n : Nat}, i < n → fb_ct (fun k => if k = i then b else p k) n + (if p i then 1 else 0) = fb_ct p n + (if b then 1 else 0)
  | 0, h => absurd h (Nat.not_lt_zero i)
  | n + 1, h => by
    rw [fb_ct_succ, fb_ct_succ]
    rcases Nat.lt_or_ge i n with q | q
    · have := fb_ct_upd p b q
      have e : (if n = i then b else p n) = p n := if_neg (by omega)
      rw [e]
      omega
    · have e : i = n := by omega
      subst e
      rw [fb_ct_out p b (Nat.le_refl _)]
      simp only [if_true]
      omega
theorem fb_ct_sub {p q : Nat → Bool} : ∀ {n : Nat}, (∀ k, k < n → p k = true → q k = true) → fb_ct p n ≤ fb_ct q n
  | 0, _ => Nat.le_refl _
  | n + 1, h => by
    have h1 := fb_ct_sub (n := n) (p := p) (q := q) (fun k hk => h k (by omega))
    have h2 := h n (by omega)
    rw [fb_ct_succ, fb_ct_succ]
    cases hp : p n <;> cases hq : q n <;> simp_all <;> omega
theorem fb_ct_or {p q : Nat → Bool} : ∀ {n : Nat}, (∀ k, k < n → ¬ (p k = true ∧ q k = true)) → fb_ct (fun k => p k || q k) n = fb_ct p n + fb_ct q n
  | 0, _ => rfl
  | n + 1, h => by
    have h1 := fb_ct_or (n := n) (p := p) (q := q) (fun k hk => h k (by omega))
    have h2 := h n (by omega)
    rw [fb_ct_succ, fb_ct_succ, fb_ct_succ, h1]
    cases hp : p n <;> cases hq : q n <;> simp_all <;> omega
theorem fb_ct_not (p : Nat → Bool) : ∀ n, fb_ct p n + fb_ct (fun k => !p k) n = n
  | 0 => rfl
  | n + 1 => by
    have h := fb_ct_not p n
    rw [fb_ct_succ, fb_ct_succ]
    cases p n <;> simp <;> omega
theorem fb_ct_split (p : Nat → Bool) (m : Nat) : ∀ n, fb_ct p (m + n) = fb_ct p m + fb_ct (fun k => p (m + k)) n
  | 0 => rfl
  | n + 1 => by
    have h := fb_ct_split p m n
    show fb_ct p (m + n + 1) = _
    rw [fb_ct_succ, fb_ct_succ, h, Nat.add_assoc]
theorem fb_ct_zero {p : Nat → Bool} : ∀ {n : Nat}, fb_ct p n = 0 ↔ ∀ k, k < n → p k = false
  | 0 => ⟨fun _ k hk => absurd hk (Nat.not_lt_zero k), fun _ => rfl⟩
  | n + 1 => by
    have h := fb_ct_zero (p := p) (n := n)
    rw [fb_ct_succ]
    constructor
    · intro e k hk
      have e1 : fb_ct p n = 0 := by omega
      rcases Nat.lt_or_ge k n with q | q
      · exact h.mp e1 k q
      · have ek : k = n := by omega
        subst ek
        cases hp : p k
        · rfl
        · simp [hp] at e
    · intro a
      rw [h.mpr (fun k hk => a k (by omega)), a n (by omega)]
      rfl
theorem fb_ct_pos {p : Nat → Bool} {n : Nat} : 0 < fb_ct p n ↔ ∃ k, k < n ∧ p k = true := by
  constructor
  · intro h
    refine Classical.byContradiction fun hx => ?_
    have := fb_ct_zero.mpr (fun k hk => by
      cases hp : p k
      · rfl
      · exact absurd ⟨k, hk, hp⟩ hx : ∀ k, k < n → p k = false)
    omega
  · rintro ⟨k, hk, hp⟩
    rcases Nat.eq_zero_or_pos (fb_ct p n) with e | e
    · have := fb_ct_zero.mp e k hk
      rw [this] at hp
      cases hp
    · exact e
theorem fb_ct_all {p : Nat → Bool} {n : Nat} : fb_ct p n = n ↔ ∀ k, k < n → p k = true := by
  have h := fb_ct_not p n
  constructor
  · intro e k hk
    have z : fb_ct (fun k => !p k) n = 0 := by omega
    have := fb_ct_zero.mp z k hk
    cases hp : p k
    · simp [hp] at this
    · rfl
  · intro a
    have z : fb_ct (fun k => !p k) n = 0 := fb_ct_zero.mpr (fun k hk => by simp [a k hk])
    omega
/-- the k-th place with the property -/
theorem fb_ct_kth {p : Nat → Bool} {k : Nat} : ∀ {n : Nat}, k < fb_ct p n → ∃ i, i < n ∧ p i = true ∧ fb_ct p i = k
  | 0, h => absurd h (Nat.not_lt_zero k)
  | n + 1, h => by
    rcases Nat.lt_or_ge k (fb_ct p n) with q | q
    · obtain ⟨i, h1, h2⟩ := fb_ct_kth q
      exact ⟨i, by omega, h2⟩
    · rw [fb_ct_succ] at h
      cases hp : p n
      · simp [hp] at h; omega
      · simp [hp] at h
        exact ⟨n, by omega, hp, by omega⟩
theorem fb_ct_kth_one {p : Nat → Bool} {i j : Nat} (hi : p i = true) (hj : p j = true) (e : fb_ct p i = fb_ct p j) : i = j := by
  have key : ∀ a b : Nat, a < b → p a = true → fb_ct p a < fb_ct p b := by
    intro a b hab ha
    have h := fb_ct_mono p (show a + 1 ≤ b from hab)
    rw [fb_ct_succ, ha] at h
    simp at h
    omega
  rcases Nat.lt_trichotomy i j with q | q | q
  · have := key i j q hi; omega
  · exact q
  · have := key j i q hj; omega
/-! ===== sums over a range: one place changed, parts, bounds ===== -/
def fb_sm (f : Nat → Nat) : Nat → Nat
  | 0 => 0
  | n + 1 => fb_sm f n + f n
theorem fb_sm_succ (f : Nat → Nat) (n : Nat) : fb_sm f (n + 1) = fb_sm f n + f n := rfl
theorem fb_sm_cong {f g : Nat → Nat} : ∀ {n : Nat}, (∀ k, k < n → f k = g k) → fb_sm f n = fb_sm g n
  | 0, _ => rfl
  | n + 1, h => by rw [fb_sm_succ, fb_sm_succ, fb_sm_cong (fun k hk => h k (by omega)), h n (by omega)]
theorem fb_sm_out (f : Nat → Nat) (v : Nat) {i n : Nat} (h : n ≤ i) : fb_sm (fun k => if k = i then v else f k) n = fb_sm f n :=
  fb_sm_cong fun k hk => if_neg (by omega)
theorem fb_sm_upd (f : Nat → Nat) (v : Nat) {i : Nat} : ∀ {n : Nat}, i < n → fb_sm (fun k => if k = i then v else f k) n + f i = fb_sm f n + v
  | 0, h => absurd h (Nat.not_lt_zero i)
  | n + 1, h => by
    rw [fb_sm_succ, fb_sm_succ]
    rcases Nat.lt_or_ge i n with q | q
    · have := fb_sm_upd f v q
      have e : (if n = i then v else f n) = f n := if_neg (by omega)
      rw [e]
      omega
    · have e : i = n := by omega
      subst e
      rw [fb_sm_out f v (Nat.le_refl _)]
      simp only [if_true]
      omega
theorem fb_sm_add (f g : Nat → Nat) : ∀ n, fb_sm (fun k => f k + g k) n = fb_sm f n + fb_sm g n
  | 0 => rfl
  | n + 1 => by
    have h := fb_sm_add f g n
    rw [fb_sm_succ, fb_sm_succ, fb_sm_succ, h]
    omega
theorem fb_sm_le {f g : Nat → Nat} : ∀ {n : Nat}, (∀ k, k < n → f k ≤ g k) → fb_sm f n ≤ fb_sm g n
  | 0, _ => Nat.le_refl _
  | n + 1, h => by
    have h1 := fb_sm_le (n := n) (f := f) (g := g) (fun k hk => h k (by omega))
    have h2 := h n (by omega)
    rw [fb_sm_succ, fb_sm_succ]
    omega
theorem fb_sm_const (c : Nat) : ∀ n, fb_sm (fun _ => c) n = n * c
  | 0 => by rw [Nat.zero_mul]; rfl
  | n + 1 => by rw [fb_sm_succ, fb_sm_const c n, Nat.succ_mul]
theorem fb_sm_bound {f : Nat → Nat} {c n : Nat} (h : ∀ k, k < n → f k ≤ c) : fb_sm f n ≤ n * c := by
  rw [← fb_sm_const c n]
  exact fb_sm_le h
theorem fb_sm_mono (f : Nat → Nat) (m : Nat) : ∀ n, fb_sm f m ≤ fb_sm f (m + n)
  | 0 => Nat.le_refl _
  | n + 1 => by
    have h := fb_sm_mono f m n
    show fb_sm f m ≤ fb_sm f (m + n + 1)
    rw [fb_sm_succ]
    omega
theorem fb_sm_part (f : Nat → Nat) {i n : Nat} (h : i < n) : fb_sm f i + f i ≤ fb_sm f n := by
  have := fb_sm_mono f (i + 1) (n - (i + 1))
  rw [fb_sm_succ, show i + 1 + (n - (i + 1)) = n by omega] at this
  exact this
theorem fb_sm_split (f : Nat → Nat) (m : Nat) : ∀ n, fb_sm f (m + n) = fb_sm f m + fb_sm (fun k => f (m + k)) n
  | 0 => rfl
  | n + 1 => by
    have h := fb_sm_split f m n
    show fb_sm f (m + n + 1) = _
    rw [fb_sm_succ, fb_sm_succ, h, Nat.add_assoc]
theorem fb_sm_zero {f : Nat → Nat} {n : Nat} (h : fb_sm f n = 0) : ∀ k, k < n → f k = 0 := fun k hk => by
  have := fb_sm_part f hk
  omega
/-- the same over whole numbers -/
def fb_si (f : Nat → Int) : Nat → Int
  | 0 => 0
  | n + 1 => fb_si f n + f n
theorem fb_si_succ (f : Nat → Int) (n : Nat) : fb_si f (n + 1) = fb_si f n + f n := rfl
theorem fb_si_cong {f g : Nat → Int} : ∀ {n : Nat}, (∀ k, k < n → f k = g k) → fb_si f n = fb_si g n
  | 0, _ => rfl
  | n + 1, h => by rw [fb_si_succ, fb_si_succ, fb_si_cong (fun k hk => h k (by omega)), h n (by omega)]
theorem fb_si_out (f : Nat → Int) (v : Int) {i n : Nat} (h : n ≤ i) : fb_si (fun k => if k = i then v else f k) n = fb_si f n :=
  fb_si_cong fun k hk => if_neg (by omega)
theorem fb_si_upd (f : Nat → Int) (v : Int) {i : Nat} : ∀ {n : Nat}, i < n → fb_si (fun k => if k = i then v else f k) n = fb_si f n - f i + v
  | 0, h => absurd h (Nat.not_lt_zero i)
  | n + 1, h => by
    rw [fb_si_succ, fb_si_succ]
    rcases Nat.lt_or_ge i n with q | q
    · have := fb_si_upd f v q
      have e : (if n = i then v else f n) = f n := if_neg (by omega)
      rw [e]
      omega
    · have e : i = n := by omega
      subst e
      rw [fb_si_out f v (Nat.le_refl _)]
      simp only [if_true]
      omega
theorem fb_si_add (f g : Nat → Int) : ∀ n, fb_si (fun k => f k + g k) n = fb_si f n + fb_si g n
  | 0 => rfl
  | n + 1 => by
    have h := fb_si_add f g n
    rw [fb_si_succ, fb_si_succ, fb_si_succ, h]
    omega
theorem fb_si_sub (f g : Nat → Int) : ∀ n, fb_si (fun k => f k - g k) n = fb_si f n - fb_si g n
  | 0 => rfl
  | n + 1 => by
    have h := fb_si_sub f g n
    rw [fb_si_succ, fb_si_succ, fb_si_succ, h]
    omega
theorem fb_si_mul (c : Int) (f : Nat → Int) : ∀ n, fb_si (fun k => c * f k) n = c * fb_si f n
  | 0 => (Int.mul_zero c).symm
  | n + 1 => by
    have h := fb_si_mul c f n
    rw [fb_si_succ, fb_si_succ, h, Int.mul_add]
theorem fb_si_split (f : Nat → Int) (m : Nat) : ∀ n, fb_si f (m + n) = fb_si f m + fb_si (fun k => f (m + k)) n
  | 0 => (Int.add_zero _).symm
  | n + 1 => by
    have h := fb_si_split f m n
    show fb_si f (m + n + 1) = _
    rw [fb_si_succ, fb_si_succ, h, Int.add_assoc]
theorem fb_si_nat (f : Nat → Nat) : ∀ n, fb_si (fun k => (f k : Int)) n = (fb_sm f n : Int)
  | 0 => rfl
  | n + 1 => by
    have h := fb_si_nat f n
    rw [fb_si_succ, fb_sm_succ, h]
    omega
theorem fb_si_bound {f : Nat → Int} {c : Int} (hc : 0 ≤ c) : ∀ {n : Nat}, (∀ k, k < n → -c ≤ f k ∧ f k ≤ c) → -(n * c) ≤ fb_si f n ∧ fb_si f n ≤ n * c
  | 0, _ => by simp [fb_si]
  | n + 1, h => by
    have h1 := fb_si_bound (n := n) (f := f) hc (fun k hk => h k (by omega))
    have h2 := h n (by omega)
    have e : ((n + 1 : Nat) : Int) * c = n * c + c := by rw [Int.natCast_add, Int.add_mul]; simp
    rw [fb_si_succ, e]
    omega
/-! ===== bits of a long that isn't negative ===== -/
theorem fb_andL (a b : Nat) : lN a &&& lN b = lN (a &&& b) := by
  apply Int64.toBitVec_inj.1
  show BitVec.ofNat 64 a &&& BitVec.ofNat 64 b = BitVec.ofNat 64 (a &&& b)
  apply BitVec.eq_of_getLsbD_eq
  intro i hi
  simp [hi]
theorem fb_orL (a b : Nat) : lN a ||| lN b = lN (a ||| b) := by
  apply Int64.toBitVec_inj.1
  show BitVec.ofNat 64 a ||| BitVec.ofNat 64 b = BitVec.ofNat 64 (a ||| b)
  apply BitVec.eq_of_getLsbD_eq
  intro i hi
  simp [hi]
theorem fb_xorL (a b : Nat) : lN a ^^^ lN b = lN (a ^^^ b) := by
  apply Int64.toBitVec_inj.1
  show BitVec.ofNat 64 a ^^^ BitVec.ofNat 64 b = BitVec.ofNat 64 (a ^^^ b)
  apply BitVec.eq_of_getLsbD_eq
  intro i hi
  simp [hi]
theorem fb_xorI (a b : Nat) : nI a ^^^ nI b = nI (a ^^^ b) := by
  apply Int32.toBitVec_inj.1
  show BitVec.ofNat 32 a ^^^ BitVec.ofNat 32 b = BitVec.ofNat 32 (a ^^^ b)
  apply BitVec.eq_of_getLsbD_eq
  intro i hi
  simp [hi]
theorem fb_maskL (n k : Nat) : lN n &&& lN (2 ^ k - 1) = lN (n % 2 ^ k) := by rw [fb_andL, Nat.and_two_pow_sub_one_eq_mod]
theorem fb_or_sumL {a k : Nat} (b : Nat) (h : a < 2 ^ k) : lN (2 ^ k * b) ||| lN a = lN (2 ^ k * b + a) := by rw [fb_orL, Nat.two_pow_add_eq_or_of_lt h]
theorem fb_lN_inj {a b : Nat} (ha : a < 2 ^ 63) (hb : b < 2 ^ 63) : lN a = lN b ↔ a = b := by
  constructor
  · intro h
    have h1 : (BitVec.ofNat 64 a).toNat = (BitVec.ofNat 64 b).toNat := congrArg (fun x : Int64 => x.toBitVec.toNat) h
    rw [BitVec.toNat_ofNat, BitVec.toNat_ofNat, Nat.mod_eq_of_lt (by omega), Nat.mod_eq_of_lt (by omega)] at h1
    exact h1
  · rintro rfl; rfl
theorem fb_bit_nat (n j : Nat) : n &&& 2 ^ j = 0 ↔ n.testBit j = false := by
  constructor
  · intro h
    have h1 : (n &&& 2 ^ j).testBit j = false := by rw [h]; simp
    rw [Nat.testBit_and] at h1
    simpa using h1
  · intro h
    apply Nat.eq_of_testBit_eq
    intro i
    rw [Nat.testBit_and]
    by_cases hi : j = i
    · subst hi; simp [h]
    · first | (simp [Nat.testBit_two_pow, hi]; done) | (simp [Nat.testBit_two_pow_of_ne hi]; done)
/-- one bit of a long -/
theorem fb_bitL {n j : Nat} (hj : j < 63) : lN n &&& lN (2 ^ j) = 0 ↔ n.testBit j = false := by
  have h2 : (2 : Nat) ^ j < 2 ^ 63 := Nat.pow_lt_pow_right (by decide) hj
  have hle : n &&& 2 ^ j ≤ 2 ^ j := Nat.and_le_right
  rw [fb_andL, ← fb_bit_nat, show (0 : Int64) = lN 0 from rfl]
  exact fb_lN_inj (by omega) (by decide)
/-- a bit set, a bit taken off -/
theorem fb_bit_set (n j i : Nat) : (n ||| 2 ^ j).testBit i = (n.testBit i || decide (i = j)) := by
  rw [Nat.testBit_or]
  by_cases h : j = i
  · subst h; simp
  · have h2 : ¬ i = j := fun e => h e.symm
    first | (simp [Nat.testBit_two_pow, h, h2]; done) | (simp [Nat.testBit_two_pow_of_ne h, h2]; done)
theorem fb_bit_flip (n j i : Nat) : (n ^^^ 2 ^ j).testBit i = (n.testBit i ^^ decide (i = j)) := by
  rw [Nat.testBit_xor]
  by_cases h : j = i
  · subst h; simp
  · have h2 : ¬ i = j := fun e => h e.symm
    first | (simp [Nat.testBit_two_pow, h, h2]; done) | (simp [Nat.testBit_two_pow_of_ne h, h2]; done)
/-! ===== a stretch of an array written over by a function ===== -/
def fb_put {α : Type} (f g : Nat → α) (a n : Nat) : Nat → α := fun k => if a ≤ k ∧ k < a + n then g (k - a) else f k
theorem fb_put_0 {α : Type} (f g : Nat → α) (a : Nat) : fb_put f g a 0 = f := funext fun k => if_neg (by omega)
theorem fb_put_in {α : Type} {f g : Nat → α} {a n k : Nat} (h1 : a ≤ k) (h2 : k < a + n) : fb_put f g a n k = g (k - a) := if_pos ⟨h1, h2⟩
theorem fb_put_out {α : Type} {f g : Nat → α} {a n k : Nat} (h : k < a ∨ a + n ≤ k) : fb_put f g a n k = f k := if_neg (by omega)
theorem fb_put_succ (f g : Nat → Int32) (a n : Nat) : upd (fb_put f g a n) (a + n) (g n) = fb_put f g a (n + 1) := by
  funext k
  by_cases h : k = a + n
  · subst h
    simp [upd, fb_put]
  · by_cases h1 : a ≤ k ∧ k < a + n
    · have h2 : a ≤ k ∧ k < a + (n + 1) := by omega
      simp only [upd, fb_put, if_neg h, if_pos h1, if_pos h2]
    · have h2 : ¬ (a ≤ k ∧ k < a + (n + 1)) := by omega
      simp only [upd, fb_put, if_neg h, if_neg h1, if_neg h2]
/-- .. from the far end down -/
theorem fb_put_down (f g : Nat → Int32) {a n m : Nat} (h : m < n) : upd (fb_put f (fun k => g (k + (m + 1))) (a + (m + 1)) (n - (m + 1))) (a + m) (g m) = fb_put f (fun k => g (k + m)) (a + m) (n - m) := by
  funext k
  by_cases h0 : k = a + m
  · subst h0
    simp only [upd, if_true]
    rw [fb_put_in (by omega) (by omega)]
    exact congrArg g (by omega)
  · simp only [upd, if_neg h0]
    by_cases h1 : a + (m + 1) ≤ k ∧ k < a + (m + 1) + (n - (m + 1))
    · rw [fb_put_in h1.1 h1.2, fb_put_in (by omega) (by omega)]
      exact congrArg g (by omega)
    · rw [fb_put_out (by omega), fb_put_out (by omega)]
theorem fb_put_cong {α : Type} {f f2 g g2 : Nat → α} {a n : Nat} (hf : ∀ k, (k < a ∨ a + n ≤ k) → f k = f2 k) (hg : ∀ k, k < n → g k = g2 k) : fb_put f g a n = fb_put f2 g2 a n := by
  funext k
  by_cases h : a ≤ k ∧ k < a + n
  · rw [fb_put_in h.1 h.2, fb_put_in h.1 h.2, hg _ (by omega)]
  · rw [fb_put_out (by omega), fb_put_out (by omega), hf _ (by omega)]
/-! ===== the least, the first, the best so far; that there is one alone ===== -/
theorem fb_first {p : Nat → Prop} [DecidablePred p] : ∀ {n : Nat}, (∃ i, i < n ∧ p i) → ∃ i, i < n ∧ p i ∧ ∀ j, j < i → ¬ p j
  | 0, h => by obtain ⟨i, hi, -⟩ := h; exact absurd hi (Nat.not_lt_zero i)
  | n + 1, h => by
    by_cases q : ∃ i, i < n ∧ p i
    · obtain ⟨i, h1, h2⟩ := fb_first q
      exact ⟨i, by omega, h2⟩
    · obtain ⟨i, h1, h2⟩ := h
      have e : i = n := by
        rcases Nat.lt_or_ge i n with r | r
        · exact absurd ⟨i, r, h2⟩ q
        · omega
      subst e
      exact ⟨i, by omega, h2, fun j hj hp => q ⟨j, hj, hp⟩⟩
theorem fb_first_one {p : Nat → Prop} {i j : Nat} (hi : p i) (hi2 : ∀ k, k < i → ¬ p k) (hj : p j) (hj2 : ∀ k, k < j → ¬ p k) : i = j := by
  rcases Nat.lt_trichotomy i j with q | q | q
  · exact absurd hi (hj2 i q)
  · exact q
  · exact absurd hj (hi2 j q)
theorem fb_last {p : Nat → Prop} [DecidablePred p] : ∀ {n : Nat}, (∃ i, i < n ∧ p i) → ∃ i, i < n ∧ p i ∧ ∀ j, i < j → j < n → ¬ p j
  | 0, h => by obtain ⟨i, hi, -⟩ := h; exact absurd hi (Nat.not_lt_zero i)
  | n + 1, h => by
    by_cases q : p n
    · exact ⟨n, by omega, q, fun j h1 h2 => by omega⟩
    · obtain ⟨i, h1, h2⟩ := h
      have hi : i < n := by
        rcases Nat.lt_or_ge i n with r | r
        · exact r
        · have e : i = n := by omega
          subst e
          exact absurd h2 q
      obtain ⟨i2, a1, a2, a3⟩ := fb_last (n := n) ⟨i, hi, h2⟩
      refine ⟨i2, by omega, a2, fun j b1 b2 => ?_⟩
      rcases Nat.lt_or_ge j n with r | r
      · exact a3 j b1 r
      · have e : j = n := by omega
        subst e
        exact q
/-- the first greatest -/
theorem fb_best (f : Nat → Int) : ∀ {n : Nat}, 0 < n → ∃ i, i < n ∧ (∀ j, j < n → f j ≤ f i) ∧ ∀ j, j < i → f j < f i
  | 0, h => absurd h (Nat.lt_irrefl 0)
  | 1, _ => ⟨0, by omega, fun j hj => by have e : j = 0 := by omega
                                         subst e; exact Int.le_refl _, fun j hj => absurd hj (Nat.not_lt_zero j)⟩
  | n + 2, _ => by
    obtain ⟨i, h1, h2, h3⟩ := fb_best f (n := n + 1) (by omega)
    by_cases q : f i < f (n + 1)
    · refine ⟨n + 1, by omega, fun j hj => ?_, fun j hj => ?_⟩
      · rcases Nat.lt_or_ge j (n + 1) with r | r
        · have := h2 j r; omega
        · have e : j = n + 1 := by omega
          subst e; exact Int.le_refl _
      · have := h2 j hj; omega
    · refine ⟨i, by omega, fun j hj => ?_, h3⟩
      rcases Nat.lt_or_ge j (n + 1) with r | r
      · exact h2 j r
      · have e : j = n + 1 := by omega
        subst e; omega
theorem fb_best_one {f : Nat → Int} {n i j : Nat} (hi : i < n) (hi2 : ∀ k, k < n → f k ≤ f i) (hi3 : ∀ k, k < i → f k < f i) (hj : j < n) (hj2 : ∀ k, k < n → f k ≤ f j) (hj3 : ∀ k, k < j → f k < f j) : i = j := by
  rcases Nat.lt_trichotomy i j with q | q | q
  · have a := hj3 i q
    have b := hi2 j hj
    omega
  · exact q
  · have a := hi3 j q
    have b := hj2 i hi
    omega
/-- the first least -/
theorem fb_low (f : Nat → Int) {n : Nat} (h : 0 < n) : ∃ i, i < n ∧ (∀ j, j < n → f i ≤ f j) ∧ ∀ j, j < i → f i < f j := by
  obtain ⟨i, h1, h2, h3⟩ := fb_best (fun k => -f k) h
  exact ⟨i, h1, fun j hj => by have := h2 j hj; omega, fun j hj => by have := h3 j hj; omega⟩
/-! ===== signed ints as whole numbers, within bounds ===== -/
theorem fb_rng (x : Int32) : -2147483648 ≤ x.toInt ∧ x.toInt < 2147483648 := by
  have h1 := Int32.le_toInt x
  have h2 := Int32.toInt_lt x
  omega
theorem fb_bmod {z : Int} (h1 : -2147483648 ≤ z) (h2 : z < 2147483648) : z.bmod (2 ^ 32) = z := by
  rw [Int.bmod_eq_of_le (by omega) (by omega)]
theorem fb_addI {x y : Int32} (h1 : -2147483648 ≤ x.toInt + y.toInt) (h2 : x.toInt + y.toInt < 2147483648) : (x + y).toInt = x.toInt + y.toInt := by
  rw [Int32.toInt_add, fb_bmod h1 h2]
theorem fb_subI {x y : Int32} (h1 : -2147483648 ≤ x.toInt - y.toInt) (h2 : x.toInt - y.toInt < 2147483648) : (x - y).toInt = x.toInt - y.toInt := by
  rw [Int32.toInt_sub, fb_bmod h1 h2]
theorem fb_mulI {x y : Int32} (h1 : -2147483648 ≤ x.toInt * y.toInt) (h2 : x.toInt * y.toInt < 2147483648) : (x * y).toInt = x.toInt * y.toInt := by
  rw [Int32.toInt_mul, fb_bmod h1 h2]
theorem fb_negI {x : Int32} (h : x.toInt ≠ -2147483648) : (-x).toInt = -x.toInt := by
  have := fb_rng x
  rw [Int32.toInt_neg, fb_bmod (by omega) (by omega)]
theorem fb_ofI {z : Int} (h1 : -2147483648 ≤ z) (h2 : z < 2147483648) : (Int32.ofInt z).toInt = z := by
  rw [Int32.toInt_ofInt, fb_bmod h1 h2]
theorem fb_asI (x : Int32) : Int32.ofInt x.toInt = x := Int32.ofInt_toInt x
theorem fb_rngL (x : Int64) : -9223372036854775808 ≤ x.toInt ∧ x.toInt < 9223372036854775808 := by
  have h1 := Int64.le_toInt x
  have h2 := Int64.toInt_lt x
  omega
theorem fb_bmodL {z : Int} (h1 : -9223372036854775808 ≤ z) (h2 : z < 9223372036854775808) : z.bmod (2 ^ 64) = z := by
  rw [Int.bmod_eq_of_le (by omega) (by omega)]
theorem fb_addL {x y : Int64} (h1 : -9223372036854775808 ≤ x.toInt + y.toInt) (h2 : x.toInt + y.toInt < 9223372036854775808) : (x + y).toInt = x.toInt + y.toInt := by
  rw [Int64.toInt_add, fb_bmodL h1 h2]
theorem fb_subL {x y : Int64} (h1 : -9223372036854775808 ≤ x.toInt - y.toInt) (h2 : x.toInt - y.toInt < 9223372036854775808) : (x - y).toInt = x.toInt - y.toInt := by
  rw [Int64.toInt_sub, fb_bmodL h1 h2]
theorem fb_mulL {x y : Int64} (h1 : -9223372036854775808 ≤ x.toInt * y.toInt) (h2 : x.toInt * y.toInt < 9223372036854775808) : (x * y).toInt = x.toInt * y.toInt := by
  rw [Int64.toInt_mul, fb_bmodL h1 h2]
/-! ===== cuts of what is narrow already ===== -/
theorem fb_byte {x : Int32} (h1 : -128 ≤ x.toInt) (h2 : x.toInt < 128) : x.toInt8.toInt32 = x := by
  apply Int32.toInt_inj.1
  rw [Int8.toInt_toInt32, Int32.toInt_toInt8, Int.bmod_eq_of_le (by omega) (by omega)]
theorem fb_short {x : Int32} (h1 : -32768 ≤ x.toInt) (h2 : x.toInt < 32768) : x.toInt16.toInt32 = x := by
  apply Int32.toInt_inj.1
  rw [Int16.toInt_toInt32, Int32.toInt_toInt16, Int.bmod_eq_of_le (by omega) (by omega)]
theorem fb_byte_rng (x : Int32) : -128 ≤ x.toInt8.toInt32.toInt ∧ x.toInt8.toInt32.toInt < 128 := by
  rw [Int8.toInt_toInt32]
  have h1 := Int8.le_toInt x.toInt8
  have h2 := Int8.toInt_lt x.toInt8
  omega
theorem fb_short_rng (x : Int32) : -32768 ≤ x.toInt16.toInt32.toInt ∧ x.toInt16.toInt32.toInt < 32768 := by
  rw [Int16.toInt_toInt32]
  have h1 := Int16.le_toInt x.toInt16
  have h2 := Int16.toInt_lt x.toInt16
  omega
theorem fb_byte_twice (x : Int32) : x.toInt8.toInt32.toInt8.toInt32 = x.toInt8.toInt32 := fb_byte (fb_byte_rng x).1 (fb_byte_rng x).2
theorem fb_short_twice (x : Int32) : x.toInt16.toInt32.toInt16.toInt32 = x.toInt16.toInt32 := fb_short (fb_short_rng x).1 (fb_short_rng x).2
theorem fb_char {n : Nat} (h : n < 65536) : (nI n).toUInt32.toUInt16.toUInt32.toInt32 = nI n := by
  apply Int32.toBitVec_inj.1
  apply BitVec.eq_of_toNat_eq
  have e1 : (nI n).toBitVec.toNat = n := by
    show (BitVec.ofNat 32 n).toNat = n
    rw [BitVec.toNat_ofNat, Nat.mod_eq_of_lt (by omega)]
  have e2 : ((nI n).toUInt32.toUInt16.toUInt32).toNat = n := by
    rw [UInt16.toNat_toUInt32, UInt32.toNat_toUInt16]
    show (nI n).toBitVec.toNat % 2 ^ 16 = n
    rw [e1, Nat.mod_eq_of_lt (by omega)]
  rw [e1]
  exact e2
