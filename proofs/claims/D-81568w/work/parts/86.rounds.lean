/-! ROUNDS: layRounds and findRounds -/
set_option maxRecDepth 100000
/-- what INV looks at -/
def xFr (S S' : sX) : Prop := (∀ k, k ∈ [1, 2, 4, 6, 8, 9, 12, 26] → S'.1 k = S.1 k) ∧ (∀ k, k ∈ [0, 10] → S'.2.1 k = S.2.1 k) ∧ S'.2.2 = S.2.2
def mFr (M M' : sM) : Prop := (∀ k, k ∈ [0, 4, 7, 10, 25, 30, 36, 49] → M'.1 k = M.1 k) ∧ (∀ k, k ∈ [1, 2, 3, 5, 6, 8, 9, 24, 35, 37, 38, 50, 51, 52, 53, 54, 55] → M'.2.2 k = M.2.2 k)
theorem xFr.refl (S : sX) : xFr S S := ⟨fun _ _ => rfl, fun _ _ => rfl, rfl⟩
theorem mFr.refl (M : sM) : mFr M M := ⟨fun _ _ => rfl, fun _ _ => rfl⟩
theorem xFr.trans {S S' S2 : sX} (h : xFr S S') (h2 : xFr S' S2) : xFr S S2 := ⟨fun k hk => (h2.1 k hk).trans (h.1 k hk), fun k hk => (h2.2.1 k hk).trans (h.2.1 k hk), h2.2.2.trans h.2.2⟩
theorem mFr.trans {M M' M2 : sM} (h : mFr M M') (h2 : mFr M' M2) : mFr M M2 := ⟨fun k hk => (h2.1 k hk).trans (h.1 k hk), fun k hk => (h2.2 k hk).trans (h.2 k hk)⟩
theorem xFr.sI (S : sX) (k : Nat) (v : Int32) (hk : k ∉ [1, 2, 4, 6, 8, 9, 12, 26]) : xFr S (xI S k v) := ⟨fun j hj => up_ne (fun e => hk (e ▸ hj)), fun _ _ => rfl, rfl⟩
theorem xFr.sA (S : sX) (k i : Nat) (v : Int32) (hk : k ∉ [0, 10]) : xFr S (xA S k i v) := ⟨fun _ _ => rfl, fun j hj => up_ne (fun e => hk (e ▸ hj)), rfl⟩
theorem mFr.sI (M : sM) (k : Nat) (v : Int32) (hk : k ∉ [0, 4, 7, 10, 25, 30, 36, 49]) : mFr M (mI M k v) := ⟨fun j hj => up_ne (fun e => hk (e ▸ hj)), fun _ _ => rfl⟩
theorem mFr.sA (M : sM) (k i : Nat) (v : Int32) (hk : k ∉ [1, 2, 3, 5, 6, 8, 9, 24, 35, 37, 38, 50, 51, 52, 53, 54, 55]) : mFr M (mA M k i v) := ⟨fun _ _ => rfl, fun j hj => up_ne (fun e => hk (e ▸ hj))⟩
theorem mFr.sL (M : sM) (k : Nat) (v : Int64) : mFr M (mL M k v) := ⟨fun _ _ => rfl, fun _ _ => rfl⟩
theorem INV.fr {S S' : sX} {M M' : sM} (hI : INV S M) (hx : xFr S S') (hm : mFr M M') : INV S' M' := by
  obtain ⟨h1, h2, h3⟩ := hx
  obtain ⟨g1, g2⟩ := hm
  unfold INV at *
  rw [h3, h1 1 (by decide), h1 2 (by decide), h1 4 (by decide), h1 6 (by decide), h1 8 (by decide), h1 9 (by decide), h1 12 (by decide), h1 26 (by decide), h2 0 (by decide), h2 10 (by decide)]
  rw [g1 0 (by decide), g1 4 (by decide), g1 7 (by decide), g1 10 (by decide), g1 25 (by decide), g1 30 (by decide), g1 36 (by decide), g1 49 (by decide)]
  rw [g2 1 (by decide), g2 2 (by decide), g2 3 (by decide), g2 5 (by decide), g2 6 (by decide), g2 8 (by decide), g2 9 (by decide), g2 24 (by decide), g2 35 (by decide), g2 37 (by decide), g2 38 (by decide), g2 50 (by decide), g2 51 (by decide), g2 52 (by decide), g2 53 (by decide), g2 54 (by decide), g2 55 (by decide)]
  exact hI
theorem CW.fr {S S' : sX} {M M' : sM} {n : Nat} {mk : Nat → Nat} (hI : CW S M n mk) (hx : xFr S S') (hm : mFr M M') : CW S' M' n mk := by
  obtain ⟨h1, h2, h3⟩ := hx
  obtain ⟨g1, g2⟩ := hm
  unfold CW at *
  rw [h3, h1 12 (by decide), g1 36 (by decide), g2 37 (by decide)]
  exact hI
theorem xA_eq (S : sX) (k i : Nat) (v : Int32) : (xA S k i v).2.1 k i = v := by
  show va_up S.2.1 k (upd (S.2.1 k) i v) k i = v
  rw [up_eq, upd_eq']
theorem xA_ne (S : sX) (k : Nat) {i j : Nat} (v : Int32) (h : j ≠ i) : (xA S k i v).2.1 k j = S.2.1 k j := by
  show va_up S.2.1 k (upd (S.2.1 k) i v) k j = _
  rw [up_eq, upd_ne' h]
theorem xA_k (S : sX) {k k' : Nat} (i : Nat) (v : Int32) (h : k' ≠ k) : (xA S k i v).2.1 k' = S.2.1 k' := up_ne h
theorem mA_eq (S : sM) (k i : Nat) (v : Int32) : (mA S k i v).2.2 k i = v := by
  show va_up S.2.2 k (upd (S.2.2 k) i v) k i = v
  rw [up_eq, upd_eq']
theorem mA_ne (S : sM) (k : Nat) {i j : Nat} (v : Int32) (h : j ≠ i) : (mA S k i v).2.2 k j = S.2.2 k j := by
  show va_up S.2.2 k (upd (S.2.2 k) i v) k j = _
  rw [up_eq, upd_ne' h]
theorem mA_k (S : sM) {k k' : Nat} (i : Nat) (v : Int32) (h : k' ≠ k) : (mA S k i v).2.2 k' = S.2.2 k' := up_ne h
theorem xI_eq (S : sX) (k : Nat) (v : Int32) : (xI S k v).1 k = v := up_eq (f := S.1)
theorem mI_eq (S : sM) (k : Nat) (v : Int32) : (mI S k v).1 k = v := up_eq (f := S.1)
theorem xI_ne (S : sX) {k j : Nat} (v : Int32) (h : j ≠ k) : (xI S k v).1 j = S.1 j := up_ne (f := S.1) h
theorem mI_ne (S : sM) {k j : Nat} (v : Int32) (h : j ≠ k) : (mI S k v).1 j = S.1 j := up_ne (f := S.1) h
theorem mL_eq (S : sM) (k : Nat) (v : Int64) : (mL S k v).2.1 k = v := up_eq (f := S.2.1)
theorem mL_ne (S : sM) {k j : Nat} (v : Int64) (h : j ≠ k) : (mL S k v).2.1 j = S.2.1 j := up_ne (f := S.2.1) h
theorem nI_z {a : Nat} (h : a < 2 ^ 31) : nI a = 0 ↔ a = 0 := by rw [show (0 : Int32) = nI 0 from rfl, nI_eq h (by decide)]
theorem and_two (a b : Nat) : a &&& b = 2 * (a / 2 &&& b / 2) + (a % 2) * (b % 2) := by
  have h1 : (a &&& b) / 2 = a / 2 &&& b / 2 := by
    have := Nat.and_div_two_pow (a := a) (b := b) (n := 1)
    simpa using this
  have h2 : (a &&& b) % 2 = (a % 2) * (b % 2) := by
    have := Nat.and_mod_two_pow (a := a) (b := b) (n := 1)
    simp only [Nat.pow_one] at this
    rw [this]
    rcases Nat.mod_two_eq_zero_or_one a with h | h <;> rcases Nat.mod_two_eq_zero_or_one b with h' | h' <;> rw [h, h'] <;> rfl
  have := Nat.div_add_mod (a &&& b) 2
  omega
theorem sub_next : ∀ (s x y : Nat), x &&& s = x → y &&& s = y → y < x → y ≤ (x - 1) &&& s := by
  intro s
  induction s using Nat.strongRecOn with
  | _ s ih =>
    intro x y hx hy hlt
    rcases Nat.eq_zero_or_pos s with h0 | h0
    · rw [h0, Nat.and_zero] at hx; omega
    have ex := and_two x s
    have ey := and_two y s
    have ez := and_two (x - 1) s
    have H := ih (s / 2) (by omega) (x / 2) (y / 2)
    rcases Nat.mod_two_eq_zero_or_one x with a | a
    · have e1 : (x - 1) / 2 = x / 2 - 1 := by omega
      have e2 : (x - 1) % 2 = 1 := by omega
      rw [e1, e2] at ez
      rw [a] at ex
      rcases Nat.mod_two_eq_zero_or_one y with b | b <;> rcases Nat.mod_two_eq_zero_or_one s with c | c <;> rw [b, c] at ey <;> rw [c] at ez ex <;> have := H (by omega) (by omega) (by omega) <;> omega
    · have e1 : (x - 1) / 2 = x / 2 := by omega
      have e2 : (x - 1) % 2 = 0 := by omega
      rw [e1, e2] at ez
      rcases Nat.mod_two_eq_zero_or_one s with c | c <;> rw [a, c] at ex <;> omega
def lowb (s : Nat) : Nat := s &&& (256 - s)
theorem low_at : ∀ s, s < 256 → nI s &&& (-(nI s)) = nI (lowb s) ∧ lowb s < 256 := by decide +kernel
theorem low_pow : ∀ s, s < 256 → 0 < s → ∃ k, k < 8 ∧ lowb s = 2 ^ k := by decide +kernel
theorem low_le {s x : Nat} (hs : s < 256) (h : x &&& lowb s ≠ 0) : 0 < s ∧ lowb s ≤ x ∧ 0 < x := by
  rcases Nat.eq_zero_or_pos s with h0 | h0
  · rw [h0] at h; exact absurd (show x &&& 0 = 0 from Nat.and_zero x) h
  obtain ⟨k, -, e⟩ := low_pow s hs h0
  rw [e] at h ⊢
  have hb : x.testBit k = true := by
    cases hc : x.testBit k with
    | true => rfl
    | false => exact absurd ((fb_bit_nat x k).mpr hc) h
  have := Nat.ge_two_pow_of_testBit hb
  have := Nat.two_pow_pos k
  omega
theorem andn {x : Nat} (hx : x < 2 ^ 32) (s : Nat) : x &&& (s ^^^ (2 ^ 32 - 1)) = x ^^^ (x &&& s) := by
  apply Nat.eq_of_testBit_eq
  intro i
  rw [Nat.testBit_and, Nat.testBit_xor, Nat.testBit_xor, Nat.testBit_and, Nat.testBit_two_pow_sub_one]
  by_cases hi : i < 32
  · rw [decide_eq_true hi]
    cases x.testBit i <;> cases s.testBit i <;> rfl
  · rw [Nat.testBit_lt_two_pow (Nat.lt_of_lt_of_le hx (Nat.pow_le_pow_right (by omega) (by omega)))]
    rfl
theorem xor_sub {s x : Nat} (h : x &&& s = x) (i : Nat) : (s ^^^ x).testBit i = (s.testBit i && !x.testBit i) := by
  have := congrArg (fun z => z.testBit i) h
  simp only [Nat.testBit_and] at this
  rw [Nat.testBit_xor]
  cases h1 : s.testBit i <;> cases h2 : x.testBit i <;> simp_all
theorem xor_lt {s x : Nat} (h : x &&& s = x) (h0 : 0 < x) : s ^^^ x < s := by
  have h1 : (s ^^^ x) &&& s = s ^^^ x := by
    apply Nat.eq_of_testBit_eq
    intro i
    rw [Nat.testBit_and, xor_sub h]
    cases s.testBit i <;> cases x.testBit i <;> rfl
  have h2 : s ^^^ x ≤ s := by rw [← h1]; exact Nat.and_le_right
  rcases Nat.lt_or_ge (s ^^^ x) s with h3 | h3
  · exact h3
  · have e : s ^^^ x = s := by omega
    have : s ^^^ (s ^^^ x) = s ^^^ s := by rw [e]
    rw [Nat.xor_self, ← Nat.xor_assoc, Nat.xor_self, Nat.zero_xor] at this
    omega
theorem ctb_xor {s x e : Nat} (h : x &&& s = x) (he : x.testBit e = true) (he8 : e < 8) : ∀ j, j ≤ 8 → ctb (s ^^^ x) j + (if 7 - e < j then 1 else 0) ≤ ctb s j := by
  intro j
  induction j with
  | zero => intro _; rw [if_neg (by omega)]; exact Nat.le_refl _
  | succ j ih =>
    intro hj
    have := ih (by omega)
    rw [ctb, ctb, xor_sub h]
    by_cases h1 : 7 - e = j
    · have e1 : 7 - j = e := by omega
      have h3 : s.testBit e = true := by
        have := congrArg (fun z => z.testBit e) h
        simp only [Nat.testBit_and, he] at this
        simpa using this
      rw [e1, he, h3, if_pos (show 7 - e < j + 1 by omega)]
      rw [if_neg (show ¬ 7 - e < j by omega)] at this
      simp only [Bool.not_true, Bool.and_false, Bool.false_eq_true, if_false, if_true]
      omega
    · by_cases h2 : 7 - e < j
      · rw [if_pos (show 7 - e < j + 1 by omega)]
        rw [if_pos h2] at this
        cases s.testBit (7 - j) <;> cases x.testBit (7 - j) <;> simp <;> omega
      · rw [if_neg (show ¬ 7 - e < j + 1 by omega)]
        rw [if_neg h2] at this
        cases s.testBit (7 - j) <;> cases x.testBit (7 - j) <;> simp <;> omega
theorem ctb_lt {s x : Nat} (hx : x < 256) (h : x &&& s = x) (h0 : 0 < x) : ctb (s ^^^ x) 8 + 1 ≤ ctb s 8 := by
  obtain ⟨e, he⟩ := Nat.exists_testBit_of_ne_zero (show x ≠ 0 by omega)
  have he8 : e < 8 := by
    rcases Nat.lt_or_ge e 8 with h | h
    · exact h
    · rw [Nat.testBit_lt_two_pow (Nat.lt_of_lt_of_le hx (Nat.pow_le_pow_right (n := 2) (i := 8) (j := e) (by omega) h))] at he
      exact absurd he (by decide)
  have := ctb_xor h he he8 8 (by omega)
  rw [if_pos (show 7 - e < 8 by omega)] at this
  exact this
theorem xor_z {a b : Nat} : a ^^^ b = 0 ↔ a = b := by
  constructor
  · intro h
    have : a ^^^ b ^^^ b = 0 ^^^ b := by rw [h]
    rwa [Nat.xor_assoc, Nat.xor_self, Nat.xor_zero, Nat.zero_xor] at this
  · intro h; rw [h, Nat.xor_self]

theorem andn_I {x : Nat} (hx : x < 256) (s : Nat) : nI x &&& (nI s ^^^ (-1)) = nI (x ^^^ (x &&& s)) := by
  rw [show (-1 : Int32) = nI (2 ^ 32 - 1) from rfl, fb_xorI, nx_and, andn (by omega)]
theorem rest_I {s x : Nat} (hs : s < 256) (h : x &&& s = x) : nI s &&& (nI x ^^^ (-1)) = nI (s ^^^ x) := by
  rw [andn_I hs, Nat.and_comm s x, h]
theorem sub_I {s x : Nat} (hx : x < 256) : (nI x &&& (nI s ^^^ (-1))) = 0 ↔ x &&& s = x := by
  rw [andn_I hx, nI_z (Nat.lt_of_lt_of_le (Nat.xor_lt_two_pow (n := 8) hx (Nat.lt_of_le_of_lt Nat.and_le_left hx)) (by decide)), xor_z]
  exact ⟨fun h => h.symm, fun h => h.symm⟩
theorem low_I {x s : Nat} (hx : x < 256) : (nI x &&& nI (lowb s)) = 0 ↔ x &&& lowb s = 0 := by
  rw [nx_and, nI_z (Nat.lt_of_le_of_lt Nat.and_le_left (by omega))]
def fit (n : Nat) (mk : Nat → Nat) (s : Nat) : Nat := if ctb s 8 ≤ n ∧ cang n mk s 8 0 = true then 1 else 0
abbrev cand (n : Nat) (mk : Nat → Nat) (s x : Nat) : Prop := x &&& s = x ∧ x &&& lowb s ≠ 0 ∧ fit n mk x = 1
def okR (n : Nat) (mk : Nat → Nat) (D : Nat) (a : Nat → Nat) (s : Nat) : Prop := a s ≤ D ∧ (s = 0 → a s = 0) ∧ (0 < s → (∀ x, cand n mk s x → a s ≤ 1 + a (s ^^^ x)) ∧ (a s = D ∨ ∃ x, cand n mk s x ∧ a s = 1 + a (s ^^^ x)))
section
variable {N : Nat} {n : Nat} {mk : Nat → Nat}
theorem fit_01 (s : Nat) : fit n mk s = 0 ∨ fit n mk s = 1 := by
  unfold fit
  split
  · exact Or.inr rfl
  · exact Or.inl rfl
theorem cand_lt {s x : Nat} (hs : s < 256) (h : cand n mk s x) : 0 < s ∧ 0 < x ∧ x ≤ s ∧ lowb s ≤ x ∧ s ^^^ x < s ∧ ctb (s ^^^ x) 8 + 1 ≤ ctb s 8 := by
  obtain ⟨h1, h2, h3⟩ := h
  obtain ⟨g1, g2, g3⟩ := low_le hs h2
  have g4 : x ≤ s := by rw [← h1]; exact Nat.and_le_right
  exact ⟨g1, g3, g4, g2, xor_lt h1 g3, ctb_lt (by omega) h1 g3⟩
theorem okR.cong {D s : Nat} {a a' : Nat → Nat} (hs : s < 256) (h : okR n mk D a s) (e : ∀ j, j ≤ s → a' j = a j) : okR n mk D a' s := by
  obtain ⟨h1, h2, h3⟩ := h
  refine ⟨by rw [e s (Nat.le_refl _)]; exact h1, fun h0 => by rw [e s (Nat.le_refl _)]; exact h2 h0, fun h0 => ?_⟩
  obtain ⟨h4, h5⟩ := h3 h0
  refine ⟨fun x hx => ?_, ?_⟩
  · rw [e s (Nat.le_refl _), e _ (Nat.le_of_lt (cand_lt hs hx).2.2.2.2.1)]; exact h4 x hx
  · rcases h5 with h5 | ⟨x, hx, h5⟩
    · exact Or.inl (by rw [e s (Nat.le_refl _)]; exact h5)
    · exact Or.inr ⟨x, hx, by rw [e s (Nat.le_refl _), e _ (Nat.le_of_lt (cand_lt hs hx).2.2.2.2.1)]; exact h5⟩
theorem ab_rel {a b : Nat → Nat} (ha : ∀ i, i < 256 → okR n mk 9 a i) (hb : ∀ i, i < 256 → okR n mk 99 b i) : ∀ s, s < 256 → (a s = b s ∧ a s ≤ ctb s 8) ∨ (a s = 9 ∧ b s = 99) := by
  intro s
  induction s using Nat.strongRecOn with
  | _ s ih =>
    intro hs
    obtain ⟨a1, a2, a3⟩ := ha s hs
    obtain ⟨b1, b2, b3⟩ := hb s hs
    rcases Nat.eq_zero_or_pos s with h0 | h0
    · left; rw [a2 h0, b2 h0]; exact ⟨rfl, Nat.zero_le _⟩
    obtain ⟨a4, a5⟩ := a3 h0
    obtain ⟨b4, b5⟩ := b3 h0
    have R : ∀ x, cand n mk s x → (a (s ^^^ x) = b (s ^^^ x) ∧ a (s ^^^ x) + 1 ≤ ctb s 8) ∨ (a (s ^^^ x) = 9 ∧ b (s ^^^ x) = 99) := fun x hx => by
      obtain ⟨-, -, -, -, c1, c2⟩ := cand_lt hs hx
      rcases ih _ c1 (by omega) with ⟨h1, h2⟩ | h
      · exact Or.inl ⟨h1, by omega⟩
      · exact Or.inr h
    have h8 := ctb_le s 8
    by_cases hf : ∃ x, cand n mk s x ∧ a (s ^^^ x) = b (s ^^^ x) ∧ a (s ^^^ x) + 1 ≤ ctb s 8
    · obtain ⟨x, x1, x2, x3⟩ := hf
      have := a4 x x1
      have := b4 x x1
      rcases a5 with a5 | ⟨y, y1, y2⟩
      · omega
      rcases b5 with b5 | ⟨z, z1, z2⟩
      · omega
      have := a4 z z1
      have := b4 y y1
      have := R y y1
      have := R z z1
      omega
    · have R2 : ∀ x, cand n mk s x → a (s ^^^ x) = 9 ∧ b (s ^^^ x) = 99 := fun x hx => by
        rcases R x hx with h | h
        · exact absurd ⟨x, hx, h⟩ hf
        · exact h
      right
      constructor
      · rcases a5 with a5 | ⟨y, y1, y2⟩
        · exact a5
        · have := R2 y y1; omega
      · rcases b5 with b5 | ⟨y, y1, y2⟩
        · exact b5
        · have := R2 y y1; omega
theorem x_goI {S : sX} {M : sM} (hw : CW S M n mk) (hN : 300 ≤ N) {s : Nat} (hs : s < 256) : fX0_goTogether N S (nI s) = some (nI (fit n mk s)) := by
  rw [x_go hw (by omega) hs]
  unfold fit
  by_cases h : ctb s 8 ≤ n ∧ cang n mk s 8 0 = true
  · rw [if_pos h, if_pos h]; rfl
  · rw [if_neg h, if_neg h]; rfl
theorem bool_nar {k : Nat} (h : k = 0 ∨ k = 1) : vp_nar .boolean (nI k) = nI k := by
  rcases h with rfl | rfl <;> decide
theorem x_fit {M : sM} (hN : 300 ≤ N) (kx : sX → Int32 → Option (Int32 × sX)) (x1 : Int32) : ∀ (k s m : Nat) (S : sX), CW S M n mk → s + k = 256 → k < m → (∀ i, i < s → S.2.1 14 i = nI (fit n mk i)) → ∃ S', fX0_layRounds_2 N kx m S x1 (nI s) = kx S' x1 ∧ xFr S S' ∧ ∀ i, i < 256 → S'.2.1 14 i = nI (fit n mk i) := by
  intro k
  induction k with
  | zero =>
    intro s m S hw hs hm hp
    obtain ⟨m, rfl⟩ : ∃ i, m = i + 1 := ⟨m - 1, by omega⟩
    have : s = 256 := by omega
    subst this
    rw [fX0_layRounds_2, if_pos (by decide)]
    exact ⟨S, rfl, xFr.refl S, hp⟩
  | succ k ih =>
    intro s m S hw hs hm hp
    obtain ⟨m, rfl⟩ : ∃ i, m = i + 1 := ⟨m - 1, by omega⟩
    have hge : ¬ (256 : Int32) ≤ nI s := nI_ge (b := 256) (by omega) (by decide)
    rw [fX0_layRounds_2, if_neg hge, x_goI hw hN (by omega), Option.bind_some, bool_nar (fit_01 s), xas_at (by omega) (by decide), Option.bind_some]
    simp only [ec_lt, nI_1]
    have hF := xFr.sA S 14 s (nI (fit n mk s)) (by decide)
    obtain ⟨S', e1, e2, e3⟩ := ih (s + 1) m (xA S 14 s (nI (fit n mk s))) (hw.fr hF (mFr.refl M)) (by omega) (by omega) (fun i hi => by
      rcases Nat.lt_or_ge i s with h | h
      · rw [xA_ne _ _ _ (by omega)]; exact hp i h
      · have : i = s := by omega
        rw [this, xA_eq])
    exact ⟨S', e1, hF.trans e2, e3⟩
theorem m_fit {S : sX} (hN : 300 ≤ N) (kx : sM → Int32 → Option sM) (x1 : Int32) : ∀ (k s m : Nat) (M : sM), CW S M n mk → s + k = 256 → k < m → (∀ i, i < s → M.2.2 40 i = nI (fit n mk i)) → ∃ M', fX3_findRounds_2 N kx m M x1 (nI s) = kx M' x1 ∧ mFr M M' ∧ ∀ i, i < 256 → M'.2.2 40 i = nI (fit n mk i) := by
  intro k
  induction k with
  | zero =>
    intro s m M hw hs hm hp
    obtain ⟨m, rfl⟩ : ∃ i, m = i + 1 := ⟨m - 1, by omega⟩
    have : s = 256 := by omega
    subst this
    rw [fX3_findRounds_2, if_pos (by decide)]
    exact ⟨M, rfl, mFr.refl M, hp⟩
  | succ k ih =>
    intro s m M hw hs hm hp
    obtain ⟨m, rfl⟩ : ∃ i, m = i + 1 := ⟨m - 1, by omega⟩
    have hge : ¬ (256 : Int32) ≤ nI s := nI_ge (b := 256) (by omega) (by decide)
    have E : fX3_findRounds_2 N kx (m + 1) M x1 (nI s) = fX3_findRounds_2 N kx m (mA M 40 s (nI (fit n mk s))) x1 (nI (s + 1)) := by
      rw [fX3_findRounds_2, if_neg hge, m_way hw hN (by omega), Option.bind_some]
      unfold fX3_findRounds_29
      simp only [ec_lt, nI_1]
      by_cases hc : ctb s 8 ≤ n ∧ cang n mk s 8 0 = true
      · have hl := lw_lt hw (by omega) hc
        rw [if_pos hc, if_neg (nI_nm4 (by omega)), as_at (by omega) (by decide), Option.bind_some]
        unfold fit
        rw [if_pos hc]
        rfl
      · rw [if_neg hc, if_pos rfl, as_at (by omega) (by decide), Option.bind_some]
        unfold fit
        rw [if_neg hc]
        rfl
    rw [E]
    have hF := mFr.sA M 40 s (nI (fit n mk s)) (by decide)
    obtain ⟨S', e1, e2, e3⟩ := ih (s + 1) m (mA M 40 s (nI (fit n mk s))) (hw.fr (xFr.refl S) hF) (by omega) (by omega) (fun i hi => by
      rcases Nat.lt_or_ge i s with h | h
      · rw [mA_ne _ _ _ (by omega)]; exact hp i h
      · have : i = s := by omega
        rw [this, mA_eq])
    exact ⟨S', e1, hF.trans e2, e3⟩
theorem x_in (kx : sX → Int32 → Int32 → Option (Int32 × sX)) (x1 : Int32) {s : Nat} (hs : s < 256) (a : Nat → Nat) (ha : ∀ i, i < s → a i ≤ 9) : ∀ (k x m v : Nat) (S : sX), x ≤ k → k < m → x &&& s = x → (∀ i, i < 256 → S.2.1 14 i = nI (fit n mk i)) → (∀ i, i < s → S.2.1 15 i = nI (a i)) → S.2.1 15 s = nI v → v ≤ 9 → (v = 9 ∨ ∃ y, cand n mk s y ∧ v = 1 + a (s ^^^ y)) → (∀ y, x < y → cand n mk s y → v ≤ 1 + a (s ^^^ y)) →
    ∃ S' v', fX0_layRounds_58 N kx m S x1 (nI s) (nI (lowb s)) (nI x) = kx S' x1 (nI s) ∧ xFr S S' ∧ (∀ i, i < 256 → S'.2.1 14 i = nI (fit n mk i)) ∧ (∀ i, i < s → S'.2.1 15 i = nI (a i)) ∧ S'.2.1 15 s = nI v' ∧ v' ≤ 9 ∧ (v' = 9 ∨ ∃ y, cand n mk s y ∧ v' = 1 + a (s ^^^ y)) ∧ (∀ y, cand n mk s y → v' ≤ 1 + a (s ^^^ y)) := by
  intro k
  induction k with
  | zero =>
    intro x m v S hx hm hsub hf hA hv hv9 hex hall
    obtain ⟨m, rfl⟩ : ∃ i, m = i + 1 := ⟨m - 1, by omega⟩
    have : x = 0 := by omega
    subst this
    rw [fX0_layRounds_58, if_pos (by decide)]
    exact ⟨S, v, rfl, xFr.refl S, hf, hA, hv, hv9, hex, fun y hy => hall y (cand_lt hs hy).2.1 hy⟩
  | succ k ih =>
    intro x m v S hx hm hsub hf hA hv hv9 hex hall
    obtain ⟨m, rfl⟩ : ∃ i, m = i + 1 := ⟨m - 1, by omega⟩
    rcases Nat.eq_zero_or_pos x with h0 | h0
    · subst h0
      rw [fX0_layRounds_58, if_pos (by decide)]
      exact ⟨S, v, rfl, xFr.refl S, hf, hA, hv, hv9, hex, fun y hy => hall y (cand_lt hs hy).2.1 hy⟩
    have hxs : x ≤ s := by rw [← hsub]; exact Nat.and_le_right
    have enext : (nI x - 1) &&& nI s = nI ((x - 1) &&& s) := by
      rw [show nI x - 1 = nI (x - 1) from pk_sub (a := x) (b := 1) h0, nx_and]
    have step : ∀ (v : Nat) (S1 : sX), xFr S S1 → (∀ i, i < 256 → S1.2.1 14 i = nI (fit n mk i)) → (∀ i, i < s → S1.2.1 15 i = nI (a i)) → S1.2.1 15 s = nI v → v ≤ 9 → (v = 9 ∨ ∃ y, cand n mk s y ∧ v = 1 + a (s ^^^ y)) → (∀ y, x ≤ y → cand n mk s y → v ≤ 1 + a (s ^^^ y)) →
      ∃ S' v', fX0_layRounds_108 N (fX0_layRounds_58 N kx m) S1 x1 (nI s) (nI (lowb s)) (nI x) = kx S' x1 (nI s) ∧ xFr S S' ∧ (∀ i, i < 256 → S'.2.1 14 i = nI (fit n mk i)) ∧ (∀ i, i < s → S'.2.1 15 i = nI (a i)) ∧ S'.2.1 15 s = nI v' ∧ v' ≤ 9 ∧ (v' = 9 ∨ ∃ y, cand n mk s y ∧ v' = 1 + a (s ^^^ y)) ∧ (∀ y, cand n mk s y → v' ≤ 1 + a (s ^^^ y)) := by
      intro v S1 hF hf hA hv hv9 hex hall
      unfold fX0_layRounds_108
      simp only [ec_lt]
      rw [enext]
      obtain ⟨S', v', g1, g2, g3⟩ := ih ((x - 1) &&& s) m v S1 (Nat.le_trans Nat.and_le_left (by omega)) (by omega) (by rw [Nat.and_assoc, Nat.and_self]) hf hA hv hv9 hex (fun y hy hc => hall y (by
        rcases Nat.lt_or_ge y x with h | h
        · have := sub_next s x y hsub hc.1 h
          omega
        · exact h) hc)
      exact ⟨S', v', g1, hF.trans g2, g3⟩
    rw [fX0_layRounds_58, if_neg (nI_nle h0 (by omega))]
    simp only [low_I (show x < 256 by omega)]
    by_cases hl : x &&& lowb s = 0
    · rw [if_pos hl]
      exact step v S (xFr.refl S) hf hA hv hv9 hex (fun y hy hc => hall y (by
        rcases Nat.lt_or_ge x y with h | h
        · exact h
        · have : y = x := by omega
          rw [this] at hc
          exact absurd hl hc.2.1) hc)
    rw [if_neg hl, ag_at (by omega) (by decide), Option.bind_some, hf x (by omega)]
    rcases fit_01 (n := n) (mk := mk) x with h01 | h01
    · rw [h01, if_pos (show nI 0 = 0 from rfl)]
      exact step v S (xFr.refl S) hf hA hv hv9 hex (fun y hy hc => hall y (by
        rcases Nat.lt_or_ge x y with h | h
        · exact h
        · have : y = x := by omega
          rw [this] at hc
          have := hc.2.2
          omega) hc)
    rw [h01, if_neg (by decide)]
    have hc : cand n mk s x := ⟨hsub, hl, h01⟩
    obtain ⟨-, -, -, -, c1, -⟩ := cand_lt hs hc
    have := ha _ c1
    rw [rest_I hs hsub, ag_at hs (by decide), Option.bind_some, ag_at (by omega) (by decide), Option.bind_some, hv, hA _ c1, show (1 : Int32) + nI (a (s ^^^ x)) = nI (1 + a (s ^^^ x)) from nI_add 1 _]
    simp only [nI_ltI (show 1 + a (s ^^^ x) < 2 ^ 31 by omega) (show v < 2 ^ 31 by omega)]
    have emin : (if 1 + a (s ^^^ x) < v then nI (1 + a (s ^^^ x)) else nI v) = nI (if 1 + a (s ^^^ x) < v then 1 + a (s ^^^ x) else v) := by split <;> rfl
    rw [emin, xas_at hs (by decide), Option.bind_some]
    refine step _ _ (xFr.sA S 15 s _ (by decide)) (fun i hi => by rw [xA_k _ _ _ (by decide)]; exact hf i hi) (fun i hi => by rw [xA_ne _ _ _ (by omega)]; exact hA i hi) (xA_eq _ _ _ _) (by split <;> omega) ?_ (fun y hy hcy => ?_)
    · split
      · exact Or.inr ⟨x, hc, rfl⟩
      · exact hex
    · rcases Nat.lt_or_ge x y with h | h
      · have := hall y h hcy
        split <;> omega
      · have : y = x := by omega
        rw [this]
        split <;> omega
theorem x_out (hN : 300 ≤ N) (kx : sX → Int32 → Option (Int32 × sX)) (x1 : Int32) : ∀ (k s m : Nat) (S : sX) (a : Nat → Nat), s + k = 256 → k < m → 0 < s → (∀ i, i < 256 → S.2.1 14 i = nI (fit n mk i)) → (∀ i, i < s → S.2.1 15 i = nI (a i) ∧ okR n mk 9 a i) → ∃ S' a', fX0_layRounds_35 N kx m S x1 (nI s) = kx S' x1 ∧ xFr S S' ∧ (∀ i, i < 256 → S'.2.1 14 i = nI (fit n mk i)) ∧ ∀ i, i < 256 → S'.2.1 15 i = nI (a' i) ∧ okR n mk 9 a' i := by
  intro k
  induction k with
  | zero =>
    intro s m S a hs hm h0 hf hA
    obtain ⟨m, rfl⟩ : ∃ i, m = i + 1 := ⟨m - 1, by omega⟩
    have : s = 256 := by omega
    subst this
    rw [fX0_layRounds_35, if_pos (by decide)]
    exact ⟨S, a, rfl, xFr.refl S, hf, hA⟩
  | succ k ih =>
    intro s m S a hs hm h0 hf hA
    obtain ⟨m, rfl⟩ : ∃ i, m = i + 1 := ⟨m - 1, by omega⟩
    have hge : ¬ (256 : Int32) ≤ nI s := nI_ge (b := 256) (by omega) (by decide)
    rw [fX0_layRounds_35, if_neg hge]
    simp only [ec_lt]
    rw [(low_at s (by omega)).1, xas_at (by omega) (by decide), Option.bind_some]
    obtain ⟨S', v', e1, e2, e3, e4, e5, e6, e7, e8⟩ := x_in (N := N) (n := n) (mk := mk) (fun S_14 x1_15 x2_16 => fX0_layRounds_35 N kx m S_14 x1_15 (x2_16 + (1 : Int32))) x1 (s := s) (by omega) a (fun i hi => (hA i hi).2.1) s s N 9 (xA S 15 s 9) (Nat.le_refl _) (by omega) (Nat.and_self s) (fun i hi => by rw [xA_k _ _ _ (by decide)]; exact hf i hi) (fun i hi => by rw [xA_ne _ _ _ (by omega)]; exact (hA i hi).1) (xA_eq _ _ _ _) (Nat.le_refl _) (Or.inl rfl) (fun y hy hc => by have := (cand_lt (show s < 256 by omega) hc).2.2.1; omega)
    rw [e1, nI_1]
    have key : ∀ i, i < s + 1 → S'.2.1 15 i = nI ((fun j => if j = s then v' else a j) i) ∧ okR n mk 9 (fun j => if j = s then v' else a j) i := by
      intro i hi
      rcases Nat.lt_or_ge i s with h | h
      · refine ⟨by dsimp only; rw [if_neg (by omega)]; exact e4 i h, (hA i h).2.cong (by omega) (fun j hj => if_neg (by omega))⟩
      · have : i = s := by omega
        subst this
        refine ⟨by dsimp only; rw [if_pos rfl]; exact e5, ?_, fun hz => absurd hz (by omega), fun _ => ⟨fun x hx => ?_, ?_⟩⟩
        · dsimp only; rw [if_pos rfl]; exact e6
        · have := (cand_lt (show i < 256 by omega) hx).2.2.2.2.1
          dsimp only; rw [if_pos rfl, if_neg (by omega)]; exact e8 x hx
        · dsimp only
          rw [if_pos rfl]
          rcases e7 with e7 | ⟨x, hx, e7⟩
          · exact Or.inl e7
          · have := (cand_lt (show i < 256 by omega) hx).2.2.2.2.1
            exact Or.inr ⟨x, hx, by rw [if_neg (by omega)]; exact e7⟩
    obtain ⟨S2, a2, g1, g2, g3⟩ := ih (s + 1) m S' _ (by omega) (by omega) (by omega) e3 key
    exact ⟨S2, a2, g1, ((xFr.sA S 15 s 9 (by decide)).trans e2).trans g2, g3⟩
end
