/-! THE PROGRAM'S TEXT: words on both sides -/
set_option maxRecDepth 100000
/-- the reader -/
abbrev rdO (ta la : Nat) (nl : Int32) (qa : Nat) (nq f to kd v : Int32) : hC := .inr (4, [.ref ta, .ref la, .int nl, .ref qa, .int nq, .int f, .int to, .int kd, .int v])
abbrev rs (S : hH) (r ta la : Nat) (nl : Int32) (qa : Nat) (nq f to kd v : Int32) : hH := va_up S r (some (rdO ta la nl qa nq f to kd v))
def FR (h0 h : hH) : Prop := ∀ a x, h0 a = some x → h a = some x
theorem FR.up {h0 h : hH} {r : Nat} {x : Option hC} (H : FR h0 h) (hr : h0 r = none) : FR h0 (va_up h r x) := fun a y hy => by
  have hne : a ≠ r := fun e => by rw [e, hr] at hy; cases hy
  exact (up_ne hne).trans (H a y hy)
theorem FR.new {h0 h : hH} {r : Nat} {x : Option hC} (H : FR h0 h) (hr : h r = none) : FR h0 (va_up h r x) := fun a y hy => by
  have hne : a ≠ r := fun e => by rw [← e, H a y hy] at hr; cases hr
  exact (up_ne hne).trans (H a y hy)
theorem up_self {h : hH} {a : Nat} {x : hC} (e : h a = some x) : va_up h a (some x) = h := by
  funext b
  by_cases hb : b = a
  · rw [hb, up_eq, e]
  · rw [up_ne hb]
/-- the text: t bytes T -/
def TXT (T : Nat → Int32) (t ta : Nat) (h : hH) : Prop := t ≤ 320 ∧ (∀ i, i < t → ∃ b, b < 256 ∧ T i = nI b) ∧ ∃ g, h ta = some (.inl (2, t, .inl g)) ∧ ∀ i, i < t → g i &&& 255 = T i
/-- what a throw asks -/
abbrev ftO (c : Int32) (pl : Nat) : hC := .inr (5, [.null, .null, .null, .null, .null, .int 0, .int c, .int (nI pl)])
def THR (h0 : hH) (Qt : Nat → hH → Prop) (c : Int32) (pl : Nat) : Prop := ∀ q h1, FR h0 h1 → h1 q = some (ftO c pl) → Qt q h1
def isSp (c : Int32) : Bool := decide (c = 32)
def isLt (c : Int32) : Bool := decide (inB c.toInt64 97 122)
def isDg (c : Int32) : Bool := decide (inB c.toInt64 48 57)
def rn (P : Int32 → Bool) (T : Nat → Int32) : Nat → Nat → Nat
  | 0, p => p
  | k + 1, p => if P (T p) = true then rn P T k (p + 1) else p
def rv (T : Nat → Int32) (f : Nat) : Nat → Nat → Int32 → Int32
  | 0, _, v => v
  | k + 1, p, v => if isDg (T p) = true then rv T f k (p + 1) (if 2 ≤ p - f then v else 10 * v + T p - 48) else v
theorem rn_ge (P : Int32 → Bool) (T : Nat → Int32) : ∀ k p, p ≤ rn P T k p ∧ rn P T k p ≤ p + k
  | 0, p => ⟨Nat.le_refl _, Nat.le_refl _⟩
  | k + 1, p => by
    rw [rn]
    have := rn_ge P T k (p + 1)
    by_cases h : P (T p) = true
    · rw [if_pos h]; omega
    · rw [if_neg h]; omega
def lxF (T : Nat → Int32) (t p : Nat) : Nat := rn isSp T (t - p) p
def lxT (T : Nat → Int32) (t f : Nat) : Nat := if t ≤ f then f else if isLt (T f) = true then rn isLt T (t - f) f else if isDg (T f) = true then rn isDg T (t - f) f else f + 1
def lxK (T : Nat → Int32) (t f : Nat) : Int32 := if t ≤ f then 0 else if isLt (T f) = true then 1 else if isDg (T f) = true then 2 else 3
def lxV (T : Nat → Int32) (t f : Nat) : Int32 := if t ≤ f then -4 else if isLt (T f) = true then T f else if isDg (T f) = true then rv T f (t - f) f 0 else T f
def lxB (T : Nat → Int32) (t f : Nat) : Prop := f < t ∧ ¬ isLt (T f) = true ∧ ((isDg (T f) = true ∧ 2 < lxT T t f - f) ∨ (¬ isDg (T f) = true ∧ ¬ T f = 59))
theorem lxF_le {T : Nat → Int32} {t p : Nat} (h : p ≤ t) : p ≤ lxF T t p ∧ lxF T t p ≤ t := by
  have := rn_ge isSp T (t - p) p
  unfold lxF
  omega
theorem lxT_le {T : Nat → Int32} {t f : Nat} (h : f ≤ t) : f ≤ lxT T t f ∧ lxT T t f ≤ t ∧ (¬ lxK T t f = 0 → f < lxT T t f) := by
  unfold lxT lxK
  by_cases h1 : t ≤ f
  · rw [if_pos h1, if_pos h1]
    exact ⟨Nat.le_refl _, h, fun h => absurd rfl h⟩
  rw [if_neg h1, if_neg h1]
  obtain ⟨k, hk⟩ : ∃ k, t - f = k + 1 := ⟨t - f - 1, by omega⟩
  by_cases h2 : isLt (T f) = true
  · rw [if_pos h2, hk, rn, if_pos h2]
    have := rn_ge isLt T k (f + 1)
    exact ⟨by omega, by omega, fun _ => by omega⟩
  rw [if_neg h2]
  by_cases h3 : isDg (T f) = true
  · rw [if_pos h3, hk, rn, if_pos h3]
    have := rn_ge isDg T k (f + 1)
    exact ⟨by omega, by omega, fun _ => by omega⟩
  rw [if_neg h3]
  exact ⟨by omega, by omega, fun _ => by omega⟩
section
variable {T : Nat → Int32} {t r ta la qa N bc bk : Nat} {nl nq f0 to0 kd v : Int32} {S h0 : hH} {Qt : Nat → hH → Prop} {Qr : hH → Prop}
theorem rs_I2 : hI 4 (rs S r ta la nl qa nq f0 to0 kd v) r 2 = some nl := hI_at up_eq rfl
theorem rs_I4 : hI 4 (rs S r ta la nl qa nq f0 to0 kd v) r 4 = some nq := hI_at up_eq rfl
theorem rs_I5 : hI 4 (rs S r ta la nl qa nq f0 to0 kd v) r 5 = some f0 := hI_at up_eq rfl
theorem rs_I6 : hI 4 (rs S r ta la nl qa nq f0 to0 kd v) r 6 = some to0 := hI_at up_eq rfl
theorem rs_I7 : hI 4 (rs S r ta la nl qa nq f0 to0 kd v) r 7 = some kd := hI_at up_eq rfl
theorem rs_I8 : hI 4 (rs S r ta la nl qa nq f0 to0 kd v) r 8 = some v := hI_at up_eq rfl
theorem rs_R0 : hR 4 (rs S r ta la nl qa nq f0 to0 kd v) r 0 = some ta := hR_at up_eq rfl
theorem rs_R1 : hR 4 (rs S r ta la nl qa nq f0 to0 kd v) r 1 = some la := hR_at up_eq rfl
theorem rs_R3 : hR 4 (rs S r ta la nl qa nq f0 to0 kd v) r 3 = some qa := hR_at up_eq rfl
theorem rs_O : hObj 4 (rs S r ta la nl qa nq f0 to0 kd v) r = some [.ref ta, .ref la, .int nl, .ref qa, .int nq, .int f0, .int to0, .int kd, .int v] := hObj_at up_eq
theorem rs_P2 {x : Int32} : hPut 4 (rs S r ta la nl qa nq f0 to0 kd v) r 2 (.int x) = some (rs S r ta la x qa nq f0 to0 kd v) := by rw [hPut_at _ up_eq (by show 2 < 9; decide), up_up]; rfl
theorem rs_P4 {x : Int32} : hPut 4 (rs S r ta la nl qa nq f0 to0 kd v) r 4 (.int x) = some (rs S r ta la nl qa x f0 to0 kd v) := by rw [hPut_at _ up_eq (by show 4 < 9; decide), up_up]; rfl
theorem rs_P3 {x : Nat} : hPut 4 (rs S r ta la nl qa nq f0 to0 kd v) r 3 (.ref x) = some (rs S r ta la nl x nq f0 to0 kd v) := by rw [hPut_at _ up_eq (by show 3 < 9; decide), up_up]; rfl
theorem rs_P5 {x : Int32} : hPut 4 (rs S r ta la nl qa nq f0 to0 kd v) r 5 (.int x) = some (rs S r ta la nl qa nq x to0 kd v) := by rw [hPut_at _ up_eq (by show 5 < 9; decide), up_up]; rfl
theorem rs_P6 {x : Int32} : hPut 4 (rs S r ta la nl qa nq f0 to0 kd v) r 6 (.int x) = some (rs S r ta la nl qa nq f0 x kd v) := by rw [hPut_at _ up_eq (by show 6 < 9; decide), up_up]; rfl
theorem rs_P7 {x : Int32} : hPut 4 (rs S r ta la nl qa nq f0 to0 kd v) r 7 (.int x) = some (rs S r ta la nl qa nq f0 to0 x v) := by rw [hPut_at _ up_eq (by show 7 < 9; decide), up_up]; rfl
theorem rs_P8 {x : Int32} : hPut 4 (rs S r ta la nl qa nq f0 to0 kd v) r 8 (.int x) = some (rs S r ta la nl qa nq f0 to0 kd x) := by rw [hPut_at _ up_eq (by show 8 < 9; decide), up_up]; rfl
theorem rs_at (hx : TXT T t ta S) (hne : ta ≠ r) {p : Nat} (hp : p ≤ 400) : fX4_at (rs S r ta la nl qa nq f0 to0 kd v) r (nI p) = some (if p < t then T p else -4) := by
  obtain ⟨h1, h2, g, h3, h4⟩ := hx
  have e : rs S r ta la nl qa nq f0 to0 kd v ta = some (.inl (2, t, .inl g)) := (up_ne hne).trans h3
  unfold fX4_at
  rw [rs_R0, Option.bind_some, hLen_at e, Option.bind_some]
  by_cases hlt : p < t
  · rw [if_neg (nI_ge hlt (by omega)), if_pos hlt, Option.bind_some, hAi_at e hlt (by omega), Option.bind_some, h4 p hlt]
  · rw [if_pos (nI_le (by omega) (by omega)), if_neg hlt]
theorem x_sp (hx : TXT T t ta S) (hne : ta ≠ r) (kx : hH → Nat → Nat → Nat → Prop) : ∀ (k p n : Nat), p + k = t → k < n → kx (rs S r ta la nl qa nq (nI (rn isSp T k p)) to0 kd v) bc bk r → fX4_next_8 N Qt Qr kx n (rs S r ta la nl qa nq (nI p) to0 kd v) bc bk r := by
  have ht := hx.1
  intro k
  induction k with
  | zero =>
    intro p n hp hn hk
    obtain ⟨n, rfl⟩ : ∃ m, n = m + 1 := ⟨n - 1, by omega⟩
    rw [fX4_next_8]
    refine ⟨_, rs_I5, _, rs_O, _, rs_at hx hne (by omega), fun _ => hk, fun h => absurd ?_ h⟩
    rw [if_neg (show ¬ p < t by omega)]
    decide
  | succ k ih =>
    intro p n hp hn hk
    obtain ⟨n, rfl⟩ : ∃ m, n = m + 1 := ⟨n - 1, by omega⟩
    rw [fX4_next_8]
    rw [rn] at hk
    refine ⟨_, rs_I5, _, rs_O, _, rs_at hx hne (by omega), fun h => ?_, fun h => ⟨_, rs_I5, _, rs_P5, ?_⟩⟩
    · rw [if_pos (by omega)] at h
      rw [if_neg (by unfold isSp; simpa using h)] at hk
      exact hk
    · rw [if_pos (by omega)] at h
      rw [if_pos (by unfold isSp; simpa using h)] at hk
      rw [nI_1]
      exact ih (p + 1) n (by omega) (by omega) hk
theorem x_lt (hx : TXT T t ta S) (hne : ta ≠ r) (kx : hH → Nat → Nat → Nat → Prop) : ∀ (k p n : Nat), p + k = t → k < n → kx (rs S r ta la nl qa nq f0 (nI (rn isLt T k p)) kd v) bc bk r → fX4_next_94 N Qt Qr kx n (rs S r ta la nl qa nq f0 (nI p) kd v) bc bk r := by
  have ht := hx.1
  intro k
  induction k with
  | zero =>
    intro p n hp hn hk
    obtain ⟨n, rfl⟩ : ∃ m, n = m + 1 := ⟨n - 1, by omega⟩
    rw [fX4_next_94]
    refine ⟨_, rs_I6, _, rs_O, _, rs_at hx hne (by omega), _, x_isIn _ _ _, fun _ => hk, fun h => absurd ?_ h⟩
    rw [if_neg (show ¬ p < t by omega)]
    decide
  | succ k ih =>
    intro p n hp hn hk
    obtain ⟨n, rfl⟩ : ∃ m, n = m + 1 := ⟨n - 1, by omega⟩
    rw [fX4_next_94]
    rw [rn] at hk
    refine ⟨_, rs_I6, _, rs_O, _, rs_at hx hne (by omega), _, x_isIn _ _ _, fun h => ?_, fun h => ⟨_, rs_I6, _, rs_P6, ?_⟩⟩
    · rw [if_pos (show p < t by omega), z01] at h
      rw [if_neg (by unfold isLt; simpa using h)] at hk
      exact hk
    · rw [if_pos (show p < t by omega), z01, Decidable.not_not] at h
      rw [if_pos (by unfold isLt; simpa using h)] at hk
      rw [nI_1]
      exact ih (p + 1) n (by omega) (by omega) hk
theorem x_dg (hx : TXT T t ta S) (hne : ta ≠ r) {f : Nat} (kx : hH → Nat → Nat → Nat → Prop) : ∀ (k p n : Nat) (v : Int32), f ≤ p → p + k = t → k < n → kx (rs S r ta la nl qa nq (nI f) (nI (rn isDg T k p)) kd (rv T f k p v)) bc bk r → fX4_next_163 N Qt Qr kx n (rs S r ta la nl qa nq (nI f) (nI p) kd v) bc bk r := by
  have ht := hx.1
  intro k
  induction k with
  | zero =>
    intro p n v hf hp hn hk
    obtain ⟨n, rfl⟩ : ∃ m, n = m + 1 := ⟨n - 1, by omega⟩
    rw [fX4_next_163]
    refine ⟨_, rs_I6, _, rs_O, _, rs_at hx hne (by omega), _, x_isIn _ _ _, fun _ => hk, fun h => absurd ?_ h⟩
    rw [if_neg (show ¬ p < t by omega)]
    decide
  | succ k ih =>
    intro p n v hf hp hn hk
    obtain ⟨n, rfl⟩ : ∃ m, n = m + 1 := ⟨n - 1, by omega⟩
    rw [fX4_next_163]
    rw [rn, rv] at hk
    refine ⟨_, rs_I6, _, rs_O, _, rs_at hx hne (by omega), _, x_isIn _ _ _, fun h => ?_, fun h => ⟨_, rs_I6, _, rs_I5, fun h2 => ?_, fun h2 => ?_⟩⟩
    · rw [if_pos (show p < t by omega), z01] at h
      have h : ¬ isDg (T p) = true := by unfold isDg; simpa using h
      rw [if_neg h, if_neg h] at hk
      exact hk
    · rw [if_pos (show p < t by omega), z01, Decidable.not_not] at h
      have h : isDg (T p) = true := by unfold isDg; simpa using h
      rw [if_pos h, if_pos h] at hk
      rw [pk_sub hf] at h2
      have h3 : 2 ≤ p - f := (nI_leI (a := 2) (by decide) (by omega)).mp h2
      rw [if_pos h3] at hk
      refine ⟨_, rs_I8, _, rs_P8, _, rs_I6, _, rs_P6, ?_⟩
      rw [nI_1]
      exact ih (p + 1) n _ (by omega) (by omega) (by omega) hk
    · rw [if_pos (show p < t by omega), z01, Decidable.not_not] at h
      have h : isDg (T p) = true := by unfold isDg; simpa using h
      rw [if_pos h, if_pos h] at hk
      rw [pk_sub hf] at h2
      have h3 : ¬ 2 ≤ p - f := fun h => h2 ((nI_leI (a := 2) (by decide) (by omega)).mpr h)
      rw [if_neg h3] at hk
      refine ⟨_, rs_I8, _, rs_I6, _, rs_O, _, rs_at hx hne (by omega), _, rs_P8, _, rs_I6, _, rs_P6, ?_⟩
      rw [nI_1, if_pos (show p < t by omega)]
      exact ih (p + 1) n _ (by omega) (by omega) (by omega) hk
/-- a fault or none -/
theorem x_must {g c : Int32} {pl : Nat} (hF : FR h0 S) (h5 : hI 4 S r 5 = some (nI pl)) (h1 : ¬ g = 0 → Qr S) (h2 : g = 0 → 1 ≤ bc ∧ 8 ≤ bk ∧ THR h0 Qt c pl) : fX4_must Qt Qr S bc bk r g c := by
  unfold fX4_must
  refine ⟨h1, fun hg => ?_⟩
  obtain ⟨b1, b2, b3⟩ := h2 (Decidable.not_not.mp hg)
  refine ⟨b1, b2, fun q hq => ?_⟩
  simp only [ec_lt]
  have hqr : r ≠ q := fun e => by
    rw [e] at h5
    unfold hI hFld at h5
    rw [hq] at h5
    cases h5
  refine ⟨nI pl, ?_, 0, 0, Nat.zero_le _, Nat.zero_le _, ?_⟩
  · unfold hI hFld at h5 ⊢
    rw [up_ne hqr]
    exact h5
  · unfold fX5_init
    refine ⟨_, _, _, _, _, _, _, _, up_eq, ?_⟩
    rw [up_up]
    exact b3 q _ (hF.new hq) up_eq
theorem x_next (hx : TXT T t ta S) (hne : ta ≠ r) (hF : FR h0 S) (hr0 : h0 r = none) (hN : 400 ≤ N) {p : Nat} (hp : p ≤ t) :
    (¬ lxB T t (lxF T t p) → Qr (rs S r ta la nl qa nq (nI (lxF T t p)) (nI (lxT T t (lxF T t p))) (lxK T t (lxF T t p)) (lxV T t (lxF T t p)))) →
    (lxB T t (lxF T t p) → 1 ≤ bc ∧ 8 ≤ bk ∧ THR h0 Qt 1 (lxF T t p)) → fX4_next N Qt Qr (rs S r ta la nl qa nq f0 (nI p) kd v) bc bk r := by
  have ht := hx.1
  intro hok hbad
  unfold fX4_next
  refine ⟨_, rs_I6, _, rs_P5, x_sp hx hne _ (t - p) p N (by omega) (by omega) ?_⟩
  have hf := lxF_le (T := T) hp
  rw [show rn isSp T (t - p) p = lxF T t p from rfl]
  generalize lxF T t p = f at *
  refine ⟨_, rs_I5, _, rs_O, _, rs_at hx hne (by omega), _, rs_I5, _, rs_P6, _, rs_P8, fun h => ?_, fun h => ?_⟩
  · have hft : f < t := by
      by_cases c : f < t
      · exact c
      · rw [if_neg c] at h; exact absurd rfl h
    rw [if_pos hft]
    refine ⟨_, x_isIn _ _ _, fun h1 => ⟨_, x_isIn _ _ _, fun h2 => ?_, fun h2 => ?_⟩, fun h1 => ?_⟩
    · rw [z01] at h1 h2
      have h1' : ¬ isLt (T f) = true := by unfold isLt; simpa using h1
      have h2' : ¬ isDg (T f) = true := by unfold isDg; simpa using h2
      have eK : lxK T t f = 3 := by unfold lxK; rw [if_neg (by omega), if_neg h1', if_neg h2']
      have eV : lxV T t f = T f := by unfold lxV; rw [if_neg (by omega), if_neg h1', if_neg h2']
      have eT : lxT T t f = f + 1 := by unfold lxT; rw [if_neg (by omega), if_neg h1', if_neg h2']
      rw [nI_1]
      refine ⟨fun h3 => ?_, fun h3 => ?_⟩
      · have hb : lxB T t f := ⟨hft, h1', Or.inr ⟨h2', h3⟩⟩
        obtain ⟨b1, b2, b3⟩ := hbad hb
        unfold fX4_next_283
        exact ⟨_, rs_O, 1, 8, b1, b2, x_must (hF.up hr0) rs_I5 (fun h => absurd rfl h) (fun _ => ⟨by decide, by decide, b3⟩)⟩
      · have hb : ¬ lxB T t f := fun hb => hb.2.2.elim (fun z => h2' z.1) (fun z => h3 z.2)
        have hq := hok hb
        rw [eK, eV, eT] at hq
        unfold fX4_next_283
        exact ⟨_, rs_O, 0, 0, Nat.zero_le _, Nat.zero_le _, x_must (hF.up hr0) rs_I5 (fun _ => ⟨_, rs_P7, hq⟩) (fun h => absurd h (by decide))⟩
    · rw [z01] at h1
      rw [z01, Decidable.not_not] at h2
      have h1' : ¬ isLt (T f) = true := by unfold isLt; simpa using h1
      have h2' : isDg (T f) = true := by unfold isDg; simpa using h2
      have eK : lxK T t f = 2 := by unfold lxK; rw [if_neg (by omega), if_neg h1', if_pos h2']
      have eV : lxV T t f = rv T f (t - f) f 0 := by unfold lxV; rw [if_neg (by omega), if_neg h1', if_pos h2']
      have eT : lxT T t f = rn isDg T (t - f) f := by unfold lxT; rw [if_neg (by omega), if_neg h1', if_pos h2']
      refine ⟨_, rs_I5, _, rs_P6, _, rs_P8, x_dg hx hne _ (t - f) f N 0 (Nat.le_refl _) (by omega) (by omega) ?_⟩
      have hg := rn_ge isDg T (t - f) f
      refine ⟨_, rs_I6, _, rs_I5, fun h3 => ?_, fun h3 => ?_⟩
      · rw [pk_sub hg.1] at h3
        have h4 : 2 < rn isDg T (t - f) f - f := (nI_ltI (a := 2) (by decide) (by omega)).mp h3
        obtain ⟨b1, b2, b3⟩ := hbad ⟨hft, h1', Or.inl ⟨h2', by rw [eT]; exact h4⟩⟩
        unfold fX4_next_259
        exact ⟨_, rs_O, 1, 8, b1, b2, x_must (hF.up hr0) rs_I5 (fun h => absurd rfl h) (fun _ => ⟨by decide, by decide, b3⟩)⟩
      · rw [pk_sub hg.1] at h3
        have h4 : ¬ 2 < rn isDg T (t - f) f - f := fun h => h3 ((nI_ltI (a := 2) (by decide) (by omega)).mpr h)
        have hq := hok (fun hb => hb.2.2.elim (fun z => h4 (by rw [← eT]; exact z.2)) (fun z => z.1 h2'))
        rw [eK, eV, eT] at hq
        unfold fX4_next_259
        exact ⟨_, rs_O, 0, 0, Nat.zero_le _, Nat.zero_le _, x_must (hF.up hr0) rs_I5 (fun _ => ⟨_, rs_P7, hq⟩) (fun h => absurd h (by decide))⟩
    · rw [z01, Decidable.not_not] at h1
      have h1' : isLt (T f) = true := by unfold isLt; simpa using h1
      have eK : lxK T t f = 1 := by unfold lxK; rw [if_neg (by omega), if_pos h1']
      have eV : lxV T t f = T f := by unfold lxV; rw [if_neg (by omega), if_pos h1']
      have eT : lxT T t f = rn isLt T (t - (f + 1)) (f + 1) := by
        unfold lxT
        rw [if_neg (by omega), if_pos h1', show t - f = t - (f + 1) + 1 by omega, rn, if_pos h1']
      have hq := hok (fun hb => hb.2.1 h1')
      rw [eK, eV, eT] at hq
      rw [nI_1]
      exact x_lt hx hne _ (t - (f + 1)) (f + 1) N (by omega) (by omega) ⟨_, rs_P7, hq⟩
  · have hft : t ≤ f := by
      by_cases c : f < t
      · rw [if_pos c, Decidable.not_not] at h
        obtain ⟨b, hb, e⟩ := hx.2.1 f c
        rw [e] at h
        exact absurd h (nI_nm4 (by omega))
      · omega
    have eK : lxK T t f = 0 := by unfold lxK; rw [if_pos hft]
    have eV : lxV T t f = -4 := by unfold lxV; rw [if_pos hft]
    have eT : lxT T t f = f := by unfold lxT; rw [if_pos hft]
    have hq := hok (fun hb => by have := hb.1; omega)
    rw [eK, eV, eT] at hq
    rw [if_neg (by omega)]
    exact ⟨_, rs_I5, _, rs_P6, _, rs_P7, hq⟩
end
/-- the Model's side -/
def tkM (M M' : sM) (f to : Nat) (kd v : Int32) : Prop := M'.2 = M.2 ∧ M'.1 26 = nI to ∧ M'.1 27 = nI f ∧ M'.1 28 = kd ∧ (kd = 2 → M'.1 29 = v) ∧ M'.1 30 = 0 ∧ ∀ k, (k < 26 ∨ 31 < k) → M'.1 k = M.1 k
def ftM (M M' : sM) (c : Int32) (pl : Nat) : Prop := M'.2 = M.2 ∧ M'.1 30 = c ∧ M'.1 31 = nI pl ∧ ∀ k, (k < 26 ∨ 31 < k) → M'.1 k = M.1 k
theorem mI_mI (M : sM) (k : Nat) (a b : Int32) : mI (mI M k a) k b = mI M k b := by
  unfold mI
  rw [up_up]
theorem mI_self {M : sM} {k : Nat} {a : Int32} (h : M.1 k = a) : mI M k a = M := by
  subst h
  unfold mI
  refine Prod.ext (funext fun j => ?_) rfl
  show va_up M.1 k (M.1 k) j = M.1 j
  by_cases hj : j = k
  · rw [hj, up_eq]
  · rw [up_ne hj]
theorem mI_fr {M : sM} {k j : Nat} {v : Int32} (hk : k < 26 ∨ 31 < k) (h1 : 26 ≤ j) (h2 : j ≤ 31) : (mI M j v).1 k = M.1 k := mI_ne M v (by omega)
section
variable {T : Nat → Int32} {t N : Nat}
theorem m_look {M : sM} (h25 : M.1 25 = nI t) (ht : t ≤ 320) {p : Nat} (hp : p ≤ 400) : fX3_look M (nI p) = some (if p < t then M.2.2 24 p else -1) := by
  unfold fX3_look
  rw [h25]
  by_cases h : p < t
  · rw [if_neg (nI_ge h (by omega)), if_pos h, ag_at (by omega) (by decide), Option.bind_some]
  · rw [if_pos (nI_le (by omega) (by omega)), if_neg h]
theorem m_sp {M : sM} (h25 : M.1 25 = nI t) (ht : t ≤ 320) (hT : ∀ i, i < t → M.2.2 24 i = T i) (kx : sM → Option sM) : ∀ (k p n : Nat), p + k = t → k < n → fX3_next_8 N kx n (mI M 26 (nI p)) = kx (mI M 26 (nI (rn isSp T k p))) := by
  intro k
  induction k with
  | zero =>
    intro p n hp hn
    obtain ⟨n, rfl⟩ : ∃ m, n = m + 1 := ⟨n - 1, by omega⟩
    rw [fX3_next_8, mI_eq, m_look (M := mI M 26 (nI p)) (t := t) h25 ht (by omega), Option.bind_some, if_neg (show ¬ p < t by omega), if_pos (by decide)]
    rfl
  | succ k ih =>
    intro p n hp hn
    obtain ⟨n, rfl⟩ : ∃ m, n = m + 1 := ⟨n - 1, by omega⟩
    rw [fX3_next_8, mI_eq, m_look (M := mI M 26 (nI p)) (t := t) h25 ht (by omega), Option.bind_some, if_pos (show p < t by omega), show (mI M 26 (nI p)).2.2 24 p = T p from hT p (by omega), rn]
    simp only [ec_lt]
    rw [mI_mI, nI_1]
    by_cases h : T p = 32
    · rw [if_neg (not_not_intro h), if_pos (by unfold isSp; simpa using h)]
      exact ih (p + 1) n (by omega) (by omega)
    · rw [if_pos h, if_neg (by unfold isSp; simpa using h)]
theorem m_lt {M : sM} (h25 : M.1 25 = nI t) (ht : t ≤ 320) (hT : ∀ i, i < t → M.2.2 24 i = T i) : ∀ (k p n : Nat), p + k = t → k < n → fX3_next_82 N n (mI M 26 (nI p)) = some (mI M 26 (nI (rn isLt T k p))) := by
  intro k
  induction k with
  | zero =>
    intro p n hp hn
    obtain ⟨n, rfl⟩ : ∃ m, n = m + 1 := ⟨n - 1, by omega⟩
    rw [fX3_next_82, mI_eq, m_look (M := mI M 26 (nI p)) (t := t) h25 ht (by omega), Option.bind_some, if_neg (show ¬ p < t by omega), m_in, Option.bind_some, if_pos (by decide)]
    rfl
  | succ k ih =>
    intro p n hp hn
    obtain ⟨n, rfl⟩ : ∃ m, n = m + 1 := ⟨n - 1, by omega⟩
    rw [fX3_next_82, mI_eq, m_look (M := mI M 26 (nI p)) (t := t) h25 ht (by omega), Option.bind_some, if_pos (show p < t by omega), show (mI M 26 (nI p)).2.2 24 p = T p from hT p (by omega), m_in, Option.bind_some, rn]
    simp only [ec_lt, z01]
    rw [mI_mI, nI_1]
    by_cases h : inB (T p).toInt64 97 122
    · rw [if_neg (not_not_intro h), if_pos (by unfold isLt; simpa using h)]
      exact ih (p + 1) n (by omega) (by omega)
    · rw [if_pos h, if_neg (by unfold isLt; simpa using h)]
theorem m_dg {M : sM} (h25 : M.1 25 = nI t) (ht : t ≤ 320) (hT : ∀ i, i < t → M.2.2 24 i = T i) {f : Nat} (h27 : M.1 27 = nI f) (kx : sM → Option sM) : ∀ (k p n : Nat) (v : Int32), f ≤ p → p + k = t → k < n → fX3_next_140 N kx n (mI (mI M 29 v) 26 (nI p)) = kx (mI (mI M 29 (rv T f k p v)) 26 (nI (rn isDg T k p))) := by
  intro k
  induction k with
  | zero =>
    intro p n v hf hp hn
    obtain ⟨n, rfl⟩ : ∃ m, n = m + 1 := ⟨n - 1, by omega⟩
    rw [fX3_next_140, mI_eq, m_look (M := mI (mI M 29 v) 26 (nI p)) (t := t) h25 ht (by omega), Option.bind_some, if_neg (show ¬ p < t by omega), m_in, Option.bind_some, if_pos (by decide)]
    rfl
  | succ k ih =>
    intro p n v hf hp hn
    obtain ⟨n, rfl⟩ : ∃ m, n = m + 1 := ⟨n - 1, by omega⟩
    rw [fX3_next_140, mI_eq, m_look (M := mI (mI M 29 v) 26 (nI p)) (t := t) h25 ht (by omega), Option.bind_some, if_pos (show p < t by omega), show (mI (mI M 29 v) 26 (nI p)).2.2 24 p = T p from hT p (by omega), m_in, Option.bind_some, rn, rv]
    unfold fX3_next_201
    simp only [ec_lt, z01, Option.bind_some]
    rw [show (mI (mI M 29 v) 26 (nI p)).1 27 = nI f from h27, show (mI (mI M 29 v) 26 (nI p)).1 29 = v from rfl, pk_sub hf]
    have sw : ∀ w : Int32, mI (mI (mI (mI M 29 v) 26 (nI p)) 29 w) 26 ((mI (mI (mI M 29 v) 26 (nI p)) 29 w).1 26 + 1) = mI (mI M 29 w) 26 (nI (p + 1)) := by
      intro w
      rw [show (mI (mI (mI M 29 v) 26 (nI p)) 29 w).1 26 = nI p from rfl, nI_1]
      refine Prod.ext (funext fun j => ?_) rfl
      by_cases h26 : j = 26
      · subst h26; rfl
      · rw [mI_ne _ _ h26, mI_ne _ _ h26]
        by_cases h29 : j = 29
        · subst h29; rfl
        · rw [mI_ne _ _ h29, mI_ne _ _ h29, mI_ne _ _ h26, mI_ne _ _ h29]
    by_cases h : inB (T p).toInt64 48 57
    · have h' : isDg (T p) = true := by unfold isDg; simpa using h
      rw [if_neg (not_not_intro h), if_pos h', if_pos h']
      by_cases h2 : 2 ≤ p - f
      · rw [if_pos (show (2 : Int32) ≤ nI (p - f) from nI_le (a := 2) h2 (by omega)), if_pos h2, sw]
        exact ih (p + 1) n v (by omega) (by omega) (by omega)
      · rw [if_neg (show ¬ (2 : Int32) ≤ nI (p - f) from fun hc => h2 ((nI_leI (a := 2) (by decide) (by omega)).mp hc)), if_neg h2, sw]
        exact ih (p + 1) n _ (by omega) (by omega) (by omega)
    · have h' : ¬ isDg (T p) = true := by unfold isDg; simpa using h
      rw [if_pos h, if_neg h', if_neg h']
theorem m_next {M : sM} (h25 : M.1 25 = nI t) (ht : t ≤ 320) (hT : ∀ i, i < t → M.2.2 24 i = T i) (hB : ∀ i, i < t → ∃ b, b < 256 ∧ T i = nI b) (h30 : M.1 30 = 0) {p : Nat} (h26 : M.1 26 = nI p) (hp : p ≤ t) (hN : 400 ≤ N) :
    (¬ lxB T t (lxF T t p) → ∃ M', fX3_next N M = some M' ∧ tkM M M' (lxF T t p) (lxT T t (lxF T t p)) (lxK T t (lxF T t p)) (lxV T t (lxF T t p))) ∧
    (lxB T t (lxF T t p) → ∃ M', fX3_next N M = some M' ∧ ftM M M' 1 (lxF T t p)) := by
  have hf := lxF_le (T := T) hp
  unfold fX3_next
  rw [h30, if_pos (by decide), ← mI_self h26, m_sp (M := M) h25 ht hT _ (t - p) p N (by omega) (by omega), mI_self h26]
  rw [show rn isSp T (t - p) p = lxF T t p from rfl]
  generalize lxF T t p = f at *
  simp only [ec_lt]
  rw [mI_eq]
  have e26 : (mI (mI M 26 (nI f)) 27 (nI f)).1 26 = nI f := rfl
  have e25 : (mI (mI M 26 (nI f)) 27 (nI f)).1 25 = nI t := h25
  rw [e26, m_look (t := t) e25 ht (by omega), Option.bind_some]
  by_cases hft : f < t
  rotate_left
  · rw [if_neg hft, if_neg (show ¬ (0 : Int32) ≤ -1 by decide)]
    have hft : t ≤ f := by omega
    refine ⟨fun _ => ⟨_, rfl, rfl, ?_, rfl, ?_, fun h => ?_, h30, fun k hk => ?_⟩, fun hb => by have := hb.1; omega⟩
    · unfold lxT; rw [if_pos hft]; rfl
    · unfold lxK; rw [if_pos hft]; rfl
    · unfold lxK at h; rw [if_pos hft] at h; exact absurd h (by decide)
    · rw [mI_fr hk (by decide) (by decide), mI_fr hk (by decide) (by decide), mI_fr hk (by decide) (by decide)]
  rw [if_pos hft, show (mI (mI M 26 (nI f)) 27 (nI f)).2.2 24 f = T f from hT f hft]
  obtain ⟨b, hb, eb⟩ := hB f hft
  rw [if_pos (by rw [eb]; exact nI_pos' (by omega)), m_in, Option.bind_some, m_in, Option.bind_some]
  simp only [z01]
  by_cases h1 : inB (T f).toInt64 97 122
  · have h1' : isLt (T f) = true := by unfold isLt; simpa using h1
    have eK : lxK T t f = 1 := by unfold lxK; rw [if_neg (by omega), if_pos h1']
    have eT : lxT T t f = rn isLt T (t - f) f := by unfold lxT; rw [if_neg (by omega), if_pos h1']
    rw [if_neg (not_not_intro h1)]
    have e0 : mI (mI (mI (mI M 26 (nI f)) 27 (nI f)) 28 1) 26 (nI f) = mI (mI (mI M 26 (nI f)) 27 (nI f)) 28 1 := mI_self rfl
    rw [← e0, m_lt (M := mI (mI (mI M 26 (nI f)) 27 (nI f)) 28 1) (T := T) (t := t) h25 ht hT (t - f) f N (by omega) (by omega)]
    refine ⟨fun _ => ⟨_, rfl, rfl, ?_, rfl, ?_, fun h => ?_, h30, fun k hk => ?_⟩, fun hb => absurd h1' hb.2.1⟩
    · rw [eT]; rfl
    · rw [eK]; rfl
    · rw [eK] at h; exact absurd h (by decide)
    · rw [mI_fr hk (by decide) (by decide), mI_fr hk (by decide) (by decide), mI_fr hk (by decide) (by decide), mI_fr hk (by decide) (by decide)]
  have h1' : ¬ isLt (T f) = true := by unfold isLt; simpa using h1
  rw [if_pos h1]
  by_cases h2 : inB (T f).toInt64 48 57
  · have h2' : isDg (T f) = true := by unfold isDg; simpa using h2
    have eK : lxK T t f = 2 := by unfold lxK; rw [if_neg (by omega), if_neg h1', if_pos h2']
    have eV : lxV T t f = rv T f (t - f) f 0 := by unfold lxV; rw [if_neg (by omega), if_neg h1', if_pos h2']
    have eT : lxT T t f = rn isDg T (t - f) f := by unfold lxT; rw [if_neg (by omega), if_neg h1', if_pos h2']
    rw [if_neg (not_not_intro h2)]
    have e0 : mI (mI (mI (mI (mI M 26 (nI f)) 27 (nI f)) 28 2) 29 0) 26 (nI f) = mI (mI (mI (mI M 26 (nI f)) 27 (nI f)) 28 2) 29 0 := mI_self rfl
    rw [← e0, m_dg (T := T) (t := t) (M := mI (mI (mI M 26 (nI f)) 27 (nI f)) 28 2) h25 ht hT (f := f) rfl _ (t - f) f N 0 (Nat.le_refl _) (by omega) (by omega)]
    have hg := rn_ge isDg T (t - f) f
    generalize hw : mI (mI (mI (mI (mI M 26 (nI f)) 27 (nI f)) 28 2) 29 (rv T f (t - f) f 0)) 26 (nI (rn isDg T (t - f) f)) = W
    have w26 : W.1 26 = nI (rn isDg T (t - f) f) := by rw [← hw]; rfl
    have w27 : W.1 27 = nI f := by rw [← hw]; rfl
    have w28 : W.1 28 = 2 := by rw [← hw]; rfl
    have w29 : W.1 29 = rv T f (t - f) f 0 := by rw [← hw]; rfl
    have w30 : W.1 30 = 0 := by rw [← hw]; exact h30
    have w2 : W.2 = M.2 := by rw [← hw]; rfl
    have wk : ∀ k, (k < 26 ∨ 31 < k) → W.1 k = M.1 k := fun k hk => by
      rw [← hw, mI_fr hk (by decide) (by decide), mI_fr hk (by decide) (by decide), mI_fr hk (by decide) (by decide), mI_fr hk (by decide) (by decide), mI_fr hk (by decide) (by decide)]
    rw [w26, w27, pk_sub hg.1]
    unfold fX3_next_236 fX3_wants
    simp only [ec_lt]
    rw [w30]
    by_cases h3 : 2 < rn isDg T (t - f) f - f
    · rw [if_pos (show (2 : Int32) < nI (rn isDg T (t - f) f - f) from nI_lt (a := 2) h3 (by omega)), if_neg (by decide), if_neg (by decide)]
      refine ⟨fun hb => absurd ⟨hft, h1', Or.inl ⟨h2', by rw [eT]; exact h3⟩⟩ hb, fun _ => ⟨_, rfl, w2, rfl, w27, fun k hk => ?_⟩⟩
      rw [mI_fr hk (by decide) (by decide), mI_fr hk (by decide) (by decide)]
      exact wk k hk
    · rw [if_neg (show ¬ (2 : Int32) < nI (rn isDg T (t - f) f - f) from fun hc => h3 ((nI_ltI (a := 2) (by decide) (by omega)).mp hc)), if_pos (by decide)]
      refine ⟨fun _ => ⟨W, rfl, w2, by rw [eT]; exact w26, w27, by rw [eK]; exact w28, fun _ => by rw [eV]; exact w29, w30, wk⟩, fun hb => ?_⟩
      exfalso
      rcases hb.2.2 with z | z
      · exact h3 (by rw [← eT]; exact z.2)
      · exact z.1 h2'
  · have h2' : ¬ isDg (T f) = true := by unfold isDg; simpa using h2
    have eK : lxK T t f = 3 := by unfold lxK; rw [if_neg (by omega), if_neg h1', if_neg h2']
    have eT : lxT T t f = f + 1 := by unfold lxT; rw [if_neg (by omega), if_neg h1', if_neg h2']
    rw [if_pos h2]
    unfold fX3_next_260 fX3_wants
    simp only [ec_lt]
    have e30 : (mI (mI (mI M 26 (nI f)) 27 (nI f)) 28 3).1 30 = 0 := h30
    rw [e30]
    by_cases h3 : T f = 59
    · rw [if_neg (not_not_intro h3), if_pos (by decide), Option.bind_some]
      refine ⟨fun _ => ⟨_, rfl, rfl, ?_, rfl, ?_, fun h => ?_, h30, fun k hk => ?_⟩, fun hb => ?_⟩
      · rw [eT, ← nI_1]; rfl
      · rw [eK]; rfl
      · rw [eK] at h; exact absurd h (by decide)
      · rw [mI_fr hk (by decide) (by decide), mI_fr hk (by decide) (by decide), mI_fr hk (by decide) (by decide), mI_fr hk (by decide) (by decide)]
      · exfalso
        rcases hb.2.2 with z | z
        · exact h2' z.1
        · exact z.2 h3
    · rw [if_pos h3, if_neg (by decide), if_neg (by decide), Option.bind_some]
      refine ⟨fun hb => absurd ⟨hft, h1', Or.inr ⟨h2', h3⟩⟩ hb, fun _ => ⟨_, rfl, rfl, rfl, rfl, fun k hk => ?_⟩⟩
      rw [mI_fr hk (by decide) (by decide), mI_fr hk (by decide) (by decide), mI_fr hk (by decide) (by decide), mI_fr hk (by decide) (by decide), mI_fr hk (by decide) (by decide), mI_fr hk (by decide) (by decide)]
end
