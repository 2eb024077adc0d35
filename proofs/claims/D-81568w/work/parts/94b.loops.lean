/-! LOOPS: what stands in them, on both sides; loop, went -/
set_option maxRecDepth 100000
def bmN (lo : Nat) : Nat → Nat
  | 0 => 0
  | n + 1 => bmN lo n ||| 2 ^ (lo + n)
theorem bmN_tb (lo l : Nat) : ∀ n, (bmN lo n).testBit l = decide (lo ≤ l ∧ l < lo + n)
  | 0 => by
    rw [bmN, Nat.zero_testBit]
    exact (decide_eq_false (by omega)).symm
  | n + 1 => by
    rw [bmN, Nat.testBit_or, bmN_tb lo l n, Nat.testBit_two_pow]
    by_cases h1 : lo ≤ l ∧ l < lo + n
    · rw [decide_eq_true h1, decide_eq_true (by omega : lo ≤ l ∧ l < lo + (n + 1)), Bool.true_or]
    · rw [decide_eq_false h1, Bool.false_or]
      by_cases h2 : lo + n = l
      · rw [decide_eq_true h2, decide_eq_true (by omega : lo ≤ l ∧ l < lo + (n + 1))]
      · rw [decide_eq_false h2, decide_eq_false (by omega : ¬ (lo ≤ l ∧ l < lo + (n + 1)))]
theorem bmN_add (a x : Nat) : ∀ y, bmN a (x + y) = bmN a x ||| bmN (a + x) y
  | 0 => by rw [bmN]; exact (Nat.or_zero _).symm
  | y + 1 => by rw [← Nat.add_assoc, bmN, bmN_add a x y, bmN, Nat.or_assoc, Nat.add_assoc]
theorem bmN_lt (lo : Nat) : ∀ n, lo + n ≤ 16 → bmN lo n < 65536
  | 0, _ => by rw [bmN]; decide
  | n + 1, h => by
    rw [bmN]
    exact Nat.or_lt_two_pow (n := 16) (bmN_lt lo n (by omega)) (Nat.pow_lt_pow_right (by decide) (by omega))
def foLn : Fo → Nat
  | .leaf => 0
  | .inner s k _ i b => if s = 0 then foLn i ||| 2 ^ k else foLn i ||| foLn b
/-- so many of an event -/
def foMk (of_ : Nat → Int32) (mk : Nat → Nat) : Fo → Nat
  | .leaf => 0
  | .inner s k _ i b => if s = 0 then foMk of_ mk i + mk k else foMk of_ mk i + (of_ k).toNatClampNeg * foMk of_ mk b
/-- so many steps -/
abbrev foSt (of_ : Nat → Int32) (f : Fo) : Nat := foMk of_ (fun _ => 1) f
/-- a block's items -/
def bkO (S : hH) (aL aQ : Nat → Nat) (x0 : Nat) (K : List (Bool × Nat)) : Prop := K.length ≤ 1000 ∧ bI S x0 1 = some (nI K.length) ∧ ∃ arr, bR S x0 0 = some arr ∧ ∀ j y, K[j]? = some y → hAr 6 S arr (nI j) = some (if y.1 then aQ y.2 else aL y.2)
def EV (S : hH) (aL aE aQ : Nat → Nat) (nl nq : Nat) (ch : Nat → List (Bool × Nat)) (of_ mk : Nat → Int32) : Prop :=
  (∀ l, l < nl → ∃ fs, S (aL l) = some (.inr (7, fs)) ∧ fs[0]? = some (.int (nI l)) ∧ fs[3]? = some (.ref (aE l)) ∧ ∃ g, S (aE l) = some (.inl (0, 8, .inl g)) ∧ ∀ e, e < 8 → g e = mk (8 * l + e)) ∧
  ∀ q, q < nq → ∃ fs, S (aQ q) = some (.inr (8, fs)) ∧ fs[2]? = some (.int (of_ q)) ∧ bkO S aL aQ (aQ q) (ch q)
section
variable {S : hH} {aL aE aQ : Nat → Nat} {nl nq N : Nat} {ch : Nat → List (Bool × Nat)} {ar ou of_ tm dp mk : Nat → Int32} {dq cm : Nat → Nat}
theorem kid_at {K rest : List (Bool × Nat)} {f : List (Bool × Nat)} {y : Bool × Nat} (e : K = (f ++ [y]) ++ rest) : K[f.length]? = some y ∧ f.length < K.length ∧ K = f ++ ([y] ++ rest) := by
  subst e
  refine ⟨?_, ?_, by rw [List.append_assoc]⟩
  · rw [List.append_assoc, List.getElem?_append_right (Nat.le_refl _), Nat.sub_self]
    rfl
  · rw [List.length_append, List.length_append, List.length_singleton]
    omega
theorem ev_steps (hE : EV S aL aE aQ nl nq ch of_ mk) (hN : 2000 ≤ N) : ∀ (f : Fo) (a p : Nat) (par : Int32) (d m D : Nat) (K rest : List (Bool × Nat)) (x0 n : Nat) (acc : Int64) (kx : Nat → Int64 → Option Int64), wF ch ar ou of_ tm dp dq cm f a p par d m → a + foNL f ≤ nl → p + foNQ f ≤ nq → 5 ≤ D + d → d ≤ 4 → bkO S aL aQ x0 K → K = foK f ++ rest →
    fX7_steps_4 N S (fV_steps N S D) kx (n + (foK f).length) x0 acc 0 = fX7_steps_4 N S (fV_steps N S D) kx n x0 (acc + lN (foSt of_ f)) (nI (foK f).length) := by
  intro f
  induction f with
  | leaf =>
    intro a p par d m D K rest x0 n acc kx _ _ _ _ _ _ _
    show fX7_steps_4 N S (fV_steps N S D) kx n x0 acc 0 = fX7_steps_4 N S (fV_steps N S D) kx n x0 (acc + 0) 0
    rw [Int64.add_zero]
  | inner s k u i b ihi ihb =>
    intro a p par d m D K rest x0 n acc kx hw hl hq hD hd hK e
    obtain ⟨hi, hc⟩ := hw
    obtain ⟨e1, e2, e3⟩ := kid_at (f := foK i) e
    have hlen : (foK (.inner s k u i b)).length = (foK i).length + 1 := by rw [foK, List.length_append, List.length_singleton]
    obtain ⟨D, rfl⟩ : ∃ D', D = D' + 1 := ⟨D - 1, by omega⟩
    have hK2 := hK
    obtain ⟨k1, k2, arr, k3, k4⟩ := hK2
    have hgt : ¬ nI K.length ≤ nI (foK i).length := nI_ge e2 (by omega)
    rcases hc with ⟨rfl, rfl, rfl, -, -, -⟩ | ⟨rfl, rfl, -, -, -, h3, h4, c, c1, c2, c3, hb⟩
    · have hl' : a + (foNL i + 1) ≤ nl := hl
      rw [hlen, show n + ((foK i).length + 1) = (n + 1) + (foK i).length by omega, ihi a p par d m (D + 1) K _ x0 (n + 1) acc kx hi (by omega) hq hD hd hK e3, fX7_steps_4, k2, Option.bind_some, if_neg hgt, k3, Option.bind_some, k4 _ _ e1, Option.bind_some]
      obtain ⟨fs, g1, -⟩ := hE.1 (a + foNL i) (by omega)
      have ev : fV_steps N S (D + 1) (aL (a + foNL i)) = some 1 := by
        rw [fV_steps, g1]
        dsimp only
        rw [if_pos rfl]
        rfl
      show ((fV_steps N S (D + 1) (aL (a + foNL i))).bind _) = _
      rw [ev, Option.bind_some]
      simp only [ec_lt]
      rw [nI_1, Int64.add_assoc, show (1 : Int64) = lN 1 from rfl, lN_add]
      rfl
    · have hl' : a + (foNL i + foNL b) ≤ nl := hl
      have hq' : p + (foNQ i + 1 + foNQ b) ≤ nq := hq
      rw [hlen, show n + ((foK i).length + 1) = (n + 1) + (foK i).length by omega, ihi a p par d m (D + 1) K _ x0 (n + 1) acc kx hi (by omega) (by omega) hD hd hK e3, fX7_steps_4, k2, Option.bind_some, if_neg hgt, k3, Option.bind_some, k4 _ _ e1, Option.bind_some]
      obtain ⟨fs, g1, g2, g3⟩ := hE.2 (p + foNQ i) (by omega)
      have hkb : (foK b).length ≤ 1000 := by rw [← h4]; exact g3.1
      have e7 : fX7_steps N S (fV_steps N S D) (aQ (p + foNQ i)) = some (lN (foSt of_ b)) := by
        unfold fX7_steps
        rw [show N = (N - (foK b).length - 1 + 1) + (foK b).length by omega]
        have := ihb (a + foNL i) (p + foNQ i + 1) (nI (p + foNQ i)) (d + 1) (m * c) D (ch (p + foNQ i)) [] (aQ (p + foNQ i)) (N - (foK b).length - 1 + 1) 0 (fun x0_7 x1_8 => some x1_8) hb (by omega) (by omega) (by omega) (by omega) g3 (by rw [h4, List.append_nil])
        rw [show N - (foK b).length - 1 + 1 + (foK b).length = N by omega] at this ⊢
        rw [this, fX7_steps_4, g3.2.1, Option.bind_some, h4, if_pos (nI_le (Nat.le_refl _) (by omega)), Int64.zero_add]
      have ev : fV_steps N S (D + 1) (aQ (p + foNQ i)) = some (lN (c * foSt of_ b)) := by
        rw [fV_steps, g1]
        dsimp only
        rw [if_neg (by decide), if_pos rfl]
        unfold fX9_steps
        rw [hI_at (v := of_ (p + foNQ i)) g1 g2, Option.bind_some, hObj_at g1, Option.bind_some, e7, Option.bind_some, c3, nI_l (by omega), lN_mul]
      show ((fV_steps N S (D + 1) (aQ (p + foNQ i))).bind _) = _
      rw [ev, Option.bind_some]
      simp only [ec_lt]
      rw [nI_1, Int64.add_assoc, lN_add]
      have es : foSt of_ (.inner 1 (p + foNQ i) u i b) = foSt of_ i + c * foSt of_ b := by
        show foSt of_ i + (of_ (p + foNQ i)).toNatClampNeg * foSt of_ b = _
        rw [c3, nI_clamp (by omega)]
      rw [es]
theorem ev_lines (hE : EV S aL aE aQ nl nq ch of_ mk) (hN : 2000 ≤ N) (hnl : nl ≤ 16) : ∀ (f : Fo) (a p : Nat) (par : Int32) (d m D : Nat) (K rest : List (Bool × Nat)) (x0 n acc : Nat) (kx : Nat → Int32 → Option Int32), wF ch ar ou of_ tm dp dq cm f a p par d m → a + foNL f ≤ nl → p + foNQ f ≤ nq → 5 ≤ D + d → d ≤ 4 → bkO S aL aQ x0 K → K = foK f ++ rest →
    fX7_lines_4 N S (fV_lines N S D) kx (n + (foK f).length) x0 (nI acc) 0 = fX7_lines_4 N S (fV_lines N S D) kx n x0 (nI (acc ||| foLn f)) (nI (foK f).length) := by
  intro f
  induction f with
  | leaf =>
    intro a p par d m D K rest x0 n acc kx _ _ _ _ _ _ _
    show fX7_lines_4 N S (fV_lines N S D) kx n x0 (nI acc) 0 = fX7_lines_4 N S (fV_lines N S D) kx n x0 (nI (acc ||| 0)) 0
    rw [Nat.or_zero]
  | inner s k u i b ihi ihb =>
    intro a p par d m D K rest x0 n acc kx hw hl hq hD hd hK e
    obtain ⟨hi, hc⟩ := hw
    obtain ⟨e1, e2, e3⟩ := kid_at (f := foK i) e
    have hlen : (foK (.inner s k u i b)).length = (foK i).length + 1 := by rw [foK, List.length_append, List.length_singleton]
    obtain ⟨D, rfl⟩ : ∃ D', D = D' + 1 := ⟨D - 1, by omega⟩
    have hK2 := hK
    obtain ⟨k1, k2, arr, k3, k4⟩ := hK2
    have hgt : ¬ nI K.length ≤ nI (foK i).length := nI_ge e2 (by omega)
    rcases hc with ⟨rfl, rfl, rfl, -, -, -⟩ | ⟨rfl, rfl, -, -, -, h3, h4, c, c1, c2, c3, hb⟩
    · have hl' : a + (foNL i + 1) ≤ nl := hl
      rw [hlen, show n + ((foK i).length + 1) = (n + 1) + (foK i).length by omega, ihi a p par d m (D + 1) K _ x0 (n + 1) acc kx hi (by omega) hq hD hd hK e3, fX7_lines_4, k2, Option.bind_some, if_neg hgt, k3, Option.bind_some, k4 _ _ e1, Option.bind_some]
      obtain ⟨fs, g1, g2, -⟩ := hE.1 (a + foNL i) (by omega)
      have ev : fV_lines N S (D + 1) (aL (a + foNL i)) = some (nI (2 ^ (a + foNL i))) := by
        rw [fV_lines, g1]
        dsimp only
        rw [if_pos rfl]
        unfold fX8_lines
        rw [hI_at g1 g2, Option.bind_some, (pw_I _ (by omega)).1]
      show ((fV_lines N S (D + 1) (aL (a + foNL i))).bind _) = _
      rw [ev, Option.bind_some]
      simp only [ec_lt]
      rw [nI_1, fa_or, Nat.or_assoc]
      rfl
    · have hl' : a + (foNL i + foNL b) ≤ nl := hl
      have hq' : p + (foNQ i + 1 + foNQ b) ≤ nq := hq
      rw [hlen, show n + ((foK i).length + 1) = (n + 1) + (foK i).length by omega, ihi a p par d m (D + 1) K _ x0 (n + 1) acc kx hi (by omega) (by omega) hD hd hK e3, fX7_lines_4, k2, Option.bind_some, if_neg hgt, k3, Option.bind_some, k4 _ _ e1, Option.bind_some]
      obtain ⟨fs, g1, g2, g3⟩ := hE.2 (p + foNQ i) (by omega)
      have hkb : (foK b).length ≤ 1000 := by rw [← h4]; exact g3.1
      have e7 : fX7_lines N S (fV_lines N S D) (aQ (p + foNQ i)) = some (nI (foLn b)) := by
        unfold fX7_lines
        have := ihb (a + foNL i) (p + foNQ i + 1) (nI (p + foNQ i)) (d + 1) (m * c) D (ch (p + foNQ i)) [] (aQ (p + foNQ i)) (N - (foK b).length - 1 + 1) 0 (fun x0_7 x1_8 => some x1_8) hb (by omega) (by omega) (by omega) (by omega) g3 (by rw [h4, List.append_nil])
        rw [show N - (foK b).length - 1 + 1 + (foK b).length = N by omega] at this
        rw [show (0 : Int32) = nI 0 from rfl] at *
        rw [this, fX7_lines_4, g3.2.1, Option.bind_some, h4, if_pos (nI_le (Nat.le_refl _) (by omega)), Nat.zero_or]
      have ev : fV_lines N S (D + 1) (aQ (p + foNQ i)) = some (nI (foLn b)) := by
        rw [fV_lines, g1]
        dsimp only
        rw [if_neg (by decide), if_pos rfl, e7]
      show ((fV_lines N S (D + 1) (aQ (p + foNQ i))).bind _) = _
      rw [ev, Option.bind_some]
      simp only [ec_lt]
      rw [nI_1, fa_or, Nat.or_assoc]
      rfl
theorem ev_makes (hE : EV S aL aE aQ nl nq ch of_ mk) (hN : 2000 ≤ N) {w : Nat} (he : w < 8) {mkn : Nat → Nat} (hm : ∀ l, l < nl → mk (8 * l + w) = nI (mkn l)) : ∀ (f : Fo) (a p : Nat) (par : Int32) (d m D : Nat) (K rest : List (Bool × Nat)) (x0 n acc : Nat) (kx : Nat → Int32 → Option Int32), wF ch ar ou of_ tm dp dq cm f a p par d m → a + foNL f ≤ nl → p + foNQ f ≤ nq → 5 ≤ D + d → d ≤ 4 → bkO S aL aQ x0 K → K = foK f ++ rest →
    fX7_makes_4 N S (fV_makes N S D) kx (n + (foK f).length) x0 (nI w) (nI acc) 0 = fX7_makes_4 N S (fV_makes N S D) kx n x0 (nI w) (nI (acc + foMk of_ mkn f)) (nI (foK f).length) := by
  intro f
  induction f with
  | leaf =>
    intro a p par d m D K rest x0 n acc kx _ _ _ _ _ _ _
    rfl
  | inner s k u i b ihi ihb =>
    intro a p par d m D K rest x0 n acc kx hw hl hq hD hd hK e
    obtain ⟨hi, hc⟩ := hw
    obtain ⟨e1, e2, e3⟩ := kid_at (f := foK i) e
    have hlen : (foK (.inner s k u i b)).length = (foK i).length + 1 := by rw [foK, List.length_append, List.length_singleton]
    obtain ⟨D, rfl⟩ : ∃ D', D = D' + 1 := ⟨D - 1, by omega⟩
    have hK2 := hK
    obtain ⟨k1, k2, arr, k3, k4⟩ := hK2
    have hgt : ¬ nI K.length ≤ nI (foK i).length := nI_ge e2 (by omega)
    rcases hc with ⟨rfl, rfl, rfl, -, -, -⟩ | ⟨rfl, rfl, -, -, -, h3, h4, c, c1, c2, c3, hb⟩
    · have hl' : a + (foNL i + 1) ≤ nl := hl
      rw [hlen, show n + ((foK i).length + 1) = (n + 1) + (foK i).length by omega, ihi a p par d m (D + 1) K _ x0 (n + 1) acc kx hi (by omega) hq hD hd hK e3, fX7_makes_4, k2, Option.bind_some, if_neg hgt, k3, Option.bind_some, k4 _ _ e1, Option.bind_some]
      obtain ⟨fs, g1, -, g2, g, g3, g4⟩ := hE.1 (a + foNL i) (by omega)
      have ev : fV_makes N S (D + 1) (aL (a + foNL i)) (nI w) = some (nI (mkn (a + foNL i))) := by
        rw [fV_makes, g1]
        dsimp only
        rw [if_pos rfl]
        unfold fX8_makes
        rw [hR_at g1 g2, Option.bind_some, hAi_at g3 he (by decide), Option.bind_some, g4 _ he, hm _ (by omega)]
      show ((fV_makes N S (D + 1) (aL (a + foNL i)) _).bind _) = _
      rw [ev, Option.bind_some]
      simp only [ec_lt]
      rw [nI_1, nI_add, Nat.add_assoc]
      rfl
    · have hl' : a + (foNL i + foNL b) ≤ nl := hl
      have hq' : p + (foNQ i + 1 + foNQ b) ≤ nq := hq
      rw [hlen, show n + ((foK i).length + 1) = (n + 1) + (foK i).length by omega, ihi a p par d m (D + 1) K _ x0 (n + 1) acc kx hi (by omega) (by omega) hD hd hK e3, fX7_makes_4, k2, Option.bind_some, if_neg hgt, k3, Option.bind_some, k4 _ _ e1, Option.bind_some]
      obtain ⟨fs, g1, g2, g3⟩ := hE.2 (p + foNQ i) (by omega)
      have hkb : (foK b).length ≤ 1000 := by rw [← h4]; exact g3.1
      have e7 : fX7_makes N S (fV_makes N S D) (aQ (p + foNQ i)) (nI w) = some (nI (foMk of_ mkn b)) := by
        unfold fX7_makes
        have := ihb (a + foNL i) (p + foNQ i + 1) (nI (p + foNQ i)) (d + 1) (m * c) D (ch (p + foNQ i)) [] (aQ (p + foNQ i)) (N - (foK b).length - 1 + 1) 0 (fun x0_7 x1_8 => some x1_8) hb (by omega) (by omega) (by omega) (by omega) g3 (by rw [h4, List.append_nil])
        rw [show N - (foK b).length - 1 + 1 + (foK b).length = N by omega] at this
        rw [show (0 : Int32) = nI 0 from rfl] at *
        rw [this, fX7_makes_4, g3.2.1, Option.bind_some, h4, if_pos (nI_le (Nat.le_refl _) (by omega)), Nat.zero_add]
      have ev : fV_makes N S (D + 1) (aQ (p + foNQ i)) (nI w) = some (nI (c * foMk of_ mkn b)) := by
        rw [fV_makes, g1]
        dsimp only
        rw [if_neg (by decide), if_pos rfl]
        unfold fX9_makes
        rw [hI_at (v := of_ (p + foNQ i)) g1 g2, Option.bind_some, hObj_at g1, Option.bind_some, e7, Option.bind_some, c3, pk_mul]
      show ((fV_makes N S (D + 1) (aQ (p + foNQ i)) _).bind _) = _
      rw [ev, Option.bind_some]
      simp only [ec_lt]
      rw [nI_1, nI_add, Nat.add_assoc]
      have es : foMk of_ mkn (.inner 1 (p + foNQ i) u i b) = foMk of_ mkn i + c * foMk of_ mkn b := by
        show foMk of_ mkn i + (of_ (p + foNQ i)).toNatClampNeg * foMk of_ mkn b = _
        rw [c3, nI_clamp (by omega)]
      rw [es]
/-- what stands within a loop: lines in a row -/
theorem wF_ln : ∀ (f : Fo) (a p : Nat) (par : Int32) (d m : Nat), wF ch ar ou of_ tm dp dq cm f a p par d m → foLn f = bmN a (foNL f) := by
  intro f
  induction f with
  | leaf => intro a p par d m _; rfl
  | inner s k u i b ihi ihb =>
    intro a p par d m hw
    obtain ⟨hi, hc⟩ := hw
    rcases hc with ⟨rfl, rfl, rfl, -, -, -⟩ | ⟨rfl, rfl, -, -, -, h3, h4, c, c1, c2, c3, hb⟩
    · show foLn i ||| 2 ^ (a + foNL i) = bmN a (foNL i + 1)
      rw [bmN, ihi a p par d m hi]
    · show foLn i ||| foLn b = bmN a (foNL i + foNL b)
      rw [bmN_add, ihi a p par d m hi, ihb _ _ _ _ _ hb]
/-- a loop of the forest: what is in it; who is within it -/
theorem wF_cm : ∀ (f : Fo) (a p : Nat) (par : Int32) (d m : Nat), wF ch ar ou of_ tm dp dq cm f a p par d m → m ≤ 99 ^ d → p + foNQ f ≤ nq → ∀ q, p ≤ q → q < p + foNQ f → cm q ≤ 99 ^ dq q ∧ ∃ b lo, a ≤ lo ∧ lo + foNL b ≤ a + foNL f ∧ q + 1 + foNQ b ≤ p + foNQ f ∧ ch q = foK b ∧ dq q ≤ 3 ∧ (∃ n, 1 ≤ n ∧ n ≤ 99 ∧ of_ q = nI n ∧ wF ch ar ou of_ tm dp dq cm b lo (q + 1) (nI q) (dq q + 1) (cm q * n)) ∧
    ∀ W : Int32 → Bool, (∀ r, r < nq → W (nI r) = (decide (r = q) || W (ou r))) → W par = false → ∀ l, a ≤ l → l < a + foNL f → W (ar l) = decide (lo ≤ l ∧ l < lo + foNL b) := by
  intro f
  have inn : ∀ (f : Fo) (a p : Nat) (par : Int32) (d m : Nat), wF ch ar ou of_ tm dp dq cm f a p par d m → p + foNQ f ≤ nq → ∀ q (W : Int32 → Bool), (∀ r, r < nq → W (nI r) = (decide (r = q) || W (ou r))) → W par = true → ∀ l, a ≤ l → l < a + foNL f → W (ar l) = true := by
    intro f
    induction f with
    | leaf => intro a p par d m _ _ q W _ _ l h1 h2; have h2 : l < a + 0 := h2; omega
    | inner s k u i b ihi ihb =>
      intro a p par d m hw hq q W hW hp l h1 h2
      obtain ⟨hi, hc⟩ := hw
      rcases hc with ⟨rfl, rfl, rfl, w1, -, -⟩ | ⟨rfl, rfl, w1, -, -, h3, h4, c, c1, c2, c3, hb⟩
      · have h2 : l < a + (foNL i + 1) := h2
        by_cases c : l < a + foNL i
        · exact ihi a p par d m hi hq q W hW hp l h1 c
        · have : l = a + foNL i := by omega
          subst this
          rw [w1]; exact hp
      · have h2 : l < a + (foNL i + foNL b) := h2
        have hq : p + (foNQ i + 1 + foNQ b) ≤ nq := hq
        by_cases c : l < a + foNL i
        · exact ihi a p par d m hi (by omega) q W hW hp l h1 c
        · refine ihb _ _ _ _ _ hb (by omega) q W hW ?_ l (by omega) (by omega)
          rw [hW _ (by omega), w1, hp, Bool.or_true]
  have out : ∀ (f : Fo) (a p : Nat) (par : Int32) (d m : Nat), wF ch ar ou of_ tm dp dq cm f a p par d m → p + foNQ f ≤ nq → ∀ q (W : Int32 → Bool), (∀ r, r < nq → W (nI r) = (decide (r = q) || W (ou r))) → W par = false → (q < p ∨ p + foNQ f ≤ q) → ∀ l, a ≤ l → l < a + foNL f → W (ar l) = false := by
    intro f
    induction f with
    | leaf => intro a p par d m _ _ q W _ _ _ l h1 h2; have h2 : l < a + 0 := h2; omega
    | inner s k u i b ihi ihb =>
      intro a p par d m hw hq q W hW hp ho l h1 h2
      obtain ⟨hi, hc⟩ := hw
      rcases hc with ⟨rfl, rfl, rfl, w1, -, -⟩ | ⟨rfl, rfl, w1, -, -, h3, h4, c, c1, c2, c3, hb⟩
      · have h2 : l < a + (foNL i + 1) := h2
        by_cases c : l < a + foNL i
        · exact ihi a p par d m hi hq q W hW hp ho l h1 c
        · have : l = a + foNL i := by omega
          subst this
          rw [w1]; exact hp
      · have h2 : l < a + (foNL i + foNL b) := h2
        have hq : p + (foNQ i + 1 + foNQ b) ≤ nq := hq
        have ho : q < p ∨ p + (foNQ i + 1 + foNQ b) ≤ q := ho
        by_cases c : l < a + foNL i
        · exact ihi a p par d m hi (by omega) q W hW hp (by omega) l h1 c
        · refine ihb _ _ _ _ _ hb (by omega) q W hW ?_ (by omega) l (by omega) (by omega)
          rw [hW _ (by omega), w1, hp, Bool.or_false]
          exact decide_eq_false (by omega)
  induction f with
  | leaf =>
    intro a p par d m _ _ _ q h1 h2
    have h2 : q < p + 0 := h2
    omega
  | inner s k u i b ihi ihb =>
    intro a p par d m hw hm hnq q h1 h2
    obtain ⟨hi, hc⟩ := hw
    rcases hc with ⟨rfl, rfl, rfl, w1, -, -⟩ | ⟨rfl, rfl, w1, w2, w3, h3, h4, c, c1, c2, c3, hb⟩
    · have h2 : q < p + foNQ i := h2
      obtain ⟨z1, b, lo, z2, z3, z4, z5, z6, z7, z8⟩ := ihi a p par d m hi hm hnq q h1 h2
      refine ⟨z1, b, lo, z2, by show lo + foNL b ≤ a + (foNL i + 1); omega, z4, z5, z6, z7, fun W hW hp l h3 h4 => ?_⟩
      have h4 : l < a + (foNL i + 1) := h4
      by_cases c : l < a + foNL i
      · exact z8 W hW hp l h3 c
      · have : l = a + foNL i := by omega
        subst this
        rw [w1, hp]
        exact (decide_eq_false (by omega)).symm
    · have h2 : q < p + (foNQ i + 1 + foNQ b) := h2
      have hL : foNL (.inner 1 (p + foNQ i) u i b) = foNL i + foNL b := rfl
      have hQ : foNQ (.inner 1 (p + foNQ i) u i b) = foNQ i + 1 + foNQ b := rfl
      rw [hL, hQ]
      rw [hQ] at hnq
      by_cases c4 : q < p + foNQ i
      · obtain ⟨z1, b', lo, z2, z3, z4, z5, z6, z7, z8⟩ := ihi a p par d m hi hm (by omega) q h1 c4
        refine ⟨z1, b', lo, z2, by omega, by omega, z5, z6, z7, fun W hW hp l h3 h4 => ?_⟩
        by_cases c : l < a + foNL i
        · exact z8 W hW hp l h3 c
        · rw [out b _ _ _ _ _ hb (by omega) q W hW (by rw [hW _ (by omega), w1, hp, Bool.or_false]; exact decide_eq_false (by omega)) (by omega) l (by omega) (by omega)]
          exact (decide_eq_false (by omega)).symm
      by_cases c5 : q = p + foNQ i
      · subst c5
        refine ⟨by rw [w3, w2]; exact hm, b, a + foNL i, by omega, by omega, by omega, h4, by rw [w2]; exact h3, ⟨c, c1, c2, c3, ?_⟩, fun W hW hp l h3 h4 => ?_⟩
        · rw [w2, w3]
          exact hb
        · by_cases c : l < a + foNL i
          · rw [out i _ _ _ _ _ hi (by omega) _ W hW hp (by omega) l h3 c]
            exact (decide_eq_false (by omega)).symm
          · rw [inn b _ _ _ _ _ hb (by omega) _ W hW (by rw [hW _ (by omega), decide_eq_true rfl, Bool.true_or]) l (by omega) (by omega)]
            exact (decide_eq_true (by omega)).symm
      · have hmc : m * c ≤ 99 ^ (d + 1) := by rw [Nat.pow_succ]; exact Nat.mul_le_mul hm c2
        obtain ⟨z1, b', lo, z2, z3, z4, z5, z6, z7, z8⟩ := ihb _ _ _ _ _ hb hmc (by omega) q (by omega) (by omega)
        refine ⟨z1, b', lo, by omega, by omega, by omega, z5, z6, z7, fun W hW hp l h3 h4 => ?_⟩
        by_cases c : l < a + foNL i
        · rw [out i _ _ _ _ _ hi (by omega) _ W hW hp (by omega) l h3 c]
          exact (decide_eq_false (by omega)).symm
        · exact z8 W hW (by rw [hW _ (by omega), w1, hp, Bool.or_false]; exact decide_eq_false (by omega)) l (by omega) (by omega)
end
/-- sums -/
def sN (g : Nat → Nat) (lo : Nat) : Nat → Nat
  | 0 => 0
  | n + 1 => sN g lo n + g (lo + n)
theorem sN_add (g : Nat → Nat) (a x : Nat) : ∀ y, sN g a (x + y) = sN g a x + sN g (a + x) y
  | 0 => rfl
  | y + 1 => by rw [← Nat.add_assoc, sN, sN_add g a x y, sN, Nat.add_assoc, Nat.add_assoc]
theorem sN_congr {g h : Nat → Nat} {lo : Nat} : ∀ {n}, (∀ l, lo ≤ l → l < lo + n → g l = h l) → sN g lo n = sN h lo n
  | 0, _ => rfl
  | n + 1, H => by rw [sN, sN, sN_congr (n := n) (fun l h1 h2 => H l h1 (by omega)), H (lo + n) (by omega) (by omega)]
theorem sN_zero (lo : Nat) : ∀ n, sN (fun _ => 0) lo n = 0
  | 0 => rfl
  | n + 1 => by rw [sN, sN_zero lo n]
theorem sN_plus (g h : Nat → Nat) (lo : Nat) : ∀ n, sN (fun l => g l + h l) lo n = sN g lo n + sN h lo n
  | 0 => rfl
  | n + 1 => by rw [sN, sN, sN, sN_plus g h lo n]; omega
theorem sN_le {g : Nat → Nat} {B lo : Nat} : ∀ {n}, (∀ l, lo ≤ l → l < lo + n → g l ≤ B) → sN g lo n ≤ n * B
  | 0, _ => by rw [sN]; omega
  | n + 1, H => by
    rw [sN, Nat.succ_mul]
    have h1 := sN_le (n := n) (fun l h1 h2 => H l h1 (by omega))
    have h2 := H (lo + n) (by omega) (by omega)
    omega
theorem sN_ind (h : Nat → Nat) {lo n nl : Nat} (hn : lo + n ≤ nl) : sN (fun l => if lo ≤ l ∧ l < lo + n then h l else 0) 0 nl = sN h lo n := by
  obtain ⟨r, rfl⟩ : ∃ r, nl = lo + n + r := ⟨nl - (lo + n), by omega⟩
  rw [sN_add, sN_add, Nat.zero_add, Nat.zero_add]
  rw [sN_congr (h := fun _ => 0) (fun l h1 h2 => if_neg (by omega)), sN_zero, Nat.zero_add]
  rw [sN_congr (lo := lo) (h := h) (fun l h1 h2 => if_pos (by omega))]
  rw [sN_congr (lo := lo + n) (h := fun _ => 0) (fun l h1 h2 => if_neg (by omega)), sN_zero, Nat.add_zero]
section
variable {ch : Nat → List (Bool × Nat)} {ar ou of_ tm dp : Nat → Int32} {dq cm : Nat → Nat}
/-- what the lines of a forest make, by their times -/
theorem wF_sum {c : Nat} (hc0 : 0 < c) (mkn : Nat → Nat) : ∀ (f : Fo) (a p : Nat) (par : Int32) (d w : Nat), wF ch ar ou of_ tm dp dq cm f a p par d (c * w) → c * w ≤ 99 ^ d → d ≤ 4 → sN (fun l => (tm l).toNatClampNeg / c * mkn l) a (foNL f) = w * foMk of_ mkn f := by
  intro f
  induction f with
  | leaf => intro a p par d w _ _ _; rfl
  | inner s k u i b ihi ihb =>
    intro a p par d w hw hm hd
    obtain ⟨hi, hc⟩ := hw
    rcases hc with ⟨rfl, rfl, rfl, -, -, w1⟩ | ⟨rfl, rfl, -, -, -, h3, h4, n, c1, c2, c3, hb⟩
    · show sN _ a (foNL i + 1) = w * (foMk of_ mkn i + mkn (a + foNL i))
      have h4 : (99 : Nat) ^ d ≤ 99 ^ 4 := Nat.pow_le_pow_right (by decide) hd
      rw [sN, ihi a p par d w hi hm hd, w1, nI_clamp (by omega), Nat.mul_div_cancel_left _ hc0, Nat.mul_add]
    · show sN _ a (foNL i + foNL b) = w * (foMk of_ mkn i + (of_ (p + foNQ i)).toNatClampNeg * foMk of_ mkn b)
      rw [Nat.mul_assoc] at hb
      have hm2 : c * (w * n) ≤ 99 ^ (d + 1) := by rw [← Nat.mul_assoc, Nat.pow_succ]; exact Nat.mul_le_mul hm c2
      rw [sN_add, ihi a p par d w hi hm hd, ihb _ _ _ _ _ hb hm2 (by omega), c3, nI_clamp (by omega), Nat.mul_add, Nat.mul_assoc]
end
