/-! AFTER THE TEXT: the Model's end at a fault; ticks and totals -/
set_option maxRecDepth 100000
theorem dt_some {N nq nl : Nat} {M : sM} (w : WDM M nl nq) (hN : 100 ≤ N) {l : Nat} (hl : l < nl) : ∃ x, fX3_dTimes N M (nI l) = some x := by
  obtain ⟨x1, x2, x3, x4, x5⟩ := w
  have lp : ∀ (q n : Nat) (acc : Int64), q < nq → q + 1 < n → ∃ x, fX3_dTimes_10 N M (fun x2_5 => some x2_5) n acc (nI q) = some x := by
    intro q
    induction q using Nat.strongRecOn with
    | _ q ih =>
      intro n acc hq hn
      obtain ⟨n, rfl⟩ : ∃ m, n = m + 1 := ⟨n - 1, by omega⟩
      rw [fX3_dTimes_10, if_neg (nI_nm4 (by omega)), ag_at (by omega) (by decide), Option.bind_some]
      simp only [ec_lt]
      rw [ag_at (by omega) (by decide), Option.bind_some]
      rcases x5 q hq with h | ⟨p, hp, h⟩
      · obtain ⟨n, rfl⟩ : ∃ m, n = m + 1 := ⟨n - 1, by omega⟩
        rw [h, fX3_dTimes_10, if_pos rfl]
        exact ⟨_, rfl⟩
      · rw [h]
        exact ih p hp n _ (by omega) (by omega)
  unfold fX3_dTimes
  rw [ag_at (by omega) (by decide), Option.bind_some]
  rcases x4 l hl with h | ⟨q, hq, h⟩
  · obtain ⟨n, rfl⟩ : ∃ m, N = m + 1 := ⟨N - 1, by omega⟩
    rw [h, fX3_dTimes_10, if_pos rfl]
    exact ⟨_, rfl⟩
  · rw [h]
    exact lp q N 1 hq (by omega)
theorem p76_some {N nq nl : Nat} {M : sM} (w : WDM M nl nq) (hN : 100 ≤ N) (kx : sM → Int64 → Option (Int32 × sM)) : ∀ (k l n : Nat) (acc : Int64), l + k = nl → k < n → ∃ x, fX3_program_76 N kx n M acc (nI l) = kx M x := by
  have w0 := w
  obtain ⟨x1, x2, x3, x4, x5⟩ := w
  intro k
  induction k with
  | zero =>
    intro l n acc hk hn
    obtain ⟨n, rfl⟩ : ∃ m, n = m + 1 := ⟨n - 1, by omega⟩
    have : l = nl := by omega
    subst this
    rw [fX3_program_76, x1, if_pos (nI_le (Nat.le_refl _) (by omega))]
    exact ⟨_, rfl⟩
  | succ k ih =>
    intro l n acc hk hn
    obtain ⟨n, rfl⟩ : ∃ m, n = m + 1 := ⟨n - 1, by omega⟩
    obtain ⟨y, hy⟩ := dt_some w0 hN (show l < nl by omega)
    rw [fX3_program_76, x1, if_neg (nI_ge (by omega) (by omega)), hy, Option.bind_some]
    simp only [ec_lt]
    rw [nI_1]
    exact ih (l + 1) n _ (by omega) (by omega)
/-- the Model's answer at a fault -/
theorem ft_end {N nq nl : Nat} {M : sM} {c : Int32} {pl : Nat} (hf : ftS M c pl) (w : WDM M nl nq) (hN : 100 ≤ N) (t0 : Int32) : fX3_program_68 N M t0 = some ((-10 : Int32) - nI pl, mI M 25 0) := by
  unfold fX3_program_68
  rw [fz_wants hf, Option.bind_some]
  obtain ⟨x, hx⟩ := p76_some (N := N) w hN (fun S_14 x1_15 => if ¬ (S_14.1 30) = 0 then (fX3_program_127 N S_14) else (if (lg_cmp x1_15 (6000 : Int64)) ≤ 0 then (fX3_program_127 N S_14) else (ec_lt (mI S_14 30 (6 : Int32)) fun S_18 => ec_lt (mI S_18 31 (S_18.1 25)) fun S_19 => fX3_program_127 N S_19))) nl 0 N 0 (by omega) (by have := w.2.1; omega)
  refine hx.trans ?_
  rw [if_pos (fz_ne hf)]
  unfold fX3_program_127
  simp only [ec_lt]
  rw [if_neg (show ¬ (mI M 25 0).1 30 ≤ 0 by rw [show (mI M 25 0).1 30 = M.1 30 from rfl, hf.1]; exact hf.2.1), show (mI M 25 0).1 31 = nI pl from hf.2.2]
theorem flt_end {N nq nl : Nat} {M : sM} {c : Int32} {pl : Nat} (hf : FLT M c pl) (w : WDM M nl nq) (hN : 100 ≤ N) : ∃ M2, fX3_program_55 N M = some ((-10 : Int32) - nI pl, mI M2 25 0) ∧ KP M M2 ∧ M2.1 30 = c := by
  rcases hf with hf | ⟨rfl, h1, h2, h3, d, d1, d2, d3⟩
  · refine ⟨M, ?_, KP.rfl', hf.1⟩
    unfold fX3_program_55
    by_cases c : M.1 19 = 0
    · rw [if_neg (not_not_intro c), ft_end hf w hN]
    · rw [if_pos c, ft_end hf w hN]
  · obtain ⟨M', e1, e2⟩ := (m_want h3 h1 0 2).2 rfl (by decide)
    have e3 := e2.S (by decide)
    refine ⟨M', ?_, e2.KP, e3.1⟩
    have := ft_end e3 (e2.T2.T3.W w) hN 0
    unfold fX3_program_68 at this
    rw [fz_wants e3, Option.bind_some] at this
    unfold fX3_program_55 fX3_program_68
    rw [d3, if_pos (nI_ne0 d1 (by omega)), e1, Option.bind_some]
    exact this
/-- what is no item at the top -/
theorem item_top {T : Nat → Int32} {t N : Nat} {M : sM} {f to : Nat} {kd v : Int32} (hX : MX T t M) (hS : tkS M f to kd v) (hV : tkV T t f to kd v) (h19 : M.1 19 = 0) (w0 : ¬ (kd = 1 ∧ isW T f to 0)) (w1 : ¬ (kd = 1 ∧ isW T f to 1)) : ∃ M', fX3_readItem N M = some M' ∧ ftM M M' 2 f := by
  by_cases w2 : kd = 1 ∧ isW T f to 2
  · obtain ⟨s1, s2, s3, s4, s5⟩ := hS
    obtain ⟨M', e1, e2⟩ := (m_want s2 s5 0 2).2 rfl (by decide)
    have e3 := e2.S (by decide)
    refine ⟨M', ?_, e2⟩
    rw [item_end hX ⟨s1, s2, s3, s4, s5⟩ hV w2.1 w2.2]
    unfold fX3_readEnd fX3_readEnd_13 fX3_readEnd_66
    rw [h19, if_pos (by decide), e1, Option.bind_some, if_pos (fz_ne e3), fz_next e3, Option.bind_some, Option.bind_some]
    exact fz_66 e3
  · exact item_none hX hS hV (by
      by_cases c1 : kd = 1
      · exact Or.inr ⟨fun h => w0 ⟨c1, h⟩, fun h => w1 ⟨c1, h⟩, fun h => w2 ⟨c1, h⟩⟩
      · exact Or.inl c1)
/-- ticks and totals of the component -/
theorem fill_10 {N : Nat} : ∀ (k i n : Nat) (S : sX), i + k = 8 → k < n → ∃ S', fJ7_fill10_5 N n S 0 (nI i) 8 = some S' ∧ S'.1 = S.1 ∧ S'.2.2 = S.2.2 ∧ (∀ a, a ≠ 10 → S'.2.1 a = S.2.1 a) ∧ ∀ x, S'.2.1 10 x = if i ≤ x ∧ x < 8 then 0 else S.2.1 10 x := by
  intro k
  induction k with
  | zero =>
    intro i n S hi hn
    obtain ⟨n, rfl⟩ : ∃ m, n = m + 1 := ⟨n - 1, by omega⟩
    have : i = 8 := by omega
    subst this
    rw [fJ7_fill10_5, if_pos (by decide)]
    exact ⟨S, rfl, rfl, rfl, fun _ _ => rfl, fun x => by rw [if_neg (by omega)]⟩
  | succ k ih =>
    intro i n S hi hn
    obtain ⟨n, rfl⟩ : ∃ m, n = m + 1 := ⟨n - 1, by omega⟩
    have hge : ¬ (8 : Int32) ≤ nI i := nI_ge (b := 8) (by omega) (by decide)
    rw [fJ7_fill10_5, if_neg hge, xas_at (by omega) (by decide), Option.bind_some]
    simp only [ec_lt]
    rw [nI_1]
    obtain ⟨S', e1, e2, e3, e4, e5⟩ := ih (i + 1) n (xA S 10 i 0) (by omega) (by omega)
    refine ⟨S', e1, e2, e3, fun a ha => (e4 a ha).trans (xA_k S _ _ ha), fun x => ?_⟩
    rw [e5]
    by_cases c : x = i
    · subst c
      rw [if_neg (by omega), if_pos (by omega), xA_eq]
    · rw [xA_ne S 10 0 c]
      by_cases c2 : i ≤ x ∧ x < 8
      · rw [if_pos c2, if_pos (by omega)]
      · rw [if_neg c2, if_neg (by omega)]
section
variable {N nl : Nat} {h : hH} {aL aE : Nat → Nat} {dp tk mk tm : Nat → Int32}
theorem lays64 {l : Nat} (h1 : h (aL l) = some (.inr (7, [.int (nI l), .int (dp l), .int (tk l), .ref (aE l), .int (tm l)]))) {g : Nat → Int32} (h2 : h (aE l) = some (.inl (0, 8, .inl g))) (h3 : ∀ e, e < 8 → g e = mk (8 * l + e)) (kx : sX → Int32 → Option sX) (x2 : Int32) : ∀ (k e n : Nat) (S : sX), S.2.2.2 = h → e + k = 8 → k < n → ∃ S', fX0_lays_64 N kx n S x2 (aL l) (nI e) = kx S' x2 ∧ S'.1 = S.1 ∧ S'.2.2 = S.2.2 ∧ (∀ a, a ≠ 10 → S'.2.1 a = S.2.1 a) ∧ ∀ x, S'.2.1 10 x = if e ≤ x ∧ x < 8 then S.2.1 10 x + tm l * mk (8 * l + x) else S.2.1 10 x := by
  intro k
  induction k with
  | zero =>
    intro e n S hS he hn
    obtain ⟨n, rfl⟩ : ∃ m, n = m + 1 := ⟨n - 1, by omega⟩
    have : e = 8 := by omega
    subst this
    rw [fX0_lays_64, if_pos (by decide)]
    exact ⟨S, rfl, rfl, rfl, fun _ _ => rfl, fun x => by rw [if_neg (by omega)]⟩
  | succ k ih =>
    intro e n S hS he hn
    obtain ⟨n, rfl⟩ : ∃ m, n = m + 1 := ⟨n - 1, by omega⟩
    have hge : ¬ (8 : Int32) ≤ nI e := nI_ge (b := 8) (by omega) (by decide)
    rw [fX0_lays_64, if_neg hge, ag_at (by omega) (by decide), Option.bind_some, hS, hI_at h1 rfl, Option.bind_some, hR_at h1 rfl, Option.bind_some, hAi_at h2 (by omega) (by decide), Option.bind_some, h3 e (by omega), xas_at (by omega) (by decide), Option.bind_some]
    simp only [ec_lt]
    rw [nI_1]
    obtain ⟨S', e1, e2, e3, e4, e5⟩ := ih (e + 1) n (xA S 10 e (S.2.1 10 e + tm l * mk (8 * l + e))) hS (by omega) (by omega)
    refine ⟨S', e1, e2, e3, fun a ha => (e4 a ha).trans (xA_k S _ _ ha), fun x => ?_⟩
    rw [e5]
    by_cases c : x = e
    · subst c
      rw [if_neg (by omega), if_pos (by omega), xA_eq]
    · rw [xA_ne S 10 _ c]
      by_cases c2 : e ≤ x ∧ x < 8
      · rw [if_pos c2, if_pos (by omega)]
      · rw [if_neg c2, if_neg (by omega)]
theorem lays28 {la : Nat} {fl : Nat → Option Nat} (hnl : nl ≤ 16) (hN : 100 ≤ N) (hla : h la = some (.inl (4, 16, .inr fl))) (hfl : ∀ l, l < nl → fl l = some (aL l)) (h1 : ∀ l, l < nl → h (aL l) = some (.inr (7, [.int (nI l), .int (dp l), .int (tk l), .ref (aE l), .int (tm l)]))) (h2 : ∀ l, l < nl → ∃ g, h (aE l) = some (.inl (0, 8, .inl g)) ∧ ∀ e, e < 8 → g e = mk (8 * l + e)) (ht : ∀ l, l < nl → ∃ n, n < 2 ^ 31 ∧ tm l = nI n) (hk : ∀ l, l < nl → ∃ n, n < 2 ^ 31 ∧ tk l = nI n) : ∀ (k l n : Nat) (S : sX), S.2.2.2 = h → S.2.2.1 3 = la → S.1 4 = nI nl → l + k = nl → k < n → (∀ e, e < 8 → S.2.1 10 e = tot tm mk l e) →
    ∃ S', fX0_lays_28 N n S (nI l) = some S' ∧ (∀ j, j ≠ 9 → S'.1 j = S.1 j) ∧ S'.1 9 = S.1 9 + nI (sN (fun x => (tk x).toNatClampNeg * (tm x).toNatClampNeg) l k) ∧ S'.2.2 = S.2.2 ∧ (∀ a, a ≠ 10 → S'.2.1 a = S.2.1 a) ∧ ∀ e, e < 8 → S'.2.1 10 e = tot tm mk nl e := by
  intro k
  induction k with
  | zero =>
    intro l n S hS hla2 h4 hk hn htot
    obtain ⟨n, rfl⟩ : ∃ m, n = m + 1 := ⟨n - 1, by omega⟩
    have : l = nl := by omega
    subst this
    rw [fX0_lays_28, h4, if_pos (nI_le (Nat.le_refl _) (by omega))]
    exact ⟨S, rfl, fun _ _ => rfl, by rw [sN, show nI 0 = (0 : Int32) from rfl, Int32.add_zero], rfl, fun _ _ => rfl, htot⟩
  | succ k ih =>
    intro l n S hS hla2 h4 hkl hn htot
    obtain ⟨n, rfl⟩ : ∃ m, n = m + 1 := ⟨n - 1, by omega⟩
    obtain ⟨g, g1, g2⟩ := h2 l (by omega)
    obtain ⟨y, y1, y2⟩ := ht l (by omega)
    obtain ⟨z, z1, z2⟩ := hk l (by omega)
    rw [fX0_lays_28, h4, if_neg (nI_ge (by omega) (by omega)), hS, hla2, hAr_at hla (by omega) (by decide) (hfl l (by omega)), Option.bind_some, hI_at (h1 l (by omega)) rfl, Option.bind_some, hI_at (h1 l (by omega)) rfl, Option.bind_some]
    simp only [ec_lt]
    obtain ⟨S1, e1, e2, e3, e4, e5⟩ := lays64 (N := N) (h1 l (by omega)) g1 g2 (fun S_18 x2_19 => fX0_lays_28 N n S_18 (x2_19 + 1)) (nI l) 8 0 N (xI S 9 (S.1 9 + tm l * tk l)) hS (by omega) (by omega)
    rw [show (0 : Int32) = nI 0 from rfl] at *
    rw [e1, nI_1]
    obtain ⟨S', f1, f2, f3, f4, f5, f6⟩ := ih (l + 1) n S1 (by rw [e3]; exact hS) (by rw [e3]; exact hla2) (by rw [e2]; exact h4) (by omega) (by omega) (fun e he => by rw [e5, if_pos (by omega), tot]; show S.2.1 10 e + _ = _; rw [htot e he])
    refine ⟨S', f1, fun j hj => (f2 j hj).trans (by rw [e2]; exact up_ne hj), ?_, f4.trans e3, fun a ha => (f5 a ha).trans (e4 a ha), f6⟩
    rw [f3, e2, sN_cons, ← nI_add, y2, z2, nI_clamp z1, nI_clamp y1]
    show S.1 9 + nI y * nI z + _ = _
    rw [pk_mul, Nat.mul_comm y, Int32.add_assoc]
end
