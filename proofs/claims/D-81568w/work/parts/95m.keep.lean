/-! AFTER THE TEXT: the Model keeps the program -/
set_option maxRecDepth 100000
theorem sN_cons (g : Nat → Nat) (a k : Nat) : sN g a (k + 1) = g a + sN g (a + 1) k := by
  rw [Nat.add_comm k 1, sN_add, sN, sN, Nat.zero_add, Nat.add_zero]
section
variable {N nl nq rw : Nat} {tm d12 d14 d16 d17 : Nat → Int32}
theorem kp31 (hnl : nl ≤ 16) (hd : ∀ M : sM, M.2.2 14 = d14 → M.2.2 16 = d16 → M.2.2 17 = d17 → ∀ l, l < nl → ∃ n, n ≤ 99 ^ 4 ∧ tm l = nI n ∧ fX3_dTimes N M (nI l) = some (lN n)) (h12 : ∀ l, l < nl → ∃ n, n ≤ 20 ∧ d12 l = nI n) (kx : sM → Option sM) : ∀ (k l n : Nat) (M : sM), l + k = nl → k < n → M.1 0 = nI nl → M.2.2 12 = d12 → M.2.2 14 = d14 → M.2.2 16 = d16 → M.2.2 17 = d17 →
    ∃ M', fX3_keepProgram_31 N kx n M (nI l) = kx M' ∧ (∀ j, j ≠ 10 → M'.1 j = M.1 j) ∧ M'.1 10 = M.1 10 + nI (sN (fun x => (d12 x).toNatClampNeg * (tm x).toNatClampNeg) l k) ∧ (∀ a, a ≠ 1 → a ≠ 3 → a ≠ 9 → M'.2.2 a = M.2.2 a) ∧ (∀ x, M'.2.2 1 x = if l ≤ x ∧ x < nl then d12 x else M.2.2 1 x) ∧ (∀ x, M'.2.2 3 x = if l ≤ x ∧ x < nl then d14 x else M.2.2 3 x) ∧ ∀ x, M'.2.2 9 x = if l ≤ x ∧ x < nl then tm x else M.2.2 9 x := by
  intro k
  induction k with
  | zero =>
    intro l n M hk hn h0 a1 a2 a3 a4
    obtain ⟨n, rfl⟩ : ∃ m, n = m + 1 := ⟨n - 1, by omega⟩
    have : l = nl := by omega
    subst this
    rw [fX3_keepProgram_31, h0, if_pos (nI_le (Nat.le_refl _) (by omega))]
    exact ⟨M, rfl, fun _ _ => rfl, by rw [sN, show nI 0 = (0 : Int32) from rfl, Int32.add_zero], fun _ _ _ _ => rfl, fun x => by rw [if_neg (by omega)], fun x => by rw [if_neg (by omega)], fun x => by rw [if_neg (by omega)]⟩
  | succ k ih =>
    intro l n M hk hn h0 a1 a2 a3 a4
    obtain ⟨n, rfl⟩ : ∃ m, n = m + 1 := ⟨n - 1, by omega⟩
    obtain ⟨w, w1, w2⟩ := h12 l (by omega)
    have hl16 : l < 16 := by omega
    obtain ⟨y, y1, y2, y3⟩ := hd (mA (mA M 1 l (d12 l)) 3 l (d14 l)) a2 a3 a4 l (by omega)
    rw [fX3_keepProgram_31, h0, if_neg (nI_ge (by omega) (by omega)), ag_at hl16 (by decide), Option.bind_some, a1, as_at hl16 (by decide), Option.bind_some, ag_at hl16 (by decide), Option.bind_some, show (mA M 1 l (d12 l)).2.2 14 l = d14 l from by rw [← a2]; rfl, as_at hl16 (by decide), Option.bind_some, y3, Option.bind_some, as_at hl16 (by decide), Option.bind_some, ag_at hl16 (by decide), Option.bind_some, ag_at hl16 (by decide), Option.bind_some, lN_i, ← y2]
    simp only [ec_lt]
    rw [nI_1, show (mA (mA (mA M 1 l (d12 l)) 3 l (d14 l)) 9 l (tm l)).2.2 1 l = d12 l from upd_eq', show (mA (mA (mA M 1 l (d12 l)) 3 l (d14 l)) 9 l (tm l)).2.2 9 l = tm l from upd_eq', show (mA (mA (mA M 1 l (d12 l)) 3 l (d14 l)) 9 l (tm l)).1 10 = M.1 10 from rfl]
    obtain ⟨M', e1, e2, e3, e4, e5, e6, e7⟩ := ih (l + 1) n (mI (mA (mA (mA M 1 l (d12 l)) 3 l (d14 l)) 9 l (tm l)) 10 (M.1 10 + d12 l * tm l)) (by omega) (by omega) h0 a1 a2 a3 a4
    refine ⟨M', e1, fun j hj => (e2 j hj).trans (mI_ne _ _ hj), ?_, fun a b1 b2 b3 => (e4 a b1 b2 b3).trans ((mA_k _ _ _ b3).trans ((mA_k _ _ _ b2).trans (mA_k _ _ _ b1))), fun x => ?_, fun x => ?_, fun x => ?_⟩
    · rw [e3, sN_cons, ← nI_add, w2, y2, nI_clamp (by omega), nI_clamp (by omega)]
      show M.1 10 + nI w * nI y + _ = _
      rw [pk_mul, Int32.add_assoc]
    · rw [e5]
      show (if l + 1 ≤ x ∧ x < nl then d12 x else upd (M.2.2 1) l (d12 l) x) = _
      by_cases c : x = l
      · subst c
        rw [if_neg (by omega), if_pos (by omega), upd_eq']
      · rw [upd_ne' c]
        by_cases c2 : l ≤ x ∧ x < nl
        · rw [if_pos c2, if_pos (by omega)]
        · rw [if_neg c2, if_neg (by omega)]
    · rw [e6]
      show (if l + 1 ≤ x ∧ x < nl then d14 x else upd (M.2.2 3) l (d14 l) x) = _
      by_cases c : x = l
      · subst c
        rw [if_neg (by omega), if_pos (by omega), upd_eq']
      · rw [upd_ne' c]
        by_cases c2 : l ≤ x ∧ x < nl
        · rw [if_pos c2, if_pos (by omega)]
        · rw [if_neg c2, if_neg (by omega)]
    · rw [e7]
      show (if l + 1 ≤ x ∧ x < nl then tm x else upd (M.2.2 9) l (tm l) x) = _
      by_cases c : x = l
      · subst c
        rw [if_neg (by omega), if_pos (by omega), upd_eq']
      · rw [upd_ne' c]
        by_cases c2 : l ≤ x ∧ x < nl
        · rw [if_pos c2, if_pos (by omega)]
        · rw [if_neg c2, if_neg (by omega)]
theorem kp105 (kx : sM → Option sM) : ∀ (k l n : Nat) (M : sM), l + k = 128 → k < n → ∃ M', fX3_keepProgram_105 N kx n M (nI l) = kx M' ∧ M'.1 = M.1 ∧ (∀ a, a ≠ 2 → M'.2.2 a = M.2.2 a) ∧ ∀ x, M'.2.2 2 x = if l ≤ x ∧ x < 128 then M.2.2 13 x else M.2.2 2 x := by
  intro k
  induction k with
  | zero =>
    intro l n M hk hn
    obtain ⟨n, rfl⟩ : ∃ m, n = m + 1 := ⟨n - 1, by omega⟩
    have : l = 128 := by omega
    subst this
    rw [fX3_keepProgram_105, if_pos (by decide)]
    exact ⟨M, rfl, rfl, fun _ _ => rfl, fun x => by rw [if_neg (by omega)]⟩
  | succ k ih =>
    intro l n M hk hn
    obtain ⟨n, rfl⟩ : ∃ m, n = m + 1 := ⟨n - 1, by omega⟩
    have hge : ¬ (128 : Int32) ≤ nI l := nI_ge (b := 128) (by omega) (by decide)
    rw [fX3_keepProgram_105, if_neg hge, ag_at (by omega) (by decide), Option.bind_some, as_at (by omega) (by decide), Option.bind_some]
    simp only [ec_lt]
    rw [nI_1]
    obtain ⟨M', e1, e2, e3, e4⟩ := ih (l + 1) n (mA M 2 l (M.2.2 13 l)) (by omega) (by omega)
    refine ⟨M', e1, e2, fun a ha => (e3 a ha).trans (mA_k _ _ _ ha), fun x => ?_⟩
    rw [e4]
    show (if l + 1 ≤ x ∧ x < 128 then M.2.2 13 x else upd (M.2.2 2) l (M.2.2 13 l) x) = _
    by_cases c : x = l
    · subst c
      rw [if_neg (by omega), if_pos (by omega), upd_eq']
    · rw [upd_ne' c]
      by_cases c2 : l ≤ x ∧ x < 128
      · rw [if_pos c2, if_pos (by omega)]
      · rw [if_neg c2, if_neg (by omega)]
theorem kp132 (hnq : nq ≤ 40) (kx : sM → Option sM) : ∀ (k l n : Nat) (M : sM), l + k = nq → k < n → M.1 4 = nI nq → ∃ M', fX3_keepProgram_132 N kx n M (nI l) = kx M' ∧ M'.1 = M.1 ∧ (∀ a, a ≠ 5 → a ≠ 6 → M'.2.2 a = M.2.2 a) ∧ (∀ x, M'.2.2 5 x = if l ≤ x ∧ x < nq then M.2.2 16 x else M.2.2 5 x) ∧ ∀ x, M'.2.2 6 x = if l ≤ x ∧ x < nq then M.2.2 17 x else M.2.2 6 x := by
  intro k
  induction k with
  | zero =>
    intro l n M hk hn h4
    obtain ⟨n, rfl⟩ : ∃ m, n = m + 1 := ⟨n - 1, by omega⟩
    have : l = nq := by omega
    subst this
    rw [fX3_keepProgram_132, h4, if_pos (nI_le (Nat.le_refl _) (by omega))]
    exact ⟨M, rfl, rfl, fun _ _ _ => rfl, fun x => by rw [if_neg (by omega)], fun x => by rw [if_neg (by omega)]⟩
  | succ k ih =>
    intro l n M hk hn h4
    obtain ⟨n, rfl⟩ : ∃ m, n = m + 1 := ⟨n - 1, by omega⟩
    have hl40 : l < 40 := by omega
    rw [fX3_keepProgram_132, h4, if_neg (nI_ge (by omega) (by omega)), ag_at hl40 (by decide), Option.bind_some, as_at hl40 (by decide), Option.bind_some, ag_at hl40 (by decide), Option.bind_some, as_at hl40 (by decide), Option.bind_some]
    simp only [ec_lt]
    rw [nI_1]
    obtain ⟨M', e1, e2, e3, e4, e5⟩ := ih (l + 1) n (mA (mA M 5 l (M.2.2 16 l)) 6 l ((mA M 5 l (M.2.2 16 l)).2.2 17 l)) (by omega) (by omega) h4
    refine ⟨M', e1, e2, fun a b1 b2 => (e3 a b1 b2).trans ((mA_k _ _ _ b2).trans (mA_k _ _ _ b1)), fun x => ?_, fun x => ?_⟩
    · rw [e4]
      show (if l + 1 ≤ x ∧ x < nq then M.2.2 16 x else upd (M.2.2 5) l (M.2.2 16 l) x) = _
      by_cases c : x = l
      · subst c
        rw [if_neg (by omega), if_pos (by omega), upd_eq']
      · rw [upd_ne' c]
        by_cases c2 : l ≤ x ∧ x < nq
        · rw [if_pos c2, if_pos (by omega)]
        · rw [if_neg c2, if_neg (by omega)]
    · rw [e5]
      show (if l + 1 ≤ x ∧ x < nq then M.2.2 17 x else upd (M.2.2 6) l (M.2.2 17 l) x) = _
      by_cases c : x = l
      · subst c
        rw [if_neg (by omega), if_pos (by omega), upd_eq']
      · rw [upd_ne' c]
        by_cases c2 : l ≤ x ∧ x < nq
        · rw [if_pos c2, if_pos (by omega)]
        · rw [if_neg c2, if_neg (by omega)]
theorem kp172 (hrw : rw ≤ 100) (kx : sM → Option sM) : ∀ (k l n : Nat) (M : sM), l + k = rw → k < n → M.1 22 = nI rw → ∃ M', fX3_keepProgram_172 N kx n M (nI l) = kx M' ∧ M'.1 = M.1 ∧ (∀ a, a ≠ 20 → M'.2.2 a = M.2.2 a) ∧ ∀ x, M'.2.2 20 x = if l ≤ x ∧ x < rw then M.2.2 21 x else M.2.2 20 x := by
  intro k
  induction k with
  | zero =>
    intro l n M hk hn h22
    obtain ⟨n, rfl⟩ : ∃ m, n = m + 1 := ⟨n - 1, by omega⟩
    have : l = rw := by omega
    subst this
    rw [fX3_keepProgram_172, h22, if_pos (nI_le (Nat.le_refl _) (by omega))]
    exact ⟨M, rfl, rfl, fun _ _ => rfl, fun x => by rw [if_neg (by omega)]⟩
  | succ k ih =>
    intro l n M hk hn h22
    obtain ⟨n, rfl⟩ : ∃ m, n = m + 1 := ⟨n - 1, by omega⟩
    rw [fX3_keepProgram_172, h22, if_neg (nI_ge (by omega) (by omega)), ag_at (by omega) (by decide), Option.bind_some, as_at (by omega) (by decide), Option.bind_some]
    simp only [ec_lt]
    rw [nI_1]
    obtain ⟨M', e1, e2, e3, e4⟩ := ih (l + 1) n (mA M 20 l (M.2.2 21 l)) (by omega) (by omega) h22
    refine ⟨M', e1, e2, fun a ha => (e3 a ha).trans (mA_k _ _ _ ha), fun x => ?_⟩
    rw [e4]
    show (if l + 1 ≤ x ∧ x < rw then M.2.2 21 x else upd (M.2.2 20) l (M.2.2 21 l) x) = _
    by_cases c : x = l
    · subst c
      rw [if_neg (by omega), if_pos (by omega), upd_eq']
    · rw [upd_ne' c]
      by_cases c2 : l ≤ x ∧ x < rw
      · rw [if_pos c2, if_pos (by omega)]
      · rw [if_neg c2, if_neg (by omega)]
/-- what the Model keeps, up to its walk -/
theorem keep_m {M : sM} (hN : 400 ≤ N) (hnl : nl ≤ 16) (hnq : nq ≤ 40) (hrw : rw ≤ 100) (h11 : M.1 11 = nI nl) (h15 : M.1 15 = nI nq) (h23 : M.1 23 = nI rw) (hd : ∀ M' : sM, M'.2.2 14 = M.2.2 14 → M'.2.2 16 = M.2.2 16 → M'.2.2 17 = M.2.2 17 → ∀ l, l < nl → ∃ n, n ≤ 99 ^ 4 ∧ tm l = nI n ∧ fX3_dTimes N M' (nI l) = some (lN n)) (h12 : ∀ l, l < nl → ∃ n, n ≤ 20 ∧ M.2.2 12 l = nI n) :
    ∃ M1 : sM, fX3_keepProgram N M = ((fX3_walk N M1).bind fun S_30 => some (mI S_30 49 0)) ∧ M1.1 0 = nI nl ∧ M1.1 4 = nI nq ∧ M1.1 22 = nI rw ∧ M1.1 10 = nI (sN (fun x => (M.2.2 12 x).toNatClampNeg * (tm x).toNatClampNeg) 0 nl) ∧ (∀ j, j ≠ 0 → j ≠ 4 → j ≠ 22 → j ≠ 10 → M1.1 j = M.1 j) ∧
      (∀ a, a ≠ 1 → a ≠ 2 → a ≠ 3 → a ≠ 5 → a ≠ 6 → a ≠ 9 → a ≠ 20 → M1.2.2 a = M.2.2 a) ∧ (∀ l, l < nl → M1.2.2 1 l = M.2.2 12 l ∧ M1.2.2 3 l = M.2.2 14 l ∧ M1.2.2 9 l = tm l) ∧ (∀ x, x < 128 → M1.2.2 2 x = M.2.2 13 x) ∧ (∀ q, q < nq → M1.2.2 5 q = M.2.2 16 q ∧ M1.2.2 6 q = M.2.2 17 q) ∧ ∀ j, j < rw → M1.2.2 20 j = M.2.2 21 j := by
  unfold fX3_keepProgram
  simp only [ec_lt]
  rw [h11, show (mI M 0 (nI nl)).1 15 = nI nq from h15, show (mI (mI M 0 (nI nl)) 4 (nI nq)).1 23 = nI rw from h23]
  generalize hM4 : mI (mI (mI (mI M 0 (nI nl)) 4 (nI nq)) 22 (nI rw)) 10 0 = M4
  have m0 : M4.1 0 = nI nl := by rw [← hM4]; rfl
  have m4 : M4.1 4 = nI nq := by rw [← hM4]; rfl
  have m22 : M4.1 22 = nI rw := by rw [← hM4]; rfl
  have m10 : M4.1 10 = 0 := by rw [← hM4]; rfl
  have mj : ∀ j, j ≠ 0 → j ≠ 4 → j ≠ 22 → j ≠ 10 → M4.1 j = M.1 j := fun j j1 j2 j3 j4 => by rw [← hM4, mI_ne _ _ j4, mI_ne _ _ j3, mI_ne _ _ j2, mI_ne _ _ j1]
  have ma : M4.2.2 = M.2.2 := by rw [← hM4]; rfl
  obtain ⟨A, a1, a2, a3, a4, a5, a6, a7⟩ := kp31 (N := N) (d12 := M.2.2 12) (d14 := M.2.2 14) (d16 := M.2.2 16) (d17 := M.2.2 17) hnl hd h12 (fun S_15 => fX3_keepProgram_105 N (fun S_19 => fX3_keepProgram_132 N (fun S_25 => fX3_keepProgram_172 N (fun S_29 => (fX3_walk N S_29).bind fun S_30 => some (mI S_30 49 0)) N S_25 0) N S_19 0) N S_15 0) nl 0 N M4 (by omega) (by omega) m0 (by rw [ma]) (by rw [ma]) (by rw [ma]) (by rw [ma])
  obtain ⟨B, b1, b2, b3, b4⟩ := kp105 (N := N) (fun S_19 => fX3_keepProgram_132 N (fun S_25 => fX3_keepProgram_172 N (fun S_29 => (fX3_walk N S_29).bind fun S_30 => some (mI S_30 49 0)) N S_25 0) N S_19 0) 128 0 N A (by omega) (by omega)
  obtain ⟨C, c1, c2, c3, c4, c5⟩ := kp132 (N := N) hnq (fun S_25 => fX3_keepProgram_172 N (fun S_29 => (fX3_walk N S_29).bind fun S_30 => some (mI S_30 49 0)) N S_25 0) nq 0 N B (by omega) (by omega) (by rw [b2, a2 4 (by decide)]; exact m4)
  obtain ⟨D, d1, d2, d3, d4⟩ := kp172 (N := N) hrw (fun S_29 => (fX3_walk N S_29).bind fun S_30 => some (mI S_30 49 0)) rw 0 N C (by omega) (by omega) (by rw [c2, b2, a2 22 (by decide)]; exact m22)
  rw [show (0 : Int32) = nI 0 from rfl] at *
  refine ⟨D, (a1.trans (b1.trans (c1.trans d1))), by rw [d2, c2, b2, a2 0 (by decide)]; exact m0, by rw [d2, c2, b2, a2 4 (by decide)]; exact m4, by rw [d2, c2, b2, a2 22 (by decide)]; exact m22, ?_, fun j j1 j2 j3 j4 => by rw [d2, c2, b2, a2 j j4]; exact mj j j1 j2 j3 j4, fun a x1 x2 x3 x4 x5 x6 x7 => by rw [d3 a x7, c3 a x4 x5, b3 a x2, a4 a x1 x3 x6, ma], fun l hl => ⟨?_, ?_, ?_⟩, fun x hx => ?_, fun q hq => ⟨?_, ?_⟩, fun j hj => ?_⟩
  · rw [d2, c2, b2, a3, m10, show nI 0 = (0 : Int32) from rfl, Int32.zero_add]
  · rw [d3 1 (by decide), c3 1 (by decide) (by decide), b3 1 (by decide), a5, if_pos (by omega)]
  · rw [d3 3 (by decide), c3 3 (by decide) (by decide), b3 3 (by decide), a6, if_pos (by omega)]
  · rw [d3 9 (by decide), c3 9 (by decide) (by decide), b3 9 (by decide), a7, if_pos (by omega)]
  · rw [d3 2 (by decide), c3 2 (by decide) (by decide), b4, if_pos (by omega), a4 13 (by decide) (by decide) (by decide), ma]
  · rw [d3 5 (by decide), c4, if_pos (by omega), b3 16 (by decide), a4 16 (by decide) (by decide) (by decide), ma]
  · rw [d3 6 (by decide), c5, if_pos (by omega), b3 17 (by decide), a4 17 (by decide) (by decide) (by decide), ma]
  · rw [d4, if_pos (by omega), c3 21 (by decide) (by decide), b3 21 (by decide), a4 21 (by decide) (by decide) (by decide), ma]
end
