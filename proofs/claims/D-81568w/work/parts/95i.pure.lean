/-! THE PROGRAM'S TEXT: the Model's side, step by step -/
set_option maxRecDepth 100000
section
variable {T : Nat → Int32} {t : Nat} {M : sM} {nl nq : Nat} {ch : Nat → List (Bool × Nat)} {tm dp : Nat → Int32} {dq cm : Nat → Nat} {F : Fo} {a p : Nat} {par : Int32} {d m k rb rw f to : Nat} {kd v : Int32}
theorem PD.lineS (P : PD T t M nl nq ch tm dp dq cm F a p par d m k rb rw f to kd v) {M' : sM} {f' to' : Nat} {kd' v' tk : Int32} (c16 : nl < 16) (g1 : tkS M' f' to' kd' v') (g2 : tkV T t f' to' kd' v') (g3 : f + 6 ≤ f') (g4 : inB tk.toInt64 1 20) (g5 : ∀ j, (j < 26 ∨ 31 < j) → j ≠ 11 → j ≠ 23 → M'.1 j = M.1 j) (g6 : M'.1 11 = nI (nl + 1)) (g7 : M'.1 23 = nI (rw + 1)) (g8 : ∀ a, a ≠ 12 → a ≠ 13 → a ≠ 14 → a ≠ 21 → M'.2.2 a = M.2.2 a) (g9 : M'.2.2 12 = upd (M.2.2 12) nl tk) (g10 : M'.2.2 14 = upd (M.2.2 14) nl par) (g11 : M'.2.2 21 = upd (M.2.2 21) rw (nI nl)) (g12 : ∀ x, ¬ (8 * nl ≤ x ∧ x < 8 * nl + 8) → M'.2.2 13 x = M.2.2 13 x) (g13 : ∀ e, e < 8 → inB (M'.2.2 13 (8 * nl + e)).toInt64 0 99) :
    PD T t M' (nl + 1) nq (va_up ch k (ch k ++ [(false, nl)])) (va_up tm nl (nI m)) (va_up dp nl (nI d)) dq cm (foL F nl) a p par d m k rb (rw + 1) f' to' kd' v' ∧ AG M M' nl nq d rw k ch (va_up ch k (ch k ++ [(false, nl)])) tm (va_up tm nl (nI m)) dp (va_up dp nl (nI d)) dq dq cm cm := by
  obtain ⟨q1, q2, q3, q4, q5, q6, q7, q8, q9, q10, q11, q12, q13, q14, q15, q16, q17, q18, q19, q20⟩ := P
  have kp : KP M M' := ⟨fun j hj => g5 j (pIn_o hj) (fun e => by rw [e] at hj; cases hj) (fun e => by rw [e] at hj; cases hj), fun j hj => g8 j (fun e => by rw [e] at hj; cases hj) (fun e => by rw [e] at hj; cases hj) (fun e => by rw [e] at hj; cases hj) (fun e => by rw [e] at hj; cases hj)⟩
  refine ⟨⟨kp.MX q1, g1, g2, g6, (g5 15 (by omega) (by decide) (by decide)).trans q5, (g5 19 (by omega) (by decide) (by decide)).trans q6, g7, by omega, q9, by omega, by omega, ?_, q13, q14, ?_, ?_, ?_, ?_, fun j x hj => ?_, fun l hl => ?_⟩, fun l hl => ⟨?_, ?_, up_ne (by omega), up_ne (by omega), fun e he => g12 _ (by omega)⟩, fun q hq => ⟨by rw [g8 16 (by decide) (by decide) (by decide) (by decide)], by rw [g8 17 (by decide) (by decide) (by decide) (by decide)], rfl, rfl⟩, fun i hi => by rw [g8 18 (by decide) (by decide) (by decide) (by decide)], fun j hj => by rw [g11]; exact upd_ne' (by omega), fun j hj hjk => up_ne hjk, kp⟩
  · show nl + 1 = a + (foNL F + 1)
    omega
  · rw [up_eq, q15]
    rfl
  · refine ⟨wF_congr F a p par d m q16 (fun l l1 l2 => ⟨by rw [g10]; exact upd_ne' (by omega), up_ne (by omega), up_ne (by omega)⟩) (fun q h1 h2 => ⟨by rw [g8 17 (by decide) (by decide) (by decide) (by decide)], by rw [g8 16 (by decide) (by decide) (by decide) (by decide)], rfl, rfl, up_ne (by omega)⟩), Or.inl ⟨rfl, rfl, q12, by rw [g10]; exact upd_eq', up_eq, up_eq⟩⟩
  · rw [g8 18 (by decide) (by decide) (by decide) (by decide)]
    exact q17
  · show rw + 1 = rb + (foR F ++ [nl]).length
    rw [List.length_append, List.length_singleton]
    omega
  · have hj : (foR F ++ [nl])[j]? = some x := hj
    rw [g11]
    by_cases c : j < (foR F).length
    · rw [List.getElem?_append_left c] at hj
      rw [upd_ne' (by omega)]
      exact q19 j x hj
    · have hj2 := (List.getElem?_eq_some_iff.mp hj).1
      rw [List.length_append, List.length_singleton] at hj2
      have : j = (foR F).length := by omega
      subst this
      rw [List.getElem?_append_right (Nat.le_refl _), Nat.sub_self] at hj
      have : nl = x := Option.some.inj hj
      rw [← q18, upd_eq', this]
  · by_cases c : l = nl
    · subst c
      rw [g9, upd_eq']
      exact ⟨g4, g13⟩
    · obtain ⟨z1, z2⟩ := q20 l (by omega)
      rw [g9, upd_ne' c]
      refine ⟨z1, fun e he => ?_⟩
      rw [g12 _ (by omega)]
      exact z2 e he
  · rw [g9]
    exact upd_ne' (by omega)
  · rw [g10]
    exact upd_ne' (by omega)
theorem PD.head (P : PD T t M nl nq ch tm dp dq cm F a p par d m k rb rw f to kd v) {M' : sM} {f' to' wn : Nat} {kd' v' : Int32} (c4 : d < 4) (g1 : tkS M' f' to' kd' v') (g2 : tkV T t f' to' kd' v') (g3 : f + 6 ≤ f') (g5 : ∀ j, (j < 26 ∨ 31 < j) → j ≠ 15 → j ≠ 19 → j ≠ 23 → M'.1 j = M.1 j) (g6 : M'.1 15 = nI (nq + 1)) (g6' : M'.1 19 = nI (d + 1)) (g7 : M'.1 23 = nI (rw + 1)) (g8 : ∀ a, a ≠ 16 → a ≠ 17 → a ≠ 18 → a ≠ 21 → M'.2.2 a = M.2.2 a) (g9 : M'.2.2 18 = upd (M.2.2 18) d (nI nq)) :
    KP M M' ∧ PD T t M' nl (nq + 1) (va_up ch (nq + 1) []) tm dp (va_up dq nq d) (va_up cm nq m) .leaf nl (nq + 1) (nI nq) (d + 1) (m * wn) (nq + 1) (rw + 1) (rw + 1) f' to' kd' v' := by
  obtain ⟨q1, q2, q3, q4, q5, q6, q7, q8, q9, q10, q11, q12, q13, q14, q15, q16, q17, q18, q19, q20⟩ := P
  have kp : KP M M' := ⟨fun j hj => g5 j (pIn_o hj) (fun e => by rw [e] at hj; cases hj) (fun e => by rw [e] at hj; cases hj) (fun e => by rw [e] at hj; cases hj), fun j hj => g8 j (fun e => by rw [e] at hj; cases hj) (fun e => by rw [e] at hj; cases hj) (fun e => by rw [e] at hj; cases hj) (fun e => by rw [e] at hj; cases hj)⟩
  refine ⟨kp, kp.MX q1, g1, g2, (g5 11 (by omega) (by decide) (by decide) (by decide)).trans q4, g6, g6', g7, q8, by omega, by omega, by omega, rfl, rfl, Nat.le_refl _, up_eq, True.intro, Or.inr ⟨by omega, ?_⟩, rfl, fun j x hj => ?_, fun l hl => ?_⟩
  · rw [g9]
    exact upd_eq'
  · cases hj
  · rw [g8 12 (by decide) (by decide) (by decide) (by decide), g8 13 (by decide) (by decide) (by decide) (by decide)]
    exact q20 l hl
theorem PD.close (P : PD T t M nl nq ch tm dp dq cm F a p par d m k rb rw f to kd v) {M1 M2 M3 : sM} {wn nl2 nq2 rw2 f2 to2 f3 to3 : Nat} {kd2 v2 kd3 v3 w : Int32} {ch2 : Nat → List (Bool × Nat)} {tm2 dp2 : Nat → Int32} {dq2 cm2 : Nat → Nat} {b : Fo} (c4 : d < 4) (hw : w = nI wn) (hw1 : 1 ≤ wn) (hw2 : wn ≤ 99) (k1 : KP M M1) (g8 : ∀ a, a ≠ 16 → a ≠ 17 → a ≠ 18 → a ≠ 21 → M1.2.2 a = M.2.2 a) (g16 : M1.2.2 16 = upd (M.2.2 16) nq w) (g17 : M1.2.2 17 = upd (M.2.2 17) nq par) (g18 : M1.2.2 18 = upd (M.2.2 18) d (nI nq)) (g21 : M1.2.2 21 = upd (M.2.2 21) rw (nI (100 + nq)))
    (P2 : PD T t M2 nl2 nq2 ch2 tm2 dp2 dq2 cm2 b nl (nq + 1) (nI nq) (d + 1) (m * wn) (nq + 1) (rw + 1) rw2 f2 to2 kd2 v2) (A : AG M1 M2 nl (nq + 1) (d + 1) (rw + 1) (nq + 1) (va_up ch (nq + 1) []) ch2 tm tm2 dp dp2 (va_up dq nq d) dq2 (va_up cm nq m) cm2) (hrw : rw + 1 ≤ rw2)
    (e1 : tkS M3 f3 to3 kd3 v3) (e2 : tkV T t f3 to3 kd3 v3) (e3 : f2 + 4 ≤ f3) (e5 : ∀ j, (j < 26 ∨ 31 < j) → j ≠ 19 → j ≠ 23 → M3.1 j = M2.1 j) (e6 : M3.1 19 = nI d) (e7 : M3.1 23 = nI (rw2 + 1)) (e8 : ∀ a, a ≠ 21 → M3.2.2 a = M2.2.2 a) (e9 : M3.2.2 21 = upd (M2.2.2 21) rw2 (nI (200 + nq))) :
    PD T t M3 nl2 nq2 (va_up ch2 k (ch2 k ++ [(true, nq)])) tm2 dp2 dq2 cm2 (foQ F nq b) a p par d m k rb (rw2 + 1) f3 to3 kd3 v3 ∧ AG M M3 nl nq d rw k ch (va_up ch2 k (ch2 k ++ [(true, nq)])) tm tm2 dp dp2 dq dq2 cm cm2 := by
  obtain ⟨q1, q2, q3, q4, q5, q6, q7, q8, q9, q10, q11, q12, q13, q14, q15, q16, q17, q18, q19, q20⟩ := P
  obtain ⟨s1, s2, s3, s4, s5, s6, s7, s8, s9, s10, s11, s12, s13, s14, s15, s16, s17, s18, s19, s20⟩ := P2
  obtain ⟨a1, a2, a3, a4, a5, a6⟩ := A
  have kp : KP M2 M3 := ⟨fun j hj => e5 j (pIn_o hj) (fun e => by rw [e] at hj; cases hj) (fun e => by rw [e] at hj; cases hj), fun j hj => e8 j (fun e => by rw [e] at hj; cases hj)⟩
  have KK := (k1.trans a6).trans kp
  have chk : ch2 k = ch k := (a5 k (by omega) (by omega)).trans (up_ne (by omega))
  have cho : ∀ j, j ≤ nq → j ≠ k → va_up ch2 k (ch2 k ++ [(true, nq)]) j = ch j := fun j hj hjk => (up_ne hjk).trans ((a5 j (by omega) (by omega)).trans (up_ne (by omega)))
  have r14 : ∀ l, l < nl → M3.2.2 14 l = M.2.2 14 l := fun l hl => by rw [e8 14 (by decide), (a1 l hl).2.1, g8 14 (by decide) (by decide) (by decide) (by decide)]
  have r16 : ∀ q, q < nq → M3.2.2 16 q = M.2.2 16 q := fun q hq => by rw [e8 16 (by decide), (a2 q (by omega)).1, g16]; exact upd_ne' (by omega)
  have r17 : ∀ q, q < nq → M3.2.2 17 q = M.2.2 17 q := fun q hq => by rw [e8 17 (by decide), (a2 q (by omega)).2.1, g17]; exact upd_ne' (by omega)
  have rdq : ∀ q, q < nq → dq2 q = dq q := fun q hq => (a2 q (by omega)).2.2.1.trans (up_ne (by omega))
  have rcm : ∀ q, q < nq → cm2 q = cm q := fun q hq => (a2 q (by omega)).2.2.2.trans (up_ne (by omega))
  have n16 : M3.2.2 16 nq = nI wn := by rw [e8 16 (by decide), (a2 nq (by omega)).1, g16, upd_eq', hw]
  have n17 : M3.2.2 17 nq = par := by rw [e8 17 (by decide), (a2 nq (by omega)).2.1, g17, upd_eq']
  have ndq : dq2 nq = d := (a2 nq (by omega)).2.2.1.trans up_eq
  have ncm : cm2 nq = m := (a2 nq (by omega)).2.2.2.trans up_eq
  have r21 : ∀ j, j < rw → M3.2.2 21 j = M.2.2 21 j := fun j hj => by
    rw [e9, upd_ne' (by omega), a4 j (by omega), g21]
    exact upd_ne' (by omega)
  have r18 : ∀ i, i < d → M3.2.2 18 i = M.2.2 18 i := fun i hi => by
    rw [e8 18 (by decide), a3 i (by omega), g18]
    exact upd_ne' (by omega)
  refine ⟨⟨KK.MX q1, e1, e2, (e5 11 (by omega) (by decide) (by decide)).trans s4, (e5 15 (by omega) (by decide) (by decide)).trans s5, e6, e7, s8, q9, by omega, by omega, ?_, ?_, q14, ?_, ?_, ?_, ?_, fun j x hj => ?_, fun l hl => ?_⟩, fun l hl => ⟨?_, r14 l hl, (a1 l hl).2.2.1, (a1 l hl).2.2.2.1, fun e he => ?_⟩, fun q hq => ⟨r16 q hq, r17 q hq, rdq q hq, rcm q hq⟩, r18, r21, cho, KK⟩
  · show nl2 = a + (foNL F + foNL b)
    omega
  · show nq2 = p + (foNQ F + 1 + foNQ b)
    omega
  · rw [up_eq, chk, q15]
    rfl
  · refine ⟨wF_congr F a p par d m q16 (fun l l1 l2 => ⟨r14 l (by omega), (a1 l (by omega)).2.2.2.1, (a1 l (by omega)).2.2.1⟩) (fun q h1 h2 => ⟨r17 q (by omega), r16 q (by omega), rdq q (by omega), rcm q (by omega), cho (q + 1) (by omega) (by omega)⟩), Or.inr ⟨rfl, q13, n17, ndq, ncm, by omega, ?_, wn, hw1, hw2, n16, ?_⟩⟩
    · show va_up ch2 k (ch2 k ++ [(true, nq)]) (nq + 1) = foK b
      rw [up_ne (by omega)]
      exact s15
    · rw [← q12]
      exact wF_congr b nl (nq + 1) (nI nq) (d + 1) (m * wn) s16 (fun l l1 l2 => ⟨by rw [e8 14 (by decide)], rfl, rfl⟩) (fun q h1 h2 => ⟨by rw [e8 17 (by decide)], by rw [e8 16 (by decide)], rfl, rfl, up_ne (by omega)⟩)
  · rcases q17 with h | ⟨h1, h2⟩
    · exact Or.inl h
    · exact Or.inr ⟨h1, (r18 (d - 1) (by omega)).trans h2⟩
  · show rw2 + 1 = rb + (foR F ++ (100 + nq) :: (foR b ++ [200 + nq])).length
    rw [List.length_append, List.length_cons, List.length_append, List.length_singleton]
    omega
  · have hj : (foR F ++ (100 + nq) :: (foR b ++ [200 + nq]))[j]? = some x := hj
    by_cases c : j < (foR F).length
    · rw [List.getElem?_append_left c] at hj
      rw [r21 _ (by omega)]
      exact q19 j x hj
    · rw [List.getElem?_append_right (by omega)] at hj
      by_cases c1 : j = (foR F).length
      · subst c1
        rw [Nat.sub_self] at hj
        have : 100 + nq = x := Option.some.inj hj
        rw [← q18, e9, upd_ne' (by omega), a4 rw (by omega), g21, upd_eq', this]
      · obtain ⟨i, hi⟩ : ∃ i, j - (foR F).length = i + 1 := ⟨j - (foR F).length - 1, by omega⟩
        rw [hi, List.getElem?_cons_succ] at hj
        by_cases c2 : i < (foR b).length
        · rw [List.getElem?_append_left c2] at hj
          rw [e9, upd_ne' (by omega), show rb + j = rw + 1 + i by omega]
          exact s19 i x hj
        · have hj2 := (List.getElem?_eq_some_iff.mp hj).1
          rw [List.length_append, List.length_singleton] at hj2
          have c3 : i = (foR b).length := by omega
          subst c3
          rw [List.getElem?_append_right (Nat.le_refl _), Nat.sub_self] at hj
          have : 200 + nq = x := Option.some.inj hj
          rw [show rb + j = rw2 by omega, e9, upd_eq', this]
  · rw [e8 12 (by decide), e8 13 (by decide)]
    exact s20 l hl
  · rw [e8 12 (by decide), (a1 l hl).1, g8 12 (by decide) (by decide) (by decide) (by decide)]
  · rw [e8 13 (by decide), (a1 l hl).2.2.2.2 e he, g8 13 (by decide) (by decide) (by decide) (by decide)]
end
