/-! SHEETS: sheet, said -/
set_option maxRecDepth 100000
theorem sheet_loop {N k : Nat} (hk : k < 4) (kx : sM → Option (Int32 × sM)) : ∀ (j i n : Nat) (M : sM), i + j = 40 → j < n → ∃ M' : sM, fX3_sheet_40 N kx n M (nI k) (nI i) = kx M' ∧ M'.1 = M.1 ∧ (∀ f, f ≠ 55 → M'.2.2 f = M.2.2 f) ∧ ∀ x, M'.2.2 55 x = if 40 * k + i ≤ x ∧ x < 40 * k + 40 then 0 else M.2.2 55 x := by
  intro j
  induction j with
  | zero =>
    intro i n M hi hn
    obtain ⟨n, rfl⟩ : ∃ m, n = m + 1 := ⟨n - 1, by omega⟩
    have : i = 40 := by omega
    subst this
    rw [fX3_sheet_40, if_pos (by decide)]
    exact ⟨M, rfl, rfl, fun _ _ => rfl, fun x => by rw [if_neg (by omega)]⟩
  | succ j ih =>
    intro i n M hi hn
    obtain ⟨n, rfl⟩ : ∃ m, n = m + 1 := ⟨n - 1, by omega⟩
    have hge : ¬ (40 : Int32) ≤ nI i := nI_ge (b := 40) (by omega) (by decide)
    rw [fX3_sheet_40, if_neg hge, i40, as_at (by omega) (by decide), Option.bind_some]
    simp only [ec_lt]
    rw [nI_1]
    obtain ⟨M', e1, e2, e3, e4⟩ := ih (i + 1) n (mA M 55 (40 * k + i) 0) (by omega) (by omega)
    refine ⟨M', e1, e2, fun f hf => (e3 f hf).trans (mA_k M _ _ hf), fun x => ?_⟩
    rw [e4 x]
    by_cases hx : x = 40 * k + i
    · subst hx
      rw [if_neg (by omega), if_pos (by omega), mA_eq]
    · rw [mA_ne M 55 0 hx]
      by_cases h1 : 40 * k + i ≤ x ∧ x < 40 * k + 40
      · rw [if_pos h1, if_pos (by omega)]
      · rw [if_neg h1, if_neg (by omega)]
/-- a fresh row on both sides -/
theorem sheet_put {S : sX} {M M' : sM} {k n : Nat} {x2 : Int32} (hV : INV S M) (hk : k < 4) (hx : x2 = 0 ∨ x2 = 1 ∨ x2 = 2) (hn : n ≤ 40) (e1 : M'.1 = M.1) (e2 : ∀ f, f ≠ 53 → f ≠ 54 → f ≠ 55 → M'.2.2 f = M.2.2 f) (e3 : M'.2.2 53 = upd (M.2.2 53) k x2) (e4 : M'.2.2 54 = upd (M.2.2 54) k (nI n)) (e5 : ∀ x, M'.2.2 55 x = if 40 * k ≤ x ∧ x < 40 * k + 40 then 0 else M.2.2 55 x) :
    ∃ a fs, hAr 8 S.2.2.2 (S.2.2.1 27) (nI k) = some a ∧ S.2.2.2 a = some (.inr (2, fs)) ∧ fs.length = 2 ∧ ∀ q, S.2.2.2 q = none → hAr 8 (va_up (va_up S.2.2.2 q (some (.inl (lnT x2, n, .inl (fun _ => 0))))) a (some (.inr (2, fs.set 0 (.ref q))))) (S.2.2.1 27) (nI k) = some a ∧ a ≠ q ∧ INV (xH S (va_up (va_up S.2.2.2 q (some (.inl (lnT x2, n, .inl (fun _ => 0))))) a (some (.inr (2, [.ref q, .int (nI n)]))))) M' := by
  obtain ⟨ad, tg, row, dp, nl, n0, nq, ch, dq, cm, hT, hC, hR, hH, hK, hP, hQ⟩ := hV
  obtain ⟨h0, ⟨fh, h1, h2⟩, h3⟩ := hH
  obtain ⟨g1, g2, g3⟩ := h3 k hk
  refine ⟨ad 3 k, _, hAr_at h1 hk (by decide) (h2 k hk), g2, rfl, fun q hq => ?_⟩
  have a0q : S.2.2.1 27 ≠ q := fun e => by rw [e, hq] at h1; cases h1
  have aq : ad 3 k ≠ q := fun e => by rw [e, hq] at g2; cases g2
  have a0a : S.2.2.1 27 ≠ ad 3 k := fun e => by rw [e, g1] at h0; have := congrArg Prod.snd h0; simp only at this; omega
  have hta : (va_up tg q (4, k) (ad 3 k)).1 = 3 := by rw [up_ne aq, g1]
  have hG := fun x => hGr.one (tg := tg) (h := S.2.2.2) (q := q) (4, k) x hq
  refine ⟨hAr_at (f := fh) (((up_ne a0a).trans (up_ne a0q)).trans h1) hk (by decide) (h2 k hk), aq, ad, va_up tg q (4, k), va_up row k (some q), dp, nl, n0, nq, ch, dq, cm, ?_, ?_, ?_, ?_, ?_, ?_, ?_⟩
  · show iT (S.1 1) (M'.1 25) (S.2.1 0) (M'.2.2 24) (S.1 2) (M'.1 30)
    rw [e1, e2 24 (by decide) (by decide) (by decide)]
    exact hT
  · show iC ad _ _ (S.2.2.1 13) (S.1 12) (M'.1 36) (M'.2.2 37) (M'.2.2 38)
    rw [e1, e2 37 (by decide) (by decide) (by decide), e2 38 (by decide) (by decide) (by decide)]
    exact (hC.gr (hG _)).fr (fun b hb => up_kind (tg := va_up tg q (4, k)) (k := 3) (by omega) hta)
  · show iR ad _ _ (S.2.2.1 25) (S.1 26) (M'.1 49) (M'.2.2 50) (M'.2.2 51) (M'.2.2 52)
    rw [e1, e2 50 (by decide) (by decide) (by decide), e2 51 (by decide) (by decide) (by decide), e2 52 (by decide) (by decide) (by decide)]
    exact (hR.gr (hG _)).fr (fun b hb => up_kind (tg := va_up tg q (4, k)) (k := 3) (by omega) hta)
  · show iH ad _ _ _ (S.2.2.1 27) (M'.2.2 53) (M'.2.2 54) (M'.2.2 55)
    refine ⟨(up_ne a0q).trans h0, ⟨fh, ((up_ne a0a).trans (up_ne a0q)).trans h1, h2⟩, fun i hi => ?_⟩
    by_cases hik : i = k
    · subst hik
      rw [e3, e4, upd_eq', upd_eq', up_eq]
      refine ⟨(up_ne aq).trans g1, up_eq, Or.inr ⟨q, n, fun _ => 0, rfl, up_eq, hx, hn, rfl, ?_, fun j hj => ?_⟩⟩
      · exact (up_ne (fun e => aq e.symm)).trans up_eq
      · rw [e5, if_pos (by omega)]
    · obtain ⟨u1, u2, u3⟩ := h3 i hi
      have biq : ad 3 i ≠ q := fun e => by rw [e, hq] at u2; cases u2
      have bia : ad 3 i ≠ ad 3 k := fun e => by rw [e, g1] at u1; have := congrArg Prod.snd u1; simp only at this; omega
      rw [e3, e4, upd_ne' hik, upd_ne' hik, up_ne hik]
      refine ⟨(up_ne biq).trans u1, ((up_ne bia).trans (up_ne biq)).trans u2, ?_⟩
      rcases u3 with u3 | ⟨b, m, gb, w1, w2, w3, w4, w5, w6, w7⟩
      · exact Or.inl u3
      · have bq : b ≠ q := fun e => by rw [e, hq] at w6; cases w6
        have ba : b ≠ ad 3 k := fun e => by rw [e, g1] at w2; have := congrArg Prod.fst w2; simp only at this; omega
        refine Or.inr ⟨b, m, gb, w1, (up_ne bq).trans w2, w3, w4, w5, ((up_ne ba).trans (up_ne bq)).trans w6, fun y hy => ?_⟩
        rw [e5, if_neg (by omega)]
        exact w7 y hy
  · show iK ad _ _ (S.2.2.1 11) (M'.2.2 35)
    rw [e2 35 (by decide) (by decide) (by decide)]
    exact (hK.gr (hG _)).fr (fun b hb => up_kind (tg := va_up tg q (4, k)) (k := 3) (by omega) hta)
  · show iP ad _ dp nl n0 _ (S.2.2.1 3) (S.2.2.1 7) (S.1 4) (M'.1 0) (S.1 8) (M'.1 7) (S.1 9) (M'.1 10) (S.2.1 10) (M'.2.2 1) (M'.2.2 2) (M'.2.2 8) (M'.2.2 9)
    rw [e1, e2 1 (by decide) (by decide) (by decide), e2 2 (by decide) (by decide) (by decide), e2 8 (by decide) (by decide) (by decide), e2 9 (by decide) (by decide) (by decide)]
    exact (hP.gr (hG _)).fr (fun b hb => up_kind (tg := va_up tg q (4, k)) (k := 3) (by omega) hta)
  · show iQ ad _ dp nl nq ch dq cm _ (S.2.2.1 5) (S.1 6) (M'.1 4) (M'.2.2 3) (M'.2.2 6) (M'.2.2 5) (M'.2.2 9)
    rw [e1, e2 3 (by decide) (by decide) (by decide), e2 6 (by decide) (by decide) (by decide), e2 5 (by decide) (by decide) (by decide), e2 9 (by decide) (by decide) (by decide)]
    exact (hQ.gr (hG _)).fr (fun b hb => up_kind (tg := va_up tg q (4, k)) (k := 3) (by omega) hta)
theorem ob_sheet {N : Nat} (hN : 100 ≤ N) : OB_sheet N INV := by
  intro S M x1 x2 x3 hV
  unfold fX3_sheet fX0_sheet fX3_sheet_14 fX0_sheet_30
  rw [m_isSheet, x_isIn, x_isIn, Option.bind_some]
  simp only [z01]
  by_cases h1 : inB x1.toInt64 0 3
  rotate_left
  · rw [if_pos (fun h => h1 h.1)]
    exact ⟨-1, M, rfl, _, rfl, fun _ => ⟨rfl, hV⟩, fun h => absurd (z01.mpr h1) h⟩
  by_cases h2 : inB x2.toInt64 0 2
  rotate_left
  · rw [if_pos (fun h => h2 h.2)]
    exact ⟨-1, M, rfl, _, rfl, fun h => absurd h1 (z01.mp h), fun _ => ⟨_, rfl, fun _ => ⟨rfl, hV⟩, fun h => absurd (z01.mpr h2) h⟩⟩
  rw [if_neg (not_not_intro ⟨h1, h2⟩)]
  by_cases h3 : x3 ≤ 40
  rotate_left
  · rw [if_neg h3]
    exact ⟨-1, M, rfl, _, rfl, fun h => absurd h1 (z01.mp h), fun _ => ⟨_, rfl, fun h => absurd h2 (z01.mp h), fun _ => ⟨fun h => absurd h h3, fun _ => ⟨rfl, hV⟩⟩⟩⟩
  rw [if_pos h3]
  obtain ⟨k, -, hk, rfl⟩ := (in_lit 0 3 (by decide) (by decide)).mp h1
  have hk4 : k < 4 := by omega
  obtain ⟨y, -, hy, rfl⟩ := (in_lit 0 2 (by decide) (by decide)).mp h2
  have hy3 : nI y = (0 : Int32) ∨ nI y = (1 : Int32) ∨ nI y = (2 : Int32) := by
    rcases (show y = 0 ∨ y = 1 ∨ y = 2 by omega) with rfl | rfl | rfl
    · exact Or.inl rfl
    · exact Or.inr (Or.inl rfl)
    · exact Or.inr (Or.inr rfl)
  by_cases h0 : x3 < 0
  · rw [if_neg (fun h => (fa_of_lt h0).2.1 h)]
    obtain ⟨a0, r, e1, -⟩ := row_at hV hk4
    exact ⟨-14, M, rfl, _, rfl, fun h => absurd h1 (z01.mp h), fun _ => ⟨_, rfl, fun h => absurd h2 (z01.mp h), fun _ => ⟨fun _ => ⟨a0, e1, 10, 100, by decide, by decide, fun _ => ⟨by decide, by decide, rfl, hV⟩, fun h => absurd h0 h⟩, fun h => absurd h3 h⟩⟩⟩
  rw [if_pos (fa_of_nlt h0)]
  obtain ⟨n, hn, rfl⟩ := nI_of h0
  have hn40 : n ≤ 40 := (nI_leI (a := n) (b := 40) hn (by decide)).mp h3
  rw [as_at hk4 (by decide), Option.bind_some, as_at hk4 (by decide), Option.bind_some]
  obtain ⟨M', e1, e2, e3, e4⟩ := sheet_loop (N := N) hk4 (fun S_6 => some ((1 : Int32), S_6)) 40 0 N (mA (mA M 53 k (nI y)) 54 k (nI n)) rfl (by omega)
  rw [show (0 : Int32) = nI 0 from rfl] at *
  rw [e1]
  obtain ⟨a, fs, p1, p2, p3, p4⟩ := sheet_put (M' := M') hV hk4 hy3 hn40 e2 (fun f f1 f2 f3 => (e3 f f3).trans ((mA_k _ _ _ f2).trans (mA_k _ _ _ f1))) ((e3 53 (by decide)).trans (mA_k _ _ _ (by decide))) ((e3 54 (by decide)).trans rfl) (fun x => by rw [e4 x]; rfl)
  obtain ⟨v0, v1, rfl⟩ : ∃ v0 v1, fs = [v0, v1] := by
    match fs, p3 with
    | [v0, v1], _ => exact ⟨v0, v1, rfl⟩
  refine ⟨1, M', rfl, _, rfl, fun h => absurd h1 (z01.mp h), fun _ => ⟨_, rfl, fun h => absurd h2 (z01.mp h), fun _ => ⟨fun _ => ⟨a, p1, 10, 100, by decide, by decide, fun h => absurd h h0, fun _ => ?_⟩, fun h => absurd h3 h⟩⟩⟩
  rw [nI_clamp hn]
  refine ⟨by omega, by decide, by omega, fun q hq => ?_⟩
  obtain ⟨k1, k2, k3⟩ := p4 q hq
  simp only [ec_lt]
  refine ⟨_, hPut_at (fs := [v0, v1]) _ ((up_ne k2).trans p2) (by show 0 < 2; decide), a, k1, _, hPut_at (fs := [.ref q, v1]) _ up_eq (by show 1 < 2; decide), trivial, ?_⟩
  show INV (xH S (va_up (va_up (va_up S.2.2.2 q _) a _) a _)) M'
  rw [up_up]
  exact k3
/-- an index into a row, that may run over -/
theorem said_ix {x : Int32} {l n : Nat} (hl : l ≤ 16) (hn : n ≤ 40) : (∃ j, j < n ∧ x + nI l = nI j) ↔ (0 ≤ x.toInt + l ∧ x.toInt + l < n) := by
  constructor
  · rintro ⟨j, hj, e⟩
    have e2 : x = nI j - nI l := by rw [← e, Int32.add_sub_cancel]
    rw [e2, pk_sub_toInt (by omega) (by omega)]
    omega
  · rintro ⟨h1, h2⟩
    refine ⟨(x.toInt + l).toNat, by omega, ?_⟩
    have e2 : x = nI (x.toInt + l).toNat - nI l := by
      rw [fa_eq, pk_sub_toInt (by omega) (by omega)]
      omega
    have := congrArg (fun z => z + nI l) e2
    simp only [Int32.sub_add_cancel] at this
    exact this
theorem said_64 (x : Int32) {l : Nat} (hl : l ≤ 16) : (x.toInt64 + (nI l).toInt64).toInt = x.toInt + l := by
  rw [Int64.toInt_add, Int32.toInt_toInt64, Int32.toInt_toInt64, nI_toInt (by omega)]
  have h1 := x.le_toInt
  have h2 := x.toInt_lt
  exact Int.bmod_eq_of_le (by omega) (by omega)
/-- what a cell adds on both sides -/
theorem said_more {v m : Nat} (hv : v ≤ 999999) (hm : m ≤ 594000) : (if nI v - nI m ≤ 0 then (0 : Int32) else nI v - nI m) = (if (0 : Int32) < (nI v - nI m) then (nI v - nI m) else (0 : Int32)) ∧ (if 0 ≤ nI v - nI m then (0 : Int32) else -(nI v - nI m)) = (if (0 : Int32) < (nI m - nI v) then (nI m - nI v) else (0 : Int32)) := by
  have e1 : (nI v - nI m).toInt = (v : Int) - m := pk_sub_toInt (by omega) (by omega)
  have e2 : (nI m - nI v).toInt = (m : Int) - v := pk_sub_toInt (by omega) (by omega)
  have e0 : (0 : Int32).toInt = 0 := rfl
  constructor
  · by_cases h : v ≤ m
    · rw [if_pos (by rw [fa_le]; omega), if_neg (by rw [fa_lt]; omega)]
    · rw [if_neg (by rw [fa_le]; omega), if_pos (by rw [fa_lt]; omega)]
  · by_cases h : m ≤ v
    · rw [if_pos (by rw [fa_le]; omega), if_neg (by rw [fa_lt]; omega)]
    · rw [if_neg (by rw [fa_le]; omega), if_pos (by rw [fa_lt]; omega), Int32.neg_sub]
theorem said_loop {S : sX} {M : sM} {ad : Nat → Nat → Nat} {tg : Nat → Nat × Nat} {dp : Nat → Int32} {nl n0 N : Nat} (hP : iP ad tg dp nl n0 S.2.2.2 (S.2.2.1 3) (S.2.2.1 7) (S.1 4) (M.1 0) (S.1 8) (M.1 7) (S.1 9) (M.1 10) (S.2.1 10) (M.2.2 1) (M.2.2 2) (M.2.2 8) (M.2.2 9))
    {k a n e : Nat} {g : Nat → Int32} {x2 x3 x5 : Int32} (hk : k < 4) (he : e < 8) (hn : n ≤ 40) (h54 : M.2.2 54 k = nI n) (ha : S.2.2.2 a = some (.inl (lnT x2, n, .inl g))) (hg : ∀ i, i < n → g i = M.2.2 55 (40 * k + i)) : ∀ (j l n1 n2 bc bk : Nat) (so first more less : Int32), l + j = nl → j < n1 → j < n2 → 3 * (j + 1) ≤ bc → 222 * (j + 1) ≤ bk →
    ∃ r, fX3_said_76 N M (some (-12)) (fun x10_16 => some ((-20 : Int32) - x10_16)) (fun x5_17 x6_18 x7_19 x8_20 x9_21 => if ¬ x5_17 = 0 then (if ¬ x5_17 = (1 : Int32) then (if ¬ x5_17 = (2 : Int32) then (some x9_21) else (some x8_20)) else (some x7_19)) else (some x6_18)) n1 (nI k) x3 (nI e) x5 so first more less (nI l) = some r ∧
      ∀ Qr : Int32 → sX → Prop, Qr r S → fX0_said_109 N Qr (fun S_21 bc_22 bk_23 x12_24 => Qr ((-20 : Int32) - x12_24) S_21) (fun S_25 bc_26 bk_27 x5_28 x6_29 x7_30 x8_31 x9_32 => fX0_said_238 N Qr S_25 bc_26 bk_27 x5_28 x6_29 x7_30 x8_31 x9_32) n2 S bc bk x2 x3 (nI e) x5 so first more less a (nI n) (nI l) := by
  have hP2 := hP
  obtain ⟨p1, p2, p3, -⟩ := hP2
  intro j
  induction j with
  | zero =>
    intro l n1 n2 bc bk so first more less hl h1 h2 h3 h4
    obtain ⟨n1, rfl⟩ : ∃ m, n1 = m + 1 := ⟨n1 - 1, by omega⟩
    obtain ⟨n2, rfl⟩ : ∃ m, n2 = m + 1 := ⟨n2 - 1, by omega⟩
    have : l = nl := by omega
    subst this
    have hle : M.1 0 ≤ nI l := by rw [p3]; exact nI_le (Nat.le_refl _) (by omega)
    have hle2 : S.1 4 ≤ nI l := by rw [p2]; exact nI_le (Nat.le_refl _) (by omega)
    rw [fX3_said_76, if_pos hle]
    have fin : ∀ r, (if ¬ x5 = 0 then (if ¬ x5 = (1 : Int32) then (if ¬ x5 = (2 : Int32) then (some less) else (some more)) else (some first)) else (some so)) = some r → ∀ Qr : Int32 → sX → Prop, Qr r S → fX0_said_238 N Qr S bc bk x5 so first more less := by
      intro r hr Qr hQ
      unfold fX0_said_238
      refine ⟨fun c0 => ⟨fun c1 => ⟨fun c2 => ?_, fun c2 => ?_⟩, fun c1 => ?_⟩, fun c0 => ?_⟩
      · rw [if_pos c0, if_pos c1, if_pos c2] at hr; rw [Option.some.inj hr]; exact hQ
      · rw [if_pos c0, if_pos c1, if_neg c2] at hr; rw [Option.some.inj hr]; exact hQ
      · rw [if_pos c0, if_neg c1] at hr; rw [Option.some.inj hr]; exact hQ
      · rw [if_neg c0] at hr; rw [Option.some.inj hr]; exact hQ
    have ex : ∃ r, (if ¬ x5 = 0 then (if ¬ x5 = (1 : Int32) then (if ¬ x5 = (2 : Int32) then (some less) else (some more)) else (some first)) else (some so)) = some r := by
      by_cases c0 : x5 = 0
      · exact ⟨so, if_neg (not_not_intro c0)⟩
      by_cases c1 : x5 = 1
      · exact ⟨first, by rw [if_pos c0, if_neg (not_not_intro c1)]⟩
      by_cases c2 : x5 = 2
      · exact ⟨more, by rw [if_pos c0, if_pos c1, if_neg (not_not_intro c2)]⟩
      · exact ⟨less, by rw [if_pos c0, if_pos c1, if_pos c2]⟩
    obtain ⟨r, hr⟩ := ex
    refine ⟨r, hr, fun Qr hQ => ?_⟩
    rw [fX0_said_109]
    exact ⟨fun _ => fin r hr Qr hQ, fun h => absurd hle2 h⟩
  | succ j ih =>
    intro l n1 n2 bc bk so first more less hl h1 h2 h3 h4
    obtain ⟨n1, rfl⟩ : ∃ m, n1 = m + 1 := ⟨n1 - 1, by omega⟩
    obtain ⟨n2, rfl⟩ : ∃ m, n2 = m + 1 := ⟨n2 - 1, by omega⟩
    have hln : l < nl := by omega
    have hle : ¬ M.1 0 ≤ nI l := by rw [p3]; exact nI_ge hln (by omega)
    have hle2 : ¬ S.1 4 ≤ nI l := by rw [p2]; exact nI_ge hln (by omega)
    have hnn : ¬ nI n < 0 := nI_pos (by omega)
    rw [fX3_said_76, if_neg hle]
    simp only [ec_lt, lg_cmp_lt]
    rw [ag_at hk (by decide), Option.bind_some, h54]
    have e64 := said_64 x3 (l := l) (by omega)
    have z64 : (0 : Int64).toInt = 0 := rfl
    by_cases hin : 0 ≤ x3.toInt + l ∧ x3.toInt + l < n
    · obtain ⟨q, hq, eq⟩ := (said_ix (by omega) hn).mpr hin
      have hoob := nI_in hq (show n < 2 ^ 31 by omega)
      rw [if_neg (by rw [fa_lt64, e64, z64]; omega), if_pos (by rw [fa_lt64, e64, Int32.toInt_toInt64, nI_toInt (by omega)]; omega)]
      rw [Int64.toInt32_add, Int32.toInt32_toInt64, Int32.toInt32_toInt64, eq, i40, ag_at (by omega) (by decide), Option.bind_some, m_in, Option.bind_some]
      simp only [z01]
      by_cases hv : inB (M.2.2 55 (40 * k + q)).toInt64 0 999999
      · rw [if_pos (not_not_intro hv)]
        obtain ⟨v, -, hv9, ev⟩ := (in_lit 0 999999 (by decide) (by decide)).mp hv
        obtain ⟨m, hm, em⟩ := p_mb hP hln he
        rw [ag_at (by omega) (by decide), Option.bind_some, q_made (by omega) he, Option.bind_some, em, ev]
        obtain ⟨w1, w2⟩ := said_more hv9 hm
        -- one step of both
        have key : ∀ (t0 : Int32), ∃ r, fX3_said_183 N M (fX3_said_76 N M (some (-12)) (fun x10_16 => some ((-20 : Int32) - x10_16)) (fun x5_17 x6_18 x7_19 x8_20 x9_21 => if ¬ x5_17 = 0 then (if ¬ x5_17 = (1 : Int32) then (if ¬ x5_17 = (2 : Int32) then (some x9_21) else (some x8_20)) else (some x7_19)) else (some x6_18)) n1) (nI k) x3 (nI e) x5 first more less (nI l) (nI v - nI m) t0 so = some r ∧
            ∀ Qr : Int32 → sX → Prop, Qr r S → fX0_said_178 N Qr (fX0_said_109 N Qr (fun S_21 bc_22 bk_23 x12_24 => Qr ((-20 : Int32) - x12_24) S_21) (fun S_25 bc_26 bk_27 x5_28 x6_29 x7_30 x8_31 x9_32 => fX0_said_238 N Qr S_25 bc_26 bk_27 x5_28 x6_29 x7_30 x8_31 x9_32) n2) S (bc - 3) (bk - 222) x2 x3 (nI e) x5 first more less a (nI n) (nI l) (nI v) (nI m) t0 so := by
          intro t0
          have fst : ∃ f1, ((nI v - nI m = 0 ∨ ¬ first = -4) → f1 = first) ∧ (¬ nI v - nI m = 0 → first = -4 → f1 = nI l) := by
            by_cases c : nI v - nI m = 0 ∨ ¬ first = -4
            · exact ⟨first, fun _ => rfl, fun h h2 => absurd (c.resolve_left h) (not_not_intro h2)⟩
            · exact ⟨nI l, fun h => absurd h c, fun _ _ => rfl⟩
          obtain ⟨f1, f2, f3⟩ := fst
          obtain ⟨r, r1, r2⟩ := ih (l + 1) n1 n2 (bc - 3) (bk - 222) (so + t0) f1 (more + (if nI v - nI m ≤ 0 then (0 : Int32) else nI v - nI m)) (less + (if 0 ≤ nI v - nI m then (0 : Int32) else -(nI v - nI m))) (by omega) (by omega) (by omega) (by omega) (by omega)
          have m205 : fX3_said_205 N M (fX3_said_76 N M (some (-12)) (fun x10_16 => some ((-20 : Int32) - x10_16)) (fun x5_17 x6_18 x7_19 x8_20 x9_21 => if ¬ x5_17 = 0 then (if ¬ x5_17 = (1 : Int32) then (if ¬ x5_17 = (2 : Int32) then (some x9_21) else (some x8_20)) else (some x7_19)) else (some x6_18)) n1) (nI k) x3 (nI e) x5 (so + t0) more less (nI l) (nI v - nI m) f1 = some r := by
            rw [← r1]
            unfold fX3_said_205 fX3_said_220 fX3_said_237
            simp only [ec_lt]
            rw [nI_1]
            by_cases c1 : nI v - nI m ≤ 0
            · rw [if_pos c1, if_pos c1]
              by_cases c2 : 0 ≤ nI v - nI m
              · rw [if_pos c2, if_pos c2]
              · rw [if_neg c2, if_neg c2]
            · rw [if_neg c1, if_neg c1]
              by_cases c2 : 0 ≤ nI v - nI m
              · rw [if_pos c2, if_pos c2]
              · rw [if_neg c2, if_neg c2]
          refine ⟨r, ?_, fun Qr hQ => ?_⟩
          · unfold fX3_said_183 fX3_said_203
            simp only [ec_lt]
            by_cases c0 : nI v - nI m = 0
            · rw [if_pos c0, ← f2 (Or.inl c0)]; exact m205
            · rw [if_neg c0]
              by_cases c1 : first = -4
              · rw [if_neg (not_not_intro c1)]
                have := f3 c0 c1
                rw [this] at m205; exact m205
              · rw [if_pos c1]
                have := f2 (Or.inr c1)
                rw [this] at m205; exact m205
          · have r3 := r2 Qr hQ
            rw [w1, w2, ← nI_1] at r3
            have e0 : nI v = nI m ↔ nI v - nI m = 0 := by
              constructor
              · intro h; rw [h, Int32.sub_self]
              · intro h
                have := congrArg (fun z => z + nI m) h
                simp only [Int32.sub_add_cancel, Int32.zero_add] at this
                exact this
            unfold fX0_said_178 fX0_said_200 fX0_said_202
            simp only [ec_lt]
            refine ⟨fun c0 => ?_, fun c0 => ⟨fun c1 => ?_, fun c1 => ?_⟩⟩
            · rw [f2 (Or.inl (e0.mp c0))] at r3; exact r3
            · rw [f2 (Or.inr c1)] at r3; exact r3
            · rw [f3 (fun h => c0 (e0.mpr h)) (Decidable.not_not.mp c1)] at r3; exact r3
        have e0 : nI v - nI m = 0 ↔ nI v = nI m := by
          constructor
          · intro h
            have := congrArg (fun z => z + nI m) h
            simp only [Int32.sub_add_cancel, Int32.zero_add] at this
            exact this
          · intro h; rw [h, Int32.sub_self]
        have comp : ∀ (Qr : Int32 → sX → Prop), (¬ nI v = nI m → fX0_said_178 N Qr (fX0_said_109 N Qr (fun S_21 bc_22 bk_23 x12_24 => Qr ((-20 : Int32) - x12_24) S_21) (fun S_25 bc_26 bk_27 x5_28 x6_29 x7_30 x8_31 x9_32 => fX0_said_238 N Qr S_25 bc_26 bk_27 x5_28 x6_29 x7_30 x8_31 x9_32) n2) S (bc - 3) (bk - 222) x2 x3 (nI e) x5 first more less a (nI n) (nI l) (nI v) (nI m) 0 so) → (¬ ¬ nI v = nI m → fX0_said_178 N Qr (fX0_said_109 N Qr (fun S_21 bc_22 bk_23 x12_24 => Qr ((-20 : Int32) - x12_24) S_21) (fun S_25 bc_26 bk_27 x5_28 x6_29 x7_30 x8_31 x9_32 => fX0_said_238 N Qr S_25 bc_26 bk_27 x5_28 x6_29 x7_30 x8_31 x9_32) n2) S (bc - 3) (bk - 222) x2 x3 (nI e) x5 first more less a (nI n) (nI l) (nI v) (nI m) 1 so) → fX0_said_109 N Qr (fun S_21 bc_22 bk_23 x12_24 => Qr ((-20 : Int32) - x12_24) S_21) (fun S_25 bc_26 bk_27 x5_28 x6_29 x7_30 x8_31 x9_32 => fX0_said_238 N Qr S_25 bc_26 bk_27 x5_28 x6_29 x7_30 x8_31 x9_32) (n2 + 1) S bc bk x2 x3 (nI e) x5 so first more less a (nI n) (nI l) := by
          intro Qr y1 y2
          rw [fX0_said_109]
          refine ⟨fun h => absurd h hle2, fun _ => ⟨fun h => absurd h hnn, fun _ => ⟨3, 222, by omega, by omega, a, n, g, rfl, ha, by omega, fun h => ?_, fun _ => ?_⟩⟩⟩
          · rw [eq] at h; exact absurd h hoob
          · rw [eq, nI_clamp (by omega), hg q hq, ev]
            exact ⟨_, x_isIn _ _ _, fun _ => ⟨nI m, (p_made hP hln he).trans (congrArg some em), y1, y2⟩, fun h => absurd (fun h0 => absurd (ev ▸ hv) (z01.mp h0)) h⟩
        by_cases c0 : nI v - nI m = 0
        · rw [if_neg (not_not_intro c0)]
          obtain ⟨r, r1, r2⟩ := key 1
          exact ⟨r, r1, fun Qr hQ => comp Qr (fun h => absurd (e0.mp c0) h) (fun _ => r2 Qr hQ)⟩
        · rw [if_pos c0]
          obtain ⟨r, r1, r2⟩ := key 0
          exact ⟨r, r1, fun Qr hQ => comp Qr (fun _ => r2 Qr hQ) (fun h => absurd (fun h2 => c0 (e0.mpr h2)) h)⟩
      · rw [if_neg (not_not_intro hv)]
        refine ⟨_, rfl, fun Qr hQ => ?_⟩
        rw [fX0_said_109]
        refine ⟨fun h => absurd h hle2, fun _ => ⟨fun h => absurd h hnn, fun _ => ⟨3, 222, by omega, by omega, a, n, g, rfl, ha, by omega, fun h => ?_, fun _ => ?_⟩⟩⟩
        · rw [eq] at h; exact absurd h hoob
        · rw [eq, nI_clamp (by omega), hg q hq]
          exact ⟨_, x_isIn _ _ _, fun h => absurd (z01.mpr hv) h, fun _ => hQ⟩
    · have hr : (if x3.toInt64 + (nI l).toInt64 < 0 then some (-12 : Int32) else if x3.toInt64 + (nI l).toInt64 < (nI n).toInt64 then none else some (-12 : Int32)) = some (-12) := by
        by_cases c : x3.toInt64 + (nI l).toInt64 < 0
        · rw [if_pos c]
        · rw [if_neg c, if_neg]
          rw [fa_lt64, e64, Int32.toInt_toInt64, nI_toInt (by omega)]
          rw [fa_lt64, e64, z64] at c
          omega
      refine ⟨-12, ?_, fun Qr hQ => ?_⟩
      · by_cases c : x3.toInt64 + (nI l).toInt64 < 0
        · rw [if_pos c]
        · rw [if_neg c, if_neg]
          rw [fa_lt64, e64, Int32.toInt_toInt64, nI_toInt (by omega)]
          rw [fa_lt64, e64, z64] at c
          omega
      · rw [fX0_said_109]
        refine ⟨fun h => absurd h hle2, fun _ => ⟨fun h => absurd h hnn, fun _ => ⟨3, 222, by omega, by omega, a, n, g, rfl, ha, by omega, fun _ => ⟨by decide, by decide, hQ⟩, fun h => ?_⟩⟩⟩
        exact absurd ((said_ix (by omega) hn).mp ((oob_iff hn).mp h)) hin
theorem ob_said {N : Nat} (hN : 100 ≤ N) : OB_said N INV := by
  intro S M x1 x2 x3 x4 x5 hV
  unfold fX3_said fX0_said fX3_said_29 fX0_said_45 fX3_said_113
  rw [m_isSheet, x_isIn, x_isIn, x_isEvent, m_isEvent, x_isIn, m_in, Option.bind_some, Option.bind_some, Option.bind_some]
  simp only [z01]
  by_cases h1 : inB x1.toInt64 0 3
  rotate_left
  · rw [if_pos (fun h => h1 h.1)]
    exact ⟨-1, rfl, _, rfl, fun _ => ⟨rfl, hV⟩, fun h => absurd (z01.mpr h1) h⟩
  by_cases h2 : inB x2.toInt64 0 2
  rotate_left
  · rw [if_pos (fun h => h2 h.2)]
    exact ⟨-1, rfl, _, rfl, fun h => absurd h1 (z01.mp h), fun _ => ⟨_, rfl, fun _ => ⟨rfl, hV⟩, fun h => absurd (z01.mpr h2) h⟩⟩
  rw [if_neg (not_not_intro ⟨h1, h2⟩)]
  by_cases h4 : inB x4.toInt64 0 7
  rotate_left
  · rw [if_pos h4]
    exact ⟨-1, rfl, _, rfl, fun h => absurd h1 (z01.mp h), fun _ => ⟨_, rfl, fun h => absurd h2 (z01.mp h), fun _ => ⟨_, rfl, fun _ => ⟨rfl, hV⟩, fun h => absurd (z01.mpr h4) h⟩⟩⟩
  rw [if_neg (not_not_intro h4)]
  by_cases h5 : inB x5.toInt64 0 3
  rotate_left
  · rw [if_neg (not_not_intro h5)]
    exact ⟨-1, rfl, _, rfl, fun h => absurd h1 (z01.mp h), fun _ => ⟨_, rfl, fun h => absurd h2 (z01.mp h), fun _ => ⟨_, rfl, fun h => absurd h4 (z01.mp h), fun _ => ⟨_, rfl, fun h => absurd (z01.mpr h5) h, fun _ => ⟨rfl, hV⟩⟩⟩⟩⟩
  rw [if_pos (not_not_intro h5)]
  obtain ⟨k, -, hk, rfl⟩ := (in_lit 0 3 (by decide) (by decide)).mp h1
  have hk4 : k < 4 := by omega
  obtain ⟨e, -, he, rfl⟩ := (in_lit 0 7 (by decide) (by decide)).mp h4
  obtain ⟨y, -, hy, rfl⟩ := (in_lit 0 2 (by decide) (by decide)).mp h2
  have hy3 : y = 0 ∨ y = 1 ∨ y = 2 := by omega
  obtain ⟨a0, rw0, r1, r2, r3⟩ := row_at hV hk4
  rw [ag_at hk4 (by decide), Option.bind_some, Option.bind_some]
  -- what is owed behind the measure
  have big : ∀ (r : Int32) (tt : Nat), tt = (if y = 0 then 2 else if y = 1 then 3 else 0) → (∃ τ, rowT S.2.2.2 rw0 = some τ ∧ 3 ≤ 9000 ∧ 600 ≤ 110000 ∧ (¬ (τ = none ∨ τ = some tt) → (-13 : Int32) = r ∧ INV S M) ∧ ((τ = none ∨ τ = some tt) → 3 ≤ 9000 ∧ 600 ≤ 110000 ∧ (rw0 = none → (-11 : Int32) = r ∧ INV S M) ∧ ∀ (a n : Nat) (f : Nat → Int32), rw0 = some a → S.2.2.2 a = some (.inl (tt, n, .inl f)) → fX0_said_104 N (fun r' S1 => r' = r ∧ INV S1 M) S 9000 110000 (nI y) x3 (nI e) x5 0 (-4) 0 0 a (Int32.ofNat n))) →
      ∃ v_1, some (if inB (nI k).toInt64 0 3 then (1 : Int32) else 0) = some v_1 ∧ ((v_1 = 0) → (-1 : Int32) = r ∧ INV S M) ∧ (¬ (v_1 = 0) → ∃ v_2, some (if inB (nI y).toInt64 0 2 then (1 : Int32) else 0) = some v_2 ∧ ((v_2 = 0) → (-1 : Int32) = r ∧ INV S M) ∧ (¬ (v_2 = 0) → ∃ v_3, some (if inB (nI e).toInt64 0 7 then (1 : Int32) else 0) = some v_3 ∧ ((v_3 = 0) → (-1 : Int32) = r ∧ INV S M) ∧ (¬ (v_3 = 0) → ∃ v_4, some (if inB x5.toInt64 0 3 then (1 : Int32) else 0) = some v_4 ∧ ((¬ v_4 = 0) → ∃ v_5, hAr 8 S.2.2.2 (S.2.2.1 27) (nI k) = some v_5 ∧ ∃ v_6, hQ 2 S.2.2.2 v_5 0 = some v_6 ∧
        ((¬ nI y = 0) → ((¬ nI y = (1 : Int32)) → ∃ τ_7, rowT S.2.2.2 v_6 = some τ_7 ∧ 3 ≤ 9000 ∧ 600 ≤ 110000 ∧ (¬ (τ_7 = none ∨ τ_7 = some 0) → (-13 : Int32) = r ∧ INV S M) ∧ ((τ_7 = none ∨ τ_7 = some 0) → 3 ≤ 9000 ∧ 600 ≤ 110000 ∧ (v_6 = none → (-11 : Int32) = r ∧ INV S M) ∧ ∀ (a n : Nat) (f : Nat → Int32), v_6 = some a → S.2.2.2 a = some (.inl (0, n, .inl f)) → fX0_said_104 N (fun r' S1 => r' = r ∧ INV S1 M) S 9000 110000 (nI y) x3 (nI e) x5 0 (-4) 0 0 a (Int32.ofNat n))) ∧
          (¬ (¬ nI y = (1 : Int32)) → ∃ τ_7, rowT S.2.2.2 v_6 = some τ_7 ∧ 3 ≤ 9000 ∧ 600 ≤ 110000 ∧ (¬ (τ_7 = none ∨ τ_7 = some 3) → (-13 : Int32) = r ∧ INV S M) ∧ ((τ_7 = none ∨ τ_7 = some 3) → 3 ≤ 9000 ∧ 600 ≤ 110000 ∧ (v_6 = none → (-11 : Int32) = r ∧ INV S M) ∧ ∀ (a n : Nat) (f : Nat → Int32), v_6 = some a → S.2.2.2 a = some (.inl (3, n, .inl f)) → fX0_said_104 N (fun r' S1 => r' = r ∧ INV S1 M) S 9000 110000 (nI y) x3 (nI e) x5 0 (-4) 0 0 a (Int32.ofNat n)))) ∧
        (¬ (¬ nI y = 0) → ∃ τ_7, rowT S.2.2.2 v_6 = some τ_7 ∧ 3 ≤ 9000 ∧ 600 ≤ 110000 ∧ (¬ (τ_7 = none ∨ τ_7 = some 2) → (-13 : Int32) = r ∧ INV S M) ∧ ((τ_7 = none ∨ τ_7 = some 2) → 3 ≤ 9000 ∧ 600 ≤ 110000 ∧ (v_6 = none → (-11 : Int32) = r ∧ INV S M) ∧ ∀ (a n : Nat) (f : Nat → Int32), v_6 = some a → S.2.2.2 a = some (.inl (2, n, .inl f)) → fX0_said_104 N (fun r' S1 => r' = r ∧ INV S1 M) S 9000 110000 (nI y) x3 (nI e) x5 0 (-4) 0 0 a (Int32.ofNat n)))) ∧
        (¬ (¬ v_4 = 0) → (-1 : Int32) = r ∧ INV S M)))) := by
    intro r tt ht hb
    refine ⟨_, rfl, fun h => absurd h1 (z01.mp h), fun _ => ⟨_, rfl, fun h => absurd h2 (z01.mp h), fun _ => ⟨_, rfl, fun h => absurd h4 (z01.mp h), fun _ => ⟨_, rfl, fun _ => ⟨a0, r1, rw0, r2, fun c0 => ⟨fun c1 => ?_, fun c1 => ?_⟩, fun c0 => ?_⟩, fun h => absurd (fun h0 => absurd h5 (z01.mp h0)) h⟩⟩⟩⟩
    · have y0 : y ≠ 0 := fun h => c0 (by rw [h]; rfl)
      have y1 : y ≠ 1 := fun h => c1 (by rw [h]; rfl)
      rw [if_neg y0, if_neg y1] at ht
      subst ht
      exact hb
    · have y0 : y ≠ 0 := fun h => c0 (by rw [h]; rfl)
      have y1 : y = 1 := (nI_eq (b := 1) (by omega) (by decide)).mp (Decidable.not_not.mp c1)
      rw [if_neg y0, if_pos y1] at ht
      subst ht
      exact hb
    · have y0 : y = 0 := (nI_eq (b := 0) (by omega) (by decide)).mp (Decidable.not_not.mp c0)
      rw [if_pos y0] at ht
      subst ht
      exact hb
  rcases r3 with ⟨rfl, s1⟩ | ⟨a, n, g, rfl, s1, s2, s3, s4, s5⟩
  · have ne : ¬ M.2.2 53 k = nI y := by
      rw [s1]; intro h
      exact nI_nm4 (q := y) (by omega) h.symm
    rw [if_neg ne, if_neg (not_not_intro s1)]
    exact ⟨-11, rfl, big (-11) _ rfl ⟨none, rfl, by decide, by decide, fun h => absurd (Or.inl rfl) h, fun _ => ⟨by decide, by decide, fun _ => ⟨rfl, hV⟩, fun a n f h => by cases h⟩⟩⟩
  · have hrT : rowT S.2.2.2 (some a) = some (some (lnT (M.2.2 53 k))) := by
      unfold rowT
      dsimp only
      rw [s4]
      dsimp only
      rw [if_pos (by rcases s1 with e | e | e <;> rw [e] <;> decide)]
    by_cases same : M.2.2 53 k = nI y
    · rw [if_pos same]
      have ltt : lnT (nI y) = (if y = 0 then 2 else if y = 1 then 3 else 0) := by rcases hy3 with rfl | rfl | rfl <;> rfl
      rw [same] at hrT s4
      have hV2 := hV
      obtain ⟨ad, tg, row, dp, nl, n0, nq, ch, dq, cm, hT, hC, hR, hH, hK, hP, hQ⟩ := hV2
      have hnl := hP.1
      obtain ⟨r, t1, t2⟩ := said_loop (N := N) hP (x2 := nI y) (x3 := x3) (x5 := x5) hk4 (show e < 8 by omega) s2 s3 s4 s5 nl 0 N N 9000 110000 0 (-4) 0 0 (by omega) (by omega) (by omega) (by omega) (by omega)
      refine ⟨r, t1, big r _ rfl ⟨_, hrT, by decide, by decide, fun h => absurd (Or.inr (by rw [ltt])) h, fun _ => ⟨by decide, by decide, fun h => (by cases h), fun a' n' f' ha' hf' => ?_⟩⟩⟩
      have ea : a = a' := Option.some.inj ha'
      subst ea
      have ec := s4.symm.trans hf'
      simp only [Option.some.injEq, Sum.inl.injEq, Prod.mk.injEq] at ec
      obtain ⟨-, ec2, -⟩ := ec
      subst ec2
      unfold fX0_said_104
      exact t2 _ ⟨rfl, hV⟩
    · rw [if_neg same, if_pos (by rcases s1 with e | e | e <;> rw [e] <;> decide)]
      refine ⟨-13, rfl, big (-13) _ rfl ⟨_, hrT, by decide, by decide, fun _ => ⟨rfl, hV⟩, fun h => ?_⟩⟩
      exfalso
      rcases h with h | h
      · cases h
      · have h := Option.some.inj h
        rcases s1 with e | e | e <;> rcases hy3 with rfl | rfl | rfl <;> rw [e] at h same <;> first | exact same rfl | exact absurd h (by decide)
