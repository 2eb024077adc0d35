/-! THE PROGRAM'S TEXT: a line on both sides -/
set_option maxRecDepth 100000
theorem hAsR_at {t n c a v : Nat} {h : hH} {f : Nat → Option Nat} (ha : h a = some (.inl (t, n, .inr f))) (hc : c < n) (hn : n < 2 ^ 31) : hAsR t h a (nI c) v = some (va_up h a (some (.inl (t, n, .inr (va_up f c (some v)))))) := by
  unfold hAsR
  rw [ha]
  dsimp only
  rw [if_pos ⟨rfl, nI_in hc hn⟩, nI_clamp (by omega)]
theorem FR.no {h0 S : hH} {a : Nat} (h : FR h0 S) (ha : S a = none) : h0 a = none := by
  cases e : h0 a with
  | none => rfl
  | some x => rw [h a x e] at ha; cases ha
theorem rs_none {S : hH} {r ta la qa a : Nat} {nl nq f to kd v : Int32} (h : rs S r ta la nl qa nq f to kd v a = none) : a ≠ r ∧ S a = none := by
  have hne : a ≠ r := fun e => by rw [e, show rs S r ta la nl qa nq f to kd v r = some _ from up_eq] at h; cases h
  exact ⟨hne, (up_ne hne).symm.trans h⟩
theorem ln_put {S : hH} {r ta la qa q ev k ci : Nat} {nl nq f to kd v : Int32} {fs : List Value} {A : Option hC} {x : Value} (hqe : q ≠ ev) (hqr : q ≠ r) (hk : k < fs.length) : hPut ci (rs (va_up (va_up S q (some (.inr (ci, fs)))) ev A) r ta la nl qa nq f to kd v) q k x = some (rs (va_up (va_up S q (some (.inr (ci, fs.set k x)))) ev A) r ta la nl qa nq f to kd v) := by
  rw [hPut_at x (((up_ne hqr).trans (up_ne hqe)).trans up_eq) hk, rs_up hqr, up_comm (f := S) (a := q) (b := ev) hqe, up_up, up_comm (f := S) (a := ev) (b := q) (fun e => hqe e.symm)]
/-- the zeros of a new line -/
theorem rl33 {N nl : Nat} (hnl : nl < 16) (kx : sM → Int32 → Option sM) (x1 : Int32) : ∀ (j e n : Nat) (M : sM), M.1 30 = 0 → M.1 11 = nI nl → e + j = 8 → j < n → ∃ M' : sM, fX3_readLine_33 N kx n M x1 (nI e) = kx M' x1 ∧ M'.1 = M.1 ∧ (∀ a, a ≠ 13 → M'.2.2 a = M.2.2 a) ∧ ∀ x, M'.2.2 13 x = if 8 * nl + e ≤ x ∧ x < 8 * nl + 8 then 0 else M.2.2 13 x := by
  intro j
  induction j with
  | zero =>
    intro e n M h30 h11 he hn
    obtain ⟨n, rfl⟩ : ∃ m, n = m + 1 := ⟨n - 1, by omega⟩
    have : e = 8 := by omega
    subst this
    rw [fX3_readLine_33, if_pos (by decide)]
    exact ⟨M, rfl, rfl, fun _ _ => rfl, fun x => by rw [if_neg (by omega)]⟩
  | succ j ih =>
    intro e n M h30 h11 he hn
    obtain ⟨n, rfl⟩ : ∃ m, n = m + 1 := ⟨n - 1, by omega⟩
    have hge : ¬ (8 : Int32) ≤ nI e := nI_ge (b := 8) (by omega) (by decide)
    rw [fX3_readLine_33, if_neg hge, h30, if_neg (by decide), h11, show (8 : Int32) * nI nl + nI e = nI (8 * nl + e) from by rw [show (8 : Int32) = nI 8 from rfl, pk_mul, nI_add], as_at (by omega) (by decide), Option.bind_some]
    simp only [ec_lt]
    rw [nI_1]
    obtain ⟨M', e1, e2, e3, e4⟩ := ih (e + 1) n (mA M 13 (8 * nl + e) 0) h30 h11 (by omega) (by omega)
    refine ⟨M', e1, e2, fun a ha => (e3 a ha).trans (mA_k M _ _ ha), fun x => ?_⟩
    rw [e4 x]
    by_cases hx : x = 8 * nl + e
    · subst hx
      rw [if_neg (by omega), if_pos (by omega), mA_eq]
    · rw [mA_ne M 13 0 hx]
      by_cases h1 : 8 * nl + e ≤ x ∧ x < 8 * nl + 8
      · rw [if_pos h1, if_pos (by omega)]
      · rw [if_neg h1, if_neg (by omega)]
section
variable {T : Nat → Int32} {t r ta N : Nat} {h0 : hH}
theorem item_line {M : sM} {f to : Nat} {kd v : Int32} (hX : MX T t M) (hS : tkS M f to kd v) (hV : tkV T t f to kd v) (hk : kd = 1) (hW : isW T f to 0) : fX3_readItem N M = (fX3_readLine N M).bind fun S_6 => fX3_readItem_66 N S_6 := by
  obtain ⟨s1, s2, s3, s4, s5⟩ := hS
  unfold fX3_readItem fX3_readItem_17 fX3_readItem_30
  rw [s3, if_neg (not_not_intro hk), (m_name hX s1 s2 hV.1 hV.2.1).1 hW, Option.bind_some, if_neg (by decide), (m_want s2 s5 1 2).1 (by decide), Option.bind_some, if_neg (by decide)]
theorem item_loop {M : sM} {f to : Nat} {kd v : Int32} (hX : MX T t M) (hS : tkS M f to kd v) (hV : tkV T t f to kd v) (hk : kd = 1) (hW : isW T f to 1) : fX3_readItem N M = (fX3_readLoop N M).bind fun S_6 => fX3_readItem_66 N S_6 := by
  obtain ⟨s1, s2, s3, s4, s5⟩ := hS
  unfold fX3_readItem fX3_readItem_17 fX3_readItem_30
  rw [s3, if_neg (not_not_intro hk), (m_name hX s1 s2 hV.1 hV.2.1).2.1 hW, Option.bind_some, if_neg (by decide), (m_want s2 s5 1 2).1 (by decide), Option.bind_some, if_pos (by decide), if_neg (by decide)]
theorem item_end {M : sM} {f to : Nat} {kd v : Int32} (hX : MX T t M) (hS : tkS M f to kd v) (hV : tkV T t f to kd v) (hk : kd = 1) (hW : isW T f to 2) : fX3_readItem N M = (fX3_readEnd N M).bind fun S_6 => fX3_readItem_66 N S_6 := by
  obtain ⟨s1, s2, s3, s4, s5⟩ := hS
  unfold fX3_readItem fX3_readItem_17 fX3_readItem_30
  rw [s3, if_neg (not_not_intro hk), (m_name hX s1 s2 hV.1 hV.2.1).2.2.1 hW, Option.bind_some, if_neg (by decide), (m_want s2 s5 1 2).1 (by decide), Option.bind_some, if_pos (by decide), if_pos (by decide), if_neg (by decide)]
theorem fz_66 {M : sM} {c : Int32} {pl : Nat} (h : ftS M c pl) : fX3_readItem_66 N M = some M := by
  unfold fX3_readItem_66 fX3_readItem_91
  rw [if_pos (fz_ne h), fz_next h, Option.bind_some]
theorem item_none {M : sM} {f to : Nat} {kd v : Int32} (hX : MX T t M) (hS : tkS M f to kd v) (hV : tkV T t f to kd v) (hW : ¬ kd = 1 ∨ (¬ isW T f to 0 ∧ ¬ isW T f to 1 ∧ ¬ isW T f to 2)) : ∃ M', fX3_readItem N M = some M' ∧ ftM M M' 2 f := by
  obtain ⟨s1, s2, s3, s4, s5⟩ := hS
  obtain ⟨M', e1, e2⟩ := (m_want s2 s5 0 2).2 rfl (by decide)
  have e3 := e2.S (by decide)
  refine ⟨M', ?_, e2⟩
  unfold fX3_readItem fX3_readItem_17 fX3_readItem_30
  rw [s3]
  have fin : (if ((-4 : Int32) = -4) then (fX3_wants M 0 2).bind fun S_1 => if ¬ (-4 : Int32) = 0 then (if ¬ (-4 : Int32) = (1 : Int32) then (if ¬ (-4 : Int32) = (2 : Int32) then (fX3_readItem_66 N S_1) else ((fX3_readEnd N S_1).bind fun S_4 => fX3_readItem_66 N S_4)) else ((fX3_readLoop N S_1).bind fun S_5 => fX3_readItem_66 N S_5)) else ((fX3_readLine N S_1).bind fun S_6 => fX3_readItem_66 N S_6) else (fX3_wants M 1 2).bind fun S_1 => if ¬ (-4 : Int32) = 0 then (if ¬ (-4 : Int32) = (1 : Int32) then (if ¬ (-4 : Int32) = (2 : Int32) then (fX3_readItem_66 N S_1) else ((fX3_readEnd N S_1).bind fun S_4 => fX3_readItem_66 N S_4)) else ((fX3_readLoop N S_1).bind fun S_5 => fX3_readItem_66 N S_5)) else ((fX3_readLine N S_1).bind fun S_6 => fX3_readItem_66 N S_6)) = some M' := by
    rw [if_pos rfl, e1, Option.bind_some, if_pos (by decide), if_pos (by decide), if_pos (by decide)]
    exact fz_66 e3
  by_cases c1 : kd = 1
  · obtain ⟨w0, w1, w2⟩ := hW.resolve_left (not_not_intro c1)
    rw [if_neg (not_not_intro c1), (m_name hX s1 s2 hV.1 hV.2.1).2.2.2 w0 w1 w2, Option.bind_some]
    exact fin
  · rw [if_pos c1]
    exact fin
theorem line_b {M : sM} {f to nl d rw : Nat} {kd v par : Int32} (hne : ta ≠ r) (hr0 : h0 r = none) (hN : 400 ≤ N) (hX : MX T t M) (hS : tkS M f to kd v) (hV : tkV T t f to kd v) (h11 : M.1 11 = nI nl) (hnl : nl ≤ 16) (hk : kd = 1) (hW : isW T f to 0) (h19 : M.1 19 = nI d) (hd : d ≤ 4) (hpar : (d = 0 ∧ par = -4) ∨ (0 < d ∧ M.2.2 18 (d - 1) = par)) (h23 : M.1 23 = nI rw) (hrw : rw < 100) :
    (∃ M' f' to' kd' v' tk, nl < 16 ∧ fX3_readItem N M = some M' ∧ tkS M' f' to' kd' v' ∧ tkV T t f' to' kd' v' ∧ f + 6 ≤ f' ∧ inB tk.toInt64 1 20 ∧ (∀ j, (j < 26 ∨ 31 < j) → j ≠ 11 → j ≠ 23 → M'.1 j = M.1 j) ∧ M'.1 11 = nI (nl + 1) ∧ M'.1 23 = nI (rw + 1) ∧ (∀ a, a ≠ 12 → a ≠ 13 → a ≠ 14 → a ≠ 21 → M'.2.2 a = M.2.2 a) ∧ M'.2.2 12 = upd (M.2.2 12) nl tk ∧ M'.2.2 14 = upd (M.2.2 14) nl par ∧ M'.2.2 21 = upd (M.2.2 21) rw (nI nl) ∧ (∀ x, ¬ (8 * nl ≤ x ∧ x < 8 * nl + 8) → M'.2.2 13 x = M.2.2 13 x) ∧ (∀ e, e < 8 → inB (M'.2.2 13 (8 * nl + e)).toInt64 0 99) ∧
      ∀ (S : hH) (la qa bc bk : Nat) (nq x1 : Int32) (fl : Nat → Option Nat) (Qt : Nat → hH → Prop) (Qr : Nat → hH → Prop), TXT T t ta S → FR h0 S → 2 ≤ bc → 13 ≤ bk → la ≠ r → S la = some (.inl (4, 16, .inr fl)) →
        (∀ q ev g, S q = none → S ev = none → q ≠ ev → q ≠ r → ev ≠ r → (∀ e, e < 8 → g e = M'.2.2 13 (8 * nl + e)) → Qr q (rs (va_up (va_up (va_up S q (some (.inr (7, [.int (nI nl), .int x1, .int tk, .ref ev, .int 0])))) ev (some (.inl (0, 8, .inl g)))) la (some (.inl (4, 16, .inr (va_up fl nl (some q)))))) r ta la (nI (nl + 1)) qa nq (nI f') (nI to') kd' v')) →
        fX4_line N Qt Qr (rs S r ta la (nI nl) qa nq (nI f) (nI to) kd v) bc bk r x1) ∨
    (∃ M' c pl, fX3_readItem N M = some M' ∧ ftS M' c pl ∧ KP M M' ∧ (∀ nq, WDM M nl nq → (par = -4 ∨ ∃ q, q < nq ∧ par = nI q) → ∃ nl' nq', WDM M' nl' nq') ∧
      ∀ (S : hH) (la qa bc bk : Nat) (nq x1 : Int32) (fl : Nat → Option Nat) (Qt : Nat → hH → Prop) (Qr : Nat → hH → Prop), TXT T t ta S → FR h0 S → 3 ≤ bc → 21 ≤ bk → la ≠ r → S la = some (.inl (4, 16, .inr fl)) → THR h0 Qt c pl → fX4_line N Qt Qr (rs S r ta la (nI nl) qa nq (nI f) (nI to) kd v) bc bk r x1) := by
  have hS2 := hS
  obtain ⟨s1, s2, s3, s4, s5⟩ := hS2
  have hV2 := hV
  obtain ⟨v1, v2, v3, v4, v5⟩ := hV2
  have ht := hX.1
  have hW4 : to - f = 4 := hW.1
  rw [item_line hX hS hV hk hW]
  -- what a fault comes to in the Model
  have fz67 : ∀ (M' : sM) (c : Int32) (pl : Nat) (x : Int32), ftS M' c pl → fX3_readLine_33 N (fun S_7 x1_8 => fX3_readLine_67 N S_7 x1_8) N M' x 0 = some M' := by
    intro M' c pl x hf
    obtain ⟨n, rfl⟩ : ∃ m, N = m + 1 := ⟨N - 1, by omega⟩
    rw [fX3_readLine_33, if_neg (by decide), if_pos (fz_ne hf)]
    unfold fX3_readLine_67 fX3_readEvents
    rw [fX3_readEvents_2, if_pos (fz_ne hf), Option.bind_some, if_pos (fz_ne hf)]
  by_cases c16 : nl < 16
  rotate_left
  · have hge : (16 : Int32) ≤ nI nl := nI_le (a := 16) (by omega) (by omega)
    obtain ⟨M', e1, e2⟩ := (m_want s2 s5 0 5).2 rfl (by decide)
    have e3 := e2.S (by decide)
    refine Or.inr ⟨M', 5, f, ?_, e3, e2.KP, fun nq w _ => ⟨nl, nq, e2.T2.T3.W w⟩, fun S la qa bc bk nq x1 fl Qt Qr hx hF b1 b2 hla hfl b3 => ?_⟩
    · unfold fX3_readLine fX3_readLine_15
      rw [h11, if_pos hge, e1, Option.bind_some, fz_next e3, Option.bind_some, fz_number e3]
      show (fX3_readLine_33 N _ N M' _ 0).bind _ = _
      rw [fz67 M' 5 f _ e3, Option.bind_some]
      exact fz_66 e3
    · unfold fX4_line fX4_line_15
      exact ⟨_, rs_I2, fun _ => ⟨_, rs_O, 1, 8, by omega, by omega, x_must (hF.up hr0) rs_I5 (fun h => absurd rfl h) (fun _ => ⟨by decide, by decide, b3⟩)⟩, fun h => absurd hge h⟩
  have hlt : ¬ (16 : Int32) ≤ nI nl := nI_ge (b := 16) c16 (by decide)
  have mod0 : fX3_readLine N M = (fX3_next N M).bind fun S_2 => ec_b2 (fX3_readNumber N S_2 (1 : Int32) (20 : Int32)) fun v_4 S_3 => fX3_readLine_33 N (fun S_7 x1_8 => fX3_readLine_67 N S_7 x1_8) N S_3 v_4 (0 : Int32) := by
    unfold fX3_readLine fX3_readLine_15
    rw [h11, if_neg hlt, (m_want s2 s5 1 5).1 (by decide), Option.bind_some]
  rcases next_b (ta := ta) (r := r) (h0 := h0) (N := N) hX s5 s1 v2 hne hr0 hN with ⟨M1, f1, to1, kd1, w1, n1, n2, n3, n4, n5⟩ | ⟨M', pl, n1, n2, n3⟩
  rotate_left
  · have e3 := n2.S (by decide)
    refine Or.inr ⟨M', 1, pl, ?_, e3, n2.KP, fun nq w _ => ⟨nl, nq, n2.T2.T3.W w⟩, fun S la qa bc bk nq x1 fl Qt Qr hx hF b1 b2 hla hfl b3 => ?_⟩
    · rw [mod0, n1, Option.bind_some, fz_number e3]
      show (fX3_readLine_33 N _ N M' _ 0).bind _ = _
      rw [fz67 M' 1 pl _ e3, Option.bind_some]
      exact fz_66 e3
    · unfold fX4_line fX4_line_15
      refine ⟨_, rs_I2, fun h => absurd h hlt, fun _ => ⟨_, rs_O, 0, 0, Nat.zero_le _, Nat.zero_le _, x_must (hF.up hr0) rs_I5 (fun _ => ?_) (fun h => absurd h (by decide))⟩⟩
      exact ⟨_, rs_O, 1, 8, by omega, by omega, n3 S la qa 1 8 _ nq _ _ _ Qt _ hx hF (by decide) (by decide) b3⟩
  have X1 := hX.tk n2
  rcases number_b (ta := ta) (r := r) (h0 := h0) (N := N) 1 20 X1 n2.S n3 hne hr0 hN with ⟨M2, f2, to2, kd2, w2, d1, d2, d3, d4, d5, d6, d7⟩ | ⟨w, M', c, pl, d1, d2, d3, d3', d4⟩
  rotate_left
  · refine Or.inr ⟨M', c, pl, ?_, d2, n2.KP.trans d3, fun nq w _ => ⟨nl, nq, (n2.T2.trans d3').T3.W w⟩, fun S la qa bc bk nq x1 fl Qt Qr hx hF b1 b2 hla hfl b3 => ?_⟩
    · rw [mod0, n1, Option.bind_some, d1]
      show (fX3_readLine_33 N _ N M' _ 0).bind _ = _
      rw [fz67 M' c pl _ d2, Option.bind_some]
      exact fz_66 d2
    · unfold fX4_line fX4_line_15
      refine ⟨_, rs_I2, fun h => absurd h hlt, fun _ => ⟨_, rs_O, 0, 0, Nat.zero_le _, Nat.zero_le _, x_must (hF.up hr0) rs_I5 (fun _ => ?_) (fun h => absurd h (by decide))⟩⟩
      refine ⟨_, rs_O, 0, 0, Nat.zero_le _, Nat.zero_le _, n5 S la qa 0 0 _ nq _ _ _ Qt _ hx hF ⟨by omega, by omega, fun q hq => ?_⟩⟩
      obtain ⟨hqr, hqS⟩ := rs_none hq
      simp only [ec_lt]
      rw [rs_up hqr]
      exact ⟨_, rs_I2, _, rs_O, 1, 8, by omega, by omega, d4 (va_up S q _) la qa 1 8 _ nq Qt _ (hx.up (hx.ne hqS)) (hF.new hqS) (by decide) (by decide) b3⟩
  have X2 := X1.tk d4
  have h11' : M2.1 11 = nI nl := (d4.2.2.2.2.2.2 11 (by omega)).trans ((n2.2.2.2.2.2.2 11 (by omega)).trans h11)
  have hfr2 : ∀ j, (j < 26 ∨ 31 < j) → M2.1 j = M.1 j := fun j hj => (d4.2.2.2.2.2.2 j hj).trans (n2.2.2.2.2.2.2 j hj)
  have h22 : M2.2 = M.2 := d4.1.trans n2.1
  -- zeros
  obtain ⟨M3, z1, z2, z3, z4⟩ := rl33 (N := N) c16 (fun S_7 x1_8 => fX3_readLine_67 N S_7 x1_8) w1 8 0 N M2 d4.2.2.2.2.2.1 h11' rfl (by omega)
  have X3 : MX T t M3 := X2.of (by rw [z2]) (z3 24 (by decide))
  have S3 : tkS M3 f2 to2 kd2 w2 := by
    obtain ⟨q1, q2, q3, q4, q5⟩ := d4.S
    exact ⟨by rw [z2]; exact q1, by rw [z2]; exact q2, by rw [z2]; exact q3, fun h => by rw [z2]; exact q4 h, by rw [z2]; exact q5⟩
  have K3 : KP M2 M3 := ⟨fun k _ => by rw [z2], fun k hk => z3 k (fun e => by rw [e] at hk; cases hk)⟩
  have mod1 : (fX3_readLine N M) = fX3_readLine_67 N M3 w1 := by
    rw [mod0, n1, Option.bind_some, d3]
    exact z1
  have n31 := n3.1
  have n32 := n3.2.2.1 (by rw [d1]; decide)
  have d51 := d5.1
  have d52 := d5.2.1
  -- the component up to the events
  have comp1 : ∀ (S : hH) (la qa bc bk : Nat) (nq x1 : Int32) (Qt : Nat → hH → Prop) (Qr : Nat → hH → Prop), TXT T t ta S → FR h0 S → 2 ≤ bc → 13 ≤ bk →
      (∀ q ev, S q = none → S ev = none → q ≠ ev → q ≠ r → ev ≠ r → fX4_line_45 N Qt Qr (fun S_47 bc_48 bk_49 x0_50 x2_51 =>
    ∃ w_52, (hObj 4 S_47 x0_50) = some w_52 ∧
    ∃ c_53 k_54 : Nat, c_53 ≤ bc_48 ∧ k_54 ≤ bk_49 ∧ fX4_sign N Qt (fun S_55 =>
    ∃ v_56, (hR 4 S_55 x0_50 1) = some v_56 ∧
    ∃ v_57, (hI 4 S_55 x0_50 2) = some v_57 ∧
    ∃ w_59, (hObj 7 S_55 x2_51) = some w_59 ∧
    ∃ h_58, (hAsR 4 S_55 v_56 v_57 x2_51) = some h_58 ∧
    ∃ v_60, (hI 4 h_58 x0_50 2) = some v_60 ∧
    ∃ h_61, (hPut 4 h_58 x0_50 2 (.int (v_60 + (1 : Int32)))) = some h_61 ∧
    Qr x2_51 h_61) S_47 c_53 k_54 x0_50) N (rs (va_up (va_up S q (some (.inr (7, [.int (nI nl), .int x1, .int w1, .ref ev, .int 0])))) ev (some (.inl (0, 8, .inl (fun _ => 0))))) r ta la (nI nl) qa nq (nI f2) (nI to2) kd2 w2) (bc - 2) (bk - 13) r q 0) →
      fX4_line N Qt Qr (rs S r ta la (nI nl) qa nq (nI f) (nI to) kd v) bc bk r x1 := by
    intro S la qa bc bk nq x1 Qt Qr hx hF b1 b2 hk45
    unfold fX4_line fX4_line_15
    refine ⟨_, rs_I2, fun h => absurd h hlt, fun _ => ⟨_, rs_O, 0, 0, Nat.zero_le _, Nat.zero_le _, x_must (hF.up hr0) rs_I5 (fun _ => ?_) (fun h => absurd h (by decide))⟩⟩
    refine ⟨_, rs_O, 0, 0, Nat.zero_le _, Nat.zero_le _, n5 S la qa 0 0 _ nq _ _ _ Qt _ hx hF ⟨by omega, by omega, fun q hq => ?_⟩⟩
    obtain ⟨hqr, hqS⟩ := rs_none hq
    simp only [ec_lt]
    rw [rs_up hqr]
    refine ⟨_, rs_I2, _, rs_O, 0, 0, Nat.zero_le _, Nat.zero_le _, d7 (va_up S q _) la qa 0 0 _ nq Qt _ (hx.up (hx.ne hqS)) (hF.new hqS) ⟨1, 8, by omega, by omega, ?_⟩⟩
    unfold fX8_init fX6_init
    refine ⟨0, 0, Nat.zero_le _, Nat.zero_le _, by omega, by omega, fun ev hev => ?_⟩
    obtain ⟨her, heS⟩ := rs_none hev
    have heq : q ≠ ev := fun e => by rw [← e, up_eq] at heS; cases heS
    have heS2 : S ev = none := (up_ne (fun e => heq e.symm)).symm.trans heS
    rw [rs_up her]
    refine ⟨_, ln_put heq hqr (by show 3 < 5; decide), _, ln_put heq hqr (by show 0 < 5; decide), _, ln_put heq hqr (by show 1 < 5; decide), _, ln_put heq hqr (by show 2 < 5; decide), ?_⟩
    have := hk45 q ev hqS heS2 heq hqr her
    rw [show bc - 0 - 0 - 1 - 0 - 1 = bc - 2 by omega, show bk - 0 - 0 - 5 - 0 - 8 = bk - 13 by omega]
    exact this
  rcases ev_b (T := T) (t := t) (r := r) (ta := ta) (N := N) (h0 := h0) hne hr0 hN c16 (t - to2 + 1) M3 f2 to2 kd2 w2 0 (by omega) X3 S3 d5 (by rw [z2]; exact h11') with ⟨M4, f4, to4, kd4, w4, i1, i2, i3, i4, i5, i6, i7, i8, i9, i10⟩ | ⟨M', c, pl, i1, i2, i3, i3', i4⟩
  rotate_left
  · refine Or.inr ⟨M', c, pl, ?_, i2, ((n2.KP.trans d4.KP).trans K3).trans i3, fun nq w _ => ⟨nl, nq, (((n2.T2.trans d4.T2).T3.trans ⟨z3, fun k _ => by rw [z2]⟩).trans i3').W w⟩, fun S la qa bc bk nq x1 fl Qt Qr hx hF b1 b2 hla hfl b3 => ?_⟩
    · rw [mod1]
      unfold fX3_readLine_67 fX3_readEvents
      rw [i1 N (by omega), Option.bind_some, if_pos (fz_ne i2), Option.bind_some]
      exact fz_66 i2
    · refine comp1 S la qa bc bk nq x1 Qt Qr hx hF (by omega) (by omega) (fun q ev hq hev hqe hqr her => ?_)
      have hxe : ta ≠ ev := hx.ne hev
      exact i4 (va_up (va_up S q _) ev _) la qa (bc - 2) (bk - 13) q ev N _ nq _ _ _ _ (fun _ => 0) Qt Qr _ (by omega) ((hx.up (hx.ne hq)).up hxe) ((hF.new hq).up (hF.no hev)) (hF.no hev) hqr her hqe ((up_ne hqe).trans up_eq) up_eq (by omega) (by omega) b3
  -- the line is laid down
  have h11'' : M4.1 11 = nI nl := (i6 11 (by omega)).trans (by rw [z2]; exact h11')
  have h23' : M4.1 23 = nI rw := (i6 23 (by omega)).trans (by rw [z2]; exact (hfr2 23 (by omega)).trans h23)
  have h19' : M4.1 19 = nI d := (i6 19 (by omega)).trans (by rw [z2]; exact (hfr2 19 (by omega)).trans h19)
  have a18 : M4.2.2 18 = M.2.2 18 := (i7 18 (by decide)).trans ((z3 18 (by decide)).trans (by rw [h22]))
  have mod2 : fX3_readLine N M = some (mI (mI (mA (mA (mA M4 12 nl w1) 14 nl par) 21 rw (nI nl)) 23 (nI (rw + 1))) 11 (nI (nl + 1))) := by
    rw [mod1]
    unfold fX3_readLine_67 fX3_readEvents
    rw [i1 N (by omega), Option.bind_some, i2.2.2.2.2, if_neg (by decide), h11'', as_at c16 (by decide), Option.bind_some]
    have e19 : (mA M4 12 nl w1).1 19 = nI d := h19'
    have e11 : (mA M4 12 nl w1).1 11 = nI nl := h11''
    rw [e19, e11]
    have key : fX3_readLine_119 N (mA M4 12 nl w1) par (nI nl) = some (mI (mI (mA (mA (mA M4 12 nl w1) 14 nl par) 21 rw (nI nl)) 23 (nI (rw + 1))) 11 (nI (nl + 1))) := by
      unfold fX3_readLine_119
      rw [as_at c16 (by decide), Option.bind_some, show (mA (mA M4 12 nl w1) 14 nl par).1 23 = nI rw from h23', show (mA (mA M4 12 nl w1) 14 nl par).1 11 = nI nl from h11'', as_at hrw (by decide), Option.bind_some]
      simp only [ec_lt]
      rw [show (mA (mA (mA M4 12 nl w1) 14 nl par) 21 rw (nI nl)).1 23 = nI rw from h23', nI_1, show (mI (mA (mA (mA M4 12 nl w1) 14 nl par) 21 rw (nI nl)) 23 (nI (rw + 1))).1 11 = nI nl from h11'', nI_1]
    rcases hpar with ⟨rfl, rfl⟩ | ⟨hd0, hp⟩
    · rw [if_neg (by decide)]
      exact key
    · rw [if_pos (nI_ne0 hd0 (by omega)), show nI d - 1 = nI (d - 1) from pk_sub (a := d) (b := 1) hd0, ag_at (by omega) (by decide), Option.bind_some, show (mA M4 12 nl w1).2.2 18 = M4.2.2 18 from rfl, a18, hp]
      exact key
  generalize hM9 : mI (mI (mA (mA (mA M4 12 nl w1) 14 nl par) 21 rw (nI nl)) 23 (nI (rw + 1))) 11 (nI (nl + 1)) = M9 at mod2
  have X4 : MX T t M4 := X3.of (i6 25 (by omega)) (i7 24 (by decide))
  have X9 : MX T t M9 := by rw [← hM9]; exact X4.of rfl rfl
  have S9 : tkS M9 f4 to4 kd4 w4 := by rw [← hM9]; exact i2
  have K9 : KP M4 M9 := by rw [← hM9]; exact ((((KP.mA rfl).trans (KP.mA rfl)).trans (KP.mA rfl)).trans (KP.mI rfl)).trans (KP.mI rfl)
  have K4 : KP M3 M4 := ⟨fun k hk => i6 k (pIn_o hk), fun k hk => i7 k (fun e => by rw [e] at hk; cases hk)⟩
  have W9 : ∀ nq, WDM M nl nq → (par = -4 ∨ ∃ q, q < nq ∧ par = nI q) → WDM M9 (nl + 1) nq := fun nq w hp => by
    have w4 : WDM M4 nl nq := (((n2.T2.trans d4.T2).T3.trans ⟨z3, fun k _ => by rw [z2]⟩).trans ⟨i7, i6⟩).W w
    obtain ⟨x1, x2, x3, x4, x5⟩ := w4
    rw [← hM9]
    refine ⟨rfl, c16, x3, fun l hl => ?_, x5⟩
    show upd (M4.2.2 14) nl par l = -4 ∨ ∃ q, q < nq ∧ upd (M4.2.2 14) nl par l = nI q
    by_cases c : l = nl
    · rw [c, upd_eq']; exact hp
    · rw [upd_ne' c]; exact x4 l (by omega)
  have comp2 : ∀ (S : hH) (la qa bc bk : Nat) (nq x1 : Int32) (Qt : Nat → hH → Prop) (Qr : Nat → hH → Prop), TXT T t ta S → FR h0 S → 2 ≤ bc → 13 ≤ bk →
      (∀ q ev g, S q = none → S ev = none → q ≠ ev → q ≠ r → ev ≠ r → (∀ e, e < 8 → g e = M4.2.2 13 (8 * nl + e)) → ∃ c_53 k_54 : Nat, c_53 ≤ bc - 2 ∧ k_54 ≤ bk - 13 ∧ fX4_sign N Qt (fun S_55 =>
    ∃ v_56, (hR 4 S_55 r 1) = some v_56 ∧
    ∃ v_57, (hI 4 S_55 r 2) = some v_57 ∧
    ∃ w_59, (hObj 7 S_55 q) = some w_59 ∧
    ∃ h_58, (hAsR 4 S_55 v_56 v_57 q) = some h_58 ∧
    ∃ v_60, (hI 4 h_58 r 2) = some v_60 ∧
    ∃ h_61, (hPut 4 h_58 r 2 (.int (v_60 + (1 : Int32)))) = some h_61 ∧
    Qr q h_61) (rs (va_up (va_up S q (some (.inr (7, [.int (nI nl), .int x1, .int w1, .ref ev, .int 0])))) ev (some (.inl (0, 8, .inl g)))) r ta la (nI nl) qa nq (nI f4) (nI to4) kd4 w4) c_53 k_54 r) →
      fX4_line N Qt Qr (rs S r ta la (nI nl) qa nq (nI f) (nI to) kd v) bc bk r x1 := by
    intro S la qa bc bk nq x1 Qt Qr hx hF b1 b2 hs
    refine comp1 S la qa bc bk nq x1 Qt Qr hx hF b1 b2 (fun q ev hq hev hqe hqr her => ?_)
    have hxe : ta ≠ ev := hx.ne hev
    refine i10 (va_up (va_up S q _) ev _) la qa (bc - 2) (bk - 13) q ev N _ nq _ _ _ _ (fun _ => 0) Qt Qr _ (by omega) ((hx.up (hx.ne hq)).up hxe) ((hF.new hq).up (hF.no hev)) (hF.no hev) hqr her hqe ((up_ne hqe).trans up_eq) up_eq (fun e he => ?_) (fun g' hg' => ?_)
    · rw [z4, if_pos (by omega)]
    · rw [up_up]
      obtain ⟨c, k, y1, y2, y3⟩ := hs q ev g' hq hev hqe hqr her hg'
      exact ⟨_, rs_O, c, k, y1, y2, y3⟩
  rw [mod2, Option.bind_some]
  rcases sign_b (ta := ta) (r := r) (h0 := h0) (N := N) X9 S9 i3 hne hr0 hN with ⟨M', f', to', kd', v', g1, g2, g3, g4, g5, g6⟩ | ⟨M', c, pl, g1, g2, g3, g3', g4⟩
  · have i32 := i3.2.2.1 (by rw [g1]; decide)
    refine Or.inl ⟨M', f', to', kd', v', w1, c16, g2, g3.S, g4, by omega, d2, fun j hj j1 j2 => ?_, ?_, ?_, fun a a1 a2 a3 a4 => ?_, ?_, ?_, ?_, fun x hx => ?_, fun e he => ?_, ?_⟩
    · rw [g3.2.2.2.2.2.2 j hj, ← hM9, mI_ne _ _ j1, mI_ne _ _ j2]
      exact (i6 j hj).trans (by rw [z2]; exact hfr2 j hj)
    · rw [g3.2.2.2.2.2.2 11 (by omega), ← hM9]
      rfl
    · rw [g3.2.2.2.2.2.2 23 (by omega), ← hM9]
      rfl
    · rw [g3.1, ← hM9]
      show (mA (mA (mA M4 12 nl w1) 14 nl par) 21 rw (nI nl)).2.2 a = _
      rw [mA_k _ _ _ a4, mA_k _ _ _ a3, mA_k _ _ _ a1]
      exact (i7 a a2).trans ((z3 a a2).trans (by rw [h22]))
    · rw [g3.1, ← hM9]
      show upd (M4.2.2 12) nl w1 = _
      rw [i7 12 (by decide), z3 12 (by decide), h22]
    · rw [g3.1, ← hM9]
      show upd (M4.2.2 14) nl par = _
      rw [i7 14 (by decide), z3 14 (by decide), h22]
    · rw [g3.1, ← hM9]
      show upd (M4.2.2 21) rw (nI nl) = _
      rw [i7 21 (by decide), z3 21 (by decide), h22]
    · rw [g3.1, ← hM9]
      show M4.2.2 13 x = _
      rw [i8 x hx, z4, if_neg (by omega), h22]
    · rw [g3.1, ← hM9]
      show inB (M4.2.2 13 (8 * nl + e)).toInt64 0 99
      rcases i9 e he with h | h
      · rw [h, z4, if_pos (by omega)]
        decide
      · exact h
    · intro S la qa bc bk nq x1 fl Qt Qr hx hF b1 b2 hla hfl hQ
      refine comp2 S la qa bc bk nq x1 Qt Qr hx hF b1 b2 (fun q ev g hq hev hqe hqr her hg => ⟨0, 0, Nat.zero_le _, Nat.zero_le _, ?_⟩)
      have hxe : ta ≠ ev := hx.ne hev
      have hlq : la ≠ q := fun e => by rw [e, hq] at hfl; cases hfl
      have hle : la ≠ ev := fun e => by rw [e, hev] at hfl; cases hfl
      refine g6 (va_up (va_up S q _) ev _) la qa 0 0 _ nq Qt _ ((hx.up (hx.ne hq)).up hxe) ((hF.new hq).up (hF.no hev)) ⟨la, rs_R1, _, rs_I2, _, hObj_at (((up_ne hqr).trans (up_ne hqe)).trans up_eq), _, hAsR_at (((up_ne hla).trans ((up_ne hle).trans (up_ne hlq))).trans hfl) c16 (by decide), ?_⟩
      rw [rs_up hla]
      refine ⟨_, rs_I2, _, rs_P2, ?_⟩
      rw [nI_1]
      refine hQ q ev g hq hev hqe hqr her (fun e he => ?_)
      rw [g3.1, ← hM9]
      exact hg e he
  · refine Or.inr ⟨M', c, pl, g1, g2, (((n2.KP.trans d4.KP).trans K3).trans (K4.trans K9)).trans g3, fun nq w hp => ⟨nl + 1, nq, g3'.T3.W (W9 nq w hp)⟩, fun S la qa bc bk nq x1 fl Qt Qr hx hF b1 b2 hla hfl b3 => ?_⟩
    refine comp2 S la qa bc bk nq x1 Qt Qr hx hF (by omega) (by omega) (fun q ev g hq hev hqe hqr her hg => ⟨1, 8, by omega, by omega, ?_⟩)
    have hxe : ta ≠ ev := hx.ne hev
    exact g4 (va_up (va_up S q _) ev _) la qa 1 8 _ nq Qt _ ((hx.up (hx.ne hq)).up hxe) ((hF.new hq).up (hF.no hev)) (by decide) (by decide) b3
end
