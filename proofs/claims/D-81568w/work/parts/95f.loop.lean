/-! THE PROGRAM'S TEXT: a loop's head and its end on both sides -/
set_option maxRecDepth 100000
/-- behind the items of a loop -/
def endP (N : Nat) (Qt : Nat → hH → Prop) (Qr : Nat → hH → Prop) (x0 q_9 bc bk : Nat) (S_31 : hH) : Prop :=
  ∃ w_32, (hObj 4 S_31 x0) = some w_32 ∧
  ∃ c_33 k_34 : Nat, c_33 ≤ bc ∧ k_34 ≤ bk ∧ fX4_isWord N 2 Qt (fun v_36 S_35 =>
  ∃ w_37, (hObj 4 S_35 x0) = some w_37 ∧
  ∃ c_38 k_39 : Nat, c_38 ≤ (bc - c_33) ∧ k_39 ≤ (bk - k_34) ∧ fX4_must Qt (fun S_40 =>
  ∃ w_41, (hObj 4 S_40 x0) = some w_41 ∧
  ∃ c_42 k_43 : Nat, c_42 ≤ ((bc - c_33) - c_38) ∧ k_43 ≤ ((bk - k_34) - k_39) ∧ fX4_next N Qt (fun S_44 =>
  ∃ w_45, (hObj 4 S_44 x0) = some w_45 ∧
  ∃ c_46 k_47 : Nat, c_46 ≤ (((bc - c_33) - c_38) - c_42) ∧ k_47 ≤ (((bk - k_34) - k_39) - k_43) ∧ fX4_sign N Qt (fun S_48 =>
  Qr q_9 S_48) S_44 c_46 k_47 x0) S_40 c_42 k_43 x0) S_35 c_38 k_39 x0 v_36 (2 : Int32)) S_31 c_33 k_34 x0
theorem ln_bput {S : hH} {r ta la qa q ev k ci : Nat} {nl nq f to kd v : Int32} {fs : List Value} {A : Option hC} {x : Value} (hqe : q ≠ ev) (hqr : q ≠ r) (hci : ci = 6 ∨ ci = 8) (hk : k < fs.length) : bPut (rs (va_up (va_up S q (some (.inr (ci, fs)))) ev A) r ta la nl qa nq f to kd v) q k x = some (rs (va_up (va_up S q (some (.inr (ci, fs.set k x)))) ev A) r ta la nl qa nq f to kd v) := by
  rw [bPut_at x (((up_ne hqr).trans (up_ne hqe)).trans up_eq) hci hk, rs_up hqr, up_comm (f := S) (a := q) (b := ev) hqe, up_up, up_comm (f := S) (a := ev) (b := q) (fun e => hqe e.symm)]
/-- a fault as it ends the Model's loop -/
def FLT (M : sM) (c : Int32) (pl : Nat) : Prop := ftS M c pl ∨ (c = 2 ∧ M.1 30 = 0 ∧ M.1 28 = 0 ∧ M.1 27 = nI pl ∧ ∃ d, 0 < d ∧ d ≤ 4 ∧ M.1 19 = nI d)
theorem p34_stop {N n : Nat} {M : sM} {c : Int32} {pl : Nat} (kx : sM → Option (Int32 × sM)) (h : FLT M c pl) : fX3_program_34 N kx (n + 1) M = kx M := by
  rw [fX3_program_34]
  rcases h with h | ⟨-, h1, h2, -⟩
  · rw [if_pos (fz_ne h)]
  · rw [h1, if_neg (by decide), if_pos h2]
theorem p34_step {N n : Nat} {M M' : sM} (kx : sM → Option (Int32 × sM)) (h1 : M.1 30 = 0) (h2 : ¬ M.1 28 = 0) (h3 : fX3_readItem N M = some M') : fX3_program_34 N kx (n + 1) M = fX3_program_34 N kx n M' := by
  rw [fX3_program_34, h1, if_neg (by decide), if_neg h2, h3, Option.bind_some]
section
variable {T : Nat → Int32} {t r ta N : Nat} {h0 : hH}
theorem loopH_b {M : sM} {f to nq d rw : Nat} {kd v par : Int32} (hne : ta ≠ r) (hr0 : h0 r = none) (hN : 400 ≤ N) (hX : MX T t M) (hS : tkS M f to kd v) (hV : tkV T t f to kd v) (h15 : M.1 15 = nI nq) (hnq : nq < 40) (hk : kd = 1) (hW : isW T f to 1) (h19 : M.1 19 = nI d) (hd : d ≤ 4) (hpar : (d = 0 ∧ par = -4) ∨ (0 < d ∧ M.2.2 18 (d - 1) = par)) (h23 : M.1 23 = nI rw) (hrw : rw < 100) :
    (∃ M' f' to' kd' v' w, d < 4 ∧ fX3_readItem N M = some M' ∧ tkS M' f' to' kd' v' ∧ tkV T t f' to' kd' v' ∧ f + 6 ≤ f' ∧ inB w.toInt64 1 99 ∧ (∀ j, (j < 26 ∨ 31 < j) → j ≠ 15 → j ≠ 19 → j ≠ 23 → M'.1 j = M.1 j) ∧ M'.1 15 = nI (nq + 1) ∧ M'.1 19 = nI (d + 1) ∧ M'.1 23 = nI (rw + 1) ∧ (∀ a, a ≠ 16 → a ≠ 17 → a ≠ 18 → a ≠ 21 → M'.2.2 a = M.2.2 a) ∧ M'.2.2 16 = upd (M.2.2 16) nq w ∧ M'.2.2 17 = upd (M.2.2 17) nq par ∧ M'.2.2 18 = upd (M.2.2 18) d (nI nq) ∧ M'.2.2 21 = upd (M.2.2 21) rw (nI (100 + nq)) ∧
      ∀ (self : (Nat → hH → Prop) → (hH → Prop) → hH → Nat → Nat → Nat → Nat → Int32 → Int32 → Prop) (S : hH) (la qa bc bk c29 k30 m : Nat) (nl x2 : Int32) (fq : Nat → Option Nat) (Qt : Nat → hH → Prop) (Qr : Nat → hH → Prop), TXT T t ta S → FR h0 S → qa ≠ r → h0 qa = none → S qa = some (.inl (5, m, .inr fq)) → nq ≤ m → 2 ≤ m → m ≤ 2 * nq + 2 → (∀ i, i < nq → ∀ y, fq i = some y → ∃ fs, y ≠ r ∧ S y = some (.inr (8, fs))) → c29 + 3 ≤ bc → k30 + 7 + 2 * nq ≤ bk →
        (∀ q ax qa' S', S q = none → S ax = none → q ≠ ax → q ≠ r → ax ≠ r → qa' ≠ r → (qa' = qa ∨ (S qa' = none ∧ qa' ≠ q ∧ qa' ≠ ax)) → S' q = some (.inr (8, [.ref ax, .int 0, .int w, .int (nI d), .int x2])) → S' ax = some (.inl (6, 2, .inr (fun _ => none))) → (∃ f' m', S' qa' = some (.inl (5, m', .inr f')) ∧ nq + 1 ≤ m' ∧ 2 ≤ m' ∧ m' ≤ 2 * (nq + 1) + 2 ∧ (∀ j, j < nq → f' j = fq j) ∧ f' nq = some q) → (∀ a, a ≠ q → a ≠ ax → a ≠ qa' → S' a = S a) →
          self Qt (endP N Qt Qr r q (bc - 3 - c29) (bk - 7 - 2 * nq - k30)) (rs S' r ta la nl qa' (nI (nq + 1)) (nI f') (nI to') kd' v') c29 k30 r q (nI (d + 1)) (x2 * w)) →
        fX4_loop N self Qt Qr (rs S r ta la nl qa (nI nq) (nI f) (nI to) kd v) bc bk r (nI d) x2) ∨
    (∃ M' c pl, fX3_readItem N M = some M' ∧ ftS M' c pl ∧ KP M M' ∧ (∀ nl, WDM M nl nq → WDM M' nl nq) ∧
      ∀ (self : (Nat → hH → Prop) → (hH → Prop) → hH → Nat → Nat → Nat → Nat → Int32 → Int32 → Prop) (S : hH) (la qa bc bk m : Nat) (nl x2 : Int32) (fq : Nat → Option Nat) (Qt : Nat → hH → Prop) (Qr : Nat → hH → Prop), TXT T t ta S → FR h0 S → qa ≠ r → h0 qa = none → S qa = some (.inl (5, m, .inr fq)) → nq ≤ m → 2 ≤ m → m ≤ 2 * nq + 2 → (∀ i, i < nq → ∀ y, fq i = some y → ∃ fs, y ≠ r ∧ S y = some (.inr (8, fs))) → 4 ≤ bc → 15 + 2 * nq ≤ bk → THR h0 Qt c pl →
        fX4_loop N self Qt Qr (rs S r ta la nl qa (nI nq) (nI f) (nI to) kd v) bc bk r (nI d) x2) := by
  have hS2 := hS
  obtain ⟨s1, s2, s3, s4, s5⟩ := hS2
  have hV2 := hV
  obtain ⟨v1, v2, v3, v4, v5⟩ := hV2
  have ht := hX.1
  have hW4 : to - f = 4 := hW.1
  rw [item_loop hX hS hV hk hW]
  by_cases c4 : d < 4
  rotate_left
  · have hge : (4 : Int32) ≤ nI d := nI_le (a := 4) (by omega) (by omega)
    obtain ⟨M', e1, e2⟩ := (m_want s2 s5 0 5).2 rfl (by decide)
    have e3 := e2.S (by decide)
    refine Or.inr ⟨M', 5, f, ?_, e3, e2.KP, fun nl w => e2.T2.T3.W w, fun self S la qa bc bk m nl x2 fq Qt Qr hx hF har h0a hqa hm hm2 hm3 hold b1 b2 b3 => ?_⟩
    · unfold fX3_readLoop fX3_readLoop_14
      rw [h19, if_pos hge, e1, Option.bind_some, fz_next e3, Option.bind_some, fz_number e3]
      show (if ¬ M'.1 30 = 0 then some M' else _).bind _ = _
      rw [if_pos (fz_ne e3), Option.bind_some]
      exact fz_66 e3
    · unfold fX4_loop fX4_loop_11
      exact ⟨fun _ => ⟨_, rs_O, 1, 8, by omega, by omega, x_must (hF.up hr0) rs_I5 (fun h => absurd rfl h) (fun _ => ⟨by decide, by decide, b3⟩)⟩, fun h => absurd hge h⟩
  have hlt : ¬ (4 : Int32) ≤ nI d := nI_ge (b := 4) c4 (by decide)
  have mod0 : fX3_readLoop N M = (fX3_next N M).bind fun S_2 => ec_b2 (fX3_readNumber N S_2 (1 : Int32) (99 : Int32)) fun v_4 S_3 => if ¬ (S_3.1 30) = 0 then some S_3 else (ec_as S_3 16 40 (S_3.1 15) v_4).bind fun S_5 => if ¬ (S_5.1 19) = 0 then (ec_ag (S_5.2.2 18) 5 ((S_5.1 19) - (1 : Int32))).bind fun v_6 => fX3_readLoop_78 N S_5 v_6 (S_5.1 15) else fX3_readLoop_78 N S_5 (-4 : Int32) (S_5.1 15) := by
    unfold fX3_readLoop fX3_readLoop_14
    rw [h19, if_neg hlt, (m_want s2 s5 1 5).1 (by decide), Option.bind_some]
  rcases next_b (ta := ta) (r := r) (h0 := h0) (N := N) hX s5 s1 v2 hne hr0 hN with ⟨M1, f1, to1, kd1, w1, n1, n2, n3, n4, n5⟩ | ⟨M', pl, n1, n2, n3⟩
  rotate_left
  · have e3 := n2.S (by decide)
    refine Or.inr ⟨M', 1, pl, ?_, e3, n2.KP, fun nl w => n2.T2.T3.W w, fun self S la qa bc bk m nl x2 fq Qt Qr hx hF har h0a hqa hm hm2 hm3 hold b1 b2 b3 => ?_⟩
    · rw [mod0, n1, Option.bind_some, fz_number e3]
      show (if ¬ M'.1 30 = 0 then some M' else _).bind _ = _
      rw [if_pos (fz_ne e3), Option.bind_some]
      exact fz_66 e3
    · unfold fX4_loop fX4_loop_11
      refine ⟨fun h => absurd h hlt, fun _ => ⟨_, rs_O, 0, 0, Nat.zero_le _, Nat.zero_le _, x_must (hF.up hr0) rs_I5 (fun _ => ?_) (fun h => absurd h (by decide))⟩⟩
      exact ⟨_, rs_O, 1, 8, by omega, by omega, n3 S la qa 1 8 _ _ _ _ _ Qt _ hx hF (by decide) (by decide) b3⟩
  have X1 := hX.tk n2
  rcases number_b (ta := ta) (r := r) (h0 := h0) (N := N) 1 99 X1 n2.S n3 hne hr0 hN with ⟨M2, f2, to2, kd2, w2, d1, d2, d3, d4, d5, d6, d7⟩ | ⟨w, M', c, pl, d1, d2, d3, d3', d4⟩
  rotate_left
  · refine Or.inr ⟨M', c, pl, ?_, d2, n2.KP.trans d3, fun nl w => (n2.T2.trans d3').T3.W w, fun self S la qa bc bk m nl x2 fq Qt Qr hx hF har h0a hqa hm hm2 hm3 hold b1 b2 b3 => ?_⟩
    · rw [mod0, n1, Option.bind_some, d1]
      show (if ¬ M'.1 30 = 0 then some M' else _).bind _ = _
      rw [if_pos (fz_ne d2), Option.bind_some]
      exact fz_66 d2
    · unfold fX4_loop fX4_loop_11
      refine ⟨fun h => absurd h hlt, fun _ => ⟨_, rs_O, 0, 0, Nat.zero_le _, Nat.zero_le _, x_must (hF.up hr0) rs_I5 (fun _ => ?_) (fun h => absurd h (by decide))⟩⟩
      refine ⟨_, rs_O, 0, 0, Nat.zero_le _, Nat.zero_le _, n5 S la qa 0 0 _ _ _ _ _ Qt _ hx hF ⟨by omega, by omega, fun q hq => ?_⟩⟩
      obtain ⟨hqr, hqS⟩ := rs_none hq
      simp only [ec_lt]
      rw [rs_up hqr]
      exact ⟨_, rs_O, 1, 8, by omega, by omega, d4 (va_up S q _) la qa 1 8 _ _ Qt _ (hx.up (hx.ne hqS)) (hF.new hqS) (by decide) (by decide) b3⟩
  have X2 := X1.tk d4
  have hfr2 : ∀ j, (j < 26 ∨ 31 < j) → M2.1 j = M.1 j := fun j hj => (d4.2.2.2.2.2.2 j hj).trans (n2.2.2.2.2.2.2 j hj)
  have h22 : M2.2 = M.2 := d4.1.trans n2.1
  have h15' : M2.1 15 = nI nq := (hfr2 15 (by omega)).trans h15
  have h19' : M2.1 19 = nI d := (hfr2 19 (by omega)).trans h19
  have h23' : M2.1 23 = nI rw := (hfr2 23 (by omega)).trans h23
  have n31 := n3.1
  have n32 := n3.2.2.1 (by rw [d1]; decide)
  have d51 := d5.1
  have d52 := d5.2.1
  -- the loop is laid down in the Model
  have mod2 : fX3_readLoop N M = some (mI (mI (mI (mA (mA (mA (mA M2 16 nq w1) 17 nq par) 18 d (nI nq)) 21 rw (nI (100 + nq))) 23 (nI (rw + 1))) 15 (nI (nq + 1))) 19 (nI (d + 1))) := by
    rw [mod0, n1, Option.bind_some, d3]
    show (if ¬ M2.1 30 = 0 then some M2 else _) = _
    rw [if_neg (not_not_intro d4.2.2.2.2.2.1), h15', as_at hnq (by decide), Option.bind_some]
    have e19 : (mA M2 16 nq w1).1 19 = nI d := h19'
    have e15 : (mA M2 16 nq w1).1 15 = nI nq := h15'
    rw [e19, e15]
    have key : fX3_readLoop_78 N (mA M2 16 nq w1) par (nI nq) = some (mI (mI (mI (mA (mA (mA (mA M2 16 nq w1) 17 nq par) 18 d (nI nq)) 21 rw (nI (100 + nq))) 23 (nI (rw + 1))) 15 (nI (nq + 1))) 19 (nI (d + 1))) := by
      unfold fX3_readLoop_78
      rw [as_at hnq (by decide), Option.bind_some, show (mA (mA M2 16 nq w1) 17 nq par).1 19 = nI d from h19', show (mA (mA M2 16 nq w1) 17 nq par).1 15 = nI nq from h15', as_at (by omega) (by decide), Option.bind_some, show (mA (mA (mA M2 16 nq w1) 17 nq par) 18 d (nI nq)).1 23 = nI rw from h23', show (mA (mA (mA M2 16 nq w1) 17 nq par) 18 d (nI nq)).1 15 = nI nq from h15', as_at hrw (by decide), Option.bind_some]
      simp only [ec_lt]
      rw [show (100 : Int32) + nI nq = nI (100 + nq) from by rw [show (100 : Int32) = nI 100 from rfl, nI_add]]
      rw [show (mA (mA (mA (mA M2 16 nq w1) 17 nq par) 18 d (nI nq)) 21 rw (nI (100 + nq))).1 23 = nI rw from h23', nI_1, show (mI (mA (mA (mA (mA M2 16 nq w1) 17 nq par) 18 d (nI nq)) 21 rw (nI (100 + nq))) 23 (nI (rw + 1))).1 15 = nI nq from h15', nI_1, show (mI (mI (mA (mA (mA (mA M2 16 nq w1) 17 nq par) 18 d (nI nq)) 21 rw (nI (100 + nq))) 23 (nI (rw + 1))) 15 (nI (nq + 1))).1 19 = nI d from h19', nI_1]
    rcases hpar with ⟨rfl, rfl⟩ | ⟨hd0, hp⟩
    · rw [if_neg (by decide)]
      exact key
    · rw [if_pos (nI_ne0 hd0 (by omega)), show nI d - 1 = nI (d - 1) from pk_sub (a := d) (b := 1) hd0, ag_at (by omega) (by decide), Option.bind_some, show (mA M2 16 nq w1).2.2 18 = M2.2.2 18 from rfl, h22, hp]
      exact key
  generalize hM9 : mI (mI (mI (mA (mA (mA (mA M2 16 nq w1) 17 nq par) 18 d (nI nq)) 21 rw (nI (100 + nq))) 23 (nI (rw + 1))) 15 (nI (nq + 1))) 19 (nI (d + 1)) = M9 at mod2
  have X9 : MX T t M9 := by rw [← hM9]; exact X2.of rfl rfl
  have S9 : tkS M9 f2 to2 kd2 w2 := by rw [← hM9]; exact d4.S
  have K9 : KP M2 M9 := by rw [← hM9]; exact ((((((KP.mA rfl).trans (KP.mA rfl)).trans (KP.mA rfl)).trans (KP.mA rfl)).trans (KP.mI rfl)).trans (KP.mI rfl)).trans (KP.mI rfl)
  have W9 : ∀ nl, WDM M nl nq → WDM M9 nl nq := fun nl w => by
    have w2 : WDM M2 nl nq := (n2.T2.trans d4.T2).T3.W w
    obtain ⟨x1, x2, x3, x4, x5⟩ := w2
    rw [← hM9]
    refine ⟨x1, x2, x3, x4, fun q hq => ?_⟩
    show upd (M2.2.2 17) nq par q = -4 ∨ ∃ p, p < q ∧ upd (M2.2.2 17) nq par q = nI p
    rw [upd_ne' (by omega)]
    exact x5 q hq
  -- the component up to the sign
  have comp1 : ∀ (self : (Nat → hH → Prop) → (hH → Prop) → hH → Nat → Nat → Nat → Nat → Int32 → Int32 → Prop) (S : hH) (la qa bc bk m : Nat) (nl x2 : Int32) (fq : Nat → Option Nat) (Qt : Nat → hH → Prop) (Qr : Nat → hH → Prop), TXT T t ta S → FR h0 S → qa ≠ r → h0 qa = none → S qa = some (.inl (5, m, .inr fq)) → nq ≤ m → 2 ≤ m → m ≤ 2 * nq + 2 → (∀ i, i < nq → ∀ y, fq i = some y → ∃ fs, y ≠ r ∧ S y = some (.inr (8, fs))) → 3 ≤ bc → 7 + 2 * nq ≤ bk →
        (∀ q ax qa' S', S q = none → S ax = none → q ≠ ax → q ≠ r → ax ≠ r → qa' ≠ r → (qa' = qa ∨ (S qa' = none ∧ qa' ≠ q ∧ qa' ≠ ax)) → S' q = some (.inr (8, [.ref ax, .int 0, .int w1, .int (nI d), .int x2])) → S' ax = some (.inl (6, 2, .inr (fun _ => none))) → (∃ f' m', S' qa' = some (.inl (5, m', .inr f')) ∧ nq + 1 ≤ m' ∧ 2 ≤ m' ∧ m' ≤ 2 * (nq + 1) + 2 ∧ (∀ j, j < nq → f' j = fq j) ∧ f' nq = some q) → (∀ a, a ≠ q → a ≠ ax → a ≠ qa' → S' a = S a) → TXT T t ta S' → FR h0 S' →
          ∃ c_24 k_25 : Nat, c_24 ≤ bc - 3 ∧ k_25 ≤ bk - 7 - 2 * nq ∧ fX4_sign N Qt (fun S_26 => ∃ v_27, (hI 8 S_26 q 2) = some v_27 ∧ ∃ w_28, (hObj 4 S_26 r) = some w_28 ∧ ∃ c_29 k_30 : Nat, c_29 ≤ bc - 3 - c_24 ∧ k_30 ≤ bk - 7 - 2 * nq - k_25 ∧ self Qt (endP N Qt Qr r q (bc - 3 - c_24 - c_29) (bk - 7 - 2 * nq - k_25 - k_30)) S_26 c_29 k_30 r q (nI d + 1) (x2 * v_27)) (rs S' r ta la nl qa' (nI (nq + 1)) (nI f2) (nI to2) kd2 w2) c_24 k_25 r) →
        fX4_loop N self Qt Qr (rs S r ta la nl qa (nI nq) (nI f) (nI to) kd v) bc bk r (nI d) x2 := by
    intro self S la qa bc bk m nl x2 fq Qt Qr hx hF har h0a hqa hm hm2 hm3 hold b1 b2 hs
    unfold fX4_loop fX4_loop_11
    refine ⟨fun h => absurd h hlt, fun _ => ⟨_, rs_O, 0, 0, Nat.zero_le _, Nat.zero_le _, x_must (hF.up hr0) rs_I5 (fun _ => ?_) (fun h => absurd h (by decide))⟩⟩
    refine ⟨_, rs_O, 0, 0, Nat.zero_le _, Nat.zero_le _, n5 S la qa 0 0 _ _ _ _ _ Qt _ hx hF ⟨by omega, by omega, fun q hq => ?_⟩⟩
    obtain ⟨hqr, hqS⟩ := rs_none hq
    simp only [ec_lt]
    rw [rs_up hqr]
    refine ⟨_, rs_O, 0, 0, Nat.zero_le _, Nat.zero_le _, d7 (va_up S q _) la qa 0 0 _ _ Qt _ (hx.up (hx.ne hqS)) (hF.new hqS) ⟨1, 2, by omega, by omega, ?_⟩⟩
    unfold fX9_init fX7_init fX6_init
    refine ⟨1, 2, Nat.le_refl _, Nat.le_refl _, 0, 0, Nat.zero_le _, Nat.zero_le _, by omega, by omega, fun ax hax => ?_⟩
    obtain ⟨har2, haS⟩ := rs_none hax
    have hqx : q ≠ ax := fun e => by rw [← e, up_eq] at haS; cases haS
    have haS2 : S ax = none := (up_ne (fun e => hqx e.symm)).symm.trans haS
    simp only [ec_lt]
    rw [rs_up har2]
    refine ⟨_, ln_bput hqx hqr (Or.inr rfl) (by show 0 < 5; decide), _, ln_put hqx hqr (by show 2 < 5; decide), _, ln_put hqx hqr (by show 3 < 5; decide), _, ln_put hqx hqr (by show 4 < 5; decide), _, rs_O, 1, 2 * nq, by omega, by omega, ?_⟩
    have hqaq : qa ≠ q := fun e => by rw [e, hqS] at hqa; cases hqa
    have hqax : qa ≠ ax := fun e => by rw [e, haS2] at hqa; cases hqa
    refine x_adds4 (m := m) (fq := fq) (((up_ne hqax).trans (up_ne hqaq)).trans hqa) hm hm2 hm3 (by omega) har hqr ((up_ne hqx).trans up_eq) (fun i hi y hy => ?_) (Nat.le_refl _) (Nat.le_refl _) (fun qa' S' y1 y2 y3 y4 => ?_)
    · obtain ⟨fs, z1, z2⟩ := hold i hi y hy
      have hyq : y ≠ q := fun e => by rw [e, hqS] at z2; cases z2
      have hyx : y ≠ ax := fun e => by rw [e, haS2] at z2; cases z2
      exact ⟨fs, z1, ((up_ne hyx).trans (up_ne hyq)).trans z2⟩
    · have hqq' : q ≠ qa' := fun e => by
        rcases y2 with y2 | y2
        · rw [y2] at e; exact hqaq e.symm
        · rw [← e] at y2; rw [(up_ne hqx).trans up_eq] at y2; cases y2
      have hxq' : ax ≠ qa' := fun e => by
        rcases y2 with y2 | y2
        · rw [y2] at e; exact hqax e.symm
        · rw [← e, up_eq] at y2; cases y2
      have hor : qa' = qa ∨ (S qa' = none ∧ qa' ≠ q ∧ qa' ≠ ax) := by
        rcases y2 with y2 | y2
        · exact Or.inl y2
        · refine Or.inr ⟨?_, fun e => hqq' e.symm, fun e => hxq' e.symm⟩
          rw [up_ne (fun e => hxq' e.symm), up_ne (fun e => hqq' e.symm)] at y2
          exact y2
      have hSa : ∀ a, a ≠ q → a ≠ ax → a ≠ qa' → S' a = S a := fun a a1 a2 a3 => (y4 a a3).trans ((up_ne a2).trans (up_ne a1))
      have htq : ta ≠ qa' := by
        rcases hor with h | h
        · rw [h]; exact hx.ne2 hqa (by decide)
        · exact hx.ne h.1
      have hx' : TXT T t ta S' := by
        obtain ⟨t1, t2, g, t3, t4⟩ := hx
        exact ⟨t1, t2, g, (hSa ta (fun e => by rw [e, hqS] at t3; cases t3) (fun e => by rw [e, haS2] at t3; cases t3) htq).trans t3, t4⟩
      have hF' : FR h0 S' := fun a z hz => by
        have hz2 := hF a z hz
        refine (hSa a (fun e => by rw [e, hqS] at hz2; cases hz2) (fun e => by rw [e, haS2] at hz2; cases hz2) (fun e => ?_)).trans hz2
        rcases hor with h | h
        · rw [e, h, h0a] at hz; cases hz
        · rw [e, h.1] at hz2; cases hz2
      obtain ⟨c24, k25, u1, u2, u3⟩ := hs q ax qa' S' hqS haS2 hqx hqr har2 y1 hor ((y4 q hqq').trans ((up_ne hqx).trans up_eq)) ((y4 ax hxq').trans up_eq) y3 hSa hx' hF'
      have e1 : bc - 0 - 0 - 1 - 0 - 1 - 1 = bc - 3 := by omega
      have e2 : bk - 0 - 0 - 5 - 0 - 2 - 2 * nq = bk - 7 - 2 * nq := by omega
      rw [e1, e2]
      exact ⟨_, rs_O, c24, k25, u1, u2, u3⟩
  rw [mod2, Option.bind_some]
  rcases sign_b (ta := ta) (r := r) (h0 := h0) (N := N) X9 S9 d5 hne hr0 hN with ⟨M', f', to', kd', v', g1, g2, g3, g4, g5, g6⟩ | ⟨M', c, pl, g1, g2, g3, g3', g4⟩
  · have i32 := d5.2.2.1 (by rw [g1]; decide)
    refine Or.inl ⟨M', f', to', kd', v', w1, c4, g2, g3.S, g4, by omega, d2, fun j hj j1 j2 j3 => ?_, ?_, ?_, ?_, fun a a1 a2 a3 a4 => ?_, ?_, ?_, ?_, ?_, ?_⟩
    · rw [g3.2.2.2.2.2.2 j hj, ← hM9, mI_ne _ _ j2, mI_ne _ _ j1, mI_ne _ _ j3]
      exact hfr2 j hj
    · rw [g3.2.2.2.2.2.2 15 (by omega), ← hM9]
      rfl
    · rw [g3.2.2.2.2.2.2 19 (by omega), ← hM9]
      rfl
    · rw [g3.2.2.2.2.2.2 23 (by omega), ← hM9]
      rfl
    · rw [g3.1, ← hM9]
      show (mA (mA (mA (mA M2 16 nq w1) 17 nq par) 18 d (nI nq)) 21 rw (nI (100 + nq))).2.2 a = _
      rw [mA_k _ _ _ a4, mA_k _ _ _ a3, mA_k _ _ _ a2, mA_k _ _ _ a1, h22]
    · rw [g3.1, ← hM9]
      show upd (M2.2.2 16) nq w1 = _
      rw [h22]
    · rw [g3.1, ← hM9]
      show upd (M2.2.2 17) nq par = _
      rw [h22]
    · rw [g3.1, ← hM9]
      show upd (M2.2.2 18) d (nI nq) = _
      rw [h22]
    · rw [g3.1, ← hM9]
      show upd (M2.2.2 21) rw (nI (100 + nq)) = _
      rw [h22]
    · intro self S la qa bc bk c29 k30 m nl x2 fq Qt Qr hx hF har h0a hqa hm hm2 hm3 hold b1 b2 hQ
      refine comp1 self S la qa bc bk m nl x2 fq Qt Qr hx hF har h0a hqa hm hm2 hm3 hold (by omega) (by omega) (fun q ax qa' S' y1 y2 y3 y4 y5 y6 y7 y8 y9 y10 y11 hx' hF' => ⟨0, 0, Nat.zero_le _, Nat.zero_le _, ?_⟩)
      refine g6 S' la qa' 0 0 _ _ Qt _ hx' hF' ⟨w1, hI_at ((up_ne y4).trans y8) rfl, _, rs_O, c29, k30, by omega, by omega, ?_⟩
      rw [nI_1]
      exact hQ q ax qa' S' y1 y2 y3 y4 y5 y6 y7 y8 y9 y10 y11
  · refine Or.inr ⟨M', c, pl, g1, g2, ((n2.KP.trans d4.KP).trans K9).trans g3, fun nl w => g3'.T3.W (W9 nl w), fun self S la qa bc bk m nl x2 fq Qt Qr hx hF har h0a hqa hm hm2 hm3 hold b1 b2 b3 => ?_⟩
    refine comp1 self S la qa bc bk m nl x2 fq Qt Qr hx hF har h0a hqa hm hm2 hm3 hold (by omega) (by omega) (fun q ax qa' S' y1 y2 y3 y4 y5 y6 y7 y8 y9 y10 y11 hx' hF' => ⟨1, 8, by omega, by omega, ?_⟩)
    exact g4 S' la qa' 1 8 _ _ Qt _ hx' hF' (by decide) (by decide) b3
/-- the end of a loop -/
theorem end_b {M : sM} {f to d rw q : Nat} {kd v : Int32} (hne : ta ≠ r) (hr0 : h0 r = none) (hN : 400 ≤ N) (hX : MX T t M) (hS : tkS M f to kd v) (hV : tkV T t f to kd v) (h19 : M.1 19 = nI (d + 1)) (hd : d < 4) (hop : M.2.2 18 d = nI q) (hq : q < 40) (h23 : M.1 23 = nI rw) (hrw : rw < 100) (hno : ¬ (kd = 1 ∧ isW T f to 0) ∧ ¬ (kd = 1 ∧ isW T f to 1)) :
    (∃ M' f' to' kd' v', kd = 1 ∧ fX3_readItem N M = some M' ∧ tkS M' f' to' kd' v' ∧ tkV T t f' to' kd' v' ∧ f + 4 ≤ f' ∧ to < f' ∧ (∀ j, (j < 26 ∨ 31 < j) → j ≠ 19 → j ≠ 23 → M'.1 j = M.1 j) ∧ M'.1 19 = nI d ∧ M'.1 23 = nI (rw + 1) ∧ (∀ a, a ≠ 21 → M'.2.2 a = M.2.2 a) ∧ M'.2.2 21 = upd (M.2.2 21) rw (nI (200 + q)) ∧
      ∀ (S : hH) (la qa bc bk qq : Nat) (nl nq : Int32) (Qt : Nat → hH → Prop) (Qr : Nat → hH → Prop), TXT T t ta S → FR h0 S → Qr qq (rs S r ta la nl qa nq (nI f') (nI to') kd' v') → endP N Qt Qr r qq bc bk (rs S r ta la nl qa nq (nI f) (nI to) kd v)) ∨
    (∃ M' c pl, (∀ n kx, fX3_program_34 N kx (n + 2) M = kx M') ∧ FLT M' c pl ∧ KP M M' ∧ (∀ nl nq, WDM M nl nq → WDM M' nl nq) ∧
      ∀ (S : hH) (la qa bc bk qq : Nat) (nl nq : Int32) (Qt : Nat → hH → Prop) (Qr : Nat → hH → Prop), TXT T t ta S → FR h0 S → 1 ≤ bc → 8 ≤ bk → THR h0 Qt c pl → endP N Qt Qr r qq bc bk (rs S r ta la nl qa nq (nI f) (nI to) kd v)) := by
  have hS2 := hS
  obtain ⟨s1, s2, s3, s4, s5⟩ := hS2
  have hV2 := hV
  obtain ⟨v1, v2, v3, v4, v5⟩ := hV2
  have ht := hX.1
  by_cases cW : kd = 1 ∧ isW T f to 2
  rotate_left
  · have comp : ∀ (S : hH) (la qa bc bk qq : Nat) (nl nq : Int32) (Qt : Nat → hH → Prop) (Qr : Nat → hH → Prop), TXT T t ta S → FR h0 S → 1 ≤ bc → 8 ≤ bk → THR h0 Qt 2 f → endP N Qt Qr r qq bc bk (rs S r ta la nl qa nq (nI f) (nI to) kd v) := by
      intro S la qa bc bk qq nl nq Qt Qr hx hF b1 b2 b3
      unfold endP
      refine ⟨_, rs_O, 0, 0, Nat.zero_le _, Nat.zero_le _, x_isWord hx hne (by decide) v1 v2 hN (fun h h2 => absurd ⟨h, h2⟩ cW) (fun _ => ?_)⟩
      exact ⟨_, rs_O, 1, 8, b1, b2, x_must (hF.up hr0) rs_I5 (fun h => absurd rfl h) (fun _ => ⟨by decide, by decide, b3⟩)⟩
    by_cases c0 : kd = 0
    · refine Or.inr ⟨M, 2, f, fun n kx => ?_, Or.inr ⟨rfl, s5, s3.trans c0, s2, d + 1, by omega, by omega, h19⟩, KP.rfl', fun nl nq w => w, comp⟩
      exact p34_stop kx (c := 2) (pl := f) (Or.inr ⟨rfl, s5, s3.trans c0, s2, d + 1, by omega, by omega, h19⟩)
    · obtain ⟨M', e1, e2⟩ := item_none (N := N) hX hS hV (by
        by_cases c1 : kd = 1
        · exact Or.inr ⟨fun h => hno.1 ⟨c1, h⟩, fun h => hno.2 ⟨c1, h⟩, fun h => cW ⟨c1, h⟩⟩
        · exact Or.inl c1)
      have e3 := e2.S (by decide)
      refine Or.inr ⟨M', 2, f, fun n kx => ?_, Or.inl e3, e2.KP, fun nl nq w => e2.T2.T3.W w, comp⟩
      rw [p34_step kx s5 (by rw [s3]; exact c0) e1, p34_stop kx (Or.inl e3)]
  obtain ⟨c1, hW⟩ := cW
  have hW3 : to - f = 3 := hW.1
  have hft := v3 (by rw [c1]; decide)
  -- the Model
  have mod0 : fX3_readEnd N M = fX3_next N (mI (mA (mI M 19 (nI d)) 21 rw (nI (200 + q))) 23 (nI (rw + 1))) := by
    unfold fX3_readEnd fX3_readEnd_13 fX3_readEnd_66
    rw [h19, if_neg (nI_nle (by omega) (by omega)), (m_want s2 s5 1 2).1 (by decide), Option.bind_some, s5, if_neg (by decide)]
    simp only [ec_lt]
    rw [h19, nI_pred, show (mI M 19 (nI d)).1 19 = nI d from rfl, ag_at (by omega) (by decide), Option.bind_some, show (mI M 19 (nI d)).2.2 18 d = nI q from hop, show (mI M 19 (nI d)).1 23 = nI rw from h23, as_at hrw (by decide), Option.bind_some, show (200 : Int32) + nI q = nI (200 + q) from by rw [show (200 : Int32) = nI 200 from rfl, nI_add], show (mA (mI M 19 (nI d)) 21 rw (nI (200 + q))).1 23 = nI rw from h23, nI_1]
    cases fX3_next N (mI (mA (mI M 19 (nI d)) 21 rw (nI (200 + q))) 23 (nI (rw + 1))) <;> rfl
  generalize hM1 : mI (mA (mI M 19 (nI d)) 21 rw (nI (200 + q))) 23 (nI (rw + 1)) = M1 at mod0
  have X1 : MX T t M1 := by rw [← hM1]; exact hX.of rfl rfl
  have K1 : KP M M1 := by rw [← hM1]; exact ((KP.mI rfl).trans (KP.mA rfl)).trans (KP.mI rfl)
  have W1 : ∀ nl nq, WDM M nl nq → WDM M1 nl nq := fun nl nq w => by rw [← hM1]; exact w.of rfl rfl rfl
  have e30 : M1.1 30 = 0 := by rw [← hM1]; exact s5
  have e26 : M1.1 26 = nI to := by rw [← hM1]; exact s1
  have hit := item_end (N := N) hX hS hV c1 hW
  rw [mod0] at hit
  have hs28 : ¬ M.1 28 = 0 := by rw [s3, c1]; decide
  have comp1 : ∀ (S : hH) (la qa bc bk qq : Nat) (nl nq : Int32) (Qt : Nat → hH → Prop) (Qr : Nat → hH → Prop), TXT T t ta S → FR h0 S → (∃ c_42 k_43 : Nat, c_42 ≤ bc ∧ k_43 ≤ bk ∧ fX4_next N Qt (fun S_44 => ∃ w_45, (hObj 4 S_44 r) = some w_45 ∧ ∃ c_46 k_47 : Nat, c_46 ≤ bc - c_42 ∧ k_47 ≤ bk - k_43 ∧ fX4_sign N Qt (fun S_48 => Qr qq S_48) S_44 c_46 k_47 r) (rs S r ta la nl qa nq (nI f) (nI to) kd v) c_42 k_43 r) → endP N Qt Qr r qq bc bk (rs S r ta la nl qa nq (nI f) (nI to) kd v) := by
    intro S la qa bc bk qq nl nq Qt Qr hx hF hs
    unfold endP
    refine ⟨_, rs_O, 0, 0, Nat.zero_le _, Nat.zero_le _, x_isWord hx hne (by decide) v1 v2 hN (fun _ _ => ?_) (fun h => absurd ⟨c1, hW⟩ h)⟩
    exact ⟨_, rs_O, 0, 0, Nat.zero_le _, Nat.zero_le _, x_must (hF.up hr0) rs_I5 (fun _ => ⟨_, rs_O, hs⟩) (fun h => absurd h (by decide))⟩
  rcases next_b (ta := ta) (r := r) (h0 := h0) (N := N) X1 e30 e26 v2 hne hr0 hN with ⟨M2, f2, to2, kd2, w2, n1, n2, n3, n4, n5⟩ | ⟨M', pl, n1, n2, n3⟩
  rotate_left
  · have e3 := n2.S (by decide)
    have hit2 : fX3_readItem N M = some M' := by rw [hit, n1, Option.bind_some]; exact fz_66 e3
    refine Or.inr ⟨M', 1, pl, fun n kx => ?_, Or.inl e3, K1.trans n2.KP, fun nl nq w => n2.T2.T3.W (W1 nl nq w), fun S la qa bc bk qq nl nq Qt Qr hx hF b1 b2 b3 => ?_⟩
    · rw [p34_step kx s5 hs28 hit2, p34_stop kx (Or.inl e3)]
    · exact comp1 S la qa bc bk qq nl nq Qt Qr hx hF ⟨1, 8, b1, b2, n3 S la qa 1 8 _ _ _ _ _ Qt _ hx hF (by decide) (by decide) b3⟩
  have X2 := X1.tk n2
  rcases sign_b (ta := ta) (r := r) (h0 := h0) (N := N) X2 n2.S n3 hne hr0 hN with ⟨M', f', to', kd', v', g1, g2, g3, g4, g5, g6⟩ | ⟨M', c, pl, g1, g2, g3, g3', g4⟩
  · have i32 := n3.2.2.1 (by rw [g1]; decide)
    refine Or.inl ⟨M', f', to', kd', v', c1, by rw [hit, n1, Option.bind_some, g2], g3.S, g4, by omega, by omega, fun j hj j1 j2 => ?_, ?_, ?_, fun a a1 => ?_, ?_, fun S la qa bc bk qq nl nq Qt Qr hx hF hQ => ?_⟩
    · rw [g3.2.2.2.2.2.2 j hj, n2.2.2.2.2.2.2 j hj, ← hM1, mI_ne _ _ j2]
      exact mI_ne _ _ j1
    · rw [g3.2.2.2.2.2.2 19 (by omega), n2.2.2.2.2.2.2 19 (by omega), ← hM1]
      rfl
    · rw [g3.2.2.2.2.2.2 23 (by omega), n2.2.2.2.2.2.2 23 (by omega), ← hM1]
      rfl
    · rw [g3.1, n2.1, ← hM1]
      exact mA_k _ _ _ a1
    · rw [g3.1, n2.1, ← hM1]
      rfl
    · exact comp1 S la qa bc bk qq nl nq Qt Qr hx hF ⟨0, 0, Nat.zero_le _, Nat.zero_le _, n5 S la qa 0 0 _ _ _ _ _ Qt _ hx hF ⟨_, rs_O, 0, 0, Nat.zero_le _, Nat.zero_le _, g6 S la qa 0 0 _ _ Qt _ hx hF hQ⟩⟩
  · have hit2 : fX3_readItem N M = some M' := by rw [hit, n1, Option.bind_some, g1]
    refine Or.inr ⟨M', c, pl, fun n kx => ?_, Or.inl g2, (K1.trans n2.KP).trans g3, fun nl nq w => (n2.T2.trans g3').T3.W (W1 nl nq w), fun S la qa bc bk qq nl nq Qt Qr hx hF b1 b2 b3 => ?_⟩
    · rw [p34_step kx s5 hs28 hit2, p34_stop kx (Or.inl g2)]
    · exact comp1 S la qa bc bk qq nl nq Qt Qr hx hF ⟨0, 0, Nat.zero_le _, Nat.zero_le _, n5 S la qa 0 0 _ _ _ _ _ Qt _ hx hF ⟨_, rs_O, 1, 8, b1, b2, g4 S la qa 1 8 _ _ Qt _ hx hF (by decide) (by decide) b3⟩⟩
end
