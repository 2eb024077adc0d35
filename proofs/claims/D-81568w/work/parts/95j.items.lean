/-! THE PROGRAM'S TEXT: items on both sides -/
set_option maxRecDepth 100000
set_option maxHeartbeats 4000000
section
variable {T : Nat → Int32} {t r ta N : Nat} {h0 : hH} {tg0 : Nat → Nat × Nat}
theorem it_stop {self : (Nat → hH → Prop) → (hH → Prop) → hH → Nat → Nat → Nat → Nat → Int32 → Int32 → Prop} {H : hH} {la qa bc bk n bx f to : Nat} {nl nq kd v x2 x3 : Int32} {Qt : Nat → hH → Prop} {Qr : hH → Prop} (hx : TXT T t ta H) (hne : ta ≠ r) (h1 : f ≤ to) (h2 : to ≤ t) (hN : 400 ≤ N) (w0 : ¬ (kd = 1 ∧ isW T f to 0)) (w1 : ¬ (kd = 1 ∧ isW T f to 1)) (hq : Qr (rs H r ta la nl qa nq (nI f) (nI to) kd v)) : fX4_items_0 N self Qt Qr (n + 1) (rs H r ta la nl qa nq (nI f) (nI to) kd v) bc bk r bx x2 x3 := by
  rw [fX4_items_0]
  refine ⟨_, rs_O, 0, 0, Nat.zero_le _, Nat.zero_le _, x_isWord hx hne (by decide) h1 h2 hN (fun a b => absurd ⟨a, b⟩ w0) (fun _ => ⟨fun h => absurd rfl h, fun _ => ?_⟩)⟩
  exact ⟨_, rs_O, 0, 0, Nat.zero_le _, Nat.zero_le _, x_isWord hx hne (by decide) h1 h2 hN (fun a b => absurd ⟨a, b⟩ w1) (fun _ => ⟨fun _ => hq, fun h => absurd rfl h⟩)⟩
theorem it_line {self : (Nat → hH → Prop) → (hH → Prop) → hH → Nat → Nat → Nat → Nat → Int32 → Int32 → Prop} {H : hH} {la qa bc bk n bx f to : Nat} {nl nq kd v x2 x3 : Int32} {Qt : Nat → hH → Prop} {Qr : hH → Prop} (hx : TXT T t ta H) (hne : ta ≠ r) (h1 : f ≤ to) (h2 : to ≤ t) (hN : 400 ≤ N) (hk : kd = 1) (hW : isW T f to 0) (hq : ∃ c k : Nat, c ≤ bc ∧ k ≤ bk ∧ fX4_line N Qt (fun v_23 S_22 => fX4_items_42 N self Qt Qr (fX4_items_0 N self Qt Qr n) S_22 (bc - c) (bk - k) r bx x2 x3 v_23 bx) (rs H r ta la nl qa nq (nI f) (nI to) kd v) c k r x2) : fX4_items_0 N self Qt Qr (n + 1) (rs H r ta la nl qa nq (nI f) (nI to) kd v) bc bk r bx x2 x3 := by
  rw [fX4_items_0]
  refine ⟨_, rs_O, 0, 0, Nat.zero_le _, Nat.zero_le _, x_isWord hx hne (by decide) h1 h2 hN (fun _ _ => ⟨fun _ => ?_, fun h => absurd (by decide) h⟩) (fun h => absurd ⟨hk, hW⟩ h)⟩
  unfold fX4_items_18
  refine ⟨_, rs_O, 0, 0, Nat.zero_le _, Nat.zero_le _, x_isWord hx hne (by decide) h1 h2 hN (fun _ _ => ⟨fun h => absurd h (by decide), fun _ => ?_⟩) (fun h => absurd ⟨hk, hW⟩ h)⟩
  obtain ⟨c, k, a1, a2, a3⟩ := hq
  exact ⟨_, rs_O, c, k, a1, a2, a3⟩
theorem it_loop {self : (Nat → hH → Prop) → (hH → Prop) → hH → Nat → Nat → Nat → Nat → Int32 → Int32 → Prop} {H : hH} {la qa bc bk n bx f to : Nat} {nl nq kd v x2 x3 : Int32} {Qt : Nat → hH → Prop} {Qr : hH → Prop} (hx : TXT T t ta H) (hne : ta ≠ r) (h1 : f ≤ to) (h2 : to ≤ t) (hN : 400 ≤ N) (hk : kd = 1) (hW : isW T f to 1) (hq : ∃ c k : Nat, c ≤ bc ∧ k ≤ bk ∧ fX4_loop N self Qt (fun v_15 S_14 => fX4_items_42 N self Qt Qr (fX4_items_0 N self Qt Qr n) S_14 (bc - c) (bk - k) r bx x2 x3 v_15 bx) (rs H r ta la nl qa nq (nI f) (nI to) kd v) c k r x2 x3) : fX4_items_0 N self Qt Qr (n + 1) (rs H r ta la nl qa nq (nI f) (nI to) kd v) bc bk r bx x2 x3 := by
  have w0 : ¬ (kd = 1 ∧ isW T f to 0) := fun h => isW_01 h.2 hW
  rw [fX4_items_0]
  refine ⟨_, rs_O, 0, 0, Nat.zero_le _, Nat.zero_le _, x_isWord hx hne (by decide) h1 h2 hN (fun a b => absurd ⟨a, b⟩ w0) (fun _ => ⟨fun h => absurd rfl h, fun _ => ?_⟩)⟩
  refine ⟨_, rs_O, 0, 0, Nat.zero_le _, Nat.zero_le _, x_isWord hx hne (by decide) h1 h2 hN (fun _ _ => ⟨fun h => absurd h (by decide), fun _ => ?_⟩) (fun h => absurd ⟨hk, hW⟩ h)⟩
  unfold fX4_items_18
  refine ⟨_, rs_O, 0, 0, Nat.zero_le _, Nat.zero_le _, x_isWord hx hne (by decide) h1 h2 hN (fun a b => absurd ⟨a, b⟩ w0) (fun _ => ⟨fun _ => ?_, fun h => absurd rfl h⟩)⟩
  obtain ⟨c, k, a1, a2, a3⟩ := hq
  exact ⟨_, rs_O, c, k, a1, a2, a3⟩
theorem items_b (hne : ta ≠ r) (hr0 : h0 r = none) (hN : 400 ≤ N) : ∀ (n : Nat), n < N → ∀ (M : sM) (nl nq : Nat) (ch : Nat → List (Bool × Nat)) (tm dp : Nat → Int32) (dq cm : Nat → Nat) (F : Fo) (a p : Nat) (par : Int32) (d m k rb rw f to : Nat) (kd v : Int32) (D : Nat), t - to < n → D + d = 5 → PD T t M nl nq ch tm dp dq cm F a p par d m k rb rw f to kd v → WDM M nl nq → (par = -4 ∨ ∃ q, q < nq ∧ par = nI q) →
    (∃ M1 nl1 nq1 ch1 tm1 dp1 dq1 cm1 F1 rw1 f1 to1 kd1 v1 j, (∀ n' kx, fX3_program_34 N kx (n' + j) M = fX3_program_34 N kx n' M1) ∧ j + to ≤ to1 ∧ nl ≤ nl1 ∧ nq ≤ nq1 ∧ rw ≤ rw1 ∧ PD T t M1 nl1 nq1 ch1 tm1 dp1 dq1 cm1 F1 a p par d m k rb rw1 f1 to1 kd1 v1 ∧ WDM M1 nl1 nq1 ∧ AG M M1 nl nq d rw k ch ch1 tm tm1 dp dp1 dq dq1 cm cm1 ∧ ¬ (kd1 = 1 ∧ isW T f1 to1 0) ∧ ¬ (kd1 = 1 ∧ isW T f1 to1 1) ∧
      ∀ (tg : Nat → Nat × Nat) (H : hH) (la qa : Nat) (aL aE aB aI : Nat → Nat) (bc bk n' : Nat) (Qt : Nat → hH → Prop) (Qr : hH → Prop), HP T t r ta h0 tg0 tg H la qa aL aE aB aI nl nq ch dp (M.2.2 12) (M.2.2 13) (M.2.2 16) dq cm f to kd v → n < n' → 4 * ((nl1 + nq1) - (nl + nq)) ≤ bc → 300 * ((nl1 + nq1) - (nl + nq)) ≤ bk →
        (∀ tg1 H1 qa1 aL1 aE1 aB1 aI1, HP T t r ta h0 tg0 tg1 H1 la qa1 aL1 aE1 aB1 aI1 nl1 nq1 ch1 dp1 (M1.2.2 12) (M1.2.2 13) (M1.2.2 16) dq1 cm1 f1 to1 kd1 v1 → (∀ i, i ≤ nq → aB1 i = aB i) → Qr H1) → fX4_items_0 N (fX4_itemsD N D) Qt Qr n' H bc bk r (aB k) (nI d) (nI m)) ∨
    (∃ M1 c pl j, (∀ n' kx, fX3_program_34 N kx (n' + j) M = kx M1) ∧ j ≤ t - to + 2 ∧ FLT M1 c pl ∧ KP M M1 ∧ (∃ nl' nq', WDM M1 nl' nq') ∧
      ∀ (tg : Nat → Nat × Nat) (H : hH) (la qa : Nat) (aL aE aB aI : Nat → Nat) (bc bk n' : Nat) (Qt : Nat → hH → Prop) (Qr : hH → Prop), HP T t r ta h0 tg0 tg H la qa aL aE aB aI nl nq ch dp (M.2.2 12) (M.2.2 13) (M.2.2 16) dq cm f to kd v → n < n' → 4 * (50 - (nl + nq)) + 8 ≤ bc → 300 * (50 - (nl + nq)) + 300 ≤ bk → THR h0 Qt c pl → fX4_items_0 N (fX4_itemsD N D) Qt Qr n' H bc bk r (aB k) (nI d) (nI m)) := by
  intro n
  induction n with
  | zero => intro _ M nl nq ch tm dp dq cm F a p par d m k rb rw f to kd v D h; omega
  | succ n ih =>
    intro hnN M nl nq ch tm dp dq cm F a p par d m k rb rw f to kd v D hmeas hD P hW hPar
    have P0 := P
    obtain ⟨q1, q2, q3, q4, q5, q6, q7, q8, q9, q10, q11, q12, q13, q14, q15, q16, q17, q18, q19, q20⟩ := P0
    have s28 := q2.2.2.1
    have s30 := q2.2.2.2.2
    have v1 := q3.1
    have v2 := q3.2.1
    have ht := q1.1
    have hnq : nq ≤ 33 := by omega
    have hrw : rw < 100 := by omega
    have hkl : (foK F).length ≤ foNL F + foNQ F := foK_len F
    by_cases w0 : kd = 1 ∧ isW T f to 0
    · -- a line
      have hs28 : ¬ M.1 28 = 0 := by rw [s28, w0.1]; decide
      rcases line_b (ta := ta) (r := r) (h0 := h0) (N := N) hne hr0 hN q1 q2 q3 q4 q8 w0.1 w0.2 q6 q9 q17 q7 hrw with ⟨M', f', to', kd', v', tk, c16, g0, g1, g2, g3, g4, g5, g6, g7, g8, g9, g10, g11, g12, g13, g14⟩ | ⟨M', c, pl, g0, g1, g2, g2', g3⟩
      rotate_left
      · refine Or.inr ⟨M', c, pl, 2, fun n' kx => ?_, by omega, Or.inl g1, g2, g2' nq hW hPar, fun tg H la qa aL aE aB aI bc bk n' Qt Qr hP hn b1 b2 b3 => ?_⟩
        · rw [p34_step kx s30 hs28 g0, p34_stop kx (Or.inl g1)]
        · obtain ⟨n', rfl⟩ : ∃ x, n' = x + 1 := ⟨n' - 1, by omega⟩
          have hP0 := hP
          obtain ⟨p1, p2, p3, p4, p5⟩ := hP0
          obtain ⟨⟨a1, a2, fl, a3, a4⟩, -⟩ := p5
          have har : la ≠ r := fun e => by rw [e, p4] at a1; cases a1
          rw [← up_self p1]
          refine it_line p2 hne v1 v2 hN w0.1 w0.2 ⟨3, 21, by omega, by omega, ?_⟩
          exact g3 H la qa 3 21 _ _ fl Qt _ p2 p3.FR (by omega) (by omega) har a3 b3
      obtain ⟨P1, A1⟩ := P.lineS c16 g1 g2 g3 g4 g5 g6 g7 g8 g9 g10 g11 g12 g13
      have hto4 : to - f = 4 := w0.2.1
      have W1 : WDM M' (nl + 1) nq := by
        obtain ⟨x1, x2, x3, x4, x5⟩ := hW
        refine ⟨g6, by omega, x3, fun l hl => ?_, by rw [g8 17 (by decide) (by decide) (by decide) (by decide)]; exact x5⟩
        rw [g10]
        by_cases c : l = nl
        · rw [c, upd_eq']; exact hPar
        · rw [upd_ne' c]; exact x4 l (by omega)
      have t1 := g2.1
      have t2 := g2.2.1
      -- one line, then the rest
      have comp : ∀ (tg : Nat → Nat × Nat) (H : hH) (la qa : Nat) (aL aE aB aI : Nat → Nat) (bc bk n' : Nat) (Qt : Nat → hH → Prop) (Qr : hH → Prop), HP T t r ta h0 tg0 tg H la qa aL aE aB aI nl nq ch dp (M.2.2 12) (M.2.2 13) (M.2.2 16) dq cm f to kd v → 4 ≤ bc → 300 ≤ bk →
          (∀ tg1 H1 aL1 aE1 aI1, HP T t r ta h0 tg0 tg1 H1 la qa aL1 aE1 aB aI1 (nl + 1) nq (va_up ch k (ch k ++ [(false, nl)])) (va_up dp nl (nI d)) (M'.2.2 12) (M'.2.2 13) (M'.2.2 16) dq cm f' to' kd' v' → fX4_items_0 N (fX4_itemsD N D) Qt Qr n' H1 (bc - 4) (bk - 300) r (aB k) (nI d) (nI m)) → fX4_items_0 N (fX4_itemsD N D) Qt Qr (n' + 1) H bc bk r (aB k) (nI d) (nI m) := by
        intro tg H la qa aL aE aB aI bc bk n' Qt Qr hP b1 b2 hk0
        have hP0 := hP
        obtain ⟨p1, p2, p3, p4, p5⟩ := hP0
        obtain ⟨⟨a1, a2, fl, a3, a4⟩, -⟩ := p5
        have har : la ≠ r := fun e => by rw [e, p4] at a1; cases a1
        rw [← up_self p1]
        refine it_line p2 hne v1 v2 hN w0.1 w0.2 ⟨2, 13, by omega, by omega, ?_⟩
        refine g14 H la qa 2 13 _ _ fl Qt _ p2 p3.FR (Nat.le_refl _) (Nat.le_refl _) har a3 (fun q ev g hq hev hqe hqr her hg => ?_)
        have HL := HP.line (dp' := va_up dp nl (nI d)) (tk' := M'.2.2 12) (mk' := M'.2.2 13) hP hr0 hne hq hev hqe a3 (fun l hl => ⟨by rw [g9]; exact upd_ne' (by omega), up_ne (by omega), fun e he => g12 _ (by omega)⟩) hg f' to' kd' v'
        rw [show va_up dp nl (nI d) nl = nI d from up_eq, show M'.2.2 12 nl = tk from by rw [g9]; exact upd_eq', ← g8 16 (by decide) (by decide) (by decide) (by decide)] at HL
        unfold fX4_items_42
        have hb5 := (HL.2.2.2.2.2.2.2 k (by omega)).2.2.2.2.1
        refine ⟨?_, 2, 287, by omega, by omega, ?_⟩
        · rcases bC_68 k with h | h
          · rw [h] at hb5; exact Or.inl ⟨_, hb5⟩
          · rw [h] at hb5; exact Or.inr ⟨_, hb5⟩
        · have hq9 : q = (if (false, nl).1 = true then aB ((false, nl).2 + 1) else va_up aL nl q (false, nl).2) := by
            show q = va_up aL nl q nl
            rw [up_eq]
          have := HP.add (y := (false, nl)) (Qt := Qt) (Qr := fun S_18 => fX4_items_0 N (fX4_itemsD N D) Qt Qr n' S_18 (bc - 2 - 2) (bk - 13 - 287) r (aB k) (nI d) (nI m)) HL (show k ≤ nq by omega) ⟨fun h => (by cases h), fun _ => Nat.lt_succ_self nl⟩ (by rw [q15]; omega) (by omega) (show 1 ≤ 2 by decide) (show 2 * (nl + 1 + nq) ≤ 287 by omega) (fun S' tg' aI' hP' => ?_)
          · rw [← hq9] at this
            exact this
          · rw [show bc - 2 - 2 = bc - 4 by omega, show bk - 13 - 287 = bk - 300 by omega]
            exact hk0 tg' S' _ _ aI' hP'
      rcases ih (by omega) M' (nl + 1) nq _ _ _ dq cm _ a p par d m k rb (rw + 1) f' to' kd' v' D (by omega) hD P1 W1 hPar with ⟨M1, nl1, nq1, ch1, tm1, dp1, dq1, cm1, F1, rw1, f1, to1, kd1, v1', j, i1, i2, i3, i4, i5, i6, iW, i7, i8, i9, i10⟩ | ⟨M1, c, pl, j, i1, i2, i3, i4, i4', i5⟩
      · refine Or.inl ⟨M1, nl1, nq1, ch1, tm1, dp1, dq1, cm1, F1, rw1, f1, to1, kd1, v1', j + 1, fun n' kx => ?_, by omega, by omega, i4, by omega, i6, iW, A1.trans i7 (by omega) (Nat.le_refl _) (by omega), i8, i9, fun tg H la qa aL aE aB aI bc bk n' Qt Qr hP hn b1 b2 hQ => ?_⟩
        · rw [← Nat.add_assoc, p34_step kx s30 hs28 g0]
          exact i1 n' kx
        · obtain ⟨n', rfl⟩ : ∃ x, n' = x + 1 := ⟨n' - 1, by omega⟩
          refine comp tg H la qa aL aE aB aI bc bk n' Qt Qr hP (by omega) (by omega) (fun tg1 H1 aL1 aE1 aI1 hP1 => ?_)
          exact i10 tg1 H1 la qa aL1 aE1 aB aI1 (bc - 4) (bk - 300) n' Qt Qr hP1 (by omega) (by omega) (by omega) hQ
      · refine Or.inr ⟨M1, c, pl, j + 1, fun n' kx => ?_, by omega, i3, A1.2.2.2.2.2.trans i4, i4', fun tg H la qa aL aE aB aI bc bk n' Qt Qr hP hn b1 b2 b3 => ?_⟩
        · rw [← Nat.add_assoc, p34_step kx s30 hs28 g0]
          exact i1 n' kx
        · obtain ⟨n', rfl⟩ : ∃ x, n' = x + 1 := ⟨n' - 1, by omega⟩
          refine comp tg H la qa aL aE aB aI bc bk n' Qt Qr hP (by omega) (by omega) (fun tg1 H1 aL1 aE1 aI1 hP1 => ?_)
          exact i5 tg1 H1 la qa aL1 aE1 aB aI1 (bc - 4) (bk - 300) n' Qt Qr hP1 (by omega) (by omega) (by omega) b3
    by_cases w1 : kd = 1 ∧ isW T f to 1
    rotate_left
    · -- neither
      refine Or.inl ⟨M, nl, nq, ch, tm, dp, dq, cm, F, rw, f, to, kd, v, 0, fun _ _ => rfl, by omega, Nat.le_refl _, Nat.le_refl _, Nat.le_refl _, P, hW, ⟨fun _ _ => ⟨rfl, rfl, rfl, rfl, fun _ _ => rfl⟩, fun _ _ => ⟨rfl, rfl, rfl, rfl⟩, fun _ _ => rfl, fun _ _ => rfl, fun _ _ _ => rfl, KP.rfl'⟩, w0, w1, fun tg H la qa aL aE aB aI bc bk n' Qt Qr hP hn b1 b2 hQ => ?_⟩
      obtain ⟨n', rfl⟩ : ∃ x, n' = x + 1 := ⟨n' - 1, by omega⟩
      have hP0 := hP
      obtain ⟨p1, p2, p3, p4, p5⟩ := hP0
      rw [← up_self p1]
      refine it_stop p2 hne v1 v2 hN w0 w1 ?_
      rw [show (rs H r ta la (nI nl) qa (nI nq) (nI f) (nI to) kd v) = H from up_self p1]
      exact hQ tg H qa aL aE aB aI hP (fun _ _ => rfl)
    -- a loop
    have hs28 : ¬ M.1 28 = 0 := by rw [s28, w1.1]; decide
    rcases loopH_b (ta := ta) (r := r) (h0 := h0) (N := N) hne hr0 hN q1 q2 q3 q5 (show nq < 40 by omega) w1.1 w1.2 q6 q9 q17 q7 hrw with ⟨M1, f1, to1, kd1, v1', w, c4, g0, g1, g2, g3, g4, g5, g6, g6', g7, g8, g9, g10, g11, g12, g13⟩ | ⟨M', c, pl, g0, g1, g2, g2', g3⟩
    rotate_left
    · refine Or.inr ⟨M', c, pl, 2, fun n' kx => ?_, by omega, Or.inl g1, g2, ⟨nl, nq, g2' nl hW⟩, fun tg H la qa aL aE aB aI bc bk n' Qt Qr hP hn b1 b2 b3 => ?_⟩
      · rw [p34_step kx s30 hs28 g0, p34_stop kx (Or.inl g1)]
      · obtain ⟨n', rfl⟩ : ∃ x, n' = x + 1 := ⟨n' - 1, by omega⟩
        have hP0 := hP
        obtain ⟨p1, p2, p3, p4, p5⟩ := hP0
        have p50 := p5
        obtain ⟨-, ⟨a1, a2, fq, m0, a3, a4, a5, a6, a7⟩, -, dd⟩ := p50
        have har : qa ≠ r := fun e => by rw [e, p4] at a1; cases a1
        rw [← up_self p1]
        refine it_loop p2 hne v1 v2 hN w1.1 w1.2 ⟨bc, bk, Nat.le_refl _, Nat.le_refl _, ?_⟩
        refine g3 _ H la qa bc bk m0 _ _ fq Qt _ p2 p3.FR har a2 a3 a4 a5 a6 (fun i hi y hy => ?_) (by omega) (by omega) b3
        rw [a7 i hi] at hy
        obtain ⟨k1, -, -, -, k5, -⟩ := dd (i + 1) (by omega)
        rw [← Option.some.inj hy]
        exact ⟨_, (fun e => by rw [e, p4] at k1; cases k1), k5⟩
    obtain ⟨wn, hw1, hw2, hwn⟩ := (in_lit 1 99 (by decide) (by decide)).mp g4
    obtain ⟨K1, PI⟩ := P.head (wn := wn) c4 g1 g2 g3 g5 g6 g6' g7 g8 g11
    have hto4 : to - f = 4 := w1.2.1
    have W1 : WDM M1 nl (nq + 1) := by
      obtain ⟨x1, x2, x3, x4, x5⟩ := hW
      refine ⟨(g5 11 (by omega) (by decide) (by decide) (by decide)).trans x1, x2, by omega, fun l hl => ?_, fun q hq => ?_⟩
      · rw [g8 14 (by decide) (by decide) (by decide) (by decide)]
        rcases x4 l hl with h | ⟨q, h1, h2⟩
        · exact Or.inl h
        · exact Or.inr ⟨q, by omega, h2⟩
      · rw [g10]
        by_cases c : q = nq
        · rw [c, upd_eq']; exact hPar
        · rw [upd_ne' c]; exact x5 q (by omega)
    have t1 := g2.1
    have t2 := g2.2.1
    obtain ⟨D, rfl⟩ : ∃ D', D = D' + 1 := ⟨D - 1, by omega⟩
    -- the component up to the inner items
    have compH : ∀ (tg : Nat → Nat × Nat) (H : hH) (la qa : Nat) (aL aE aB aI : Nat → Nat) (bc bk c29 k30 n' : Nat) (Qt : Nat → hH → Prop) (Qr : hH → Prop), HP T t r ta h0 tg0 tg H la qa aL aE aB aI nl nq ch dp (M.2.2 12) (M.2.2 13) (M.2.2 16) dq cm f to kd v → ∀ c k' : Nat, c ≤ bc → k' ≤ bk → c29 + 3 ≤ c → k30 + 7 + 2 * nq ≤ k' →
        (∀ tg1 H1 qa1 aB1 aI1, HP T t r ta h0 tg0 tg1 H1 la qa1 aL aE aB1 aI1 nl (nq + 1) (va_up ch (nq + 1) []) dp (M1.2.2 12) (M1.2.2 13) (M1.2.2 16) (va_up dq nq d) (va_up cm nq m) f1 to1 kd1 v1' → (∀ i, i ≤ nq → aB1 i = aB i) → fX4_items_0 N (fX4_itemsD N D) Qt (endP N Qt (fun v_15 S_14 => fX4_items_42 N (fX4_itemsD N (D + 1)) Qt Qr (fX4_items_0 N (fX4_itemsD N (D + 1)) Qt Qr n') S_14 (bc - c) (bk - k') r (aB k) (nI d) (nI m) v_15 (aB k)) r (aB1 (nq + 1)) (c - 3 - c29) (k' - 7 - 2 * nq - k30)) N H1 c29 k30 r (aB1 (nq + 1)) (nI (d + 1)) (nI (m * wn))) →
        fX4_items_0 N (fX4_itemsD N (D + 1)) Qt Qr (n' + 1) H bc bk r (aB k) (nI d) (nI m) := by
      intro tg H la qa aL aE aB aI bc bk c29 k30 n' Qt Qr hP c k' hc hk' hc2 hk2 hin
      have hP0 := hP
      obtain ⟨p1, p2, p3, p4, p5⟩ := hP0
      have p50 := p5
      obtain ⟨-, ⟨a1, a2, fq, m0, a3, a4, a5, a6, a7⟩, -, dd⟩ := p50
      have har : qa ≠ r := fun e => by rw [e, p4] at a1; cases a1
      rw [← up_self p1]
      refine it_loop p2 hne v1 v2 hN w1.1 w1.2 ⟨c, k', hc, hk', ?_⟩
      refine g13 _ H la qa c k' c29 k30 m0 _ _ fq Qt _ p2 p3.FR har a2 a3 a4 a5 a6 (fun i hi y hy => ?_) hc2 hk2 (fun q ax qa' S' y1 y2 y3 y4 y5 y6 y7 y8 y9 y10 y11 => ?_)
      · rw [a7 i hi] at hy
        obtain ⟨k1, -, -, -, k5, -⟩ := dd (i + 1) (by omega)
        rw [← Option.some.inj hy]
        exact ⟨_, (fun e => by rw [e, p4] at k1; cases k1), k5⟩
      · have HL := HP.loop (of' := M1.2.2 16) (dq' := va_up dq nq d) (cm' := va_up cm nq m) hP hr0 hne y1 y2 y3 y6 y7 (by rw [show M1.2.2 16 nq = w from by rw [g9]; exact upd_eq', show va_up dq nq d nq = d from up_eq, show va_up cm nq m nq = m from up_eq]; exact y8) y9 a3 y10 y11 (fun i hi => ⟨by rw [g9]; exact upd_ne' (by omega), up_ne (by omega), up_ne (by omega)⟩) f1 to1 kd1 v1'
        rw [← g8 12 (by decide) (by decide) (by decide) (by decide), ← g8 13 (by decide) (by decide) (by decide) (by decide)] at HL
        have := hin _ _ _ _ _ HL (fun i hi => up_ne (by omega))
        rw [show va_up aB (nq + 1) q (nq + 1) = q from up_eq] at this
        rw [hwn, pk_mul]
        exact this
    rcases ih (by omega) M1 nl (nq + 1) _ tm dp _ _ .leaf nl (nq + 1) (nI nq) (d + 1) (m * wn) (nq + 1) (rw + 1) (rw + 1) f1 to1 kd1 v1' D (by omega) (by omega) PI W1 (Or.inr ⟨nq, Nat.lt_succ_self _, rfl⟩) with ⟨M2, nl2, nq2, ch2, tm2, dp2, dq2, cm2, b, rw2, f2, to2, kd2, v2', j2, i1, i2, i3, i4, i5, i6, iW, i7, i8, i9, i10⟩ | ⟨M2, c, pl, j2, i1, i2, i3, i4, i4', i5⟩
    rotate_left
    · -- a fault within
      refine Or.inr ⟨M2, c, pl, j2 + 1, fun n' kx => ?_, by omega, i3, K1.trans i4, i4', fun tg H la qa aL aE aB aI bc bk n' Qt Qr hP hn b1 b2 b3 => ?_⟩
      · rw [← Nat.add_assoc, p34_step kx s30 hs28 g0]
        exact i1 n' kx
      · obtain ⟨n', rfl⟩ : ∃ x, n' = x + 1 := ⟨n' - 1, by omega⟩
        refine compH tg H la qa aL aE aB aI bc bk (bc - 3) (bk - 7 - 2 * nq) n' Qt Qr hP bc bk (Nat.le_refl _) (Nat.le_refl _) (by omega) (by omega) (fun tg1 H1 qa1 aB1 aI1 hP1 hB1 => ?_)
        exact i5 tg1 H1 la qa1 aL aE aB1 aI1 (bc - 3) (bk - 7 - 2 * nq) N Qt _ hP1 (by omega) (by omega) (by omega) b3
    have P2 := i6
    obtain ⟨z1, z2, z3, z4, z5, z6, z7, z8, z9, z10, z11, z12, z13, z14, z15, z16, z17, z18, z19, z20⟩ := P2
    have hop : M2.2.2 18 d = nI nq := by
      rw [i7.2.2.1 d (by omega), g11]
      exact upd_eq'
    have zt2 := z3.1
    have zt3 := z3.2.1
    rcases end_b (ta := ta) (r := r) (h0 := h0) (N := N) (q := nq) hne hr0 hN z1 z2 z3 z6 c4 hop (by omega) z7 (by omega) ⟨i8, i9⟩ with ⟨M3, f3, to3, kd3, v3', e0, e1, e2, e3, e4, e4', e5, e6, e7, e8, e9, e10⟩ | ⟨M3, c, pl, e1, e2, e3, e3', e4⟩
    rotate_left
    · -- no end
      refine Or.inr ⟨M3, c, pl, 2 + (j2 + 1), fun n' kx => ?_, by omega, e2, (K1.trans i7.2.2.2.2.2).trans e3, ⟨nl2, nq2, e3' nl2 nq2 iW⟩, fun tg H la qa aL aE aB aI bc bk n' Qt Qr hP hn b1 b2 b3 => ?_⟩
      · rw [← Nat.add_assoc, ← Nat.add_assoc, p34_step kx s30 hs28 g0, i1 (n' + 2) kx]
        exact e1 n' kx
      · obtain ⟨n', rfl⟩ : ∃ x, n' = x + 1 := ⟨n' - 1, by omega⟩
        refine compH tg H la qa aL aE aB aI bc bk (4 * ((nl2 + nq2) - (nl + (nq + 1)))) (300 * ((nl2 + nq2) - (nl + (nq + 1)))) n' Qt Qr hP bc bk (Nat.le_refl _) (Nat.le_refl _) (by omega) (by omega) (fun tg1 H1 qa1 aB1 aI1 hP1 hB1 => ?_)
        refine i10 tg1 H1 la qa1 aL aE aB1 aI1 _ _ N Qt _ hP1 (by omega) (Nat.le_refl _) (Nat.le_refl _) (fun tg2 H2 qa2 aL2 aE2 aB2 aI2 hP2 hB2 => ?_)
        obtain ⟨p1, p2, p3, p4, p5⟩ := hP2
        rw [← up_self p1]
        exact e4 H2 la qa2 _ _ _ _ _ Qt _ p2 p3.FR (by omega) (by omega) b3
    have h28 : ¬ M2.1 28 = 0 := by rw [z2.2.2.1, e0]; decide
    obtain ⟨P3, A3⟩ := P.close c4 hwn hw1 hw2 K1 g8 g9 g10 g11 g12 i6 i7 i5 e2 e3 e4 e5 e6 e7 e8 e9
    have W3 : WDM M3 nl2 nq2 := iW.of (e5 11 (by omega) (by decide) (by decide)) (e8 14 (by decide)) (e8 17 (by decide))
    have hPar2 : par = -4 ∨ ∃ q, q < nq2 ∧ par = nI q := by
      rcases hPar with h | ⟨q, h1, h2⟩
      · exact Or.inl h
      · exact Or.inr ⟨q, by omega, h2⟩
    have et1 := e3.1
    have et2 := e3.2.1
    -- a whole loop, then the rest
    have comp : ∀ (tg : Nat → Nat × Nat) (H : hH) (la qa : Nat) (aL aE aB aI : Nat → Nat) (bc bk n' : Nat) (Qt : Nat → hH → Prop) (Qr : hH → Prop), HP T t r ta h0 tg0 tg H la qa aL aE aB aI nl nq ch dp (M.2.2 12) (M.2.2 13) (M.2.2 16) dq cm f to kd v → n < N → 4 * ((nl2 + nq2) - (nl + nq)) ≤ bc → 300 * ((nl2 + nq2) - (nl + nq)) ≤ bk →
        (∀ tg1 H1 qa1 aL1 aE1 aB1 aI1, HP T t r ta h0 tg0 tg1 H1 la qa1 aL1 aE1 aB1 aI1 nl2 nq2 (va_up ch2 k (ch2 k ++ [(true, nq)])) dp2 (M3.2.2 12) (M3.2.2 13) (M3.2.2 16) dq2 cm2 f3 to3 kd3 v3' → (∀ i, i ≤ nq → aB1 i = aB i) → fX4_items_0 N (fX4_itemsD N (D + 1)) Qt Qr n' H1 (bc - 4 * ((nl2 + nq2) - (nl + nq))) (bk - 300 * ((nl2 + nq2) - (nl + nq))) r (aB k) (nI d) (nI m)) → fX4_items_0 N (fX4_itemsD N (D + 1)) Qt Qr (n' + 1) H bc bk r (aB k) (nI d) (nI m) := by
      intro tg H la qa aL aE aB aI bc bk n' Qt Qr hP hnN' b1 b2 hk0
      refine compH tg H la qa aL aE aB aI bc bk (4 * ((nl2 + nq2) - (nl + (nq + 1)))) (300 * ((nl2 + nq2) - (nl + (nq + 1)))) n' Qt Qr hP (4 * ((nl2 + nq2) - (nl + (nq + 1))) + 3) (300 * ((nl2 + nq2) - (nl + (nq + 1))) + 7 + 2 * nq) (by omega) (by omega) (Nat.le_refl _) (Nat.le_refl _) (fun tg1 H1 qa1 aB1 aI1 hP1 hB1 => ?_)
      refine i10 tg1 H1 la qa1 aL aE aB1 aI1 _ _ N Qt _ hP1 hnN' (Nat.le_refl _) (Nat.le_refl _) (fun tg2 H2 qa2 aL2 aE2 aB2 aI2 hP2 hB2 => ?_)
      have hP20 := hP2
      obtain ⟨p1, p2, p3, p4, p5⟩ := hP20
      have HT := hP2.tok hr0 hne f3 to3 kd3 v3'
      rw [← up_self p1]
      refine e10 H2 la qa2 _ _ _ _ _ Qt _ p2 p3.FR ?_
      rw [← e8 12 (by decide), ← e8 13 (by decide), ← e8 16 (by decide)] at HT
      unfold fX4_items_42
      have hBk : aB2 k = aB k := (hB2 k (by omega)).trans (hB1 k (by omega))
      have hb5 := (HT.2.2.2.2.2.2.2 k (by omega)).2.2.2.2.1
      rw [hBk] at hb5
      have hlen2 : (ch2 k).length < nl2 + nq2 := by
        have := (i7.2.2.2.2.1 k (by omega) (by omega)).trans (up_ne (f := ch) (v := []) (show k ≠ nq + 1 by omega))
        rw [this, q15]
        omega
      refine ⟨?_, 1, 293 - 2 * nq, by omega, by omega, ?_⟩
      · rcases bC_68 k with h | h
        · rw [h] at hb5; exact Or.inl ⟨_, hb5⟩
        · rw [h] at hb5; exact Or.inr ⟨_, hb5⟩
      · have hq9 : aB1 (nq + 1) = (if (true, nq).1 = true then aB2 ((true, nq).2 + 1) else aL2 (true, nq).2) := by
          show aB1 (nq + 1) = aB2 (nq + 1)
          exact (hB2 (nq + 1) (by omega)).symm
        have := HP.add (y := (true, nq)) (c := 1) (kk := 293 - 2 * nq) (Qt := Qt) (Qr := fun S_18 => fX4_items_0 N (fX4_itemsD N (D + 1)) Qt Qr n' S_18 (bc - (4 * ((nl2 + nq2) - (nl + (nq + 1))) + 3) - 1) (bk - (300 * ((nl2 + nq2) - (nl + (nq + 1))) + 7 + 2 * nq) - (293 - 2 * nq)) r (aB k) (nI d) (nI m)) HT (show k ≤ nq2 by omega) ⟨fun _ => show nq < nq2 by omega, fun h => (by cases h)⟩ hlen2 (by omega) (Nat.le_refl _) (by omega) (fun S' tg' aI' hP' => ?_)
        · rw [← hq9, hBk] at this
          exact this
        · rw [show bc - (4 * ((nl2 + nq2) - (nl + (nq + 1))) + 3) - 1 = bc - 4 * ((nl2 + nq2) - (nl + nq)) by omega, show bk - (300 * ((nl2 + nq2) - (nl + (nq + 1))) + 7 + 2 * nq) - (293 - 2 * nq) = bk - 300 * ((nl2 + nq2) - (nl + nq)) by omega]
          exact hk0 tg' S' qa2 aL2 aE2 aB2 aI' hP' (fun i hi => (hB2 i (by omega)).trans (hB1 i hi))
    rcases ih (by omega) M3 nl2 nq2 _ tm2 dp2 dq2 cm2 _ a p par d m k rb (rw2 + 1) f3 to3 kd3 v3' (D + 1) (by omega) hD P3 W3 hPar2 with ⟨M4, nl4, nq4, ch4, tm4, dp4, dq4, cm4, F4, rw4, f4, to4, kd4, v4', j4, u1, u2, u3, u4, u5, u6, uW, u7, u8, u9, u10⟩ | ⟨M4, c, pl, j4, u1, u2, u3, u4, u4', u5⟩
    · refine Or.inl ⟨M4, nl4, nq4, ch4, tm4, dp4, dq4, cm4, F4, rw4, f4, to4, kd4, v4', j4 + 1 + (j2 + 1), fun n' kx => ?_, by omega, by omega, by omega, by omega, u6, uW, A3.trans u7 i3 (by omega) (by omega), u8, u9, fun tg H la qa aL aE aB aI bc bk n' Qt Qr hP hn b1 b2 hQ => ?_⟩
      · rw [← Nat.add_assoc, ← Nat.add_assoc, p34_step kx s30 hs28 g0, i1 _ kx, ← Nat.add_assoc, p34_step kx z2.2.2.2.2 h28 e1]
        exact u1 n' kx
      · obtain ⟨n', rfl⟩ : ∃ x, n' = x + 1 := ⟨n' - 1, by omega⟩
        refine comp tg H la qa aL aE aB aI bc bk n' Qt Qr hP (by omega) (by omega) (by omega) (fun tg1 H1 qa1 aL1 aE1 aB1 aI1 hP1 hB1 => ?_)
        rw [← hB1 k (by omega)]
        exact u10 tg1 H1 la qa1 aL1 aE1 aB1 aI1 _ _ n' Qt Qr hP1 (by omega) (by omega) (by omega) (fun tg2 H2 qa2 aL2 aE2 aB2 aI2 hP2 hB2 => hQ tg2 H2 qa2 aL2 aE2 aB2 aI2 hP2 (fun i hi => (hB2 i (by omega)).trans (hB1 i hi)))
    · refine Or.inr ⟨M4, c, pl, j4 + 1 + (j2 + 1), fun n' kx => ?_, by omega, u3, A3.2.2.2.2.2.trans u4, u4', fun tg H la qa aL aE aB aI bc bk n' Qt Qr hP hn b1 b2 b3 => ?_⟩
      · rw [← Nat.add_assoc, ← Nat.add_assoc, p34_step kx s30 hs28 g0, i1 _ kx, ← Nat.add_assoc, p34_step kx z2.2.2.2.2 h28 e1]
        exact u1 n' kx
      · obtain ⟨n', rfl⟩ : ∃ x, n' = x + 1 := ⟨n' - 1, by omega⟩
        refine comp tg H la qa aL aE aB aI bc bk n' Qt Qr hP (by omega) (by omega) (by omega) (fun tg1 H1 qa1 aL1 aE1 aB1 aI1 hP1 hB1 => ?_)
        rw [← hB1 k (by omega)]
        exact u5 tg1 H1 la qa1 aL1 aE1 aB1 aI1 _ _ n' Qt Qr hP1 (by omega) (by omega) (by omega) b3
end
