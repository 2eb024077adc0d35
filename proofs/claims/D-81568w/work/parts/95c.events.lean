/-! THE PROGRAM'S TEXT: a line's events on both sides -/
set_option maxRecDepth 100000
theorem up_comm {α : Type} {f : Nat → α} {a b : Nat} {x y : α} (h : a ≠ b) : va_up (va_up f a x) b y = va_up (va_up f b y) a x := by
  funext j
  unfold va_up
  by_cases h1 : j = b
  · rw [if_pos h1, if_pos h1, if_neg (fun e => h (e.symm.trans h1))]
  · rw [if_neg h1, if_neg h1]
theorem TXT.up {T : Nat → Int32} {t ta a : Nat} {S : hH} {x : Option hC} (h : TXT T t ta S) (hne : ta ≠ a) : TXT T t ta (va_up S a x) := by
  obtain ⟨h1, h2, g, h3, h4⟩ := h
  exact ⟨h1, h2, g, (up_ne hne).trans h3, h4⟩
theorem TXT.ne {T : Nat → Int32} {t ta a : Nat} {S : hH} (h : TXT T t ta S) (ha : S a = none) : ta ≠ a := by
  obtain ⟨h1, h2, g, h3, h4⟩ := h
  intro e
  rw [e, ha] at h3
  cases h3
theorem TXT.ne2 {T : Nat → Int32} {t ta a n : Nat} {S : hH} {g : (Nat → Int32) ⊕ (Nat → Option Nat)} {k : Nat} (h : TXT T t ta S) (ha : S a = some (.inl (k, n, g))) (hk : k ≠ 2) : ta ≠ a := by
  obtain ⟨h1, h2, g, h3, h4⟩ := h
  intro e
  rw [e, ha] at h3
  have := Option.some.inj h3
  injection this with this
  have := congrArg Prod.fst this
  exact hk this
theorem rs_up {S : hH} {r ta la qa a : Nat} {nl nq f to kd v : Int32} {x : Option hC} (h : a ≠ r) : va_up (rs S r ta la nl qa nq f to kd v) a x = rs (va_up S a x) r ta la nl qa nq f to kd v := up_comm (fun e => h e.symm)
section
variable {T : Nat → Int32} {t r ta N nl : Nat} {h0 : hH}
theorem ev_b (hne : ta ≠ r) (hr0 : h0 r = none) (hN : 400 ≤ N) (hnl : nl < 16) : ∀ (k : Nat) (M : sM) (f to : Nat) (kd v told : Int32), t - to < k → MX T t M → tkS M f to kd v → tkV T t f to kd v → M.1 11 = nI nl →
    (∃ M' f' to' kd' v', (∀ n, k < n → fX3_readEvents_2 N n M told = some M') ∧ tkS M' f' to' kd' v' ∧ tkV T t f' to' kd' v' ∧ ¬ kd' = 1 ∧ f ≤ f' ∧ (∀ j, (j < 26 ∨ 31 < j) → M'.1 j = M.1 j) ∧ (∀ a, a ≠ 13 → M'.2.2 a = M.2.2 a) ∧ (∀ x, ¬ (8 * nl ≤ x ∧ x < 8 * nl + 8) → M'.2.2 13 x = M.2.2 13 x) ∧ (∀ e, e < 8 → M'.2.2 13 (8 * nl + e) = M.2.2 13 (8 * nl + e) ∨ inB (M'.2.2 13 (8 * nl + e)).toInt64 0 99) ∧
      ∀ (S : hH) (la qa bc bk q ev n : Nat) (nlI nq : Int32) (A B C D : Value) (g : Nat → Int32) (Qt : Nat → hH → Prop) (Qr : Nat → hH → Prop) (kx : hH → Nat → Nat → Nat → Nat → Prop), k < n → TXT T t ta S → FR h0 S → h0 ev = none → q ≠ r → ev ≠ r → q ≠ ev → S q = some (.inr (7, [A, B, C, .ref ev, D])) → S ev = some (.inl (0, 8, .inl g)) → (∀ e, e < 8 → g e = M.2.2 13 (8 * nl + e)) → (∀ g', (∀ e, e < 8 → g' e = M'.2.2 13 (8 * nl + e)) → kx (rs (va_up S ev (some (.inl (0, 8, .inl g')))) r ta la nlI qa nq (nI f') (nI to') kd' v') bc bk r q) → fX4_line_45 N Qt Qr kx n (rs S r ta la nlI qa nq (nI f) (nI to) kd v) bc bk r q told) ∨
    (∃ M' c pl, (∀ n, k < n → fX3_readEvents_2 N n M told = some M') ∧ ftS M' c pl ∧ KP M M' ∧ TK3 M M' ∧
      ∀ (S : hH) (la qa bc bk q ev n : Nat) (nlI nq : Int32) (A B C D : Value) (g : Nat → Int32) (Qt : Nat → hH → Prop) (Qr : Nat → hH → Prop) (kx : hH → Nat → Nat → Nat → Nat → Prop), k < n → TXT T t ta S → FR h0 S → h0 ev = none → q ≠ r → ev ≠ r → q ≠ ev → S q = some (.inr (7, [A, B, C, .ref ev, D])) → S ev = some (.inl (0, 8, .inl g)) → 1 ≤ bc → 8 ≤ bk → THR h0 Qt c pl → fX4_line_45 N Qt Qr kx n (rs S r ta la nlI qa nq (nI f) (nI to) kd v) bc bk r q told) := by
  intro k
  induction k with
  | zero => intro M f to kd v told h; omega
  | succ k ih =>
    intro M f to kd v told hk hX hS hV h11
    have hS2 := hS
    obtain ⟨s1, s2, s3, s4, s5⟩ := hS2
    have hV2 := hV
    obtain ⟨v1, v2, v3, v4, v5⟩ := hV2
    have ht := hX.1
    by_cases c1 : kd = 1
    rotate_left
    · refine Or.inl ⟨M, f, to, kd, v, fun n hn => ?_, hS, hV, c1, Nat.le_refl _, fun _ _ => rfl, fun _ _ => rfl, fun _ _ => rfl, fun _ _ => Or.inl rfl, fun S la qa bc bk q ev n nlI nq A B C D g Qt Qr kx hn hx hF hev hqr her hqe hq he hg hkx => ?_⟩
      · obtain ⟨n, rfl⟩ : ∃ m, n = m + 1 := ⟨n - 1, by omega⟩
        rw [fX3_readEvents_2, s5, if_neg (by decide), s3, if_pos c1]
      · obtain ⟨n, rfl⟩ : ∃ m, n = m + 1 := ⟨n - 1, by omega⟩
        rw [fX4_line_45]
        refine ⟨_, rs_I7, fun _ => ?_, fun h => absurd c1 h⟩
        have := hkx g hg
        rw [up_self he] at this
        exact this
    have hft : f < to := v3 (by rw [c1]; decide)
    have hvT := v5 c1
    have look : fX3_look M (nI f) = some v := by
      obtain ⟨-, -, h25, hT⟩ := hX
      rw [m_look h25 ht (by omega), if_pos (by omega), hT f (by omega), hvT]
    -- the Model up to the wants
    have mod0 : ∀ n, fX3_readEvents_2 N (n + 1) M told = (if ¬ to - f = 1 then fX3_readEvents_59 N (fX3_readEvents_2 N n) M told (v - 97) else if ¬ inB (v - 97).toInt64 0 7 then fX3_readEvents_59 N (fX3_readEvents_2 N n) M told (v - 97) else fX3_readEvents_60 N (fX3_readEvents_2 N n) M told (v - 97) 1) := by
      intro n
      rw [fX3_readEvents_2, s5, if_neg (by decide), s3, if_neg (not_not_intro c1), s2, look, Option.bind_some, s1, pk_sub v1]
      simp only [ec_lt, m_in, Option.bind_some, z01]
      by_cases c : to - f = 1
      · rw [if_neg (not_not_intro (show nI (to - f) = 1 by rw [c]; rfl)), if_neg (not_not_intro c)]
      · rw [if_pos (show ¬ nI (to - f) = 1 from fun e => c ((nI_eq (b := 1) (by omega) (by decide)).mp e)), if_pos c]
    -- faults before anything is read
    have faulted : ∀ (M' : sM) (c : Int32) (pl n : Nat) (z : Int32), ftS M' c pl → 0 < n → fX3_readEvents_89 N (fX3_readEvents_2 N n) M' told z = some M' := by
      intro M' c pl n z hf hn
      obtain ⟨n, rfl⟩ : ∃ m, n = m + 1 := ⟨n - 1, by omega⟩
      unfold fX3_readEvents_89 fX3_readEvents_129
      rw [fz_next hf, Option.bind_some, fz_number hf]
      show (if ¬ M'.1 30 = 0 then _ else _) = _
      rw [if_pos (fz_ne hf), fX3_readEvents_2, if_pos (fz_ne hf)]
    by_cases c2 : to - f = 1 ∧ inB (v - 97).toInt64 0 7
    rotate_left
    · obtain ⟨M', e1, e2⟩ := (m_want s2 s5 0 3).2 rfl (by decide)
      have e3 := e2.S (by decide)
      have f59 : ∀ n, 0 < n → fX3_readEvents_59 N (fX3_readEvents_2 N n) M told (v - 97) = some M' := fun n hn => by
        unfold fX3_readEvents_59 fX3_readEvents_60
        rw [e1, Option.bind_some, if_pos (fz_ne e3)]
        exact faulted M' 3 f n _ e3 hn
      refine Or.inr ⟨M', 3, f, fun n hn => ?_, e3, e2.KP, e2.T2.T3, fun S la qa bc bk q ev n nlI nq A B C D g Qt Qr kx hn hx hF hev hqr her hqe hq he b1 b2 b3 => ?_⟩
      · obtain ⟨n, rfl⟩ : ∃ m, n = m + 1 := ⟨n - 1, by omega⟩
        rw [mod0]
        by_cases c3 : to - f = 1
        · rw [if_neg (not_not_intro c3), if_pos (fun h => c2 ⟨c3, h⟩)]
          exact f59 n (by omega)
        · rw [if_pos c3]
          exact f59 n (by omega)
      · obtain ⟨n, rfl⟩ : ∃ m, n = m + 1 := ⟨n - 1, by omega⟩
        have f93 : fX4_line_93 N Qt Qr (fX4_line_45 N Qt Qr kx n) (rs S r ta la nlI qa nq (nI f) (nI to) kd v) bc bk r q told (v - 97) r := by
          unfold fX4_line_93 fX4_line_94
          exact ⟨_, rs_O, 1, 8, b1, b2, x_must (hF.up hr0) rs_I5 (fun h => absurd rfl h) (fun _ => ⟨by decide, by decide, b3⟩)⟩
        rw [fX4_line_45]
        refine ⟨_, rs_I7, fun h => absurd c1 h, fun _ => ⟨_, rs_I8, ?_⟩⟩
        simp only [ec_lt]
        refine ⟨_, rs_I6, _, rs_I5, fun _ => f93, fun h => ⟨_, x_isIn _ _ _, fun _ => f93, fun h2 => ?_⟩⟩
        exfalso
        rw [pk_sub v1, Decidable.not_not] at h
        exact c2 ⟨(nI_eq (b := 1) (by omega) (by decide)).mp h, Decidable.not_not.mp (fun h3 => h2 (z01.mpr h3))⟩
    obtain ⟨e, -, he7, ee⟩ := (in_lit 0 7 (by decide) (by decide)).mp c2.2
    have he8 : e < 8 := by omega
    have mod1 : ∀ n, fX3_readEvents_2 N (n + 1) M told = (if ¬ ((told >>> (nI e &&& 31)) &&& (1 : Int32)) = 0 then fX3_readEvents_85 N (fX3_readEvents_2 N n) M told (nI e) 0 else fX3_readEvents_89 N (fX3_readEvents_2 N n) M told (nI e)) := by
      intro n
      rw [mod0, if_neg (not_not_intro c2.1), if_neg (not_not_intro c2.2)]
      unfold fX3_readEvents_60
      rw [(m_want s2 s5 1 3).1 (by decide), Option.bind_some, s5, if_neg (by decide), ee]
      by_cases c : ((told >>> (nI e &&& 31)) &&& (1 : Int32)) = 0
      · rw [if_neg (not_not_intro c), if_neg (not_not_intro c)]
        unfold fX3_readEvents_85
        rw [(m_want s2 s5 1 4).1 (by decide), Option.bind_some]
      · rw [if_pos c, if_pos c]
    -- the component up to the second must
    have comp1 : ∀ (S : hH) (la qa bc bk q n : Nat) (nlI nq : Int32) (Qt : Nat → hH → Prop) (Qr : Nat → hH → Prop) (kx : hH → Nat → Nat → Nat → Nat → Prop), FR h0 S → (¬ ((told >>> (nI e &&& 31)) &&& (1 : Int32)) = 0 → fX4_line_113 N Qt Qr (fX4_line_45 N Qt Qr kx n) (rs S r ta la nlI qa nq (nI f) (nI to) kd v) bc bk r q told (nI e) 0 r) → (((told >>> (nI e &&& 31)) &&& (1 : Int32)) = 0 → fX4_line_113 N Qt Qr (fX4_line_45 N Qt Qr kx n) (rs S r ta la nlI qa nq (nI f) (nI to) kd v) bc bk r q told (nI e) 1 r) → fX4_line_45 N Qt Qr kx (n + 1) (rs S r ta la nlI qa nq (nI f) (nI to) kd v) bc bk r q told := by
      intro S la qa bc bk q n nlI nq Qt Qr kx hF y1 y2
      rw [fX4_line_45]
      refine ⟨_, rs_I7, fun h => absurd c1 h, fun _ => ⟨_, rs_I8, ?_⟩⟩
      simp only [ec_lt]
      refine ⟨_, rs_I6, _, rs_I5, fun h => ?_, fun _ => ⟨_, x_isIn _ _ _, fun h => absurd c2.2 (z01.mp h), fun _ => ?_⟩⟩
      · rw [pk_sub v1] at h
        exact absurd (show nI (to - f) = 1 by rw [c2.1]; rfl) h
      · rw [ee]
        unfold fX4_line_94
        exact ⟨_, rs_O, 0, 0, Nat.zero_le _, Nat.zero_le _, x_must (hF.up hr0) rs_I5 (fun _ => ⟨fun h => y1 h, fun h => y2 (Decidable.not_not.mp h)⟩) (fun h => absurd h (by decide))⟩
    by_cases c3 : ((told >>> (nI e &&& 31)) &&& (1 : Int32)) = 0
    rotate_left
    · obtain ⟨M', e1, e2⟩ := (m_want s2 s5 0 4).2 rfl (by decide)
      have e3 := e2.S (by decide)
      refine Or.inr ⟨M', 4, f, fun n hn => ?_, e3, e2.KP, e2.T2.T3, fun S la qa bc bk q ev n nlI nq A B C D g Qt Qr kx hn hx hF hev hqr her hqe hq he b1 b2 b3 => ?_⟩
      · obtain ⟨n, rfl⟩ : ∃ m, n = m + 1 := ⟨n - 1, by omega⟩
        rw [mod1, if_pos c3]
        unfold fX3_readEvents_85
        rw [e1, Option.bind_some]
        exact faulted M' 4 f n _ e3 (by omega)
      · obtain ⟨n, rfl⟩ : ∃ m, n = m + 1 := ⟨n - 1, by omega⟩
        refine comp1 S la qa bc bk q n nlI nq Qt Qr kx hF (fun _ => ?_) (fun h => absurd h c3)
        unfold fX4_line_113
        exact ⟨_, rs_O, 1, 8, b1, b2, x_must (hF.up hr0) rs_I5 (fun h => absurd rfl h) (fun _ => ⟨by decide, by decide, b3⟩)⟩
    have mod2 : ∀ n, fX3_readEvents_2 N (n + 1) M told = fX3_readEvents_89 N (fX3_readEvents_2 N n) M told (nI e) := fun n => by rw [mod1, if_neg (not_not_intro c3)]
    -- the next token
    rcases next_b (ta := ta) (r := r) (h0 := h0) (N := N) hX s5 s1 v2 hne hr0 hN with ⟨M2, f2, to2, kd2, w2, n1, n2, n3, n4, n5⟩ | ⟨M', pl, n1, n2, n3⟩
    rotate_left
    · have e3 := n2.S (by decide)
      refine Or.inr ⟨M', 1, pl, fun n hn => ?_, e3, n2.KP, n2.T2.T3, fun S la qa bc bk q ev n nlI nq A B C D g Qt Qr kx hn hx hF hev hqr her hqe hq he b1 b2 b3 => ?_⟩
      · obtain ⟨n, rfl⟩ : ∃ m, n = m + 1 := ⟨n - 1, by omega⟩
        obtain ⟨n, rfl⟩ : ∃ m, n = m + 1 := ⟨n - 1, by omega⟩
        rw [mod2]
        unfold fX3_readEvents_89 fX3_readEvents_129
        rw [n1, Option.bind_some, fz_number e3]
        show (if ¬ M'.1 30 = 0 then _ else _) = _
        rw [if_pos (fz_ne e3), fX3_readEvents_2, if_pos (fz_ne e3)]
      · obtain ⟨n, rfl⟩ : ∃ m, n = m + 1 := ⟨n - 1, by omega⟩
        refine comp1 S la qa bc bk q n nlI nq Qt Qr kx hF (fun h => absurd c3 h) (fun _ => ?_)
        unfold fX4_line_113
        refine ⟨_, rs_O, 0, 0, Nat.zero_le _, Nat.zero_le _, x_must (hF.up hr0) rs_I5 (fun _ => ?_) (fun h => absurd h (by decide))⟩
        exact ⟨_, rs_O, 1, 8, b1, b2, n3 S la qa 1 8 nlI nq _ _ _ Qt _ hx hF (by decide) (by decide) b3⟩
    have X2 := hX.tk n2
    -- the number
    rcases number_b (ta := ta) (r := r) (h0 := h0) (N := N) 0 99 X2 n2.S n3 hne hr0 hN with ⟨M3, f3, to3, kd3, w3, d1, d2, d3, d4, d5, d6, d7⟩ | ⟨w, M', c, pl, d1, d2, d3, d3', d4⟩
    rotate_left
    · refine Or.inr ⟨M', c, pl, fun n hn => ?_, d2, n2.KP.trans d3, (n2.T2.trans d3').T3, fun S la qa bc bk q ev n nlI nq A B C D g Qt Qr kx hn hx hF hev hqr her hqe hq he b1 b2 b3 => ?_⟩
      · obtain ⟨n, rfl⟩ : ∃ m, n = m + 1 := ⟨n - 1, by omega⟩
        obtain ⟨n, rfl⟩ : ∃ m, n = m + 1 := ⟨n - 1, by omega⟩
        rw [mod2]
        unfold fX3_readEvents_89 fX3_readEvents_129
        rw [n1, Option.bind_some, d1]
        show (if ¬ M'.1 30 = 0 then _ else _) = _
        rw [if_pos (fz_ne d2), fX3_readEvents_2, if_pos (fz_ne d2)]
      · obtain ⟨n, rfl⟩ : ∃ m, n = m + 1 := ⟨n - 1, by omega⟩
        refine comp1 S la qa bc bk q n nlI nq Qt Qr kx hF (fun h => absurd c3 h) (fun _ => ?_)
        unfold fX4_line_113
        refine ⟨_, rs_O, 0, 0, Nat.zero_le _, Nat.zero_le _, x_must (hF.up hr0) rs_I5 (fun _ => ?_) (fun h => absurd h (by decide))⟩
        refine ⟨_, rs_O, 0, 0, Nat.zero_le _, Nat.zero_le _, n5 S la qa 0 0 nlI nq _ _ _ Qt _ hx hF ⟨ev, hR_at ((up_ne hqr).trans hq) rfl, _, rs_O, 1, 8, b1, b2, ?_⟩⟩
        exact d4 S la qa 1 8 nlI nq Qt _ hx hF (by decide) (by decide) b3
    have h11' : M3.1 11 = nI nl := (d4.2.2.2.2.2.2 11 (by omega)).trans ((n2.2.2.2.2.2.2 11 (by omega)).trans h11)
    have hfr3 : ∀ j, (j < 26 ∨ 31 < j) → M3.1 j = M.1 j := fun j hj => (d4.2.2.2.2.2.2 j hj).trans (n2.2.2.2.2.2.2 j hj)
    have h22 : M3.2 = M.2 := d4.1.trans n2.1
    have hto : to < to3 := by
      have := n3.2.2.1 (by rw [d1]; decide)
      have := d5.1
      omega
    have n31 := n3.1
    have d51 := d5.1
    have d52 := d5.2.1
    have mod3 : ∀ n, fX3_readEvents_2 N (n + 1) M told = fX3_readEvents_2 N n (mA M3 13 (8 * nl + e) w2) (told ||| ((1 : Int32) <<< (nI e &&& 31))) := by
      intro n
      rw [mod2]
      unfold fX3_readEvents_89 fX3_readEvents_129
      rw [n1, Option.bind_some, d3]
      show (if ¬ M3.1 30 = 0 then _ else _) = _
      rw [if_neg (not_not_intro d4.2.2.2.2.2.1), h11']
      simp only [ec_lt]
      rw [show (8 : Int32) * nI nl + nI e = nI (8 * nl + e) from by rw [show (8 : Int32) = nI 8 from rfl, pk_mul, nI_add], as_at (by omega) (by decide), Option.bind_some]
    have comp2 : ∀ (S : hH) (la qa bc bk q ev n : Nat) (nlI nq : Int32) (A B C D : Value) (g : Nat → Int32) (Qt : Nat → hH → Prop) (Qr : Nat → hH → Prop) (kx : hH → Nat → Nat → Nat → Nat → Prop), TXT T t ta S → FR h0 S → q ≠ r → ev ≠ r → S q = some (.inr (7, [A, B, C, .ref ev, D])) → S ev = some (.inl (0, 8, .inl g)) → fX4_line_45 N Qt Qr kx n (rs (va_up S ev (some (.inl (0, 8, .inl (upd g e w2))))) r ta la nlI qa nq (nI f3) (nI to3) kd3 w3) bc bk r q (told ||| ((1 : Int32) <<< (nI e &&& 31))) → fX4_line_45 N Qt Qr kx (n + 1) (rs S r ta la nlI qa nq (nI f) (nI to) kd v) bc bk r q told := by
      intro S la qa bc bk q ev n nlI nq A B C D g Qt Qr kx hx hF hqr her hq he hk
      refine comp1 S la qa bc bk q n nlI nq Qt Qr kx hF (fun h => absurd c3 h) (fun _ => ?_)
      unfold fX4_line_113
      refine ⟨_, rs_O, 0, 0, Nat.zero_le _, Nat.zero_le _, x_must (hF.up hr0) rs_I5 (fun _ => ?_) (fun h => absurd h (by decide))⟩
      refine ⟨_, rs_O, 0, 0, Nat.zero_le _, Nat.zero_le _, n5 S la qa 0 0 nlI nq _ _ _ Qt _ hx hF ⟨ev, hR_at ((up_ne hqr).trans hq) rfl, _, rs_O, 0, 0, Nat.zero_le _, Nat.zero_le _, ?_⟩⟩
      refine d7 S la qa 0 0 nlI nq Qt _ hx hF ⟨_, hAsI_at ((up_ne her).trans he) he8 (by decide), ?_⟩
      rw [rs_up her]
      exact hk
    have X4 : MX T t (mA M3 13 (8 * nl + e) w2) := (X2.tk d4).of rfl (mA_k M3 _ _ (by decide))
    have S4 : tkS (mA M3 13 (8 * nl + e) w2) f3 to3 kd3 w3 := d4.S
    rcases ih (mA M3 13 (8 * nl + e) w2) f3 to3 kd3 w3 (told ||| ((1 : Int32) <<< (nI e &&& 31))) (by omega) X4 S4 d5 h11' with ⟨M', f', to', kd', v', i1, i2, i3, i4, i5, i6, i7, i8, i9, i10⟩ | ⟨M', c, pl, i1, i2, i3, i3', i4⟩
    · refine Or.inl ⟨M', f', to', kd', v', fun n hn => ?_, i2, i3, i4, by omega, fun j hj => (i6 j hj).trans (hfr3 j hj), fun a ha => (i7 a ha).trans ((mA_k M3 _ _ ha).trans (by rw [h22])), fun x hx => (i8 x hx).trans ((mA_ne M3 13 w2 (fun e' => hx (by omega))).trans (by rw [h22])), fun e' he' => ?_, fun S la qa bc bk q ev n nlI nq A B C D g Qt Qr kx hn hx hF hev hqr her hqe hq he hg hkx => ?_⟩
      · obtain ⟨n, rfl⟩ : ∃ m, n = m + 1 := ⟨n - 1, by omega⟩
        rw [mod3]
        exact i1 n (by omega)
      · rcases i9 e' he' with h | h
        · by_cases c : e' = e
          · right
            rw [h, c, mA_eq]
            exact d2
          · left
            rw [h, mA_ne M3 13 w2 (by omega), h22]
        · exact Or.inr h
      · obtain ⟨n, rfl⟩ : ∃ m, n = m + 1 := ⟨n - 1, by omega⟩
        refine comp2 S la qa bc bk q ev n nlI nq A B C D g Qt Qr kx hx hF hqr her hq he ?_
        refine i10 (va_up S ev (some (.inl (0, 8, .inl (upd g e w2))))) la qa bc bk q ev n nlI nq A B C D (upd g e w2) Qt Qr kx (by omega) (hx.up (hx.ne2 he (by decide))) (hF.up hev) hev hqr her hqe ((up_ne hqe).trans hq) up_eq (fun e' he' => ?_) (fun g' hg' => ?_)
        · by_cases c : e' = e
          · rw [c, upd_eq', mA_eq]
          · rw [upd_ne' c, mA_ne M3 13 w2 (by omega), h22]
            exact hg e' he'
        · rw [up_up]
          exact hkx g' hg'
    · refine Or.inr ⟨M', c, pl, fun n hn => ?_, i2, (n2.KP.trans d4.KP).trans ((KP.mA rfl).trans i3), ((n2.T2.trans d4.T2).T3.trans ⟨fun a ha => mA_k M3 _ _ ha, fun _ _ => rfl⟩).trans i3', fun S la qa bc bk q ev n nlI nq A B C D g Qt Qr kx hn hx hF hev hqr her hqe hq he b1 b2 b3 => ?_⟩
      · obtain ⟨n, rfl⟩ : ∃ m, n = m + 1 := ⟨n - 1, by omega⟩
        rw [mod3]
        exact i1 n (by omega)
      · obtain ⟨n, rfl⟩ : ∃ m, n = m + 1 := ⟨n - 1, by omega⟩
        refine comp2 S la qa bc bk q ev n nlI nq A B C D g Qt Qr kx hx hF hqr her hq he ?_
        exact i4 (va_up S ev (some (.inl (0, 8, .inl (upd g e w2))))) la qa bc bk q ev n nlI nq A B C D (upd g e w2) Qt Qr kx (by omega) (hx.up (hx.ne2 he (by decide))) (hF.up hev) hev hqr her hqe ((up_ne hqe).trans hq) up_eq b1 b2 b3
end
