/-! THE PROGRAM'S TEXT: numbers, signs, words -/
set_option maxRecDepth 100000
/-- the Model reads this text -/
def MX (T : Nat → Int32) (t : Nat) (M : sM) : Prop := t ≤ 320 ∧ (∀ i, i < t → ∃ b, b < 256 ∧ T i = nI b) ∧ M.1 25 = nI t ∧ ∀ i, i < t → M.2.2 24 i = T i
/-- the token that stands -/
def tkS (M : sM) (f to : Nat) (kd v : Int32) : Prop := M.1 26 = nI to ∧ M.1 27 = nI f ∧ M.1 28 = kd ∧ (kd = 2 → M.1 29 = v) ∧ M.1 30 = 0
def tkV (T : Nat → Int32) (t f to : Nat) (kd v : Int32) : Prop := f ≤ to ∧ to ≤ t ∧ (¬ kd = 0 → f < to) ∧ (kd = 0 → f = t) ∧ (kd = 1 → v = T f)
/-- a fault of the Model -/
def ftS (M : sM) (c : Int32) (pl : Nat) : Prop := M.1 30 = c ∧ ¬ c ≤ 0 ∧ M.1 31 = nI pl
theorem tkV_lx {T : Nat → Int32} {t f : Nat} (h : f ≤ t) : tkV T t f (lxT T t f) (lxK T t f) (lxV T t f) := by
  obtain ⟨h1, h2, h3⟩ := lxT_le (T := T) h
  refine ⟨h1, h2, h3, fun h4 => ?_, fun h4 => ?_⟩
  · by_cases c : t ≤ f
    · omega
    · unfold lxK at h4
      rw [if_neg c] at h4
      by_cases c2 : isLt (T f) = true
      · rw [if_pos c2] at h4; exact absurd h4 (by decide)
      · rw [if_neg c2] at h4
        by_cases c3 : isDg (T f) = true
        · rw [if_pos c3] at h4; exact absurd h4 (by decide)
        · rw [if_neg c3] at h4; exact absurd h4 (by decide)
  · unfold lxK at h4
    unfold lxV
    by_cases c : t ≤ f
    · rw [if_pos c] at h4; exact absurd h4 (by decide)
    · rw [if_neg c] at h4 ⊢
      by_cases c2 : isLt (T f) = true
      · rw [if_pos c2]
      · rw [if_neg c2] at h4
        by_cases c3 : isDg (T f) = true
        · rw [if_pos c3] at h4; exact absurd h4 (by decide)
        · rw [if_neg c3] at h4; exact absurd h4 (by decide)
theorem tkM.S {M M' : sM} {f to : Nat} {kd v : Int32} (h : tkM M M' f to kd v) : tkS M' f to kd v := ⟨h.2.1, h.2.2.1, h.2.2.2.1, h.2.2.2.2.1, h.2.2.2.2.2.1⟩
theorem ftM.S {M M' : sM} {c : Int32} {pl : Nat} (h : ftM M M' c pl) (hc : ¬ c ≤ 0) : ftS M' c pl := ⟨h.2.1, hc, h.2.2.1⟩
theorem MX.of {T : Nat → Int32} {t : Nat} {M M' : sM} (h : MX T t M) (h1 : M'.1 25 = M.1 25) (h2 : M'.2.2 24 = M.2.2 24) : MX T t M' := ⟨h.1, h.2.1, h1.trans h.2.2.1, fun i hi => by rw [h2]; exact h.2.2.2 i hi⟩
theorem MX.tk {T : Nat → Int32} {t : Nat} {M M' : sM} {f to : Nat} {kd v : Int32} (h : MX T t M) (h1 : tkM M M' f to kd v) : MX T t M' := h.of (h1.2.2.2.2.2.2 25 (by omega)) (by rw [h1.1])
/-- fields of the Model that only the reading of a program writes -/
def pIn (k : Nat) : Bool := [11, 15, 19, 23, 26, 27, 28, 29, 30, 31].contains k
def pAr (k : Nat) : Bool := [12, 13, 14, 16, 17, 18, 21].contains k
def KP (M M' : sM) : Prop := (∀ k, pIn k = false → M'.1 k = M.1 k) ∧ ∀ k, pAr k = false → M'.2.2 k = M.2.2 k
theorem KP.rfl' {M : sM} : KP M M := ⟨fun _ _ => rfl, fun _ _ => rfl⟩
theorem KP.trans {M1 M2 M3 : sM} (h : KP M1 M2) (h' : KP M2 M3) : KP M1 M3 := ⟨fun k hk => (h'.1 k hk).trans (h.1 k hk), fun k hk => (h'.2 k hk).trans (h.2 k hk)⟩
theorem pIn_o {k : Nat} (h : pIn k = false) : k < 26 ∨ 31 < k := by
  by_cases c : k < 26 ∨ 31 < k
  · exact c
  · exfalso
    rcases (show k = 26 ∨ k = 27 ∨ k = 28 ∨ k = 29 ∨ k = 30 ∨ k = 31 by omega) with rfl | rfl | rfl | rfl | rfl | rfl <;> cases h
theorem tkM.KP {M M' : sM} {f to : Nat} {kd v : Int32} (h : tkM M M' f to kd v) : KP M M' := ⟨fun k hk => h.2.2.2.2.2.2 k (pIn_o hk), fun k _ => by rw [h.1]⟩
theorem ftM.KP {M M' : sM} {c : Int32} {pl : Nat} (h : ftM M M' c pl) : KP M M' := ⟨fun k hk => h.2.2.2 k (pIn_o hk), fun k _ => by rw [h.1]⟩
theorem KP.mI {M : sM} {k : Nat} {v : Int32} (h : pIn k = true) : KP M (mI M k v) := ⟨fun j hj => mI_ne M v (fun e => by rw [e, h] at hj; cases hj), fun _ _ => rfl⟩
theorem KP.mA {M : sM} {k i : Nat} {v : Int32} (h : pAr k = true) : KP M (mA M k i v) := ⟨fun _ _ => rfl, fun j hj => mA_k M i v (fun e => by rw [e, h] at hj; cases hj)⟩
theorem KP.MX {T : Nat → Int32} {t : Nat} {M M' : sM} (h : KP M M') (hm : MX T t M) : MX T t M' := hm.of (h.1 25 rfl) (h.2 24 rfl)
def TK2 (M M' : sM) : Prop := M'.2 = M.2 ∧ ∀ k, (k < 26 ∨ 31 < k) → M'.1 k = M.1 k
def TK3 (M M' : sM) : Prop := (∀ a, a ≠ 13 → M'.2.2 a = M.2.2 a) ∧ ∀ k, (k < 26 ∨ 31 < k) → M'.1 k = M.1 k
theorem ftM.T2 {M M' : sM} {c : Int32} {pl : Nat} (h : ftM M M' c pl) : TK2 M M' := ⟨h.1, h.2.2.2⟩
theorem tkM.T2 {M M' : sM} {f to : Nat} {kd v : Int32} (h : tkM M M' f to kd v) : TK2 M M' := ⟨h.1, h.2.2.2.2.2.2⟩
theorem TK2.trans {M1 M2 M3 : sM} (h : TK2 M1 M2) (h' : TK2 M2 M3) : TK2 M1 M3 := ⟨h'.1.trans h.1, fun k hk => (h'.2 k hk).trans (h.2 k hk)⟩
theorem TK2.T3 {M M' : sM} (h : TK2 M M') : TK3 M M' := ⟨fun a _ => by rw [h.1], h.2⟩
theorem TK3.trans {M1 M2 M3 : sM} (h : TK3 M1 M2) (h' : TK3 M2 M3) : TK3 M1 M3 := ⟨fun a ha => (h'.1 a ha).trans (h.1 a ha), fun k hk => (h'.2 k hk).trans (h.2 k hk)⟩
/-- lines and loops stand in loops that are there -/
def WDM (M : sM) (nl nq : Nat) : Prop := M.1 11 = nI nl ∧ nl ≤ 16 ∧ nq ≤ 40 ∧ (∀ l, l < nl → M.2.2 14 l = -4 ∨ ∃ q, q < nq ∧ M.2.2 14 l = nI q) ∧ ∀ q, q < nq → M.2.2 17 q = -4 ∨ ∃ p, p < q ∧ M.2.2 17 q = nI p
theorem WDM.of {M M' : sM} {nl nq : Nat} (h : WDM M nl nq) (h1 : M'.1 11 = M.1 11) (h2 : M'.2.2 14 = M.2.2 14) (h3 : M'.2.2 17 = M.2.2 17) : WDM M' nl nq := by
  obtain ⟨a1, a2, a3, a4, a5⟩ := h
  refine ⟨h1.trans a1, a2, a3, ?_, ?_⟩
  · rw [h2]; exact a4
  · rw [h3]; exact a5
theorem TK3.W {M M' : sM} {nl nq : Nat} (h : TK3 M M') (w : WDM M nl nq) : WDM M' nl nq := w.of (h.2 11 (by omega)) (h.1 14 (by decide)) (h.1 17 (by decide))
/-- a faulted Model does nothing more -/
theorem fz_next {M : sM} {c : Int32} {pl N : Nat} (h : ftS M c pl) : fX3_next N M = some M := by
  unfold fX3_next
  rw [h.1, if_neg h.2.1]
theorem fz_ne {M : sM} {c : Int32} {pl : Nat} (h : ftS M c pl) : ¬ M.1 30 = 0 := fun e => h.2.1 (by rw [← h.1, e]; decide)
theorem fz_wants {M : sM} {c : Int32} {pl : Nat} (h : ftS M c pl) (g k : Int32) : fX3_wants M g k = some M := by
  unfold fX3_wants
  by_cases hg : g = 0
  · rw [if_neg (not_not_intro hg), if_pos (fz_ne h)]
  · rw [if_pos hg]
theorem fz_number {M : sM} {c : Int32} {pl N : Nat} (h : ftS M c pl) (lo hi : Int32) : fX3_readNumber N M lo hi = some (M.1 29, M) := by
  unfold fX3_readNumber fX3_readNumber_25 fX3_readNumber_49
  rw [if_pos (fz_ne h), if_pos (fz_ne h)]
  simp only [ec_lt]
  rw [fz_next h, Option.bind_some]
/-- a want -/
theorem m_want {M : sM} {f : Nat} (h27 : M.1 27 = nI f) (h30 : M.1 30 = 0) (g c : Int32) : (¬ g = 0 → fX3_wants M g c = some M) ∧ (g = 0 → ¬ c ≤ 0 → ∃ M', fX3_wants M g c = some M' ∧ ftM M M' c f) := by
  unfold fX3_wants
  refine ⟨fun hg => by rw [if_pos hg], fun hg hc => ?_⟩
  rw [if_neg (not_not_intro hg), h30, if_neg (by decide)]
  simp only [ec_lt]
  refine ⟨_, rfl, rfl, rfl, h27, fun k hk => ?_⟩
  rw [mI_fr hk (by decide) (by decide), mI_fr hk (by decide) (by decide)]
section
variable {T : Nat → Int32} {t r ta N : Nat} {h0 : hH}
/-- the next token on both sides -/
theorem next_b {M : sM} {p : Nat} (hX : MX T t M) (h30 : M.1 30 = 0) (h26 : M.1 26 = nI p) (hp : p ≤ t) (hne : ta ≠ r) (hr0 : h0 r = none) (hN : 400 ≤ N) :
    (∃ M' f to kd v, fX3_next N M = some M' ∧ tkM M M' f to kd v ∧ tkV T t f to kd v ∧ p ≤ f ∧ ∀ (S : hH) (la qa bc bk : Nat) (nl nq f0 kd0 v0 : Int32) (Qt : Nat → hH → Prop) (Qr : hH → Prop), TXT T t ta S → FR h0 S → Qr (rs S r ta la nl qa nq (nI f) (nI to) kd v) → fX4_next N Qt Qr (rs S r ta la nl qa nq f0 (nI p) kd0 v0) bc bk r) ∨
    (∃ M' pl, fX3_next N M = some M' ∧ ftM M M' 1 pl ∧ ∀ (S : hH) (la qa bc bk : Nat) (nl nq f0 kd0 v0 : Int32) (Qt : Nat → hH → Prop) (Qr : hH → Prop), TXT T t ta S → FR h0 S → 1 ≤ bc → 8 ≤ bk → THR h0 Qt 1 pl → fX4_next N Qt Qr (rs S r ta la nl qa nq f0 (nI p) kd0 v0) bc bk r) := by
  obtain ⟨ht, hB, h25, hT⟩ := hX
  obtain ⟨m1, m2⟩ := m_next (N := N) h25 ht hT hB h30 h26 hp hN
  have hf := lxF_le (T := T) hp
  by_cases hb : lxB T t (lxF T t p)
  · obtain ⟨M', e1, e2⟩ := m2 hb
    exact Or.inr ⟨M', _, e1, e2, fun S la qa bc bk nl nq f0 kd0 v0 Qt Qr hx hF b1 b2 b3 => x_next hx hne hF hr0 hN hp (fun h => absurd hb h) (fun _ => ⟨b1, b2, b3⟩)⟩
  · obtain ⟨M', e1, e2⟩ := m1 hb
    exact Or.inl ⟨M', _, _, _, _, e1, e2, tkV_lx hf.2, hf.1, fun S la qa bc bk nl nq f0 kd0 v0 Qt Qr hx hF hq => x_next hx hne hF hr0 hN hp (fun _ => hq) (fun h => absurd h hb)⟩
/-- a number on both sides -/
theorem number_b {M : sM} {f to : Nat} {kd v : Int32} (lo hi : Int32) (hX : MX T t M) (hk : tkS M f to kd v) (hV : tkV T t f to kd v) (hne : ta ≠ r) (hr0 : h0 r = none) (hN : 400 ≤ N) :
    (∃ M' f' to' kd' v', kd = 2 ∧ inB v.toInt64 lo.toInt64 hi.toInt64 ∧ fX3_readNumber N M lo hi = some (v, M') ∧ tkM M M' f' to' kd' v' ∧ tkV T t f' to' kd' v' ∧ to ≤ f' ∧ ∀ (S : hH) (la qa bc bk : Nat) (nl nq : Int32) (Qt : Nat → hH → Prop) (Qr : Int32 → hH → Prop), TXT T t ta S → FR h0 S → Qr v (rs S r ta la nl qa nq (nI f') (nI to') kd' v') → fX4_number N Qt Qr (rs S r ta la nl qa nq (nI f) (nI to) kd v) bc bk r lo hi) ∨
    (∃ w M' c pl, fX3_readNumber N M lo hi = some (w, M') ∧ ftS M' c pl ∧ KP M M' ∧ TK2 M M' ∧ ∀ (S : hH) (la qa bc bk : Nat) (nl nq : Int32) (Qt : Nat → hH → Prop) (Qr : Int32 → hH → Prop), TXT T t ta S → FR h0 S → 1 ≤ bc → 8 ≤ bk → THR h0 Qt c pl → fX4_number N Qt Qr (rs S r ta la nl qa nq (nI f) (nI to) kd v) bc bk r lo hi) := by
  obtain ⟨k1, k2, k3, k4, k5⟩ := hk
  obtain ⟨v1, v2, v3, -, -⟩ := hV
  by_cases c2 : kd = 2
  rotate_left
  · obtain ⟨M', e1, e2⟩ := (m_want k2 k5 0 2).2 rfl (by decide)
    have e3 := e2.S (by decide)
    refine Or.inr ⟨M'.1 29, M', 2, f, ?_, e3, e2.KP, e2.T2, fun S la qa bc bk nl nq Qt Qr hx hF b1 b2 b3 => ?_⟩
    · unfold fX3_readNumber fX3_readNumber_21 fX3_readNumber_25 fX3_readNumber_49
      rw [k5, if_neg (by decide), k3, if_pos c2, e1, Option.bind_some, if_pos (fz_ne e3)]
      simp only [ec_lt]
      rw [fz_next e3, Option.bind_some]
    · unfold fX4_number fX4_number_14
      exact ⟨_, rs_I7, fun _ => ⟨_, rs_O, 1, 8, b1, b2, x_must (hF.up hr0) rs_I5 (fun h => absurd rfl h) (fun _ => ⟨by decide, by decide, b3⟩)⟩, fun h => absurd c2 h⟩
  by_cases c3 : inB v.toInt64 lo.toInt64 hi.toInt64
  rotate_left
  · obtain ⟨M', e1, e2⟩ := (m_want k2 k5 0 3).2 rfl (by decide)
    have e3 := e2.S (by decide)
    refine Or.inr ⟨M'.1 29, M', 3, f, ?_, e3, e2.KP, e2.T2, fun S la qa bc bk nl nq Qt Qr hx hF b1 b2 b3 => ?_⟩
    · unfold fX3_readNumber fX3_readNumber_21 fX3_readNumber_25 fX3_readNumber_49
      rw [k5, if_neg (by decide), k3, if_neg (not_not_intro c2), (m_want k2 k5 1 2).1 (by decide), Option.bind_some, k5, if_neg (by decide), k4 c2, m_in, Option.bind_some, if_neg c3, e1, Option.bind_some]
      simp only [ec_lt]
      rw [fz_next e3, Option.bind_some]
    · unfold fX4_number fX4_number_14
      refine ⟨_, rs_I7, fun h => absurd c2 h, fun _ => ⟨_, rs_O, 0, 0, Nat.zero_le _, Nat.zero_le _, x_must (hF.up hr0) rs_I5 (fun _ => ⟨_, rs_I8, _, x_isIn _ _ _, _, rs_O, 1, 8, b1, b2, ?_⟩) (fun h => absurd h (by decide))⟩⟩
      rw [if_neg c3]
      exact x_must (hF.up hr0) rs_I5 (fun h => absurd rfl h) (fun _ => ⟨by decide, by decide, b3⟩)
  have red : fX3_readNumber N M lo hi = (fX3_next N M).bind fun S_2 => some (v, S_2) := by
    unfold fX3_readNumber fX3_readNumber_21 fX3_readNumber_25 fX3_readNumber_49
    rw [k5, if_neg (by decide), k3, if_neg (not_not_intro c2), (m_want k2 k5 1 2).1 (by decide), Option.bind_some, k5, if_neg (by decide), k4 c2, m_in, Option.bind_some, if_pos c3, (m_want k2 k5 1 3).1 (by decide), Option.bind_some]
    simp only [ec_lt]
    rw [k4 c2]
  rcases next_b (ta := ta) (r := r) (h0 := h0) (N := N) hX k5 k1 v2 hne hr0 hN with ⟨M', f', to', kd', v', e1, e2, e3, e4, e5⟩ | ⟨M', pl, e1, e2, e3⟩
  · refine Or.inl ⟨M', f', to', kd', v', c2, c3, by rw [red, e1, Option.bind_some], e2, e3, e4, fun S la qa bc bk nl nq Qt Qr hx hF hq => ?_⟩
    unfold fX4_number fX4_number_14
    refine ⟨_, rs_I7, fun h => absurd c2 h, fun _ => ⟨_, rs_O, 0, 0, Nat.zero_le _, Nat.zero_le _, x_must (hF.up hr0) rs_I5 (fun _ => ⟨_, rs_I8, _, x_isIn _ _ _, _, rs_O, 0, 0, Nat.zero_le _, Nat.zero_le _, ?_⟩) (fun h => absurd h (by decide))⟩⟩
    rw [if_pos c3]
    exact x_must (hF.up hr0) rs_I5 (fun _ => ⟨_, rs_I8, _, rs_O, 0, 0, Nat.zero_le _, Nat.zero_le _, e5 S la qa 0 0 nl nq _ _ _ Qt _ hx hF hq⟩) (fun h => absurd h (by decide))
  · refine Or.inr ⟨v, M', 1, pl, by rw [red, e1, Option.bind_some], e2.S (by decide), e2.KP, e2.T2, fun S la qa bc bk nl nq Qt Qr hx hF b1 b2 b3 => ?_⟩
    unfold fX4_number fX4_number_14
    refine ⟨_, rs_I7, fun h => absurd c2 h, fun _ => ⟨_, rs_O, 0, 0, Nat.zero_le _, Nat.zero_le _, x_must (hF.up hr0) rs_I5 (fun _ => ⟨_, rs_I8, _, x_isIn _ _ _, _, rs_O, 0, 0, Nat.zero_le _, Nat.zero_le _, ?_⟩) (fun h => absurd h (by decide))⟩⟩
    rw [if_pos c3]
    exact x_must (hF.up hr0) rs_I5 (fun _ => ⟨_, rs_I8, _, rs_O, 1, 8, b1, b2, e3 S la qa 1 8 nl nq _ _ _ Qt _ hx hF (by decide) (by decide) b3⟩) (fun h => absurd h (by decide))
/-- a sign on both sides; the Model's want and next behind an item -/
theorem sign_b {M : sM} {f to : Nat} {kd v : Int32} (hX : MX T t M) (hk : tkS M f to kd v) (hV : tkV T t f to kd v) (hne : ta ≠ r) (hr0 : h0 r = none) (hN : 400 ≤ N) :
    (∃ M' f' to' kd' v', kd = 3 ∧ fX3_readItem_66 N M = some M' ∧ tkM M M' f' to' kd' v' ∧ tkV T t f' to' kd' v' ∧ to ≤ f' ∧ ∀ (S : hH) (la qa bc bk : Nat) (nl nq : Int32) (Qt : Nat → hH → Prop) (Qr : hH → Prop), TXT T t ta S → FR h0 S → Qr (rs S r ta la nl qa nq (nI f') (nI to') kd' v') → fX4_sign N Qt Qr (rs S r ta la nl qa nq (nI f) (nI to) kd v) bc bk r) ∨
    (∃ M' c pl, fX3_readItem_66 N M = some M' ∧ ftS M' c pl ∧ KP M M' ∧ TK2 M M' ∧ ∀ (S : hH) (la qa bc bk : Nat) (nl nq : Int32) (Qt : Nat → hH → Prop) (Qr : hH → Prop), TXT T t ta S → FR h0 S → 1 ≤ bc → 8 ≤ bk → THR h0 Qt c pl → fX4_sign N Qt Qr (rs S r ta la nl qa nq (nI f) (nI to) kd v) bc bk r) := by
  obtain ⟨k1, k2, k3, k4, k5⟩ := hk
  obtain ⟨v1, v2, v3, -, -⟩ := hV
  by_cases c3 : kd = 3
  rotate_left
  · obtain ⟨M', e1, e2⟩ := (m_want k2 k5 0 2).2 rfl (by decide)
    have e3 := e2.S (by decide)
    refine Or.inr ⟨M', 2, f, ?_, e3, e2.KP, e2.T2, fun S la qa bc bk nl nq Qt Qr hx hF b1 b2 b3 => ?_⟩
    · unfold fX3_readItem_66 fX3_readItem_87 fX3_readItem_91
      rw [k5, if_neg (by decide), k3, if_pos c3, e1, Option.bind_some, fz_next e3, Option.bind_some]
    · unfold fX4_sign fX4_sign_14
      exact ⟨_, rs_I7, fun _ => ⟨_, rs_O, 1, 8, b1, b2, x_must (hF.up hr0) rs_I5 (fun h => absurd rfl h) (fun _ => ⟨by decide, by decide, b3⟩)⟩, fun h => absurd c3 h⟩
  have red : fX3_readItem_66 N M = fX3_next N M := by
    unfold fX3_readItem_66 fX3_readItem_87 fX3_readItem_91
    rw [k5, if_neg (by decide), k3, if_neg (not_not_intro c3), (m_want k2 k5 1 2).1 (by decide), Option.bind_some]
    cases fX3_next N M <;> rfl
  rcases next_b (ta := ta) (r := r) (h0 := h0) (N := N) hX k5 k1 v2 hne hr0 hN with ⟨M', f', to', kd', v', e1, e2, e3, e4, e5⟩ | ⟨M', pl, e1, e2, e3⟩
  · refine Or.inl ⟨M', f', to', kd', v', c3, by rw [red, e1], e2, e3, e4, fun S la qa bc bk nl nq Qt Qr hx hF hq => ?_⟩
    unfold fX4_sign fX4_sign_14
    exact ⟨_, rs_I7, fun h => absurd c3 h, fun _ => ⟨_, rs_O, 0, 0, Nat.zero_le _, Nat.zero_le _, x_must (hF.up hr0) rs_I5 (fun _ => ⟨_, rs_O, 0, 0, Nat.zero_le _, Nat.zero_le _, e5 S la qa 0 0 nl nq _ _ _ Qt _ hx hF hq⟩) (fun h => absurd h (by decide))⟩⟩
  · refine Or.inr ⟨M', 1, pl, by rw [red, e1], e2.S (by decide), e2.KP, e2.T2, fun S la qa bc bk nl nq Qt Qr hx hF b1 b2 b3 => ?_⟩
    unfold fX4_sign fX4_sign_14
    exact ⟨_, rs_I7, fun h => absurd c3 h, fun _ => ⟨_, rs_O, 0, 0, Nat.zero_le _, Nat.zero_le _, x_must (hF.up hr0) rs_I5 (fun _ => ⟨_, rs_O, 1, 8, b1, b2, e3 S la qa 1 8 nl nq _ _ _ Qt _ hx hF (by decide) (by decide) b3⟩) (fun h => absurd h (by decide))⟩⟩
/-- words -/
def isW (T : Nat → Int32) (f to i : Nat) : Prop := to - f = sLn i ∧ ∀ j, j < sLn i → T (f + j) = sCh i j
theorem x_isWord {S : hH} {la qa bc bk f to i : Nat} {nl nq kd v : Int32} {Qt : Nat → hH → Prop} {Qr : Int32 → hH → Prop} (hx : TXT T t ta S) (hne : ta ≠ r) (hi : i < 3) (h1 : f ≤ to) (h2 : to ≤ t) (hN : 400 ≤ N) (hy : kd = 1 → isW T f to i → Qr 1 (rs S r ta la nl qa nq (nI f) (nI to) kd v)) (hno : ¬ (kd = 1 ∧ isW T f to i) → Qr 0 (rs S r ta la nl qa nq (nI f) (nI to) kd v)) : fX4_isWord N i Qt Qr (rs S r ta la nl qa nq (nI f) (nI to) kd v) bc bk r := by
  have ht := hx.1
  have hlen : sLn i = 4 ∨ sLn i = 3 := by
    rcases (show i = 0 ∨ i = 1 ∨ i = 2 by omega) with rfl | rfl | rfl
    · exact Or.inl rfl
    · exact Or.inl rfl
    · exact Or.inr rfl
  have z : ∀ n x, 0 < n → Qr 0 (rs S r ta la nl qa nq (nI f) (nI to) kd v) → fX4_isWord_32 N i Qt Qr (fun S_6 bc_7 bk_8 x0_9 x2_10 => fX4_isWord_74 N i Qt Qr S_6 bc_7 bk_8 x0_9 x2_10) n (rs S r ta la nl qa nq (nI f) (nI to) kd v) bc bk r 0 x := by
    intro n x hn h
    obtain ⟨n, rfl⟩ : ∃ m, n = m + 1 := ⟨n - 1, by omega⟩
    rw [fX4_isWord_32]
    unfold fX4_isWord_74
    exact ⟨fun _ => ⟨rfl, h⟩, fun _ => ⟨fun _ => ⟨rfl, h⟩, fun h => absurd rfl h⟩⟩
  have lp : to - f = sLn i → kd = 1 → ∀ k j n, j + k = sLn i → k + 1 < n → (∀ j', j' < j → T (f + j') = sCh i j') → fX4_isWord_32 N i Qt Qr (fun S_6 bc_7 bk_8 x0_9 x2_10 => fX4_isWord_74 N i Qt Qr S_6 bc_7 bk_8 x0_9 x2_10) n (rs S r ta la nl qa nq (nI f) (nI to) kd v) bc bk r 1 (nI j) := by
    intro hl hk k
    induction k with
    | zero =>
      intro j n hj hn hp
      obtain ⟨n, rfl⟩ : ∃ m, n = m + 1 := ⟨n - 1, by omega⟩
      rw [fX4_isWord_32]
      unfold fX4_isWord_74
      have hj : j = sLn i := by omega
      subst hj
      exact ⟨fun _ => ⟨rfl, hy hk ⟨hl, hp⟩⟩, fun h => absurd (nI_le (Nat.le_refl _) (by omega)) h⟩
    | succ k ih =>
      intro j n hj hn hp
      obtain ⟨n, rfl⟩ : ∃ m, n = m + 1 := ⟨n - 1, by omega⟩
      rw [fX4_isWord_32]
      unfold fX4_isWord_67
      have hlt : j < sLn i := by omega
      refine ⟨fun h => absurd h (nI_ge hlt (by omega)), fun _ => ⟨fun h => absurd h (by decide), fun _ => ⟨nI_pos (by omega), nI_lt hlt (by omega), by rw [nI_clamp (by omega)]; exact hlt, _, rs_I5, _, rs_O, _, by rw [nI_add]; exact rs_at hx hne (by omega), fun h => ?_, fun h => ?_⟩⟩⟩
      · rw [nI_clamp (by omega), if_pos (show f + j < t by omega)] at h
        exact z n _ (by omega) (hno (fun e => h (e.2.2 j hlt).symm))
      · rw [nI_clamp (by omega), if_pos (show f + j < t by omega), Decidable.not_not] at h
        show fX4_isWord_32 N i Qt Qr _ n _ bc bk r 1 (nI j + 1)
        rw [nI_1]
        refine ih (j + 1) n (by omega) (by omega) (fun j' hj' => ?_)
        by_cases c : j' = j
        · rw [c]; exact h.symm
        · exact hp j' (by omega)
  unfold fX4_isWord fX4_isWord_28 fX4_isWord_29
  refine ⟨_, rs_I7, fun h => z N _ (by omega) (hno (fun e => h e.1)), fun h => ⟨_, rs_I6, _, rs_I5, fun h3 => ?_, fun h3 => ?_⟩⟩
  · refine z N _ (by omega) (hno (fun e => h3 ?_))
    rw [pk_sub h1, e.2.1]
    rfl
  · rw [pk_sub h1, Decidable.not_not] at h3
    have h4 : sLn i = to - f := (nI_eq (by omega) (by omega)).mp h3
    exact lp h4.symm (Decidable.not_not.mp h) (sLn i) 0 N (by omega) (by omega) (fun j' hj' => by omega)
theorem m_is {M : sM} {f to i : Nat} {a b c d n : Int32} (hX : MX T t M) (h26 : M.1 26 = nI to) (h27 : M.1 27 = nI f) (h1 : f ≤ to) (h2 : to ≤ t) (hn : n = nI (sLn i)) (hi : sLn i = 4 ∨ sLn i = 3) (ha : sCh i 0 = a) (hb : sCh i 1 = b) (hc : sCh i 2 = c) (hd : sLn i = 4 → sCh i 3 = d) : (isW T f to i → fX3_is M n a b c d = some 1) ∧ (¬ isW T f to i → fX3_is M n a b c d = some 0) := by
  obtain ⟨ht, hB, h25, hT⟩ := hX
  unfold fX3_is fX3_is_78 fX3_is_74
  rw [h26, h27, pk_sub h1, hn]
  by_cases hl : to - f = sLn i
  rotate_left
  · rw [if_pos (fun e => hl ((nI_eq (by omega) (by omega)).mp e))]
    exact ⟨fun h => absurd h.1 hl, fun _ => rfl⟩
  rw [if_neg (not_not_intro (by rw [hl]))]
  have lk : ∀ j, j < sLn i → fX3_look M (nI (f + j)) = some (T (f + j)) := fun j hj => by
    rw [m_look h25 ht (by omega), if_pos (by omega), hT _ (by omega)]
  have l0 : fX3_look M (nI f) = some (T (f + 0)) := lk 0 (by omega)
  have l1 : fX3_look M (nI f + 1) = some (T (f + 1)) := (congrArg (fX3_look M) (nI_1 f)).trans (lk 1 (by omega))
  have l2 : fX3_look M (nI f + 2) = some (T (f + 2)) := (congrArg (fX3_look M) (nI_add f 2)).trans (lk 2 (by omega))
  rw [l0, Option.bind_some, l1, Option.bind_some, l2, Option.bind_some]
  by_cases c0 : T (f + 0) = a
  rotate_left
  · rw [if_pos c0]
    exact ⟨fun h => absurd ((h.2 0 (by omega)).trans ha) c0, fun _ => rfl⟩
  rw [if_neg (not_not_intro c0)]
  by_cases c1 : T (f + 1) = b
  rotate_left
  · rw [if_pos c1]
    exact ⟨fun h => absurd ((h.2 1 (by omega)).trans hb) c1, fun _ => rfl⟩
  rw [if_neg (not_not_intro c1)]
  by_cases c2 : T (f + 2) = c
  rotate_left
  · rw [if_pos c2]
    exact ⟨fun h => absurd ((h.2 2 (by omega)).trans hc) c2, fun _ => rfl⟩
  rw [if_neg (not_not_intro c2)]
  rcases hi with hi | hi
  · rw [if_neg (by rw [hi]; decide)]
    have l3 : fX3_look M (nI f + 3) = some (T (f + 3)) := (congrArg (fX3_look M) (nI_add f 3)).trans (lk 3 (by omega))
    rw [l3, Option.bind_some]
    by_cases c3 : T (f + 3) = d
    rotate_left
    · rw [if_pos c3]
      exact ⟨fun h => absurd ((h.2 3 (by omega)).trans (hd hi)) c3, fun _ => rfl⟩
    rw [if_neg (not_not_intro c3)]
    refine ⟨fun _ => rfl, fun h => absurd ⟨hl, fun j hj => ?_⟩ h⟩
    rcases (show j = 0 ∨ j = 1 ∨ j = 2 ∨ j = 3 by omega) with rfl | rfl | rfl | rfl
    · rw [c0, ha]
    · rw [c1, hb]
    · rw [c2, hc]
    · rw [c3, hd hi]
  · rw [if_pos (by rw [hi]; decide)]
    refine ⟨fun _ => rfl, fun h => absurd ⟨hl, fun j hj => ?_⟩ h⟩
    rcases (show j = 0 ∨ j = 1 ∨ j = 2 by omega) with rfl | rfl | rfl
    · rw [c0, ha]
    · rw [c1, hb]
    · rw [c2, hc]
theorem isW_01 {f to : Nat} (h : isW T f to 0) : ¬ isW T f to 1 := fun h2 => by
  have e1 := h.2 1 (by decide)
  have e2 := h2.2 1 (by decide)
  rw [e1] at e2
  exact absurd e2 (by decide)
theorem isW_2 {f to : Nat} (h : isW T f to 2) : ¬ isW T f to 0 ∧ ¬ isW T f to 1 := by
  have e := h.1
  refine ⟨fun h2 => ?_, fun h2 => ?_⟩
  · have e2 := h2.1
    rw [e] at e2
    exact absurd e2 (by decide)
  · have e2 := h2.1
    rw [e] at e2
    exact absurd e2 (by decide)
/-- the word that stands, as the Model names it -/
theorem m_name {M : sM} {f to : Nat} (hX : MX T t M) (h26 : M.1 26 = nI to) (h27 : M.1 27 = nI f) (h1 : f ≤ to) (h2 : to ≤ t) :
    (isW T f to 0 → fX3_nameNow M = some 0) ∧ (isW T f to 1 → fX3_nameNow M = some 1) ∧ (isW T f to 2 → fX3_nameNow M = some 2) ∧ (¬ isW T f to 0 → ¬ isW T f to 1 → ¬ isW T f to 2 → fX3_nameNow M = some (-4)) := by
  have a0 := m_is (i := 0) (a := 108) (b := 105) (c := 110) (d := 101) (n := 4) hX h26 h27 h1 h2 rfl (Or.inl rfl) (by decide) (by decide) (by decide) (fun _ => by decide)
  have a1 := m_is (i := 1) (a := 108) (b := 111) (c := 111) (d := 112) (n := 4) hX h26 h27 h1 h2 rfl (Or.inl rfl) (by decide) (by decide) (by decide) (fun _ => by decide)
  have a2 := m_is (i := 2) (a := 101) (b := 110) (c := 100) (d := 0) (n := 3) hX h26 h27 h1 h2 rfl (Or.inr rfl) (by decide) (by decide) (by decide) (fun h => absurd h (by decide))
  unfold fX3_nameNow
  refine ⟨fun h => ?_, fun h => ?_, fun h => ?_, fun h0 h1 h2 => ?_⟩
  · rw [a0.1 h, Option.bind_some, if_neg (by decide)]
  · rw [a0.2 (fun h2 => isW_01 h2 h), Option.bind_some, if_pos rfl, a1.1 h, Option.bind_some, if_neg (by decide)]
  · rw [a0.2 (isW_2 h).1, Option.bind_some, if_pos rfl, a1.2 (isW_2 h).2, Option.bind_some, if_pos rfl, a2.1 h, Option.bind_some, if_neg (by decide)]
  · rw [a0.2 h0, Option.bind_some, if_pos rfl, a1.2 h1, Option.bind_some, if_pos rfl, a2.2 h2, Option.bind_some, if_pos rfl]
end
