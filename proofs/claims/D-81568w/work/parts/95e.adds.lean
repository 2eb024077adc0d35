/-! THE PROGRAM'S TEXT: rows that grow (adds) -/
set_option maxRecDepth 100000
theorem bPut_at {ci a k : Nat} {h : hH} {fs : List Value} (v : Value) (ha : h a = some (.inr (ci, fs))) (hc : ci = 6 ∨ ci = 8) (hk : k < fs.length) : bPut h a k v = some (va_up h a (some (.inr (ci, fs.set k v)))) := by
  unfold bPut
  rw [ha]
  dsimp only
  rw [if_pos ⟨hc, hk⟩]
theorem twice {n : Nat} : (2 : Int32) * nI n = nI (2 * n) := by rw [show (2 : Int32) = nI 2 from rfl, pk_mul]
/-- a loop put behind the others in the reader's row -/
theorem x_adds4 {S : hH} {r ta la qa nq m q c k : Nat} {nl f to kd v : Int32} {fq : Nat → Option Nat} {fs : List Value} {Qt : Nat → hH → Prop} {Qr : hH → Prop} (hqa : S qa = some (.inl (5, m, .inr fq))) (hm : nq ≤ m) (hm2 : 2 ≤ m) (hm3 : m ≤ 2 * nq + 2) (hn : nq ≤ 40) (har : qa ≠ r) (hqr : q ≠ r) (hq : S q = some (.inr (8, fs))) (hold : ∀ i, i < nq → ∀ y, fq i = some y → ∃ fs, y ≠ r ∧ S y = some (.inr (8, fs))) (hc : 1 ≤ c) (hk : 2 * nq ≤ k)
    (hQ : ∀ qa' S', qa' ≠ r → (qa' = qa ∨ S qa' = none) → (∃ f' m', S' qa' = some (.inl (5, m', .inr f')) ∧ nq + 1 ≤ m' ∧ 2 ≤ m' ∧ m' ≤ 2 * (nq + 1) + 2 ∧ (∀ j, j < nq → f' j = fq j) ∧ f' nq = some q) → (∀ a, a ≠ qa' → S' a = S a) → Qr (rs S' r ta la nl qa' (nI (nq + 1)) f to kd v)) :
    fX4_adds Qt Qr (rs S r ta la nl qa (nI nq) f to kd v) c k r q := by
  have put : ∀ (qa' : Nat) (S1 : hH) (m' : Nat) (f' : Nat → Option Nat) (c k : Nat), qa' ≠ r → (qa' = qa ∨ S qa' = none) → S1 qa' = some (.inl (5, m', .inr f')) → nq < m' → 2 ≤ m' → m' ≤ 2 * (nq + 1) + 2 → (∀ j, j < nq → f' j = fq j) → (∀ a, a ≠ qa' → S1 a = S a) → fX4_adds_41 Qt Qr (rs S1 r ta la nl qa' (nI nq) f to kd v) c k r q := by
    intro qa' S1 m' f' c k h1 h2 h3 h4 h5 h6 h7 h8
    have hne : q ≠ qa' := fun e => by
      rcases h2 with h2 | h2
      · rw [e, h2, hqa] at hq; cases hq
      · rw [e, h2] at hq; cases hq
    unfold fX4_adds_41
    refine ⟨_, rs_R3, _, rs_I4, _, hObj_at ((up_ne hqr).trans ((h8 q hne).trans hq)), _, hAsR_at ((up_ne h1).trans h3) h4 (by omega), ?_⟩
    rw [rs_up h1]
    refine ⟨_, rs_I4, _, rs_P4, ?_⟩
    rw [nI_1]
    refine hQ qa' _ h1 h2 ⟨_, m', up_eq, by omega, h5, h6, fun j hj => ?_, up_eq⟩ (fun a ha => (up_ne ha).trans (h8 a ha))
    rw [up_ne (by omega)]
    exact h7 j hj
  unfold fX4_adds
  refine ⟨_, rs_I4, _, rs_R3, _, hLen_at ((up_ne har).trans hqa), fun h => ?_, fun h => ?_⟩
  · have hlt : nq < m := by
      by_cases e : nq = m
      · exact absurd (by rw [e]) h
      · omega
    exact put qa S m fq c k har (Or.inl rfl) hqa hlt hm2 (by omega) (fun _ _ => rfl) (fun _ _ => rfl)
  · have he : nq = m := (nI_eq (by omega) (by omega)).mp (Decidable.not_not.mp h)
    subst he
    refine ⟨_, rs_I4, ?_⟩
    rw [twice, nI_clamp (by omega)]
    refine ⟨nI_pos (by omega), by omega, hc, hk, fun qn hqn => ?_⟩
    obtain ⟨hnr, hnS⟩ := rs_none hqn
    simp only [ec_lt]
    rw [rs_up hnr]
    have hna : qa ≠ qn := fun e => by rw [e, hnS] at hqa; cases hqa
    refine ⟨_, rs_R3, _, rs_I4, _, ⟨nq, 2 * nq, fq, fun _ => none, (up_ne har).trans ((up_ne hna).trans hqa), (up_ne hnr).trans up_eq, nI_pos (by omega), by rw [nI_clamp (by omega)]; omega, by rw [nI_clamp (by omega)]; omega, fun i hi y hy => ?_, rfl⟩, ?_⟩
    · rw [nI_clamp (by omega)] at hi
      obtain ⟨fs', y1, y2⟩ := hold i hi y hy
      have hyn : y ≠ qn := fun e => by rw [e, hnS] at y2; cases y2
      exact ⟨8, fs', rfl, (up_ne y1).trans ((up_ne hyn).trans y2)⟩
    · rw [rs_up hnr, up_up, nI_clamp (by omega)]
      refine ⟨_, rs_P3, put qn _ (2 * nq) (va_cpy fq (fun _ => none) 0 0 nq) _ _ hnr (Or.inr hnS) up_eq (by omega) (by omega) (by omega) (fun j hj => ?_) (fun a ha => up_ne ha)⟩
      rw [pk_cpy_in (by omega) (by omega)]
      congr 1
      omega
/-- an item put behind the others of a block -/
theorem x_adds7 {S : hH} {b x y ci n m c k : Nat} {rest : List Value} {f : Nat → Option Nat} {Qt : Nat → hH → Prop} {Qr : hH → Prop} (hb : S b = some (.inr (ci, .ref x :: .int (nI n) :: rest))) (hci : ci = 6 ∨ ci = 8) (hx : S x = some (.inl (6, m, .inr f))) (hm : n ≤ m) (hm2 : 2 ≤ m) (hm3 : m ≤ 200) (hn : n ≤ 60) (hy : (∃ fs, S y = some (.inr (7, fs))) ∨ (∃ fs, S y = some (.inr (8, fs)))) (hyb : y ≠ b ∨ True) (hold : ∀ i, i < n → ∀ z, f i = some z → (∃ fs, S z = some (.inr (7, fs))) ∨ (∃ fs, S z = some (.inr (8, fs)))) (hc : 1 ≤ c) (hk : 2 * n ≤ k)
    (hQ : ∀ x' S', (x' = x ∨ S x' = none) → S' b = some (.inr (ci, .ref x' :: .int (nI (n + 1)) :: rest)) → (∃ f' m', S' x' = some (.inl (6, m', .inr f')) ∧ n + 1 ≤ m' ∧ 2 ≤ m' ∧ (m' = m ∨ m' = 2 * n) ∧ (∀ j, j < n → f' j = f j) ∧ f' n = some y) → (∀ a, a ≠ b → a ≠ x' → S' a = S a) → Qr S') :
    fX7_adds Qt Qr S c k b y := by
  have hbx : b ≠ x := fun e => by rw [e, hx] at hb; cases hb
  have cls : ∀ (S1 : hH) (x' : Nat) (v1 : List Value) (z : Nat), (x' = x ∨ S x' = none) → S1 b = some (.inr (ci, v1)) → (∀ a, a ≠ b → a ≠ x' → S1 a = S a) → ((∃ fs, S z = some (.inr (7, fs))) ∨ (∃ fs, S z = some (.inr (8, fs)))) → ((∃ fs, S1 z = some (.inr (7, fs))) ∨ (∃ fs, S1 z = some (.inr (8, fs)))) := by
    intro S1 x' v1 z h1 h2 h3 h4
    have hzx : z ≠ x' := fun e => by
      rcases h1 with h1 | h1
      · rw [e, h1, hx] at h4; rcases h4 with ⟨_, h4⟩ | ⟨_, h4⟩ <;> cases h4
      · rw [e, h1] at h4; rcases h4 with ⟨_, h4⟩ | ⟨_, h4⟩ <;> cases h4
    by_cases hzb : z = b
    · subst hzb
      rcases h4 with ⟨_, h4⟩ | ⟨_, h4⟩
      · rw [hb] at h4
        have := Option.some.inj h4
        injection this with this
        have := congrArg Prod.fst this
        simp only at this
        omega
      · rw [hb] at h4
        have := Option.some.inj h4
        injection this with this
        have := congrArg Prod.fst this
        simp only at this
        subst this
        exact Or.inr ⟨_, h2⟩
    · rw [h3 z hzb hzx]
      exact h4
  have put : ∀ (x' : Nat) (S1 : hH) (m' : Nat) (f' : Nat → Option Nat) (c k : Nat), (x' = x ∨ S x' = none) → S1 b = some (.inr (ci, .ref x' :: .int (nI n) :: rest)) → S1 x' = some (.inl (6, m', .inr f')) → n < m' → 2 ≤ m' → m' ≤ 200 → (m' = m ∨ m' = 2 * n) → (∀ j, j < n → f' j = f j) → (∀ a, a ≠ b → a ≠ x' → S1 a = S a) → fX7_adds_41 Qt Qr S1 c k b y := by
    intro x' S1 m' f' c k h1 h2 h3 h4 h5 h6 h7 h8 h9
    have hbx' : b ≠ x' := fun e => by rw [e, h3] at h2; cases h2
    unfold fX7_adds_41
    refine ⟨_, bR_at h2 hci rfl, _, bI_at h2 hci rfl, cls S1 x' _ y h1 h2 h9 hy, _, hAsR_at h3 h4 (by omega), _, bI_at ((up_ne hbx').trans h2) hci rfl, _, bPut_at _ ((up_ne hbx').trans h2) hci (by show 1 < _ + 1 + 1; omega), ?_⟩
    rw [nI_1]
    refine hQ x' _ h1 up_eq ⟨_, m', (up_ne (fun e => hbx' e.symm)).trans up_eq, by omega, h5, h7, fun j hj => ?_, up_eq⟩ (fun a ha hax => (up_ne ha).trans ((up_ne hax).trans (h9 a ha hax)))
    rw [up_ne (by omega)]
    exact h8 j hj
  unfold fX7_adds
  refine ⟨_, bI_at hb hci rfl, _, bR_at hb hci rfl, _, hLen_at hx, fun h => ?_, fun h => ?_⟩
  · have hlt : n < m := by
      by_cases e : n = m
      · exact absurd (by rw [e]) h
      · omega
    exact put x S m f c k (Or.inl rfl) hb hx hlt hm2 hm3 (Or.inl rfl) (fun _ _ => rfl) (fun _ _ _ => rfl)
  · have he : n = m := (nI_eq (by omega) (by omega)).mp (Decidable.not_not.mp h)
    subst he
    refine ⟨_, bI_at hb hci rfl, ?_⟩
    rw [twice, nI_clamp (by omega)]
    refine ⟨nI_pos (by omega), by omega, hc, hk, fun xn hxn => ?_⟩
    simp only [ec_lt]
    have hxx : x ≠ xn := fun e => by rw [e, hxn] at hx; cases hx
    have hbn : b ≠ xn := fun e => by rw [e, hxn] at hb; cases hb
    have hb1 : ∀ z, va_up S xn z b = some (.inr (ci, .ref x :: .int (nI n) :: rest)) := fun z => (up_ne hbn).trans hb
    refine ⟨_, bR_at (hb1 _) hci rfl, _, bI_at (hb1 _) hci rfl, _, ⟨n, 2 * n, f, fun _ => none, (up_ne hxx).trans hx, up_eq, nI_pos (by omega), by rw [nI_clamp (by omega)]; omega, by rw [nI_clamp (by omega)]; omega, fun i hi z hz => ?_, rfl⟩, ?_⟩
    · rw [nI_clamp (by omega)] at hi
      have h4 := hold i hi z hz
      have hzn : z ≠ xn := fun e => by rw [e, hxn] at h4; rcases h4 with ⟨_, h4⟩ | ⟨_, h4⟩ <;> cases h4
      rcases h4 with ⟨fs, h4⟩ | ⟨fs, h4⟩
      · exact ⟨7, fs, Or.inl rfl, (up_ne hzn).trans h4⟩
      · exact ⟨8, fs, Or.inr rfl, (up_ne hzn).trans h4⟩
    · rw [up_up, nI_clamp (by omega)]
      refine ⟨_, bPut_at _ (hb1 _) hci (by show 0 < _ + 1; omega), put xn _ (2 * n) (va_cpy f (fun _ => none) 0 0 n) _ _ (Or.inr hxn) up_eq ((up_ne (fun e => hbn e.symm)).trans up_eq) (by omega) (by omega) (by omega) (Or.inr rfl) (fun j hj => ?_) (fun a ha hax => (up_ne ha).trans (up_ne hax))⟩
      rw [pk_cpy_in (by omega) (by omega)]
      congr 1
      omega
