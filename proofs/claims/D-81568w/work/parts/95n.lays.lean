/-! AFTER THE TEXT: the component lays its steps -/
set_option maxRecDepth 100000
theorem repN_count (x : Nat) (l : List Nat) : ∀ n, (repN n l).count x = n * l.count x
  | 0 => by rw [repN, Nat.zero_mul]; rfl
  | n + 1 => by rw [repN, List.count_append, repN_count x l n, Nat.succ_mul, Nat.add_comm]
/-- a block, raw -/
def bkR (S : hH) (aL aQ : Nat → Nat) (x0 : Nat) (K : List (Bool × Nat)) : Prop := ∃ ci x m f rest, S x0 = some (.inr (ci, .ref x :: .int (nI K.length) :: rest)) ∧ (ci = 6 ∨ ci = 8) ∧ S x = some (.inl (6, m, .inr f)) ∧ K.length ≤ m ∧ m ≤ 1000 ∧ ∀ j y, K[j]? = some y → f j = some (if y.1 then aQ y.2 else aL y.2)
theorem bkR.O {S : hH} {aL aQ : Nat → Nat} {x0 : Nat} {K : List (Bool × Nat)} (h : bkR S aL aQ x0 K) : bkO S aL aQ x0 K := by
  obtain ⟨ci, x, m, f, rest, h1, h2, h3, h4, h5, h6⟩ := h
  exact bkO_at h1 h2 h3 h4 h5 h6
def EVR (S : hH) (aL aE aQ : Nat → Nat) (nl nq : Nat) (ch : Nat → List (Bool × Nat)) (of_ mk : Nat → Int32) : Prop :=
  (∀ l, l < nl → ∃ A B C, S (aL l) = some (.inr (7, [.int (nI l), A, B, .ref (aE l), C])) ∧ ∃ g, S (aE l) = some (.inl (0, 8, .inl g)) ∧ ∀ e, e < 8 → g e = mk (8 * l + e)) ∧
  ∀ q, q < nq → ∃ x m f A B, S (aQ q) = some (.inr (8, [.ref x, .int (nI (ch q).length), .int (of_ q), A, B])) ∧ S x = some (.inl (6, m, .inr f)) ∧ (ch q).length ≤ m ∧ m ≤ 1000 ∧ ∀ j y, (ch q)[j]? = some y → f j = some (if y.1 then aQ y.2 else aL y.2)
section
variable {hb : hH} {aL aE aQ : Nat → Nat} {nl nq N aS : Nat} {ch : Nat → List (Bool × Nat)} {ar ou of_ tm dp tk mk : Nat → Int32} {dq cm : Nat → Nat}
theorem EVR.EV (h : EVR hb aL aE aQ nl nq ch of_ mk) : EV hb aL aE aQ nl nq ch of_ mk := by
  refine ⟨fun l hl => ?_, fun q hq => ?_⟩
  · obtain ⟨A, B, C, h1, g, h2, h3⟩ := h.1 l hl
    exact ⟨_, h1, rfl, rfl, g, h2, h3⟩
  · obtain ⟨x, m, f, A, B, h1, h2, h3, h4, h5⟩ := h.2 q hq
    exact ⟨_, h1, rfl, bkO_at h1 (Or.inr rfl) h2 h3 h4 h5⟩
/-- the heap while steps are laid: the row st, the lines' times τ -/
def LHp (hb : hH) (aL aE : Nat → Nat) (aS nl : Nat) (dp tk : Nat → Int32) (h : hH) (st : Nat → Int32) (τ : Nat → Nat) : Prop := h aS = some (.inl (0, 6000, .inl st)) ∧ (∀ l, l < nl → h (aL l) = some (.inr (7, [.int (nI l), .int (dp l), .int (tk l), .ref (aE l), .int (nI (τ l))]))) ∧ ∀ a, a ≠ aS → (∀ l, l < nl → a ≠ aL l) → h a = hb a
theorem LHp.at {h : hH} {st : Nat → Int32} {τ : Nat → Nat} (L : LHp hb aL aE aS nl dp tk h st τ) (hE : EVR hb aL aE aQ nl nq ch of_ mk) {s0 : Nat → Int32} (hS : hb aS = some (.inl (0, 6000, .inl s0))) {a : Nat} {x : hC} (hx : hb a = some x) (h1 : ∀ fs, x ≠ .inr (7, fs)) (h2 : ∀ g, x ≠ .inl (0, 6000, .inl g)) : h a = some x := by
  refine (L.2.2 a (fun e => ?_) (fun l hl e => ?_)).trans hx
  · rw [e, hS] at hx
    exact h2 s0 (Option.some.inj hx).symm
  · obtain ⟨A, B, C, h3, -⟩ := hE.1 l hl
    rw [e, h3] at hx
    exact h1 _ (Option.some.inj hx).symm
theorem LHp.evr {h : hH} {st : Nat → Int32} {τ : Nat → Nat} (L : LHp hb aL aE aS nl dp tk h st τ) (hE : EVR hb aL aE aQ nl nq ch of_ mk) {s0 : Nat → Int32} (hS : hb aS = some (.inl (0, 6000, .inl s0))) : EVR h aL aE aQ nl nq ch of_ mk := by
  refine ⟨fun l hl => ?_, fun q hq => ?_⟩
  · obtain ⟨A, B, C, h1, g, h2, h3⟩ := hE.1 l hl
    exact ⟨_, _, _, L.2.1 l hl, g, L.at hE hS h2 (fun fs e => by cases e) (fun g e => by simp at e), h3⟩
  · obtain ⟨x, m, f, A, B, h1, h2, h3⟩ := hE.2 q hq
    exact ⟨x, m, f, A, B, L.at hE hS h1 (fun fs e => by simp at e) (fun g e => by cases e), L.at hE hS h2 (fun fs e => by cases e) (fun g e => by simp at e), h3⟩
theorem LHp.bkr {h : hH} {st : Nat → Int32} {τ : Nat → Nat} (L : LHp hb aL aE aS nl dp tk h st τ) (hE : EVR hb aL aE aQ nl nq ch of_ mk) {s0 : Nat → Int32} (hS : hb aS = some (.inl (0, 6000, .inl s0))) {x0 : Nat} {K : List (Bool × Nat)} (hk : bkR hb aL aQ x0 K) : bkR h aL aQ x0 K := by
  obtain ⟨ci, x, m, f, rest, h1, h2, h3, h4⟩ := hk
  exact ⟨ci, x, m, f, rest, L.at hE hS h1 (fun fs e => by simp at e; omega) (fun g e => by cases e), h2, L.at hE hS h3 (fun fs e => by cases e) (fun g e => by simp at e), h4⟩
/-- a line laid -/
theorem lay_line {h : hH} {st : Nat → Int32} {τ : Nat → Nat} (L : LHp hb aL aE aS nl dp tk h st τ) {l s : Nat} (hl : l < nl) (hnl : nl ≤ 16) (hs : s < 6000) : ∃ h', fX8_lays h (aL l) aS (nI s) = some (nI (s + 1), h') ∧ LHp hb aL aE aS nl dp tk h' (upd st s (nI l)) (va_up τ l (τ l + 1)) := by
  obtain ⟨l1, l2, l3⟩ := L
  have hne : ∀ l, l < nl → aL l ≠ aS := fun l hl e => by
    have := l2 l hl
    rw [e, l1] at this
    cases this
  have hinj : ∀ j, j < nl → j ≠ l → aL j ≠ aL l := fun j hj hjl e => by
    have h1 := l2 j hj
    rw [e, l2 l hl] at h1
    simp only [Option.some.injEq, Sum.inr.injEq, Prod.mk.injEq, List.cons.injEq, Value.int.injEq] at h1
    exact hjl ((nI_eq (by omega) (by omega)).mp h1.2.1).symm
  unfold fX8_lays
  rw [hI_at (l2 l hl) rfl, Option.bind_some, hAsI_at l1 hs (by decide), Option.bind_some, hI_at ((up_ne (hne l hl)).trans (l2 l hl)) rfl, Option.bind_some, hPut_at _ ((up_ne (hne l hl)).trans (l2 l hl)) (by show 4 < 5; decide), Option.bind_some, nI_1, nI_1]
  refine ⟨_, rfl, (up_ne (fun e => hne l hl e.symm)).trans up_eq, fun j hj => ?_, fun a a1 a2 => (up_ne (a2 l hl)).trans ((up_ne a1).trans (l3 a a1 a2))⟩
  by_cases c : j = l
  · subst c
    rw [up_eq, up_eq]
    rfl
  · rw [up_ne c]
    exact (up_ne (hinj j hj c)).trans ((up_ne (hne j hj)).trans (l2 j hj))
theorem lays_f (hE : EVR hb aL aE aQ nl nq ch of_ mk) {s0 : Nat → Int32} (hS : hb aS = some (.inl (0, 6000, .inl s0))) (hN : 10000 ≤ N) (hnl : nl ≤ 16) : ∀ (f : Fo) (a p : Nat) (par : Int32) (d m D : Nat) (K rest : List (Bool × Nat)) (x0 s : Nat) (h : hH) (st : Nat → Int32) (τ : Nat → Nat), wF ch ar ou of_ tm dp dq cm f a p par d m → a + foNL f ≤ nl → p + foNQ f ≤ nq → 5 ≤ D + d → d ≤ 4 → bkR hb aL aQ x0 K → K = foK f ++ rest → LHp hb aL aE aS nl dp tk h st τ → s + foSt of_ f ≤ 6000 →
    ∃ h' st' τ', (∀ n kx, fX7_lays_5 N (fV_lays N D) kx (n + (foK f).length) h x0 aS (nI s) 0 = fX7_lays_5 N (fV_lays N D) kx n h' x0 aS (nI (s + foSt of_ f)) (nI (foK f).length)) ∧ LHp hb aL aE aS nl dp tk h' st' τ' ∧ (∀ i x, (foS of_ f)[i]? = some x → st' (s + i) = nI x) ∧ (∀ i, i < s → st' i = st i) ∧ ∀ l, τ' l = τ l + (foS of_ f).count l := by
  intro f
  induction f with
  | leaf =>
    intro a p par d m D K rest x0 s h st τ _ _ _ _ _ _ _ hL _
    exact ⟨h, st, τ, fun n kx => rfl, hL, fun i x hi => (by cases hi), fun _ _ => rfl, fun l => rfl⟩
  | inner sg k u i b ihi ihb =>
    intro a p par d m D K rest x0 s h st τ hw hl hq hD hd hK e hL hs
    obtain ⟨hi, hc⟩ := hw
    obtain ⟨e1, e2, e3⟩ := kid_at (f := foK i) e
    have hlen : (foK (.inner sg k u i b)).length = (foK i).length + 1 := by rw [show foK (.inner sg k u i b) = foK i ++ [(if sg = 0 then false else true, k)] from rfl, List.length_append, List.length_singleton]
    obtain ⟨D, rfl⟩ : ∃ D', D = D' + 1 := ⟨D - 1, by omega⟩
    have hk1000 := hK.O.1
    have hgt : ¬ nI K.length ≤ nI (foK i).length := nI_ge e2 (by omega)
    rcases hc with ⟨rfl, rfl, rfl, w1, w2, w3⟩ | ⟨rfl, rfl, w1, w2, w3, h3, h4, c, c1, c2, c3, hbb⟩
    · -- a line
      have hl' : a + (foNL i + 1) ≤ nl := hl
      have hs : s + (foSt of_ i + 1) ≤ 6000 := hs
      have eS : foS of_ (.inner 0 (a + foNL i) u i .leaf) = foS of_ i ++ [a + foNL i] := rfl
      obtain ⟨h1, st1, τ1, z1, z2, z3, z4, z5⟩ := ihi a p par d m (D + 1) K _ x0 s h st τ hi (by omega) hq hD hd hK e3 hL (by omega)
      obtain ⟨-, b2, arr, b3, b4⟩ := (z2.bkr hE hS hK).O
      obtain ⟨h2, y1, y2⟩ := lay_line z2 (l := a + foNL i) (s := s + foSt of_ i) (by omega) hnl (by omega)
      refine ⟨h2, _, _, fun n kx => ?_, y2, fun j x hj => ?_, fun j hj => (upd_ne' (by omega)).trans (z4 j hj), fun l => ?_⟩
      · rw [hlen, show n + ((foK i).length + 1) = (n + 1) + (foK i).length by omega, z1 (n + 1) kx, fX7_lays_5, b2, Option.bind_some, if_neg hgt, b3, Option.bind_some, b4 _ _ e1, Option.bind_some]
        have ev : fV_lays N (D + 1) h1 (aL (a + foNL i)) aS (nI (s + foSt of_ i)) = some (nI (s + foSt of_ i + 1), h2) := by
          rw [fV_lays, z2.2.1 _ (by omega)]
          dsimp only
          rw [if_pos rfl]
          exact y1
        show ec_b2 (fV_lays N (D + 1) h1 (aL (a + foNL i)) aS (nI (s + foSt of_ i))) _ = _
        rw [ev]
        show ec_lt _ _ = _
        simp only [ec_lt]
        rw [nI_1]
        rfl
      · rw [eS] at hj
        by_cases c : j < (foS of_ i).length
        · rw [List.getElem?_append_left c] at hj
          rw [foS_len] at c
          rw [upd_ne' (by omega)]
          exact z3 j x hj
        · have hj2 := (List.getElem?_eq_some_iff.mp hj).1
          rw [List.length_append, List.length_singleton] at hj2
          have : j = (foS of_ i).length := by omega
          subst this
          rw [List.getElem?_append_right (Nat.le_refl _), Nat.sub_self] at hj
          have : a + foNL i = x := Option.some.inj hj
          rw [foS_len, upd_eq', this]
      · rw [eS, List.count_append]
        by_cases c : l = a + foNL i
        · subst c
          rw [up_eq, z5, List.count_singleton_self]
          omega
        · rw [up_ne c, z5, List.count_singleton, if_neg (by simpa using fun e => c e.symm)]
          rfl
    · -- a loop
      have hl' : a + (foNL i + foNL b) ≤ nl := hl
      have hq' : p + (foNQ i + 1 + foNQ b) ≤ nq := hq
      have eS : foS of_ (.inner 1 (p + foNQ i) u i b) = foS of_ i ++ repN c (foS of_ b) := by
        show foS of_ i ++ repN (of_ (p + foNQ i)).toNatClampNeg (foS of_ b) = _
        rw [c3, nI_clamp (by omega)]
      have eT : foSt of_ (.inner 1 (p + foNQ i) u i b) = foSt of_ i + c * foSt of_ b := by
        show foSt of_ i + (of_ (p + foNQ i)).toNatClampNeg * foSt of_ b = _
        rw [c3, nI_clamp (by omega)]
      rw [eT] at hs ⊢
      obtain ⟨h1, st1, τ1, z1, z2, z3, z4, z5⟩ := ihi a p par d m (D + 1) K _ x0 s h st τ hi (by omega) (by omega) hD hd hK e3 hL (by omega)
      obtain ⟨-, b2, arr, b3, b4⟩ := (z2.bkr hE hS hK).O
      generalize hKK : p + foNQ i = Q at *
      have hQ : Q < nq := by omega
      obtain ⟨xq, mq, fq, Aq, Bq, r1, r2, r3, r4, r5⟩ := hE.2 Q hQ
      have hbk : bkR hb aL aQ (aQ Q) (ch Q) := ⟨8, xq, mq, fq, _, r1, Or.inr rfl, r2, r3, r4, r5⟩
      have hkb : (foK b).length ≤ 1000 := by rw [← h4]; omega
      -- the rounds of the loop
      have IT : ∀ (r : Nat) (s : Nat) (h : hH) (st : Nat → Int32) (τ : Nat → Nat), r ≤ c → LHp hb aL aE aS nl dp tk h st τ → s + r * foSt of_ b ≤ 6000 →
          ∃ h' st' τ', (∀ n, r < n → fX9_lays_5 N (fV_lays N D) (fun S_8 x0_9 x3_10 => fX9_lays_36 N (fV_lays N D) S_8 x0_9 x3_10) n h (aQ Q) aS (nI s) (nI (c - r)) = some (nI (s + r * foSt of_ b), h')) ∧ LHp hb aL aE aS nl dp tk h' st' τ' ∧ (∀ i x, (repN r (foS of_ b))[i]? = some x → st' (s + i) = nI x) ∧ (∀ i, i < s → st' i = st i) ∧ ∀ l, τ' l = τ l + (repN r (foS of_ b)).count l := by
        intro r
        induction r with
        | zero =>
          intro s h st τ hr hL hs
          have hE1 := hL.evr hE hS
          obtain ⟨x', m', f', A', B', q1, -⟩ := hE1.2 Q hQ
          refine ⟨h, st, τ, fun n hn => ?_, hL, fun j x hj => (by cases hj), fun _ _ => rfl, fun l => rfl⟩
          obtain ⟨n, rfl⟩ : ∃ m, n = m + 1 := ⟨n - 1, by omega⟩
          rw [fX9_lays_5, hI_at q1 rfl, Option.bind_some, c3, Nat.sub_zero, if_pos (nI_le (Nat.le_refl _) (by omega)), Nat.zero_mul, Nat.add_zero]
          rfl
        | succ r ihr =>
          intro s h st τ hr hL hs
          have hs2 : s + (foSt of_ b + r * foSt of_ b) ≤ 6000 := by
            rw [Nat.succ_mul] at hs
            omega
          have hE1 := hL.evr hE hS
          obtain ⟨x', m', f', A', B', q1, -⟩ := hE1.2 Q hQ
          have bk1 := (hL.bkr hE hS hbk).O
          have e7 : fX7_steps N h (fV_steps N h 8) (aQ Q) = some (lN (foSt of_ b)) := by
            unfold fX7_steps
            have := ev_steps (N := N) hE1.EV (by omega) b (a + foNL i) (Q + 1) (nI Q) (d + 1) (m * c) 8 (ch Q) [] (aQ Q) (N - (foK b).length - 1 + 1) 0 (fun x0_7 x1_8 => some x1_8) hbb (by omega) (by omega) (by omega) (by omega) bk1 (by rw [h4, List.append_nil])
            rw [show N - (foK b).length - 1 + 1 + (foK b).length = N by omega] at this
            rw [this, fX7_steps_4, bk1.2.1, Option.bind_some, h4, if_pos (nI_le (Nat.le_refl _) (by omega)), Int64.zero_add]
          by_cases hz : foSt of_ b = 0
          · have hS0 : foS of_ b = [] := List.length_eq_zero_iff.mp (by rw [foS_len]; exact hz)
            refine ⟨h, st, τ, fun n hn => ?_, hL, fun j x hj => ?_, fun _ _ => rfl, fun l => ?_⟩
            · obtain ⟨n, rfl⟩ : ∃ m, n = m + 1 := ⟨n - 1, by omega⟩
              rw [fX9_lays_5, hI_at q1 rfl, Option.bind_some, c3, if_neg (nI_ge (by omega) (by omega)), hObj_at q1, Option.bind_some, e7, Option.bind_some, hz, if_pos (by decide), Nat.mul_zero, Nat.add_zero]
              rfl
            · rw [hS0, repN_nil] at hj
              cases hj
            · rw [hS0, repN_nil]
              rfl
          · obtain ⟨h2, st2, τ2, y1, y2, y3, y4, y5⟩ := ihb (a + foNL i) (Q + 1) (nI Q) (d + 1) (m * c) D (ch Q) [] (aQ Q) s h st τ hbb (by omega) (by omega) (by omega) (by omega) hbk (by rw [h4, List.append_nil]) hL (by omega)
            have e8 : fX7_lays N h (fV_lays N D) (aQ Q) aS (nI s) = some (nI (s + foSt of_ b), h2) := by
              unfold fX7_lays
              have := y1 (N - (foK b).length - 1 + 1) (fun S_7 x0_8 x3_9 => some (x3_9, S_7))
              rw [show N - (foK b).length - 1 + 1 + (foK b).length = N by omega] at this
              rw [this, fX7_lays_5, ((y2.bkr hE hS hbk).O).2.1, Option.bind_some, h4, if_pos (nI_le (Nat.le_refl _) (by omega))]
            obtain ⟨h3, st3, τ3, x1, x2, x3, x4, x5⟩ := ihr (s + foSt of_ b) h2 st2 τ2 (by omega) y2 (by omega)
            refine ⟨h3, st3, τ3, fun n hn => ?_, x2, fun j x hj => ?_, fun j hj => (x4 j (by omega)).trans (y4 j hj), fun l => ?_⟩
            · obtain ⟨n, rfl⟩ : ∃ m, n = m + 1 := ⟨n - 1, by omega⟩
              have hpos : ¬ (lg_cmp (lN (foSt of_ b)) 0) ≤ 0 := by
                intro hle
                have h0 : (0 : Int64) < lN (foSt of_ b) := (pk_lLT (a := 0) (by decide) (by omega)).mpr (by omega)
                have := (lg_cmp_gt _ _).mpr h0
                exact (fa_of_lt this).2.1 hle
              rw [fX9_lays_5, hI_at q1 rfl, Option.bind_some, c3, if_neg (nI_ge (by omega) (by omega)), hObj_at q1, Option.bind_some, e7, Option.bind_some, if_neg hpos, Option.bind_some, e8]
              show ec_lt _ _ = _
              simp only [ec_lt]
              rw [nI_1, show c - (r + 1) + 1 = c - r by omega, x1 n (by omega), Nat.succ_mul]
              congr 3
              omega
            · rw [repN] at hj
              by_cases cj : j < (foS of_ b).length
              · rw [List.getElem?_append_left cj] at hj
                rw [foS_len] at cj
                rw [x4 _ (by omega)]
                exact y3 j x hj
              · rw [List.getElem?_append_right (by omega)] at hj
                have := x3 _ x hj
                rw [foS_len] at this cj
                rw [show s + foSt of_ b + (j - foSt of_ b) = s + j by omega] at this
                exact this
            · rw [x5, y5, repN, List.count_append]
              omega
      obtain ⟨h2, st2, τ2, y1, y2, y3, y4, y5⟩ := IT c (s + foSt of_ i) h1 st1 τ1 (Nat.le_refl _) z2 (by omega)
      refine ⟨h2, st2, τ2, fun n kx => ?_, y2, fun j x hj => ?_, fun j hj => (y4 j (by omega)).trans (z4 j hj), fun l => ?_⟩
      · rw [hlen, show n + ((foK i).length + 1) = (n + 1) + (foK i).length by omega, z1 (n + 1) kx, fX7_lays_5, b2, Option.bind_some, if_neg hgt, b3, Option.bind_some, b4 _ _ e1, Option.bind_some]
        obtain ⟨x', m', f', A', B', q1, -⟩ := (z2.evr hE hS).2 Q hQ
        have ev : fV_lays N (D + 1) h1 (aQ Q) aS (nI (s + foSt of_ i)) = some (nI (s + foSt of_ i + c * foSt of_ b), h2) := by
          rw [fV_lays, q1]
          dsimp only
          rw [if_neg (by decide), if_pos rfl]
          unfold fX9_lays
          have := y1 N (by omega)
          rw [Nat.sub_self] at this
          exact this
        show ec_b2 (fV_lays N (D + 1) h1 (aQ Q) aS (nI (s + foSt of_ i))) _ = _
        rw [ev]
        show ec_lt _ _ = _
        simp only [ec_lt]
        rw [nI_1, Nat.add_assoc s]
      · rw [eS] at hj
        by_cases cj : j < (foS of_ i).length
        · rw [List.getElem?_append_left cj] at hj
          rw [foS_len] at cj
          rw [y4 _ (by omega)]
          exact z3 j x hj
        · rw [List.getElem?_append_right (by omega)] at hj
          have := y3 _ x hj
          rw [foS_len] at this cj
          rw [show s + foSt of_ i + (j - foSt of_ i) = s + j by omega] at this
          exact this
      · rw [eS, List.count_append, y5, z5]
        omega
end
