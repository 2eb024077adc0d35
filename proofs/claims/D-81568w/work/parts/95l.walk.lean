/-! AFTER THE TEXT: the Model walks along its row -/
set_option maxRecDepth 100000
def repN : Nat → List Nat → List Nat
  | 0, _ => []
  | n + 1, l => l ++ repN n l
theorem repN_len (l : List Nat) : ∀ n, (repN n l).length = n * l.length
  | 0 => by rw [repN, Nat.zero_mul]; rfl
  | n + 1 => by rw [repN, List.length_append, repN_len l n, Nat.succ_mul, Nat.add_comm]
theorem repN_nil : ∀ n, repN n [] = []
  | 0 => rfl
  | n + 1 => by rw [repN, repN_nil n]; rfl
/-- the lines in the order in which they go -/
def foS (of_ : Nat → Int32) : Fo → List Nat
  | .leaf => []
  | .inner s k _ i b => if s = 0 then foS of_ i ++ [k] else foS of_ i ++ repN (of_ k).toNatClampNeg (foS of_ b)
theorem foS_len (of_ : Nat → Int32) : ∀ f : Fo, (foS of_ f).length = foSt of_ f := by
  intro f
  induction f with
  | leaf => rfl
  | inner s k u i b ihi ihb =>
    rw [show foS of_ (.inner s k u i b) = if s = 0 then foS of_ i ++ [k] else foS of_ i ++ repN (of_ k).toNatClampNeg (foS of_ b) from rfl, show foSt of_ (.inner s k u i b) = if s = 0 then foSt of_ i + 1 else foSt of_ i + (of_ k).toNatClampNeg * foSt of_ b from rfl]
    by_cases h : s = 0
    · rw [if_pos h, if_pos h, List.length_append, ihi, List.length_singleton]
    · rw [if_neg h, if_neg h, List.length_append, ihi, repN_len, ihb]
theorem foS_nil (of_ : Nat → Int32) : ∀ f : Fo, foNL f = 0 → foS of_ f = [] := by
  intro f
  induction f with
  | leaf => intro _; rfl
  | inner s k u i b ihi ihb =>
    intro h
    rw [show foNL (.inner s k u i b) = if s = 0 then foNL i + 1 else foNL i + foNL b from rfl] at h
    rw [show foS of_ (.inner s k u i b) = if s = 0 then foS of_ i ++ [k] else foS of_ i ++ repN (of_ k).toNatClampNeg (foS of_ b) from rfl]
    by_cases c : s = 0
    · rw [if_pos c] at h; omega
    · rw [if_neg c] at h ⊢
      rw [ihi (by omega), ihb (by omega), repN_nil]
      rfl
def WK (M M' : sM) (p0 p1 : Nat) : Prop := (∀ j, j ≠ 7 → M'.1 j = M.1 j) ∧ (∀ a, a ≠ 8 → a ≠ 32 → a ≠ 33 → M'.2.2 a = M.2.2 a) ∧ ∀ q, (q < p0 ∨ p1 ≤ q) → M'.2.2 32 q = M.2.2 32 q ∧ M'.2.2 33 q = M.2.2 33 q
theorem WK.trans {M M1 M2 : sM} {a b c d p q : Nat} (h : WK M M1 a b) (h' : WK M1 M2 c d) (h1 : p ≤ a) (h2 : b ≤ q) (h3 : p ≤ c) (h4 : d ≤ q) : WK M M2 p q := ⟨fun j hj => (h'.1 j hj).trans (h.1 j hj), fun j a1 a2 a3 => (h'.2.1 j a1 a2 a3).trans (h.2.1 j a1 a2 a3), fun j hj => ⟨(h'.2.2 j (by omega)).1.trans (h.2.2 j (by omega)).1, (h'.2.2 j (by omega)).2.trans (h.2.2 j (by omega)).2⟩⟩
def EM (M M' : sM) (s : Nat) (L : List Nat) : Prop := M'.1 7 = nI (s + L.length) ∧ (∀ i x, L[i]? = some x → M'.2.2 8 (s + i) = nI x) ∧ ∀ i, i < s → M'.2.2 8 i = M.2.2 8 i
theorem EM.trans {M M1 M2 : sM} {s : Nat} {L L' : List Nat} (h : EM M M1 s L) (h' : EM M1 M2 (s + L.length) L') : EM M M2 s (L ++ L') := by
  obtain ⟨a1, a2, a3⟩ := h
  obtain ⟨b1, b2, b3⟩ := h'
  refine ⟨?_, fun i x hi => ?_, fun i hi => (b3 i (by omega)).trans (a3 i hi)⟩
  · rw [b1, List.length_append, Nat.add_assoc]
  · by_cases c : i < L.length
    · rw [List.getElem?_append_left c] at hi
      rw [b3 _ (by omega)]
      exact a2 i x hi
    · rw [List.getElem?_append_right (by omega)] at hi
      have := b2 _ x hi
      rw [show s + L.length + (i - L.length) = s + i by omega] at this
      exact this
theorem EM.nil {M : sM} {s : Nat} (h : M.1 7 = nI s) : EM M M s [] := ⟨h, fun i x hi => (by cases hi), fun _ _ => rfl⟩
section
variable {ar ou of_ rr tm dp : Nat → Int32} {nl rw nq N : Nat} {ch : Nat → List (Bool × Nat)} {dq cm : Nat → Nat}
def CST (ar ou of_ rr : Nat → Int32) (nl rw : Nat) (M : sM) : Prop := M.1 0 = nI nl ∧ M.1 22 = nI rw ∧ M.2.2 3 = ar ∧ M.2.2 5 = of_ ∧ M.2.2 6 = ou ∧ M.2.2 20 = rr
theorem CST.of {M M' : sM} {p q : Nat} (h : CST ar ou of_ rr nl rw M) (w : WK M M' p q) : CST ar ou of_ rr nl rw M' := ⟨(w.1 0 (by decide)).trans h.1, (w.1 22 (by decide)).trans h.2.1, (w.2.1 3 (by decide) (by decide) (by decide)).trans h.2.2.1, (w.2.1 5 (by decide) (by decide) (by decide)).trans h.2.2.2.1, (w.2.1 6 (by decide) (by decide) (by decide)).trans h.2.2.2.2.1, (w.2.1 20 (by decide) (by decide) (by decide)).trans h.2.2.2.2.2⟩
theorem walk_f (hq40 : nq ≤ 40) (hrw : rw ≤ 100) : ∀ (f : Fo) (a p : Nat) (par : Int32) (d m e : Nat) (M : sM) (s i0 : Nat), wF ch ar ou of_ tm dp dq cm f a p par d m → d + e = 5 → p + foNQ f ≤ nq → liF (fun q lo c => ∀ M', CST ar ou of_ rr nl rw M' → fX3_linesIn N M' (nI q) = some (nI (bmN lo c))) f a → a + foNL f ≤ 16 → (∀ j x, (foR f)[j]? = some x → rr (i0 + j) = nI x) → i0 + (foR f).length ≤ rw → CST ar ou of_ rr nl rw M → M.1 7 = nI s → s + foSt of_ f ≤ 6000 →
    ∃ M' j, j ≤ (foR f).length * 100 ^ e ∧ (∀ n, fX3_walk_7 N (n + j) M (nI i0) = fX3_walk_7 N n M' (nI (i0 + (foR f).length))) ∧ WK M M' p (p + foNQ f) ∧ EM M M' s (foS of_ f) := by
  intro f
  induction f with
  | leaf =>
    intro a p par d m e M s i0 _ _ _ _ _ _ _ _ h7 _
    exact ⟨M, 0, Nat.zero_le _, fun n => rfl, ⟨fun _ _ => rfl, fun _ _ _ _ => rfl, fun _ _ => ⟨rfl, rfl⟩⟩, EM.nil h7⟩
  | inner sg k u i b ihi ihb =>
    intro a p par d m e M s i0 hw he hnq hli hnl hrow hlen hC h7 hs
    obtain ⟨hi, hc⟩ := hw
    obtain ⟨hl1, hl2⟩ := hli
    rcases hc with ⟨rfl, rfl, rfl, w1, w2, w3⟩ | ⟨rfl, rfl, w1, w2, w3, h3, h4, c, c1, c2, c3, hb⟩
    · -- a line
      have eR : foR (.inner 0 (a + foNL i) u i .leaf) = foR i ++ [a + foNL i] := rfl
      have eS : foS of_ (.inner 0 (a + foNL i) u i .leaf) = foS of_ i ++ [a + foNL i] := rfl
      have hs : s + (foSt of_ i + 1) ≤ 6000 := hs
      have hnl : a + (foNL i + 1) ≤ 16 := hnl
      rw [eR, List.length_append, List.length_singleton] at hlen
      obtain ⟨M1, j1, z1, z2, z3, z4⟩ := ihi a p par d m e M s i0 hi he hnq hl1 (by omega) (fun j x hj => hrow j x (by rw [eR, List.getElem?_append_left (List.getElem?_eq_some_iff.mp hj).1]; exact hj)) (by omega) hC h7 (by omega)
      have hC1 := hC.of z3
      have hv : rr (i0 + (foR i).length) = nI (a + foNL i) := hrow _ _ (by rw [eR, List.getElem?_append_right (Nat.le_refl _), Nat.sub_self]; rfl)
      have e7 : M1.1 7 = nI (s + foSt of_ i) := by rw [z4.1, foS_len]
      refine ⟨mI (mA M1 8 (s + foSt of_ i) (nI (a + foNL i))) 7 (nI (s + foSt of_ i + 1)), 1 + j1, ?_, fun n => ?_, ?_, ?_⟩
      · rw [eR, List.length_append, List.length_singleton, Nat.add_mul, Nat.one_mul]
        have := Nat.one_le_pow e 100 (by decide)
        omega
      · rw [← Nat.add_assoc, z2 (n + 1), fX3_walk_7, hC1.2.1, if_neg (nI_ge (by omega) (by omega)), hC1.2.2.2.2.2, ag_at (by omega) (by decide), Option.bind_some, hv, if_neg (show ¬ (100 : Int32) ≤ nI (a + foNL i) from nI_ge (b := 100) (by omega) (by decide)), e7, as_at (by omega) (by decide), Option.bind_some]
        unfold fX3_walk_146
        simp only [ec_lt]
        rw [show (mA M1 8 (s + foSt of_ i) (nI (a + foNL i))).1 7 = nI (s + foSt of_ i) from e7, nI_1, nI_1, eR, List.length_append, List.length_singleton, ← Nat.add_assoc]
      · refine z3.trans (c := p) (d := p + foNQ i) ⟨fun j hj => mI_ne _ _ hj, fun x x1 x2 x3 => mA_k _ _ _ x1, fun q _ => ⟨rfl, rfl⟩⟩ (Nat.le_refl _) (Nat.le_refl _) (Nat.le_refl _) (Nat.le_refl _)
      · rw [eS]
        refine z4.trans ⟨?_, fun x y hx => ?_, fun x hx => ?_⟩
        · rw [foS_len, List.length_singleton]
          rfl
        · have hx1 := (List.getElem?_eq_some_iff.mp hx).1
          rw [List.length_singleton] at hx1
          have : x = 0 := by omega
          subst this
          have : a + foNL i = y := Option.some.inj hx
          rw [foS_len, Nat.add_zero, ← this]
          exact upd_eq'
        · rw [foS_len] at hx
          exact upd_ne' (by omega)
    · -- a loop
      have hl2 := hl2.resolve_left (by decide)
      obtain ⟨hL, hl3⟩ := hl2
      have eR : foR (.inner 1 (p + foNQ i) u i b) = foR i ++ (100 + (p + foNQ i)) :: (foR b ++ [200 + (p + foNQ i)]) := rfl
      have eS : foS of_ (.inner 1 (p + foNQ i) u i b) = foS of_ i ++ repN c (foS of_ b) := by
        show foS of_ i ++ repN (of_ (p + foNQ i)).toNatClampNeg (foS of_ b) = _
        rw [c3, nI_clamp (by omega)]
      have hs : s + (foSt of_ i + c * foSt of_ b) ≤ 6000 := by
        have h : s + (foSt of_ i + (of_ (p + foNQ i)).toNatClampNeg * foSt of_ b) ≤ 6000 := hs
        rw [c3, nI_clamp (by omega)] at h
        exact h
      have hnl : a + (foNL i + foNL b) ≤ 16 := hnl
      have hnq : p + (foNQ i + 1 + foNQ b) ≤ nq := hnq
      have eL : (foR (.inner 1 (p + foNQ i) u i b)).length = (foR i).length + 1 + (foR b).length + 1 := by
        rw [eR, List.length_append, List.length_cons, List.length_append, List.length_singleton]
        omega
      rw [eL] at hlen
      obtain ⟨e, rfl⟩ : ∃ e', e = e' + 1 := ⟨e - 1, by omega⟩
      obtain ⟨M1, j1, z1, z2, z3, z4⟩ := ihi a p par d m (e + 1) M s i0 hi he (by omega) hl1 (by omega) (fun j x hj => hrow j x (by rw [eR, List.getElem?_append_left (List.getElem?_eq_some_iff.mp hj).1]; exact hj)) (by omega) hC h7 (by omega)
      have hC1 := hC.of z3
      have hvO : rr (i0 + (foR i).length) = nI (100 + (p + foNQ i)) := hrow _ _ (by rw [eR, List.getElem?_append_right (Nat.le_refl _), Nat.sub_self]; rfl)
      have hvE : rr (i0 + (foR i).length + 1 + (foR b).length) = nI (200 + (p + foNQ i)) := by
        have := hrow ((foR i).length + 1 + (foR b).length) (200 + (p + foNQ i)) (by
          rw [eR, List.getElem?_append_right (by omega), show (foR i).length + 1 + (foR b).length - (foR i).length = (foR b).length + 1 by omega, List.getElem?_cons_succ, List.getElem?_append_right (Nat.le_refl _), Nat.sub_self]
          rfl)
        rw [show i0 + ((foR i).length + 1 + (foR b).length) = i0 + (foR i).length + 1 + (foR b).length by omega] at this
        exact this
      have hrb : ∀ j x, (foR b)[j]? = some x → rr (i0 + (foR i).length + 1 + j) = nI x := fun j x hj => by
        have := hrow ((foR i).length + 1 + j) x (by
          rw [eR, List.getElem?_append_right (by omega), show (foR i).length + 1 + j - (foR i).length = j + 1 by omega, List.getElem?_cons_succ, List.getElem?_append_left (List.getElem?_eq_some_iff.mp hj).1]
          exact hj)
        rw [show i0 + ((foR i).length + 1 + j) = i0 + (foR i).length + 1 + j by omega] at this
        exact this
      have e7 : M1.1 7 = nI (s + foSt of_ i) := by rw [z4.1, foS_len]
      generalize hK : p + foNQ i = K at *
      -- the rounds of the loop
      have IT : ∀ c' (M : sM) (s : Nat), CST ar ou of_ rr nl rw M → M.2.2 32 K = nI (c' + 1) → M.2.2 33 K = nI (i0 + (foR i).length) → c' < 99 → M.1 7 = nI s → s + (c' + 1) * foSt of_ b ≤ 6000 → ∃ M' j, j ≤ (c' + 1) * ((foR b).length * 100 ^ e + 1) ∧ (∀ n, fX3_walk_7 N (n + j) M (nI (i0 + (foR i).length + 1)) = fX3_walk_7 N n M' (nI (i0 + (foR i).length + 1 + (foR b).length + 1))) ∧ WK M M' K (K + 1 + foNQ b) ∧ EM M M' s (repN (c' + 1) (foS of_ b)) := by
        intro c'
        induction c' with
        | zero =>
          intro M s hC h32 h33 hc9 h7 hs
          rw [Nat.zero_add, Nat.one_mul] at hs
          obtain ⟨M2, j2, y1, y2, y3, y4⟩ := ihb (a + foNL i) (K + 1) (nI K) (d + 1) (m * c) e M s (i0 + (foR i).length + 1) hb (by omega) (by omega) hl3 (by omega) hrb (by omega) hC h7 hs
          have hC2 := hC.of y3
          have h32' : M2.2.2 32 K = nI 1 := (y3.2.2 K (by omega)).1.trans h32
          refine ⟨mA M2 32 K (nI 0), 1 + j2, by rw [Nat.zero_add, Nat.one_mul]; omega, fun n => ?_, y3.trans (c := K) (d := K + 1 + foNQ b) ⟨fun _ _ => rfl, fun x x1 x2 x3 => mA_k _ _ _ x2, fun q hq => ⟨mA_ne _ _ _ (by omega), rfl⟩⟩ (by omega) (Nat.le_refl _) (Nat.le_refl _) (Nat.le_refl _), ?_⟩
          · rw [← Nat.add_assoc, y2 (n + 1), fX3_walk_7, hC2.2.1, if_neg (nI_ge (by omega) (by omega)), hC2.2.2.2.2.2, ag_at (by omega) (by decide), Option.bind_some, hvE, if_pos (show (100 : Int32) ≤ nI (200 + K) from nI_le (a := 100) (by omega) (by omega)), if_pos (show (200 : Int32) ≤ nI (200 + K) from nI_le (a := 200) (by omega) (by omega)), show nI (200 + K) - 200 = nI K from (pk_sub (a := 200 + K) (b := 200) (by omega)).trans (by congr 1; omega), ag_at (by omega) (by decide), Option.bind_some, h32', show nI 1 - 1 = nI 0 from rfl, as_at (by omega) (by decide), Option.bind_some, ag_at (by omega) (by decide), Option.bind_some, mA_eq, if_pos (by decide)]
            unfold fX3_walk_145 fX3_walk_146
            simp only [ec_lt]
            rw [nI_1]
          · have : repN (0 + 1) (foS of_ b) = foS of_ b := by
              rw [repN, repN, List.append_nil]
            rw [this]
            exact y4
        | succ c' ihc =>
          intro M s hC h32 h33 hc9 h7 hs
          have hs2 : s + (foSt of_ b + (c' + 1) * foSt of_ b) ≤ 6000 := by
            rw [Nat.succ_mul] at hs
            omega
          obtain ⟨M2, j2, y1, y2, y3, y4⟩ := ihb (a + foNL i) (K + 1) (nI K) (d + 1) (m * c) e M s (i0 + (foR i).length + 1) hb (by omega) (by omega) hl3 (by omega) hrb (by omega) hC h7 (by omega)
          have hC2 := hC.of y3
          have h32' : M2.2.2 32 K = nI (c' + 1 + 1) := (y3.2.2 K (by omega)).1.trans h32
          have h33' : M2.2.2 33 K = nI (i0 + (foR i).length) := (y3.2.2 K (by omega)).2.trans h33
          have e7' : M2.1 7 = nI (s + foSt of_ b) := by rw [y4.1, foS_len]
          have WM : WK M2 (mA M2 32 K (nI (c' + 1))) K (K + 1 + foNQ b) := ⟨fun _ _ => rfl, fun x x1 x2 x3 => mA_k _ _ _ x2, fun q hq => ⟨mA_ne _ _ _ (by omega), rfl⟩⟩
          obtain ⟨M3, j3, x1, x2, x3, x4⟩ := ihc (mA M2 32 K (nI (c' + 1))) (s + foSt of_ b) (hC2.of WM) (mA_eq _ _ _ _) h33' (by omega) e7' (by omega)
          refine ⟨M3, j3 + 1 + j2, ?_, fun n => ?_, (y3.trans WM (p := K) (q := K + 1 + foNQ b) (by omega) (Nat.le_refl _) (Nat.le_refl _) (Nat.le_refl _)).trans x3 (Nat.le_refl _) (Nat.le_refl _) (Nat.le_refl _) (Nat.le_refl _), ?_⟩
          · rw [Nat.succ_mul]
            omega
          · rw [show n + (j3 + 1 + j2) = n + j3 + 1 + j2 by omega, y2 (n + j3 + 1), fX3_walk_7, hC2.2.1, if_neg (nI_ge (by omega) (by omega)), hC2.2.2.2.2.2, ag_at (by omega) (by decide), Option.bind_some, hvE, if_pos (show (100 : Int32) ≤ nI (200 + K) from nI_le (a := 100) (by omega) (by omega)), if_pos (show (200 : Int32) ≤ nI (200 + K) from nI_le (a := 200) (by omega) (by omega)), show nI (200 + K) - 200 = nI K from (pk_sub (a := 200 + K) (b := 200) (by omega)).trans (by congr 1; omega), ag_at (by omega) (by decide), Option.bind_some, h32', nI_pred, as_at (by omega) (by decide), Option.bind_some, ag_at (by omega) (by decide), Option.bind_some, mA_eq, if_neg (nI_nle (by omega) (by omega)), ag_at (by omega) (by decide), Option.bind_some, show (mA M2 32 K (nI (c' + 1))).2.2 33 K = nI (i0 + (foR i).length) from h33']
            unfold fX3_walk_145 fX3_walk_146
            simp only [ec_lt]
            rw [nI_1]
            exact x2 n
          · rw [repN]
            have x4' : EM M2 M3 (s + (foS of_ b).length) (repN (c' + 1) (foS of_ b)) := by
              rw [foS_len]
              exact x4
            exact y4.trans x4'
      -- the head of the loop
      have hl3' := hL M1 hC1
      have step : ∀ (t0 : Nat), (t0 = 1 ∧ foNL b = 0 ∨ t0 = c ∧ foNL b ≠ 0) → ∀ n, fX3_walk_7 N (n + 1) M1 (nI (i0 + (foR i).length)) = fX3_walk_7 N n (mA (mA M1 32 K (nI t0)) 33 K (nI (i0 + (foR i).length))) (nI (i0 + (foR i).length + 1)) := by
        intro t0 ht0 n
        rw [fX3_walk_7, hC1.2.1, if_neg (nI_ge (by omega) (by omega)), hC1.2.2.2.2.2, ag_at (by omega) (by decide), Option.bind_some, hvO, if_pos (show (100 : Int32) ≤ nI (100 + K) from nI_le (a := 100) (by omega) (by omega)), if_neg (show ¬ (200 : Int32) ≤ nI (100 + K) from nI_ge (b := 200) (by omega) (by decide)), show nI (100 + K) - 100 = nI K from (pk_sub (a := 100 + K) (b := 100) (by omega)).trans (by congr 1; omega), hl3', Option.bind_some]
        have w90 : ∀ x : Int32, fX3_walk_90 N (fX3_walk_7 N n) M1 (nI (i0 + (foR i).length)) (nI (100 + K)) x (nI K) = fX3_walk_7 N n (mA (mA M1 32 K x) 33 K (nI (i0 + (foR i).length))) (nI (i0 + (foR i).length + 1)) := by
          intro x
          unfold fX3_walk_90 fX3_walk_146
          rw [as_at (by omega) (by decide), Option.bind_some, show nI (100 + K) - 100 = nI K from (pk_sub (a := 100 + K) (b := 100) (by omega)).trans (by congr 1; omega), as_at (by omega) (by decide), Option.bind_some]
          simp only [ec_lt]
          rw [nI_1]
        rcases ht0 with ⟨rfl, hz⟩ | ⟨rfl, hz⟩
        · rw [hz, if_neg (not_not_intro (show nI (bmN (a + foNL i) 0) = 0 from rfl)), w90]
          rfl
        · have hm0 : ¬ nI (bmN (a + foNL i) (foNL b)) = 0 := by
            intro h0
            rw [nI_z (by have := bmN_lt (a + foNL i) (foNL b) (by omega); omega)] at h0
            have := bmN_tb (a + foNL i) (a + foNL i) (foNL b)
            rw [h0, Nat.zero_testBit, decide_eq_true (by omega)] at this
            cases this
          rw [if_pos hm0, hC1.2.2.2.1, ag_at (by omega) (by decide), Option.bind_some, c3, w90]
      have WH : ∀ t0 : Nat, WK M1 (mA (mA M1 32 K (nI t0)) 33 K (nI (i0 + (foR i).length))) K (K + 1) := fun t0 => ⟨fun _ _ => rfl, fun x x1 x2 x3 => (mA_k _ _ _ x3).trans (mA_k _ _ _ x2), fun q hq => ⟨show (mA M1 32 K (nI t0)).2.2 32 q = M1.2.2 32 q from mA_ne M1 32 (nI t0) (by omega), show (mA (mA M1 32 K (nI t0)) 33 K (nI (i0 + (foR i).length))).2.2 33 q = (mA M1 32 K (nI t0)).2.2 33 q from mA_ne _ 33 _ (by omega)⟩⟩
      have fin : ∀ t0 : Nat, (t0 = 1 ∧ foNL b = 0 ∨ t0 = c ∧ foNL b ≠ 0) → 1 ≤ t0 → t0 ≤ 99 → repN t0 (foS of_ b) = repN c (foS of_ b) → t0 * foSt of_ b ≤ c * foSt of_ b → ∃ M' j, j ≤ (foR (.inner 1 K u i b)).length * 100 ^ (e + 1) ∧ (∀ n, fX3_walk_7 N (n + j) M (nI i0) = fX3_walk_7 N n M' (nI (i0 + (foR (.inner 1 K u i b)).length))) ∧ WK M M' p (p + (foNQ i + 1 + foNQ b)) ∧ EM M M' s (foS of_ i ++ repN c (foS of_ b)) := by
        intro t0 ht0 t1 t2 t3 t4
        obtain ⟨c', rfl⟩ : ∃ c', t0 = c' + 1 := ⟨t0 - 1, by omega⟩
        obtain ⟨M2, j2, x1, x2, x3, x4⟩ := IT c' _ (s + foSt of_ i) (hC1.of (WH (c' + 1))) (show upd (M1.2.2 32) K (nI (c' + 1)) K = _ from upd_eq') (mA_eq _ _ _ _) (by omega) (show M1.1 7 = _ from e7) (by omega)
        refine ⟨M2, j2 + 1 + j1, ?_, fun n => ?_, ?_, ?_⟩
        · rw [eL]
          have hB := Nat.one_le_pow e 100 (by decide)
          have b1 : (c' + 1) * ((foR b).length * 100 ^ e + 1) ≤ 99 * ((foR b).length * 100 ^ e + 1) := Nat.mul_le_mul_right _ t2
          have b2 : ((foR i).length + 1 + (foR b).length + 1) * 100 ^ (e + 1) = (foR i).length * 100 ^ (e + 1) + ((foR b).length * 100 ^ e) * 100 + 2 * (100 ^ e * 100) := by
            rw [Nat.pow_succ, Nat.add_mul, Nat.add_mul, Nat.add_mul, ← Nat.mul_assoc (foR b).length]
            omega
          rw [b2]
          omega
        · rw [show n + (j2 + 1 + j1) = n + j2 + 1 + j1 by omega, z2 (n + j2 + 1), step (c' + 1) ht0 (n + j2), x2 n, eL]
          congr 2
          omega
        · exact (z3.trans (WH (c' + 1)) (p := p) (q := p + (foNQ i + 1 + foNQ b)) (by omega) (by omega) (by omega) (by omega)).trans x3 (by omega) (by omega) (by omega) (by omega)
        · rw [← t3]
          refine z4.trans ?_
          rw [foS_len]
          exact x4
      rw [eS]
      by_cases hz : foNL b = 0
      · have hS0 := foS_nil of_ b hz
        have hl0 : foSt of_ b = 0 := by rw [← foS_len, hS0]; rfl
        exact fin 1 (Or.inl ⟨rfl, hz⟩) (by decide) (by decide) (by rw [hS0, repN_nil, repN_nil]) (by rw [hl0]; omega)
      · exact fin c (Or.inr ⟨rfl, hz⟩) c1 c2 rfl (Nat.le_refl _)
end
