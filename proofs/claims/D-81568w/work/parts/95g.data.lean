/-! THE PROGRAM'S TEXT: what is laid down, on the heap -/
set_option maxRecDepth 100000
def bT : Nat → Nat × Nat
  | 0 => (13, 0)
  | k + 1 => (10, k)
def bX : Nat → Nat × Nat
  | 0 => (14, 0)
  | k + 1 => (11, k)
def bC : Nat → Nat
  | 0 => 6
  | _ + 1 => 8
def bZ (of_ : Nat → Int32) (dq cm : Nat → Nat) : Nat → List Value
  | 0 => []
  | k + 1 => [.int (of_ k), .int (nI (dq k)), .int (nI (cm k))]
theorem bC_68 (k : Nat) : bC k = 6 ∨ bC k = 8 := by cases k <;> simp [bC]
theorem bT_inj {j k : Nat} (h : bT j = bT k) : j = k := by
  cases j <;> cases k <;> simp [bT] at h
  · rfl
  · rw [h]
theorem bX_inj {j k : Nat} (h : bX j = bX k) : j = k := by
  cases j <;> cases k <;> simp [bX] at h
  · rfl
  · rw [h]
theorem bT_k (k : Nat) : (bT k).1 = 10 ∨ (bT k).1 = 13 := by cases k <;> simp [bT]
theorem bX_k (k : Nat) : (bX k).1 = 11 ∨ (bX k).1 = 14 := by cases k <;> simp [bX]
/-- a line laid down -/
def DL (tg : Nat → Nat × Nat) (h : hH) (aL aE : Nat → Nat) (dp tk mk : Nat → Int32) (l : Nat) : Prop := tg (aL l) = (8, l) ∧ tg (aE l) = (9, l) ∧ h (aL l) = some (.inr (7, [.int (nI l), .int (dp l), .int (tk l), .ref (aE l), .int 0])) ∧ ∃ g, h (aE l) = some (.inl (0, 8, .inl g)) ∧ ∀ e, e < 8 → g e = mk (8 * l + e)
/-- a block laid down: 0 the whole, k + 1 the loop k -/
def DB (h0 : hH) (tg : Nat → Nat × Nat) (h : hH) (aL aB aI : Nat → Nat) (nl nq : Nat) (ch : Nat → List (Bool × Nat)) (of_ : Nat → Int32) (dq cm : Nat → Nat) (k : Nat) : Prop :=
  tg (aB k) = bT k ∧ tg (aI k) = bX k ∧ h0 (aB k) = none ∧ h0 (aI k) = none ∧ h (aB k) = some (.inr (bC k, .ref (aI k) :: .int (nI (ch k).length) :: bZ of_ dq cm k)) ∧
  (∃ f m, h (aI k) = some (.inl (6, m, .inr f)) ∧ (ch k).length ≤ m ∧ 2 ≤ m ∧ m ≤ 2 * (nl + nq) + 2 ∧ ∀ j y, (ch k)[j]? = some y → f j = some (if y.1 then aB (y.2 + 1) else aL y.2)) ∧
  (ch k).length ≤ nl + nq ∧ ∀ y, y ∈ ch k → (y.1 = true → y.2 < nq) ∧ (y.1 = false → y.2 < nl)
def DT (h0 : hH) (tg : Nat → Nat × Nat) (h : hH) (la qa : Nat) (aL aE aB aI : Nat → Nat) (nl nq : Nat) (ch : Nat → List (Bool × Nat)) (dp tk mk of_ : Nat → Int32) (dq cm : Nat → Nat) : Prop :=
  (tg la = (12, 0) ∧ h0 la = none ∧ ∃ f, h la = some (.inl (4, 16, .inr f)) ∧ ∀ l, l < nl → f l = some (aL l)) ∧
  (tg qa = (12, 1) ∧ h0 qa = none ∧ ∃ f m, h qa = some (.inl (5, m, .inr f)) ∧ nq ≤ m ∧ 2 ≤ m ∧ m ≤ 2 * nq + 2 ∧ ∀ q, q < nq → f q = some (aB (q + 1))) ∧
  (∀ l, l < nl → DL tg h aL aE dp tk mk l) ∧ ∀ k, k ≤ nq → DB h0 tg h aL aB aI nl nq ch of_ dq cm k
/-- tags in use -/
def uT (nl nq : Nat) (τ : Nat × Nat) : Prop := ((τ.1 = 8 ∨ τ.1 = 9) ∧ τ.2 < nl) ∨ ((τ.1 = 10 ∨ τ.1 = 11) ∧ τ.2 < nq) ∨ τ.1 = 12 ∨ τ.1 = 13 ∨ τ.1 = 14
theorem uT_bT {nl nq k : Nat} (h : k ≤ nq) : uT nl nq (bT k) := by
  cases k with
  | zero => exact Or.inr (Or.inr (Or.inr (Or.inl rfl)))
  | succ k => exact Or.inr (Or.inl ⟨Or.inl rfl, h⟩)
theorem uT_bX {nl nq k : Nat} (h : k ≤ nq) : uT nl nq (bX k) := by
  cases k with
  | zero => exact Or.inr (Or.inr (Or.inr (Or.inr rfl)))
  | succ k => exact Or.inr (Or.inl ⟨Or.inr rfl, h⟩)
section
variable {h0 : hH} {tg tg1 : Nat → Nat × Nat} {h h1 : hH} {la qa : Nat} {aL aE aB aI : Nat → Nat} {nl nq : Nat} {ch : Nat → List (Bool × Nat)} {dp tk mk of_ : Nat → Int32} {dq cm : Nat → Nat}
theorem DT.fr (H : DT h0 tg h la qa aL aE aB aI nl nq ch dp tk mk of_ dq cm) (hf : ∀ a, uT nl nq (tg a) → h1 a = h a) : DT h0 tg h1 la qa aL aE aB aI nl nq ch dp tk mk of_ dq cm := by
  obtain ⟨⟨a1, a2, f, a3, a4⟩, ⟨b1, b2, g, m, b3, b4⟩, c, d⟩ := H
  refine ⟨⟨a1, a2, f, (hf la (by rw [a1]; exact Or.inr (Or.inr (Or.inl rfl)))).trans a3, a4⟩, ⟨b1, b2, g, m, (hf qa (by rw [b1]; exact Or.inr (Or.inr (Or.inl rfl)))).trans b3, b4⟩, fun l hl => ?_, fun k hk => ?_⟩
  · obtain ⟨k1, k2, k3, g0, k4, k5⟩ := c l hl
    exact ⟨k1, k2, (hf _ (by rw [k1]; exact Or.inl ⟨Or.inl rfl, hl⟩)).trans k3, g0, (hf _ (by rw [k2]; exact Or.inl ⟨Or.inr rfl, hl⟩)).trans k4, k5⟩
  · obtain ⟨k1, k2, k3, k4, k5, ⟨f', m', k6, k7⟩, k8⟩ := d k hk
    exact ⟨k1, k2, k3, k4, (hf _ (by rw [k1]; exact uT_bT hk)).trans k5, ⟨f', m', (hf _ (by rw [k2]; exact uT_bX hk)).trans k6, k7⟩, k8⟩
theorem DT.gr (H : DT h0 tg h la qa aL aE aB aI nl nq ch dp tk mk of_ dq cm) (hf : hGr tg tg1 h h1) : DT h0 tg1 h1 la qa aL aE aB aI nl nq ch dp tk mk of_ dq cm := by
  obtain ⟨⟨a1, a2, f, a3, a4⟩, ⟨b1, b2, g, m, b3, b4⟩, c, d⟩ := H
  refine ⟨⟨(hf _ _ a3).2.trans a1, a2, f, (hf _ _ a3).1, a4⟩, ⟨(hf _ _ b3).2.trans b1, b2, g, m, (hf _ _ b3).1, b4⟩, fun l hl => ?_, fun k hk => ?_⟩
  · obtain ⟨k1, k2, k3, g0, k4, k5⟩ := c l hl
    exact ⟨(hf _ _ k3).2.trans k1, (hf _ _ k4).2.trans k2, (hf _ _ k3).1, g0, (hf _ _ k4).1, k5⟩
  · obtain ⟨k1, k2, k3, k4, k5, ⟨f', m', k6, k7⟩, k8⟩ := d k hk
    exact ⟨(hf _ _ k5).2.trans k1, (hf _ _ k6).2.trans k2, k3, k4, (hf _ _ k5).1, ⟨f', m', (hf _ _ k6).1, k7⟩, k8⟩
theorem hGr.trans {tg2 : Nat → Nat × Nat} {h2 : hH} (H : hGr tg tg1 h h1) (H' : hGr tg1 tg2 h1 h2) : hGr tg tg2 h h2 := fun a x hx => ⟨(H' a x (H a x hx).1).1, (H' a x (H a x hx).1).2.trans (H a x hx).2⟩
/-- one line more -/
theorem DT.line (H : DT h0 tg h la qa aL aE aB aI nl nq ch dp tk mk of_ dq cm) {q ev : Nat} {g dp' tk' mk' : Nat → Int32} {fl : Nat → Option Nat} (hq : h q = none) (hev : h ev = none) (hqe : q ≠ ev) (hfl : h la = some (.inl (4, 16, .inr fl))) (hag : ∀ l, l < nl → tk' l = tk l ∧ dp' l = dp l ∧ ∀ e, e < 8 → mk' (8 * l + e) = mk (8 * l + e)) (hg : ∀ e, e < 8 → g e = mk' (8 * nl + e)) :
    DT h0 (va_up (va_up tg q (8, nl)) ev (9, nl)) (va_up (va_up (va_up h q (some (.inr (7, [.int (nI nl), .int (dp' nl), .int (tk' nl), .ref ev, .int 0])))) ev (some (.inl (0, 8, .inl g)))) la (some (.inl (4, 16, .inr (va_up fl nl (some q)))))) la qa (va_up aL nl q) (va_up aE nl ev) aB aI (nl + 1) nq ch dp' tk' mk' of_ dq cm := by
  have hlq : la ≠ q := fun e => by rw [e, hq] at hfl; cases hfl
  have hle : la ≠ ev := fun e => by rw [e, hev] at hfl; cases hfl
  have hG : hGr tg (va_up (va_up tg q (8, nl)) ev (9, nl)) h (va_up (va_up h q (some (.inr (7, [.int (nI nl), .int (dp' nl), .int (tk' nl), .ref ev, .int 0])))) ev (some (.inl (0, 8, .inl g)))) := (hGr.one (8, nl) _ hq).trans (hGr.one (9, nl) _ ((up_ne (fun e => hqe e.symm)).trans hev))
  have H1 := H.gr hG
  generalize hτ : va_up (va_up tg q (8, nl)) ev (9, nl) = τ at *
  have tq : τ q = (8, nl) := by rw [← hτ]; exact (up_ne hqe).trans up_eq
  have te : τ ev = (9, nl) := by rw [← hτ]; exact up_eq
  obtain ⟨⟨a1, a2, f, a3, a4⟩, ⟨b1, b2, g2, m, b3, b4⟩, c, d⟩ := H1
  have ef : fl = f := by
    rw [(up_ne hle).trans (up_ne hlq), hfl] at a3
    simpa using a3
  subst ef
  have kind : ∀ b, (τ b).1 ≠ 12 → b ≠ la := fun b hb e => hb (by rw [e, a1])
  refine ⟨⟨a1, a2, _, up_eq, fun l hl => ?_⟩, ⟨b1, b2, g2, m, (up_ne (fun e => by rw [e, a1] at b1; cases b1)).trans b3, b4⟩, fun l hl => ?_, fun k hk => ?_⟩
  · by_cases c1 : l = nl
    · rw [c1, up_eq, up_eq]
    · rw [up_ne c1, up_ne c1]
      exact a4 l (by omega)
  · by_cases c1 : l = nl
    · subst c1
      unfold DL
      rw [up_eq, up_eq]
      exact ⟨tq, te, (up_ne (kind q (by rw [tq]; show 8 ≠ 12; decide))).trans ((up_ne hqe).trans up_eq), g, (up_ne (kind ev (by rw [te]; show 9 ≠ 12; decide))).trans up_eq, hg⟩
    · obtain ⟨k1, k2, k3, g0, k4, k5⟩ := c l (by omega)
      obtain ⟨e1, e2, e3⟩ := hag l (by omega)
      unfold DL
      rw [up_ne c1, up_ne c1, e1, e2]
      refine ⟨k1, k2, (up_ne (kind _ (by rw [k1]; show 8 ≠ 12; decide))).trans k3, g0, (up_ne (kind _ (by rw [k2]; show 9 ≠ 12; decide))).trans k4, fun e he => ?_⟩
      rw [e3 e he]
      exact k5 e he
  · obtain ⟨k1, k2, k3, k4, k5, ⟨f', m', k6, k7, k8, k9, k10⟩, k11, k12⟩ := d k hk
    refine ⟨k1, k2, k3, k4, (up_ne (kind _ (by rw [k1]; rcases bT_k k with h | h <;> rw [h] <;> decide))).trans k5, ⟨f', m', (up_ne (kind _ (by rw [k2]; rcases bX_k k with h | h <;> rw [h] <;> decide))).trans k6, k7, k8, by omega, fun j y hy => ?_⟩, by omega, fun y hy => ⟨(k12 y hy).1, fun h => by have := (k12 y hy).2 h; omega⟩⟩
    rw [k10 j y hy]
    congr 1
    by_cases c1 : y.1 = true
    · rw [if_pos c1, if_pos c1]
    · rw [if_neg c1, if_neg c1, up_ne]
      have hm := List.mem_of_getElem? hy
      have := (k12 y hm).2 (by simpa using c1)
      omega
/-- one loop more -/
theorem DT.loop (H : DT h0 tg h la qa aL aE aB aI nl nq ch dp tk mk of_ dq cm) {q ax qa' : Nat} {of' : Nat → Int32} {dq' cm' : Nat → Nat} (hF : FR h0 h) (hq : h q = none) (hax : h ax = none) (hqx : q ≠ ax) (hor : qa' = qa ∨ (h qa' = none ∧ qa' ≠ q ∧ qa' ≠ ax)) (y1 : h1 q = some (.inr (8, [.ref ax, .int 0, .int (of' nq), .int (nI (dq' nq)), .int (nI (cm' nq))]))) (y2 : h1 ax = some (.inl (6, 2, .inr (fun _ => none)))) {fq : Nat → Option Nat} {m0 : Nat} (hfq : h qa = some (.inl (5, m0, .inr fq))) (y3 : ∃ f' m', h1 qa' = some (.inl (5, m', .inr f')) ∧ nq + 1 ≤ m' ∧ 2 ≤ m' ∧ m' ≤ 2 * (nq + 1) + 2 ∧ (∀ j, j < nq → f' j = fq j) ∧ f' nq = some q) (y4 : ∀ a, a ≠ q → a ≠ ax → a ≠ qa' → h1 a = h a) (hag : ∀ k, k < nq → of' k = of_ k ∧ dq' k = dq k ∧ cm' k = cm k) :
    DT h0 (va_up (va_up (va_up tg q (10, nq)) ax (11, nq)) qa' (12, 1)) h1 la qa' aL aE (va_up aB (nq + 1) q) (va_up aI (nq + 1) ax) nl (nq + 1) (va_up ch (nq + 1) []) dp tk mk of' dq' cm' := by
  have H0 := H
  obtain ⟨⟨a1, a2, f, a3, a4⟩, ⟨b1, b2, g2, m, b3, b4, b5, b6, b7⟩, c, d⟩ := H
  have ef : fq = g2 := by
    rw [hfq] at b3
    simp only [Option.some.injEq, Sum.inl.injEq, Prod.mk.injEq, Sum.inr.injEq] at b3
    exact b3.2.2
  subst ef
  -- any old place but qa itself
  have old : ∀ b x, h b = some x → tg b ≠ (12, 1) → h1 b = some x ∧ va_up (va_up (va_up tg q (10, nq)) ax (11, nq)) qa' (12, 1) b = tg b := by
    intro b x hb ht
    have n1 : b ≠ q := fun e => by rw [e, hq] at hb; cases hb
    have n2 : b ≠ ax := fun e => by rw [e, hax] at hb; cases hb
    have n3 : b ≠ qa' := fun e => by
      rcases hor with h | h
      · exact ht (by rw [e, h]; exact b1)
      · rw [e, h.1] at hb; cases hb
    exact ⟨(y4 b n1 n2 n3).trans hb, (up_ne n3).trans ((up_ne n2).trans (up_ne n1))⟩
  have hqq : q ≠ qa' := fun e => by
    rcases hor with h | h
    · rw [h] at e; rw [e, hfq] at hq; cases hq
    · exact h.2.1 e.symm
  have hxq : ax ≠ qa' := fun e => by
    rcases hor with h | h
    · rw [h] at e; rw [e, hfq] at hax; cases hax
    · exact h.2.2 e.symm
  have h0q : h0 q = none := hF.no hq
  have h0x : h0 ax = none := hF.no hax
  have h0a : h0 qa' = none := by
    rcases hor with h | h
    · rw [h]; exact b2
    · exact hF.no h.1
  obtain ⟨f', m', e1, e2, e3, e4, e5, e6⟩ := y3
  refine ⟨⟨(old la _ a3 (by rw [a1]; decide)).2.trans a1, a2, f, (old la _ a3 (by rw [a1]; decide)).1, a4⟩, ⟨up_eq, h0a, f', m', e1, e2, e3, e4, fun j hj => ?_⟩, fun l hl => ?_, fun k hk => ?_⟩
  · by_cases c1 : j = nq
    · rw [c1, e6, up_eq]
    · rw [e5 j (by omega), up_ne (by omega)]
      exact b7 j (by omega)
  · obtain ⟨k1, k2, k3, g0, k4, k5⟩ := c l hl
    have o1 := old _ _ k3 (by rw [k1]; intro e; cases e)
    have o2 := old _ _ k4 (by rw [k2]; intro e; cases e)
    exact ⟨o1.2.trans k1, o2.2.trans k2, o1.1, g0, o2.1, k5⟩
  · by_cases c1 : k = nq + 1
    · subst c1
      unfold DB
      rw [up_eq, up_eq, up_eq]
      refine ⟨(up_ne hqq).trans ((up_ne hqx).trans up_eq), (up_ne hxq).trans up_eq, h0q, h0x, y1, ⟨_, 2, y2, by decide, Nat.le_refl _, by omega, fun j y hy => by cases hy⟩, by show 0 ≤ _; omega, fun y hy => by cases hy⟩
    · obtain ⟨k1, k2, k3, k4, k5, ⟨f'', m'', k6, k7, k8, k9, k10⟩, k11, k12⟩ := d k (by omega)
      have o1 := old _ _ k5 (by rw [k1]; intro e; have := congrArg Prod.fst e; rcases bT_k k with h | h <;> rw [h] at this <;> simp at this)
      have o2 := old _ _ k6 (by rw [k2]; intro e; have := congrArg Prod.fst e; rcases bX_k k with h | h <;> rw [h] at this <;> simp at this)
      unfold DB
      rw [up_ne c1, up_ne c1, up_ne c1]
      have ez : bZ of' dq' cm' k = bZ of_ dq cm k := by
        cases k with
        | zero => rfl
        | succ k =>
          obtain ⟨z1, z2, z3⟩ := hag k (by omega)
          show [Value.int (of' k), Value.int (nI (dq' k)), Value.int (nI (cm' k))] = [Value.int (of_ k), Value.int (nI (dq k)), Value.int (nI (cm k))]
          rw [z1, z2, z3]
      rw [ez]
      refine ⟨o1.2.trans k1, o2.2.trans k2, k3, k4, o1.1, ⟨f'', m'', o2.1, k7, k8, by omega, fun j y hy => ?_⟩, by omega, fun y hy => ⟨fun h => by have := (k12 y hy).1 h; omega, (k12 y hy).2⟩⟩
      rw [k10 j y hy]
      congr 1
      by_cases c2 : y.1 = true
      · rw [if_pos c2, if_pos c2, up_ne]
        have hm := List.mem_of_getElem? hy
        have := (k12 y hm).1 c2
        omega
      · rw [if_neg c2, if_neg c2]
/-- one item more in a block -/
theorem DT.add (H : DT h0 tg h la qa aL aE aB aI nl nq ch dp tk mk of_ dq cm) {k x' : Nat} {y : Bool × Nat} (hF : FR h0 h) (hk : k ≤ nq) (hy : (y.1 = true → y.2 < nq) ∧ (y.1 = false → y.2 < nl)) (hlen : (ch k).length < nl + nq) (hor : x' = aI k ∨ h x' = none) (y1 : h1 (aB k) = some (.inr (bC k, .ref x' :: .int (nI ((ch k).length + 1)) :: bZ of_ dq cm k))) {f0 : Nat → Option Nat} {m0 : Nat} (hf0 : h (aI k) = some (.inl (6, m0, .inr f0))) (y2 : ∃ f' m', h1 x' = some (.inl (6, m', .inr f')) ∧ (ch k).length + 1 ≤ m' ∧ 2 ≤ m' ∧ (m' = m0 ∨ m' = 2 * (ch k).length) ∧ (∀ j, j < (ch k).length → f' j = f0 j) ∧ f' (ch k).length = some (if y.1 then aB (y.2 + 1) else aL y.2)) (y3 : ∀ a, a ≠ aB k → a ≠ x' → h1 a = h a) :
    DT h0 (va_up tg x' (bX k)) h1 la qa aL aE aB (va_up aI k x') nl nq (va_up ch k (ch k ++ [y])) dp tk mk of_ dq cm := by
  obtain ⟨⟨a1, a2, f, a3, a4⟩, ⟨b1, b2, g2, m, b3, b4⟩, c, d⟩ := H
  obtain ⟨k1, k2, k3, k4, k5, ⟨f'', m'', k6, k7, k8, k9, k10⟩, k11, k12⟩ := d k hk
  have ef : f0 = f'' ∧ m0 = m'' := by
    rw [hf0] at k6
    simp only [Option.some.injEq, Sum.inl.injEq, Prod.mk.injEq, Sum.inr.injEq] at k6
    exact ⟨k6.2.2, k6.2.1⟩
  obtain ⟨rfl, rfl⟩ := ef
  have hbx : aB k ≠ x' := fun e => by
    rcases hor with h | h
    · rw [h] at e; rw [e, k6] at k5; cases k5
    · rw [e, h] at k5; cases k5
  have old : ∀ b x, h b = some x → tg b ≠ bT k → tg b ≠ bX k → h1 b = some x ∧ va_up tg x' (bX k) b = tg b := by
    intro b x hb t1 t2
    have n1 : b ≠ aB k := fun e => t1 (by rw [e]; exact k1)
    have n2 : b ≠ x' := fun e => by
      rcases hor with h | h
      · exact t2 (by rw [e, h]; exact k2)
      · rw [e, h] at hb; cases hb
    exact ⟨(y3 b n1 n2).trans hb, up_ne n2⟩
  have ne1 : ∀ τ : Nat × Nat, τ.1 = 8 ∨ τ.1 = 9 ∨ τ.1 = 12 → τ ≠ bT k ∧ τ ≠ bX k := by
    intro τ hτ
    constructor
    · intro e
      rw [e] at hτ
      rcases bT_k k with h | h <;> rw [h] at hτ <;> simp at hτ
    · intro e
      rw [e] at hτ
      rcases bX_k k with h | h <;> rw [h] at hτ <;> simp at hτ
  have h0x : h0 x' = none := by
    rcases hor with h | h
    · rw [h]; exact k4
    · exact hF.no h
  have oL := old la _ a3 (ne1 _ (by rw [a1]; simp)).1 (ne1 _ (by rw [a1]; simp)).2
  have oQ := old qa _ b3 (ne1 _ (by rw [b1]; simp)).1 (ne1 _ (by rw [b1]; simp)).2
  refine ⟨⟨oL.2.trans a1, a2, f, oL.1, a4⟩, ⟨oQ.2.trans b1, b2, g2, m, oQ.1, b4⟩, fun l hl => ?_, fun j hj => ?_⟩
  · obtain ⟨l1, l2, l3, g0, l4, l5⟩ := c l hl
    have o1 := old _ _ l3 (ne1 _ (by rw [l1]; simp)).1 (ne1 _ (by rw [l1]; simp)).2
    have o2 := old _ _ l4 (ne1 _ (by rw [l2]; simp)).1 (ne1 _ (by rw [l2]; simp)).2
    exact ⟨o1.2.trans l1, o2.2.trans l2, o1.1, g0, o2.1, l5⟩
  · by_cases c1 : j = k
    · subst c1
      obtain ⟨f', m', e1, e2, e3, e4, e5, e6⟩ := y2
      unfold DB
      rw [up_eq, up_eq, up_eq, List.length_append, List.length_singleton]
      refine ⟨(up_ne hbx).trans k1, rfl, k3, h0x, y1, ⟨f', m', e1, e2, e3, by omega, fun i z hz => ?_⟩, by omega, fun z hz => ?_⟩
      · by_cases c2 : i < (ch j).length
        · rw [List.getElem?_append_left c2] at hz
          rw [e5 i c2]
          exact k10 i z hz
        · rw [List.getElem?_append_right (by omega)] at hz
          have hi : i = (ch j).length := by
            by_cases c3 : i - (ch j).length = 0
            · omega
            · rw [List.getElem?_eq_none (by rw [List.length_singleton]; omega)] at hz
              cases hz
          subst hi
          rw [Nat.sub_self] at hz
          have : y = z := Option.some.inj hz
          rw [← this, e6]
      · rcases List.mem_append.mp hz with h | h
        · exact k12 z h
        · rw [List.mem_singleton.mp h]
          exact hy
    · obtain ⟨j1, j2, j3, j4, j5, ⟨f', m', j6, j7, j8, j9, j10⟩, j11, j12⟩ := d j hj
      have tX : ∀ i i', bT i ≠ bX i' := fun i i' e => by
        have := congrArg Prod.fst e
        rcases bT_k i with h | h <;> rcases bX_k i' with h2 | h2 <;> rw [h, h2] at this <;> simp at this
      have o1 := old _ _ j5 (by rw [j1]; exact fun e => c1 (bT_inj e)) (by rw [j1]; exact tX j k)
      have o2 := old _ _ j6 (by rw [j2]; exact fun e => tX k j e.symm) (by rw [j2]; exact fun e => c1 (bX_inj e))
      unfold DB
      rw [up_ne c1, up_ne c1]
      exact ⟨o1.2.trans j1, o2.2.trans j2, j3, j4, o1.1, ⟨f', m', o2.1, j7, j8, j9, j10⟩, j11, j12⟩
end
