/-! THE PROGRAM'S TEXT: the relation between reader and Model, and its steps -/
set_option maxRecDepth 100000
/-- the row that a forest makes -/
def foR : Fo → List Nat
  | .leaf => []
  | .inner s k _ i b => if s = 0 then foR i ++ [k] else foR i ++ (100 + k) :: (foR b ++ [200 + k])
theorem foK_len : ∀ F : Fo, (foK F).length ≤ foNL F + foNQ F := by
  intro F
  induction F with
  | leaf => exact Nat.le_refl _
  | inner s k u i b ihi ihb =>
    rw [show foNL (.inner s k u i b) = if s = 0 then foNL i + 1 else foNL i + foNL b from rfl, show foNQ (.inner s k u i b) = if s = 0 then foNQ i else foNQ i + 1 + foNQ b from rfl, show foK (.inner s k u i b) = foK i ++ [(if s = 0 then false else true, k)] from rfl, List.length_append, List.length_singleton]
    by_cases h : s = 0
    · rw [if_pos h, if_pos h]; omega
    · rw [if_neg h, if_neg h]; omega
theorem wF_congr {ch ch' : Nat → List (Bool × Nat)} {ar ou of_ tm dp ar' ou' of' tm' dp' : Nat → Int32} {dq cm dq' cm' : Nat → Nat} : ∀ (F : Fo) (a p : Nat) (par : Int32) (d m : Nat), wF ch ar ou of_ tm dp dq cm F a p par d m → (∀ l, a ≤ l → l < a + foNL F → ar' l = ar l ∧ dp' l = dp l ∧ tm' l = tm l) → (∀ q, p ≤ q → q < p + foNQ F → ou' q = ou q ∧ of' q = of_ q ∧ dq' q = dq q ∧ cm' q = cm q ∧ ch' q = ch q) → wF ch' ar' ou' of' tm' dp' dq' cm' F a p par d m := by
  intro F
  induction F with
  | leaf => intro a p par d m _ _ _; exact True.intro
  | inner s k u i b ihi ihb =>
    intro a p par d m hw h1 h2
    obtain ⟨hi, hc⟩ := hw
    rcases hc with ⟨rfl, rfl, rfl, w1, w2, w3⟩ | ⟨rfl, rfl, w1, w2, w3, h3, h4, c, c1, c2, c3, hb⟩
    · have h1 : ∀ l, a ≤ l → l < a + (foNL i + 1) → ar' l = ar l ∧ dp' l = dp l ∧ tm' l = tm l := h1
      obtain ⟨e1, e2, e3⟩ := h1 (a + foNL i) (by omega) (by omega)
      exact ⟨ihi a p par d m hi (fun l l1 l2 => h1 l l1 (by omega)) h2, Or.inl ⟨rfl, rfl, rfl, e1.trans w1, e2.trans w2, e3.trans w3⟩⟩
    · have h1 : ∀ l, a ≤ l → l < a + (foNL i + foNL b) → ar' l = ar l ∧ dp' l = dp l ∧ tm' l = tm l := h1
      have h2 : ∀ q, p ≤ q → q < p + (foNQ i + 1 + foNQ b) → ou' q = ou q ∧ of' q = of_ q ∧ dq' q = dq q ∧ cm' q = cm q ∧ ch' q = ch q := h2
      obtain ⟨e1, e2, e3, e4, e5⟩ := h2 (p + foNQ i) (by omega) (by omega)
      exact ⟨ihi a p par d m hi (fun l l1 l2 => h1 l l1 (by omega)) (fun q q1 q2 => h2 q q1 (by omega)), Or.inr ⟨rfl, rfl, e1.trans w1, e3.trans w2, e4.trans w3, h3, e5.trans h4, c, c1, c2, e2.trans c3, ihb _ _ _ _ _ hb (fun l l1 l2 => h1 l (by omega) (by omega)) (fun q q1 q2 => h2 q (by omega) (by omega))⟩⟩
/-- the heap's side -/
def HP (T : Nat → Int32) (t r ta : Nat) (h0 : hH) (tg0 tg : Nat → Nat × Nat) (H : hH) (la qa : Nat) (aL aE aB aI : Nat → Nat) (nl nq : Nat) (ch : Nat → List (Bool × Nat)) (dp tk mk of_ : Nat → Int32) (dq cm : Nat → Nat) (f to : Nat) (kd v : Int32) : Prop :=
  H r = some (rdO ta la (nI nl) qa (nI nq) (nI f) (nI to) kd v) ∧ TXT T t ta H ∧ hGr tg0 tg h0 H ∧ tg r = (20, 0) ∧ DT h0 tg H la qa aL aE aB aI nl nq ch dp tk mk of_ dq cm
section
variable {T : Nat → Int32} {t r ta : Nat} {h0 : hH} {tg0 tg : Nat → Nat × Nat} {H : hH} {la qa : Nat} {aL aE aB aI : Nat → Nat} {nl nq : Nat} {ch : Nat → List (Bool × Nat)} {dp tk mk of_ : Nat → Int32} {dq cm : Nat → Nat} {f to : Nat} {kd v : Int32}
theorem hGr.FR {tg tg1 : Nat → Nat × Nat} {h h1 : hH} (H : hGr tg tg1 h h1) : FR h h1 := fun a x hx => (H a x hx).1
theorem HP.tok (P : HP T t r ta h0 tg0 tg H la qa aL aE aB aI nl nq ch dp tk mk of_ dq cm f to kd v) (hr0 : h0 r = none) (hne : ta ≠ r) (f' to' : Nat) (kd' v' : Int32) : HP T t r ta h0 tg0 tg (rs H r ta la (nI nl) qa (nI nq) (nI f') (nI to') kd' v') la qa aL aE aB aI nl nq ch dp tk mk of_ dq cm f' to' kd' v' := by
  obtain ⟨p1, p2, p3, p4, p5⟩ := P
  refine ⟨up_eq, p2.up hne, fun a x hx => ⟨?_, (p3 a x hx).2⟩, p4, p5.fr (fun a ha => up_ne (fun e => ?_))⟩
  · exact (up_ne (fun e => by rw [e, hr0] at hx; cases hx)).trans (p3 a x hx).1
  · rw [e, p4] at ha
    unfold uT at ha
    simp at ha
/-- what an item of a block is -/
theorem DT.cls {nl nq : Nat} (D : DT h0 tg H la qa aL aE aB aI nl nq ch dp tk mk of_ dq cm) {y : Bool × Nat} (hy : (y.1 = true → y.2 < nq) ∧ (y.1 = false → y.2 < nl)) : (∃ fs, H (if y.1 then aB (y.2 + 1) else aL y.2) = some (.inr (7, fs))) ∨ (∃ fs, H (if y.1 then aB (y.2 + 1) else aL y.2) = some (.inr (8, fs))) := by
  obtain ⟨-, -, c, d⟩ := D
  by_cases h : y.1 = true
  · rw [if_pos h]
    obtain ⟨-, -, -, -, k5, -⟩ := d (y.2 + 1) (hy.1 h)
    exact Or.inr ⟨_, k5⟩
  · rw [if_neg h]
    obtain ⟨-, -, k3, -⟩ := c y.2 (hy.2 (by simpa using h))
    exact Or.inl ⟨_, k3⟩
theorem HP.add (P : HP T t r ta h0 tg0 tg H la qa aL aE aB aI nl nq ch dp tk mk of_ dq cm f to kd v) {k c kk : Nat} {y : Bool × Nat} {Qt : Nat → hH → Prop} {Qr : hH → Prop} (hk : k ≤ nq) (hy : (y.1 = true → y.2 < nq) ∧ (y.1 = false → y.2 < nl)) (hlen : (ch k).length < nl + nq) (hb : nl + nq ≤ 60) (hc : 1 ≤ c) (hkk : 2 * (nl + nq) ≤ kk)
    (hQ : ∀ S' tg' aI', HP T t r ta h0 tg0 tg' S' la qa aL aE aB aI' nl nq (va_up ch k (ch k ++ [y])) dp tk mk of_ dq cm f to kd v → Qr S') : fX7_adds Qt Qr H c kk (aB k) (if y.1 then aB (y.2 + 1) else aL y.2) := by
  obtain ⟨p1, p2, p3, p4, p5⟩ := P
  have D := p5
  obtain ⟨⟨a1, a2, fl, a3, a4⟩, ⟨b1, b2, g2, m, b3, b4⟩, cL, d⟩ := p5
  obtain ⟨k1, k2, k3, k4, k5, ⟨f0, m0, k6, k7, k8, k9, k10⟩, k11, k12⟩ := d k hk
  refine x_adds7 (m := m0) (f := f0) k5 (bC_68 k) k6 k7 k8 (by omega) (by omega) (D.cls hy) (Or.inr trivial) (fun i hi z hz => ?_) hc (by omega) (fun x' S' y1 y2 y3 y4 => ?_)
  · have hi2 : (ch k)[i]? = some (ch k)[i] := List.getElem?_eq_getElem hi
    rw [k10 i _ hi2] at hz
    rw [← Option.some.inj hz]
    exact D.cls (k12 _ (List.mem_of_getElem? hi2))
  · have hF := p3.FR
    refine hQ S' (va_up tg x' (bX k)) (va_up aI k x') ⟨?_, ?_, fun a x hx => ?_, ?_, D.add hF hk hy hlen y1 y2 k6 y3 y4⟩
    · have n1 : r ≠ aB k := fun e => by rw [e, k1] at p4; have := congrArg Prod.fst p4; rcases bT_k k with h | h <;> rw [h] at this <;> simp at this
      have n2 : r ≠ x' := fun e => by
        rcases y1 with h | h
        · rw [e, h, k2] at p4; have := congrArg Prod.fst p4; rcases bX_k k with h | h <;> rw [h] at this <;> simp at this
        · rw [e, h] at p1; cases p1
      exact (y4 r n1 n2).trans p1
    · obtain ⟨t1, t2, g, t3, t4⟩ := p2
      refine ⟨t1, t2, g, (y4 ta (fun e => by rw [e, k5] at t3; cases t3) (fun e => ?_)).trans t3, t4⟩
      rcases y1 with h | h
      · rw [e, h, k6] at t3
        simp at t3
      · rw [e, h] at t3; cases t3
    · obtain ⟨q1, q2⟩ := p3 a x hx
      have n2 : a ≠ x' := fun e => by
        rcases y1 with h | h
        · rw [e, h, k4] at hx; cases hx
        · rw [e, h] at q1; cases q1
      exact ⟨(y4 a (fun e => by rw [e, k3] at hx; cases hx) n2).trans q1, (up_ne n2).trans q2⟩
    · rw [up_ne]
      · exact p4
      · intro e
        rcases y1 with h | h
        · rw [e, h, k2] at p4; have := congrArg Prod.fst p4; rcases bX_k k with h | h <;> rw [h] at this <;> simp at this
        · rw [e, h] at p1; cases p1
theorem HP.line (P : HP T t r ta h0 tg0 tg H la qa aL aE aB aI nl nq ch dp tk mk of_ dq cm f to kd v) (hr0 : h0 r = none) (hne : ta ≠ r) {q ev : Nat} {g dp' tk' mk' : Nat → Int32} {fl : Nat → Option Nat} (hq : H q = none) (hev : H ev = none) (hqe : q ≠ ev) (hfl : H la = some (.inl (4, 16, .inr fl))) (hag : ∀ l, l < nl → tk' l = tk l ∧ dp' l = dp l ∧ ∀ e, e < 8 → mk' (8 * l + e) = mk (8 * l + e)) (hg : ∀ e, e < 8 → g e = mk' (8 * nl + e)) (f' to' : Nat) (kd' v' : Int32) :
    HP T t r ta h0 tg0 (va_up (va_up tg q (8, nl)) ev (9, nl)) (rs (va_up (va_up (va_up H q (some (.inr (7, [.int (nI nl), .int (dp' nl), .int (tk' nl), .ref ev, .int 0])))) ev (some (.inl (0, 8, .inl g)))) la (some (.inl (4, 16, .inr (va_up fl nl (some q)))))) r ta la (nI (nl + 1)) qa (nI nq) (nI f') (nI to') kd' v') la qa (va_up aL nl q) (va_up aE nl ev) aB aI (nl + 1) nq ch dp' tk' mk' of_ dq cm f' to' kd' v' := by
  obtain ⟨p1, p2, p3, p4, p5⟩ := P
  have hrq : r ≠ q := fun e => by rw [e, hq] at p1; cases p1
  have hre : r ≠ ev := fun e => by rw [e, hev] at p1; cases p1
  have h0la := p5.1.2.1
  have tr : va_up (va_up tg q (8, nl)) ev (9, nl) r = (20, 0) := (up_ne hre).trans ((up_ne hrq).trans p4)
  refine ⟨up_eq, (((p2.up (p2.ne hq)).up (p2.ne hev)).up (p2.ne2 hfl (by decide))).up hne, fun a x hx => ?_, tr, (p5.line hq hev hqe hfl hag hg).fr (fun a ha => up_ne (fun e => ?_))⟩
  · obtain ⟨q1, q2⟩ := p3 a x hx
    have n1 : a ≠ q := fun e => by rw [e, hq] at q1; cases q1
    have n2 : a ≠ ev := fun e => by rw [e, hev] at q1; cases q1
    have n3 : a ≠ la := fun e => by rw [e, h0la] at hx; cases hx
    have n4 : a ≠ r := fun e => by rw [e, hr0] at hx; cases hx
    exact ⟨(up_ne n4).trans ((up_ne n3).trans ((up_ne n2).trans ((up_ne n1).trans q1))), (up_ne n2).trans ((up_ne n1).trans q2)⟩
  · rw [e, tr] at ha
    unfold uT at ha
    simp at ha
theorem HP.loop (P : HP T t r ta h0 tg0 tg H la qa aL aE aB aI nl nq ch dp tk mk of_ dq cm f to kd v) (hr0 : h0 r = none) (hne : ta ≠ r) {q ax qa' : Nat} {S' : hH} {of' : Nat → Int32} {dq' cm' : Nat → Nat} (hq : H q = none) (hax : H ax = none) (hqx : q ≠ ax) (hqar : qa' ≠ r) (hor : qa' = qa ∨ (H qa' = none ∧ qa' ≠ q ∧ qa' ≠ ax)) (y1 : S' q = some (.inr (8, [.ref ax, .int 0, .int (of' nq), .int (nI (dq' nq)), .int (nI (cm' nq))]))) (y2 : S' ax = some (.inl (6, 2, .inr (fun _ => none)))) {fq : Nat → Option Nat} {m0 : Nat} (hfq : H qa = some (.inl (5, m0, .inr fq))) (y3 : ∃ f' m', S' qa' = some (.inl (5, m', .inr f')) ∧ nq + 1 ≤ m' ∧ 2 ≤ m' ∧ m' ≤ 2 * (nq + 1) + 2 ∧ (∀ j, j < nq → f' j = fq j) ∧ f' nq = some q) (y4 : ∀ a, a ≠ q → a ≠ ax → a ≠ qa' → S' a = H a) (hag : ∀ k, k < nq → of' k = of_ k ∧ dq' k = dq k ∧ cm' k = cm k) (f' to' : Nat) (kd' v' : Int32) :
    HP T t r ta h0 tg0 (va_up (va_up (va_up tg q (10, nq)) ax (11, nq)) qa' (12, 1)) (rs S' r ta la (nI nl) qa' (nI (nq + 1)) (nI f') (nI to') kd' v') la qa' aL aE (va_up aB (nq + 1) q) (va_up aI (nq + 1) ax) nl (nq + 1) (va_up ch (nq + 1) []) dp tk mk of' dq' cm' f' to' kd' v' := by
  obtain ⟨p1, p2, p3, p4, p5⟩ := P
  have hF := p3.FR
  have hrq : r ≠ q := fun e => by rw [e, hq] at p1; cases p1
  have hrx : r ≠ ax := fun e => by rw [e, hax] at p1; cases p1
  have tr : va_up (va_up (va_up tg q (10, nq)) ax (11, nq)) qa' (12, 1) r = (20, 0) := (up_ne (fun e => hqar e.symm)).trans ((up_ne hrx).trans ((up_ne hrq).trans p4))
  have h0qa := p5.2.1.2.1
  have D := p5.loop hF hq hax hqx hor y1 y2 hfq y3 y4 hag
  have ht : TXT T t ta S' := by
    obtain ⟨t1, t2, g, t3, t4⟩ := p2
    refine ⟨t1, t2, g, (y4 ta (fun e => by rw [e, hq] at t3; cases t3) (fun e => by rw [e, hax] at t3; cases t3) (fun e => ?_)).trans t3, t4⟩
    rcases hor with h | h
    · rw [e, h, hfq] at t3
      simp at t3
    · rw [e, h.1] at t3; cases t3
  refine ⟨up_eq, ht.up hne, fun a x hx => ?_, tr, D.fr (fun a ha => up_ne (fun e => ?_))⟩
  · obtain ⟨q1, q2⟩ := p3 a x hx
    have n1 : a ≠ q := fun e => by rw [e, hq] at q1; cases q1
    have n2 : a ≠ ax := fun e => by rw [e, hax] at q1; cases q1
    have n3 : a ≠ qa' := fun e => by
      rcases hor with h | h
      · rw [e, h, h0qa] at hx; cases hx
      · rw [e, h.1] at q1; cases q1
    have n4 : a ≠ r := fun e => by rw [e, hr0] at hx; cases hx
    exact ⟨(up_ne n4).trans ((y4 a n1 n2 n3).trans q1), (up_ne n3).trans ((up_ne n2).trans ((up_ne n1).trans q2))⟩
  · rw [e, tr] at ha
    unfold uT at ha
    simp at ha
end
/-- the Model's side, within a block k: its forest F with lines from a on and loops from p on, its row from rb on -/
def PD (T : Nat → Int32) (t : Nat) (M : sM) (nl nq : Nat) (ch : Nat → List (Bool × Nat)) (tm dp : Nat → Int32) (dq cm : Nat → Nat) (F : Fo) (a p : Nat) (par : Int32) (d m k rb rw f to : Nat) (kd v : Int32) : Prop :=
  MX T t M ∧ tkS M f to kd v ∧ tkV T t f to kd v ∧ M.1 11 = nI nl ∧ M.1 15 = nI nq ∧ M.1 19 = nI d ∧ M.1 23 = nI rw ∧ nl ≤ 16 ∧ d ≤ 4 ∧ 6 * nl + 10 * nq ≤ f + 4 * d ∧ rw + d ≤ nl + 2 * nq ∧ nl = a + foNL F ∧ nq = p + foNQ F ∧ k ≤ p ∧ ch k = foK F ∧
  wF (fun q => ch (q + 1)) (M.2.2 14) (M.2.2 17) (M.2.2 16) tm dp dq cm F a p par d m ∧ ((d = 0 ∧ par = -4) ∨ (0 < d ∧ M.2.2 18 (d - 1) = par)) ∧ rw = rb + (foR F).length ∧ (∀ j x, (foR F)[j]? = some x → M.2.2 21 (rb + j) = nI x) ∧
  ∀ l, l < nl → inB (M.2.2 12 l).toInt64 1 20 ∧ ∀ e, e < 8 → inB (M.2.2 13 (8 * l + e)).toInt64 0 99
/-- what is kept -/
def AG (M M' : sM) (nl nq d rw k : Nat) (ch ch' : Nat → List (Bool × Nat)) (tm tm' dp dp' : Nat → Int32) (dq dq' cm cm' : Nat → Nat) : Prop :=
  (∀ l, l < nl → M'.2.2 12 l = M.2.2 12 l ∧ M'.2.2 14 l = M.2.2 14 l ∧ tm' l = tm l ∧ dp' l = dp l ∧ ∀ e, e < 8 → M'.2.2 13 (8 * l + e) = M.2.2 13 (8 * l + e)) ∧
  (∀ q, q < nq → M'.2.2 16 q = M.2.2 16 q ∧ M'.2.2 17 q = M.2.2 17 q ∧ dq' q = dq q ∧ cm' q = cm q) ∧ (∀ i, i < d → M'.2.2 18 i = M.2.2 18 i) ∧ (∀ j, j < rw → M'.2.2 21 j = M.2.2 21 j) ∧ (∀ j, j ≤ nq → j ≠ k → ch' j = ch j) ∧ KP M M'
theorem AG.trans {M M1 M2 : sM} {nl nq d rw k nl1 nq1 rw1 : Nat} {ch ch1 ch2 : Nat → List (Bool × Nat)} {tm tm1 tm2 dp dp1 dp2 : Nat → Int32} {dq dq1 dq2 cm cm1 cm2 : Nat → Nat} (h : AG M M1 nl nq d rw k ch ch1 tm tm1 dp dp1 dq dq1 cm cm1) (h' : AG M1 M2 nl1 nq1 d rw1 k ch1 ch2 tm1 tm2 dp1 dp2 dq1 dq2 cm1 cm2) (h1 : nl ≤ nl1) (h2 : nq ≤ nq1) (h3 : rw ≤ rw1) : AG M M2 nl nq d rw k ch ch2 tm tm2 dp dp2 dq dq2 cm cm2 := by
  obtain ⟨a1, a2, a3, a4, a5, a6⟩ := h
  obtain ⟨b1, b2, b3, b4, b5, b6⟩ := h'
  refine ⟨fun l hl => ?_, fun q hq => ?_, fun i hi => (b3 i hi).trans (a3 i hi), fun j hj => (b4 j (by omega)).trans (a4 j hj), fun j hj hk => (b5 j (by omega) hk).trans (a5 j hj hk), a6.trans b6⟩
  · obtain ⟨x1, x2, x3, x4, x5⟩ := a1 l hl
    obtain ⟨y1, y2, y3, y4, y5⟩ := b1 l (by omega)
    exact ⟨y1.trans x1, y2.trans x2, y3.trans x3, y4.trans x4, fun e he => (y5 e he).trans (x5 e he)⟩
  · obtain ⟨x1, x2, x3, x4⟩ := a2 q hq
    obtain ⟨y1, y2, y3, y4⟩ := b2 q (by omega)
    exact ⟨y1.trans x1, y2.trans x2, y3.trans x3, y4.trans x4⟩
