/-! LOOPS: the Model's side; loop, went -/
set_option maxRecDepth 100000
theorem bI_at {ci a k : Nat} {h : hH} {fs : List Value} {v : Int32} (ha : h a = some (.inr (ci, fs))) (hc : ci = 6 ∨ ci = 8) (hv : fs[k]? = some (.int v)) : bI h a k = some v := by
  unfold bI bFld
  rw [ha]
  dsimp only
  rw [if_pos hc, hv]
theorem bR_at {ci a k : Nat} {h : hH} {fs : List Value} {v : Nat} (ha : h a = some (.inr (ci, fs))) (hc : ci = 6 ∨ ci = 8) (hv : fs[k]? = some (.ref v)) : bR h a k = some v := by
  unfold bR bFld
  rw [ha]
  dsimp only
  rw [if_pos hc, hv]
theorem bkO_at {h : hH} {aL aQ : Nat → Nat} {a x ci m : Nat} {K : List (Bool × Nat)} {rest : List Value} {f : Nat → Option Nat} (ha : h a = some (.inr (ci, .ref x :: .int (nI K.length) :: rest))) (hc : ci = 6 ∨ ci = 8) (hx : h x = some (.inl (6, m, .inr f))) (hm : K.length ≤ m) (hm2 : m ≤ 1000) (hf : ∀ j y, K[j]? = some y → f j = some (if y.1 then aQ y.2 else aL y.2)) : bkO h aL aQ a K := by
  refine ⟨by omega, bI_at ha hc rfl, x, bR_at ha hc rfl, fun j y hy => ?_⟩
  have hj : j < K.length := (List.getElem?_eq_some_iff.mp hy).1
  exact hAr_at hx (by omega) (by omega) (hf j y hy)
theorem INV_EV {S : sX} {M : sM} {ad : Nat → Nat → Nat} {tg : Nat → Nat × Nat} {dp : Nat → Int32} {nl n nq : Nat} {ch : Nat → List (Bool × Nat)} {dq cm : Nat → Nat} (hP : iP ad tg dp nl n S.2.2.2 (S.2.2.1 3) (S.2.2.1 7) (S.1 4) (M.1 0) (S.1 8) (M.1 7) (S.1 9) (M.1 10) (S.2.1 10) (M.2.2 1) (M.2.2 2) (M.2.2 8) (M.2.2 9)) (hQ : iQ ad tg dp nl nq ch dq cm S.2.2.2 (S.2.2.1 5) (S.1 6) (M.1 4) (M.2.2 3) (M.2.2 6) (M.2.2 5) (M.2.2 9)) : EV S.2.2.2 (ad 8) (ad 9) (ad 10) nl nq ch (M.2.2 5) (M.2.2 2) := by
  obtain ⟨p1, p2, p3, p4, p5, p6, p7, p8, p9, -, -, g, -⟩ := hP
  obtain ⟨e1, e2, e3, e4, -, e5, gq, -⟩ := hQ
  constructor
  · intro l hl
    obtain ⟨k1, k2, k3, ⟨g0, k4, k5⟩, -⟩ := g l hl
    exact ⟨_, k3, rfl, rfl, g0, k4, k5⟩
  · intro q hq
    obtain ⟨k1, k2, k3, k4, k5, k6, f, m, k7, k8, k9, k10⟩ := gq q hq
    exact ⟨_, k6, rfl, bkO_at k6 (Or.inr rfl) k7 k8 k9 k10⟩
def wiB (ou : Nat → Int32) (q : Nat) : Nat → Nat → Bool
  | 0, _ => false
  | n + 1, r => decide (r = q) || (if ou r = -4 then false else wiB ou q n (ou r).toNatClampNeg)
def wiX (ou : Nat → Int32) (q : Nat) (x : Int32) : Bool := if x = -4 then false else wiB ou q (x.toNatClampNeg + 1) x.toNatClampNeg
section
variable {ou : Nat → Int32} {q nq nl N : Nat} {M : sM}
theorem wi_st (hO : ∀ r, r < nq → ou r = -4 ∨ ∃ p, p < r ∧ ou r = nI p) (hq : nq ≤ 40) : ∀ r n, r < n → r < nq → wiB ou q n r = wiB ou q (r + 1) r := by
  intro r
  induction r using Nat.strongRecOn with
  | _ r ih =>
    intro n hn hr
    obtain ⟨n, rfl⟩ : ∃ m, n = m + 1 := ⟨n - 1, by omega⟩
    rw [wiB, wiB]
    rcases hO r hr with h | ⟨p, hp, h⟩
    · rw [if_pos h, if_pos h]
    · rw [h, if_neg (nI_nm4 (by omega)), if_neg (nI_nm4 (by omega)), nI_clamp (by omega), ih p hp n (by omega) (by omega), ih p hp r hp (by omega)]
theorem wi_sp (hO : ∀ r, r < nq → ou r = -4 ∨ ∃ p, p < r ∧ ou r = nI p) (hq : nq ≤ 40) {r : Nat} (hr : r < nq) : wiX ou q (nI r) = (decide (r = q) || wiX ou q (ou r)) := by
  unfold wiX
  rw [if_neg (nI_nm4 (by omega)), nI_clamp (by omega), wiB]
  rcases hO r hr with h | ⟨p, hp, h⟩
  · rw [if_pos h, if_pos h]
  · rw [h, if_neg (nI_nm4 (by omega)), if_neg (nI_nm4 (by omega)), nI_clamp (by omega), wi_st hO hq p r hp (by omega)]
theorem within_loop (hO : ∀ r, r < nq → M.2.2 6 r = -4 ∨ ∃ p, p < r ∧ M.2.2 6 r = nI p) (hq : nq ≤ 40) (hqq : q < nq) (kx : Int32 → Option Int32) : ∀ (r n : Nat) (acc : Bool), r < nq → r + 1 < n → fX3_isWithin_5 N M kx n (nI q) (if acc = true then 1 else 0) (nI r) = kx (if (acc || wiX (M.2.2 6) q (nI r)) = true then 1 else 0) := by
  intro r
  induction r using Nat.strongRecOn with
  | _ r ih =>
    intro n acc hr hn
    obtain ⟨n, rfl⟩ : ∃ m, n = m + 1 := ⟨n - 1, by omega⟩
    have nxt : ∀ b : Bool, (ec_ag (M.2.2 6) 40 (nI r)).bind (fun v_1 => fX3_isWithin_5 N M kx n (nI q) (if b = true then 1 else 0) v_1) = kx (if (b || wiX (M.2.2 6) q (M.2.2 6 r)) = true then 1 else 0) := by
      intro b
      rw [ag_at (by omega) (by decide), Option.bind_some]
      rcases hO r hr with h | ⟨p, hp, h⟩
      · obtain ⟨n, rfl⟩ : ∃ m, n = m + 1 := ⟨n - 1, by omega⟩
        rw [h, fX3_isWithin_5, if_pos rfl]
        have : wiX (M.2.2 6) q (-4) = false := if_pos rfl
        rw [this, Bool.or_false]
      · rw [h]
        exact ih p hp n b (by omega) (by omega)
    rw [wi_sp hO hq hr, ← Bool.or_assoc, fX3_isWithin_5, if_neg (nI_nm4 (by omega))]
    unfold fX3_isWithin_22 fX3_isWithin_27
    have h1 := nxt true
    rw [if_pos rfl] at h1
    cases acc with
    | true =>
      rw [if_pos (show ¬ (if true = true then (1 : Int32) else 0) = 0 by decide), h1]
      rfl
    | false =>
      rw [if_neg (show ¬ ¬ (if false = true then (1 : Int32) else 0) = 0 by decide)]
      by_cases c : r = q
      · rw [if_neg (show ¬ ¬ nI r = nI q by rw [c]; exact not_not_intro rfl), h1, decide_eq_true c]
        rfl
      · have h0 := nxt false
        rw [if_neg (by decide)] at h0
        rw [if_pos (show ¬ nI r = nI q from fun e => c ((nI_eq (by omega) (by omega)).mp e)), h0, decide_eq_false c]
        rfl
theorem m_within (hO : ∀ r, r < nq → M.2.2 6 r = -4 ∨ ∃ p, p < r ∧ M.2.2 6 r = nI p) (hq : nq ≤ 40) (hqq : q < nq) (hN : 100 ≤ N) {x : Int32} (hx : x = -4 ∨ ∃ r, r < nq ∧ x = nI r) : fX3_isWithin N M x (nI q) = some (if wiX (M.2.2 6) q x = true then 1 else 0) := by
  unfold fX3_isWithin
  rcases hx with rfl | ⟨r, hr, rfl⟩
  · obtain ⟨n, rfl⟩ : ∃ m, N = m + 1 := ⟨N - 1, by omega⟩
    rw [fX3_isWithin_5, if_pos rfl]
    rfl
  · have := within_loop (N := N) hO hq hqq (fun x3_2 => ec_rz x3_2) r N false hr (by omega)
    rw [if_neg (by decide)] at this
    rw [this, rz_01, Bool.false_or]
theorem lin_loop (hO : ∀ r, r < nq → M.2.2 6 r = -4 ∨ ∃ p, p < r ∧ M.2.2 6 r = nI p) (hq : nq ≤ 40) (hqq : q < nq) (hN : 100 ≤ N) (h0 : M.1 0 = nI nl) (hl : nl ≤ 16) (hA : ∀ l, l < nl → M.2.2 3 l = -4 ∨ ∃ r, r < nq ∧ M.2.2 3 l = nI r) {lo c : Nat} (hc : lo + c ≤ nl) (hW : ∀ l, l < nl → wiX (M.2.2 6) q (M.2.2 3 l) = decide (lo ≤ l ∧ l < lo + c)) (kx : Int32 → Option Int32) : ∀ k l n, l + k = nl → k < n → fX3_linesIn_4 N M kx n (nI q) (nI (bmN lo (min (l - lo) c))) (nI l) = kx (nI (bmN lo c)) := by
  intro k
  induction k with
  | zero =>
    intro l n hk hn
    obtain ⟨n, rfl⟩ : ∃ m, n = m + 1 := ⟨n - 1, by omega⟩
    have : l = nl := by omega
    subst this
    rw [fX3_linesIn_4, h0, if_pos (nI_le (Nat.le_refl _) (by omega)), show min (l - lo) c = c by omega]
  | succ k ih =>
    intro l n hk hn
    obtain ⟨n, rfl⟩ : ∃ m, n = m + 1 := ⟨n - 1, by omega⟩
    rw [fX3_linesIn_4, h0, if_neg (nI_ge (by omega) (by omega)), ag_at (by omega) (by decide), Option.bind_some, m_within hO hq hqq hN (hA l (by omega)), Option.bind_some, hW l (by omega)]
    unfold fX3_linesIn_34
    simp only [ec_lt]
    rw [nI_1, (pw_I l (by omega)).1]
    by_cases h : lo ≤ l ∧ l < lo + c
    · rw [decide_eq_true h, if_pos rfl, if_neg (by decide), fa_or]
      have e : bmN lo (min (l - lo) c) ||| 2 ^ l = bmN lo (min (l + 1 - lo) c) := by
        rw [show min (l + 1 - lo) c = min (l - lo) c + 1 by omega, bmN]
        congr 2
        omega
      rw [e]
      exact ih (l + 1) n (by omega) (by omega)
    · rw [decide_eq_false h, if_pos (show (if false = true then (1 : Int32) else 0) = 0 by decide)]
      have e : min (l - lo) c = min (l + 1 - lo) c := by omega
      rw [show nI (bmN lo (min (l - lo) c)) ||| 0 = nI (bmN lo (min (l - lo) c)) from Int32.or_zero, e]
      exact ih (l + 1) n (by omega) (by omega)
theorem m_linesIn (hO : ∀ r, r < nq → M.2.2 6 r = -4 ∨ ∃ p, p < r ∧ M.2.2 6 r = nI p) (hq : nq ≤ 40) (hqq : q < nq) (hN : 100 ≤ N) (h0 : M.1 0 = nI nl) (hl : nl ≤ 16) (hA : ∀ l, l < nl → M.2.2 3 l = -4 ∨ ∃ r, r < nq ∧ M.2.2 3 l = nI r) {lo c : Nat} (hc : lo + c ≤ nl) (hW : ∀ l, l < nl → wiX (M.2.2 6) q (M.2.2 3 l) = decide (lo ≤ l ∧ l < lo + c)) : fX3_linesIn N M (nI q) = some (nI (bmN lo c)) := by
  unfold fX3_linesIn
  have := lin_loop (N := N) hO hq hqq hN h0 hl hA hc hW (fun x2_5 => some x2_5) nl 0 N (by omega) (by omega)
  rw [show min (0 - lo) c = 0 by omega] at this
  exact this
end
section
variable {S : sX} {M : sM} {ad : Nat → Nat → Nat} {tg : Nat → Nat × Nat} {dp : Nat → Int32} {nl n nq : Nat} {ch : Nat → List (Bool × Nat)} {dq cm : Nat → Nat} {N : Nat}
theorem comes_loop (hQ : iQ ad tg dp nl nq ch dq cm S.2.2.2 (S.2.2.1 5) (S.1 6) (M.1 4) (M.2.2 3) (M.2.2 6) (M.2.2 5) (M.2.2 9)) (kx : Int32 → Int32 → Int32 → Option Int32) (x1 x2 : Int32) : ∀ r n acc, r < nq → r < n → fX3_loop_40 N M kx n x1 x2 acc (M.2.2 6 r) = kx x1 x2 (acc * nI (cm r)) := by
  obtain ⟨e1, -, -, -, -, -, g, -⟩ := hQ
  intro r
  induction r using Nat.strongRecOn with
  | _ r ih =>
    intro n acc hr hn
    obtain ⟨n, rfl⟩ : ∃ m, n = m + 1 := ⟨n - 1, by omega⟩
    obtain ⟨-, -, h3, -⟩ := g r hr
    rcases h3 with ⟨h4, -, h5⟩ | ⟨p, k, h4, h5, h6, h7, h8⟩
    · rw [h4, fX3_loop_40, if_pos rfl, h5, show nI 1 = (1 : Int32) from rfl, Int32.mul_one]
    · rw [h5, fX3_loop_40, if_neg (nI_nm4 (by omega)), ag_at (by omega) (by decide), Option.bind_some, h7]
      simp only [ec_lt]
      rw [ag_at (by omega) (by decide), Option.bind_some, ih p h4 n _ (by omega) (by omega), h8, Int32.mul_assoc, pk_mul, Nat.mul_comm]
theorem q_depthQ (hQ : iQ ad tg dp nl nq ch dq cm S.2.2.2 (S.2.2.1 5) (S.1 6) (M.1 4) (M.2.2 3) (M.2.2 6) (M.2.2 5) (M.2.2 9)) (hN : 100 ≤ N) {q : Nat} (hq : q < nq) : fX3_depthOf N M (M.2.2 6 q) = some (nI (dq q)) := by
  have hQ2 := hQ
  obtain ⟨e1, -, -, -, -, -, g, -⟩ := hQ2
  unfold fX3_depthOf
  obtain ⟨-, -, h3, -⟩ := g q hq
  rcases h3 with ⟨h4, h5, -⟩ | ⟨p, k, h4, h5, h6, -⟩
  · obtain ⟨n, rfl⟩ : ∃ m, N = m + 1 := ⟨N - 1, by omega⟩
    rw [h4, fX3_depthOf_4, if_pos rfl, h5]
    rfl
  · rw [h5, dep_loop hQ _ p N 0 (by omega) (by omega), h6]
    congr 1
    exact Int32.zero_add _
theorem cm_pos (hQ : iQ ad tg dp nl nq ch dq cm S.2.2.2 (S.2.2.1 5) (S.1 6) (M.1 4) (M.2.2 3) (M.2.2 6) (M.2.2 5) (M.2.2 9)) : ∀ {q : Nat}, q < nq → 1 ≤ cm q := by
  obtain ⟨e1, -, -, -, -, -, g, -⟩ := hQ
  intro q
  induction q using Nat.strongRecOn with
  | _ q ih =>
    intro hq
    obtain ⟨-, -, h3, -⟩ := g q hq
    rcases h3 with ⟨h4, h5, h6⟩ | ⟨p, k, h4, h5, h6, h7, h8⟩
    · omega
    · obtain ⟨-, ⟨k', k1, k2, k3⟩, -⟩ := g p (by omega)
      have e : k = k' ∨ True := Or.inr trivial
      have h9 := ih p h4 (by omega)
      rw [h8]
      have hk : nI k = nI k' := h7.symm.trans k3
      by_cases hk0 : k = 0
      · subst hk0
        exact absurd ((nI_eq (by decide) (by omega)).mp hk) (by omega)
      · exact Nat.mul_pos h9 (by omega)
theorem sum82 (h0 : M.1 0 = nI nl) (hl : nl ≤ 16) {s : Nat} (hs : s < 65536) (ht : ∀ l, l < nl → ∃ k, k ≤ 6000 ∧ M.2.2 9 l = nI k) (kx : Int32 → Int32 → Int32 → Int32 → Int32 → Option Int32) (x1 x2 x3 : Int32) : ∀ k l n, l + k = nl → k < n → fX3_loop_82 N M kx n x1 x2 x3 (nI s) (nI (sN (fun l => if s.testBit l then (M.2.2 9 l).toNatClampNeg else 0) 0 l)) (nI l) = kx x1 x2 x3 (nI s) (nI (sN (fun l => if s.testBit l then (M.2.2 9 l).toNatClampNeg else 0) 0 nl)) := by
  intro k
  induction k with
  | zero =>
    intro l n hk hn
    obtain ⟨n, rfl⟩ : ∃ m, n = m + 1 := ⟨n - 1, by omega⟩
    have : l = nl := by omega
    subst this
    rw [fX3_loop_82, h0, if_pos (nI_le (Nat.le_refl _) (by omega))]
  | succ k ih =>
    intro l n hk hn
    obtain ⟨n, rfl⟩ : ∃ m, n = m + 1 := ⟨n - 1, by omega⟩
    have nx := ih (l + 1) n (by omega) (by omega)
    rw [sN, Nat.zero_add] at nx
    rw [fX3_loop_82, h0, if_neg (nI_ge (by omega) (by omega))]
    unfold fX3_loop_115
    simp only [ec_lt]
    rw [nI_1]
    cases hb : s.testBit l with
    | false =>
      rw [if_pos ((bit_n1 (by omega) (by omega)).mpr hb)]
      rw [hb, if_neg (by decide), Nat.add_zero] at nx
      rw [Int32.add_zero]
      exact nx
    | true =>
      rw [if_neg (fun h => by rw [(bit_n1 (by omega) (by omega)).mp h] at hb; cases hb), ag_at (by omega) (by decide), Option.bind_some]
      obtain ⟨k, k1, k2⟩ := ht l (by omega)
      rw [hb, if_pos rfl, k2, nI_clamp (by omega), ← nI_add] at nx
      rw [k2]
      exact nx
/-- a loop on both sides -/
theorem loop_at (hP : iP ad tg dp nl n S.2.2.2 (S.2.2.1 3) (S.2.2.1 7) (S.1 4) (M.1 0) (S.1 8) (M.1 7) (S.1 9) (M.1 10) (S.2.1 10) (M.2.2 1) (M.2.2 2) (M.2.2 8) (M.2.2 9)) (hQ : iQ ad tg dp nl nq ch dq cm S.2.2.2 (S.2.2.1 5) (S.1 6) (M.1 4) (M.2.2 3) (M.2.2 6) (M.2.2 5) (M.2.2 9)) (hN : 2000 ≤ N) {q : Nat} (hq : q < nq) :
    ∃ b lo c, lo + foNL b ≤ nl ∧ 1 ≤ c ∧ c ≤ 99 ∧ M.2.2 5 q = nI c ∧ cm q ≤ 99 ^ 3 ∧ fX3_linesIn N M (nI q) = some (nI (bmN lo (foNL b))) ∧ foLn b = bmN lo (foNL b) ∧ ch q = foK b ∧ q + 1 + foNQ b ≤ nq ∧ dq q ≤ 3 ∧ cm q * c ≤ 99 ^ (dq q + 1) ∧ wF ch (M.2.2 3) (M.2.2 6) (M.2.2 5) (M.2.2 9) dp dq cm b lo (q + 1) (nI q) (dq q + 1) (cm q * c) := by
  have hQ2 := hQ
  obtain ⟨e1, -, -, -, -, e5, g, F, F1, F2, F3⟩ := hQ2
  have hP2 := hP
  obtain ⟨p1, p2, p3, -⟩ := hP2
  obtain ⟨z1, b, lo, z2, z3, z4, z5, z6, ⟨c, c1, c2, c3, c4⟩, z8⟩ := wF_cm (nq := nq) F 0 0 (-4) 0 1 F3 (by decide) (by omega) q (by omega) (by omega)
  rw [Nat.zero_add, F1] at z3
  rw [Nat.zero_add, F2] at z4
  have hO : ∀ r, r < nq → M.2.2 6 r = -4 ∨ ∃ p, p < r ∧ M.2.2 6 r = nI p := fun r hr => by
    obtain ⟨-, -, h3, -⟩ := g r hr
    rcases h3 with ⟨h4, -⟩ | ⟨p, k, h4, h5, -⟩
    · exact Or.inl h4
    · exact Or.inr ⟨p, h4, h5⟩
  have hA : ∀ l, l < nl → M.2.2 3 l = -4 ∨ ∃ r, r < nq ∧ M.2.2 3 l = nI r := fun l hl => by
    rcases e5 l hl with ⟨h4, -⟩ | ⟨r, k, h4, h5, -⟩
    · exact Or.inl h4
    · exact Or.inr ⟨r, h4, h5⟩
  have hW := z8 (wiX (M.2.2 6) q) (fun r hr => wi_sp hO (by omega) hr) (if_pos rfl)
  have h3 : (99 : Nat) ^ dq q ≤ 99 ^ 3 := Nat.pow_le_pow_right (by decide) z6
  refine ⟨b, lo, c, z3, c1, c2, c3, by omega, m_linesIn hO (by omega) hq (by omega) p3 p1 hA z3 (fun l hl => hW l (by omega) (by rw [Nat.zero_add, F1]; exact hl)), wF_ln b _ _ _ _ _ c4, z5, z4, z6, ?_, c4⟩
  rw [Nat.pow_succ]
  exact Nat.mul_le_mul z1 c2
end
theorem ob_loop {N : Nat} (hN : 2000 ≤ N) : OB_loop N INV := by
  intro S M x1 x2 hI
  obtain ⟨ad, tg, row, dp, nl, n, nq, ch, dq, cm, hT, hC, hR, hH, hK, hP, hQ⟩ := hI
  have hQ2 := hQ
  obtain ⟨e1, e2, e3, e4, ⟨f, m, f1, f2, f3, f4⟩, e5, g, -⟩ := hQ2
  have hP2 := hP
  obtain ⟨p1, p2, p3, -, -, -, -, -, -, -, -, gl, -⟩ := hP2
  unfold fX0_loop fX3_loop fX3_loop_28
  rw [x_isLoop, m_in, m_in, e2, e3]
  simp only [Option.bind_some, z01, Decidable.not_not]
  by_cases h1 : inB x1.toInt64 0 ((nI nq - 1).toInt64)
  rotate_left
  · rw [if_neg h1, if_pos h1]
    exact ⟨_, rfl, rfl⟩
  rw [if_pos h1, if_neg (not_not_intro h1)]
  obtain ⟨q, hq, rfl⟩ := (in_nat (by omega)).mp h1
  obtain ⟨b, lo, c, b1, b2, b3, b4, b5, b6, b7, b8, b9, b10, b11, b12⟩ := loop_at hP hQ hN hq
  obtain ⟨k1, k2, k3, k4, k5, k6, fq, mq, k7, k8, k9, k10⟩ := g q hq
  have hE := INV_EV hP hQ
  have hbk : bkO S.2.2.2 (ad 8) (ad 10) (ad 10 q) (ch q) := bkO_at k6 (Or.inr rfl) k7 k8 k9 k10
  have hkb : (foK b).length ≤ 1000 := by rw [← b8]; exact hbk.1
  rw [hAr_at f1 (by omega) (by omega) (f4 q hq), Option.bind_some]
  have ht : ∀ l, l < nl → ∃ k, k ≤ 6000 ∧ M.2.2 9 l = nI k := fun l hl => by
    obtain ⟨-, -, -, -, -, -, k, t1, t2, t3⟩ := gl l hl
    exact ⟨k, t3, t1⟩
  have hmask : bmN lo (foNL b) < 65536 := bmN_lt _ _ (by omega)
  -- the Model's answer
  have hmod : ∀ w : Int32, inB w.toInt64 0 4 → (if inB w.toInt64 0 4 then (ec_ag (M.2.2 6) 40 (nI q)).bind fun v_3 => fX3_loop_40 N M (fun x1_7 x2_8 x3_9 => (fX3_linesIn N M x1_7).bind fun v_10 => fX3_loop_82 N M (fun x1_14 x2_15 x3_16 x4_17 x5_18 => if ¬ x2_15 = 0 then (if ¬ x2_15 = (1 : Int32) then (if ¬ x2_15 = (2 : Int32) then (if ¬ x2_15 = (3 : Int32) then (some x5_18) else (some x3_16)) else (some x4_17)) else ((ec_ag (M.2.2 6) 40 x1_14).bind fun v_19 => (fX3_depthOf N M v_19).bind fun v_20 => some v_20)) else ((ec_ag (M.2.2 5) 40 x1_14).bind fun v_21 => some v_21)) N x1_7 x2_8 x3_9 v_10 (0 : Int32) (0 : Int32)) N (nI q) w (1 : Int32) v_3 else some (-1 : Int32)) = (if ¬ w = 0 then (if ¬ w = (1 : Int32) then (if ¬ w = (2 : Int32) then (if ¬ w = (3 : Int32) then (some (nI (cm q * c * foSt (M.2.2 5) b))) else (some (nI (cm q)))) else (some (nI (bmN lo (foNL b))))) else some (nI (dq q))) else some (nI c)) := by
    intro w hw
    rw [if_pos hw, ag_at (by omega) (by decide), Option.bind_some, comes_loop hQ _ _ _ q N 1 hq (by omega), b6, Option.bind_some, Int32.one_mul]
    have := sum82 (N := N) p3 p1 hmask ht (fun x1_14 x2_15 x3_16 x4_17 x5_18 => if ¬ x2_15 = 0 then (if ¬ x2_15 = (1 : Int32) then (if ¬ x2_15 = (2 : Int32) then (if ¬ x2_15 = (3 : Int32) then (some x5_18) else (some x3_16)) else (some x4_17)) else ((ec_ag (M.2.2 6) 40 x1_14).bind fun v_19 => (fX3_depthOf N M v_19).bind fun v_20 => some v_20)) else ((ec_ag (M.2.2 5) 40 x1_14).bind fun v_21 => some v_21)) (nI q) w (nI (cm q)) nl 0 N (by omega) (by omega)
    rw [sN] at this
    rw [show (0 : Int32) = nI 0 from rfl] at *
    rw [this, ag_at (by omega) (by decide), Option.bind_some, q_depthQ hQ (by omega) hq, Option.bind_some, ag_at (by omega) (by decide), Option.bind_some, b4]
    have hsum : sN (fun l => if (bmN lo (foNL b)).testBit l then (M.2.2 9 l).toNatClampNeg else 0) 0 nl = cm q * c * foSt (M.2.2 5) b := by
      have s1 := wF_sum (c := 1) (by decide) (fun _ => 1) b lo (q + 1) (nI q) (dq q + 1) (cm q * c) (by rw [Nat.one_mul]; exact b12) (by rw [Nat.one_mul]; exact b11) (by omega)
      rw [← s1, ← sN_ind (nl := nl) _ b1]
      refine sN_congr (fun l h1 h2 => ?_)
      rw [bmN_tb]
      by_cases c : lo ≤ l ∧ l < lo + foNL b
      · rw [decide_eq_true c, if_pos rfl, if_pos c, Nat.div_one, Nat.mul_one]
      · rw [decide_eq_false c, if_neg (by decide), if_neg c]
    rw [hsum]
  by_cases h0 : inB x2.toInt64 0 4
  rotate_left
  · have n0 : ¬ x2 = 0 := fun e => h0 (by rw [e]; decide)
    have n1 : ¬ x2 = 1 := fun e => h0 (by rw [e]; decide)
    have n2 : ¬ x2 = 2 := fun e => h0 (by rw [e]; decide)
    have n3 : ¬ x2 = 3 := fun e => h0 (by rw [e]; decide)
    have n4 : ¬ x2 = 4 := fun e => h0 (by rw [e]; decide)
    rw [if_neg h0, if_neg n0, if_neg n1, if_neg n2, if_neg n3, if_neg n4]
    exact ⟨_, rfl, rfl⟩
  rw [hmod x2 h0]
  by_cases n0 : x2 = 0
  · rw [if_pos n0, if_neg (not_not_intro n0), hI_at (v := M.2.2 5 q) k6 rfl, b4]
    exact ⟨_, rfl, rfl⟩
  rw [if_neg n0, if_pos n0]
  by_cases n1 : x2 = 1
  · rw [if_pos n1, if_neg (not_not_intro n1), hI_at (v := nI (dq q)) k6 rfl]
    exact ⟨_, rfl, rfl⟩
  rw [if_neg n1, if_pos n1]
  by_cases n2 : x2 = 2
  · rw [if_pos n2, if_neg (not_not_intro n2), hObj_at k6, Option.bind_some]
    have := ev_lines hE hN p1 b lo (q + 1) (nI q) (dq q + 1) (cm q * c) 8 (ch q) [] (ad 10 q) (N - (foK b).length - 1 + 1) 0 (fun x0_7 x1_8 => some x1_8) b12 b1 b9 (by omega) (by omega) hbk (by rw [b8, List.append_nil])
    rw [show N - (foK b).length - 1 + 1 + (foK b).length = N by omega] at this
    unfold fX7_lines
    rw [show (0 : Int32) = nI 0 from rfl] at *
    rw [this, fX7_lines_4, hbk.2.1, Option.bind_some, b8, if_pos (nI_le (Nat.le_refl _) (by omega)), Nat.zero_or, b7]
    exact ⟨_, rfl, rfl⟩
  rw [if_neg n2, if_pos n2]
  by_cases n3 : x2 = 3
  · rw [if_pos n3, if_neg (not_not_intro n3), hI_at (v := nI (cm q)) k6 rfl]
    exact ⟨_, rfl, rfl⟩
  rw [if_neg n3, if_pos n3]
  by_cases n4 : x2 = 4
  rotate_left
  · exfalso
    obtain ⟨j, -, hj, rfl⟩ := (in_lit 0 4 (by decide) (by decide)).mp h0
    rcases (show j = 0 ∨ j = 1 ∨ j = 2 ∨ j = 3 ∨ j = 4 by omega) with rfl | rfl | rfl | rfl | rfl
    · exact n0 rfl
    · exact n1 rfl
    · exact n2 rfl
    · exact n3 rfl
    · exact n4 rfl
  rw [if_pos n4, hI_at (v := nI (cm q)) k6 rfl, Option.bind_some, hObj_at k6, Option.bind_some]
  have e7 : fX7_steps N S.2.2.2 (fV_steps N S.2.2.2 8) (ad 10 q) = some (lN (foSt (M.2.2 5) b)) := by
    unfold fX7_steps
    have := ev_steps hE hN b lo (q + 1) (nI q) (dq q + 1) (cm q * c) 8 (ch q) [] (ad 10 q) (N - (foK b).length - 1 + 1) 0 (fun x0_7 x1_8 => some x1_8) b12 b1 b9 (by omega) (by omega) hbk (by rw [b8, List.append_nil])
    rw [show N - (foK b).length - 1 + 1 + (foK b).length = N by omega] at this
    rw [this, fX7_steps_4, hbk.2.1, Option.bind_some, b8, if_pos (nI_le (Nat.le_refl _) (by omega)), Int64.zero_add]
  unfold fX9_steps
  rw [hI_at (v := M.2.2 5 q) k6 rfl, Option.bind_some, hObj_at k6, Option.bind_some, e7, Option.bind_some, b4, nI_l (by omega), nI_l (by omega), lN_mul, Option.bind_some, lN_mul, lN_i, Nat.mul_assoc]
  exact ⟨_, rfl, rfl⟩
