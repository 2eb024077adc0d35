/-! reading lines; line, whole, count, counters, feed -/
set_option maxRecDepth 100000
theorem nI_nm4 {q : Nat} (h : q < 2 ^ 31) : ¬ nI q = (-4 : Int32) := fun e => by
  have h2 := congrArg Int32.toInt e
  rw [nI_toInt h, show (-4 : Int32).toInt = -4 from rfl] at h2
  omega
section
variable {S : sX} {M : sM} {ad : Nat → Nat → Nat} {tg : Nat → Nat × Nat} {dp : Nat → Int32} {nl n nq : Nat} {ch : Nat → List (Bool × Nat)} {dq cm : Nat → Nat} {N : Nat}
theorem p_line (hP : iP ad tg dp nl n S.2.2.2 (S.2.2.1 3) (S.2.2.1 7) (S.1 4) (M.1 0) (S.1 8) (M.1 7) (S.1 9) (M.1 10) (S.2.1 10) (M.2.2 1) (M.2.2 2) (M.2.2 8) (M.2.2 9)) {l : Nat} (hl : l < nl) : hAr 4 S.2.2.2 (S.2.2.1 3) (nI l) = some (ad 8 l) := by
  obtain ⟨p1, p2, p3, p4, p5, p6, p7, p8, p9, ⟨f, f1, f2⟩, -⟩ := hP
  exact hAr_at f1 (by omega) (by decide) (f2 l hl)
theorem p_obj (hP : iP ad tg dp nl n S.2.2.2 (S.2.2.1 3) (S.2.2.1 7) (S.1 4) (M.1 0) (S.1 8) (M.1 7) (S.1 9) (M.1 10) (S.2.1 10) (M.2.2 1) (M.2.2 2) (M.2.2 8) (M.2.2 9)) {l : Nat} (hl : l < nl) : S.2.2.2 (ad 8 l) = some (.inr (7, [.int (nI l), .int (dp l), .int (M.2.2 1 l), .ref (ad 9 l), .int (M.2.2 9 l)])) := by
  obtain ⟨p1, p2, p3, p4, p5, p6, p7, p8, p9, -, -, g, -⟩ := hP
  exact (g l hl).2.2.1
theorem p_ev (hP : iP ad tg dp nl n S.2.2.2 (S.2.2.1 3) (S.2.2.1 7) (S.1 4) (M.1 0) (S.1 8) (M.1 7) (S.1 9) (M.1 10) (S.2.1 10) (M.2.2 1) (M.2.2 2) (M.2.2 8) (M.2.2 9)) {l e : Nat} (hl : l < nl) (he : e < 8) : hAi 0 S.2.2.2 (ad 9 l) (nI e) = some (M.2.2 2 (8 * l + e)) := by
  obtain ⟨p1, p2, p3, p4, p5, p6, p7, p8, p9, -, -, g, -⟩ := hP
  obtain ⟨-, -, -, ⟨g0, k4, k5⟩, -⟩ := g l hl
  rw [hAi_at k4 he (by decide), k5 e he]
theorem p_made (hP : iP ad tg dp nl n S.2.2.2 (S.2.2.1 3) (S.2.2.1 7) (S.1 4) (M.1 0) (S.1 8) (M.1 7) (S.1 9) (M.1 10) (S.2.1 10) (M.2.2 1) (M.2.2 2) (M.2.2 8) (M.2.2 9)) {l e : Nat} (hl : l < nl) (he : e < 8) : fX0_made S (nI l) (nI e) = some (M.2.2 9 l * M.2.2 2 (8 * l + e)) := by
  unfold fX0_made
  rw [p_line hP hl, Option.bind_some, hI_at (v := M.2.2 9 l) (p_obj hP hl) rfl, Option.bind_some, Option.bind_some, hR_at (v := ad 9 l) (p_obj hP hl) rfl, Option.bind_some, p_ev hP hl he, Option.bind_some]
theorem p_mb (hP : iP ad tg dp nl n S.2.2.2 (S.2.2.1 3) (S.2.2.1 7) (S.1 4) (M.1 0) (S.1 8) (M.1 7) (S.1 9) (M.1 10) (S.2.1 10) (M.2.2 1) (M.2.2 2) (M.2.2 8) (M.2.2 9)) {l e : Nat} (hl : l < nl) (he : e < 8) : ∃ k, k ≤ 594000 ∧ M.2.2 9 l * M.2.2 2 (8 * l + e) = nI k := by
  obtain ⟨p1, p2, p3, p4, p5, p6, p7, p8, p9, -, -, g, -⟩ := hP
  obtain ⟨-, -, -, -, -, g1, k2, g2, g3⟩ := g l hl
  obtain ⟨k1, g4, g5⟩ := g1 e he
  rw [g2, g5, pk_mul]
  exact ⟨k2 * k1, Nat.mul_le_mul g3.2 g4, rfl⟩
theorem q_made {l e : Nat} (hl : l < 16) (he : e < 8) : fX3_made M (nI l) (nI e) = some (M.2.2 2 (8 * l + e)) := by
  unfold fX3_made
  rw [show (8 : Int32) * nI l + nI e = nI (8 * l + e) from by rw [show (8 : Int32) = nI 8 from rfl, pk_mul, nI_add], ag_at (by omega) (by decide), Option.bind_some]
theorem tot_loop (h0 : M.1 0 = nI nl) (hl : nl ≤ 16) {e : Nat} (he : e < 8) (kx : Int32 → Option Int32) : ∀ k l n, l + k = nl → k < n → fX3_total_4 N M kx n (nI e) (tot (M.2.2 9) (M.2.2 2) l e) (nI l) = kx (tot (M.2.2 9) (M.2.2 2) nl e) := by
  intro k
  induction k with
  | zero =>
    intro l n hk hn
    obtain ⟨n, rfl⟩ : ∃ m, n = m + 1 := ⟨n - 1, by omega⟩
    have : l = nl := by omega
    subst this
    rw [fX3_total_4, h0, if_pos (nI_le (Nat.le_refl _) (by omega))]
  | succ k ih =>
    intro l n hk hn
    obtain ⟨n, rfl⟩ : ∃ m, n = m + 1 := ⟨n - 1, by omega⟩
    rw [fX3_total_4, h0, if_neg (nI_ge (by omega) (by omega)), ag_at (by omega) (by decide), Option.bind_some, q_made (by omega) he, Option.bind_some]
    simp only [ec_lt]
    rw [nI_1]
    exact ih (l + 1) n (by omega) (by omega)
theorem q_total (h0 : M.1 0 = nI nl) (hl : nl ≤ 16) {e : Nat} (he : e < 8) (hN : 100 ≤ N) : fX3_total N M (nI e) = some (tot (M.2.2 9) (M.2.2 2) nl e) := by
  unfold fX3_total
  exact tot_loop h0 hl he _ nl 0 N (by omega) (by omega)
theorem dep_loop (hQ : iQ ad tg dp nl nq ch dq cm S.2.2.2 (S.2.2.1 5) (S.1 6) (M.1 4) (M.2.2 3) (M.2.2 6) (M.2.2 5) (M.2.2 9)) (kx : Int32 → Option Int32) : ∀ q n x, q < nq → q + 1 < n → fX3_depthOf_4 N M kx n x (nI q) = kx (x + nI (dq q + 1)) := by
  obtain ⟨e1, -, -, -, -, -, g, -⟩ := hQ
  intro q
  induction q using Nat.strongRecOn with
  | _ q ih =>
    intro n x hq hn
    obtain ⟨n, rfl⟩ : ∃ m, n = m + 1 := ⟨n - 1, by omega⟩
    have hne : ¬ nI q = (-4 : Int32) := nI_nm4 (by omega)
    rw [fX3_depthOf_4, if_neg hne]
    simp only [ec_lt]
    rw [ag_at (by omega) (by decide), Option.bind_some]
    obtain ⟨-, -, h3, -⟩ := g q hq
    rcases h3 with ⟨h4, h5, -⟩ | ⟨p, k, h4, h5, h6, -⟩
    · obtain ⟨n, rfl⟩ : ∃ m, n = m + 1 := ⟨n - 1, by omega⟩
      rw [h4, fX3_depthOf_4, if_pos rfl, h5]
      rfl
    · rw [h5, ih p h4 n (x + 1) (by omega) (by omega), h6]
      congr 1
      rw [show (1 : Int32) = nI 1 from rfl, Int32.add_assoc, nI_add]
      congr 2
      omega
theorem q_depth (hQ : iQ ad tg dp nl nq ch dq cm S.2.2.2 (S.2.2.1 5) (S.1 6) (M.1 4) (M.2.2 3) (M.2.2 6) (M.2.2 5) (M.2.2 9)) (hN : 100 ≤ N) {l : Nat} (hl : l < nl) : fX3_depthOf N M (M.2.2 3 l) = some (dp l) := by
  have hQ2 := hQ
  obtain ⟨e1, -, -, -, -, e5, -⟩ := hQ2
  unfold fX3_depthOf
  rcases e5 l hl with ⟨h1, h2, -⟩ | ⟨q, k, h1, h2, h3, -⟩
  · obtain ⟨n, rfl⟩ : ∃ m, N = m + 1 := ⟨N - 1, by omega⟩
    rw [h1, fX3_depthOf_4, if_pos rfl, h2]
  · rw [h2, dep_loop hQ _ q N 0 h1 (by omega), h3]
    congr 1
    exact Int32.zero_add _
end
theorem ob_line {N : Nat} (hN : 100 ≤ N) : OB_line N INV := by
  intro S M x1 x2 hI
  obtain ⟨ad, tg, row, dp, nl, n, nq, ch, dq, cm, hT, hC, hR, hH, hK, hP, hQ⟩ := hI
  have hP2 := hP
  obtain ⟨p1, p2, p3, -⟩ := hP2
  unfold fX0_line fX3_line
  rw [x_isLine, m_isLine, p2, p3]
  simp only [Option.bind_some, z01, Decidable.not_not]
  by_cases h1 : ¬ inB x1.toInt64 0 ((nI nl - 1).toInt64)
  · rw [if_neg h1, if_neg h1]
    exact ⟨_, rfl, rfl⟩
  have h1 := Decidable.not_not.mp h1
  rw [if_pos h1, if_pos h1]
  obtain ⟨l, hl, rfl⟩ := (in_nat (by omega)).mp h1
  rw [p_line hP hl, Option.bind_some, x_isIn, m_in]
  simp only [Option.bind_some, z01]
  by_cases h2 : ¬ inB x2.toInt64 10 17
  · rw [if_pos h2, if_pos h2]
    by_cases c0 : x2 = 0
    · rw [if_neg (fun h => h c0), if_neg (fun h => h c0), hI_at (v := M.2.2 1 l) (p_obj hP hl) rfl, ag_at (by omega) (by decide)]
      exact ⟨_, rfl, rfl⟩
    rw [if_pos c0, if_pos c0]
    by_cases c1 : x2 = 1
    · rw [if_neg (fun h => h c1), if_neg (fun h => h c1), hI_at (v := M.2.2 9 l) (p_obj hP hl) rfl, ag_at (by omega) (by decide)]
      exact ⟨_, rfl, rfl⟩
    rw [if_pos c1, if_pos c1]
    by_cases c2 : x2 = 2
    · rw [if_neg (fun h => h c2), if_neg (fun h => h c2), hI_at (v := dp l) (p_obj hP hl) rfl, ag_at (by omega) (by decide), Option.bind_some, Option.bind_some, q_depth hQ hN hl]
      exact ⟨_, rfl, rfl⟩
    rw [if_pos c2, if_pos c2]
    exact ⟨_, rfl, rfl⟩
  · rw [if_neg h2, if_neg h2]
    obtain ⟨j, j1, j2, rfl⟩ := (in_lit 10 17 (by decide) (by decide)).mp (Decidable.not_not.mp h2)
    rw [show nI j - 10 = nI (j - 10) from pk_sub (a := j) (b := 10) j1, hR_at (v := ad 9 l) (p_obj hP hl) rfl, Option.bind_some, p_ev hP hl (by omega), q_made (by omega) (by omega)]
    exact ⟨_, rfl, rfl⟩
theorem ob_whole {N : Nat} (hN : 100 ≤ N) : OB_whole N INV := by
  intro S M x1 hI
  obtain ⟨ad, tg, row, dp, nl, n, nq, ch, dq, cm, hT, hC, hR, hH, hK, hP, hQ⟩ := hI
  obtain ⟨p1, p2, p3, p4, p5, p6, p7, p8, p9, -, -, -, ht, -⟩ := hP
  unfold fX0_whole fX3_whole
  rw [x_isIn, m_in]
  simp only [Option.bind_some, z01]
  by_cases c0 : x1 = 0
  · subst c0
    rw [if_pos (show ¬ inB ((0 : Int32).toInt64) 10 17 by decide), if_neg (fun h => h rfl), if_neg (fun h => h rfl), p5, p6]
    exact ⟨_, rfl, rfl⟩
  by_cases c1 : x1 = 1
  · subst c1
    rw [if_pos (show ¬ inB ((1 : Int32).toInt64) 10 17 by decide), if_pos c0, if_neg (fun h => h rfl), if_pos c0, if_neg (fun h => h rfl), p7]
    exact ⟨_, rfl, rfl⟩
  rw [if_pos c0, if_pos c0, if_pos c1, if_pos c1]
  by_cases h2 : ¬ inB x1.toInt64 10 17
  · rw [if_pos h2, if_pos h2]
    exact ⟨_, rfl, rfl⟩
  · rw [if_neg h2, if_neg h2]
    obtain ⟨j, j1, j2, rfl⟩ := (in_lit 10 17 (by decide) (by decide)).mp (Decidable.not_not.mp h2)
    rw [show nI j - 10 = nI (j - 10) from pk_sub (a := j) (b := 10) j1, ag_at (by omega) (by decide), q_total p3 p1 (by omega) hN, (ht (j - 10) (by omega)).1]
    exact ⟨_, rfl, rfl⟩
theorem ob_count (N : Nat) : OB_count N INV := by
  intro S M x1 hI
  obtain ⟨ad, tg, row, dp, nl, n, nq, ch, dq, cm, hT, hC, hR, hH, hK, hP, hQ⟩ := hI
  obtain ⟨⟨k, k1, k2, k3, k4⟩, c1, ⟨f, c2, c3⟩, c4⟩ := hC
  obtain ⟨⟨t, t1, t2, t3⟩, -⟩ := hT
  obtain ⟨⟨r, r1, r2, r3⟩, -⟩ := hR
  obtain ⟨h0, ⟨fh, h1, h2⟩, h3⟩ := hH
  obtain ⟨p1, p2, p3, -⟩ := hP
  obtain ⟨q1, q2, q3, -⟩ := hQ
  have low : ∀ x : Int32, ∃ v, fX0_count_60 S x = some v ∧ (if x = (0 : Int32) then (some (M.1 0)) else if x = (1 : Int32) then (some (M.1 36)) else if x = (2 : Int32) then (some (M.1 49)) else if x = (3 : Int32) then (some (M.1 25)) else if x = (4 : Int32) then ((ec_ag (M.2.2 53) 4 (0 : Int32)).bind fun v_3 => if ¬ v_3 = (-4 : Int32) then ((ec_ag (M.2.2 54) 4 (0 : Int32)).bind fun v_4 => some v_4) else (some (-4 : Int32))) else if x = (5 : Int32) then (some (M.1 4)) else (some (-1 : Int32))) = some v := by
    intro x
    unfold fX0_count_60
    by_cases e0 : x = 0
    · rw [if_pos e0, if_pos e0, p2, p3]; exact ⟨_, rfl, rfl⟩
    rw [if_neg e0, if_neg e0]
    by_cases e1 : x = 1
    · rw [if_pos e1, if_pos e1, k3, k4]; exact ⟨_, rfl, rfl⟩
    rw [if_neg e1, if_neg e1]
    by_cases e2 : x = 2
    · rw [if_pos e2, if_pos e2, r2, r3]; exact ⟨_, rfl, rfl⟩
    rw [if_neg e2, if_neg e2]
    by_cases e3 : x = 3
    · rw [if_pos e3, if_pos e3, t2, t3]; exact ⟨_, rfl, rfl⟩
    rw [if_neg e3, if_neg e3]
    by_cases e4 : x = 4
    · rw [if_pos e4, if_pos e4]
      obtain ⟨g1, g2, g3⟩ := h3 0 (by decide)
      have E1 : hAr 8 S.2.2.2 (S.2.2.1 27) 0 = some (ad 3 0) := hAr_at (c := 0) h1 (by decide) (by decide) (h2 0 (by decide))
      have E2 : hQ 2 S.2.2.2 (ad 3 0) 0 = some (row 0) := hQ_at g2 rfl
      have E3 : hI 2 S.2.2.2 (ad 3 0) 1 = some (M.2.2 54 0) := hI_at g2 rfl
      have E4 : ec_ag (M.2.2 53) 4 0 = some (M.2.2 53 0) := ag_at (c := 0) (by decide) (by decide)
      have E5 : ec_ag (M.2.2 54) 4 0 = some (M.2.2 54 0) := ag_at (c := 0) (by decide) (by decide)
      simp only [E1, E2, E3, E4, E5, Option.bind_some]
      rcases g3 with ⟨g4, g5⟩ | ⟨a, m, g, g4, -, g5, -⟩
      · rw [if_pos g4, if_neg (fun h => h g5)]; exact ⟨_, rfl, rfl⟩
      · rw [if_neg (by rw [g4]; exact fun h => by cases h), if_pos (by rcases g5 with g5 | g5 | g5 <;> rw [g5] <;> decide)]; exact ⟨_, rfl, rfl⟩
    rw [if_neg e4, if_neg e4]
    by_cases e5 : x = 5
    · rw [if_pos e5, if_pos e5, q2, q3]; exact ⟨_, rfl, rfl⟩
    rw [if_neg e5, if_neg e5]
    exact ⟨_, rfl, rfl⟩
  unfold fX0_count fX0_count_30 fX3_count
  rw [x_isCounter, x_isCounter, m_in, m_in, k3, k4]
  have e9 : ((9 : Int32) + nI k).toInt64 = lN (9 + k) := by rw [show (9 : Int32) = nI 9 from rfl, nI_add, nI_l (by omega)]
  have e19 : ((19 : Int32) + nI k).toInt64 = lN (19 + k) := by rw [show (19 : Int32) = nI 19 from rfl, nI_add, nI_l (by omega)]
  rw [e9, e19]
  simp only [Option.bind_some, z01]
  have key : ∀ m : Nat, m = 10 ∨ m = 20 → ¬ x1 < nI m → (inB (x1 - nI m).toInt64 0 ((nI k - 1).toInt64) ↔ ∃ j, j < k ∧ x1 = nI (m + j)) := fun m hm hx => by
    rw [in_nat (by omega)]
    have hx0 : ¬ x1 < 0 := fun h => hx (by rw [fa_lt] at h ⊢; rw [nI_toInt (by omega)]; have : (0 : Int32).toInt = 0 := rfl; omega)
    obtain ⟨z, hz, rfl⟩ := nI_of hx0
    have hmz : m ≤ z := by rw [nI_ltI hz (by omega)] at hx; omega
    rw [pk_sub hmz]
    constructor
    · rintro ⟨j, hj, e⟩
      exact ⟨j, hj, by rw [nI_eq (by omega) (by omega)] at e; rw [← e]; congr 1; omega⟩
    · rintro ⟨j, hj, e⟩
      rw [nI_eq hz (by omega)] at e
      exact ⟨j, hj, by congr 1; omega⟩
  have i10 : inB x1.toInt64 10 (lN (9 + k)) ↔ ∃ j, j < k ∧ x1 = nI (10 + j) := by
    rw [show (10 : Int64) = lN 10 from rfl, in_lit 10 (9 + k) (by omega) (by decide)]
    constructor
    · rintro ⟨j, h1, h2, h3⟩; exact ⟨j - 10, by omega, by rw [h3]; congr 1; omega⟩
    · rintro ⟨j, h1, h2⟩; exact ⟨10 + j, by omega, by omega, h2⟩
  have i20 : inB x1.toInt64 20 (lN (19 + k)) ↔ ∃ j, j < k ∧ x1 = nI (20 + j) := by
    rw [show (20 : Int64) = lN 20 from rfl, in_lit 20 (19 + k) (by omega) (by decide)]
    constructor
    · rintro ⟨j, h1, h2, h3⟩; exact ⟨j - 20, by omega, by rw [h3]; congr 1; omega⟩
    · rintro ⟨j, h1, h2⟩; exact ⟨20 + j, by omega, by omega, h2⟩
  have key10 : ¬ x1 < 10 → (∃ j, j < k ∧ x1 = nI (10 + j)) ∨ ¬ inB (x1 - 10).toInt64 0 ((nI k - 1).toInt64) := fun h => by
    by_cases hc : inB (x1 - 10).toInt64 0 ((nI k - 1).toInt64)
    · exact Or.inl ((key 10 (Or.inl rfl) h).mp hc)
    · exact Or.inr hc
  have key20 : ¬ x1 < 20 → (∃ j, j < k ∧ x1 = nI (20 + j)) ∨ ¬ inB (x1 - 20).toInt64 0 ((nI k - 1).toInt64) := fun h => by
    by_cases hc : inB (x1 - 20).toInt64 0 ((nI k - 1).toInt64)
    · exact Or.inl ((key 20 (Or.inr rfl) h).mp hc)
    · exact Or.inr hc
  by_cases a10 : ∃ j, j < k ∧ x1 = nI (10 + j)
  · have m10 := i10.mpr a10
    obtain ⟨j, hj, rfl⟩ := a10
    have nl10 : ¬ nI (10 + j) < 10 := fun h => by rw [show (10 : Int32) = nI 10 from rfl, nI_ltI (by omega) (by decide)] at h; omega
    rw [if_neg nl10, if_neg (fun h => h ((key 10 (Or.inl rfl) nl10).mpr ⟨j, hj, rfl⟩)), if_neg (fun h => h m10)]
    rw [show nI (10 + j) - 10 = nI j from (pk_sub (a := 10 + j) (b := 10) (by omega)).trans (by congr 1; omega), hAr_at c2 (by omega) (by decide) (c3 j (by omega)), Option.bind_some, hI_at (v := M.2.2 37 j) (c4 j (by omega)).2.1 rfl, ag_at (by omega) (by decide)]
    exact ⟨_, rfl, rfl⟩
  have m10 : ¬ inB x1.toInt64 10 (lN (9 + k)) := fun h => a10 (i10.mp h)
  rw [if_pos m10]
  by_cases a20 : ∃ j, j < k ∧ x1 = nI (20 + j)
  · have m20 := i20.mpr a20
    obtain ⟨j, hj, rfl⟩ := a20
    have nl10 : ¬ nI (20 + j) < 10 := fun h => by rw [show (10 : Int32) = nI 10 from rfl, nI_ltI (by omega) (by decide)] at h; omega
    have nl20 : ¬ nI (20 + j) < 20 := fun h => by rw [show (20 : Int32) = nI 20 from rfl, nI_ltI (by omega) (by decide)] at h; omega
    rw [if_neg nl10, if_pos ((key10 nl10).resolve_left a10), if_neg nl20, if_neg (fun h => h ((key 20 (Or.inr rfl) nl20).mpr ⟨j, hj, rfl⟩)), if_neg (fun h => h m20)]
    rw [show nI (20 + j) - 20 = nI j from (pk_sub (a := 20 + j) (b := 20) (by omega)).trans (by congr 1; omega), hAr_at c2 (by omega) (by decide) (c3 j (by omega)), Option.bind_some, hI_at (v := M.2.2 38 j) (c4 j (by omega)).2.1 rfl, ag_at (by omega) (by decide)]
    exact ⟨_, rfl, rfl⟩
  have m20 : ¬ inB x1.toInt64 20 (lN (19 + k)) := fun h => a20 (i20.mp h)
  rw [if_pos m20]
  obtain ⟨v, v1, v2⟩ := low x1
  rw [k4] at v2
  refine ⟨v, ?_, v2⟩
  by_cases l10 : x1 < 10
  · have l20 : x1 < 20 := by rw [fa_lt] at l10 ⊢; have e1 : (10 : Int32).toInt = 10 := rfl; have e2 : (20 : Int32).toInt = 20 := rfl; omega
    rw [if_pos l10, if_pos l20, v1]
  · rw [if_neg l10, if_pos ((key10 l10).resolve_left a10)]
    by_cases l20 : x1 < 20
    · rw [if_pos l20, v1]
    · rw [if_neg l20, if_pos ((key20 l20).resolve_left a20), v1]
