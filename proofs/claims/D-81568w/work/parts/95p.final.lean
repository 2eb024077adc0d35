/-! AFTER THE TEXT: what both sides keep -/
set_option maxRecDepth 100000
section
variable {ch : Nat → List (Bool × Nat)} {ar ou of_ tm dp : Nat → Int32} {dq cm : Nat → Nat}
theorem foS_mem : ∀ (f : Fo) (a p : Nat) (par : Int32) (d m : Nat), wF ch ar ou of_ tm dp dq cm f a p par d m → ∀ x, x ∈ foS of_ f → a ≤ x ∧ x < a + foNL f := by
  intro f
  induction f with
  | leaf => intro a p par d m _ x hx; cases hx
  | inner s k u i b ihi ihb =>
    intro a p par d m hw x hx
    obtain ⟨hi, hc⟩ := hw
    rcases hc with ⟨rfl, rfl, rfl, -, -, -⟩ | ⟨rfl, rfl, -, -, -, h3, h4, c, c1, c2, c3, hb⟩
    · have hx : x ∈ foS of_ i ++ [a + foNL i] := hx
      show a ≤ x ∧ x < a + (foNL i + 1)
      rcases List.mem_append.mp hx with h | h
      · have := ihi a p par d m hi x h; omega
      · rw [List.mem_singleton.mp h]; omega
    · have hx : x ∈ foS of_ i ++ repN (of_ (p + foNQ i)).toNatClampNeg (foS of_ b) := hx
      show a ≤ x ∧ x < a + (foNL i + foNL b)
      rcases List.mem_append.mp hx with h | h
      · have := ihi a p par d m hi x h; omega
      · have hr : ∀ n, x ∈ repN n (foS of_ b) → x ∈ foS of_ b := by
          intro n
          induction n with
          | zero => intro h; cases h
          | succ n ih =>
            intro h
            rw [repN] at h
            rcases List.mem_append.mp h with h | h
            · exact h
            · exact ih h
        have := ihb _ _ _ _ _ hb x (hr _ h); omega
theorem foS_cnt : ∀ (f : Fo) (a p : Nat) (par : Int32) (d m : Nat), wF ch ar ou of_ tm dp dq cm f a p par d m → ∀ l, a ≤ l → l < a + foNL f → tm l = nI (m * (foS of_ f).count l) := by
  intro f
  induction f with
  | leaf => intro a p par d m _ l h1 h2; have h2 : l < a + 0 := h2; omega
  | inner s k u i b ihi ihb =>
    intro a p par d m hw l h1 h2
    obtain ⟨hi, hc⟩ := hw
    rcases hc with ⟨rfl, rfl, rfl, w1, w2, w3⟩ | ⟨rfl, rfl, -, -, -, h3, h4, c, c1, c2, c3, hb⟩
    · have h2 : l < a + (foNL i + 1) := h2
      show tm l = nI (m * (foS of_ i ++ [a + foNL i]).count l)
      rw [List.count_append]
      by_cases c : l = a + foNL i
      · subst c
        have h0 : (foS of_ i).count (a + foNL i) = 0 := List.count_eq_zero.mpr (fun h => by have := foS_mem i _ _ _ _ _ hi _ h; omega)
        rw [h0, List.count_singleton_self, w3, Nat.zero_add, Nat.mul_one]
      · rw [List.count_singleton, if_neg (by simpa using fun e => c e.symm), Nat.add_zero]
        exact ihi a p par d m hi l h1 (by omega)
    · have h2 : l < a + (foNL i + foNL b) := h2
      show tm l = nI (m * (foS of_ i ++ repN (of_ (p + foNQ i)).toNatClampNeg (foS of_ b)).count l)
      rw [List.count_append, repN_count, c3, nI_clamp (by omega)]
      by_cases c4 : l < a + foNL i
      · have h0 : (foS of_ b).count l = 0 := List.count_eq_zero.mpr (fun h => by have := foS_mem b _ _ _ _ _ hb _ h; omega)
        rw [h0, Nat.mul_zero, Nat.add_zero]
        exact ihi a p par d m hi l h1 c4
      · have h0 : (foS of_ i).count l = 0 := List.count_eq_zero.mpr (fun h => by have := foS_mem i _ _ _ _ _ hi _ h; omega)
        rw [h0, Nat.zero_add, ihb _ _ _ _ _ hb l (by omega) (by omega), Nat.mul_assoc]
end
theorem tot_congr {tm tm' mk mk' : Nat → Int32} {e : Nat} : ∀ nl, (∀ l, l < nl → tm' l = tm l ∧ mk' (8 * l + e) = mk (8 * l + e)) → tot tm' mk' nl e = tot tm mk nl e
  | 0, _ => rfl
  | nl + 1, h => by rw [tot, tot, tot_congr nl (fun l hl => h l (by omega)), (h nl (by omega)).1, (h nl (by omega)).2]
theorem sN_le2 {g h : Nat → Nat} {c : Nat} {lo : Nat} : ∀ {n}, (∀ l, lo ≤ l → l < lo + n → g l ≤ c * h l) → sN g lo n ≤ c * sN h lo n
  | 0, _ => by rw [sN]; omega
  | n + 1, H => by
    rw [sN, sN, Nat.mul_add]
    have h1 := sN_le2 (n := n) (fun l h1 h2 => H l h1 (by omega))
    have h2 := H (lo + n) (by omega) (by omega)
    omega
theorem sN_one {g : Nat → Nat} {lo l : Nat} : ∀ {n}, lo ≤ l → l < lo + n → g l ≤ sN g lo n
  | 0, h1, h2 => by omega
  | n + 1, h1, h2 => by
    rw [sN]
    by_cases c : l = lo + n
    · rw [c]; omega
    · have := sN_one (g := g) (n := n) h1 (by omega)
      omega
section
variable {T : Nat → Int32} {t r ta : Nat} {h0 : hH} {tg0 tg : Nat → Nat × Nat} {H : hH} {la qa : Nat} {aL aE aB aI : Nat → Nat} {nl nq : Nat} {ch : Nat → List (Bool × Nat)} {dp tk mk of_ : Nat → Int32} {dq cm : Nat → Nat}
theorem DT.evr (D : DT h0 tg H la qa aL aE aB aI nl nq ch dp tk mk of_ dq cm) (hb : 2 * (nl + nq) + 2 ≤ 1000) : EVR H aL aE (fun q => aB (q + 1)) nl nq (fun q => ch (q + 1)) of_ mk := by
  obtain ⟨-, -, c, d⟩ := D
  refine ⟨fun l hl => ?_, fun q hq => ?_⟩
  · obtain ⟨k1, k2, k3, g0, k4, k5⟩ := c l hl
    exact ⟨_, _, _, k3, g0, k4, k5⟩
  · obtain ⟨k1, k2, k3, k4, k5, ⟨f, m, k6, k7, k8, k9, k10⟩, -⟩ := d (q + 1) (by omega)
    exact ⟨_, m, f, _, _, k5, k6, k7, by omega, k10⟩
theorem DT.bkr (D : DT h0 tg H la qa aL aE aB aI nl nq ch dp tk mk of_ dq cm) (hb : 2 * (nl + nq) + 2 ≤ 1000) : bkR H aL (fun q => aB (q + 1)) (aB 0) (ch 0) := by
  obtain ⟨-, -, c, d⟩ := D
  obtain ⟨k1, k2, k3, k4, k5, ⟨f, m, k6, k7, k8, k9, k10⟩, -⟩ := d 0 (by omega)
  exact ⟨6, _, m, f, _, k5, Or.inl rfl, k6, k7, by omega, k10⟩
end
/-- what stands when a text was read to its end -/
def PEND (M : sM) (nl nq : Nat) (ch : Nat → List (Bool × Nat)) (tm dp : Nat → Int32) (dq cm : Nat → Nat) (F : Fo) (rw : Nat) : Prop :=
  M.1 11 = nI nl ∧ M.1 15 = nI nq ∧ M.1 23 = nI rw ∧ nl ≤ 16 ∧ nq ≤ 33 ∧ rw ≤ 100 ∧ foNL F = nl ∧ foNQ F = nq ∧ wF (fun q => ch (q + 1)) (M.2.2 14) (M.2.2 17) (M.2.2 16) tm dp dq cm F 0 0 (-4) 0 1 ∧ rw = (foR F).length ∧ (∀ j x, (foR F)[j]? = some x → M.2.2 21 j = nI x) ∧ ∀ l, l < nl → inB (M.2.2 12 l).toInt64 1 20 ∧ ∀ e, e < 8 → inB (M.2.2 13 (8 * l + e)).toInt64 0 99
section
variable {M : sM} {nl nq rw N : Nat} {ch : Nat → List (Bool × Nat)} {tm dp : Nat → Int32} {dq cm : Nat → Nat} {F : Fo}
theorem PEND.cl (P : PEND M nl nq ch tm dp dq cm F rw) : (∀ l, l < nl → ((M.2.2 14 l = -4 ∧ dp l = 0 ∧ tm l = 1) ∨ ∃ q k, q < nq ∧ k ≤ 99 ∧ M.2.2 14 l = nI q ∧ dp l = nI (dq q + 1) ∧ M.2.2 16 q = nI k ∧ tm l = nI (cm q * k)) ∧ ∃ n, 1 ≤ n ∧ n ≤ 99 ^ 4 ∧ tm l = nI n) ∧
    (∀ q, q < nq → dq q ≤ 3 ∧ (∃ k, 1 ≤ k ∧ k ≤ 99 ∧ M.2.2 16 q = nI k) ∧ ((M.2.2 17 q = -4 ∧ dq q = 0 ∧ cm q = 1) ∨ ∃ p' k, p' < q ∧ k ≤ 99 ∧ M.2.2 17 q = nI p' ∧ dq q = dq p' + 1 ∧ M.2.2 16 p' = nI k ∧ cm q = cm p' * k)) := by
  obtain ⟨q1, q2, q3, q4, q5, q6, q7, q8, q9, q10, q11, q12⟩ := P
  obtain ⟨A, B⟩ := wF_cl F 0 0 (-4) 0 1 q9 (by decide) (by decide) (by decide) (Or.inl ⟨rfl, rfl, rfl⟩)
  rw [Nat.zero_add, q8] at B
  refine ⟨fun l hl => ?_, fun q hq => B q (by omega) hq⟩
  obtain ⟨z1, z2⟩ := A l (by omega) (by omega)
  rw [Nat.zero_add, q8] at z1
  exact ⟨z1, z2⟩
theorem PEND.dt (P : PEND M nl nq ch tm dp dq cm F rw) (hN : 100 ≤ N) (M' : sM) (h14 : M'.2.2 14 = M.2.2 14) (h16 : M'.2.2 16 = M.2.2 16) (h17 : M'.2.2 17 = M.2.2 17) : ∀ l, l < nl → ∃ n, n ≤ 99 ^ 4 ∧ tm l = nI n ∧ fX3_dTimes N M' (nI l) = some (lN n) := by
  intro l hl
  have P0 := P
  obtain ⟨q1, q2, q3, q4, q5, q6, q7, q8, q9, q10, q11, q12⟩ := P0
  obtain ⟨A, B⟩ := P.cl
  obtain ⟨z1, n, n1, n2, n3⟩ := A l hl
  refine ⟨n, n2, n3, ?_⟩
  have hcm : ∀ q, q < nq → cm q ≤ 99 ^ 3 := fun q hq => by
    obtain ⟨y1, b, lo, -, -, -, -, y2, -⟩ := wF_cm (nq := nq) F 0 0 (-4) 0 1 q9 (by decide) (by omega) q (by omega) (by omega)
    have h3 : (99 : Nat) ^ dq q ≤ 99 ^ 3 := Nat.pow_le_pow_right (by decide) y2
    omega
  refine m_dTimes (nq := nq) (cm := cm) (tm := tm) (fun q hq => ?_) (by omega) hN (by omega) ?_ hcm n3 n2
  · rw [h16, h17]
    obtain ⟨-, y1, y2⟩ := B q hq
    refine ⟨y1, ?_⟩
    rcases y2 with ⟨y2, -, y3⟩ | ⟨p', k, y2, y3, y4, -, y5, y6⟩
    · exact Or.inl ⟨y2, y3⟩
    · exact Or.inr ⟨p', k, y2, y3, y4, y5, y6⟩
  · rw [h14, h16]
    rcases z1 with ⟨z1, -, z2⟩ | ⟨q, k, z1, z2, z3, -, z4, z5⟩
    · exact Or.inl ⟨z1, z2⟩
    · exact Or.inr ⟨q, k, z1, z2, z3, z4, z5⟩
theorem PEND.sum (P : PEND M nl nq ch tm dp dq cm F rw) : sN (fun l => (tm l).toNatClampNeg) 0 nl = foSt (M.2.2 16) F := by
  obtain ⟨q1, q2, q3, q4, q5, q6, q7, q8, q9, q10, q11, q12⟩ := P
  have s1 := wF_sum (c := 1) (by decide) (fun _ => 1) F 0 0 (-4) 0 1 (by rw [Nat.one_mul]; exact q9) (by decide) (by decide)
  rw [Nat.one_mul, q7] at s1
  exact (sN_congr (fun l _ _ => by rw [Nat.div_one, Nat.mul_one])).trans s1
/-- the Model's side of a program that is taken -/
theorem mod_ok (P : PEND M nl nq ch tm dp dq cm F rw) (hN : 10 ^ 13 ≤ N) (h6 : foSt (M.2.2 16) F ≤ 6000) (h30 : M.1 30 = 0) :
    ∃ Mf : sM, fX3_program_127 N M = some (nI nl, Mf) ∧ Mf.1 25 = 0 ∧ Mf.1 30 = 0 ∧ Mf.1 49 = 0 ∧ Mf.1 0 = nI nl ∧ Mf.1 4 = nI nq ∧ Mf.1 7 = nI (foSt (M.2.2 16) F) ∧ Mf.1 10 = nI (sN (fun x => (M.2.2 12 x).toNatClampNeg * (tm x).toNatClampNeg) 0 nl) ∧ Mf.1 36 = M.1 36 ∧
      (∀ a, a = 24 ∨ 35 ≤ a → Mf.2.2 a = M.2.2 a) ∧ (∀ l, l < nl → Mf.2.2 1 l = M.2.2 12 l ∧ Mf.2.2 3 l = M.2.2 14 l ∧ Mf.2.2 9 l = tm l) ∧ (∀ x, x < 128 → Mf.2.2 2 x = M.2.2 13 x) ∧ (∀ q, q < nq → Mf.2.2 5 q = M.2.2 16 q ∧ Mf.2.2 6 q = M.2.2 17 q) ∧ ∀ i x, (foS (M.2.2 16) F)[i]? = some x → Mf.2.2 8 i = nI x := by
  have P0 := P
  obtain ⟨q1, q2, q3, q4, q5, q6, q7, q8, q9, q10, q11, q12⟩ := P0
  obtain ⟨A, B⟩ := P.cl
  obtain ⟨M1, k1, k2, k3, k4, k5, k6, k7, k8, k9, k10, k11⟩ := keep_m (N := N) (M := mI M 25 0) (tm := tm) (nl := nl) (nq := nq) (rw := rw) (by omega) q4 (by omega) q6 q1 q2 q3 (fun M' a1 a2 a3 => P.dt (by omega) M' a1 a2 a3) (fun l hl => by
    obtain ⟨n, n1, n2, n3⟩ := (in_lit 1 20 (by decide) (by decide)).mp (q12 l hl).1
    exact ⟨n, n2, n3⟩)
  -- the walk
  have hw2 : wF (fun q => ch (q + 1)) (M1.2.2 3) (M1.2.2 6) (M1.2.2 5) tm dp dq cm F 0 0 (-4) 0 1 := wF_congr F 0 0 (-4) 0 1 q9 (fun l _ hl => ⟨(k8 l (by omega)).2.1, rfl, rfl⟩) (fun q _ hq => ⟨(k10 q (by omega)).2, (k10 q (by omega)).1, rfl, rfl, rfl⟩)
  have hO : ∀ r, r < nq → M1.2.2 6 r = -4 ∨ ∃ p, p < r ∧ M1.2.2 6 r = nI p := fun r hr => by
    rw [(k10 r hr).2]
    rcases (B r hr).2.2 with ⟨y, -⟩ | ⟨p, k, y1, y2, y3, -⟩
    · exact Or.inl y
    · exact Or.inr ⟨p, y1, y3⟩
  have hA : ∀ l, l < nl → M1.2.2 3 l = -4 ∨ ∃ r, r < nq ∧ M1.2.2 3 l = nI r := fun l hl => by
    rw [(k8 l hl).2.1]
    rcases (A l hl).1 with ⟨y, -⟩ | ⟨q, k, y1, y2, y3, -⟩
    · exact Or.inl y
    · exact Or.inr ⟨q, y1, y3⟩
  have nodes := wF_nodes (nl := nl) (nq := nq) hO (by omega) F 0 0 (-4) 0 1 hw2 (by omega) (Or.inl rfl) (fun q h1 h2 l hl hno => absurd ⟨by omega, by omega⟩ hno) (by omega)
  have li : liF (fun q lo c => ∀ M', CST (M1.2.2 3) (M1.2.2 6) (M1.2.2 5) (M1.2.2 20) nl rw M' → fX3_linesIn N M' (nI q) = some (nI (bmN lo c))) F 0 := by
    refine liF.imp (fun q lo c hL M' hC => ?_) F 0 nodes
    obtain ⟨l1, l2, l3⟩ := hL
    obtain ⟨c1, c2, c3, c4, c5, c6⟩ := hC
    exact m_linesIn (nq := nq) (by rw [c5]; exact hO) (by omega) l1 (by omega) c1 q4 (by rw [c3]; exact hA) l2 (by rw [c5, c3]; exact l3)
  have e56 : foSt (M1.2.2 5) F = foSt (M.2.2 16) F ∧ foS (M1.2.2 5) F = foS (M.2.2 16) F := by
    have cg : ∀ (f : Fo) (a p : Nat) (par : Int32) (d m : Nat), wF (fun q => ch (q + 1)) (M.2.2 14) (M.2.2 17) (M.2.2 16) tm dp dq cm f a p par d m → p + foNQ f ≤ nq → foS (M1.2.2 5) f = foS (M.2.2 16) f := by
      intro f
      induction f with
      | leaf => intro a p par d m _ _; rfl
      | inner s k u i b ihi ihb =>
        intro a p par d m hw hq
        obtain ⟨hi, hc⟩ := hw
        rcases hc with ⟨rfl, rfl, rfl, w1, w2, w3⟩ | ⟨rfl, rfl, -, -, -, h3, h4, c, c1, c2, c3, hb⟩
        · show foS (M1.2.2 5) i ++ [_] = foS (M.2.2 16) i ++ [_]
          rw [ihi a p par d m hi hq]
        · have hq : p + (foNQ i + 1 + foNQ b) ≤ nq := hq
          show foS (M1.2.2 5) i ++ repN (M1.2.2 5 _).toNatClampNeg _ = foS (M.2.2 16) i ++ repN (M.2.2 16 _).toNatClampNeg _
          rw [ihi a p par d m hi (by omega), ihb _ _ _ _ _ hb (by omega), (k10 _ (by omega)).1]
          rfl
    have e := cg F 0 0 (-4) 0 1 q9 (by omega)
    exact ⟨by rw [← foS_len, ← foS_len, e], e⟩
  obtain ⟨M2, j, j1, j2, j3, j4⟩ := walk_f (N := N) (nq := nq) (nl := nl) (rw := rw) (by omega) q6 F 0 0 (-4) 0 1 5 (mI M1 7 0) 0 0 hw2 rfl (by omega) li (by omega) (fun j x hj => by rw [Nat.zero_add, k11 j (by rw [q10]; exact (List.getElem?_eq_some_iff.mp hj).1)]; exact q11 j x hj) (by omega) ⟨k2, k4, rfl, rfl, rfl, rfl⟩ rfl (by rw [e56.1]; omega)
  have hj : j + 1 ≤ N := by
    have : (foR F).length * 100 ^ 5 ≤ 100 * 100 ^ 5 := Nat.mul_le_mul_right _ (by omega)
    have e5 : 100 * 100 ^ 5 = 10 ^ 12 := by decide
    have e13 : (10 : Nat) ^ 13 = 10 ^ 12 * 10 := by decide
    omega
  have hwalk : fX3_walk N M1 = some M2 := by
    unfold fX3_walk
    simp only [ec_lt]
    have := j2 (N - j - 1 + 1)
    rw [show N - j - 1 + 1 + j = N by omega, Nat.zero_add] at this
    have e22 : M2.1 22 = nI rw := (j3.1 22 (by decide)).trans k4
    refine this.trans ?_
    rw [fX3_walk_7, e22, if_pos (nI_le (by omega) (by omega))]
  refine ⟨mI M2 49 0, ?_, ?_, ?_, rfl, ?_, ?_, ?_, ?_, ?_, fun a ha => ?_, fun l hl => ?_, fun x hx => ?_, fun q hq => ?_, fun i x hi => ?_⟩
  · unfold fX3_program_127
    simp only [ec_lt]
    rw [if_pos (show (mI M 25 0).1 30 ≤ 0 by rw [show (mI M 25 0).1 30 = M.1 30 from rfl, h30]; decide), k1, hwalk, Option.bind_some, Option.bind_some]
    congr 2
    exact (j3.1 0 (by decide)).trans k2
  · exact (j3.1 25 (by decide)).trans (k6 25 (by decide) (by decide) (by decide) (by decide))
  · exact (j3.1 30 (by decide)).trans ((k6 30 (by decide) (by decide) (by decide) (by decide)).trans h30)
  · exact (j3.1 0 (by decide)).trans k2
  · exact (j3.1 4 (by decide)).trans k3
  · have := j4.1
    rw [Nat.zero_add, foS_len, e56.1] at this
    exact this
  · exact (j3.1 10 (by decide)).trans k5
  · exact (j3.1 36 (by decide)).trans (k6 36 (by decide) (by decide) (by decide) (by decide))
  · exact (j3.2.1 a (by omega) (by omega) (by omega)).trans (k7 a (by omega) (by omega) (by omega) (by omega) (by omega) (by omega) (by omega))
  · show M2.2.2 1 l = _ ∧ M2.2.2 3 l = _ ∧ M2.2.2 9 l = _
    rw [j3.2.1 1 (by decide) (by decide) (by decide), j3.2.1 3 (by decide) (by decide) (by decide), j3.2.1 9 (by decide) (by decide) (by decide)]
    exact k8 l hl
  · show M2.2.2 2 x = _
    rw [j3.2.1 2 (by decide) (by decide) (by decide)]
    exact k9 x hx
  · show M2.2.2 5 q = _ ∧ M2.2.2 6 q = _
    rw [j3.2.1 5 (by decide) (by decide) (by decide), j3.2.1 6 (by decide) (by decide) (by decide)]
    exact k10 q hq
  · have := j4.2.1 i x (by rw [e56.2]; exact hi)
    rw [Nat.zero_add] at this
    exact this
end
