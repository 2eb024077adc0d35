/-! ops on plain fields and counters, runs -/
set_option maxRecDepth 100000
theorem ob_end (N : Nat) : OB_end N INV := by
  intro S M x hI
  obtain ⟨ad, tg, row, dp, nl, n, nq, ch, dq, cm, ⟨⟨t, ht, e1, e2⟩, hb, hf⟩, hr⟩ := hI
  unfold fX0_end fX3_end
  rw [x_isIn, m_in, e1, e2]
  simp only [Option.bind_some, z01, Decidable.not_not, ec_lt]
  by_cases hc : inB x.toInt64 0 (nI t).toInt64
  · have hj : ∃ j, j ≤ t ∧ x = nI j := by
      rw [nI_l (by omega)] at hc
      obtain ⟨j, -, h2, h3⟩ := (in_lit 0 t (by omega) (by decide)).mp hc
      exact ⟨j, h2, h3⟩
    obtain ⟨j, hj, rfl⟩ := hj
    rw [if_pos hc, if_pos hc]
    exact ⟨nI t, _, _, rfl, rfl, ad, tg, row, dp, nl, n, nq, ch, dq, cm, ⟨⟨j, by omega, rfl, rfl⟩, hb, hf⟩, hr⟩
  · rw [if_neg hc, if_neg hc]
    exact ⟨-1, _, _, rfl, rfl, ad, tg, row, dp, nl, n, nq, ch, dq, cm, ⟨⟨t, ht, e1, e2⟩, hb, hf⟩, hr⟩
theorem ob_fault (N : Nat) : OB_fault N INV := by
  intro S M hI
  obtain ⟨ad, tg, row, dp, nl, n, nq, ch, dq, cm, ⟨_, hb, hf⟩, hr⟩ := hI
  unfold fX0_fault fX3_fault
  exact ⟨_, rfl, by rw [hf]⟩
theorem ob_forget (N : Nat) : OB_forget N INV := by
  intro S M hI
  obtain ⟨ad, tg, row, dp, nl, n, nq, ch, dq, cm, hT, hC, ⟨⟨r, hr, e1, e2⟩, hR⟩, hx⟩ := hI
  unfold fX0_forget fX3_forget
  simp only [ec_lt]
  rw [e1, e2]
  exact ⟨nI r, _, _, rfl, rfl, ad, tg, row, dp, nl, n, nq, ch, dq, cm, hT, hC, ⟨⟨0, by omega, rfl, rfl⟩, hR⟩, hx⟩
theorem ob_step (N : Nat) : OB_step N INV := by
  intro S M x hI
  obtain ⟨ad, tg, row, dp, nl, n, nq, ch, dq, cm, hT, hC, hR, hH, hK, ⟨p1, p2, p3, p4, p5, p6, p7, p8, p9, p10, ⟨st, s1, s2⟩, p11⟩, hQ⟩ := hI
  unfold fX0_step fX3_step
  rw [x_isIn, m_in, p5, p6]
  simp only [Option.bind_some, z01]
  by_cases hc : inB x.toInt64 0 ((nI n - 1).toInt64)
  · obtain ⟨j, hj, rfl⟩ := (in_nat (by omega)).mp hc
    rw [if_neg (fun h => h hc), if_neg (fun h => h hc), hAi_at s1 (by omega) (by decide), ag_at (by omega) (by decide)]
    exact ⟨_, rfl, by rw [(s2 j hj).1]; rfl⟩
  · rw [if_pos hc, if_pos hc]
    exact ⟨_, rfl, rfl⟩
theorem ob_run (N : Nat) : OB_run N INV := by
  intro S M x1 x2 x3 hI
  have hsame := hI
  obtain ⟨ad, tg, row, dp, nl, n, nq, ch, dq, cm, hT, hC, hR, hH, hK, hP, hQ⟩ := hI
  have hC2 := hC
  obtain ⟨⟨k, k1, k2, k3, k4⟩, -⟩ := hC2
  obtain ⟨⟨r, r1, r2, r3⟩, r4, ⟨f, r5, r6⟩, r7⟩ := hR
  unfold fX0_run fX3_run fX0_run_27 fX3_run_27
  rw [x_isCounter, m_isCounter, x_isEvent, m_isEvent, x_isIn, m_in, k3, k4]
  simp only [Option.bind_some, z01, Decidable.not_not]
  by_cases h1 : ¬ inB x1.toInt64 0 ((nI k - 1).toInt64)
  · rw [if_pos h1, if_pos h1]
    exact ⟨_, _, _, rfl, rfl, hsame⟩
  rw [if_neg h1, if_neg h1]
  by_cases h2 : ¬ inB x2.toInt64 0 7
  · rw [if_pos h2, if_pos h2]
    exact ⟨_, _, _, rfl, rfl, hsame⟩
  rw [if_neg h2, if_neg h2]
  by_cases h3 : ¬ inB x3.toInt64 0 999999
  · rw [if_neg h3, if_neg h3]
    exact ⟨_, _, _, rfl, rfl, hsame⟩
  have h3 := Decidable.not_not.mp h3
  rw [if_pos h3, if_pos h3, r2, r3]
  by_cases h4 : r = 12
  · subst h4
    rw [if_neg (fun h => h rfl), if_neg (fun h => h rfl)]
    exact ⟨_, _, _, rfl, rfl, hsame⟩
  have h5 : ¬ nI r = 12 := fun e => h4 ((nI_eq (by omega) (by decide)).mp (show nI r = nI 12 from e))
  have hr12 : r < 12 := by omega
  rw [if_pos h5, if_pos h5]
  obtain ⟨t1, g, g1, g2, g3, g4⟩ := r7 r hr12
  have a1 : S.2.2.1 25 ≠ ad 2 r := fun e => by rw [e, t1] at r4; have := congrArg Prod.snd r4; simp only at this; omega
  have E1 : hAr 9 S.2.2.2 (S.2.2.1 25) (nI r) = some (ad 2 r) := hAr_at r5 hr12 (by decide) (r6 r hr12)
  have E2 : ∀ x, hAr 9 (va_up S.2.2.2 (ad 2 r) x) (S.2.2.1 25) (nI r) = some (ad 2 r) := fun x => hAr_at (f := f) (by rw [up_ne a1]; exact r5) hr12 (by decide) (r6 r hr12)
  have E3 : hAsI 0 S.2.2.2 (ad 2 r) 0 x1 = _ := hAsI_at (c := 0) g1 (by decide) (by decide)
  simp only [ec_lt, E1, Option.bind_some, E3, xH, r2, E2]
  have E4 : hAsI 0 (va_up S.2.2.2 (ad 2 r) (some (.inl (0, 3, .inl (upd g 0 x1))))) (ad 2 r) 1 x2 = _ := hAsI_at (c := 1) up_eq (by decide) (by decide)
  simp only [E4, Option.bind_some, up_up, E2]
  have E5 : hAsI 0 (va_up S.2.2.2 (ad 2 r) (some (.inl (0, 3, .inl (upd (upd g 0 x1) 1 x2))))) (ad 2 r) 2 x3 = _ := hAsI_at (c := 2) up_eq (by decide) (by decide)
  simp only [E5, Option.bind_some, up_up]
  rw [as_at hr12 (by decide), Option.bind_some]
  rw [show (mA M 50 r x1).1 49 = nI r from r3, as_at hr12 (by decide), Option.bind_some]
  rw [show (mA (mA M 50 r x1) 51 r x2).1 49 = nI r from r3, as_at hr12 (by decide), Option.bind_some]
  refine ⟨nI r + 1, xI (xH S (va_up S.2.2.2 (ad 2 r) (some (.inl (0, 3, .inl (upd (upd (upd g 0 x1) 1 x2) 2 x3)))))) 26 (nI r + 1), mI (mA (mA (mA M 50 r x1) 51 r x2) 52 r x3) 49 (nI r + 1), rfl, by rw [show (mA (mA (mA M 50 r x1) 51 r x2) 52 r x3).1 49 = nI r from r3]; rfl, ?_⟩
  refine ⟨ad, tg, row, dp, nl, n, nq, ch, dq, cm, hT, hC.fr (fun a ha => up_kind (tg := tg) (k := 2) (by omega) (by rw [t1])), ⟨⟨r + 1, by omega, nI_1 r, nI_1 r⟩, r4, ⟨f, (up_ne a1).trans r5, r6⟩, fun i hi => ?_⟩, hH.fr (fun a ha => up_kind (tg := tg) (k := 2) (by omega) (by rw [t1])), hK.fr (fun a ha => up_kind (tg := tg) (k := 2) (by omega) (by rw [t1])), hP.fr (fun a ha => up_kind (tg := tg) (k := 2) (by omega) (by rw [t1])), hQ.fr (fun a ha => up_kind (tg := tg) (k := 2) (by omega) (by rw [t1]))⟩
  obtain ⟨u1, g', u2, u3, u4, u5⟩ := r7 i hi
  refine ⟨u1, ?_⟩
  by_cases hir : i = r
  · subst hir
    exact ⟨_, up_eq, (upd_eq' (f := M.2.2 50)).symm, (upd_eq' (f := M.2.2 51)).symm, (upd_eq' (f := M.2.2 52)).symm⟩
  · refine ⟨g', (up_tag (tg := tg) (by rw [u1, t1]; intro e; exact hir (by have := congrArg Prod.snd e; simp only at this; omega))).trans u2, ?_, ?_, ?_⟩
    · exact u3.trans (upd_ne' (f := M.2.2 50) hir).symm
    · exact u4.trans (upd_ne' (f := M.2.2 51) hir).symm
    · exact u5.trans (upd_ne' (f := M.2.2 52) hir).symm
theorem ob_mask (N : Nat) : OB_mask N INV := by
  intro S M x1 x2 hI
  have hsame := hI
  obtain ⟨ad, tg, row, dp, nl, n, nq, ch, dq, cm, hT, hC, hR, hH, hK, hP, hQ⟩ := hI
  obtain ⟨⟨k, k1, k2, k3, k4⟩, c1, ⟨f, c2, c3⟩, c4⟩ := hC
  unfold fX0_mask fX3_mask fX0_mask_15 fX3_mask_20
  rw [x_isCounter, m_isCounter, x_isSet, m_in, k3, k4]
  simp only [Option.bind_some, z01, Decidable.not_not]
  by_cases h1 : ¬ inB x1.toInt64 0 ((nI k - 1).toInt64)
  · rw [if_pos h1, if_pos h1]
    exact ⟨_, _, _, rfl, rfl, hsame⟩
  rw [if_neg h1, if_neg h1]
  obtain ⟨c, hc, rfl⟩ := (in_nat (by omega)).mp (Decidable.not_not.mp h1)
  by_cases h2 : ¬ inB x2.toInt64 0 255
  · rw [if_neg h2, if_neg h2]
    exact ⟨_, _, _, rfl, rfl, hsame⟩
  have h2 := Decidable.not_not.mp h2
  obtain ⟨v, -, hv, rfl⟩ := (in_lit 0 255 (by decide) (by decide)).mp h2
  rw [if_pos h2, if_pos h2]
  have hc4 : c < 4 := by omega
  obtain ⟨t1, d1, ⟨m, m1, m2⟩, w, w1, w2, w3⟩ := c4 c hc4
  have a1 : S.2.2.1 13 ≠ ad 1 c := fun e => by rw [e, t1] at c1; have := congrArg Prod.snd c1; simp only at this; omega
  have E1 : hAr 7 S.2.2.2 (S.2.2.1 13) (nI c) = some (ad 1 c) := hAr_at c2 hc4 (by decide) (c3 c hc4)
  rw [E1, Option.bind_some, hI_at (v := M.2.2 37 c) d1 rfl, Option.bind_some, Option.bind_some, hPut_at _ d1 (by show 0 < 2; decide), Option.bind_some, ag_at hc4 (by decide), Option.bind_some, as_at hc4 (by decide), Option.bind_some]
  simp only [ec_lt]
  refine ⟨M.2.2 37 c, _, _, rfl, rfl, ad, tg, row, dp, nl, n, nq, ch, dq, cm, hT, ⟨⟨k, k1, k2, k3, k4⟩, c1, ⟨f, (up_ne a1).trans c2, c3⟩, fun i hi => ?_⟩, hR.fr (fun a ha => up_kind (tg := tg) (k := 1) (by omega) (by rw [t1])), hH.fr (fun a ha => up_kind (tg := tg) (k := 1) (by omega) (by rw [t1])), hK.fr (fun a ha => up_kind (tg := tg) (k := 1) (by omega) (by rw [t1])), hP.fr (fun a ha => up_kind (tg := tg) (k := 1) (by omega) (by rw [t1])), hQ.fr (fun a ha => up_kind (tg := tg) (k := 1) (by omega) (by rw [t1]))⟩
  by_cases hic : i = c
  · subst hic
    exact ⟨t1, up_eq.trans (by rw [show (mA M 37 i (nI v)).2.2 37 i = nI v from upd_eq' (f := M.2.2 37)]; rfl), ⟨v, by omega, upd_eq' (f := M.2.2 37)⟩, w, w1, w2, w3⟩
  · obtain ⟨u1, u2, u3, u4⟩ := c4 i hi
    have e37 : (mA M 37 c (nI v)).2.2 37 i = M.2.2 37 i := upd_ne' (f := M.2.2 37) hic
    exact ⟨u1, (up_tag (tg := tg) (by rw [u1, t1]; intro e; exact hic (by have := congrArg Prod.snd e; simp only at this; omega))).trans (by rw [e37]; exact u2), by rw [e37]; exact u3, u4⟩
theorem ob_width (N : Nat) : OB_width N INV := by
  intro S M x1 x2 hI
  have hsame := hI
  obtain ⟨ad, tg, row, dp, nl, n, nq, ch, dq, cm, hT, hC, hR, hH, hK, hP, hQ⟩ := hI
  obtain ⟨⟨k, k1, k2, k3, k4⟩, c1, ⟨f, c2, c3⟩, c4⟩ := hC
  unfold fX0_width fX3_width fX0_width_22 fX3_width_22
  rw [x_isCounter, m_isCounter, x_isIn, m_in, k3, k4]
  simp only [Option.bind_some, z01, Decidable.not_not]
  by_cases h1 : ¬ inB x1.toInt64 0 ((nI k - 1).toInt64)
  · rw [if_pos h1, if_pos h1]
    exact ⟨_, _, _, rfl, rfl, hsame⟩
  rw [if_neg h1, if_neg h1]
  obtain ⟨c, hc, rfl⟩ := (in_nat (by omega)).mp (Decidable.not_not.mp h1)
  by_cases h2 : ¬ inB x2.toInt64 2 16
  · rw [if_neg h2, if_neg h2]
    exact ⟨_, _, _, rfl, rfl, hsame⟩
  have h2 := Decidable.not_not.mp h2
  obtain ⟨v, hv0, hv, rfl⟩ := (in_lit 2 16 (by decide) (by decide)).mp h2
  rw [if_pos h2, if_pos h2]
  have hc4 : c < 4 := by omega
  obtain ⟨t1, d1, ⟨m, m1, m2⟩, w, w1, w2, w3⟩ := c4 c hc4
  have a1 : S.2.2.1 13 ≠ ad 1 c := fun e => by rw [e, t1] at c1; have := congrArg Prod.snd c1; simp only at this; omega
  have E1 : hAr 7 S.2.2.2 (S.2.2.1 13) (nI c) = some (ad 1 c) := hAr_at c2 hc4 (by decide) (c3 c hc4)
  rw [E1, Option.bind_some, hI_at (v := M.2.2 38 c) d1 rfl, Option.bind_some, Option.bind_some, hPut_at _ d1 (by show 1 < 2; decide), Option.bind_some, ag_at hc4 (by decide), Option.bind_some, as_at hc4 (by decide), Option.bind_some]
  simp only [ec_lt]
  refine ⟨M.2.2 38 c, _, _, rfl, rfl, ad, tg, row, dp, nl, n, nq, ch, dq, cm, hT, ⟨⟨k, k1, k2, k3, k4⟩, c1, ⟨f, (up_ne a1).trans c2, c3⟩, fun i hi => ?_⟩, hR.fr (fun a ha => up_kind (tg := tg) (k := 1) (by omega) (by rw [t1])), hH.fr (fun a ha => up_kind (tg := tg) (k := 1) (by omega) (by rw [t1])), hK.fr (fun a ha => up_kind (tg := tg) (k := 1) (by omega) (by rw [t1])), hP.fr (fun a ha => up_kind (tg := tg) (k := 1) (by omega) (by rw [t1])), hQ.fr (fun a ha => up_kind (tg := tg) (k := 1) (by omega) (by rw [t1]))⟩
  by_cases hic : i = c
  · subst hic
    exact ⟨t1, up_eq.trans (by rw [show (mA M 38 i (nI v)).2.2 38 i = nI v from upd_eq' (f := M.2.2 38)]; rfl), ⟨m, m1, m2⟩, v, hv0, hv, upd_eq' (f := M.2.2 38)⟩
  · obtain ⟨u1, u2, u3, u4⟩ := c4 i hi
    have e38 : (mA M 38 c (nI v)).2.2 38 i = M.2.2 38 i := upd_ne' (f := M.2.2 38) hic
    exact ⟨u1, (up_tag (tg := tg) (by rw [u1, t1]; intro e; exact hic (by have := congrArg Prod.snd e; simp only at this; omega))).trans (by rw [e38]; exact u2), u3, by rw [e38]; exact u4⟩
