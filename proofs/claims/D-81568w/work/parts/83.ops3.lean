/-! feed, counters, keep: both sides write alike, step by step -/
set_option maxRecDepth 100000
theorem byte_same (y : Int64) : (y &&& 255).toInt32 = vp_nar .byte (y.toInt32.toInt8.toInt32) &&& 255 := by
  have h1 : vp_nar .byte (y.toInt32.toInt8.toInt32) = y.toInt32.toInt8.toInt32.toInt8.toInt32 := rfl
  rw [h1, fb_byte_twice, bp_b, Int64.toInt32_and]
  rfl
theorem nI_m8 (j : Nat) : nI (8 * (j + 1)) + (-8) = nI (8 * j) := by
  rw [show 8 * (j + 1) = 8 * j + 8 by omega, ← nI_add, Int32.add_assoc, show nI 8 + (-8 : Int32) = 0 from by decide, Int32.add_zero]
theorem tape_put {S : sX} {M : sM} {t : Nat} (hI : INV S M) (h1 : S.1 1 = nI t) (ht : t < 320) (y : Int64) : INV (xI (xA S 0 t (vp_nar .byte (y.toInt32.toInt8.toInt32))) 1 (nI t + 1)) (mI (mA M 24 t ((y &&& 255).toInt32)) 25 (nI t + 1)) ∧ M.1 25 = nI t := by
  obtain ⟨ad, tg, row, dp, nl, n, nq, ch, dq, cm, ⟨⟨t', t1, t2, t3⟩, hb, hf⟩, hr⟩ := hI
  have e : t' = t := (nI_eq (by omega) (by omega)).mp (t2.symm.trans h1)
  subst e
  refine ⟨⟨ad, tg, row, dp, nl, n, nq, ch, dq, cm, ⟨⟨t' + 1, by omega, nI_1 t', nI_1 t'⟩, fun i hi => ?_, hf⟩, hr⟩, t3⟩
  by_cases hit : i = t'
  · subst hit
    have ea : (xI (xA S 0 i (vp_nar .byte (y.toInt32.toInt8.toInt32))) 1 (nI i + 1)).2.1 0 i = vp_nar .byte (y.toInt32.toInt8.toInt32) := upd_eq' (f := S.2.1 0)
    have eb : (mI (mA M 24 i ((y &&& 255).toInt32)) 25 (nI i + 1)).2.2 24 i = (y &&& 255).toInt32 := upd_eq' (f := M.2.2 24)
    rw [ea, eb]
    refine ⟨byte_same y, ?_⟩
    rw [show vp_nar .byte (y.toInt32.toInt8.toInt32) = y.toInt32.toInt8.toInt32.toInt8.toInt32 from rfl]
    exact fb_byte_rng _
  · have ea : (xI (xA S 0 t' (vp_nar .byte (y.toInt32.toInt8.toInt32))) 1 (nI t' + 1)).2.1 0 i = S.2.1 0 i := upd_ne' (f := S.2.1 0) hit
    have eb : (mI (mA M 24 t' ((y &&& 255).toInt32)) 25 (nI t' + 1)).2.2 24 i = M.2.2 24 i := upd_ne' (f := M.2.2 24) hit
    rw [ea, eb]
    exact hb i hi
theorem feed_loop {N : Nat} (kx : sX → Option (Int32 × sX)) (ky : sM → Option (Int32 × sM)) (x : Int64) : ∀ (j n t : Nat) (S : sX) (M : sM), INV S M → S.1 1 = nI t → t + j ≤ 320 → j < n → ∃ S' M', fX0_feed_19 N kx n S x (nI (8 * j) + (-8)) = kx S' ∧ fX3_feed_19 N ky n M x (nI (8 * j) + (-8)) = ky M' ∧ INV S' M' := by
  intro j
  induction j with
  | zero =>
    intro n t S M hI h1 ht hn
    obtain ⟨n, rfl⟩ : ∃ m, n = m + 1 := ⟨n - 1, by omega⟩
    rw [fX0_feed_19, fX3_feed_19, if_pos (by decide), if_pos (by decide)]
    exact ⟨S, M, rfl, rfl, hI⟩
  | succ j ih =>
    intro n t S M hI h1 ht hn
    obtain ⟨n, rfl⟩ : ∃ m, n = m + 1 := ⟨n - 1, by omega⟩
    rw [nI_m8, fX0_feed_19, fX3_feed_19, if_neg (nI_pos (by omega)), if_neg (nI_pos (by omega))]
    obtain ⟨hI2, h2⟩ := tape_put hI h1 (by omega) (x >>> ((nI (8 * j)).toInt64 &&& 63))
    rw [h1, h2, xas_at (by omega) (by decide), as_at (by omega) (by decide), Option.bind_some, Option.bind_some]
    simp only [ec_lt]
    rw [show (xA S 0 t (vp_nar .byte ((x >>> ((nI (8 * j)).toInt64 &&& 63)).toInt32.toInt8.toInt32))).1 1 = nI t from h1, show (mA M 24 t ((x >>> ((nI (8 * j)).toInt64 &&& 63) &&& 255).toInt32)).1 25 = nI t from h2]
    exact ih n (t + 1) _ _ hI2 (nI_1 t) (by omega) (by omega)
theorem ob_feed {N : Nat} (hN : 100 ≤ N) : OB_feed N INV := by
  intro S M x hI
  have hsame := hI
  obtain ⟨ad, tg, row, dp, nl, n, nq, ch, dq, cm, ⟨⟨t, t1, t2, t3⟩, hb, hf⟩, hr⟩ := hI
  unfold fX0_feed fX3_feed
  rw [t2, t3, show nI t + (8 : Int32) = nI (t + 8) from nI_add t 8]
  by_cases h8 : nI (t + 8) ≤ 320
  · rw [if_pos h8, if_pos h8]
    have h9 : t + 8 ≤ 320 := (nI_leI (a := t + 8) (b := 320) (by omega) (by decide)).mp h8
    obtain ⟨S', M', e1, e2, hI2⟩ := feed_loop (N := N) (fun S_4 => some ((S_4.1 1), S_4)) (fun S_4 => some ((S_4.1 25), S_4)) x 8 N t S M hsame t2 h9 (by omega)
    have e56 : nI (8 * 8) + (-8) = (56 : Int32) := by decide
    rw [e56] at e1 e2
    rw [e1, e2]
    have hI3 := hI2
    obtain ⟨_, _, _, _, _, _, _, _, _, _, ⟨⟨t', -, u2, u3⟩, -⟩, -⟩ := hI3
    exact ⟨S'.1 1, S', M', rfl, by rw [u2, u3], hI2⟩
  · rw [if_neg h8, if_neg h8]
    exact ⟨_, _, _, rfl, rfl, hsame⟩
/-- one counter made fresh on both sides -/
theorem cnt_put {S : sX} {M : sM} {c : Nat} (hI : INV S M) (hc : c < 4) : ∃ a fs, hAr 7 S.2.2.2 (S.2.2.1 13) (nI c) = some a ∧ S.2.2.2 a = some (.inr (1, fs)) ∧ fs.length = 2 ∧ INV (xH S (va_up S.2.2.2 a (some (.inr (1, [.int 255, .int 8]))))) (mA (mA M 37 c 255) 38 c 8) := by
  obtain ⟨ad, tg, row, dp, nl, n, nq, ch, dq, cm, hT, hC, hR, hH, hK, hP, hQ⟩ := hI
  obtain ⟨kk, c1, ⟨f, c2, c3⟩, c4⟩ := hC
  obtain ⟨t1, d1, -, -⟩ := c4 c hc
  have a1 : S.2.2.1 13 ≠ ad 1 c := fun e => by rw [e, t1] at c1; have := congrArg Prod.snd c1; simp only at this; omega
  refine ⟨ad 1 c, _, hAr_at c2 hc (by decide) (c3 c hc), d1, rfl, ad, tg, row, dp, nl, n, nq, ch, dq, cm, hT, ⟨kk, c1, ⟨f, (up_ne a1).trans c2, c3⟩, fun i hi => ?_⟩, hR.fr (fun a ha => up_kind (tg := tg) (k := 1) (by omega) (by rw [t1])), hH.fr (fun a ha => up_kind (tg := tg) (k := 1) (by omega) (by rw [t1])), hK.fr (fun a ha => up_kind (tg := tg) (k := 1) (by omega) (by rw [t1])), hP.fr (fun a ha => up_kind (tg := tg) (k := 1) (by omega) (by rw [t1])), hQ.fr (fun a ha => up_kind (tg := tg) (k := 1) (by omega) (by rw [t1]))⟩
  by_cases hic : i = c
  · subst hic
    have ea : (mA (mA M 37 i 255) 38 i 8).2.2 37 i = 255 := upd_eq' (f := M.2.2 37)
    have eb : (mA (mA M 37 i 255) 38 i 8).2.2 38 i = 8 := upd_eq' (f := M.2.2 38)
    rw [ea, eb]
    exact ⟨t1, up_eq, ⟨255, by decide, rfl⟩, 8, by decide, by decide, rfl⟩
  · obtain ⟨u1, u2, u3, u4⟩ := c4 i hi
    have ea : (mA (mA M 37 c 255) 38 c 8).2.2 37 i = M.2.2 37 i := upd_ne' (f := M.2.2 37) hic
    have eb : (mA (mA M 37 c 255) 38 c 8).2.2 38 i = M.2.2 38 i := upd_ne' (f := M.2.2 38) hic
    rw [ea, eb]
    exact ⟨u1, (up_tag (tg := tg) (by rw [u1, t1]; intro e; exact hic (by have := congrArg Prod.snd e; simp only at this; omega))).trans u2, u3, u4⟩
theorem cnt_loop {N : Nat} (kx : sX → Int32 → Option (Int32 × sX)) (x2 : Int32) : ∀ (k c n n' : Nat) (S : sX) (M : sM), INV S M → c + k = 4 → k < n → k < n' → ∃ S' M', fX0_counters_36 N kx n S x2 (S.2.2.1 13) (nI 4) (nI c) = kx S' x2 ∧ fX3_freshCounters_2 N n' M (nI c) = some M' ∧ INV S' M' := by
  intro k
  induction k with
  | zero =>
    intro c n n' S M hI hc hn hn'
    obtain ⟨n, rfl⟩ : ∃ m, n = m + 1 := ⟨n - 1, by omega⟩
    obtain ⟨n', rfl⟩ : ∃ m, n' = m + 1 := ⟨n' - 1, by omega⟩
    have : c = 4 := by omega
    subst this
    rw [fX0_counters_36, fX3_freshCounters_2, if_pos (by decide), if_pos (by decide)]
    exact ⟨S, M, rfl, rfl, hI⟩
  | succ k ih =>
    intro c n n' S M hI hc hn hn'
    obtain ⟨n, rfl⟩ : ∃ m, n = m + 1 := ⟨n - 1, by omega⟩
    obtain ⟨n', rfl⟩ : ∃ m, n' = m + 1 := ⟨n' - 1, by omega⟩
    obtain ⟨a, fs, e1, e2, e3, hI2⟩ := cnt_put hI (c := c) (by omega)
    obtain ⟨v0, v1, rfl⟩ : ∃ v0 v1, fs = [v0, v1] := by
      match fs, e3 with
      | [v0, v1], _ => exact ⟨v0, v1, rfl⟩
    have hge : ¬ nI 4 ≤ nI c := nI_ge (by omega) (by decide)
    rw [fX0_counters_36, fX3_freshCounters_2, if_neg hge, if_neg (show ¬ (4 : Int32) ≤ nI c from hge), e1, Option.bind_some, hPut_at _ e2 (by show 0 < 2; decide), Option.bind_some, as_at (by omega) (by decide), Option.bind_some, as_at (by omega) (by decide), Option.bind_some]
    simp only [ec_lt]
    have E : hPut 1 (xH S (va_up S.2.2.2 a (some (.inr (1, [v0, v1].set 0 (.int 255)))))).2.2.2 a 1 (.int 8) = some (va_up S.2.2.2 a (some (.inr (1, [.int 255, .int 8])))) := by
      show hPut 1 (va_up S.2.2.2 a (some (.inr (1, [.int 255, v1])))) a 1 (.int 8) = _
      rw [hPut_at (fs := [.int 255, v1]) _ up_eq (by show 1 < 2; decide), up_up]
      rfl
    rw [E, Option.bind_some, nI_1]
    exact ih (c + 1) n n' _ _ hI2 (by omega) (by omega) (by omega)
theorem ob_counters {N : Nat} (hN : 100 ≤ N) : OB_counters N INV := by
  intro S M x hI
  have hsame := hI
  obtain ⟨ad, tg, row, dp, nl, n, nq, ch, dq, cm, hT, hC, hR, hH, hK, hP, hQ⟩ := hI
  obtain ⟨⟨k, k1, k2, k3, k4⟩, c1, ⟨f, c2, c3⟩, c4⟩ := hC
  unfold fX0_counters fX3_counters
  rw [x_isIn, m_in]
  simp only [Option.bind_some, z01, Decidable.not_not]
  by_cases h1 : ¬ inB x.toInt64 1 4
  · rw [if_neg h1, if_neg h1]
    exact ⟨_, _, _, rfl, rfl, hsame⟩
  have h1 := Decidable.not_not.mp h1
  rw [if_pos h1, if_pos h1]
  obtain ⟨v, v1, v2, rfl⟩ := (in_lit 1 4 (by decide) (by decide)).mp h1
  simp only [ec_lt]
  have hI2 : INV (xI S 12 (nI v)) (mI M 36 (nI v)) := ⟨ad, tg, row, dp, nl, n, nq, ch, dq, cm, hT, ⟨⟨v, v1, v2, rfl, rfl⟩, c1, ⟨f, c2, c3⟩, c4⟩, hR, hH, hK, hP, hQ⟩
  have eL : hLen 7 (xI S 12 (nI v)).2.2.2 ((xI S 12 (nI v)).2.2.1 13) = some (nI 4) := hLen_at c2
  rw [eL, Option.bind_some]
  obtain ⟨S', M', e1, e2, hI3⟩ := cnt_loop (N := N) (fun S_11 x2_12 => some (x2_12, xI S_11 26 (0 : Int32))) (S.1 12) 4 0 N N (xI S 12 (nI v)) (mI M 36 (nI v)) hI2 rfl (by omega) (by omega)
  unfold fX3_freshCounters
  rw [show (0 : Int32) = nI 0 from rfl] at *
  rw [e1, e2, Option.bind_some, k3, k4]
  obtain ⟨ad, tg, row, dp, nl, n, nq, ch, dq, cm, hT, hC, ⟨⟨r, r1, r2, r3⟩, hR⟩, hx⟩ := hI3
  exact ⟨_, _, _, rfl, rfl, ad, tg, row, dp, nl, n, nq, ch, dq, cm, hT, hC, ⟨⟨0, by omega, rfl, rfl⟩, hR⟩, hx⟩
/-- one kept number on both sides -/
theorem keep_put {S : sX} {M : sM} {l e : Nat} (hI : INV S M) (hl : l < 16) (he : e < 8) (v : Int32) (hv : ∃ k, k ≤ 594000 ∧ v = nI k) : ∃ a h', hAr 9 S.2.2.2 (S.2.2.1 11) (nI l) = some a ∧ hAsI 0 S.2.2.2 a (nI e) v = some h' ∧ INV (xH S h') (mA M 35 (8 * l + e) v) := by
  obtain ⟨ad, tg, row, dp, nl, n, nq, ch, dq, cm, hT, hC, hR, hH, hK, hP, hQ⟩ := hI
  obtain ⟨k1, ⟨f, k2, k3⟩, k4⟩ := hK
  obtain ⟨t1, g, g1, g2⟩ := k4 l hl
  have a1 : S.2.2.1 11 ≠ ad 5 l := fun e => by rw [e, t1] at k1; have := congrArg Prod.snd k1; simp only at this; omega
  refine ⟨ad 5 l, _, hAr_at k2 hl (by decide) (k3 l hl), hAsI_at g1 he (by decide), ad, tg, row, dp, nl, n, nq, ch, dq, cm, hT, hC.fr (fun a ha => up_kind (tg := tg) (k := 5) (by omega) (by rw [t1])), hR.fr (fun a ha => up_kind (tg := tg) (k := 5) (by omega) (by rw [t1])), hH.fr (fun a ha => up_kind (tg := tg) (k := 5) (by omega) (by rw [t1])), ⟨k1, ⟨f, (up_ne a1).trans k2, k3⟩, fun i hi => ?_⟩, hP.fr (fun a ha => up_kind (tg := tg) (k := 5) (by omega) (by rw [t1])), hQ.fr (fun a ha => up_kind (tg := tg) (k := 5) (by omega) (by rw [t1]))⟩
  obtain ⟨u1, g', u2, u3⟩ := k4 i hi
  refine ⟨u1, ?_⟩
  by_cases hil : i = l
  · subst hil
    refine ⟨_, up_eq, fun j hj => ?_⟩
    by_cases hje : j = e
    · subst hje
      have eb : (mA M 35 (8 * i + j) v).2.2 35 (8 * i + j) = v := upd_eq' (f := M.2.2 35)
      rw [eb]
      exact ⟨upd_eq', hv⟩
    · have eb : (mA M 35 (8 * i + e) v).2.2 35 (8 * i + j) = M.2.2 35 (8 * i + j) := upd_ne' (f := M.2.2 35) (by omega)
      rw [eb]
      exact ⟨(upd_ne' hje).trans (g2 j hj).1, (g2 j hj).2⟩
  · refine ⟨g', (up_tag (tg := tg) (by rw [u1, t1]; intro e; exact hil (by have := congrArg Prod.snd e; simp only at this; omega))).trans u2, fun j hj => ?_⟩
    have eb : (mA M 35 (8 * l + e) v).2.2 35 (8 * i + j) = M.2.2 35 (8 * i + j) := upd_ne' (f := M.2.2 35) (by omega)
    rw [eb]
    exact u3 j hj
theorem keep_in {N l : Nat} (hl : l < 16) (kx : sX → Int32 → Option (Int32 × sX)) (ky : sM → Int32 → Option (Int32 × sM)) : ∀ (k e n n' : Nat) (S : sX) (M : sM), INV S M → e + k = 8 → k < n → k < n' → ∃ S' M', fX0_keep_10 N kx n S (nI l) (nI e) = kx S' (nI l) ∧ fX3_keep_18 N ky n' M (nI l) (nI e) = ky M' (nI l) ∧ INV S' M' ∧ S'.1 = S.1 ∧ M'.1 = M.1 := by
  intro k
  induction k with
  | zero =>
    intro e n n' S M hI hc hn hn'
    obtain ⟨n, rfl⟩ : ∃ m, n = m + 1 := ⟨n - 1, by omega⟩
    obtain ⟨n', rfl⟩ : ∃ m, n' = m + 1 := ⟨n' - 1, by omega⟩
    have : e = 8 := by omega
    subst this
    rw [fX0_keep_10, fX3_keep_18, if_pos (by decide), if_pos (by decide)]
    exact ⟨S, M, rfl, rfl, hI, rfl, rfl⟩
  | succ k ih =>
    intro e n n' S M hI hc hn hn'
    obtain ⟨n, rfl⟩ : ∃ m, n = m + 1 := ⟨n - 1, by omega⟩
    obtain ⟨n', rfl⟩ : ∃ m, n' = m + 1 := ⟨n' - 1, by omega⟩
    have he : e < 8 := by omega
    have hge : ¬ (8 : Int32) ≤ nI e := nI_ge (b := 8) he (by decide)
    have step : ∀ v : Int32, (∃ k, k ≤ 594000 ∧ v = nI k) → ∃ S' M', fX0_keep_41 N (fX0_keep_10 N kx n) S (nI l) (nI e) v (nI e) ((hAr 9 S.2.2.2 (S.2.2.1 11) (nI l)).getD 0) = kx S' (nI l) ∧ fX3_keep_59 N (fX3_keep_18 N ky n') M (nI l) (nI e) v (((8 : Int32) * nI l) + nI e) = ky M' (nI l) ∧ INV S' M' ∧ S'.1 = S.1 ∧ M'.1 = M.1 := fun v hv => by
      obtain ⟨a, h', e1, e2, hI2⟩ := keep_put hI hl he v hv
      unfold fX0_keep_41 fX3_keep_59
      rw [e1]
      simp only [Option.getD_some]
      rw [e2, Option.bind_some, show (8 : Int32) * nI l + nI e = nI (8 * l + e) from by rw [show (8 : Int32) = nI 8 from rfl, pk_mul, nI_add], as_at (by omega) (by decide), Option.bind_some]
      simp only [ec_lt]
      rw [nI_1]
      exact ih (e + 1) n n' _ _ hI2 (by omega) (by omega) (by omega)
    obtain ⟨a, h', e1, -⟩ := keep_put hI hl he 0 ⟨0, by omega, rfl⟩
    rw [e1] at step
    simp only [Option.getD_some] at step
    have hI2 := hI
    obtain ⟨ad, tg, row, dp, nl, n0, nq, ch, dq, cm, hT, hC, hR, hH, hK, hP, hQ⟩ := hI2
    have hP2 := hP
    obtain ⟨p1, p2, p3, -⟩ := hP2
    rw [fX0_keep_10, fX3_keep_18, if_neg hge, if_neg hge, e1, Option.bind_some, x_isLine, Option.bind_some, p2, p3]
    simp only [z01]
    by_cases hlt : l < nl
    · rw [if_neg (fun h => h ((in_nat (by omega)).mpr ⟨l, hlt, rfl⟩)), if_neg (nI_ge hlt (by omega)), p_made hP hlt he, Option.bind_some, ag_at hl (by decide), Option.bind_some, q_made hl he, Option.bind_some]
      exact step _ (p_mb hP hlt he)
    · rw [if_pos (fun h => by obtain ⟨j, hj, e2⟩ := (in_nat (by omega)).mp h; rw [nI_eq (by omega) (by omega)] at e2; omega), if_pos (nI_le (by omega) (by omega))]
      exact step 0 ⟨0, by omega, rfl⟩
theorem keep_out {N : Nat} (hN : 100 ≤ N) (kx : sX → Option (Int32 × sX)) (ky : sM → Option (Int32 × sM)) : ∀ (k l n n' : Nat) (S : sX) (M : sM), INV S M → l + k = 16 → k < n → k < n' → ∃ S' M', fX0_keep_2 N kx n S (nI l) = kx S' ∧ fX3_keep_10 N ky n' M (nI l) = ky M' ∧ INV S' M' ∧ S'.1 = S.1 ∧ M'.1 = M.1 := by
  intro k
  induction k with
  | zero =>
    intro l n n' S M hI hc hn hn'
    obtain ⟨n, rfl⟩ : ∃ m, n = m + 1 := ⟨n - 1, by omega⟩
    obtain ⟨n', rfl⟩ : ∃ m, n' = m + 1 := ⟨n' - 1, by omega⟩
    have : l = 16 := by omega
    subst this
    rw [fX0_keep_2, fX3_keep_10, if_pos (by decide), if_pos (by decide)]
    exact ⟨S, M, rfl, rfl, hI, rfl, rfl⟩
  | succ k ih =>
    intro l n n' S M hI hc hn hn'
    obtain ⟨n, rfl⟩ : ∃ m, n = m + 1 := ⟨n - 1, by omega⟩
    obtain ⟨n', rfl⟩ : ∃ m, n' = m + 1 := ⟨n' - 1, by omega⟩
    have hge : ¬ (16 : Int32) ≤ nI l := nI_ge (b := 16) (by omega) (by decide)
    rw [fX0_keep_2, fX3_keep_10, if_neg hge, if_neg hge]
    obtain ⟨S', M', e1, e2, hI2, e3, e4⟩ := keep_in (N := N) (l := l) (by omega) (fun S_7 x1_8 => ec_lt (x1_8 + (1 : Int32)) fun x1_9 => (fX0_keep_2 N kx n) S_7 x1_9) (fun S_6 x1_7 => ec_lt (x1_7 + (1 : Int32)) fun x1_8 => (fX3_keep_10 N ky n') S_6 x1_8) 8 0 N N S M hI rfl (by omega) (by omega)
    rw [show (0 : Int32) = nI 0 from rfl, e1, e2]
    simp only [ec_lt]
    rw [nI_1]
    obtain ⟨S2, M2, g1, g2, g3, g4, g5⟩ := ih (l + 1) n n' S' M' hI2 (by omega) (by omega) (by omega)
    exact ⟨S2, M2, g1, g2, g3, g4.trans e3, g5.trans e4⟩
theorem ob_keep {N : Nat} (hN : 100 ≤ N) : OB_keep N INV := by
  intro S M hI
  have hI1 : INV S (mI M 34 (M.1 0)) := hI
  obtain ⟨S', M', e1, e2, hI2, e3, e4⟩ := keep_out hN (fun S_10 => some ((S_10.1 4), S_10)) (fun S_9 => some ((S_9.1 34), S_9)) 16 0 N N S (mI M 34 (M.1 0)) hI1 rfl (by omega) (by omega)
  unfold fX0_keep fX3_keep
  simp only [ec_lt]
  rw [show (0 : Int32) = nI 0 from rfl, e1, e2]
  obtain ⟨ad, tg, row, dp, nl, n0, nq, ch, dq, cm, hT, hC, hR, hH, hK, ⟨p1, p2, p3, -⟩, hQ⟩ := hI
  refine ⟨S'.1 4, S', M', rfl, ?_, hI2⟩
  rw [e3, e4, p2]
  show some (M.1 0, M') = _
  rw [p3]
