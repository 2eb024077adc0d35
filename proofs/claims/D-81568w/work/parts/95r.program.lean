/-! program -/
set_option maxRecDepth 100000
set_option maxHeartbeats 4000000
theorem inv_fault {S S3 : sX} {M M2 : sM} {h1 : hH} {c : Int32} (hI : INV S M) (hF : FR S.2.2.2 h1) (kp : KP M M2) (h30 : M2.1 30 = c) (s1 : S3.1 1 = 0) (s2 : ∀ j, j ≠ 1 → S3.1 j = S.1 j) (s3 : S3.2.1 = S.2.1) (s4 : S3.2.2.1 = S.2.2.1) : INV (xI (xH S3 h1) 2 c) (mI M2 25 0) := by
  obtain ⟨ad, tg, row, dp, nl, n, nq, ch, dq, cm, hT, hC, hR, hH, hK, hP, hQ⟩ := hI
  have hG : hGr tg tg S.2.2.2 h1 := fun a x hx => ⟨hF a x hx, rfl⟩
  generalize hSf : xI (xH S3 h1) 2 c = Sf
  have w_h : Sf.2.2.2 = h1 := by rw [← hSf]; rfl
  have w_r : ∀ j, Sf.2.2.1 j = S.2.2.1 j := fun j => by rw [← hSf, ← s4]; rfl
  have w_i : ∀ j, j ≠ 1 → j ≠ 2 → Sf.1 j = S.1 j := fun j j1 j2 => by rw [← hSf]; exact (up_ne j2).trans (s2 j j1)
  have w_1 : Sf.1 1 = 0 := by rw [← hSf]; exact s1
  have w_2 : Sf.1 2 = c := by rw [← hSf]; rfl
  have w_a : Sf.2.1 = S.2.1 := by rw [← hSf]; exact s3
  generalize hMf : mI M2 25 0 = Mf
  have v_i : ∀ j, pIn j = false → j ≠ 25 → Mf.1 j = M.1 j := fun j j1 j2 => by rw [← hMf]; exact (mI_ne _ _ j2).trans (kp.1 j j1)
  have v_25 : Mf.1 25 = 0 := by rw [← hMf]; rfl
  have v_30 : Mf.1 30 = c := by rw [← hMf]; exact h30
  have v_a : ∀ j, pAr j = false → Mf.2.2 j = M.2.2 j := fun j j1 => by rw [← hMf]; exact kp.2 j j1
  refine ⟨ad, tg, row, dp, nl, n, nq, ch, dq, cm, ?_, ?_, ?_, ?_, ?_, ?_, ?_⟩
  · rw [w_1, w_2, w_a, v_25, v_30, v_a 24 rfl]
    exact ⟨⟨0, by decide, rfl, rfl⟩, hT.2.1, rfl⟩
  · rw [w_h, w_r, w_i 12 (by decide) (by decide), v_i 36 rfl (by decide), v_a 37 rfl, v_a 38 rfl]
    exact hC.gr hG
  · rw [w_h, w_r, w_i 26 (by decide) (by decide), v_i 49 rfl (by decide), v_a 50 rfl, v_a 51 rfl, v_a 52 rfl]
    exact hR.gr hG
  · rw [w_h, w_r, v_a 53 rfl, v_a 54 rfl, v_a 55 rfl]
    exact hH.gr hG
  · rw [w_h, w_r, v_a 35 rfl]
    exact hK.gr hG
  · rw [w_h, w_r, w_r, w_i 4 (by decide) (by decide), w_i 8 (by decide) (by decide), w_i 9 (by decide) (by decide), w_a, v_i 0 rfl (by decide), v_i 7 rfl (by decide), v_i 10 rfl (by decide), v_a 1 rfl, v_a 2 rfl, v_a 8 rfl, v_a 9 rfl]
    exact hP.gr hG
  · rw [w_h, w_r, w_i 6 (by decide) (by decide), v_i 4 rfl (by decide), v_a 3 rfl, v_a 6 rfl, v_a 5 rfl, v_a 9 rfl]
    exact hQ.gr hG
/-- the heap when the reader starts -/
def HS (h0 : hH) (T : Nat → Int32) (t r ta la qa : Nat) (b : hH) : Prop := TXT T t ta b ∧ FR h0 b ∧ ta ≠ r ∧ h0 r = none ∧ la ≠ r ∧ qa ≠ r ∧ la ≠ qa ∧ h0 la = none ∧ h0 qa = none ∧ b la = some (.inl (4, 16, .inr (fun _ => none))) ∧ b qa = some (.inl (5, 2, .inr (fun _ => none)))
theorem prog_comp {N t : Nat} {S : sX} {T : Nat → Int32} {Qr : Int32 → sX → Prop} (ht : t ≤ 320) (h1 : S.1 1 = nI t) (hT : ∀ i, i < t → (∃ b, b < 256 ∧ T i = nI b) ∧ S.2.1 0 i &&& 255 = T i ∧ fits .byte (.int (S.2.1 0 i)) = true)
    (hm : ∀ (ta r la qa : Nat) (b : hH) (S3 : sX), HS S.2.2.2 T t r ta la qa b → S3.1 1 = 0 → (∀ j, j ≠ 1 → S3.1 j = S.1 j) → S3.2.1 = S.2.1 → S3.2.2.1 = S.2.2.1 →
      fX4_next N (fun a h => (∃ fs, h a = some (.inr (5, fs))) ∧ fX0_program_92 Qr (xH S3 h) a) (fun h => ec_lt (xH S3 h) fun S4 => ∃ w, hObj 4 S4.2.2.2 r = some w ∧ ∃ c2 k2, c2 ≤ 9000 - 1 - 1 - 3 ∧ k2 ≤ 110000 - t - 9 - 26 ∧ fX4_all N (fun a h => (∃ fs, h a = some (.inr (5, fs))) ∧ fX0_program_92 Qr (xH S4 h) a) (fun blk h => fX0_program_40 N Qr (xH S4 h) r blk) S4.2.2.2 c2 k2 r) (rs b r ta la (nI 0) qa (nI 0) (nI 0) (nI 0) 0 0) 1 8 r) : fX0_program N Qr S 9000 110000 := by
  unfold fX0_program
  rw [h1, nI_clamp (by omega)]
  refine ⟨nI_pos (by omega), by omega, by decide, by omega, fun ta hta => ?_⟩
  simp only [ec_lt]
  refine ⟨_, ⟨t, _, up_eq, by rw [show (xH S (va_up S.2.2.2 ta (some (.inl (2, t, .inl (fun _ => 0)))))).1 1 = S.1 1 from rfl, h1]; exact nI_pos (by omega), ?_, ?_, ?_, rfl⟩, by decide, by omega, fun r hr => ?_⟩
  · rw [show (xH S (va_up S.2.2.2 ta (some (.inl (2, t, .inl (fun _ => 0)))))).1 1 = S.1 1 from rfl, h1, nI_clamp (by omega)]
    exact ht
  · rw [show (xH S (va_up S.2.2.2 ta (some (.inl (2, t, .inl (fun _ => 0)))))).1 1 = S.1 1 from rfl, h1, nI_clamp (by omega)]
    exact Nat.le_refl _
  · rw [show (xH S (va_up S.2.2.2 ta (some (.inl (2, t, .inl (fun _ => 0)))))).1 1 = S.1 1 from rfl, h1, nI_clamp (by omega)]
    exact fun i hi => (hT i hi).2.2
  · rw [show (xH S (va_up S.2.2.2 ta (some (.inl (2, t, .inl (fun _ => 0)))))).1 1 = S.1 1 from rfl, h1, nI_clamp (by omega)] at hr ⊢
    have hr : va_up (va_up S.2.2.2 ta (some (.inl (2, t, .inl (fun _ => 0))))) ta (some (.inl (2, t, .inl (va_cpy (S.2.1 0) (fun _ => 0) 0 0 t)))) r = none := hr
    rw [up_up] at hr
    have hrt : r ≠ ta := fun e => by rw [e, up_eq] at hr; cases hr
    have hr0 : S.2.2.2 r = none := (up_ne hrt).symm.trans hr
    generalize hS3 : xH (xI (xH (xH S (va_up S.2.2.2 ta (some (.inl (2, t, .inl (fun _ => 0)))))) (va_up (xH S (va_up S.2.2.2 ta (some (.inl (2, t, .inl (fun _ => 0)))))).2.2.2 ta (some (.inl (2, t, .inl (va_cpy ((xH S (va_up S.2.2.2 ta (some (.inl (2, t, .inl (fun _ => 0)))))).2.1 0) (fun _ => 0) 0 0 t)))))) 1 0) (va_up (xI (xH (xH S (va_up S.2.2.2 ta (some (.inl (2, t, .inl (fun _ => 0)))))) (va_up (xH S (va_up S.2.2.2 ta (some (.inl (2, t, .inl (fun _ => 0)))))).2.2.2 ta (some (.inl (2, t, .inl (va_cpy ((xH S (va_up S.2.2.2 ta (some (.inl (2, t, .inl (fun _ => 0)))))).2.1 0) (fun _ => 0) 0 0 t)))))) 1 0).2.2.2 r (some (.inr (4, [.null, .null, .int 0, .null, .int 0, .int 0, .int 0, .int 0, .int 0])))) = S3
    have e1 : S3.1 1 = 0 := by rw [← hS3]; rfl
    have e2 : ∀ j, j ≠ 1 → S3.1 j = S.1 j := fun j hj => by rw [← hS3]; exact up_ne hj
    have e3 : S3.2.1 = S.2.1 := by rw [← hS3]; rfl
    have e4 : S3.2.2.1 = S.2.2.1 := by rw [← hS3]; rfl
    have e5 : S3.2.2.2 = va_up (va_up S.2.2.2 ta (some (.inl (2, t, .inl (va_cpy (S.2.1 0) (fun _ => 0) 0 0 t))))) r (some (.inr (4, [.null, .null, .int 0, .null, .int 0, .int 0, .int 0, .int 0, .int 0]))) := by
      rw [← hS3]
      show va_up (va_up (va_up S.2.2.2 ta _) ta _) r _ = _
      rw [up_up]
      rfl
    refine ⟨3, 26, by decide, by omega, ?_⟩
    rw [e5]
    generalize hb1 : va_up S.2.2.2 ta (some (.inl (2, t, .inl (va_cpy (S.2.1 0) (fun _ => 0) 0 0 t)))) = b1 at hr
    have hta1 : b1 ta = some (.inl (2, t, .inl (va_cpy (S.2.1 0) (fun _ => 0) 0 0 t))) := by rw [← hb1]; exact up_eq
    have hF1 : FR S.2.2.2 b1 := by
      rw [← hb1]
      exact FR.new (fun a x hx => hx) hta
    unfold fX4_init
    refine ⟨by decide, by decide, fun la hla => ?_⟩
    have nla : la ≠ r := fun e => by rw [e, up_eq] at hla; cases hla
    have hla1 : b1 la = none := (up_ne nla).symm.trans hla
    simp only [ec_lt]
    rw [up_comm (f := b1) (a := r) (b := la) (fun e => nla e.symm)]
    refine ⟨_, hPut_at _ up_eq (by show 1 < 9; decide), by decide, by decide, fun qa hqa => ?_⟩
    rw [up_up] at hqa ⊢
    have nqa : qa ≠ r := fun e => by rw [e, up_eq] at hqa; cases hqa
    have nql : la ≠ qa := fun e => by rw [← e, up_ne nla, up_eq] at hqa; cases hqa
    have hqa1 : b1 qa = none := by
      rw [up_ne nqa, up_ne (fun e => nql e.symm)] at hqa
      exact hqa
    rw [up_comm (a := r) (b := qa) (fun e => nqa e.symm)]
    refine ⟨_, hPut_at _ up_eq (by show 3 < 9; decide), _, hPut_at _ up_eq (by show 0 < 9; decide), ?_⟩
    rw [up_up, up_up]
    refine ⟨_, hObj_at up_eq, 1, 8, by decide, by decide, ?_⟩
    refine hm ta r la qa _ S3 ⟨⟨ht, fun i hi => (hT i hi).1, va_cpy (S.2.1 0) (fun _ => 0) 0 0 t, ?_, fun i hi => ?_⟩, (hF1.new hla1).new ((up_ne (fun e => nql e.symm)).trans hqa1), fun e => hrt e.symm, hr0, nla, nqa, nql, hF1.no hla1, hF1.no hqa1, (up_ne nql).trans up_eq, up_eq⟩ e1 e2 e3 e4
    · exact (up_ne (fun e => by rw [e, hqa1] at hta1; cases hta1)).trans ((up_ne (fun e => by rw [e, hla1] at hta1; cases hta1)).trans hta1)
    · rw [pk_cpy_in (by omega) (by omega), Nat.sub_zero, Nat.zero_add]
      exact (hT i hi).2.1
theorem tape_fits {x : Int32} (h1 : -128 ≤ x.toInt) (h2 : x.toInt < 128) : fits .byte (.int x) = true := by
  unfold fits
  rw [Bool.and_eq_true, decide_eq_true_eq, decide_eq_true_eq]
  exact ⟨Int32.le_iff_toInt_le.mpr h1, Int32.le_iff_toInt_le.mpr (by rw [show (127 : Int32).toInt = 127 from rfl]; omega)⟩
/-- what stands at the end of the text -/
theorem PD.pend {T : Nat → Int32} {t : Nat} {M : sM} {nl nq : Nat} {ch : Nat → List (Bool × Nat)} {tm dp : Nat → Int32} {dq cm : Nat → Nat} {F : Fo} {m rw f to : Nat} {kd v : Int32} (P : PD T t M nl nq ch tm dp dq cm F 0 0 (-4) 0 1 0 0 rw f to kd v) : PEND M nl nq ch tm dp dq cm F rw ∧ ch 0 = foK F := by
  obtain ⟨q1, q2, q3, q4, q5, q6, q7, q8, q9, q10, q11, q12, q13, q14, q15, q16, q17, q18, q19, q20⟩ := P
  have ht := q1.1
  have v1 := q3.1
  have v2 := q3.2.1
  refine ⟨⟨q4, q5, q7, q8, by omega, by omega, by omega, by omega, q16, by omega, fun j x hj => ?_, q20⟩, q15⟩
  have := q19 j x hj
  rw [Nat.zero_add] at this
  exact this
theorem PEND.small {M : sM} {nl nq rw : Nat} {ch : Nat → List (Bool × Nat)} {tm dp : Nat → Int32} {dq cm : Nat → Nat} {F : Fo} (P : PEND M nl nq ch tm dp dq cm F rw) : foSt (M.2.2 16) F < 2 ^ 31 := by
  have h4 := P.2.2.2.1
  have := sN_le (g := fun l => (tm l).toNatClampNeg) (B := 99 ^ 4) (lo := 0) (n := nl) (fun l _ hl => by
    obtain ⟨-, n, n1, n2, n3⟩ := P.cl.1 l (by omega)
    show (tm l).toNatClampNeg ≤ _
    rw [n3, nI_clamp (by omega)]
    exact n2)
  rw [P.sum] at this
  have h5 : nl * 99 ^ 4 ≤ 16 * 99 ^ 4 := Nat.mul_le_mul_right _ h4
  omega
theorem st_le {x : Nat} (hx : x < 2 ^ 31) : lg_cmp (lN x) (6000 : Int64) ≤ 0 ↔ x ≤ 6000 := by
  rw [lg_cmp_le, show (6000 : Int64) = lN 6000 from rfl]
  exact lN_le hx (by omega)
theorem st_gt {x : Nat} (hx : x < 2 ^ 31) : 0 < lg_cmp (lN x) (6000 : Int64) ↔ ¬ x ≤ 6000 := by
  rw [lg_cmp_gt, show (6000 : Int64) = lN 6000 from rfl, pk_lLT (by omega) (by omega)]
  omega
theorem ec_ltE {α : Type} {β : Sort _} (x : α) (f : α → β) : ec_lt x f = f x := rfl
/-- the Model's end of a text -/
theorem m_end {N nl nq rw f : Nat} {M : sM} {ch : Nat → List (Bool × Nat)} {tm dp : Nat → Int32} {dq cm : Nat → Nat} {F : Fo} (P : PEND M nl nq ch tm dp dq cm F rw) (hN : 100 ≤ N) (h19 : M.1 19 = 0) (h27 : M.1 27 = nI f) (h30 : M.1 30 = 0) : fX3_program_55 N M = if foSt (M.2.2 16) F ≤ 6000 then fX3_program_127 N M else fX3_program_127 N (mI (mI M 30 6) 31 (M.1 25)) := by
  unfold fX3_program_55 fX3_program_68
  rw [if_neg (not_not_intro h19), (m_want h27 h30 1 2).1 (by decide), Option.bind_some]
  have h11 := P.1
  have h4 := P.2.2.2.1
  have := p76 (N := N) (M := M) (nl := nl) (tm := tm) (P.dt hN M rfl rfl rfl) h11 h4 (fun S_14 x1_15 => if ¬ (S_14.1 30) = 0 then (fX3_program_127 N S_14) else (if (lg_cmp x1_15 (6000 : Int64)) ≤ 0 then (fX3_program_127 N S_14) else (ec_lt (mI S_14 30 (6 : Int32)) fun S_18 => ec_lt (mI S_18 31 (S_18.1 25)) fun S_19 => fX3_program_127 N S_19))) nl 0 N (by omega) (by omega)
  rw [show sN (fun l => (tm l).toNatClampNeg) 0 0 = 0 from rfl, show lN 0 = 0 from rfl, show nI 0 = 0 from rfl] at this
  refine this.trans ?_
  rw [P.sum, if_neg (not_not_intro h30)]
  have hs := P.small
  by_cases c : foSt (M.2.2 16) F ≤ 6000
  · rw [if_pos c, if_pos ((st_le hs).mpr c)]
  · rw [if_neg c, if_neg (fun h => c ((st_le hs).mp h)), ec_ltE, ec_ltE, show (mI M 30 6).1 25 = M.1 25 from rfl]
theorem ob_program {N : Nat} (hN : 10 ^ 13 ≤ N) : OB_program N INV := by
  intro S M hIv
  have hI0 := hIv
  obtain ⟨ad, tg0, row, dp0, nl0, n0, nq0, ch0, dq0, cm0, hT, hC, hR, hHs, hK, hP, hQ⟩ := hI0
  have hT0 := hT
  obtain ⟨⟨t, t1, t2, t3⟩, tb, tf⟩ := hT0
  have bytes : ∀ i, i < t → ∃ b, b < 256 ∧ M.2.2 24 i = nI b := fun i hi => by
    rw [(tb i (by omega)).1]
    exact pk_andE (m := 255) _ 8 (by decide)
  have hTx : ∀ i, i < t → (∃ b, b < 256 ∧ M.2.2 24 i = nI b) ∧ S.2.1 0 i &&& 255 = M.2.2 24 i ∧ fits .byte (.int (S.2.1 0 i)) = true := fun i hi => by
    obtain ⟨z1, z2, z3⟩ := tb i (by omega)
    exact ⟨bytes i hi, z1.symm, tape_fits z2 z3⟩
  -- the Model's start
  generalize hM6 : mI (mI (mI (mI (mI (mI M 30 0) 26 0) 11 0) 15 0) 23 0) 19 0 = M6
  have hstart : fX3_program N M = (fX3_next N M6).bind fun S_7 => fX3_program_34 N (fun S_9 => fX3_program_55 N S_9) N S_7 := by
    unfold fX3_program
    simp only [ec_lt]
    rw [hM6]
  have K6 : KP M M6 := by rw [← hM6]; exact (((((KP.mI rfl).trans (KP.mI rfl)).trans (KP.mI rfl)).trans (KP.mI rfl)).trans (KP.mI rfl)).trans (KP.mI rfl)
  have X6 : MX (M.2.2 24) t M6 := K6.MX ⟨t1, bytes, t3, fun _ _ => rfl⟩
  have a30 : M6.1 30 = 0 := by rw [← hM6]; rfl
  have a26 : M6.1 26 = nI 0 := by rw [← hM6]; rfl
  have a11 : M6.1 11 = nI 0 := by rw [← hM6]; rfl
  have a15 : M6.1 15 = nI 0 := by rw [← hM6]; rfl
  have a19 : M6.1 19 = nI 0 := by rw [← hM6]; rfl
  have a23 : M6.1 23 = nI 0 := by rw [← hM6]; rfl
  have W6 : WDM M6 0 0 := ⟨a11, by decide, by decide, fun l hl => absurd hl (by omega), fun q hq => absurd hq (by omega)⟩
  -- a throw
  have thr : ∀ (S3 : sX) (M2 : sM) (c : Int32) (pl : Nat), KP M M2 → M2.1 30 = c → S3.1 1 = 0 → (∀ j, j ≠ 1 → S3.1 j = S.1 j) → S3.2.1 = S.2.1 → S3.2.2.1 = S.2.2.1 → THR S.2.2.2 (fun a h => (∃ fs, h a = some (.inr (5, fs))) ∧ fX0_program_92 (fun r' S1 => r' = (-10 : Int32) - nI pl ∧ INV S1 (mI M2 25 0)) (xH S3 h) a) c pl := by
    intro S3 M2 c pl kp h30 s1 s2 s3 s4 q h1 hF hq
    refine ⟨⟨_, hq⟩, ?_⟩
    unfold fX0_program_92
    refine ⟨c, hI_at hq rfl, ?_⟩
    simp only [ec_lt]
    exact ⟨nI pl, hI_at hq rfl, rfl, inv_fault hIv hF kp h30 s1 s2 s3 s4⟩
  -- the first token, for any reader
  have nx := fun (r ta : Nat) (hne : ta ≠ r) (hr0 : S.2.2.2 r = none) => next_b (T := M.2.2 24) (t := t) (ta := ta) (r := r) (h0 := S.2.2.2) (N := N) X6 a30 a26 (Nat.zero_le t) hne hr0 (by omega)
  -- the outcome does not hang on the reader's place
  have m1 := m_next (N := N) (p := 0) X6.2.2.1 X6.1 X6.2.2.2 X6.2.1 a30 a26 (Nat.zero_le t) (by omega)
  by_cases hbad : lxB (M.2.2 24) t (lxF (M.2.2 24) t 0)
  · -- a fault at once
    obtain ⟨M', e1, e2⟩ := m1.2 hbad
    have e3 := e2.S (by decide)
    have e4 := flt_end (N := N) (Or.inl e3) (e2.T2.T3.W W6) (by omega)
    obtain ⟨M2, e5, e6, e7⟩ := e4
    refine ⟨_, _, by rw [hstart, e1, Option.bind_some, show N = (N - 1) + 1 by omega, p34_stop _ (Or.inl e3), ← show N = (N - 1) + 1 by omega]; exact e5, ?_⟩
    refine prog_comp t1 t2 hTx (fun ta r la qa b S3 hs s1 s2 s3 s4 => ?_)
    obtain ⟨b1, b2, b3, b4, b5, b6, b7, b8, b9, b10, b11⟩ := hs
    exact x_next b1 b3 b2 b4 (by omega) (Nat.zero_le t) (fun h => absurd hbad h) (fun _ => ⟨by decide, by decide, thr S3 M2 1 _ ((K6.trans e2.KP).trans e6) e7 s1 s2 s3 s4⟩)
  -- the first token stands
  obtain ⟨M7, e1, e2⟩ := m1.1 hbad
  have hfl := lxF_le (T := M.2.2 24) (Nat.zero_le t)
  have V7 := tkV_lx (T := M.2.2 24) hfl.2
  generalize hf0 : lxF (M.2.2 24) t 0 = f0 at *
  generalize hto0 : lxT (M.2.2 24) t f0 = to0 at *
  generalize hkd0 : lxK (M.2.2 24) t f0 = kd0 at *
  generalize hv0 : lxV (M.2.2 24) t f0 = v0 at *
  have X7 := X6.tk e2
  have K7 : KP M M7 := K6.trans e2.KP
  have fr7 := e2.2.2.2.2.2.2
  have PD0 : PD (M.2.2 24) t M7 0 0 (fun _ => []) (fun _ => 0) (fun _ => 0) (fun _ => 0) (fun _ => 0) .leaf 0 0 (-4) 0 1 0 0 0 f0 to0 kd0 v0 := ⟨X7, e2.S, V7, (fr7 11 (by omega)).trans a11, (fr7 15 (by omega)).trans a15, (fr7 19 (by omega)).trans a19, (fr7 23 (by omega)).trans a23, by decide, by decide, by omega, by decide, rfl, rfl, Nat.le_refl _, rfl, True.intro, Or.inl ⟨rfl, rfl⟩, rfl, fun j x hj => (by cases hj), fun l hl => absurd hl (by omega)⟩
  have W7 : WDM M7 0 0 := e2.T2.T3.W W6
  -- the component: from the token on to the items
  have comp : ∀ (Qr : Int32 → sX → Prop), (∀ (ta r la qa : Nat) (S3 : sX), ta ≠ r → S.2.2.2 r = none → S3.1 1 = 0 → (∀ j, j ≠ 1 → S3.1 j = S.1 j) → S3.2.1 = S.2.1 → S3.2.2.1 = S.2.2.1 → ∀ (tg : Nat → Nat × Nat) (H : hH) (aL aE aB aI : Nat → Nat), HP (M.2.2 24) t r ta S.2.2.2 tg0 tg H la qa aL aE aB aI 0 0 (fun _ => []) (fun _ => 0) (M7.2.2 12) (M7.2.2 13) (M7.2.2 16) (fun _ => 0) (fun _ => 0) f0 to0 kd0 v0 →
      fX4_items_0 N (fX4_itemsD N 5) (fun a h => (∃ fs, h a = some (.inr (5, fs))) ∧ fX0_program_92 Qr (xH S3 h) a) (fun S_9 => ∃ v_10, (hI 4 S_9 r 7) = some v_10 ∧ ((¬ v_10 = 0) → (fX4_all_28 N (fun a h => (∃ fs, h a = some (.inr (5, fs))) ∧ fX0_program_92 Qr (xH S3 h) a) (fun blk h => fX0_program_40 N Qr (xH S3 h) r blk) S_9 900 9000 r (aB 0) (0 : Int32) r)) ∧ (¬ (¬ v_10 = 0) → (fX4_all_28 N (fun a h => (∃ fs, h a = some (.inr (5, fs))) ∧ fX0_program_92 Qr (xH S3 h) a) (fun blk h => fX0_program_40 N Qr (xH S3 h) r blk) S_9 900 9000 r (aB 0) (1 : Int32) r))) N H 8000 100000 r (aB 0) (nI 0) (nI 1)) → fX0_program N Qr S 9000 110000 := by
    intro Qr hmain
    refine prog_comp t1 t2 hTx (fun ta r la qa b S3 hs s1 s2 s3 s4 => ?_)
    obtain ⟨b1, b2, b3, b4, b5, b6, b7, b8, b9, b10, b11⟩ := hs
    refine x_next b1 b3 b2 b4 (by omega) (Nat.zero_le t) (fun _ => ?_) (fun h => absurd (by rw [hf0] at h; exact h) hbad)
    rw [hf0, hto0, hkd0, hv0]
    simp only [ec_lt]
    refine ⟨_, rs_O, 8902, 109004, by decide, by omega, ?_⟩
    unfold fX4_all
    refine ⟨by decide, by decide, fun blk hblk => ?_⟩
    obtain ⟨nbr, hbb⟩ := rs_none hblk
    simp only [ec_lt]
    refine ⟨1, 2, by decide, by decide, ?_⟩
    unfold fX7_init fX6_init
    refine ⟨0, 0, Nat.zero_le _, Nat.zero_le _, by decide, by decide, fun xi hxi => ?_⟩
    rw [show (xH S3 (rs b r ta la (nI 0) qa (nI 0) (nI f0) (nI to0) kd0 v0)).2.2.2 = rs b r ta la (nI 0) qa (nI 0) (nI f0) (nI to0) kd0 v0 from rfl, rs_up nbr] at hxi ⊢
    obtain ⟨nxr, hxx⟩ := rs_none hxi
    have nbx : blk ≠ xi := fun e => by rw [← e, up_eq] at hxx; cases hxx
    have hxb : b xi = none := (up_ne (fun e => nbx e.symm)).symm.trans hxx
    simp only [ec_lt]
    rw [rs_up nxr]
    refine ⟨_, ln_bput nbx nbr (Or.inl rfl) (by show 0 < 2; decide), _, rs_O, 8000, 100000, by decide, by decide, ?_⟩
    have nlb : la ≠ blk := fun e => by rw [e, hbb] at b10; cases b10
    have nlx : la ≠ xi := fun e => by rw [e, hxb] at b10; cases b10
    have nqb : qa ≠ blk := fun e => by rw [e, hbb] at b11; cases b11
    have nqx : qa ≠ xi := fun e => by rw [e, hxb] at b11; cases b11
    have h0b : S.2.2.2 blk = none := b2.no hbb
    have h0x : S.2.2.2 xi = none := b2.no hxb
    refine hmain ta r la qa S3 b3 b4 s1 s2 s3 s4 (va_up (va_up (va_up (va_up (va_up tg0 r (20, 0)) la (12, 0)) qa (12, 1)) blk (13, 0)) xi (14, 0)) _ (fun _ => 0) (fun _ => 0) (fun _ => blk) (fun _ => xi) ⟨up_eq, ((b1.up (b1.ne hbb)).up (b1.ne hxb)).up b3, fun a x hx => ?_, ?_, ⟨?_, b8, (fun _ => none), ?_, fun l hl => absurd hl (by omega)⟩, ⟨?_, b9, (fun _ => none), 2, ?_, by decide, by decide, by decide, fun q hq => absurd hq (by omega)⟩, fun l hl => absurd hl (by omega), fun k hk => ?_⟩
    · have hb := b2 a x hx
      have n1 : a ≠ r := fun e => by rw [e, b4] at hx; cases hx
      have n2 : a ≠ la := fun e => by rw [e, b8] at hx; cases hx
      have n3 : a ≠ qa := fun e => by rw [e, b9] at hx; cases hx
      have n4 : a ≠ blk := fun e => by rw [e, h0b] at hx; cases hx
      have n5 : a ≠ xi := fun e => by rw [e, h0x] at hx; cases hx
      exact ⟨(up_ne n1).trans ((up_ne n5).trans ((up_ne n4).trans hb)), (up_ne n5).trans ((up_ne n4).trans ((up_ne n3).trans ((up_ne n2).trans (up_ne n1))))⟩
    · exact (up_ne (fun e => nxr e.symm)).trans ((up_ne (fun e => nbr e.symm)).trans ((up_ne (fun e => b6 e.symm)).trans ((up_ne (fun e => b5 e.symm)).trans up_eq)))
    · exact (up_ne nlx).trans ((up_ne nlb).trans ((up_ne b7).trans up_eq))
    · exact (up_ne b5).trans ((up_ne nlx).trans ((up_ne nlb).trans b10))
    · exact (up_ne nqx).trans ((up_ne nqb).trans up_eq)
    · exact (up_ne b6).trans ((up_ne nqx).trans ((up_ne nqb).trans b11))
    · have hk0 : k = 0 := by omega
      subst hk0
      exact ⟨(up_ne nbx).trans up_eq, up_eq, h0b, h0x, (up_ne nbr).trans ((up_ne nbx).trans up_eq), ⟨_, 2, (up_ne nxr).trans up_eq, by decide, Nat.le_refl _, by decide, fun j y hj => (by cases hj)⟩, by decide, fun y hy => (by cases hy)⟩
  have hst : fX3_program N M = fX3_program_34 N (fun S_9 => fX3_program_55 N S_9) N M7 := by rw [hstart, e1, Option.bind_some]
  -- the items, for any reader
  have key : ∀ (h0 : hH) (r ta : Nat), ta ≠ r → h0 r = none → ∃ R M', fX3_program N M = some (R, M') ∧ (h0 = S.2.2.2 → ∀ (la qa : Nat) (S3 : sX), S3.1 1 = 0 → (∀ j, j ≠ 1 → S3.1 j = S.1 j) → S3.2.1 = S.2.1 → S3.2.2.1 = S.2.2.1 → ∀ (tg : Nat → Nat × Nat) (H : hH) (aL aE aB aI : Nat → Nat), HP (M.2.2 24) t r ta S.2.2.2 tg0 tg H la qa aL aE aB aI 0 0 (fun _ => []) (fun _ => 0) (M7.2.2 12) (M7.2.2 13) (M7.2.2 16) (fun _ => 0) (fun _ => 0) f0 to0 kd0 v0 → ∀ Qr : Int32 → sX → Prop, Qr = (fun r' S1 => r' = R ∧ INV S1 M') →
      fX4_items_0 N (fX4_itemsD N 5) (fun a h => (∃ fs, h a = some (.inr (5, fs))) ∧ fX0_program_92 Qr (xH S3 h) a) (fun S_9 => ∃ v_10, (hI 4 S_9 r 7) = some v_10 ∧ ((¬ v_10 = 0) → (fX4_all_28 N (fun a h => (∃ fs, h a = some (.inr (5, fs))) ∧ fX0_program_92 Qr (xH S3 h) a) (fun blk h => fX0_program_40 N Qr (xH S3 h) r blk) S_9 900 9000 r (aB 0) (0 : Int32) r)) ∧ (¬ (¬ v_10 = 0) → (fX4_all_28 N (fun a h => (∃ fs, h a = some (.inr (5, fs))) ∧ fX0_program_92 Qr (xH S3 h) a) (fun blk h => fX0_program_40 N Qr (xH S3 h) r blk) S_9 900 9000 r (aB 0) (1 : Int32) r))) N H 8000 100000 r (aB 0) (nI 0) (nI 1)) := by
    intro h0 r ta hne hr0
    rcases items_b (T := M.2.2 24) (t := t) (ta := ta) (r := r) (h0 := h0) (tg0 := tg0) (N := N) hne hr0 (by omega) (t + 1) (by omega) M7 0 0 (fun _ => []) (fun _ => 0) (fun _ => 0) (fun _ => 0) (fun _ => 0) .leaf 0 0 (-4) 0 1 0 0 0 f0 to0 kd0 v0 5 (by omega) rfl PD0 W7 (Or.inl rfl) with ⟨M1, nl1, nq1, ch1, tm1, dp1, dq1, cm1, F1, rw1, f1, to1, kd1, v1, j, g1, g2, g3, g4, g5, g6, g7, g8, g9, g10, g11⟩ | ⟨M1, c, pl, j, g1, g2, g3, g4, ⟨nl', nq', g5⟩, g6⟩
    rotate_left
    · -- a fault within the items
      obtain ⟨M2, e5, e6, e7⟩ := flt_end (N := N) g3 g5 (by omega)
      have hM : fX3_program N M = some ((-10 : Int32) - nI pl, mI M2 25 0) := by
        have := g1 (N - j) (fun S_9 => fX3_program_55 N S_9)
        rw [show N - j + j = N by omega] at this
        rw [hst, this, e5]
      refine ⟨_, _, hM, fun hh la qa S3 s1 s2 s3 s4 tg H aL aE aB aI HPx Qr hQ => ?_⟩
      subst hh hQ
      exact g6 tg H la qa aL aE aB aI 8000 100000 N _ _ HPx (by omega) (by omega) (by omega) (thr S3 M2 c pl ((K7.trans g4).trans e6) e7 s1 s2 s3 s4)
    obtain ⟨PE, hch⟩ := PD.pend (m := 0) g6
    have g60 := g6
    obtain ⟨q1, q2, q3, q4, q5, q6, q7, q8, q9, q10, q11, q12, q13, q14, q15, q16, q17, q18, q19, q20⟩ := g60
    obtain ⟨u26, u27, u28, u29, u30⟩ := q2
    have K1 : KP M M1 := K7.trans g8.2.2.2.2.2
    have ht := q1.1
    have w1 := q3.1
    have w2 := q3.2.1
    have hj : N - j + j = N := by omega
    have hpos : N - j = (N - j - 1) + 1 := by omega
    have hnq : nq1 ≤ 33 := PE.2.2.2.2.1
    by_cases k0 : kd1 = 0
    rotate_left
    · -- no item
      obtain ⟨M3, e3, e4⟩ := item_top (N := N) q1 ⟨u26, u27, u28, u29, u30⟩ q3 q6 g9 g10
      have e5 := e4.S (by decide)
      obtain ⟨M2, e6, e7, e8⟩ := flt_end (N := N) (Or.inl e5) (e4.T2.T3.W g7) (by omega)
      have hM : fX3_program N M = some ((-10 : Int32) - nI f1, mI M2 25 0) := by
        have := g1 (N - j) (fun S_9 => fX3_program_55 N S_9)
        rw [hj] at this
        rw [hst, this, hpos, p34_step _ u30 (by rw [u28]; exact k0) e3, show N - j - 1 = (N - j - 2) + 1 by omega, p34_stop _ (Or.inl e5)]
        exact e6
      refine ⟨_, _, hM, fun hh la qa S3 s1 s2 s3 s4 tg H aL aE aB aI HPx Qr hQ => ?_⟩
      subst hh hQ
      refine g11 tg H la qa aL aE aB aI 8000 100000 N _ _ HPx (by omega) (by omega) (by omega) (fun tg1 H1 qa1 aL1 aE1 aB1 aI1 HP1 hB => ?_)
      have hr1 := HP1.1
      refine ⟨kd1, hI_at hr1 rfl, fun _ => ?_, fun h => absurd k0 h⟩
      unfold fX4_all_28
      exact ⟨_, hObj_at hr1, 900, 9000, Nat.le_refl _, Nat.le_refl _, x_must HP1.2.2.1.FR (hI_at hr1 rfl) (fun h => absurd rfl h) (fun _ => ⟨by decide, by decide, thr S3 M2 2 f1 ((K1.trans e4.KP).trans e7) e8 s1 s2 s3 s4⟩)⟩
    · -- the end
      have hft : f1 = t := q3.2.2.2.1 k0
      have h55 : fX3_program N M = fX3_program_55 N M1 := by
        have := g1 (N - j) (fun S_9 => fX3_program_55 N S_9)
        rw [hj] at this
        rw [hst, this, hpos, fX3_program_34, if_neg (not_not_intro u30), if_pos (by rw [u28]; exact k0)]
      rw [m_end (f := f1) PE (by omega) q6 u27 u30] at h55
      have hsm := PE.small
      -- what the component counts
      have hsteps : ∀ {H1 : hH} {la qa1 : Nat} {aL1 aE1 aB1 aI1 : Nat → Nat} {tg1 : Nat → Nat × Nat} {h0 : hH}, DT h0 tg1 H1 la qa1 aL1 aE1 aB1 aI1 nl1 nq1 ch1 dp1 (M1.2.2 12) (M1.2.2 13) (M1.2.2 16) dq1 cm1 → fX7_steps N H1 (fV_steps N H1 8) (aB1 0) = some (lN (foSt (M1.2.2 16) F1)) := by
        intro H1 la qa1 aL1 aE1 aB1 aI1 tg1 h0 D
        have hE := (D.evr (by omega)).EV
        have hB := (D.bkr (by omega)).O
        have hkl := hB.1
        rw [hch] at hkl
        have := ev_steps (N := N) hE (by omega) F1 0 0 (-4) 0 1 8 (ch1 0) [] (aB1 0) (N - (foK F1).length - 1 + 1) 0 (fun x0_7 x1_8 => some x1_8) q16 (by omega) (by omega) (by decide) (by decide) hB (by rw [hch, List.append_nil])
        unfold fX7_steps
        rw [show N - (foK F1).length - 1 + 1 + (foK F1).length = N by omega] at this
        refine this.trans ?_
        rw [fX7_steps_4, hB.2.1, Option.bind_some, hch, if_pos (nI_le (Nat.le_refl _) (by omega)), Int64.zero_add]
      by_cases h6 : foSt (M1.2.2 16) F1 ≤ 6000
      · rw [if_pos h6] at h55
        obtain ⟨Mf, m1, -⟩ := mod_ok PE hN h6 u30
        refine ⟨_, _, h55.trans m1, fun hh la qa S3 s1 s2 s3 s4 tg H aL aE aB aI HPx Qr hQ => ?_⟩
        subst hh hQ
        refine g11 tg H la qa aL aE aB aI 8000 100000 N _ _ HPx (by omega) (by omega) (by omega) (fun tg1 H1 qa1 aL1 aE1 aB1 aI1 HP1 hB => ?_)
        have hr1 := HP1.1
        have hb0 := hB 0 (Nat.le_refl _)
        have hb1 := HP1.2.2.2.2.2.2.2 0 (Nat.zero_le _)
        obtain ⟨Mf', m2, m3⟩ := prog_ok (S4 := S3) hN hT hC hR hHs hK hP K1 PE h6 u30 hch HP1 s1 s2 s3 s4
        have em : Mf' = Mf := (Prod.mk.inj (Option.some.inj (m2.symm.trans m1))).2
        subst em
        refine ⟨kd1, hI_at hr1 rfl, fun h => absurd k0 h, fun _ => ?_⟩
        unfold fX4_all_28
        refine ⟨_, hObj_at hr1, 0, 0, Nat.zero_le _, Nat.zero_le _, x_must (pl := f1) HP1.2.2.1.FR (hI_at hr1 rfl) (fun _ => ?_) (fun h => absurd h (by decide))⟩
        rw [← hb0]
        refine ⟨_, hObj_at hb1.2.2.2.2.1, _, hsteps HP1.2.2.2.2, fun h => absurd h ?_, fun _ => ?_⟩
        · rw [st_gt hsm]
          exact not_not_intro h6
        · unfold fX4_all_49
          exact ⟨_, hObj_at hr1, 0, 0, Nat.zero_le _, Nat.zero_le _, x_must (pl := f1) HP1.2.2.1.FR (hI_at hr1 rfl) (fun _ => m3) (fun h => absurd h (by decide))⟩
      · rw [if_neg h6] at h55
        have e25 : M1.1 25 = nI t := q1.2.2.1
        have hM : fX3_program N M = some ((-10 : Int32) - nI t, mI (mI (mI M1 30 6) 31 (M1.1 25)) 25 0) := by
          rw [h55]
          unfold fX3_program_127
          simp only [ec_lt]
          rw [if_neg (show ¬ (mI (mI (mI M1 30 6) 31 (M1.1 25)) 25 0).1 30 ≤ 0 by rw [show (mI (mI (mI M1 30 6) 31 (M1.1 25)) 25 0).1 30 = 6 from rfl]; decide), show (mI (mI (mI M1 30 6) 31 (M1.1 25)) 25 0).1 31 = M1.1 25 from rfl, e25]
        refine ⟨_, _, hM, fun hh la qa S3 s1 s2 s3 s4 tg H aL aE aB aI HPx Qr hQ => ?_⟩
        subst hh hQ
        refine g11 tg H la qa aL aE aB aI 8000 100000 N _ _ HPx (by omega) (by omega) (by omega) (fun tg1 H1 qa1 aL1 aE1 aB1 aI1 HP1 hB => ?_)
        have hr1 := HP1.1
        have hb0 := hB 0 (Nat.le_refl _)
        have hb1 := HP1.2.2.2.2.2.2.2 0 (Nat.zero_le _)
        refine ⟨kd1, hI_at hr1 rfl, fun h => absurd k0 h, fun _ => ?_⟩
        unfold fX4_all_28
        refine ⟨_, hObj_at hr1, 0, 0, Nat.zero_le _, Nat.zero_le _, x_must (pl := f1) HP1.2.2.1.FR (hI_at hr1 rfl) (fun _ => ?_) (fun h => absurd h (by decide))⟩
        rw [← hb0]
        refine ⟨_, hObj_at hb1.2.2.2.2.1, _, hsteps HP1.2.2.2.2, fun _ => ?_, fun h => absurd ?_ h⟩
        · unfold fX4_all_49
          refine ⟨_, hObj_at hr1, 900, 9000, by decide, by decide, x_must (pl := f1) HP1.2.2.1.FR (hI_at hr1 rfl) (fun h => absurd rfl h) (fun _ => ⟨by decide, by decide, ?_⟩)⟩
          rw [hft]
          exact thr S3 (mI (mI M1 30 6) 31 (M1.1 25)) 6 t (K1.trans ((KP.mI rfl).trans (KP.mI rfl))) rfl s1 s2 s3 s4
        · rw [st_gt hsm]
          exact h6
  obtain ⟨R, M', hR, -⟩ := key (fun _ => none) 0 1 (by decide) rfl
  refine ⟨R, M', hR, comp _ (fun ta r la qa S3 b3 b4 s1 s2 s3 s4 tg H aL aE aB aI HPx => ?_)⟩
  obtain ⟨R', M'', hR', hk⟩ := key S.2.2.2 r ta b3 b4
  have eq := Prod.mk.inj (Option.some.inj (hR'.symm.trans hR))
  obtain ⟨rfl, rfl⟩ := eq
  exact hk rfl la qa S3 s1 s2 s3 s4 tg H aL aE aB aI HPx _ rfl
