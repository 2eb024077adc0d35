/-! SHEETS: sheet, lay, said -/
set_option maxRecDepth 100000
/-- what is kept when the heap grows -/
def hGr (tg tg1 : Nat → Nat × Nat) (h h1 : hH) : Prop := ∀ a x, h a = some x → h1 a = some x ∧ tg1 a = tg a
theorem iC.gr {ad : Nat → Nat → Nat} {tg tg1 : Nat → Nat × Nat} {h h1 : hH} {a0 : Nat} {n12 n36 : Int32} {mk wd : Nat → Int32} (H : iC ad tg h a0 n12 n36 mk wd) (hf : hGr tg tg1 h h1) : iC ad tg1 h1 a0 n12 n36 mk wd := by
  obtain ⟨e1, e2, ⟨f, e3, e4⟩, e5⟩ := H
  exact ⟨e1, (hf _ _ e3).2.trans e2, ⟨f, (hf _ _ e3).1, e4⟩, fun c hc => ⟨(hf _ _ (e5 c hc).2.1).2.trans (e5 c hc).1, (hf _ _ (e5 c hc).2.1).1, (e5 c hc).2.2⟩⟩
theorem iR.gr {ad : Nat → Nat → Nat} {tg tg1 : Nat → Nat × Nat} {h h1 : hH} {a0 : Nat} {n26 n49 : Int32} {rc re rs : Nat → Int32} (H : iR ad tg h a0 n26 n49 rc re rs) (hf : hGr tg tg1 h h1) : iR ad tg1 h1 a0 n26 n49 rc re rs := by
  obtain ⟨e1, e2, ⟨f, e3, e4⟩, e5⟩ := H
  refine ⟨e1, (hf _ _ e3).2.trans e2, ⟨f, (hf _ _ e3).1, e4⟩, fun c hc => ?_⟩
  obtain ⟨g1, g, g2, g3⟩ := e5 c hc
  exact ⟨(hf _ _ g2).2.trans g1, g, (hf _ _ g2).1, g3⟩
theorem iH.gr {ad : Nat → Nat → Nat} {tg tg1 : Nat → Nat × Nat} {row : Nat → Option Nat} {h h1 : hH} {a0 : Nat} {ln sz cl : Nat → Int32} (H : iH ad tg row h a0 ln sz cl) (hf : hGr tg tg1 h h1) : iH ad tg1 row h1 a0 ln sz cl := by
  obtain ⟨e2, ⟨f, e3, e4⟩, e5⟩ := H
  refine ⟨(hf _ _ e3).2.trans e2, ⟨f, (hf _ _ e3).1, e4⟩, fun c hc => ?_⟩
  obtain ⟨g1, g2, g3⟩ := e5 c hc
  refine ⟨(hf _ _ g2).2.trans g1, (hf _ _ g2).1, ?_⟩
  rcases g3 with g3 | ⟨a, n, g, k1, k2, k3, k4, k5, k6, k7⟩
  · exact Or.inl g3
  · exact Or.inr ⟨a, n, g, k1, (hf _ _ k6).2.trans k2, k3, k4, k5, (hf _ _ k6).1, k7⟩
theorem iK.gr {ad : Nat → Nat → Nat} {tg tg1 : Nat → Nat × Nat} {h h1 : hH} {a0 : Nat} {kp : Nat → Int32} (H : iK ad tg h a0 kp) (hf : hGr tg tg1 h h1) : iK ad tg1 h1 a0 kp := by
  obtain ⟨e2, ⟨f, e3, e4⟩, e5⟩ := H
  refine ⟨(hf _ _ e3).2.trans e2, ⟨f, (hf _ _ e3).1, e4⟩, fun c hc => ?_⟩
  obtain ⟨g1, g, g2, g3⟩ := e5 c hc
  exact ⟨(hf _ _ g2).2.trans g1, g, (hf _ _ g2).1, g3⟩
theorem iP.gr {ad : Nat → Nat → Nat} {tg tg1 : Nat → Nat × Nat} {dp : Nat → Int32} {nl n : Nat} {h h1 : hH} {aL aS : Nat} {n4 n0 n8 n7 n9 n10 : Int32} {tl tk mk lo tm : Nat → Int32} (H : iP ad tg dp nl n h aL aS n4 n0 n8 n7 n9 n10 tl tk mk lo tm) (hf : hGr tg tg1 h h1) : iP ad tg1 dp nl n h1 aL aS n4 n0 n8 n7 n9 n10 tl tk mk lo tm := by
  obtain ⟨e1, e2, e3, e4, e5, e6, e7, e8, e9, ⟨f, f1, f2⟩, ⟨st, s1, s2⟩, g, r⟩ := H
  refine ⟨e1, e2, e3, e4, e5, e6, e7, (hf _ _ s1).2.trans e8, (hf _ _ f1).2.trans e9, ⟨f, (hf _ _ f1).1, f2⟩, ⟨st, (hf _ _ s1).1, s2⟩, fun l hl => ?_, r⟩
  obtain ⟨k1, k2, k3, ⟨g0, k4, k5⟩, k6⟩ := g l hl
  exact ⟨(hf _ _ k3).2.trans k1, (hf _ _ k4).2.trans k2, (hf _ _ k3).1, ⟨g0, (hf _ _ k4).1, k5⟩, k6⟩
theorem iQ.gr {ad : Nat → Nat → Nat} {tg tg1 : Nat → Nat × Nat} {dp : Nat → Int32} {nl nq : Nat} {ch : Nat → List (Bool × Nat)} {dq cm : Nat → Nat} {h h1 : hH} {aQ : Nat} {n6 n4 : Int32} {ar ou of_ tm : Nat → Int32} (H : iQ ad tg dp nl nq ch dq cm h aQ n6 n4 ar ou of_ tm) (hf : hGr tg tg1 h h1) : iQ ad tg1 dp nl nq ch dq cm h1 aQ n6 n4 ar ou of_ tm := by
  obtain ⟨e1, e2, e3, e4, ⟨f, m, f1, f2⟩, e5, g, eF⟩ := H
  refine ⟨e1, e2, e3, (hf _ _ f1).2.trans e4, ⟨f, m, (hf _ _ f1).1, f2⟩, e5, fun q hq => ?_, eF⟩
  obtain ⟨k1, k2, k3, k4, k5, k6, f0, m0, k7, k8⟩ := g q hq
  exact ⟨k1, k2, k3, (hf _ _ k6).2.trans k4, (hf _ _ k7).2.trans k5, (hf _ _ k6).1, f0, m0, (hf _ _ k7).1, k8⟩
/-- one fresh cell -/
theorem hGr.one {tg : Nat → Nat × Nat} {h : hH} {q : Nat} (t : Nat × Nat) (x : Option hC) (hq : h q = none) : hGr tg (va_up tg q t) h (va_up h q x) := fun a y hy => by
  have hne : a ≠ q := fun e => by rw [e, hq] at hy; cases hy
  exact ⟨(up_ne hne).trans hy, up_ne hne⟩
/-- a cell of a sheet's row laid on both sides -/
theorem lay_put {S : sX} {M : sM} {k a n j t ad0 : Nat} {g : Nat → Int32} (hI : INV S M) (hk : k < 4) (hrow : hAr 8 S.2.2.2 (S.2.2.1 27) (nI k) = some ad0) (hq : hQ 2 S.2.2.2 ad0 0 = some (some a)) (hn : n ≤ 40) (ha : S.2.2.2 a = some (.inl (t, n, .inl g))) (hj : j < n) (v : Int32) : INV (xH S (va_up S.2.2.2 a (some (.inl (t, n, .inl (upd g j v)))))) (mA M 55 (40 * k + j) v) := by
  obtain ⟨ad, tg, row, dp, nl, n0, nq, ch, dq, cm, hT, hC, hR, hH, hK, hP, hQ⟩ := hI
  obtain ⟨h0, ⟨fh, h1, h2⟩, h3⟩ := hH
  have e0 : ad0 = ad 3 k := Option.some.inj (hrow.symm.trans (hAr_at h1 hk (by decide) (h2 k hk)))
  subst e0
  obtain ⟨g1, g2, g3⟩ := h3 k hk
  have er : row k = some a := Option.some.inj ((hQ_at g2 rfl).symm.trans hq)
  rcases g3 with ⟨g4, -⟩ | ⟨a', n', gg, k1, k2, k3, k4, k5, k6, k7⟩
  · rw [er] at g4; cases g4
  have ea : a' = a := Option.some.inj (k1.symm.trans er)
  subst ea
  have ec := k6.symm.trans ha
  simp only [Option.some.injEq, Sum.inl.injEq, Prod.mk.injEq] at ec
  obtain ⟨ec1, ec2, ec3⟩ := ec
  subst ec2
  subst ec3
  subst ec1
  have hta : (tg a').1 = 4 := by rw [k2]
  refine ⟨ad, tg, row, dp, nl, n0, nq, ch, dq, cm, hT, hC.fr (fun b hb => up_kind (tg := tg) (k := 4) (by omega) hta), hR.fr (fun b hb => up_kind (tg := tg) (k := 4) (by omega) hta), ⟨h0, ⟨fh, (up_kind (tg := tg) (k := 4) (by show (tg (S.2.2.1 27)).1 ≠ 4; rw [h0]; decide) hta).trans h1, h2⟩, fun i hi => ?_⟩, hK.fr (fun b hb => up_kind (tg := tg) (k := 4) (by omega) hta), hP.fr (fun b hb => up_kind (tg := tg) (k := 4) (by omega) hta), hQ.fr (fun b hb => up_kind (tg := tg) (k := 4) (by omega) hta)⟩
  obtain ⟨u1, u2, u3⟩ := h3 i hi
  refine ⟨u1, (up_kind (tg := tg) (k := 4) (by rw [u1]; show 3 ≠ 4; decide) hta).trans u2, ?_⟩
  by_cases hik : i = k
  · subst hik
    refine Or.inr ⟨a', n', _, k1, k2, k3, k4, k5, up_eq, fun y hy => ?_⟩
    by_cases hyj : y = j
    · subst hyj
      rw [upd_eq', show (mA M 55 (40 * i + y) v).2.2 55 (40 * i + y) = v from mA_eq _ _ _ _]
    · rw [upd_ne' hyj, show (mA M 55 (40 * i + j) v).2.2 55 (40 * i + y) = M.2.2 55 (40 * i + y) from mA_ne _ _ _ (by omega)]
      exact k7 y hy
  · rcases u3 with u3 | ⟨b, m, gb, w1, w2, w3, w4, w5, w6, w7⟩
    · exact Or.inl u3
    · refine Or.inr ⟨b, m, gb, w1, w2, w3, w4, w5, (up_tag (tg := tg) (by rw [w2, k2]; intro e; exact hik (congrArg Prod.snd e))).trans w6, fun y hy => ?_⟩
      rw [show (mA M 55 (40 * k + j) v).2.2 55 (40 * i + y) = M.2.2 55 (40 * i + y) from mA_ne _ _ _ (by omega)]
      exact w7 y hy
/-- a sheet's row as both sides see it -/
theorem row_at {S : sX} {M : sM} (hV : INV S M) {k : Nat} (hk : k < 4) : ∃ a0 r, hAr 8 S.2.2.2 (S.2.2.1 27) (nI k) = some a0 ∧ hQ 2 S.2.2.2 a0 0 = some r ∧ ((r = none ∧ M.2.2 53 k = -4) ∨ ∃ a n g, r = some a ∧ (M.2.2 53 k = 0 ∨ M.2.2 53 k = 1 ∨ M.2.2 53 k = 2) ∧ n ≤ 40 ∧ M.2.2 54 k = nI n ∧ S.2.2.2 a = some (.inl (lnT (M.2.2 53 k), n, .inl g)) ∧ ∀ i, i < n → g i = M.2.2 55 (40 * k + i)) := by
  obtain ⟨ad, tg, row, dp, nl, n0, nq, ch, dq, cm, hT, hC, hR, hH, hK, hP, hQ⟩ := hV
  obtain ⟨h0, ⟨fh, h1, h2⟩, h3⟩ := hH
  obtain ⟨g1, g2, g3⟩ := h3 k hk
  refine ⟨ad 3 k, row k, hAr_at h1 hk (by decide) (h2 k hk), hQ_at g2 rfl, ?_⟩
  rcases g3 with g3 | ⟨a, n, g, k1, k2, k3, k4, k5, k6, k7⟩
  · exact Or.inl g3
  · exact Or.inr ⟨a, n, g, k1, k3, k4, k5, k6, k7⟩
theorem m_isSheet (x0 x1 : Int32) : fX3_isSheet x0 x1 = some (if inB x0.toInt64 0 3 ∧ inB x1.toInt64 0 2 then 1 else 0) := by
  unfold fX3_isSheet fX3_isSheet_28
  rw [m_in, m_in]
  simp only [Option.bind_some, z01]
  by_cases h1 : inB x0.toInt64 0 3
  · rw [if_neg (not_not_intro h1)]
    by_cases h2 : inB x1.toInt64 0 2
    · rw [if_neg (not_not_intro h2), if_pos ⟨h1, h2⟩]
    · rw [if_pos h2, if_neg (fun h => h2 h.2)]
  · rw [if_pos h1, if_neg (fun h => h1 h.1)]
/-- an index in or out of a row -/
theorem oob_iff {x : Int32} {n : Nat} (hn : n ≤ 40) : (¬ (x < 0 ∨ n ≤ x.toNatClampNeg)) ↔ ∃ j, j < n ∧ x = nI j := by
  constructor
  · intro h
    have h1 : ¬ x < 0 := fun hc => h (Or.inl hc)
    obtain ⟨j, hj, rfl⟩ := nI_of h1
    rw [nI_clamp hj] at h
    exact ⟨j, by omega, rfl⟩
  · rintro ⟨j, hj, rfl⟩
    exact nI_in hj (by omega)
theorem xH_self (S : sX) : xH S S.2.2.2 = S := rfl
theorem i40 {k j : Nat} : (40 : Int32) * nI k + nI j = nI (40 * k + j) := by
  rw [show (40 : Int32) = nI 40 from rfl, pk_mul, nI_add]
theorem z10 {c : Prop} [Decidable c] : ((if c then (1 : Int32) else 0) = 0) ↔ ¬ c := z01
theorem ob_lay (N : Nat) : OB_lay N INV := by
  intro S M x1 x2 x3 hV
  unfold fX3_lay fX0_lay fX3_lay_85 fX0_lay_73
  rw [m_isSheet, x_isIn]
  simp only [Option.bind_some, z01]
  by_cases h1 : inB x1.toInt64 0 3
  · rw [if_pos (not_not_intro ⟨h1, by decide⟩)]
    obtain ⟨k, -, hk, rfl⟩ := (in_lit 0 3 (by decide) (by decide)).mp h1
    obtain ⟨a0, r, e1, e2, e3⟩ := row_at hV (show k < 4 by omega)
    rw [ag_at (show k < 4 by omega) (by decide), Option.bind_some, ag_at (show k < 4 by omega) (by decide)]
    rcases e3 with ⟨rfl, e4⟩ | ⟨a, n, g, rfl, e4, e5, e6, e7, e8⟩
    · rw [if_neg (not_not_intro e4)]
      refine ⟨-11, M, rfl, _, rfl, fun _ => ⟨a0, e1, none, e2, none, rfl, fun _ => ⟨none, rfl, fun _ => ⟨none, rfl, Or.inl rfl, by omega, by omega, fun _ => ⟨rfl, hV⟩, fun a n f h => by cases h⟩, fun h => absurd (by decide) h⟩, fun h => absurd (by decide) h⟩, fun h => absurd (fun h0 => absurd h1 (z01.mp h0)) h⟩
    · have hne : ¬ M.2.2 53 k = -4 := by rcases e4 with e | e | e <;> rw [e] <;> decide
      rw [if_pos hne, e6, Option.bind_some, m_in, Option.bind_some]
      simp only [z01, Option.bind_some]
      have hrT : rowT S.2.2.2 (some a) = some (some (lnT (M.2.2 53 k))) := by
        unfold rowT
        dsimp only
        rw [e7]
        dsimp only
        rw [if_pos (by rcases e4 with e | e | e <;> rw [e] <;> decide)]
      have hin : inB x2.toInt64 0 ((nI n - 1).toInt64) ↔ ∃ j, j < n ∧ x2 = nI j := in_nat (by omega)
      have key : ∃ r M1, (if ¬ ¬ inB x2.toInt64 0 ((nI n - 1).toInt64) then (if ¬ M.2.2 53 k = 0 then if ¬ M.2.2 53 k = 1 then (ec_as M 55 160 ((40 : Int32) * nI k + x2) x3).bind fun S_7 => some ((1 : Int32), S_7) else (ec_as M 55 160 ((40 : Int32) * nI k + x2) x3.toInt16.toInt32).bind fun S_7 => some ((1 : Int32), S_7) else (ec_as M 55 160 ((40 : Int32) * nI k + x2) x3.toInt8.toInt32).bind fun S_7 => some ((1 : Int32), S_7)) else some (-12, M)) = some (r, M1) ∧ ∀ v, v = (if M.2.2 53 k = 0 then x3.toInt8.toInt32 else if M.2.2 53 k = 1 then x3.toInt16.toInt32 else x3) → ((x2 < 0 ∨ n ≤ x2.toNatClampNeg) → (-12 : Int32) = r ∧ INV S M1) ∧ (¬ (x2 < 0 ∨ n ≤ x2.toNatClampNeg) → (1 : Int32) = r ∧ INV (xH S (va_up S.2.2.2 a (some (.inl (lnT (M.2.2 53 k), n, .inl (upd g x2.toNatClampNeg v)))))) M1) := by
        by_cases hx : ∃ j, j < n ∧ x2 = nI j
        · obtain ⟨j, hj, rfl⟩ := hx
          have hoob := nI_in hj (show n < 2 ^ 31 by omega)
          rw [if_pos (not_not_intro (hin.mpr ⟨j, hj, rfl⟩)), i40, nI_clamp (by omega)]
          rw [as_at (by omega) (by decide), as_at (by omega) (by decide), as_at (by omega) (by decide)]
          have P := fun v => lay_put hV (show k < 4 by omega) e1 e2 e5 e7 hj v
          rw [nI_clamp (by omega)] at hoob
          rcases e4 with e | e | e
          · rw [e] at P
            rw [e, if_neg (not_not_intro rfl)]
            exact ⟨_, _, rfl, fun v hv => ⟨fun h => absurd h hoob, fun _ => ⟨rfl, by rw [hv]; exact P _⟩⟩⟩
          · rw [e] at P
            rw [e, if_pos (by decide), if_neg (not_not_intro rfl)]
            exact ⟨_, _, rfl, fun v hv => ⟨fun h => absurd h hoob, fun _ => ⟨rfl, by rw [hv]; exact P _⟩⟩⟩
          · rw [e] at P
            rw [e, if_pos (by decide), if_pos (by decide)]
            exact ⟨_, _, rfl, fun v hv => ⟨fun h => absurd h hoob, fun _ => ⟨rfl, by rw [hv]; exact P _⟩⟩⟩
        · rw [if_neg (not_not_intro (fun h => hx (hin.mp h)))]
          refine ⟨_, _, rfl, fun v hv => ⟨fun _ => ⟨rfl, hV⟩, fun h => absurd ((oob_iff e5).mp h) hx⟩⟩
      obtain ⟨r, M1, k1, k2⟩ := key
      refine ⟨r, M1, k1, _, rfl, fun _ => ⟨a0, e1, some a, e2, _, hrT, ?_, ?_⟩, fun h => absurd (fun h0 => absurd h1 (z01.mp h0)) h⟩
      · intro c1
        refine ⟨_, hrT, ?_, ?_⟩
        · intro c2
          rcases e4 with e | e | e
          · rw [e] at c1; exact absurd c1 (by decide)
          · rw [e] at c2; exact absurd c2 (by decide)
          · rw [e] at k2 hrT e7
            refine ⟨_, hrT, Or.inr rfl, by omega, by omega, fun h => (by cases h), fun a' n' f' ha' hf' => ?_⟩
            have ea : a = a' := Option.some.inj ha'
            subst ea
            have ec := e7.symm.trans hf'
            simp only [Option.some.injEq, Sum.inl.injEq, Prod.mk.injEq] at ec
            obtain ⟨-, ec2, ec3⟩ := ec
            subst ec2
            subst ec3
            exact ⟨by omega, (k2 _ rfl).1, (k2 _ rfl).2⟩
        · intro c2
          rcases e4 with e | e | e
          · rw [e] at c1; exact absurd c1 (by decide)
          · rw [e] at k2 hrT e7
            refine ⟨_, hrT, Or.inr rfl, by omega, by omega, fun h => (by cases h), fun a' n' f' ha' hf' => ?_⟩
            have ea : a = a' := Option.some.inj ha'
            subst ea
            have ec := e7.symm.trans hf'
            simp only [Option.some.injEq, Sum.inl.injEq, Prod.mk.injEq] at ec
            obtain ⟨-, ec2, ec3⟩ := ec
            subst ec2
            subst ec3
            exact ⟨by omega, (k2 _ rfl).1, by rw [pk_vs]; exact (k2 _ rfl).2⟩
          · rw [e] at c2; exact absurd (by decide) c2
      · intro c1
        rcases e4 with e | e | e
        · rw [e] at k2 hrT e7
          refine ⟨_, hrT, Or.inr rfl, by omega, by omega, fun h => (by cases h), fun a' n' f' ha' hf' => ?_⟩
          have ea : a = a' := Option.some.inj ha'
          subst ea
          have ec := e7.symm.trans hf'
          simp only [Option.some.injEq, Sum.inl.injEq, Prod.mk.injEq] at ec
          obtain ⟨-, ec2, ec3⟩ := ec
          subst ec2
          subst ec3
          exact ⟨by omega, (k2 _ rfl).1, by rw [pk_vb]; exact (k2 _ rfl).2⟩
        · rw [e] at c1; exact absurd (by decide) c1
        · rw [e] at c1; exact absurd (by decide) c1
  · rw [if_neg (not_not_intro (fun h => h1 h.1))]
    exact ⟨-1, M, rfl, _, rfl, fun h => absurd (z01.mpr h1) h, fun _ => ⟨rfl, hV⟩⟩
