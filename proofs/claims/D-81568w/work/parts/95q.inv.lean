/-! AFTER THE TEXT: the relation stands again -/
set_option maxRecDepth 100000
theorem iC.ad' {ad ad1 : Nat → Nat → Nat} {tg : Nat → Nat × Nat} {h : hH} {a0 : Nat} {n12 n36 : Int32} {mk wd : Nat → Int32} (H : iC ad tg h a0 n12 n36 mk wd) (e : ∀ c, ad1 1 c = ad 1 c) : iC ad1 tg h a0 n12 n36 mk wd := by
  unfold iC at *
  simp only [e]
  exact H
theorem iR.ad' {ad ad1 : Nat → Nat → Nat} {tg : Nat → Nat × Nat} {h : hH} {a0 : Nat} {n26 n49 : Int32} {rc re rs' : Nat → Int32} (H : iR ad tg h a0 n26 n49 rc re rs') (e : ∀ c, ad1 2 c = ad 2 c) : iR ad1 tg h a0 n26 n49 rc re rs' := by
  unfold iR at *
  simp only [e]
  exact H
theorem iH.ad' {ad ad1 : Nat → Nat → Nat} {tg : Nat → Nat × Nat} {row : Nat → Option Nat} {h : hH} {a0 : Nat} {ln sz cl : Nat → Int32} (H : iH ad tg row h a0 ln sz cl) (e : ∀ c, ad1 3 c = ad 3 c) : iH ad1 tg row h a0 ln sz cl := by
  unfold iH at *
  simp only [e]
  exact H
theorem iK.ad' {ad ad1 : Nat → Nat → Nat} {tg : Nat → Nat × Nat} {h : hH} {a0 : Nat} {kp : Nat → Int32} (H : iK ad tg h a0 kp) (e : ∀ c, ad1 5 c = ad 5 c) : iK ad1 tg h a0 kp := by
  unfold iK at *
  simp only [e]
  exact H
def ad2 (ad : Nat → Nat → Nat) (aL aE aB aI : Nat → Nat) : Nat → Nat → Nat := fun i j => if i = 8 then aL j else if i = 9 then aE j else if i = 10 then aB (j + 1) else if i = 11 then aI (j + 1) else ad i j
theorem prog_ok {N : Nat} {S S4 : sX} {M0 M : sM} {ad : Nat → Nat → Nat} {tg0 tg : Nat → Nat × Nat} {row : Nat → Option Nat} {dp0 : Nat → Int32} {nl0 n0 : Nat} {T : Nat → Int32} {t r ta la qa nl nq rw f to : Nat} {H : hH} {aL aE aB aI : Nat → Nat} {ch : Nat → List (Bool × Nat)} {tm dp : Nat → Int32} {dq cm : Nat → Nat} {F : Fo} {kd v : Int32} (hN : 10 ^ 13 ≤ N)
    (hT : iT (S.1 1) (M0.1 25) (S.2.1 0) (M0.2.2 24) (S.1 2) (M0.1 30)) (hC : iC ad tg0 S.2.2.2 (S.2.2.1 13) (S.1 12) (M0.1 36) (M0.2.2 37) (M0.2.2 38)) (hR : iR ad tg0 S.2.2.2 (S.2.2.1 25) (S.1 26) (M0.1 49) (M0.2.2 50) (M0.2.2 51) (M0.2.2 52)) (hH : iH ad tg0 row S.2.2.2 (S.2.2.1 27) (M0.2.2 53) (M0.2.2 54) (M0.2.2 55)) (hK : iK ad tg0 S.2.2.2 (S.2.2.1 11) (M0.2.2 35))
    (hP : iP ad tg0 dp0 nl0 n0 S.2.2.2 (S.2.2.1 3) (S.2.2.1 7) (S.1 4) (M0.1 0) (S.1 8) (M0.1 7) (S.1 9) (M0.1 10) (S.2.1 10) (M0.2.2 1) (M0.2.2 2) (M0.2.2 8) (M0.2.2 9))
    (hKP : KP M0 M) (hPE : PEND M nl nq ch tm dp dq cm F rw) (h6 : foSt (M.2.2 16) F ≤ 6000) (h30 : M.1 30 = 0) (hch : ch 0 = foK F)
    (HPx : HP T t r ta S.2.2.2 tg0 tg H la qa aL aE aB aI nl nq ch dp (M.2.2 12) (M.2.2 13) (M.2.2 16) dq cm f to kd v) (s1 : S4.1 1 = 0) (s2 : ∀ j, j ≠ 1 → S4.1 j = S.1 j) (s3 : S4.2.1 = S.2.1) (s4 : S4.2.2.1 = S.2.2.1) :
    ∃ Mf, fX3_program_127 N M = some (nI nl, Mf) ∧ fX0_program_40 N (fun r' S1 => r' = nI nl ∧ INV S1 Mf) (xH S4 H) r (aB 0) := by
  have hPE0 := hPE
  obtain ⟨q1, q2, q3, q4, q5, q6, q7, q8, q9, q10, q11, q12⟩ := hPE0
  obtain ⟨Mf, m1, m2, m3, m4, m5, m6, m7, m8, m9, m10, m11, m12, m13, m14⟩ := mod_ok hPE hN h6 h30
  refine ⟨Mf, m1, ?_⟩
  obtain ⟨p1, p2, p3, p4, p5⟩ := HPx
  have D := p5
  obtain ⟨⟨a1, a2, fl, a3, a4⟩, ⟨b1, b2, fq, mq, b3, b4, b5, b6, b7⟩, cL, dB⟩ := p5
  obtain ⟨-, -, -, -, -, -, -, o1, -, -, ⟨st0, o2, -⟩, -⟩ := hP
  obtain ⟨o3, o4⟩ := p3 _ _ o2
  have tS : tg (S.2.2.1 7) = (6, 0) := o4.trans o1
  generalize haS : S.2.2.1 7 = aS at *
  have hE := D.evr (by omega)
  have hB := D.bkr (by omega)
  have hB0 := dB 0 (by omega)
  -- the steps
  have L0 : LHp H aL aE aS nl dp (M.2.2 12) H st0 (fun _ => 0) := ⟨o3, fun l hl => (cL l hl).2.2.1, fun _ _ _ => rfl⟩
  obtain ⟨h2, st', τ', y1, y2, y3, y4, y5⟩ := lays_f (N := N) (ar := M.2.2 14) (ou := M.2.2 17) (tm := tm) (dq := dq) (cm := cm) hE o3 (by omega) q4 F 0 0 (-4) 0 1 8 (ch 0) [] (aB 0) 0 H st0 (fun _ => 0) q9 (by omega) (by omega) (by decide) (by decide) hB (by rw [hch, List.append_nil]) L0 (by omega)
  have hkl : (foK F).length ≤ 1000 := by rw [← hch]; exact hB.O.1
  have e8 : fX7_lays N H (fV_lays N 8) (aB 0) aS 0 = some (nI (foSt (M.2.2 16) F), h2) := by
    unfold fX7_lays
    have := y1 (N - (foK F).length - 1 + 1) (fun S_7 x0_8 x3_9 => some (x3_9, S_7))
    rw [show N - (foK F).length - 1 + 1 + (foK F).length = N by omega, Nat.zero_add] at this
    refine this.trans ?_
    rw [fX7_lays_5, ((y2.bkr hE o3 hB).O).2.1, Option.bind_some, hch, if_pos (nI_le (Nat.le_refl _) (by omega))]
  -- times
  have htm : ∀ l, l < nl → tm l = nI (τ' l) ∧ 1 ≤ τ' l ∧ τ' l ≤ 6000 ∧ (tm l).toNatClampNeg = τ' l := fun l hl => by
    have hc := foS_cnt F 0 0 (-4) 0 1 q9 l (by omega) (by omega)
    have hy : τ' l = (foS (M.2.2 16) F).count l := by rw [y5 l, Nat.zero_add]
    have hle : (foS (M.2.2 16) F).count l ≤ 6000 := by
      have := List.count_le_length (a := l) (l := foS (M.2.2 16) F)
      rw [foS_len] at this
      omega
    rw [Nat.one_mul, ← hy] at hc
    obtain ⟨-, n, n1, n2, n3⟩ := hPE.cl.1 l hl
    have : n = τ' l := (nI_eq (by omega) (by omega)).mp (n3.symm.trans hc)
    refine ⟨hc, by omega, by omega, ?_⟩
    rw [hc, nI_clamp (by omega)]
  have htk : ∀ l, l < nl → ∃ k, 1 ≤ k ∧ k ≤ 20 ∧ M.2.2 12 l = nI k := fun l hl => (in_lit 1 20 (by decide) (by decide)).mp (q12 l hl).1
  have hmk : ∀ l, l < nl → ∀ e, e < 8 → ∃ k, k ≤ 99 ∧ M.2.2 13 (8 * l + e) = nI k := fun l hl e he => by
    obtain ⟨k, -, k2, k3⟩ := (in_lit 0 99 (by decide) (by decide)).mp ((q12 l hl).2 e he)
    exact ⟨k, k2, k3⟩
  have hla2 : h2 la = some (.inl (4, 16, .inr fl)) := y2.at hE o3 a3 (fun fs e => by cases e) (fun g e => by cases e)
  have hqa2 : h2 qa = some (.inl (5, mq, .inr fq)) := y2.at hE o3 b3 (fun fs e => by cases e) (fun g e => by cases e)
  have hev : ∀ l, l < nl → ∃ g, h2 (aE l) = some (.inl (0, 8, .inl g)) ∧ ∀ e, e < 8 → g e = M.2.2 13 (8 * l + e) := fun l hl => by
    obtain ⟨-, -, -, g, g1, g2⟩ := cL l hl
    exact ⟨g, y2.at hE o3 g1 (fun fs e => by cases e) (fun g e => by simp at e), g2⟩
  have hsum : sN (fun l => (tm l).toNatClampNeg) 0 nl ≤ 6000 := by rw [hPE.sum]; exact h6
  -- the component's fields
  unfold fX0_program_40
  refine ⟨la, hR_at p1 rfl, ?_⟩
  simp only [ec_lt]
  refine ⟨nI nl, hI_at p1 rfl, qa, hR_at p1 rfl, nI nq, hI_at p1 rfl, ?_⟩
  generalize hSx : xI (xR (xI (xR (xH S4 H) 3 la) 4 (nI nl)) 5 qa) 6 (nI nq) = Sx
  have x1 : Sx.2.2.2 = H := by rw [← hSx]; rfl
  have x2 : Sx.2.2.1 7 = aS := by rw [← hSx, ← haS, ← s4]; rfl
  have x3 : Sx.2.2.1 3 = la := by rw [← hSx]; rfl
  have x5 : Sx.2.2.1 5 = qa := by rw [← hSx]; rfl
  have x4 : Sx.1 4 = nI nl := by rw [← hSx]; rfl
  have x6 : Sx.1 6 = nI nq := by rw [← hSx]; rfl
  have xr : ∀ j, j ≠ 3 → j ≠ 5 → Sx.2.2.1 j = S.2.2.1 j := fun j j1 j2 => by rw [← hSx, ← s4]; exact (up_ne j2).trans (up_ne j1)
  have xi : ∀ j, j ≠ 4 → j ≠ 6 → Sx.1 j = S4.1 j := fun j j1 j2 => by rw [← hSx]; exact (up_ne j2).trans (up_ne j1)
  have xa : Sx.2.1 = S.2.1 := by rw [← hSx]; exact s3
  generalize hS6 : xI (xI (xH Sx h2) 8 (nI (foSt (M.2.2 16) F))) 9 0 = S6
  obtain ⟨S7, f1, f2, f3, f4, f5⟩ := fill_10 (N := N) 8 0 N S6 rfl (by omega)
  have z3 : S7.2.2 = (xH Sx h2).2.2 := by rw [f3, ← hS6]; rfl
  have z4 : S7.1 4 = nI nl := by rw [f2, ← hS6]; exact x4
  obtain ⟨S8, g1, g2, g3, g4, g5, g6⟩ := lays28 (N := N) (h := h2) (la := la) (fl := fl) (aL := aL) (aE := aE) (dp := dp) (tk := M.2.2 12) (mk := M.2.2 13) (tm := fun l => nI (τ' l)) q4 (by omega) hla2 a4 (fun l hl => y2.2.1 l hl) hev (fun l hl => ⟨τ' l, by have := (htm l hl).2.2.1; omega, rfl⟩) (fun l hl => by obtain ⟨k, k1, k2, k3⟩ := htk l hl; exact ⟨k, by omega, k3⟩) nl 0 N S7 (by rw [z3]; rfl) (by rw [z3]; exact x3) z4 (by omega) (by omega) (fun e he => by rw [f5, if_pos (by omega)]; rfl)
  have hlays : fX0_lays N Sx (aB 0) = some S8 := by
    unfold fX0_lays
    rw [x1, x2, hObj_at (ci := 6) hB0.2.2.2.2.1, Option.bind_some, e8]
    show ec_lt _ _ = _
    simp only [ec_lt]
    rw [hS6]
    unfold fJ7_fill10
    rw [show (0 : Int32) = nI 0 from rfl] at *
    rw [f1, Option.bind_some]
    exact g1
  refine ⟨S8, hlays, ?_, ?_⟩
  · show S8.1 4 = nI nl
    rw [g2 4 (by decide)]
    exact z4
  -- the relation
  generalize hSf : xI (xI S8 26 0) 2 0 = Sf
  have w_h : Sf.2.2.2 = h2 := by rw [← hSf]; show S8.2.2.2 = h2; rw [g4, z3]; rfl
  have w_r : ∀ j, Sf.2.2.1 j = Sx.2.2.1 j := fun j => by rw [← hSf]; show S8.2.2.1 j = _; rw [g4, z3]; rfl
  have w_i : ∀ j, j ≠ 2 → j ≠ 26 → j ≠ 9 → j ≠ 8 → Sf.1 j = Sx.1 j := fun j j1 j2 j3 j4 => by
    rw [← hSf]
    refine (up_ne j1).trans ((up_ne j2).trans ((g2 j j3).trans ?_))
    rw [f2, ← hS6]
    exact (up_ne j3).trans (up_ne j4)
  have w_2 : Sf.1 2 = 0 := by rw [← hSf]; rfl
  have w_26 : Sf.1 26 = 0 := by rw [← hSf]; rfl
  have w_8 : Sf.1 8 = nI (foSt (M.2.2 16) F) := by
    rw [← hSf]
    show S8.1 8 = _
    rw [g2 8 (by decide), f2, ← hS6]
    rfl
  have w_9 : Sf.1 9 = nI (sN (fun x => (M.2.2 12 x).toNatClampNeg * τ' x) 0 nl) := by
    rw [← hSf]
    show S8.1 9 = _
    rw [g3, f2, ← hS6]
    show 0 + _ = _
    rw [Int32.zero_add]
    congr 1
    exact sN_congr (fun l _ hl => by rw [nI_clamp (by have := (htm l (by omega)).2.2.1; omega)])
  have w_a : Sf.2.1 0 = S.2.1 0 := by
    rw [← hSf]
    show S8.2.1 0 = _
    rw [g5 0 (by decide), f4 0 (by decide), ← hS6]
    show Sx.2.1 0 = _
    rw [xa]
  have w_t : ∀ e, e < 8 → Sf.2.1 10 e = tot (fun l => nI (τ' l)) (M.2.2 13) nl e := fun e he => by rw [← hSf]; exact g6 e he
  have fr : ∀ a, (tg a).1 ≠ 6 → (tg a).1 ≠ 8 → h2 a = H a := fun a h1 h2 => y2.2.2 a (fun e => h1 (by rw [e, tS])) (fun l hl e => h2 (by rw [e, (cL l hl).1]))
  have totE : ∀ e, e < 8 → Sf.2.1 10 e = tot (Mf.2.2 9) (Mf.2.2 2) nl e := fun e he => by
    rw [w_t e he]
    exact (tot_congr nl (fun l hl => ⟨by rw [(m11 l hl).2.2, (htm l hl).1], m12 _ (by omega)⟩)).symm
  refine ⟨ad2 ad aL aE aB aI, tg, row, dp, nl, foSt (M.2.2 16) F, nq, fun q => ch (q + 1), dq, cm, ?_, ?_, ?_, ?_, ?_, ?_, ?_⟩
  · rw [w_i 1 (by decide) (by decide) (by decide) (by decide), xi 1 (by decide) (by decide), s1, m2, w_a, m10 24 (Or.inl rfl), hKP.2 24 rfl, w_2, m3]
    exact ⟨⟨0, by decide, rfl, rfl⟩, hT.2.1, rfl⟩
  · rw [w_h, w_r 13, xr 13 (by decide) (by decide), w_i 12 (by decide) (by decide) (by decide) (by decide), xi 12 (by decide) (by decide), s2 12 (by decide), m9, hKP.1 36 rfl, m10 37 (by omega), m10 38 (by omega), hKP.2 37 rfl, hKP.2 38 rfl]
    exact ((hC.gr p3).fr (fun b hb => fr b (by omega) (by omega))).ad' (fun c => rfl)
  · rw [w_h, w_r 25, xr 25 (by decide) (by decide), w_26, m4, m10 50 (by omega), m10 51 (by omega), m10 52 (by omega), hKP.2 50 rfl, hKP.2 51 rfl, hKP.2 52 rfl]
    exact (show iR ad tg h2 _ 0 0 _ _ _ from ⟨⟨0, by decide, rfl, rfl⟩, ((hR.gr p3).fr (fun b hb => fr b (by omega) (by omega))).2⟩).ad' (fun c => rfl)
  · rw [w_h, w_r 27, xr 27 (by decide) (by decide), m10 53 (by omega), m10 54 (by omega), m10 55 (by omega), hKP.2 53 rfl, hKP.2 54 rfl, hKP.2 55 rfl]
    exact ((hH.gr p3).fr (fun b hb => fr b (by omega) (by omega))).ad' (fun c => rfl)
  · rw [w_h, w_r 11, xr 11 (by decide) (by decide), m10 35 (by omega), hKP.2 35 rfl]
    exact ((hK.gr p3).fr (fun b hb => fr b (by omega) (by omega))).ad' (fun c => rfl)
  · rw [w_h, w_r 3, x3, w_r 7, x2, w_i 4 (by decide) (by decide) (by decide) (by decide), x4, m5, w_8, m7, w_9, m8]
    refine ⟨q4, rfl, rfl, h6, rfl, rfl, ?_, tS, a1, ⟨fl, hla2, a4⟩, ⟨st', y2.1, fun i hi => ?_⟩, fun l hl => ?_, fun e he => ⟨totE e he, ?_⟩, ?_⟩
    · congr 1
      exact sN_congr (fun l _ hl => by rw [(htm l (by omega)).2.2.2])
    · have hi2 : i < (foS (M.2.2 16) F).length := by rw [foS_len]; exact hi
      have hx := List.getElem?_eq_getElem hi2
      have e1 := y3 i _ hx
      rw [Nat.zero_add] at e1
      have e2 := m14 i _ hx
      refine ⟨e1.trans e2.symm, _, ?_, e2⟩
      have := foS_mem F 0 0 (-4) 0 1 q9 _ (List.mem_of_getElem? hx)
      omega
    · obtain ⟨k1, k2, -, -⟩ := cL l hl
      obtain ⟨e1, e2, e3⟩ := m11 l hl
      obtain ⟨t1, t2, t3, t4⟩ := htm l hl
      refine ⟨k1, k2, ?_, ?_, ?_, fun e he => ?_, τ' l, by rw [e3, t1], t2, t3⟩
      · rw [e1, e3, t1]
        exact y2.2.1 l hl
      · obtain ⟨g, g1, g2⟩ := hev l hl
        exact ⟨g, g1, fun e he => by rw [m12 _ (by omega)]; exact g2 e he⟩
      · rw [e1]
        exact htk l hl
      · rw [m12 _ (by omega)]
        exact hmk l hl e he
    · rw [totE e he, tot_sN _ _ e nl (fun l hl => ⟨τ' l, (htm l hl).2.2.1, by rw [(m11 l hl).2.2, (htm l hl).1]⟩) (fun l hl => by rw [m12 _ (by omega)]; exact hmk l hl e he)]
      refine ⟨_, ?_, rfl⟩
      have := sN_le2 (g := fun l => (Mf.2.2 9 l).toNatClampNeg * (Mf.2.2 2 (8 * l + e)).toNatClampNeg) (h := fun l => (tm l).toNatClampNeg) (c := 99) (lo := 0) (n := nl) (fun l _ hl => by
        obtain ⟨k, k1, k2⟩ := hmk l (by omega) e he
        show (Mf.2.2 9 l).toNatClampNeg * (Mf.2.2 2 (8 * l + e)).toNatClampNeg ≤ 99 * (tm l).toNatClampNeg
        rw [(m11 l (by omega)).2.2, m12 _ (by omega), k2, nI_clamp (by omega), Nat.mul_comm]
        exact Nat.mul_le_mul_right _ k1)
      omega
    · refine ⟨_, ?_, rfl⟩
      have := sN_le2 (g := fun x => (M.2.2 12 x).toNatClampNeg * (tm x).toNatClampNeg) (h := fun l => (tm l).toNatClampNeg) (c := 20) (lo := 0) (n := nl) (fun l _ hl => by
        obtain ⟨k, k1, k2, k3⟩ := htk l (by omega)
        show (M.2.2 12 l).toNatClampNeg * (tm l).toNatClampNeg ≤ 20 * (tm l).toNatClampNeg
        rw [k3, nI_clamp (by omega)]
        exact Nat.mul_le_mul_right _ k2)
      omega
  · rw [w_h, w_r 5, x5, w_i 6 (by decide) (by decide) (by decide) (by decide), x6, m6]
    obtain ⟨clA, clB⟩ := hPE.cl
    refine ⟨by omega, rfl, rfl, b1, ⟨fq, mq, hqa2, b4, by omega, b7⟩, fun l hl => ?_, fun q hq => ?_, F, q7, q8, ?_⟩
    · rw [(m11 l hl).2.1, (m11 l hl).2.2]
      rcases (clA l hl).1 with h | ⟨q, k, h1, h2, h3, h4, h5, h6⟩
      · exact Or.inl h
      · exact Or.inr ⟨q, k, h1, h3, h4, by rw [(m13 q h1).1]; exact h5, h6⟩
    · obtain ⟨c1, c2, c3⟩ := clB q hq
      obtain ⟨k1, k2, k3, k4, k5, ⟨f', m', k6, k7, k8, k9, k10⟩, k11, k12⟩ := dB (q + 1) (by omega)
      rw [(m13 q hq).1, (m13 q hq).2]
      refine ⟨c1, c2, ?_, k1, k2, ?_, f', m', ?_, k7, by omega, k10⟩
      · rcases c3 with h | ⟨p', k, h1, h2, h3, h4, h5, h6⟩
        · exact Or.inl h
        · exact Or.inr ⟨p', k, h1, h3, h4, by rw [(m13 p' (by omega)).1]; exact h5, h6⟩
      · exact y2.at hE o3 k5 (fun fs e => by simp [bC] at e) (fun g e => by cases e)
      · exact y2.at hE o3 k6 (fun fs e => by cases e) (fun g e => by cases e)
    · exact wF_congr F 0 0 (-4) 0 1 q9 (fun l _ hl => ⟨(m11 l (by omega)).2.1, rfl, (m11 l (by omega)).2.2⟩) (fun q _ hq => ⟨(m13 q (by omega)).2, (m13 q (by omega)).1, rfl, rfl, rfl⟩)
