/-! THE LAW'S START -/
set_option maxRecDepth 100000
theorem st_arr {args : Array Value} {s : State} {ty : FieldType} (h : (Cond.arrayClass ty).before args s = true) : ∃ cA : ClassId, ArrOfT s cA ty ∧ s.vm.findClass ("[" ++ ty.toString) = some cA := by
  obtain ⟨c, k, comp, h1, h2, h3⟩ := Cond.arrayClass_spec h
  exact ⟨c, fun n z => ⟨fun k h => (by cases h), k, h2, comp, h3⟩, h1⟩
theorem st_obj {args : Array Value} {s : State} {C : String} (h : (Cond.arrayOver (.object C)).before args s = true) : ∃ cA : ClassId, ArrOfT s cA (.object C) ∧ va_RA s cA (.object C) := by
  obtain ⟨comp, c, k, h1, -, h2, h3, h4⟩ := Cond.arrayOver_spec h
  exact ⟨c, fun n z => ⟨fun k h => (by cases h), k, h2, comp, h3⟩, k, comp, h2, h3, h1, h4⟩
theorem st_mm {args : Array Value} {s : State} (h : (Cond.arrayOver (.array .int)).before args s = true) : ∃ (cA comp : ClassId) (k : Class), s.vm.findClass (FieldType.array .int).toString = some comp ∧ s.vm.classes[cA]? = some k ∧ k.kind = .array comp (.array .int) ∧ s.vm.findClass ("[" ++ (FieldType.array .int).toString) = some cA := by
  simp only [Cond.before, Cond.holds, Cond.value, beq_iff_eq] at h
  cases hc : s.vm.findClass (FieldType.array .int).toString with
  | none => simp [hc] at h
  | some comp =>
    simp only [hc, Option.bind_some, Option.bind_eq_some_iff, Option.map_eq_some_iff] at h
    obtain ⟨c, hi, k, hk, hb⟩ := h
    obtain ⟨hlt, hp, -⟩ := Array.findIdx?_eq_some_iff_getElem.mp hi
    have hkk : s.vm.classes[c] = k := (Array.getElem?_eq_some_iff.mp hk).2
    rw [hkk] at hp
    cases hkind : k.kind with
    | array component ty =>
      rw [hkind] at hb hp
      simp at hb hp
      exact ⟨c, comp, k, rfl, hk, by rw [hkind, hp, hb.1], hb.2⟩
    | _ => rw [hkind] at hb; simp at hb
theorem st_K {args : Array Value} {s : State} (hts : ∀ w ∈ lw_tbl, w.before args s = true) : ∃ (D : va_G) (dA : Nat → ClassId), va_K D vwCl (tyX dA) s ∧ MK dA s := by
  have hta : ∀ w ∈ lw_all, w.before args s = true := fun w h => hts w (lw_all_tbl h)
  obtain ⟨c0, i0, k0⟩ := u_known hta in_X0 (hta _ q435)
  obtain ⟨c1, i1, k1⟩ := u_known hta in_X1 (hta _ q739)
  obtain ⟨c2, i2, k2⟩ := u_known hta in_X2 (hta _ q755)
  obtain ⟨c3, i3, k3⟩ := u_known hta in_X3 (hta _ q965)
  obtain ⟨c4, i4, k4⟩ := u_known hta in_X4 (hta _ q106)
  obtain ⟨c5, i5, k5⟩ := u_known hta in_X5 (hta _ q135)
  obtain ⟨c6, i6, k6⟩ := u_known hta in_X7 (hta _ q261)
  obtain ⟨c7, i7, k7⟩ := u_known hta in_X8 (hta _ q340)
  obtain ⟨c8, i8, k8⟩ := u_known hta in_X9 (hta _ q380)
  obtain ⟨a0, f0, g0⟩ := st_arr (hta _ q370)
  obtain ⟨a1, f1, g1⟩ := st_arr (hta _ q767)
  obtain ⟨a2, f2, g2⟩ := st_arr (hta _ q223)
  obtain ⟨a3, f3, g3⟩ := st_arr (hta _ q887)
  obtain ⟨a4, f4, g4⟩ := st_obj (hts _ q114)
  obtain ⟨a5, f5, g5⟩ := st_obj (hts _ q116)
  obtain ⟨a6, f6, g6⟩ := st_obj (hts _ q270)
  obtain ⟨a7, f7, g7⟩ := st_obj (hts _ q738)
  obtain ⟨a8, f8, g8⟩ := st_obj (hts _ q754)
  obtain ⟨a9, comp, kk, m1, m2, m3, m4⟩ := st_mm (hts _ q736)
  have ec : comp = a0 := Option.some.inj (m1.symm.trans g0)
  subst ec
  refine ⟨(fun c => [c0, c1, c2, c3, c4, c5, c6, c7, c8].getD c 0, fun c => [i0, i1, i2, i3, i4, i5, i6, i7, i8].getD c (fun _ => 0)), fun k => [comp, a1, a2, a3, a4, a5, a6, a7, a8, a9].getD k 0, ⟨fun c z hz => ?_, fun k z hz => ?_⟩, kk, m2, m3⟩
  · match c, hz with
    | 0, hz => cases hz; exact k0
    | 1, hz => cases hz; exact k1
    | 2, hz => cases hz; exact k2
    | 3, hz => cases hz; exact k3
    | 4, hz => cases hz; exact k4
    | 5, hz => cases hz; exact k5
    | 6, hz => cases hz; exact k6
    | 7, hz => cases hz; exact k7
    | 8, hz => cases hz; exact k8
    | c + 9, hz => cases hz
  · match k, hz with
    | 0, hz => cases hz; exact ⟨f0, g0⟩
    | 1, hz => cases hz; exact ⟨f1, g1⟩
    | 2, hz => cases hz; exact ⟨f2, g2⟩
    | 3, hz => cases hz; exact ⟨f3, g3⟩
    | 4, hz => cases hz; exact ⟨f4, g4⟩
    | 5, hz => cases hz; exact ⟨f5, g5⟩
    | 6, hz => cases hz; exact ⟨f6, g6⟩
    | 7, hz => cases hz; exact ⟨f7, g7⟩
    | 8, hz => cases hz; exact ⟨f8, g8⟩
    | 9, hz => cases hz; exact ⟨fun n z => ⟨fun k h => (by cases h), kk, m2, comp, m3⟩, m4⟩
    | k + 10, hz => cases hz
/-- cells taken out of the abstract heap, one by one -/
def takeL : List (Nat × hC) → hH → hH → Prop
  | [], h, h1 => h = h1
  | z :: r, h, h1 => h z.1 = some z.2 ∧ takeL r (va_up h z.1 none) h1
theorem HH.takes {D : va_G} {dA : Nat → ClassId} {A : Nat → Prop} {H : Heap} : ∀ (l : List (Nat × hC)) {F : va_W} {h h1 : hH}, HH D dA F h A H → takeL l h h1 → HH D dA (F ++ l.map (fun z => (z.1, hcv dA z.2))) h1 A H
  | [], F, h, h1, hh, ht => by
    have ht : h = h1 := ht
    subst ht
    simpa using hh
  | z :: r, F, h, h1, hh, ht => by
    have := HH.takes r (hh.take ht.1) ht.2
    simpa using this
def LX (o : Nat) (q : Nat → Nat) (S : sX) : List (Nat × hC) := (o, .inr (0, xF q S)) :: [(q 0, .inl (2, 320, .inl (S.2.1 0))), (q 10, .inl (0, 8, .inl (S.2.1 10))), (q 14, .inl (1, 256, .inl (S.2.1 14))), (q 15, .inl (0, 256, .inl (S.2.1 15))), (q 16, .inl (0, 8, .inl (S.2.1 16))), (q 20, .inl (0, 16, .inl (S.2.1 20)))]
def LM (o : Nat) (q : Nat → Nat) (M : sM) : List (Nat × hC) := (o, .inr (3, mF q M)) :: [(q 1, .inl (0, 16, .inl (M.2.2 1))), (q 2, .inl (0, 128, .inl (M.2.2 2))), (q 3, .inl (0, 16, .inl (M.2.2 3))), (q 5, .inl (0, 40, .inl (M.2.2 5))), (q 6, .inl (0, 40, .inl (M.2.2 6))), (q 8, .inl (0, 6000, .inl (M.2.2 8))), (q 9, .inl (0, 16, .inl (M.2.2 9))), (q 12, .inl (0, 16, .inl (M.2.2 12))), (q 13, .inl (0, 128, .inl (M.2.2 13))), (q 14, .inl (0, 16, .inl (M.2.2 14))), (q 16, .inl (0, 40, .inl (M.2.2 16))), (q 17, .inl (0, 40, .inl (M.2.2 17))), (q 18, .inl (0, 5, .inl (M.2.2 18))), (q 20, .inl (0, 100, .inl (M.2.2 20))), (q 21, .inl (0, 100, .inl (M.2.2 21))), (q 24, .inl (0, 320, .inl (M.2.2 24))), (q 32, .inl (0, 40, .inl (M.2.2 32))), (q 33, .inl (0, 40, .inl (M.2.2 33))), (q 35, .inl (0, 128, .inl (M.2.2 35))), (q 37, .inl (0, 4, .inl (M.2.2 37))), (q 38, .inl (0, 4, .inl (M.2.2 38))), (q 39, .inl (0, 256, .inl (M.2.2 39))), (q 40, .inl (1, 256, .inl (M.2.2 40))), (q 42, .inl (0, 8, .inl (M.2.2 42))), (q 47, .inl (0, 16, .inl (M.2.2 47))), (q 50, .inl (0, 12, .inl (M.2.2 50))), (q 51, .inl (0, 12, .inl (M.2.2 51))), (q 52, .inl (0, 12, .inl (M.2.2 52))), (q 53, .inl (0, 4, .inl (M.2.2 53))), (q 54, .inl (0, 4, .inl (M.2.2 54))), (q 55, .inl (0, 160, .inl (M.2.2 55)))]
theorem LX_ws (dA : Nat → ClassId) (o : Nat) (q : Nat → Nat) (S : sX) : (LX o q S).map (fun z => (z.1, hcv dA z.2)) = WX o q dA S := rfl
theorem LM_ws (dA : Nat → ClassId) (o : Nat) (q : Nat → Nat) (M : sM) : (LM o q M).map (fun z => (z.1, hcv dA z.2)) = WM o q (dA 0) (dA 1) M := rfl
/-- what the two constructors owe -/
def OB_start (N : Nat) (INV : sX → sM → Prop) : Prop := ∀ oX : Nat, fX0_init (fun _ _ => False) (fun h => ∀ oM : Nat, h oM = none → fX3_init N (fun _ _ => False) (fun h2 => ∃ (q : Nat → Nat) (S : sX) (qM : Nat → Nat) (M : sM), takeL (LX oX q S ++ LM oM qM M) h2 S.2.2.2 ∧ INV S M) (va_up h oM (some (.inr (3, [.int 0, .null, .null, .null, .int 0, .null, .null, .int 0, .null, .null, .int 0, .int 0, .null, .null, .null, .int 0, .null, .null, .null, .int 0, .null, .null, .int 0, .int 0, .null, .int 0, .int 0, .int 0, .int 0, .int 0, .int 0, .int 0, .null, .null, .int 0, .null, .int 0, .null, .null, .null, .null, .int 0, .null, .long 0, .long 0, .int 0, .int 0, .null, .int 0, .int 0, .null, .null, .null, .null, .null, .null])))) 100 9000 oM) (va_up (fun _ => none) oX (some (.inr (0, [.null, .int 0, .int 0, .null, .int 0, .null, .int 0, .null, .int 0, .int 0, .null, .null, .int 0, .null, .null, .null, .null, .int 0, .int 0, .int 0, .null, .int 0, .int 0, .int 0, .int 0, .null, .int 0, .null])))) 100 9000 oX
section
variable {p : Program} {l : Launch} {e : Env} {R : Room} {s : State} {m : MethodId} {args : Array Value} {below : List Frame} {meth : Method} {c : Code} {H : Heap} {u w c1 k1 : Nat} {Q : State → Prop} {pc : Nat} {ls : Array Slot} {rest st As : List Value} {K : oK} {D : va_G} {dA : Nat → ClassId} {F : va_W} {S S1 : hH} {A : Nat → Prop} {Qr1 : Option Value → hH → Prop} {b L N : Nat} {xs : Nat → Int32} {INV : sX → sM → Prop}
/-- a constructor's call: it comes back -/
theorem l_cN {a0 : Array Value} (hM : HX D dA F S A s H []) (hA : ∀ x, A x ↔ s.heap.size ≤ x) (hr : RunT p l e R s m args below meth c H [] u w c1 k1 (F0 m pc ls st) rest (NPost D dA (NA S H.size) Qr1 (fun _ _ => False) a0) (NA S H.size))
    (kr : ∀ (v : Option Value) (S1 : hH) (H1 : Heap), Qr1 v S1 → HX D dA F S1 A s H1 [] → W p l e R s m args below meth c H1 [] (u + c1) (w + k1) Q (F0 m (pc + 3) ls (v.toList ++ rest))) : W p l e R s m args below meth c H [] u w Q (F0 m pc ls st) := by
  have hin : ∀ a, NA S H.size a → A a := fun a h => NA_in hM (fun x hx => (hA x).mpr hx) h
  obtain ⟨hK, hN, ⟨L0, hi, hP0, hD⟩, hS⟩ := hM
  intro T hT X
  obtain ⟨o, st₀, t, L, T', h0', ⟨hq, hF⟩, hL, X', e1, e2, hcase⟩ := hr T hT X
  obtain ⟨hz, hk⟩ := hF
  rw [h0'] at hz hk
  have hS2 : va_S A s.heap t.heap [] := ⟨Nat.le_trans hS.1 hz, fun x h1 h2 => by rw [hk x (Nat.lt_of_lt_of_le h1 hS.1) (fun z => h2 (hin x z))]; exact hS.2.1 x h1 h2, fun x hx => by cases hx⟩
  rcases hcase with ⟨v, rfl, hgo⟩ | ⟨x, rfl, hgo⟩
  · rcases hq with ⟨v', h', q1, q2, q3⟩ | ⟨x', h', q1, q2, q3⟩
    · cases q1
      obtain ⟨t2, a1, b1⟩ := kr v h' t.heap q2 ⟨hK, hN, nn_frame hi hP0 hD hin hk q3, hS2⟩ T' e1 (Stand.forget (extra := L) X' (fun x hx => (hA _).mp (hin _ (hL x hx))))
      exact ⟨t2, hgo t2 a1, b1⟩
    · cases q1
  · rcases hq with ⟨v', h', q1, q2, q3⟩ | ⟨x', h', q1, q2, q3⟩
    · cases q1
    · exact q2.elim
set_option maxHeartbeats 1000000 in
theorem law_begin (hS : LWS K l p m c s args b L xs) (hob : OBS N INV) (hst : OB_start N INV) (hL : L ≤ 384) (hK : va_K D vwCl (tyX dA) s) (hN : XN s) (hMK : MK dA s) (hl : lv_has ls 4 [(0, .ref b)]) (hend : ∀ (H : Heap) (ls : Array Slot) (u w : Nat), u ≤ 603072 → w ≤ 7262314 → W p l e room_1 s m args below meth c H [] u w Q (F0 m 1645 ls [])) : W p l e room_1 s m args below meth c s.heap [] 0 0 Q (F0 m 0 ls []) := by
  have X := hS.1
  have hx := X.1
  have hb := X.2.1
  have hO := hS.2.2.2.1
  have hRf := hS.2.2.2.2.1
  have hM : HX D dA [] (fun _ => none) (LA s) s s.heap [] := ⟨hK, hN, ⟨[], fun a x => ⟨fun h => (by cases h), fun h => (by cases h)⟩, fun k z hz => (by cases hz), ⟨fun i j x y hx => (by cases hx), fun k z hz => (by cases hz)⟩⟩, va_S.rf⟩
  refine n_new (C := RX0) (T := TX0) (N := 28) (ci := 0) (fs := [.null, .int 0, .int 0, .null, .int 0, .null, .int 0, .null, .int 0, .int 0, .null, .null, .int 0, .null, .null, .null, .null, .int 0, .int 0, .int 0, .null, .int 0, .int 0, .int 0, .int 0, .null, .int 0, .null]) tyX0 tyX0_ok X hM (fun _ h => h) in_X0 q728 q435 q60 rfl (fun j hj => by rcases (show j = 0 ∨ j = 1 ∨ j = 2 ∨ j = 3 ∨ j = 4 ∨ j = 5 ∨ j = 6 ∨ j = 7 ∨ j = 8 ∨ j = 9 ∨ j = 10 ∨ j = 11 ∨ j = 12 ∨ j = 13 ∨ j = 14 ∨ j = 15 ∨ j = 16 ∨ j = 17 ∨ j = 18 ∨ j = 19 ∨ j = 20 ∨ j = 21 ∨ j = 22 ∨ j = 23 ∨ j = 24 ∨ j = 25 ∨ j = 26 ∨ j = 27 by omega) with rfl | rfl | rfl | rfl | rfl | rfl | rfl | rfl | rfl | rfl | rfl | rfl | rfl | rfl | rfl | rfl | rfl | rfl | rfl | rfl | rfl | rfl | rfl | rfl | rfl | rfl | rfl | rfl <;> rfl) (Nat.le_of_ble_eq_true rfl) (Nat.le_of_ble_eq_true rfl) dL_law_0 (fun oX H _ hM => ?_)
  have hf := hst oX
  refine lv_dup hx hb dL_law_3 rfl ?_
  refine l_cN (rest := [.ref oX]) hM (fun _ => Iff.rfl) (t_runI (As := []) (rest := [.ref oX]) X (metX0_init l D dA K _ _ _ 100 9000 oX hf) (cwI 0 X.2.2.2.2 (lw_meth q731) rfl rfl rfl (X.2.2.2.2 _ q60) (X.2.2.2.2 _ q729) (X.2.2.2.2 _ q730) rfl hX0_init ⟨(Nat.le_of_ble_eq_true rfl), (Nat.le_of_ble_eq_true rfl)⟩) ⟨CPre.blind, fun U hU hW => ⟨p_pre hM (fun _ h => h) hO hRf rfl U hU hW, hMK.moved hW.alike⟩⟩ rfl rfl hl.1 rfl (lv_room (Nat.le_of_ble_eq_true rfl)) dL_law_4 ⟨(Nat.le_of_ble_eq_true rfl), (Nat.le_of_ble_eq_true rfl)⟩) (fun v h1 H hq hM => ?_)
  obtain ⟨rfl, hf⟩ := hq
  refine W.eq (g2 := F0 m _ _ [.ref oX]) rfl ?_
  refine lv_astore_n (lv' := [(1, .ref oX), (0, .ref b)]) hx hb dL_law_7 rfl hl (by decide) rfl (fun ls hl => ?_)
  refine n_new (C := RX3) (T := TX3) (N := 56) (ci := 3) (fs := [.int 0, .null, .null, .null, .int 0, .null, .null, .int 0, .null, .null, .int 0, .int 0, .null, .null, .null, .int 0, .null, .null, .null, .int 0, .null, .null, .int 0, .int 0, .null, .int 0, .int 0, .int 0, .int 0, .int 0, .int 0, .int 0, .null, .null, .int 0, .null, .int 0, .null, .null, .null, .null, .int 0, .null, .long 0, .long 0, .int 0, .int 0, .null, .int 0, .int 0, .null, .null, .null, .null, .null, .null]) tyX3 tyX3_ok X hM (fun _ h => h) in_X3 q964 q965 q63 rfl (fun j hj => by rcases (show j = 0 ∨ j = 1 ∨ j = 2 ∨ j = 3 ∨ j = 4 ∨ j = 5 ∨ j = 6 ∨ j = 7 ∨ j = 8 ∨ j = 9 ∨ j = 10 ∨ j = 11 ∨ j = 12 ∨ j = 13 ∨ j = 14 ∨ j = 15 ∨ j = 16 ∨ j = 17 ∨ j = 18 ∨ j = 19 ∨ j = 20 ∨ j = 21 ∨ j = 22 ∨ j = 23 ∨ j = 24 ∨ j = 25 ∨ j = 26 ∨ j = 27 ∨ j = 28 ∨ j = 29 ∨ j = 30 ∨ j = 31 ∨ j = 32 ∨ j = 33 ∨ j = 34 ∨ j = 35 ∨ j = 36 ∨ j = 37 ∨ j = 38 ∨ j = 39 ∨ j = 40 ∨ j = 41 ∨ j = 42 ∨ j = 43 ∨ j = 44 ∨ j = 45 ∨ j = 46 ∨ j = 47 ∨ j = 48 ∨ j = 49 ∨ j = 50 ∨ j = 51 ∨ j = 52 ∨ j = 53 ∨ j = 54 ∨ j = 55 by omega) with rfl | rfl | rfl | rfl | rfl | rfl | rfl | rfl | rfl | rfl | rfl | rfl | rfl | rfl | rfl | rfl | rfl | rfl | rfl | rfl | rfl | rfl | rfl | rfl | rfl | rfl | rfl | rfl | rfl | rfl | rfl | rfl | rfl | rfl | rfl | rfl | rfl | rfl | rfl | rfl | rfl | rfl | rfl | rfl | rfl | rfl | rfl | rfl | rfl | rfl | rfl | rfl | rfl | rfl | rfl | rfl <;> rfl) (Nat.le_of_ble_eq_true rfl) (Nat.le_of_ble_eq_true rfl) dL_law_8 (fun oM H hn hM => ?_)
  have hf := hf oM hn
  refine lv_dup hx hb dL_law_11 rfl ?_
  refine l_cN (rest := [.ref oM]) hM (fun _ => Iff.rfl) (t_runI (As := []) (rest := [.ref oM]) X (metX3_init l D dA K N _ _ _ 100 9000 oM hf) (cwI 0 X.2.2.2.2 (lw_meth q968) rfl rfl rfl (X.2.2.2.2 _ q63) (X.2.2.2.2 _ q966) (X.2.2.2.2 _ q967) rfl hX3_init ⟨(Nat.le_of_ble_eq_true rfl), (Nat.le_of_ble_eq_true rfl)⟩) ⟨NPre.blind, p_pre hM (fun _ h => h) hO hRf rfl⟩ rfl rfl hl.1 rfl (lv_room (Nat.le_of_ble_eq_true rfl)) dL_law_12 ⟨(Nat.le_of_ble_eq_true rfl), (Nat.le_of_ble_eq_true rfl)⟩) (fun v h2 H hq hM => ?_)
  obtain ⟨rfl, q, S, qM, M, ht, hI⟩ := hq
  refine W.eq (g2 := F0 m _ _ [.ref oM]) rfl ?_
  refine lv_astore_n (lv' := [(2, .ref oM), (1, .ref oX), (0, .ref b)]) hx hb dL_law_15 rfl hl (by decide) rfl (fun ls hl => ?_)
  refine lv_iconst (v := 0) hx hb dL_law_16 (by decide) ?_
  refine lv_istore_n (lv' := [(3, .int 0), (2, .ref oM), (1, .ref oX), (0, .ref b)]) hx hb dL_law_17 rfl hl (by decide) rfl (fun ls hl => ?_)
  have hLH : LH D dA oX q oM qM S M s H := by
    refine ⟨hM.1, hM.2.1, ?_, hM.2.2.2⟩
    have h3 := HH.takes _ hM.2.2.1 ht
    rw [List.map_append, LX_ws, LM_ws] at h3
    exact h3
  exact W.widen (Nat.le_of_ble_eq_true rfl) (Nat.le_of_ble_eq_true rfl) (law_loop hS hob hL hend 65 0 S M H ls rfl hI hLH (lv_sub hl [3, 2, 1, 0] rfl))
end
