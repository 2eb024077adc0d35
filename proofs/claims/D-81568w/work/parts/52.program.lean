set_option maxRecDepth 100000
noncomputable def fX0_program_92 (Qr : Int32 → sX → Prop) (S : sX) (a : Nat) : Prop := ∃ cd, hI 5 S.2.2.2 a 6 = some cd ∧ ec_lt (xI S 2 cd) fun S1 => ∃ pl, hI 5 S1.2.2.2 a 7 = some pl ∧ Qr ((-10) - pl) S1
noncomputable def fX0_program_40 (N : Nat) (Qr : Int32 → sX → Prop) (S : sX) (rd blk : Nat) : Prop :=
  ∃ v1, hR 4 S.2.2.2 rd 1 = some v1 ∧ ec_lt (xR S 3 v1) fun S1 => ∃ v2, hI 4 S1.2.2.2 rd 2 = some v2 ∧ ec_lt (xI S1 4 v2) fun S2 => ∃ v3, hR 4 S2.2.2.2 rd 3 = some v3 ∧ ec_lt (xR S2 5 v3) fun S3 => ∃ v4, hI 4 S3.2.2.2 rd 4 = some v4 ∧ ec_lt (xI S3 6 v4) fun S4 =>
  ∃ S5, fX0_lays N S4 blk = some S5 ∧ ec_lt (xI S5 26 0) fun S6 => ec_lt (xI S6 2 0) fun S7 => Qr (S7.1 4) S7
noncomputable def fX0_program (N : Nat) (Qr : Int32 → sX → Prop) (S : sX) (bc bk : Nat) : Prop :=
  ¬ S.1 1 < 0 ∧ (S.1 1).toNatClampNeg * 1 ≤ 536870912 ∧ 1 ≤ bc ∧ (S.1 1).toNatClampNeg ≤ bk ∧ ∀ t, S.2.2.2 t = none →
  ec_lt (xH S (va_up S.2.2.2 t (some (.inl (2, (S.1 1).toNatClampNeg, .inl (fun _ => 0)))))) fun S1 =>
  ∃ h1, hCpb (S1.2.1 0) 320 S1.2.2.2 t (S1.1 1) h1 ∧ ec_lt (xH S1 h1) fun S1' => ec_lt (xI S1' 1 0) fun S2 =>
  1 ≤ bc - 1 ∧ 9 ≤ bk - (S.1 1).toNatClampNeg ∧ ∀ r, S2.2.2.2 r = none → ec_lt (xH S2 (va_up S2.2.2.2 r (some (.inr (4, [.null, .null, .int 0, .null, .int 0, .int 0, .int 0, .int 0, .int 0]))))) fun S3 =>
  ∃ c1 k1, c1 ≤ bc - 1 - 1 ∧ k1 ≤ bk - (S.1 1).toNatClampNeg - 9 ∧ fX4_init N (fun a h => (∃ fs, h a = some (.inr (5, fs))) ∧ fX0_program_92 Qr (xH S3 h) a) (fun h => ec_lt (xH S3 h) fun S4 =>
    ∃ w, hObj 4 S4.2.2.2 r = some w ∧ ∃ c2 k2, c2 ≤ bc - 1 - 1 - c1 ∧ k2 ≤ bk - (S.1 1).toNatClampNeg - 9 - k1 ∧
    fX4_all N (fun a h => (∃ fs, h a = some (.inr (5, fs))) ∧ fX0_program_92 Qr (xH S4 h) a) (fun blk h => fX0_program_40 N Qr (xH S4 h) r blk) S4.2.2.2 c2 k2 r) S3.2.2.2 c1 k1 r t
section
variable {p : Program} {l : Launch} {e : Env} {s : State} {m : MethodId} {args : Array Value} {below : List Frame} {meth : Method} {c : Code} {D : va_G} {dA : Nat → ClassId} {o : Nat} {q : Nat → Nat} {A : Nat → Prop} {K : oK} {N : Nat} {Qr : Int32 → sX → Prop} {mc ms : Nat}
theorem bX0_program_92 (X : CallFix p m c cX0_program 4 s args lw_all RX0) (hr : meth.sig.returnType = some .int) (hlk : meth.locks = false) : ∀ (S : sX) (a : Nat) (H : Heap) (locs : List Loc) (u w : Nat) (ls : Array Slot), fX0_program_92 Qr S a → u ≤ mc → w ≤ ms → XW D dA o q S A s H locs → lv_has ls 4 [(0, .ref o)] → W p l e (rmN 170 mc ms) s m args below meth c H locs u w (MQT below (YPost D dA o q A (yqI Qr)) args s mc ms A) (F0 m 92 ls [.ref a]) := by
  have hx := X.1
  have hb := X.2.1
  intro S a H locs u w ls hf hu hw hM hl
  obtain ⟨cd, h, hf⟩ := hf
  refine lv_astore_n (lv' := [(2, .ref a), (0, .ref o)]) hx hb dX0_program_92 rfl hl (by decide) rfl (fun ls hl => ?_)
  refine lv_aload_n hx hb dX0_program_93 rfl (lv_at hl 1 rfl) ?_
  refine lv_aload_n hx hb dX0_program_94 rfl (lv_at hl 0 rfl) ?_
  refine h_getvN (v := .int cd) (C := RX5) (T := TX5) (N := 8) (ci := 5) (k := 6) (host := "EventCounters") X hM in_X5 rfl (by decide) (xn_at hM.2.1 9 rfl) rfl (hI_i h) dX0_program_95 ?_
  refine x_puti X hM 2 (by decide) q770 rfl rfl xfd2 (wxi2 _) dX0_program_98 (fun S1 H locs eS hM => ?_)
  have hf := ec_lt_p eS hf
  obtain ⟨pl, h, hf⟩ := hf
  refine lv_bipush (v := -10) hx hb dX0_program_101 (by decide) ?_
  refine lv_aload_n hx hb dX0_program_103 rfl (lv_at hl 0 rfl) ?_
  refine h_getvN (v := .int pl) (C := RX5) (T := TX5) (N := 8) (ci := 5) (k := 7) (host := "EventCounters") X hM in_X5 rfl (by decide) (xn_at hM.2.1 10 rfl) rfl (hI_i h) dX0_program_104 ?_
  refine lv_isub hx hb dX0_program_107 ?_
  exact y_iret X hr hlk hM hu hw hf dX0_program_108
theorem bX0_program_40 (X : CallFix p m c cX0_program 4 s args lw_all RX0) (hr : meth.sig.returnType = some .int) (hlk : meth.locks = false) : ∀ (S : sX) (rd blk : Nat) (H : Heap) (locs : List Loc) (u w t : Nat) (ls : Array Slot), fX0_program_40 N Qr S rd blk → u ≤ mc → w ≤ ms → XW D dA o q S A s H locs → lv_has ls 4 [(3, .ref blk), (2, .ref rd), (1, .ref t), (0, .ref o)] → W p l e (rmN 170 mc ms) s m args below meth c H locs u w (MQT below (YPost D dA o q A (yqI Qr)) args s mc ms A) (F0 m 40 ls []) := by
  have hx := X.1
  have hb := X.2.1
  intro S rd blk H locs u w t ls hf hu hw hM hl
  obtain ⟨v1, h, hf⟩ := hf
  refine lv_aload_n hx hb dX0_program_40 rfl (lv_at hl 3 rfl) ?_
  refine lv_aload_n hx hb dX0_program_41 rfl (lv_at hl 1 rfl) ?_
  refine h_getvN (v := .ref v1) (C := RX4) (T := TX4) (N := 9) (ci := 4) (k := 1) (host := "EventCounters") X hM in_X4 rfl (by decide) (xn_at hM.2.1 11 rfl) rfl (hR_i h) dX0_program_42 ?_
  refine y_putr (k := 3) (ty := .array (.object "EventCounters$Line")) X hM (by decide) q771 rfl rfl (by decide +kernel) rfl rfl (wxr3 _) dX0_program_45 (fun S1 H locs eS hM => ?_)
  have hf := ec_lt_p eS hf
  obtain ⟨v2, h, hf⟩ := hf
  refine lv_aload_n hx hb dX0_program_48 rfl (lv_at hl 3 rfl) ?_
  refine lv_aload_n hx hb dX0_program_49 rfl (lv_at hl 1 rfl) ?_
  refine h_getvN (v := .int v2) (C := RX4) (T := TX4) (N := 9) (ci := 4) (k := 2) (host := "EventCounters") X hM in_X4 rfl (by decide) (xn_at hM.2.1 12 rfl) rfl (hI_i h) dX0_program_50 ?_
  refine x_puti X hM 4 (by decide) q772 rfl rfl xfd4 (wxi4 _) dX0_program_53 (fun S2 H locs eS hM => ?_)
  have hf := ec_lt_p eS hf
  obtain ⟨v3, h, hf⟩ := hf
  refine lv_aload_n hx hb dX0_program_56 rfl (lv_at hl 3 rfl) ?_
  refine lv_aload_n hx hb dX0_program_57 rfl (lv_at hl 1 rfl) ?_
  refine h_getvN (v := .ref v3) (C := RX4) (T := TX4) (N := 9) (ci := 4) (k := 3) (host := "EventCounters") X hM in_X4 rfl (by decide) (xn_at hM.2.1 13 rfl) rfl (hR_i h) dX0_program_58 ?_
  refine y_putr (k := 5) (ty := .array (.object "EventCounters$Loop")) X hM (by decide) q773 rfl rfl (by decide +kernel) rfl rfl (wxr5 _) dX0_program_61 (fun S3 H locs eS hM => ?_)
  have hf := ec_lt_p eS hf
  obtain ⟨v4, h, hf⟩ := hf
  refine lv_aload_n hx hb dX0_program_64 rfl (lv_at hl 3 rfl) ?_
  refine lv_aload_n hx hb dX0_program_65 rfl (lv_at hl 1 rfl) ?_
  refine h_getvN (v := .int v4) (C := RX4) (T := TX4) (N := 9) (ci := 4) (k := 4) (host := "EventCounters") X hM in_X4 rfl (by decide) (xn_at hM.2.1 14 rfl) rfl (hI_i h) dX0_program_66 ?_
  refine x_puti X hM 6 (by decide) q774 rfl rfl xfd6 (wxi6 _) dX0_program_69 (fun S4 H locs eS hM => ?_)
  have hf := ec_lt_p eS hf
  obtain ⟨S5, h, hf⟩ := hf
  refine lv_aload_n hx hb dX0_program_72 rfl (lv_at hl 3 rfl) ?_
  refine lv_aload_n hx hb dX0_program_73 rfl (lv_at hl 0 rfl) ?_
  refine x_cWv (As := [.ref blk]) (rest := []) X hM (metX0_lays l D dA o q N S4 blk _ h) (cwV 1 X.2.2.2.2 (lw_V q432 q434 qs12 q60 q436) rfl rfl rfl hX0_lays (rmN_leL (Nat.le_of_ble_eq_true rfl) (Nat.le_of_ble_eq_true rfl))) rfl hl.1 rfl (Nat.le_of_ble_eq_true rfl) ⟨hu, hw⟩ dX0_program_74 (fun H locs hM => ?_)
  refine lv_aload_n hx hb dX0_program_77 rfl (lv_at hl 3 rfl) ?_
  refine lv_iconst (v := 0) hx hb dX0_program_78 (by decide) ?_
  refine x_puti X hM 26 (by decide) q794 rfl rfl xfd26 (wxi26 _) dX0_program_79 (fun S6 H locs eS hM => ?_)
  have hf := ec_lt_p eS hf
  refine lv_aload_n hx hb dX0_program_82 rfl (lv_at hl 3 rfl) ?_
  refine lv_iconst (v := 0) hx hb dX0_program_83 (by decide) ?_
  refine x_puti X hM 2 (by decide) q770 rfl rfl xfd2 (wxi2 _) dX0_program_84 (fun S7 H locs eS hM => ?_)
  have hf := ec_lt_p eS hf
  refine lv_aload_n hx hb dX0_program_87 rfl (lv_at hl 3 rfl) ?_
  refine x_get (v := .int (S7.1 4)) X hM 4 (by decide) q772 rfl rfl dX0_program_88 ?_
  exact y_iret X hr hlk hM hu hw hf dX0_program_91
end
theorem metX0_program (l : Launch) (D : va_G) (dA : Nat → ClassId) (K : oK) (o : Nat) (q : Nat → Nat) (N : Nat) (Qr : Int32 → sX → Prop) (S : sX) (bc bk : Nat) {sz : Nat} (hf : fX0_program N Qr S bc bk) : Met l yX0_program (wsW_ yX0_program cX0_program 4 (some .int) [(26, 91, 92, 104)]) (rmN 170 bc bk) (YPre D dA K sz o q S []) (YPost D dA o q (YA o q S.2.2.2 sz) (yqI Qr)) bc bk (YA o q S.2.2.2 sz) := by
  refine y_ofH rfl (Nat.le_of_ble_eq_true rfl) (fun A p e s m args below meth c X hr hlk htb hA hO hRf hM ls hl => ?_)
  have hl : lv_has ls 4 [(0, .ref o)] := hl
  have hx := X.1
  have hb := X.2.1
  have hu : 0 + bc = bc := Nat.zero_add bc
  have hw : 0 + bk = bk := Nat.zero_add bk
  obtain ⟨x0, hx0, e1, e2, e3, e4⟩ : ∃ x0 : ExceptionTableEntry, c.exceptionTable.toList = [x0] ∧ x0.startPc = 26 ∧ x0.endPc = 91 ∧ x0.handlerPc = 92 ∧ x0.catchType = 104 := by
    generalize c.exceptionTable.toList = tl at htb
    cases tl with
    | nil => cases htb
    | cons x tl =>
      cases tl with
      | nil =>
        simp only [List.map_cons, List.map_nil, List.cons.injEq, Prod.mk.injEq, and_true] at htb
        exact ⟨x, rfl, htb.1, htb.2.1, htb.2.2.1, htb.2.2.2⟩
      | cons z tl => simp at htb
  unfold fX0_program at hf
  obtain ⟨hn1, hn2, hb1, hb2, hf⟩ := hf
  refine lv_aload_n hx hb dX0_program_0 rfl (lv_at hl 0 rfl) ?_
  refine x_get (v := .int (S.1 1)) X hM 1 (by decide) q769 rfl rfl dX0_program_1 ?_
  refine n_newb X hM hA q223 hn1 rfl hn2 (nb_le hu hb1) (nb_le hw hb2) dX0_program_4 (fun t H hq hM => ?_)
  have hf := hf t hq
  have hu := nb_sub hu hb1
  have hw := nb_sub hw hb2
  obtain ⟨S1, eS, hM⟩ := x_nm hM
  have hf := ec_lt_p eS hf
  refine lv_astore_n (lv' := [(1, .ref t), (0, .ref o)]) hx hb dX0_program_6 rfl hl (by decide) rfl (fun ls hl => ?_)
  obtain ⟨h1, hcp, hf⟩ := hf
  refine lv_aload_n hx hb dX0_program_7 rfl (lv_at hl 1 rfl) ?_
  refine x_get (v := .ref (q 0)) X hM 0 (by decide) q768 rfl rfl dX0_program_8 ?_
  refine lv_iconst (v := 0) hx hb dX0_program_11 (by decide) ?_
  refine lv_aload_n hx hb dX0_program_12 rfl (lv_at hl 0 rfl) ?_
  refine lv_iconst (v := 0) hx hb dX0_program_13 (by decide) ?_
  refine lv_aload_n hx hb dX0_program_14 rfl (lv_at hl 1 rfl) ?_
  refine x_get (v := .int (S1.1 1)) X hM 1 (by decide) q769 rfl rfl dX0_program_15 ?_
  refine y_copyb (k0 := 1) X hM wxa0 hl.1 q102 q104 q103 q64 hcp (Nat.le_of_ble_eq_true rfl) (Nat.le_of_ble_eq_true rfl) dX0_program_18 (fun H locs hM => ?_)
  obtain ⟨S1', eS, hM⟩ := x_nm hM
  have hf := ec_lt_p eS hf
  refine lv_aload_n hx hb dX0_program_21 rfl (lv_at hl 1 rfl) ?_
  refine lv_iconst (v := 0) hx hb dX0_program_22 (by decide) ?_
  refine x_puti X hM 1 (by decide) q769 rfl rfl xfd1 (wxi1 _) dX0_program_23 (fun S2 H locs eS hM => ?_)
  have hf := ec_lt_p eS hf
  obtain ⟨hb1, hb2, hf⟩ := hf
  refine n_new (C := RX4) (T := TX4) (N := 9) (ci := 4) (fs := [.null, .null, .int 0, .null, .int 0, .int 0, .int 0, .int 0, .int 0]) tyX4 tyX4_ok X hM hA in_X4 q105 q106 q65 rfl (fun j hj => by rcases (show j = 0 ∨ j = 1 ∨ j = 2 ∨ j = 3 ∨ j = 4 ∨ j = 5 ∨ j = 6 ∨ j = 7 ∨ j = 8 by omega) with rfl | rfl | rfl | rfl | rfl | rfl | rfl | rfl | rfl <;> rfl) (nb_le hu hb1) (nb_le hw hb2) dX0_program_26 (fun r H hq hM => ?_)
  have hf := hf r hq
  have hu := nb_sub hu hb1
  have hw := nb_sub hw hb2
  obtain ⟨S3, eS, hM⟩ := x_nm hM
  have hf := ec_lt_p eS hf
  obtain ⟨c1, k1, hc1, hk1, hf⟩ := hf
  refine lv_dup hx hb dX0_program_29 rfl ?_
  refine lv_aload_n hx hb dX0_program_30 rfl (lv_at hl 0 rfl) ?_
  refine p_call (rest := [.ref r]) (x0 := x0) hM hA (t_runI (As := [.ref t]) (rest := [.ref r]) X (metX4_init l D dA K N _ _ S3.2.2.2 c1 k1 r t hf) (cwI 1 X.2.2.2.2 (lw_meth q109) rfl rfl rfl (X.2.2.2.2 _ q65) (X.2.2.2.2 _ q107) (X.2.2.2.2 _ q108) rfl hX4_init (rmN_le (Nat.le_of_ble_eq_true rfl) (Nat.le_of_ble_eq_true rfl))) ⟨NPre.blind, p_pre hM hA hO hRf rfl⟩ rfl rfl hl.1 rfl (lv_room (Nat.le_of_ble_eq_true rfl)) dX0_program_31 ⟨nb_le hu hc1, nb_le hw hk1⟩) X.2.2.2.1 hx0 (by simp [covers, e1, e2]) (by rw [e4]; decide) (by rw [e4]; exact X.2.2.2.2 _ q101) (fun v S1 H locs hf hM => ?_) (fun a S1 H locs hf hM => ⟨hf.1, ?_⟩)
  rotate_left
  · obtain ⟨S4, eS, hM⟩ := x_nm hM
    subst eS
    rw [e3]
    exact bX0_program_92 X hr hlk _ a _ _ _ _ ls hf.2 (nb_le hu hc1) (nb_le hw hk1) hM (lv_sub hl [1] rfl)
  obtain ⟨rfl, hf⟩ := hf
  have hu := nb_sub hu hc1
  have hw := nb_sub hw hk1
  obtain ⟨S4, eS, hM⟩ := x_nm hM
  have hf := ec_lt_p eS hf
  refine W.eq (g2 := F0 m _ _ [.ref r]) rfl ?_
  refine lv_astore_n (lv' := [(2, .ref r), (1, .ref t), (0, .ref o)]) hx hb dX0_program_34 rfl hl (by decide) rfl (fun ls hl => ?_)
  obtain ⟨ww, ho, c2, k2, hc2, hk2, hf⟩ := hf
  refine lv_aload_n hx hb dX0_program_35 rfl (lv_at hl 0 rfl) ?_
  refine p_call (rest := []) (x0 := x0) hM hA (t_runV (As := []) (rest := []) (C := RX4) X (metX4_all l D dA K N _ _ S4.2.2.2 c2 k2 r hf) (cwV 0 X.2.2.2.2 (lw_V q256 q257 q258 q65 q259) rfl rfl rfl ⟨rfl, hX4_all⟩ (rmN_le (Nat.le_of_ble_eq_true rfl) (Nat.le_of_ble_eq_true rfl))) ⟨NPre.blind, h_recv (C := RX4) (T := TX4) (N := 9) (ci := 4) hM rfl (hObj_i ho), p_pre hM hA hO hRf rfl⟩ rfl rfl hl.1 rfl (lv_room (Nat.le_of_ble_eq_true rfl)) dX0_program_36 ⟨nb_le hu hc2, nb_le hw hk2⟩) X.2.2.2.1 hx0 (by simp [covers, e1, e2]) (by rw [e4]; decide) (by rw [e4]; exact X.2.2.2.2 _ q101) (fun v S1 H locs hf hM => ?_) (fun a S1 H locs hf hM => ⟨hf.1, ?_⟩)
  rotate_left
  · obtain ⟨S5, eS, hM⟩ := x_nm hM
    subst eS
    rw [e3]
    exact bX0_program_92 X hr hlk _ a _ _ _ _ ls hf.2 (nb_le hu hc2) (nb_le hw hk2) hM (lv_sub hl [2] rfl)
  obtain ⟨blk, rfl, hf⟩ := hf
  obtain ⟨S5, eS, hM⟩ := x_nm hM
  subst eS
  refine W.eq (g2 := F0 m _ _ [.ref blk]) rfl ?_
  refine lv_astore_n (lv' := [(3, .ref blk), (2, .ref r), (1, .ref t), (0, .ref o)]) hx hb dX0_program_39 rfl hl (by decide) rfl (fun ls hl => ?_)
  exact bX0_program_40 X hr hlk _ r blk _ _ _ _ t ls hf (nb_le hu hc2) (nb_le hw hk2) hM hl
