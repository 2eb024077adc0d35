set_option maxRecDepth 100000
set_option maxHeartbeats 2000000
set_option linter.unusedVariables false
section
variable {p : Program} {l : Launch} {e : Env} {s : State} {m : MethodId} {args : Array Value} {below : List Frame} {meth : Method} {c : Code}
variable {D : va_G} {dA : Nat → ClassId} {o : Nat} {q : Nat → Nat} {A : Nat → Prop}
noncomputable def fX0_isCounter (S : sX) (x1 : Int32) : Option Int32 :=
  (fX0_isIn (x1.toInt64) (0 : Int64) (((S.1 12) - (1 : Int32)).toInt64)).bind fun v_1 =>
  ec_rz v_1
theorem metX0_isCounter (l : Launch) (D : va_G) (dA : Nat → ClassId) (o : Nat) (q : Nat → Nat) (S : sX) (x1 : Int32) (res : Int32) (hf : fX0_isCounter S x1 = some res) : Met l yX0_isCounter (ws_ yX0_isCounter cX0_isCounter 2 (some .boolean)) (rmL 1) (XPre D dA o q S [.int x1]) (k2_QcV (.int res)) 0 0 (fun _ => False) := by
  refine x_ofR rfl (Nat.le_of_ble_eq_true rfl) (fun p e s m args below meth c X hr hlk hM ls hl => ?_)
  have hl : lv_has ls 2 [(0, .ref o), (1, .int x1)] := hl
  have hx := X.1
  have hb := X.2.1
  unfold fX0_isCounter at hf
  refine lv_iload_n hx hb dX0_isCounter_0 rfl (lv_at hl 1 rfl) ?_
  refine lv_i2l hx hb dX0_isCounter_1 rfl ?_
  refine lv_lconst (v := 0) hx hb dX0_isCounter_2 (by decide) ?_
  refine lv_aload_n hx hb dX0_isCounter_3 rfl (lv_at hl 0 rfl) ?_
  refine x_get (v := .int (S.1 12)) X hM 12 (by decide) q780 rfl rfl dX0_isCounter_4 ?_
  refine lv_iconst (v := 1) hx hb dX0_isCounter_7 (by decide) ?_
  refine lv_isub hx hb dX0_isCounter_8 ?_
  refine lv_i2l hx hb dX0_isCounter_9 rfl ?_
  obtain ⟨v_1, h, hf⟩ := ec_bi hf
  refine e_cS (v := .int v_1) (As := [.long (x1.toInt64), .long (0 : Int64), .long (((S.1 12) - (1 : Int32)).toInt64)]) (rest := []) X (metX0_isIn l (x1.toInt64) (0 : Int64) (((S.1 12) - (1 : Int32)).toInt64) _ h) (va_cwS 3 X.2.2.2.2 gX0_21 rfl rfl rfl hX0_isIn (rm_le (Nat.le_of_ble_eq_true rfl) (Nat.le_of_ble_eq_true rfl))) rfl hl.1 rfl (Nat.le_of_ble_eq_true rfl) ⟨Nat.zero_le _, Nat.zero_le _⟩ dX0_isCounter_10 ?_
  obtain ⟨hn, h2⟩ := ec_rz_i hf
  subst h2
  exact e_zretR hx hb hr hlk hn dX0_isCounter_13
theorem hX0_isCounter : yX0_isCounter.cls = RX0 ∧ yX0_isCounter.cls ≠ "java/lang/invoke/MethodHandle" ∧ yX0_isCounter.cls ≠ "java/lang/invoke/VarHandle" ∧ (parseMethodDescriptor yX0_isCounter.desc).map (fun d => d.parameters.length) = some 1 := by decide +kernel

theorem gX0_195 : GoodIn lw_all (wsV RX0 195 RX0 yX0_isCounter (ws_ yX0_isCounter cX0_isCounter 2 (some .boolean))) := lw_V q580 q582 qs16 q60 q583
noncomputable def fX0_mask_15 (S : sX) : Option (Int32 × sX) :=
  some ((-1 : Int32), S)
theorem bX0_mask_15 (X : CallFix p m c cX0_mask 4 s args lw_all RX0) (hr : meth.sig.returnType = (some .int)) (hlk : meth.locks = false) {res : Int32} {Sr : sX} : ∀ (S : sX) (H : Heap) (locs : List Loc) (ls : Array Slot), fX0_mask_15 S = some (res, Sr) → XW D dA o q S A s H locs → lv_has ls 4 [(0, .ref o)] → W p l e (rmL 2) s m args below meth c H locs 0 0 (MQ below (XPost D dA o q A (some (.int res)) Sr) args s 0 0 A) (F0 m 15 ls []) := by
  have hx := X.1
  have hb := X.2.1
  intro S H locs ls hf hM hl
  unfold fX0_mask_15 at hf
  refine lv_iconst (v := -1) hx hb dX0_mask_15 (by decide) ?_
  obtain ⟨rfl, rfl⟩ := Prod.mk.inj (Option.some.inj hf)
  exact x_iret X hr hlk hM dX0_mask_16
noncomputable def fX0_mask (S : sX) (x1 : Int32) (x2 : Int32) : Option (Int32 × sX) :=
  (fX0_isCounter S x1).bind fun v_1 =>
  if v_1 = 0 then (
    fX0_mask_15 S)
  else (
    (fX0_isSet x2).bind fun v_2 =>
    if ¬ v_2 = 0 then (
      (hAr 7 S.2.2.2 (S.2.2.1 13) x1).bind fun v_3 =>
      (hI 1 S.2.2.2 v_3 0).bind fun v_4 =>
      (hAr 7 S.2.2.2 (S.2.2.1 13) x1).bind fun v_5 =>
      (hPut 1 S.2.2.2 v_5 0 (.int x2)).bind fun h_6 =>
      ec_lt (xH S h_6) fun S_7 =>
      some (v_4, S_7))
    else (
      fX0_mask_15 S))
theorem metX0_mask (l : Launch) (D : va_G) (dA : Nat → ClassId) (o : Nat) (q : Nat → Nat) (S : sX) (x1 : Int32) (x2 : Int32) (res : Int32) (Sr : sX) (hf : fX0_mask S x1 x2 = some (res, Sr)) : Met l yX0_mask (ws_ yX0_mask cX0_mask 4 (some .int)) (rmL 2) (XPre D dA o q S [.int x1, .int x2]) (XPost D dA o q (XA o q S.2.2.2) (some (.int res)) Sr) 0 0 (XA o q S.2.2.2) := by
  refine x_ofW rfl (Nat.le_of_ble_eq_true rfl) (fun A p e s m args below meth c X hr hlk hM ls hl => ?_)
  have hl : lv_has ls 4 [(0, .ref o), (1, .int x1), (2, .int x2)] := hl
  have hx := X.1
  have hb := X.2.1
  unfold fX0_mask at hf
  refine lv_aload_n hx hb dX0_mask_0 rfl (lv_at hl 0 rfl) ?_
  refine lv_iload_n hx hb dX0_mask_1 rfl (lv_at hl 1 rfl) ?_
  obtain ⟨v_1, h, hf⟩ := ec_bi hf
  refine x_cR (v := .int v_1) (As := [.int x1]) (rest := []) X hM (metX0_isCounter l D dA o q S x1 _ h) (cwV 1 X.2.2.2.2 gX0_195 rfl rfl rfl hX0_isCounter (rm_le (Nat.le_of_ble_eq_true rfl) (Nat.le_of_ble_eq_true rfl))) rfl hl.1 rfl (Nat.le_of_ble_eq_true rfl) ⟨Nat.zero_le _, Nat.zero_le _⟩ dX0_mask_2 ?_
  refine lv_if_eq (tgt := 15) hx hb dX0_mask_5 rfl (fun cnd => ?_) (fun cnd => ?_)
  · have hf := ec_t cnd hf
    exact bX0_mask_15 X hr hlk  S _ _ _ hf hM (lv_sub hl [0] rfl)
  · have hf := ec_f cnd hf
    refine lv_iload_n hx hb dX0_mask_8 rfl (lv_at hl 2 rfl) ?_
    obtain ⟨v_2, h, hf⟩ := ec_bi hf
    refine e_cS (v := .int v_2) (As := [.int x2]) (rest := []) X (metX0_isSet l x2 _ h) (va_cwS 1 X.2.2.2.2 gX0_198 rfl rfl rfl hX0_isSet (rm_le (Nat.le_of_ble_eq_true rfl) (Nat.le_of_ble_eq_true rfl))) rfl hl.1 rfl (Nat.le_of_ble_eq_true rfl) ⟨Nat.zero_le _, Nat.zero_le _⟩ dX0_mask_9 ?_
    refine lv_if_ne (tgt := 17) hx hb dX0_mask_12 rfl (fun cnd => ?_) (fun cnd => ?_)
    · have hf := ec_t cnd hf
      refine lv_aload_n hx hb dX0_mask_17 rfl (lv_at hl 0 rfl) ?_
      refine x_get (v := .ref (S.2.2.1 13)) X hM 13 (by decide) q781 rfl rfl dX0_mask_18 ?_
      refine lv_iload_n hx hb dX0_mask_21 rfl (lv_at hl 1 rfl) ?_
      obtain ⟨v_3, h, hf⟩ := ec_bi hf
      refine h_aald (t := 7) X hM rfl rfl h dX0_mask_22 ?_
      obtain ⟨v_4, h, hf⟩ := ec_bi hf
      refine h_getvN (v := .int v_4) (C := RX1) (T := TX1) (N := 2) (ci := 1) (k := 0) (host := "EventCounters") X hM in_X1 rfl (by decide) (xn_at hM.2.1 34 rfl) rfl (hI_i h) dX0_mask_23 ?_
      refine lv_istore_n (lv' := [(3, .int v_4), (0, .ref o), (1, .int x1), (2, .int x2)]) hx hb dX0_mask_26 rfl hl (by decide) rfl (fun ls hl => ?_)
      refine lv_aload_n hx hb dX0_mask_27 rfl (lv_at hl 1 rfl) ?_
      refine x_get (v := .ref (S.2.2.1 13)) X hM 13 (by decide) q781 rfl rfl dX0_mask_28 ?_
      refine lv_iload_n hx hb dX0_mask_31 rfl (lv_at hl 2 rfl) ?_
      obtain ⟨v_5, h, hf⟩ := ec_bi hf
      refine h_aald (t := 7) X hM rfl rfl h dX0_mask_32 ?_
      refine lv_iload_n hx hb dX0_mask_33 rfl (lv_at hl 3 rfl) ?_
      obtain ⟨h_6, h, hf⟩ := ec_bi hf
      refine h_putN (C := RX1) (T := TX1) (N := 2) (ci := 1) (k := 0) (ty := .int) (host := "EventCounters") tyX1 tyX1_ok nmX1 X hM in_X1 rfl (by decide) (xn_at hM.2.1 34 rfl) rfl rfl (by decide +kernel) rfl rfl h dX0_mask_34 (fun H locs hM => ?_)
      obtain ⟨S_7, eS, hM⟩ := x_nm hM
      have hf := ec_lt_i eS hf
      refine lv_iload_n hx hb dX0_mask_37 rfl (lv_at hl 0 rfl) ?_
      obtain ⟨rfl, rfl⟩ := Prod.mk.inj (Option.some.inj hf)
      exact x_iret X hr hlk hM dX0_mask_38
    · have hf := ec_f (not_not_intro cnd) hf
      exact bX0_mask_15 X hr hlk  S _ _ _ hf hM (lv_sub hl [0] rfl)
theorem hX0_mask : yX0_mask.cls = RX0 ∧ yX0_mask.cls ≠ "java/lang/invoke/MethodHandle" ∧ yX0_mask.cls ≠ "java/lang/invoke/VarHandle" ∧ (parseMethodDescriptor yX0_mask.desc).map (fun d => d.parameters.length) = some 2 := by decide +kernel

noncomputable def fX0_width_22 (S : sX) : Option (Int32 × sX) :=
  some ((-1 : Int32), S)
theorem bX0_width_22 (X : CallFix p m c cX0_width 4 s args lw_all RX0) (hr : meth.sig.returnType = (some .int)) (hlk : meth.locks = false) {res : Int32} {Sr : sX} : ∀ (S : sX) (H : Heap) (locs : List Loc) (ls : Array Slot), fX0_width_22 S = some (res, Sr) → XW D dA o q S A s H locs → lv_has ls 4 [(0, .ref o)] → W p l e (rmL 2) s m args below meth c H locs 0 0 (MQ below (XPost D dA o q A (some (.int res)) Sr) args s 0 0 A) (F0 m 22 ls []) := by
  have hx := X.1
  have hb := X.2.1
  intro S H locs ls hf hM hl
  unfold fX0_width_22 at hf
  refine lv_iconst (v := -1) hx hb dX0_width_22 (by decide) ?_
  obtain ⟨rfl, rfl⟩ := Prod.mk.inj (Option.some.inj hf)
  exact x_iret X hr hlk hM dX0_width_23
noncomputable def fX0_width (S : sX) (x1 : Int32) (x2 : Int32) : Option (Int32 × sX) :=
  (fX0_isCounter S x1).bind fun v_1 =>
  if v_1 = 0 then (
    fX0_width_22 S)
  else (
    (fX0_isIn (x2.toInt64) (2 : Int64) (16 : Int64)).bind fun v_2 =>
    if ¬ v_2 = 0 then (
      (hAr 7 S.2.2.2 (S.2.2.1 13) x1).bind fun v_3 =>
      (hI 1 S.2.2.2 v_3 1).bind fun v_4 =>
      (hAr 7 S.2.2.2 (S.2.2.1 13) x1).bind fun v_5 =>
      (hPut 1 S.2.2.2 v_5 1 (.int x2)).bind fun h_6 =>
      ec_lt (xH S h_6) fun S_7 =>
      some (v_4, S_7))
    else (
      fX0_width_22 S))
theorem metX0_width (l : Launch) (D : va_G) (dA : Nat → ClassId) (o : Nat) (q : Nat → Nat) (S : sX) (x1 : Int32) (x2 : Int32) (res : Int32) (Sr : sX) (hf : fX0_width S x1 x2 = some (res, Sr)) : Met l yX0_width (ws_ yX0_width cX0_width 4 (some .int)) (rmL 2) (XPre D dA o q S [.int x1, .int x2]) (XPost D dA o q (XA o q S.2.2.2) (some (.int res)) Sr) 0 0 (XA o q S.2.2.2) := by
  refine x_ofW rfl (Nat.le_of_ble_eq_true rfl) (fun A p e s m args below meth c X hr hlk hM ls hl => ?_)
  have hl : lv_has ls 4 [(0, .ref o), (1, .int x1), (2, .int x2)] := hl
  have hx := X.1
  have hb := X.2.1
  unfold fX0_width at hf
  refine lv_aload_n hx hb dX0_width_0 rfl (lv_at hl 0 rfl) ?_
  refine lv_iload_n hx hb dX0_width_1 rfl (lv_at hl 1 rfl) ?_
  obtain ⟨v_1, h, hf⟩ := ec_bi hf
  refine x_cR (v := .int v_1) (As := [.int x1]) (rest := []) X hM (metX0_isCounter l D dA o q S x1 _ h) (cwV 1 X.2.2.2.2 gX0_195 rfl rfl rfl hX0_isCounter (rm_le (Nat.le_of_ble_eq_true rfl) (Nat.le_of_ble_eq_true rfl))) rfl hl.1 rfl (Nat.le_of_ble_eq_true rfl) ⟨Nat.zero_le _, Nat.zero_le _⟩ dX0_width_2 ?_
  refine lv_if_eq (tgt := 22) hx hb dX0_width_5 rfl (fun cnd => ?_) (fun cnd => ?_)
  · have hf := ec_t cnd hf
    exact bX0_width_22 X hr hlk  S _ _ _ hf hM (lv_sub hl [0] rfl)
  · have hf := ec_f cnd hf
    refine lv_iload_n hx hb dX0_width_8 rfl (lv_at hl 2 rfl) ?_
    refine lv_i2l hx hb dX0_width_9 rfl ?_
    refine lv_ldc2 (own := RX0) (v := 2) hx hb X.2.2.2.1 (X.2.2.2.2 _ q592) dX0_width_10 ?_
    refine lv_ldc2 (own := RX0) (v := 16) hx hb X.2.2.2.1 (X.2.2.2.2 _ q593) dX0_width_13 ?_
    obtain ⟨v_2, h, hf⟩ := ec_bi hf
    refine e_cS (v := .int v_2) (As := [.long (x2.toInt64), .long (2 : Int64), .long (16 : Int64)]) (rest := []) X (metX0_isIn l (x2.toInt64) (2 : Int64) (16 : Int64) _ h) (va_cwS 3 X.2.2.2.2 gX0_21 rfl rfl rfl hX0_isIn (rm_le (Nat.le_of_ble_eq_true rfl) (Nat.le_of_ble_eq_true rfl))) rfl hl.1 rfl (Nat.le_of_ble_eq_true rfl) ⟨Nat.zero_le _, Nat.zero_le _⟩ dX0_width_16 ?_
    refine lv_if_ne (tgt := 24) hx hb dX0_width_19 rfl (fun cnd => ?_) (fun cnd => ?_)
    · have hf := ec_t cnd hf
      refine lv_aload_n hx hb dX0_width_24 rfl (lv_at hl 0 rfl) ?_
      refine x_get (v := .ref (S.2.2.1 13)) X hM 13 (by decide) q781 rfl rfl dX0_width_25 ?_
      refine lv_iload_n hx hb dX0_width_28 rfl (lv_at hl 1 rfl) ?_
      obtain ⟨v_3, h, hf⟩ := ec_bi hf
      refine h_aald (t := 7) X hM rfl rfl h dX0_width_29 ?_
      obtain ⟨v_4, h, hf⟩ := ec_bi hf
      refine h_getvN (v := .int v_4) (C := RX1) (T := TX1) (N := 2) (ci := 1) (k := 1) (host := "EventCounters") X hM in_X1 rfl (by decide) (xn_at hM.2.1 35 rfl) rfl (hI_i h) dX0_width_30 ?_
      refine lv_istore_n (lv' := [(3, .int v_4), (0, .ref o), (1, .int x1), (2, .int x2)]) hx hb dX0_width_33 rfl hl (by decide) rfl (fun ls hl => ?_)
      refine lv_aload_n hx hb dX0_width_34 rfl (lv_at hl 1 rfl) ?_
      refine x_get (v := .ref (S.2.2.1 13)) X hM 13 (by decide) q781 rfl rfl dX0_width_35 ?_
      refine lv_iload_n hx hb dX0_width_38 rfl (lv_at hl 2 rfl) ?_
      obtain ⟨v_5, h, hf⟩ := ec_bi hf
      refine h_aald (t := 7) X hM rfl rfl h dX0_width_39 ?_
      refine lv_iload_n hx hb dX0_width_40 rfl (lv_at hl 3 rfl) ?_
      obtain ⟨h_6, h, hf⟩ := ec_bi hf
      refine h_putN (C := RX1) (T := TX1) (N := 2) (ci := 1) (k := 1) (ty := .int) (host := "EventCounters") tyX1 tyX1_ok nmX1 X hM in_X1 rfl (by decide) (xn_at hM.2.1 35 rfl) rfl rfl (by decide +kernel) rfl rfl h dX0_width_41 (fun H locs hM => ?_)
      obtain ⟨S_7, eS, hM⟩ := x_nm hM
      have hf := ec_lt_i eS hf
      refine lv_iload_n hx hb dX0_width_44 rfl (lv_at hl 0 rfl) ?_
      obtain ⟨rfl, rfl⟩ := Prod.mk.inj (Option.some.inj hf)
      exact x_iret X hr hlk hM dX0_width_45
    · have hf := ec_f (not_not_intro cnd) hf
      exact bX0_width_22 X hr hlk  S _ _ _ hf hM (lv_sub hl [0] rfl)
theorem hX0_width : yX0_width.cls = RX0 ∧ yX0_width.cls ≠ "java/lang/invoke/MethodHandle" ∧ yX0_width.cls ≠ "java/lang/invoke/VarHandle" ∧ (parseMethodDescriptor yX0_width.desc).map (fun d => d.parameters.length) = some 2 := by decide +kernel

theorem gX0_205 : GoodIn lw_all (va_wsS RX0 205 yJ9_numberOfTrailingZeros (ws_ yJ9_numberOfTrailingZeros cJ9_numberOfTrailingZeros 2 (some .int))) := lw_S q606 q607 q80 q608
theorem gX0_208 : GoodIn lw_all (wsV RX0 208 RX1 yX1_canCount (ws_ yX1_canCount cX1_canCount 2 (some .boolean))) := lw_V q610 q611 q612 q61 q613
theorem gX0_211 : GoodIn lw_all (wsV RX0 211 RX0 yX0_canGo (ws_ yX0_canGo cX0_canGo 6 (some .boolean))) := lw_V q602 q604 qs18 q60 q605
theorem hX0_canGo : yX0_canGo.cls = RX0 ∧ yX0_canGo.cls ≠ "java/lang/invoke/MethodHandle" ∧ yX0_canGo.cls ≠ "java/lang/invoke/VarHandle" ∧ (parseMethodDescriptor yX0_canGo.desc).map (fun d => d.parameters.length) = some 2 := by decide +kernel
noncomputable def fX0_canGo_80 (N : Nat) (S : sX) (self : Int32 → Int32 → Option Int32) (k17 : Int32 → Int32 → Int32 → Int32 → Int32 → Option Int32) (x1 : Int32) (x2 : Int32) (x3 : Int32) (x5 : Int32) (t0 : Int32) : Option Int32 :=
  ec_lt (x5 + (1 : Int32)) fun x5_2 =>
  k17 x1 x2 x3 t0 x5_2
theorem bX0_canGo_80 {N : Nat} (X : CallFix p m c cX0_canGo 6 s args lw_all RX0) (hr : meth.sig.returnType = (some .boolean)) (hlk : meth.locks = false) {S : sX} (hM : XW D dA o q S A s s.heap []) {dep : Nat} {self : Int32 → Int32 → Option Int32} (Hself : ∀ (x1 : Int32) (x2 : Int32) (r : Int32), self x1 x2 = some r → Met l yX0_canGo (ws_ yX0_canGo cX0_canGo 6 (some .boolean)) (rmL dep) (XPre D dA o q S [.int x1, .int x2]) (k2_QcV (.int r)) 0 0 (fun _ => False)) {res : Int32} {k17 : Int32 → Int32 → Int32 → Int32 → Int32 → Option Int32} (Hk17 : ∀ (x1 : Int32) (x2 : Int32) (x3 : Int32) (x4 : Int32) (x5 : Int32) (ls : Array Slot), k17 x1 x2 x3 x4 x5 = some res → lv_has ls 6 [(0, .ref o), (1, .int x1), (2, .int x2), (3, .int x3), (4, .int x4), (5, .int x5)] → W p l e (rmL (dep + 1)) s m args below meth c s.heap [] 0 0 (MQ below (k2_QcV (.int res)) args s 0 0 (fun _ => False)) (F0 m 17 ls [])) : ∀ (x1 : Int32) (x2 : Int32) (x3 : Int32) (x5 : Int32) (t0 : Int32) (ls : Array Slot), fX0_canGo_80 N S self k17 x1 x2 x3 x5 t0 = some res → lv_has ls 6 [(0, .ref o), (1, .int x1), (2, .int x2), (3, .int x3), (5, .int x5)] → W p l e (rmL (dep + 1)) s m args below meth c s.heap [] 0 0 (MQ below (k2_QcV (.int res)) args s 0 0 (fun _ => False)) (F0 m 80 ls [.int t0]) := by
  have hx := X.1
  have hb := X.2.1
  intro x1 x2 x3 x5 t0 ls hf hl
  unfold fX0_canGo_80 at hf
  refine lv_istore (lv' := [(4, .int t0), (0, .ref o), (1, .int x1), (2, .int x2), (3, .int x3), (5, .int x5)]) hx hb dX0_canGo_80 hl (by decide) rfl (fun ls hl => ?_)
  refine e_inc (w := 1) (f := fun v => [(5, .int v), (4, .int t0), (0, .ref o), (1, .int x1), (2, .int x2), (3, .int x3)]) hx hb dX0_canGo_82 hl (k := 5) rfl (by decide) (by decide) (fun _ => rfl) (fun x5_2 ex ls hl => ?_)
  have hf := ec_lt_i ex hf
  refine lv_goto (tgt := 17) hx hb dX0_canGo_85 rfl ?_
  exact Hk17 x1 x2 x3 t0 x5_2 _ hf (lv_sub hl [2, 3, 4, 5, 1, 0] rfl)
noncomputable def fX0_canGo_79 (N : Nat) (S : sX) (self : Int32 → Int32 → Option Int32) (k17 : Int32 → Int32 → Int32 → Int32 → Int32 → Option Int32) (x1 : Int32) (x2 : Int32) (x3 : Int32) (x5 : Int32) : Option Int32 :=
  fX0_canGo_80 N S self k17 x1 x2 x3 x5 (0 : Int32)
theorem bX0_canGo_79 {N : Nat} (X : CallFix p m c cX0_canGo 6 s args lw_all RX0) (hr : meth.sig.returnType = (some .boolean)) (hlk : meth.locks = false) {S : sX} (hM : XW D dA o q S A s s.heap []) {dep : Nat} {self : Int32 → Int32 → Option Int32} (Hself : ∀ (x1 : Int32) (x2 : Int32) (r : Int32), self x1 x2 = some r → Met l yX0_canGo (ws_ yX0_canGo cX0_canGo 6 (some .boolean)) (rmL dep) (XPre D dA o q S [.int x1, .int x2]) (k2_QcV (.int r)) 0 0 (fun _ => False)) {res : Int32} {k17 : Int32 → Int32 → Int32 → Int32 → Int32 → Option Int32} (Hk17 : ∀ (x1 : Int32) (x2 : Int32) (x3 : Int32) (x4 : Int32) (x5 : Int32) (ls : Array Slot), k17 x1 x2 x3 x4 x5 = some res → lv_has ls 6 [(0, .ref o), (1, .int x1), (2, .int x2), (3, .int x3), (4, .int x4), (5, .int x5)] → W p l e (rmL (dep + 1)) s m args below meth c s.heap [] 0 0 (MQ below (k2_QcV (.int res)) args s 0 0 (fun _ => False)) (F0 m 17 ls [])) : ∀ (x1 : Int32) (x2 : Int32) (x3 : Int32) (x5 : Int32) (ls : Array Slot), fX0_canGo_79 N S self k17 x1 x2 x3 x5 = some res → lv_has ls 6 [(0, .ref o), (1, .int x1), (2, .int x2), (3, .int x3), (5, .int x5)] → W p l e (rmL (dep + 1)) s m args below meth c s.heap [] 0 0 (MQ below (k2_QcV (.int res)) args s 0 0 (fun _ => False)) (F0 m 79 ls []) := by
  have hx := X.1
  have hb := X.2.1
  intro x1 x2 x3 x5 ls hf hl
  unfold fX0_canGo_79 at hf
  refine lv_iconst (v := 0) hx hb dX0_canGo_79 (by decide) ?_
  exact bX0_canGo_80 X hr hlk hM Hself Hk17 x1 x2 x3 x5 (0 : Int32) _ hf hl
noncomputable def fX0_canGo_17 (N : Nat) (S : sX) (self : Int32 → Int32 → Option Int32) (kx88 : Int32 → Option Int32) : Nat → Int32 → Int32 → Int32 → Int32 → Int32 → Option Int32
  | 0, _, _, _, _, _ => none
  | n + 1, x1, x2, x3, x4, x5 =>
    if (S.1 12) ≤ x5 then (
      kx88 x4)
    else (
      if ¬ x4 = 0 then (
        kx88 x4)
      else (
        if ¬ ((x2 >>> (x5 &&& 31)) &&& (1 : Int32)) = (1 : Int32) then (
          fX0_canGo_79 N S self (fX0_canGo_17 N S self kx88 n) x1 x2 x3 x5)
        else (
          (hAr 7 S.2.2.2 (S.2.2.1 13) x5).bind fun v_3 =>
          (hObj 1 S.2.2.2 v_3).bind fun w_4 =>
          (fX1_canCount S.2.2.2 v_3 x3).bind fun v_5 =>
          if v_5 = 0 then (
            fX0_canGo_79 N S self (fX0_canGo_17 N S self kx88 n) x1 x2 x3 x5)
          else (
            (self (x1 &&& (x1 - (1 : Int32))) (x2 &&& (((1 : Int32) <<< (x5 &&& 31)) ^^^ (-1 : Int32)))).bind fun v_6 =>
            if v_6 = 0 then (
              fX0_canGo_79 N S self (fX0_canGo_17 N S self kx88 n) x1 x2 x3 x5)
            else (
              fX0_canGo_80 N S self (fX0_canGo_17 N S self kx88 n) x1 x2 x3 x5 (1 : Int32))))))
theorem bX0_canGo_17 {N : Nat} (X : CallFix p m c cX0_canGo 6 s args lw_all RX0) (hr : meth.sig.returnType = (some .boolean)) (hlk : meth.locks = false) {S : sX} (hM : XW D dA o q S A s s.heap []) {dep : Nat} {self : Int32 → Int32 → Option Int32} (Hself : ∀ (x1 : Int32) (x2 : Int32) (r : Int32), self x1 x2 = some r → Met l yX0_canGo (ws_ yX0_canGo cX0_canGo 6 (some .boolean)) (rmL dep) (XPre D dA o q S [.int x1, .int x2]) (k2_QcV (.int r)) 0 0 (fun _ => False)) {res : Int32} {kx88 : Int32 → Option Int32} (Hkx88 : ∀ (x4 : Int32) (ls : Array Slot), kx88 x4 = some res → lv_has ls 6 [(0, .ref o), (4, .int x4)] → W p l e (rmL (dep + 1)) s m args below meth c s.heap [] 0 0 (MQ below (k2_QcV (.int res)) args s 0 0 (fun _ => False)) (F0 m 88 ls [])) : ∀ (n : Nat) (x1 : Int32) (x2 : Int32) (x3 : Int32) (x4 : Int32) (x5 : Int32) (ls : Array Slot), fX0_canGo_17 N S self kx88 n x1 x2 x3 x4 x5 = some res → lv_has ls 6 [(0, .ref o), (1, .int x1), (2, .int x2), (3, .int x3), (4, .int x4), (5, .int x5)] → W p l e (rmL (dep + 1)) s m args below meth c s.heap [] 0 0 (MQ below (k2_QcV (.int res)) args s 0 0 (fun _ => False)) (F0 m 17 ls []) := by
  have hx := X.1
  have hb := X.2.1
  intro n
  induction n with
  | zero =>
    intro x1 x2 x3 x4 x5 ls hf hl
    rw [fX0_canGo_17] at hf
    cases hf
  | succ n ih =>
    intro x1 x2 x3 x4 x5 ls hf hl
    rw [fX0_canGo_17] at hf
    refine lv_iload hx hb dX0_canGo_17 (lv_at hl 5 rfl) ?_
    refine lv_aload_n hx hb dX0_canGo_19 rfl (lv_at hl 0 rfl) ?_
    refine x_get (v := .int (S.1 12)) X hM 12 (by decide) q780 rfl rfl dX0_canGo_20 ?_
    refine lv_icmp_ge (tgt := 88) hx hb dX0_canGo_23 rfl (fun cnd => ?_) (fun cnd => ?_)
    · have hf := ec_t cnd hf
      exact Hkx88 x4 _ hf (lv_sub hl [0, 4] rfl)
    · have hf := ec_f cnd hf
      refine lv_iload hx hb dX0_canGo_26 (lv_at hl 4 rfl) ?_
      refine lv_if_ne (tgt := 88) hx hb dX0_canGo_28 rfl (fun cnd => ?_) (fun cnd => ?_)
      · have hf := ec_t cnd hf
        exact Hkx88 x4 _ hf (lv_sub hl [0, 4] rfl)
      · have hf := ec_f (not_not_intro cnd) hf
        refine lv_iload_n hx hb dX0_canGo_31 rfl (lv_at hl 2 rfl) ?_
        refine lv_iload hx hb dX0_canGo_32 (lv_at hl 5 rfl) ?_
        refine lv_ishr hx hb dX0_canGo_34 ?_
        refine lv_iconst (v := 1) hx hb dX0_canGo_35 (by decide) ?_
        refine lv_iand hx hb dX0_canGo_36 ?_
        refine lv_iconst (v := 1) hx hb dX0_canGo_37 (by decide) ?_
        refine lv_icmp_ne (tgt := 79) hx hb dX0_canGo_38 rfl (fun cnd => ?_) (fun cnd => ?_)
        · have hf := ec_t cnd hf
          exact bX0_canGo_79 X hr hlk hM Hself ih x1 x2 x3 x5 _ hf (lv_sub hl [0, 1, 2, 3, 5] rfl)
        · have hf := ec_f (not_not_intro cnd) hf
          refine lv_aload_n hx hb dX0_canGo_41 rfl (lv_at hl 0 rfl) ?_
          refine x_get (v := .ref (S.2.2.1 13)) X hM 13 (by decide) q781 rfl rfl dX0_canGo_42 ?_
          refine lv_iload hx hb dX0_canGo_45 (lv_at hl 5 rfl) ?_
          obtain ⟨v_3, h, hf⟩ := ec_bi hf
          refine h_aald (t := 7) X hM rfl rfl h dX0_canGo_47 ?_
          refine lv_iload_n hx hb dX0_canGo_48 rfl (lv_at hl 3 rfl) ?_
          obtain ⟨w_4, ho, hf⟩ := ec_bi hf
          obtain ⟨v_5, h, hf⟩ := ec_bi hf
          refine h_cR (C := RX1) (T := TX1) (N := 2) (v := .int v_5) (As := [.int x3]) (rest := []) X hM rfl ho (metX1_canCount l D dA S.2.2.2 v_3 x3 _ h) (cwV 1 X.2.2.2.2 gX0_208 rfl rfl rfl hX1_canCount (rm_le (by omega) (Nat.le_of_ble_eq_true rfl))) rfl hl.1 rfl (Nat.le_of_ble_eq_true rfl) ⟨Nat.zero_le _, Nat.zero_le _⟩ dX0_canGo_49 ?_
          refine lv_if_eq (tgt := 79) hx hb dX0_canGo_52 rfl (fun cnd => ?_) (fun cnd => ?_)
          · have hf := ec_t cnd hf
            exact bX0_canGo_79 X hr hlk hM Hself ih x1 x2 x3 x5 _ hf (lv_sub hl [0, 1, 2, 3, 5] rfl)
          · have hf := ec_f cnd hf
            refine lv_aload_n hx hb dX0_canGo_55 rfl (lv_at hl 0 rfl) ?_
            refine lv_iload_n hx hb dX0_canGo_56 rfl (lv_at hl 1 rfl) ?_
            refine lv_iload_n hx hb dX0_canGo_57 rfl (lv_at hl 1 rfl) ?_
            refine lv_iconst (v := 1) hx hb dX0_canGo_58 (by decide) ?_
            refine lv_isub hx hb dX0_canGo_59 ?_
            refine lv_iand hx hb dX0_canGo_60 ?_
            refine lv_iload_n hx hb dX0_canGo_61 rfl (lv_at hl 2 rfl) ?_
            refine lv_iconst (v := 1) hx hb dX0_canGo_62 (by decide) ?_
            refine lv_iload hx hb dX0_canGo_63 (lv_at hl 5 rfl) ?_
            refine lv_ishl hx hb dX0_canGo_65 ?_
            refine lv_iconst (v := -1) hx hb dX0_canGo_66 (by decide) ?_
            refine lv_ixor hx hb dX0_canGo_67 ?_
            refine lv_iand hx hb dX0_canGo_68 ?_
            obtain ⟨v_6, h, hf⟩ := ec_bi hf
            refine x_cR (v := .int v_6) (As := [.int (x1 &&& (x1 - (1 : Int32))), .int (x2 &&& (((1 : Int32) <<< (x5 &&& 31)) ^^^ (-1 : Int32)))]) (rest := []) X hM (Hself (x1 &&& (x1 - (1 : Int32))) (x2 &&& (((1 : Int32) <<< (x5 &&& 31)) ^^^ (-1 : Int32))) _ h) (cwV 2 X.2.2.2.2 gX0_211 rfl rfl rfl hX0_canGo (rm_le (by omega) (Nat.le_of_ble_eq_true rfl))) rfl hl.1 rfl (Nat.le_of_ble_eq_true rfl) ⟨Nat.zero_le _, Nat.zero_le _⟩ dX0_canGo_69 ?_
            refine lv_if_eq (tgt := 79) hx hb dX0_canGo_72 rfl (fun cnd => ?_) (fun cnd => ?_)
            · have hf := ec_t cnd hf
              exact bX0_canGo_79 X hr hlk hM Hself ih x1 x2 x3 x5 _ hf (lv_sub hl [0, 1, 2, 3, 5] rfl)
            · have hf := ec_f cnd hf
              refine lv_iconst (v := 1) hx hb dX0_canGo_75 (by decide) ?_
              refine lv_goto (tgt := 80) hx hb dX0_canGo_76 rfl ?_
              exact bX0_canGo_80 X hr hlk hM Hself ih x1 x2 x3 x5 (1 : Int32) _ hf (lv_sub hl [0, 1, 2, 3, 5] rfl)
noncomputable def fX0_canGo_88 (N : Nat) (S : sX) (self : Int32 → Int32 → Option Int32) (x4 : Int32) : Option Int32 :=
  ec_rz x4
theorem bX0_canGo_88 {N : Nat} (X : CallFix p m c cX0_canGo 6 s args lw_all RX0) (hr : meth.sig.returnType = (some .boolean)) (hlk : meth.locks = false) {S : sX} (hM : XW D dA o q S A s s.heap []) {dep : Nat} {self : Int32 → Int32 → Option Int32} (Hself : ∀ (x1 : Int32) (x2 : Int32) (r : Int32), self x1 x2 = some r → Met l yX0_canGo (ws_ yX0_canGo cX0_canGo 6 (some .boolean)) (rmL dep) (XPre D dA o q S [.int x1, .int x2]) (k2_QcV (.int r)) 0 0 (fun _ => False)) {res : Int32} : ∀ (x4 : Int32) (ls : Array Slot), fX0_canGo_88 N S self x4 = some res → lv_has ls 6 [(0, .ref o), (4, .int x4)] → W p l e (rmL (dep + 1)) s m args below meth c s.heap [] 0 0 (MQ below (k2_QcV (.int res)) args s 0 0 (fun _ => False)) (F0 m 88 ls []) := by
  have hx := X.1
  have hb := X.2.1
  intro x4 ls hf hl
  unfold fX0_canGo_88 at hf
  refine lv_iload hx hb dX0_canGo_88 (lv_at hl 1 rfl) ?_
  obtain ⟨hn, h2⟩ := ec_rz_i hf
  subst h2
  exact e_zretR hx hb hr hlk hn dX0_canGo_90
noncomputable def fX0_canGo (N : Nat) (S : sX) : Nat → Int32 → Int32 → Option Int32
  | 0, _, _ => none
  | dep + 1, x1, x2 =>
    if ¬ x1 = 0 then (
      (fJ9_numberOfTrailingZeros x1).bind fun v_1 =>
      fX0_canGo_17 N S (fX0_canGo N S dep) (fun x4_7 =>
        fX0_canGo_88 N S (fX0_canGo N S dep) x4_7) N x1 x2 v_1 (0 : Int32) (0 : Int32))
    else (
      some (1 : Int32))
theorem metX0_canGo (l : Launch) (D : va_G) (dA : Nat → ClassId) (o : Nat) (q : Nat → Nat) (N : Nat) (S : sX) : ∀ (dep : Nat) (x1 : Int32) (x2 : Int32) (res : Int32), fX0_canGo N S dep x1 x2 = some res → Met l yX0_canGo (ws_ yX0_canGo cX0_canGo 6 (some .boolean)) (rmL dep) (XPre D dA o q S [.int x1, .int x2]) (k2_QcV (.int res)) 0 0 (fun _ => False) := by
  intro dep
  induction dep with
  | zero =>
    intro x1 x2 res hf
    rw [fX0_canGo] at hf
    cases hf
  | succ dep Hself =>
    intro x1 x2 res hf
    rw [fX0_canGo] at hf
    refine x_ofR rfl (Nat.le_of_ble_eq_true rfl) (fun p e s m args below meth c X hr hlk hM ls hl => ?_)
    have hl : lv_has ls 6 [(0, .ref o), (1, .int x1), (2, .int x2)] := hl
    have hx := X.1
    have hb := X.2.1
    refine lv_iload_n hx hb dX0_canGo_0 rfl (lv_at hl 1 rfl) ?_
    refine lv_if_ne (tgt := 6) hx hb dX0_canGo_1 rfl (fun cnd => ?_) (fun cnd => ?_)
    · have hf := ec_t cnd hf
      refine lv_iload_n hx hb dX0_canGo_6 rfl (lv_at hl 1 rfl) ?_
      obtain ⟨v_1, h, hf⟩ := ec_bi hf
      refine e_cS (v := .int v_1) (As := [.int x1]) (rest := []) X (metJ9_numberOfTrailingZeros l x1 _ h) (va_cwS 1 X.2.2.2.2 gX0_205 rfl rfl rfl hJ9_numberOfTrailingZeros (rm_le (by omega) (Nat.le_of_ble_eq_true rfl))) rfl hl.1 rfl (Nat.le_of_ble_eq_true rfl) ⟨Nat.zero_le _, Nat.zero_le _⟩ dX0_canGo_7 ?_
      refine lv_istore_n (lv' := [(3, .int v_1), (0, .ref o), (1, .int x1), (2, .int x2)]) hx hb dX0_canGo_10 rfl hl (by decide) rfl (fun ls hl => ?_)
      refine lv_iconst (v := 0) hx hb dX0_canGo_11 (by decide) ?_
      refine lv_istore (lv' := [(4, .int (0 : Int32)), (3, .int v_1), (0, .ref o), (1, .int x1), (2, .int x2)]) hx hb dX0_canGo_12 hl (by decide) rfl (fun ls hl => ?_)
      refine lv_iconst (v := 0) hx hb dX0_canGo_14 (by decide) ?_
      refine lv_istore (lv' := [(5, .int (0 : Int32)), (4, .int (0 : Int32)), (3, .int v_1), (0, .ref o), (1, .int x1), (2, .int x2)]) hx hb dX0_canGo_15 hl (by decide) rfl (fun ls hl => ?_)
      exact bX0_canGo_17 X hr hlk hM Hself (fun x4_7 ls hf hl => by
        exact bX0_canGo_88 X hr hlk hM Hself x4_7 _ hf hl) N x1 x2 v_1 (0 : Int32) (0 : Int32) _ hf (lv_sub hl [3, 4, 5, 2, 1, 0] rfl)
    · have hf := ec_f (not_not_intro cnd) hf
      refine lv_iconst (v := 1) hx hb dX0_canGo_4 (by decide) ?_
      obtain rfl := Option.some.inj hf
      exact e_zretR hx hb hr hlk rfl dX0_canGo_5

noncomputable def fX0_goTogether_31 (N : Nat) (S : sX) : Option Int32 :=
  some (0 : Int32)
theorem bX0_goTogether_31 {N : Nat} (X : CallFix p m c cX0_goTogether 2 s args lw_all RX0) (hr : meth.sig.returnType = (some .boolean)) (hlk : meth.locks = false) {S : sX} (hM : XW D dA o q S A s s.heap []) {res : Int32} : ∀ (ls : Array Slot), fX0_goTogether_31 N S = some res → lv_has ls 2 [(0, .ref o)] → W p l e (rmL 11) s m args below meth c s.heap [] 0 0 (MQ below (k2_QcV (.int res)) args s 0 0 (fun _ => False)) (F0 m 31 ls []) := by
  have hx := X.1
  have hb := X.2.1
  intro ls hf hl
  unfold fX0_goTogether_31 at hf
  refine lv_iconst (v := 0) hx hb dX0_goTogether_31 (by decide) ?_
  obtain rfl := Option.some.inj hf
  exact e_zretR hx hb hr hlk rfl dX0_goTogether_32
noncomputable def fX0_goTogether (N : Nat) (S : sX) (x1 : Int32) : Option Int32 :=
  (fJ9_bitCount x1).bind fun v_1 =>
  if (S.1 12) < v_1 then (
    fX0_goTogether_31 N S)
  else (
    (fX0_canGo N S 10 x1 (((1 : Int32) <<< ((S.1 12) &&& 31)) - (1 : Int32))).bind fun v_2 =>
    if v_2 = 0 then (
      fX0_goTogether_31 N S)
    else (
      some (1 : Int32)))
theorem metX0_goTogether (l : Launch) (D : va_G) (dA : Nat → ClassId) (o : Nat) (q : Nat → Nat) (N : Nat) (S : sX) (x1 : Int32) (res : Int32) (hf : fX0_goTogether N S x1 = some res) : Met l yX0_goTogether (ws_ yX0_goTogether cX0_goTogether 2 (some .boolean)) (rmL 11) (XPre D dA o q S [.int x1]) (k2_QcV (.int res)) 0 0 (fun _ => False) := by
  refine x_ofR rfl (Nat.le_of_ble_eq_true rfl) (fun p e s m args below meth c X hr hlk hM ls hl => ?_)
  have hl : lv_has ls 2 [(0, .ref o), (1, .int x1)] := hl
  have hx := X.1
  have hb := X.2.1
  unfold fX0_goTogether at hf
  refine lv_iload_n hx hb dX0_goTogether_0 rfl (lv_at hl 1 rfl) ?_
  obtain ⟨v_1, h, hf⟩ := ec_bi hf
  refine e_cS (v := .int v_1) (As := [.int x1]) (rest := []) X (metJ9_bitCount l x1 _ h) (va_cwS 1 X.2.2.2.2 gX0_158 rfl rfl rfl hJ9_bitCount (rm_le (Nat.le_of_ble_eq_true rfl) (Nat.le_of_ble_eq_true rfl))) rfl hl.1 rfl (Nat.le_of_ble_eq_true rfl) ⟨Nat.zero_le _, Nat.zero_le _⟩ dX0_goTogether_1 ?_
  refine lv_aload_n hx hb dX0_goTogether_4 rfl (lv_at hl 0 rfl) ?_
  refine x_get (v := .int (S.1 12)) X hM 12 (by decide) q780 rfl rfl dX0_goTogether_5 ?_
  refine lv_icmp_gt (tgt := 31) hx hb dX0_goTogether_8 rfl (fun cnd => ?_) (fun cnd => ?_)
  · have hf := ec_t cnd hf
    exact bX0_goTogether_31 X hr hlk hM _ hf (lv_sub hl [0] rfl)
  · have hf := ec_f cnd hf
    refine lv_aload_n hx hb dX0_goTogether_11 rfl (lv_at hl 0 rfl) ?_
    refine lv_iload_n hx hb dX0_goTogether_12 rfl (lv_at hl 1 rfl) ?_
    refine lv_iconst (v := 1) hx hb dX0_goTogether_13 (by decide) ?_
    refine lv_aload_n hx hb dX0_goTogether_14 rfl (lv_at hl 0 rfl) ?_
    refine x_get (v := .int (S.1 12)) X hM 12 (by decide) q780 rfl rfl dX0_goTogether_15 ?_
    refine lv_ishl hx hb dX0_goTogether_18 ?_
    refine lv_iconst (v := 1) hx hb dX0_goTogether_19 (by decide) ?_
    refine lv_isub hx hb dX0_goTogether_20 ?_
    obtain ⟨v_2, h, hf⟩ := ec_bi hf
    refine x_cR (v := .int v_2) (As := [.int x1, .int (((1 : Int32) <<< ((S.1 12) &&& 31)) - (1 : Int32))]) (rest := []) X hM (metX0_canGo l D dA o q N S 10 x1 (((1 : Int32) <<< ((S.1 12) &&& 31)) - (1 : Int32)) _ h) (cwV 2 X.2.2.2.2 gX0_211 rfl rfl rfl hX0_canGo (rm_le (Nat.le_of_ble_eq_true rfl) (Nat.le_of_ble_eq_true rfl))) rfl hl.1 rfl (Nat.le_of_ble_eq_true rfl) ⟨Nat.zero_le _, Nat.zero_le _⟩ dX0_goTogether_21 ?_
    refine lv_if_eq (tgt := 31) hx hb dX0_goTogether_24 rfl (fun cnd => ?_) (fun cnd => ?_)
    · have hf := ec_t cnd hf
      exact bX0_goTogether_31 X hr hlk hM _ hf (lv_sub hl [0] rfl)
    · have hf := ec_f cnd hf
      refine lv_iconst (v := 1) hx hb dX0_goTogether_27 (by decide) ?_
      refine lv_goto (tgt := 32) hx hb dX0_goTogether_28 rfl ?_
      obtain rfl := Option.some.inj hf
      exact e_zretR hx hb hr hlk rfl dX0_goTogether_32
theorem hX0_goTogether : yX0_goTogether.cls = RX0 ∧ yX0_goTogether.cls ≠ "java/lang/invoke/MethodHandle" ∧ yX0_goTogether.cls ≠ "java/lang/invoke/VarHandle" ∧ (parseMethodDescriptor yX0_goTogether.desc).map (fun d => d.parameters.length) = some 1 := by decide +kernel

theorem gX0_215 : GoodIn lw_all (wsV RX0 215 RX0 yX0_goTogether (ws_ yX0_goTogether cX0_goTogether 2 (some .boolean))) := lw_V q598 q600 qs17 q60 q601
noncomputable def fX0_together (N : Nat) (S : sX) (x1 : Int32) : Option Int32 :=
  (fX0_isSet x1).bind fun v_1 =>
  if v_1 = 0 then (
    some (-1 : Int32))
  else (
    (fX0_goTogether N S x1).bind fun v_2 =>
    if v_2 = 0 then (
      some (0 : Int32))
    else (
      some (1 : Int32)))
theorem metX0_together (l : Launch) (D : va_G) (dA : Nat → ClassId) (o : Nat) (q : Nat → Nat) (N : Nat) (S : sX) (x1 : Int32) (res : Int32) (hf : fX0_together N S x1 = some res) : Met l yX0_together (ws_ yX0_together cX0_together 2 (some .int)) (rmL 12) (XPre D dA o q S [.int x1]) (k2_QcV (.int res)) 0 0 (fun _ => False) := by
  refine x_ofR rfl (Nat.le_of_ble_eq_true rfl) (fun p e s m args below meth c X hr hlk hM ls hl => ?_)
  have hl : lv_has ls 2 [(0, .ref o), (1, .int x1)] := hl
  have hx := X.1
  have hb := X.2.1
  unfold fX0_together at hf
  refine lv_iload_n hx hb dX0_together_0 rfl (lv_at hl 1 rfl) ?_
  obtain ⟨v_1, h, hf⟩ := ec_bi hf
  refine e_cS (v := .int v_1) (As := [.int x1]) (rest := []) X (metX0_isSet l x1 _ h) (va_cwS 1 X.2.2.2.2 gX0_198 rfl rfl rfl hX0_isSet (rm_le (Nat.le_of_ble_eq_true rfl) (Nat.le_of_ble_eq_true rfl))) rfl hl.1 rfl (Nat.le_of_ble_eq_true rfl) ⟨Nat.zero_le _, Nat.zero_le _⟩ dX0_together_1 ?_
  refine lv_if_eq (tgt := 23) hx hb dX0_together_4 rfl (fun cnd => ?_) (fun cnd => ?_)
  · have hf := ec_t cnd hf
    refine lv_iconst (v := -1) hx hb dX0_together_23 (by decide) ?_
    obtain rfl := Option.some.inj hf
    exact e_iretR hx hb hr hlk dX0_together_24
  · have hf := ec_f cnd hf
    refine lv_aload_n hx hb dX0_together_7 rfl (lv_at hl 0 rfl) ?_
    refine lv_iload_n hx hb dX0_together_8 rfl (lv_at hl 1 rfl) ?_
    obtain ⟨v_2, h, hf⟩ := ec_bi hf
    refine x_cR (v := .int v_2) (As := [.int x1]) (rest := []) X hM (metX0_goTogether l D dA o q N S x1 _ h) (cwV 1 X.2.2.2.2 gX0_215 rfl rfl rfl hX0_goTogether (rm_le (Nat.le_of_ble_eq_true rfl) (Nat.le_of_ble_eq_true rfl))) rfl hl.1 rfl (Nat.le_of_ble_eq_true rfl) ⟨Nat.zero_le _, Nat.zero_le _⟩ dX0_together_9 ?_
    refine lv_if_eq (tgt := 19) hx hb dX0_together_12 rfl (fun cnd => ?_) (fun cnd => ?_)
    · have hf := ec_t cnd hf
      refine lv_iconst (v := 0) hx hb dX0_together_19 (by decide) ?_
      refine lv_goto (tgt := 24) hx hb dX0_together_20 rfl ?_
      obtain rfl := Option.some.inj hf
      exact e_iretR hx hb hr hlk dX0_together_24
    · have hf := ec_f cnd hf
      refine lv_iconst (v := 1) hx hb dX0_together_15 (by decide) ?_
      refine lv_goto (tgt := 24) hx hb dX0_together_16 rfl ?_
      obtain rfl := Option.some.inj hf
      exact e_iretR hx hb hr hlk dX0_together_24
theorem hX0_together : yX0_together.cls = RX0 ∧ yX0_together.cls ≠ "java/lang/invoke/MethodHandle" ∧ yX0_together.cls ≠ "java/lang/invoke/VarHandle" ∧ (parseMethodDescriptor yX0_together.desc).map (fun d => d.parameters.length) = some 1 := by decide +kernel

noncomputable def fX0_goes_22 (N : Nat) (S : sX) : Option Int32 :=
  some (-1 : Int32)
theorem bX0_goes_22 {N : Nat} (X : CallFix p m c cX0_goes 7 s args lw_all RX0) (hr : meth.sig.returnType = (some .int)) (hlk : meth.locks = false) {S : sX} (hM : XW D dA o q S A s s.heap []) {res : Int32} : ∀ (ls : Array Slot), fX0_goes_22 N S = some res → lv_has ls 7 [(0, .ref o)] → W p l e (rmL 12) s m args below meth c s.heap [] 0 0 (MQ below (k2_QcV (.int res)) args s 0 0 (fun _ => False)) (F0 m 22 ls []) := by
  have hx := X.1
  have hb := X.2.1
  intro ls hf hl
  unfold fX0_goes_22 at hf
  refine lv_iconst (v := -1) hx hb dX0_goes_22 (by decide) ?_
  obtain rfl := Option.some.inj hf
  exact e_iretR hx hb hr hlk dX0_goes_23
noncomputable def fX0_goes_140 (N : Nat) (S : sX) (k54 : Int32 → Int32 → Int32 → Int32 → Int32 → Int32 → Option Int32) (x1 : Int32) (x2 : Int32) (x3 : Int32) (x4 : Int32) (x5 : Int32) (x6 : Int32) : Option Int32 :=
  ec_lt (x6 + (1 : Int32)) fun x6_5 =>
  k54 x1 x2 x3 x4 x5 x6_5
theorem bX0_goes_140 {N : Nat} (X : CallFix p m c cX0_goes 7 s args lw_all RX0) (hr : meth.sig.returnType = (some .int)) (hlk : meth.locks = false) {S : sX} (hM : XW D dA o q S A s s.heap []) {res : Int32} {k54 : Int32 → Int32 → Int32 → Int32 → Int32 → Int32 → Option Int32} (Hk54 : ∀ (x1 : Int32) (x2 : Int32) (x3 : Int32) (x4 : Int32) (x5 : Int32) (x6 : Int32) (ls : Array Slot), k54 x1 x2 x3 x4 x5 x6 = some res → lv_has ls 7 [(0, .ref o), (1, .int x1), (2, .int x2), (3, .int x3), (4, .int x4), (5, .int x5), (6, .int x6)] → W p l e (rmL 12) s m args below meth c s.heap [] 0 0 (MQ below (k2_QcV (.int res)) args s 0 0 (fun _ => False)) (F0 m 54 ls [])) : ∀ (x1 : Int32) (x2 : Int32) (x3 : Int32) (x4 : Int32) (x5 : Int32) (x6 : Int32) (ls : Array Slot), fX0_goes_140 N S k54 x1 x2 x3 x4 x5 x6 = some res → lv_has ls 7 [(0, .ref o), (1, .int x1), (2, .int x2), (3, .int x3), (4, .int x4), (5, .int x5), (6, .int x6)] → W p l e (rmL 12) s m args below meth c s.heap [] 0 0 (MQ below (k2_QcV (.int res)) args s 0 0 (fun _ => False)) (F0 m 140 ls []) := by
  have hx := X.1
  have hb := X.2.1
  intro x1 x2 x3 x4 x5 x6 ls hf hl
  unfold fX0_goes_140 at hf
  refine e_inc (w := 1) (f := fun v => [(6, .int v), (0, .ref o), (1, .int x1), (2, .int x2), (3, .int x3), (4, .int x4), (5, .int x5)]) hx hb dX0_goes_140 hl (k := 6) rfl (by decide) (by decide) (fun _ => rfl) (fun x6_5 ex ls hl => ?_)
  have hf := ec_lt_i ex hf
  refine lv_goto (tgt := 54) hx hb dX0_goes_143 rfl ?_
  exact Hk54 x1 x2 x3 x4 x5 x6_5 _ hf (lv_sub hl [1, 2, 3, 4, 5, 6, 0] rfl)
noncomputable def fX0_goes_125 (N : Nat) (S : sX) (k84 : Int32 → Int32 → Int32 → Int32 → Int32 → Int32 → Option Int32) (x1 : Int32) (x2 : Int32) (x3 : Int32) (x4 : Int32) (x5 : Int32) (x6 : Int32) : Option Int32 :=
  ec_lt (x5 + (1 : Int32)) fun x5_7 =>
  k84 x1 x2 x3 x4 x5_7 x6
theorem bX0_goes_125 {N : Nat} (X : CallFix p m c cX0_goes 7 s args lw_all RX0) (hr : meth.sig.returnType = (some .int)) (hlk : meth.locks = false) {S : sX} (hM : XW D dA o q S A s s.heap []) {res : Int32} {k84 : Int32 → Int32 → Int32 → Int32 → Int32 → Int32 → Option Int32} (Hk84 : ∀ (x1 : Int32) (x2 : Int32) (x3 : Int32) (x4 : Int32) (x5 : Int32) (x6 : Int32) (ls : Array Slot), k84 x1 x2 x3 x4 x5 x6 = some res → lv_has ls 7 [(0, .ref o), (1, .int x1), (2, .int x2), (3, .int x3), (4, .int x4), (5, .int x5), (6, .int x6)] → W p l e (rmL 12) s m args below meth c s.heap [] 0 0 (MQ below (k2_QcV (.int res)) args s 0 0 (fun _ => False)) (F0 m 84 ls [])) : ∀ (x1 : Int32) (x2 : Int32) (x3 : Int32) (x4 : Int32) (x5 : Int32) (x6 : Int32) (ls : Array Slot), fX0_goes_125 N S k84 x1 x2 x3 x4 x5 x6 = some res → lv_has ls 7 [(0, .ref o), (1, .int x1), (2, .int x2), (3, .int x3), (4, .int x4), (5, .int x5), (6, .int x6)] → W p l e (rmL 12) s m args below meth c s.heap [] 0 0 (MQ below (k2_QcV (.int res)) args s 0 0 (fun _ => False)) (F0 m 125 ls []) := by
  have hx := X.1
  have hb := X.2.1
  intro x1 x2 x3 x4 x5 x6 ls hf hl
  unfold fX0_goes_125 at hf
  refine e_inc (w := 1) (f := fun v => [(5, .int v), (0, .ref o), (1, .int x1), (2, .int x2), (3, .int x3), (4, .int x4), (6, .int x6)]) hx hb dX0_goes_125 hl (k := 5) rfl (by decide) (by decide) (fun _ => rfl) (fun x5_7 ex ls hl => ?_)
  have hf := ec_lt_i ex hf
  refine lv_goto (tgt := 84) hx hb dX0_goes_128 rfl ?_
  exact Hk84 x1 x2 x3 x4 x5_7 x6 _ hf (lv_sub hl [1, 2, 3, 4, 5, 0, 6] rfl)
noncomputable def fX0_goes_84 (N : Nat) (S : sX) (kx131 : Int32 → Int32 → Int32 → Int32 → Int32 → Int32 → Option Int32) : Nat → Int32 → Int32 → Int32 → Int32 → Int32 → Int32 → Option Int32
  | 0, _, _, _, _, _, _ => none
  | n + 1, x1, x2, x3, x4, x5, x6 =>
    if ((x3 >>> (x5 &&& 31)) &&& (1 : Int32)) = 0 then (
      fX0_goes_125 N S (fX0_goes_84 N S kx131 n) x1 x2 x3 x4 x5 x6)
    else (
      (hAr 7 S.2.2.2 (S.2.2.1 13) x5).bind fun v_8 =>
      (hObj 1 S.2.2.2 v_8).bind fun w_9 =>
      (fX1_canCount S.2.2.2 v_8 x6).bind fun v_10 =>
      if v_10 = 0 then (
        fX0_goes_125 N S (fX0_goes_84 N S kx131 n) x1 x2 x3 x4 x5 x6)
      else (
        (fX0_canGo N S 10 x4 (x3 &&& (((1 : Int32) <<< (x5 &&& 31)) ^^^ (-1 : Int32)))).bind fun v_11 =>
        if ¬ v_11 = 0 then (
          kx131 x1 x2 x3 x4 x5 x6)
        else (
          fX0_goes_125 N S (fX0_goes_84 N S kx131 n) x1 x2 x3 x4 x5 x6)))
theorem bX0_goes_84 {N : Nat} (X : CallFix p m c cX0_goes 7 s args lw_all RX0) (hr : meth.sig.returnType = (some .int)) (hlk : meth.locks = false) {S : sX} (hM : XW D dA o q S A s s.heap []) {res : Int32} {kx131 : Int32 → Int32 → Int32 → Int32 → Int32 → Int32 → Option Int32} (Hkx131 : ∀ (x1 : Int32) (x2 : Int32) (x3 : Int32) (x4 : Int32) (x5 : Int32) (x6 : Int32) (ls : Array Slot), kx131 x1 x2 x3 x4 x5 x6 = some res → lv_has ls 7 [(0, .ref o), (1, .int x1), (2, .int x2), (3, .int x3), (4, .int x4), (5, .int x5), (6, .int x6)] → W p l e (rmL 12) s m args below meth c s.heap [] 0 0 (MQ below (k2_QcV (.int res)) args s 0 0 (fun _ => False)) (F0 m 131 ls [])) : ∀ (n : Nat) (x1 : Int32) (x2 : Int32) (x3 : Int32) (x4 : Int32) (x5 : Int32) (x6 : Int32) (ls : Array Slot), fX0_goes_84 N S kx131 n x1 x2 x3 x4 x5 x6 = some res → lv_has ls 7 [(0, .ref o), (1, .int x1), (2, .int x2), (3, .int x3), (4, .int x4), (5, .int x5), (6, .int x6)] → W p l e (rmL 12) s m args below meth c s.heap [] 0 0 (MQ below (k2_QcV (.int res)) args s 0 0 (fun _ => False)) (F0 m 84 ls []) := by
  have hx := X.1
  have hb := X.2.1
  intro n
  induction n with
  | zero =>
    intro x1 x2 x3 x4 x5 x6 ls hf hl
    rw [fX0_goes_84] at hf
    cases hf
  | succ n ih =>
    intro x1 x2 x3 x4 x5 x6 ls hf hl
    rw [fX0_goes_84] at hf
    refine lv_iload_n hx hb dX0_goes_84 rfl (lv_at hl 3 rfl) ?_
    refine lv_iload hx hb dX0_goes_85 (lv_at hl 5 rfl) ?_
    refine lv_ishr hx hb dX0_goes_87 ?_
    refine lv_iconst (v := 1) hx hb dX0_goes_88 (by decide) ?_
    refine lv_iand hx hb dX0_goes_89 ?_
    refine lv_if_eq (tgt := 125) hx hb dX0_goes_90 rfl (fun cnd => ?_) (fun cnd => ?_)
    · have hf := ec_t cnd hf
      exact bX0_goes_125 X hr hlk hM ih x1 x2 x3 x4 x5 x6 _ hf hl
    · have hf := ec_f cnd hf
      refine lv_aload_n hx hb dX0_goes_93 rfl (lv_at hl 0 rfl) ?_
      refine x_get (v := .ref (S.2.2.1 13)) X hM 13 (by decide) q781 rfl rfl dX0_goes_94 ?_
      refine lv_iload hx hb dX0_goes_97 (lv_at hl 5 rfl) ?_
      obtain ⟨v_8, h, hf⟩ := ec_bi hf
      refine h_aald (t := 7) X hM rfl rfl h dX0_goes_99 ?_
      refine lv_iload hx hb dX0_goes_100 (lv_at hl 6 rfl) ?_
      obtain ⟨w_9, ho, hf⟩ := ec_bi hf
      obtain ⟨v_10, h, hf⟩ := ec_bi hf
      refine h_cR (C := RX1) (T := TX1) (N := 2) (v := .int v_10) (As := [.int x6]) (rest := []) X hM rfl ho (metX1_canCount l D dA S.2.2.2 v_8 x6 _ h) (cwV 1 X.2.2.2.2 gX0_208 rfl rfl rfl hX1_canCount (rm_le (Nat.le_of_ble_eq_true rfl) (Nat.le_of_ble_eq_true rfl))) rfl hl.1 rfl (Nat.le_of_ble_eq_true rfl) ⟨Nat.zero_le _, Nat.zero_le _⟩ dX0_goes_102 ?_
      refine lv_if_eq (tgt := 125) hx hb dX0_goes_105 rfl (fun cnd => ?_) (fun cnd => ?_)
      · have hf := ec_t cnd hf
        exact bX0_goes_125 X hr hlk hM ih x1 x2 x3 x4 x5 x6 _ hf hl
      · have hf := ec_f cnd hf
        refine lv_aload_n hx hb dX0_goes_108 rfl (lv_at hl 0 rfl) ?_
        refine lv_iload hx hb dX0_goes_109 (lv_at hl 4 rfl) ?_
        refine lv_iload_n hx hb dX0_goes_111 rfl (lv_at hl 3 rfl) ?_
        refine lv_iconst (v := 1) hx hb dX0_goes_112 (by decide) ?_
        refine lv_iload hx hb dX0_goes_113 (lv_at hl 5 rfl) ?_
        refine lv_ishl hx hb dX0_goes_115 ?_
        refine lv_iconst (v := -1) hx hb dX0_goes_116 (by decide) ?_
        refine lv_ixor hx hb dX0_goes_117 ?_
        refine lv_iand hx hb dX0_goes_118 ?_
        obtain ⟨v_11, h, hf⟩ := ec_bi hf
        refine x_cR (v := .int v_11) (As := [.int x4, .int (x3 &&& (((1 : Int32) <<< (x5 &&& 31)) ^^^ (-1 : Int32)))]) (rest := []) X hM (metX0_canGo l D dA o q N S 10 x4 (x3 &&& (((1 : Int32) <<< (x5 &&& 31)) ^^^ (-1 : Int32))) _ h) (cwV 2 X.2.2.2.2 gX0_211 rfl rfl rfl hX0_canGo (rm_le (Nat.le_of_ble_eq_true rfl) (Nat.le_of_ble_eq_true rfl))) rfl hl.1 rfl (Nat.le_of_ble_eq_true rfl) ⟨Nat.zero_le _, Nat.zero_le _⟩ dX0_goes_119 ?_
        refine lv_if_ne (tgt := 131) hx hb dX0_goes_122 rfl (fun cnd => ?_) (fun cnd => ?_)
        · have hf := ec_t cnd hf
          exact Hkx131 x1 x2 x3 x4 x5 x6 _ hf hl
        · have hf := ec_f (not_not_intro cnd) hf
          exact bX0_goes_125 X hr hlk hM ih x1 x2 x3 x4 x5 x6 _ hf hl
noncomputable def fX0_goes_54 (N : Nat) (S : sX) (kx146 : Int32 → Option Int32) : Nat → Int32 → Int32 → Int32 → Int32 → Int32 → Int32 → Option Int32
  | 0, _, _, _, _, _, _ => none
  | n + 1, x1, x2, x3, x4, x5, x6 =>
    if x2 < x6 then (
      kx146 x5)
    else (
      if ¬ ((x1 >>> (x6 &&& 31)) &&& (1 : Int32)) = (1 : Int32) then (
        fX0_goes_140 N S (fX0_goes_54 N S kx146 n) x1 x2 x3 x4 x5 x6)
      else (
        ec_lt (x4 &&& (((1 : Int32) <<< (x6 &&& 31)) ^^^ (-1 : Int32))) fun x4_6 =>
        fX0_goes_84 N S (fun x1_12 x2_13 x3_14 x4_15 x5_16 x6_17 =>
          ec_lt (x3_14 &&& (((1 : Int32) <<< (x5_16 &&& 31)) ^^^ (-1 : Int32))) fun x3_18 =>
          fX0_goes_140 N S (fX0_goes_54 N S kx146 n) x1_12 x2_13 x3_18 x4_15 x5_16 x6_17) N x1 x2 x3 x4_6 (0 : Int32) x6))
theorem bX0_goes_54 {N : Nat} (X : CallFix p m c cX0_goes 7 s args lw_all RX0) (hr : meth.sig.returnType = (some .int)) (hlk : meth.locks = false) {S : sX} (hM : XW D dA o q S A s s.heap []) {res : Int32} {kx146 : Int32 → Option Int32} (Hkx146 : ∀ (x5 : Int32) (ls : Array Slot), kx146 x5 = some res → lv_has ls 7 [(0, .ref o), (5, .int x5)] → W p l e (rmL 12) s m args below meth c s.heap [] 0 0 (MQ below (k2_QcV (.int res)) args s 0 0 (fun _ => False)) (F0 m 146 ls [])) : ∀ (n : Nat) (x1 : Int32) (x2 : Int32) (x3 : Int32) (x4 : Int32) (x5 : Int32) (x6 : Int32) (ls : Array Slot), fX0_goes_54 N S kx146 n x1 x2 x3 x4 x5 x6 = some res → lv_has ls 7 [(0, .ref o), (1, .int x1), (2, .int x2), (3, .int x3), (4, .int x4), (5, .int x5), (6, .int x6)] → W p l e (rmL 12) s m args below meth c s.heap [] 0 0 (MQ below (k2_QcV (.int res)) args s 0 0 (fun _ => False)) (F0 m 54 ls []) := by
  have hx := X.1
  have hb := X.2.1
  intro n
  induction n with
  | zero =>
    intro x1 x2 x3 x4 x5 x6 ls hf hl
    rw [fX0_goes_54] at hf
    cases hf
  | succ n ih =>
    intro x1 x2 x3 x4 x5 x6 ls hf hl
    rw [fX0_goes_54] at hf
    refine lv_iload hx hb dX0_goes_54 (lv_at hl 6 rfl) ?_
    refine lv_iload_n hx hb dX0_goes_56 rfl (lv_at hl 2 rfl) ?_
    refine lv_icmp_gt (tgt := 146) hx hb dX0_goes_57 rfl (fun cnd => ?_) (fun cnd => ?_)
    · have hf := ec_t cnd hf
      exact Hkx146 x5 _ hf (lv_sub hl [0, 5] rfl)
    · have hf := ec_f cnd hf
      refine lv_iload_n hx hb dX0_goes_60 rfl (lv_at hl 1 rfl) ?_
      refine lv_iload hx hb dX0_goes_61 (lv_at hl 6 rfl) ?_
      refine lv_ishr hx hb dX0_goes_63 ?_
      refine lv_iconst (v := 1) hx hb dX0_goes_64 (by decide) ?_
      refine lv_iand hx hb dX0_goes_65 ?_
      refine lv_iconst (v := 1) hx hb dX0_goes_66 (by decide) ?_
      refine lv_icmp_ne (tgt := 140) hx hb dX0_goes_67 rfl (fun cnd => ?_) (fun cnd => ?_)
      · have hf := ec_t cnd hf
        exact bX0_goes_140 X hr hlk hM ih x1 x2 x3 x4 x5 x6 _ hf hl
      · have hf := ec_f (not_not_intro cnd) hf
        refine lv_iload hx hb dX0_goes_70 (lv_at hl 4 rfl) ?_
        refine lv_iconst (v := 1) hx hb dX0_goes_72 (by decide) ?_
        refine lv_iload hx hb dX0_goes_73 (lv_at hl 6 rfl) ?_
        refine lv_ishl hx hb dX0_goes_75 ?_
        refine lv_iconst (v := -1) hx hb dX0_goes_76 (by decide) ?_
        refine lv_ixor hx hb dX0_goes_77 ?_
        refine lv_iand hx hb dX0_goes_78 ?_
        refine lv_topi (fun x4_6 ex => ?_)
        have hf := ec_lt_i ex hf
        refine lv_istore (lv' := [(4, .int x4_6), (0, .ref o), (1, .int x1), (2, .int x2), (3, .int x3), (5, .int x5), (6, .int x6)]) hx hb dX0_goes_79 hl (by decide) rfl (fun ls hl => ?_)
        refine lv_iconst (v := 0) hx hb dX0_goes_81 (by decide) ?_
        refine lv_istore (lv' := [(5, .int (0 : Int32)), (4, .int x4_6), (0, .ref o), (1, .int x1), (2, .int x2), (3, .int x3), (6, .int x6)]) hx hb dX0_goes_82 hl (by decide) rfl (fun ls hl => ?_)
        exact bX0_goes_84 X hr hlk hM (fun x1_12 x2_13 x3_14 x4_15 x5_16 x6_17 ls hf hl => by
          refine lv_iload_n hx hb dX0_goes_131 rfl (lv_at hl 3 rfl) ?_
          refine lv_iconst (v := 1) hx hb dX0_goes_132 (by decide) ?_
          refine lv_iload hx hb dX0_goes_133 (lv_at hl 5 rfl) ?_
          refine lv_ishl hx hb dX0_goes_135 ?_
          refine lv_iconst (v := -1) hx hb dX0_goes_136 (by decide) ?_
          refine lv_ixor hx hb dX0_goes_137 ?_
          refine lv_iand hx hb dX0_goes_138 ?_
          refine lv_topi (fun x3_18 ex => ?_)
          have hf := ec_lt_i ex hf
          refine lv_istore_n (lv' := [(3, .int x3_18), (0, .ref o), (1, .int x1_12), (2, .int x2_13), (4, .int x4_15), (5, .int x5_16), (6, .int x6_17)]) hx hb dX0_goes_139 rfl hl (by decide) rfl (fun ls hl => ?_)
          exact bX0_goes_140 X hr hlk hM ih x1_12 x2_13 x3_18 x4_15 x5_16 x6_17 _ hf (lv_sub hl [1, 2, 3, 0, 4, 5, 6] rfl)) N x1 x2 x3 x4_6 (0 : Int32) x6 _ hf (lv_sub hl [2, 3, 4, 5, 1, 0, 6] rfl)
noncomputable def fX0_goes (N : Nat) (S : sX) (x1 : Int32) (x2 : Int32) : Option Int32 :=
  (fX0_isSet x1).bind fun v_1 =>
  if v_1 = 0 then (
    fX0_goes_22 N S)
  else (
    (fX0_isEvent x2).bind fun v_2 =>
    if v_2 = 0 then (
      fX0_goes_22 N S)
    else (
      if ¬ ((x1 >>> (x2 &&& 31)) &&& (1 : Int32)) = 0 then (
        (fX0_goTogether N S x1).bind fun v_3 =>
        if ¬ v_3 = 0 then (
          ec_lt (((1 : Int32) <<< ((S.1 12) &&& 31)) - (1 : Int32)) fun x3_4 =>
          fX0_goes_54 N S (fun x5_19 =>
            some x5_19) N x1 x2 x3_4 x1 (-4 : Int32) (0 : Int32))
        else (
          some (-4 : Int32)))
      else (
        fX0_goes_22 N S)))
theorem metX0_goes (l : Launch) (D : va_G) (dA : Nat → ClassId) (o : Nat) (q : Nat → Nat) (N : Nat) (S : sX) (x1 : Int32) (x2 : Int32) (res : Int32) (hf : fX0_goes N S x1 x2 = some res) : Met l yX0_goes (ws_ yX0_goes cX0_goes 7 (some .int)) (rmL 12) (XPre D dA o q S [.int x1, .int x2]) (k2_QcV (.int res)) 0 0 (fun _ => False) := by
  refine x_ofR rfl (Nat.le_of_ble_eq_true rfl) (fun p e s m args below meth c X hr hlk hM ls hl => ?_)
  have hl : lv_has ls 7 [(0, .ref o), (1, .int x1), (2, .int x2)] := hl
  have hx := X.1
  have hb := X.2.1
  unfold fX0_goes at hf
  refine lv_iload_n hx hb dX0_goes_0 rfl (lv_at hl 1 rfl) ?_
  obtain ⟨v_1, h, hf⟩ := ec_bi hf
  refine e_cS (v := .int v_1) (As := [.int x1]) (rest := []) X (metX0_isSet l x1 _ h) (va_cwS 1 X.2.2.2.2 gX0_198 rfl rfl rfl hX0_isSet (rm_le (Nat.le_of_ble_eq_true rfl) (Nat.le_of_ble_eq_true rfl))) rfl hl.1 rfl (Nat.le_of_ble_eq_true rfl) ⟨Nat.zero_le _, Nat.zero_le _⟩ dX0_goes_1 ?_
  refine lv_if_eq (tgt := 22) hx hb dX0_goes_4 rfl (fun cnd => ?_) (fun cnd => ?_)
  · have hf := ec_t cnd hf
    exact bX0_goes_22 X hr hlk hM _ hf (lv_sub hl [0] rfl)
  · have hf := ec_f cnd hf
    refine lv_iload_n hx hb dX0_goes_7 rfl (lv_at hl 2 rfl) ?_
    obtain ⟨v_2, h, hf⟩ := ec_bi hf
    refine e_cS (v := .int v_2) (As := [.int x2]) (rest := []) X (metX0_isEvent l x2 _ h) (va_cwS 1 X.2.2.2.2 gX0_125 rfl rfl rfl hX0_isEvent (rm_le (Nat.le_of_ble_eq_true rfl) (Nat.le_of_ble_eq_true rfl))) rfl hl.1 rfl (Nat.le_of_ble_eq_true rfl) ⟨Nat.zero_le _, Nat.zero_le _⟩ dX0_goes_8 ?_
    refine lv_if_eq (tgt := 22) hx hb dX0_goes_11 rfl (fun cnd => ?_) (fun cnd => ?_)
    · have hf := ec_t cnd hf
      exact bX0_goes_22 X hr hlk hM _ hf (lv_sub hl [0] rfl)
    · have hf := ec_f cnd hf
      refine lv_iload_n hx hb dX0_goes_14 rfl (lv_at hl 1 rfl) ?_
      refine lv_iload_n hx hb dX0_goes_15 rfl (lv_at hl 2 rfl) ?_
      refine lv_ishr hx hb dX0_goes_16 ?_
      refine lv_iconst (v := 1) hx hb dX0_goes_17 (by decide) ?_
      refine lv_iand hx hb dX0_goes_18 ?_
      refine lv_if_ne (tgt := 24) hx hb dX0_goes_19 rfl (fun cnd => ?_) (fun cnd => ?_)
      · have hf := ec_t cnd hf
        refine lv_aload_n hx hb dX0_goes_24 rfl (lv_at hl 0 rfl) ?_
        refine lv_iload_n hx hb dX0_goes_25 rfl (lv_at hl 1 rfl) ?_
        obtain ⟨v_3, h, hf⟩ := ec_bi hf
        refine x_cR (v := .int v_3) (As := [.int x1]) (rest := []) X hM (metX0_goTogether l D dA o q N S x1 _ h) (cwV 1 X.2.2.2.2 gX0_215 rfl rfl rfl hX0_goTogether (rm_le (Nat.le_of_ble_eq_true rfl) (Nat.le_of_ble_eq_true rfl))) rfl hl.1 rfl (Nat.le_of_ble_eq_true rfl) ⟨Nat.zero_le _, Nat.zero_le _⟩ dX0_goes_26 ?_
        refine lv_if_ne (tgt := 35) hx hb dX0_goes_29 rfl (fun cnd => ?_) (fun cnd => ?_)
        · have hf := ec_t cnd hf
          refine lv_iconst (v := 1) hx hb dX0_goes_35 (by decide) ?_
          refine lv_aload_n hx hb dX0_goes_36 rfl (lv_at hl 0 rfl) ?_
          refine x_get (v := .int (S.1 12)) X hM 12 (by decide) q780 rfl rfl dX0_goes_37 ?_
          refine lv_ishl hx hb dX0_goes_40 ?_
          refine lv_iconst (v := 1) hx hb dX0_goes_41 (by decide) ?_
          refine lv_isub hx hb dX0_goes_42 ?_
          refine lv_topi (fun x3_4 ex => ?_)
          have hf := ec_lt_i ex hf
          refine lv_istore_n (lv' := [(3, .int x3_4), (0, .ref o), (1, .int x1), (2, .int x2)]) hx hb dX0_goes_43 rfl hl (by decide) rfl (fun ls hl => ?_)
          refine lv_iload_n hx hb dX0_goes_44 rfl (lv_at hl 2 rfl) ?_
          refine lv_istore (lv' := [(4, .int x1), (3, .int x3_4), (0, .ref o), (1, .int x1), (2, .int x2)]) hx hb dX0_goes_45 hl (by decide) rfl (fun ls hl => ?_)
          refine lv_bipush (v := -4) hx hb dX0_goes_47 (by decide) ?_
          refine lv_istore (lv' := [(5, .int (-4 : Int32)), (4, .int x1), (3, .int x3_4), (0, .ref o), (1, .int x1), (2, .int x2)]) hx hb dX0_goes_49 hl (by decide) rfl (fun ls hl => ?_)
          refine lv_iconst (v := 0) hx hb dX0_goes_51 (by decide) ?_
          refine lv_istore (lv' := [(6, .int (0 : Int32)), (5, .int (-4 : Int32)), (4, .int x1), (3, .int x3_4), (0, .ref o), (1, .int x1), (2, .int x2)]) hx hb dX0_goes_52 hl (by decide) rfl (fun ls hl => ?_)
          exact bX0_goes_54 X hr hlk hM (fun x5_19 ls hf hl => by
            refine lv_iload hx hb dX0_goes_146 (lv_at hl 1 rfl) ?_
            obtain rfl := Option.some.inj hf
            exact e_iretR hx hb hr hlk dX0_goes_148) N x1 x2 x3_4 x1 (-4 : Int32) (0 : Int32) _ hf (lv_sub hl [4, 5, 6, 3, 2, 1, 0] rfl)
        · have hf := ec_f (not_not_intro cnd) hf
          refine lv_bipush (v := -4) hx hb dX0_goes_32 (by decide) ?_
          obtain rfl := Option.some.inj hf
          exact e_iretR hx hb hr hlk dX0_goes_34
      · have hf := ec_f (not_not_intro cnd) hf
        exact bX0_goes_22 X hr hlk hM _ hf (lv_sub hl [0] rfl)
theorem hX0_goes : yX0_goes.cls = RX0 ∧ yX0_goes.cls ≠ "java/lang/invoke/MethodHandle" ∧ yX0_goes.cls ≠ "java/lang/invoke/VarHandle" ∧ (parseMethodDescriptor yX0_goes.desc).map (fun d => d.parameters.length) = some 2 := by decide +kernel

noncomputable def fX0_layRounds_2 (N : Nat) (kx26 : sX → Int32 → Option (Int32 × sX)) : Nat → sX → Int32 → Int32 → Option (Int32 × sX)
  | 0, _, _, _ => none
  | n + 1, S, x1, x2 =>
    if (256 : Int32) ≤ x2 then (
      kx26 S x1)
    else (
      (fX0_goTogether N S x2).bind fun v_1 =>
      (ex_as S 14 256 x2 (vp_nar .boolean v_1)).bind fun S_2 =>
      ec_lt (x2 + (1 : Int32)) fun x2_3 =>
      (fX0_layRounds_2 N kx26 n) S_2 x1 x2_3)
theorem bX0_layRounds_2 {N : Nat} (X : CallFix p m c cX0_layRounds 5 s args lw_all RX0) (hr : meth.sig.returnType = (some .boolean)) (hlk : meth.locks = false) {res : Int32} {Sr : sX} {kx26 : sX → Int32 → Option (Int32 × sX)} (Hkx26 : ∀ (S : sX) (x1 : Int32) (H : Heap) (locs : List Loc) (ls : Array Slot), kx26 S x1 = some (res, Sr) → XW D dA o q S A s H locs → lv_has ls 5 [(0, .ref o), (1, .int x1)] → W p l e (rmL 12) s m args below meth c H locs 0 0 (MQ below (XPost D dA o q A (some (.int res)) Sr) args s 0 0 A) (F0 m 26 ls [])) : ∀ (n : Nat) (S : sX) (x1 : Int32) (x2 : Int32) (H : Heap) (locs : List Loc) (ls : Array Slot), fX0_layRounds_2 N kx26 n S x1 x2 = some (res, Sr) → XW D dA o q S A s H locs → lv_has ls 5 [(0, .ref o), (1, .int x1), (2, .int x2)] → W p l e (rmL 12) s m args below meth c H locs 0 0 (MQ below (XPost D dA o q A (some (.int res)) Sr) args s 0 0 A) (F0 m 2 ls []) := by
  have hx := X.1
  have hb := X.2.1
  intro n
  induction n with
  | zero =>
    intro S x1 x2 H locs ls hf hM hl
    rw [fX0_layRounds_2] at hf
    cases hf
  | succ n ih =>
    intro S x1 x2 H locs ls hf hM hl
    rw [fX0_layRounds_2] at hf
    refine lv_iload_n hx hb dX0_layRounds_2 rfl (lv_at hl 2 rfl) ?_
    refine lv_sipush (v := 256) hx hb dX0_layRounds_3 (by decide) ?_
    refine lv_icmp_ge (tgt := 26) hx hb dX0_layRounds_6 rfl (fun cnd => ?_) (fun cnd => ?_)
    · have hf := ec_t cnd hf
      exact Hkx26 S x1 _ _ _ hf hM (lv_sub hl [0, 1] rfl)
    · have hf := ec_f cnd hf
      refine lv_aload_n hx hb dX0_layRounds_9 rfl (lv_at hl 0 rfl) ?_
      refine x_get (v := .ref (q 14)) X hM 14 (by decide) q782 rfl rfl dX0_layRounds_10 ?_
      refine lv_iload_n hx hb dX0_layRounds_13 rfl (lv_at hl 2 rfl) ?_
      refine lv_aload_n hx hb dX0_layRounds_14 rfl (lv_at hl 0 rfl) ?_
      refine lv_iload_n hx hb dX0_layRounds_15 rfl (lv_at hl 2 rfl) ?_
      obtain ⟨v_1, h, hf⟩ := ec_bi hf
      refine x_cR (v := .int v_1) (As := [.int x2]) (rest := [.int x2, .ref (q 14)]) X hM (metX0_goTogether l D dA o q N S x2 _ h) (cwV 1 X.2.2.2.2 gX0_215 rfl rfl rfl hX0_goTogether (rm_le (Nat.le_of_ble_eq_true rfl) (Nat.le_of_ble_eq_true rfl))) rfl hl.1 rfl (Nat.le_of_ble_eq_true rfl) ⟨Nat.zero_le _, Nat.zero_le _⟩ dX0_layRounds_16 ?_
      obtain ⟨S_2, h, hf⟩ := ec_bi hf
      refine x_zast X hM wxa14 wxs14 h dX0_layRounds_19 (fun H locs hM => ?_)
      refine e_inc (w := 1) (f := fun v => [(2, .int v), (0, .ref o), (1, .int x1)]) hx hb dX0_layRounds_20 hl (k := 2) rfl (by decide) (by decide) (fun _ => rfl) (fun x2_3 ex ls hl => ?_)
      have hf := ec_lt_i ex hf
      refine lv_goto (tgt := 2) hx hb dX0_layRounds_23 rfl ?_
      exact ih S_2 x1 x2_3 _ _ _ hf hM (lv_sub hl [1, 2, 0] rfl)
noncomputable def fX0_layRounds_108 (N : Nat) (k58 : sX → Int32 → Int32 → Int32 → Int32 → Option (Int32 × sX)) (S : sX) (x1 : Int32) (x2 : Int32) (x3 : Int32) (x4 : Int32) : Option (Int32 × sX) :=
  ec_lt ((x4 - (1 : Int32)) &&& x2) fun x4_9 =>
  k58 S x1 x2 x3 x4_9
theorem bX0_layRounds_108 {N : Nat} (X : CallFix p m c cX0_layRounds 5 s args lw_all RX0) (hr : meth.sig.returnType = (some .boolean)) (hlk : meth.locks = false) {res : Int32} {Sr : sX} {k58 : sX → Int32 → Int32 → Int32 → Int32 → Option (Int32 × sX)} (Hk58 : ∀ (S : sX) (x1 : Int32) (x2 : Int32) (x3 : Int32) (x4 : Int32) (H : Heap) (locs : List Loc) (ls : Array Slot), k58 S x1 x2 x3 x4 = some (res, Sr) → XW D dA o q S A s H locs → lv_has ls 5 [(0, .ref o), (1, .int x1), (2, .int x2), (3, .int x3), (4, .int x4)] → W p l e (rmL 12) s m args below meth c H locs 0 0 (MQ below (XPost D dA o q A (some (.int res)) Sr) args s 0 0 A) (F0 m 58 ls [])) : ∀ (S : sX) (x1 : Int32) (x2 : Int32) (x3 : Int32) (x4 : Int32) (H : Heap) (locs : List Loc) (ls : Array Slot), fX0_layRounds_108 N k58 S x1 x2 x3 x4 = some (res, Sr) → XW D dA o q S A s H locs → lv_has ls 5 [(0, .ref o), (1, .int x1), (2, .int x2), (3, .int x3), (4, .int x4)] → W p l e (rmL 12) s m args below meth c H locs 0 0 (MQ below (XPost D dA o q A (some (.int res)) Sr) args s 0 0 A) (F0 m 108 ls []) := by
  have hx := X.1
  have hb := X.2.1
  intro S x1 x2 x3 x4 H locs ls hf hM hl
  unfold fX0_layRounds_108 at hf
  refine lv_iload hx hb dX0_layRounds_108 (lv_at hl 4 rfl) ?_
  refine lv_iconst (v := 1) hx hb dX0_layRounds_110 (by decide) ?_
  refine lv_isub hx hb dX0_layRounds_111 ?_
  refine lv_iload_n hx hb dX0_layRounds_112 rfl (lv_at hl 2 rfl) ?_
  refine lv_iand hx hb dX0_layRounds_113 ?_
  refine lv_topi (fun x4_9 ex => ?_)
  have hf := ec_lt_i ex hf
  refine lv_istore (lv' := [(4, .int x4_9), (0, .ref o), (1, .int x1), (2, .int x2), (3, .int x3)]) hx hb dX0_layRounds_114 hl (by decide) rfl (fun ls hl => ?_)
  refine lv_goto (tgt := 58) hx hb dX0_layRounds_116 rfl ?_
  exact Hk58 S x1 x2 x3 x4_9 _ _ _ hf hM (lv_sub hl [1, 2, 3, 4, 0] rfl)
noncomputable def fX0_layRounds_58 (N : Nat) (kx119 : sX → Int32 → Int32 → Option (Int32 × sX)) : Nat → sX → Int32 → Int32 → Int32 → Int32 → Option (Int32 × sX)
  | 0, _, _, _, _, _ => none
  | n + 1, S, x1, x2, x3, x4 =>
    if x4 ≤ 0 then (
      kx119 S x1 x2)
    else (
      if (x4 &&& x3) = 0 then (
        fX0_layRounds_108 N (fX0_layRounds_58 N kx119 n) S x1 x2 x3 x4)
      else (
        (ec_ag (S.2.1 14) 256 x4).bind fun v_10 =>
        if v_10 = 0 then (
          fX0_layRounds_108 N (fX0_layRounds_58 N kx119 n) S x1 x2 x3 x4)
        else (
          (ec_ag (S.2.1 15) 256 x2).bind fun v_11 =>
          (ec_ag (S.2.1 15) 256 (x2 &&& (x4 ^^^ (-1 : Int32)))).bind fun v_12 =>
          (ex_as S 15 256 x2 (if ((1 : Int32) + v_12) < v_11 then ((1 : Int32) + v_12) else v_11)).bind fun S_13 =>
          fX0_layRounds_108 N (fX0_layRounds_58 N kx119 n) S_13 x1 x2 x3 x4)))
theorem bX0_layRounds_58 {N : Nat} (X : CallFix p m c cX0_layRounds 5 s args lw_all RX0) (hr : meth.sig.returnType = (some .boolean)) (hlk : meth.locks = false) {res : Int32} {Sr : sX} {kx119 : sX → Int32 → Int32 → Option (Int32 × sX)} (Hkx119 : ∀ (S : sX) (x1 : Int32) (x2 : Int32) (H : Heap) (locs : List Loc) (ls : Array Slot), kx119 S x1 x2 = some (res, Sr) → XW D dA o q S A s H locs → lv_has ls 5 [(0, .ref o), (1, .int x1), (2, .int x2)] → W p l e (rmL 12) s m args below meth c H locs 0 0 (MQ below (XPost D dA o q A (some (.int res)) Sr) args s 0 0 A) (F0 m 119 ls [])) : ∀ (n : Nat) (S : sX) (x1 : Int32) (x2 : Int32) (x3 : Int32) (x4 : Int32) (H : Heap) (locs : List Loc) (ls : Array Slot), fX0_layRounds_58 N kx119 n S x1 x2 x3 x4 = some (res, Sr) → XW D dA o q S A s H locs → lv_has ls 5 [(0, .ref o), (1, .int x1), (2, .int x2), (3, .int x3), (4, .int x4)] → W p l e (rmL 12) s m args below meth c H locs 0 0 (MQ below (XPost D dA o q A (some (.int res)) Sr) args s 0 0 A) (F0 m 58 ls []) := by
  have hx := X.1
  have hb := X.2.1
  intro n
  induction n with
  | zero =>
    intro S x1 x2 x3 x4 H locs ls hf hM hl
    rw [fX0_layRounds_58] at hf
    cases hf
  | succ n ih =>
    intro S x1 x2 x3 x4 H locs ls hf hM hl
    rw [fX0_layRounds_58] at hf
    refine lv_iload hx hb dX0_layRounds_58 (lv_at hl 4 rfl) ?_
    refine lv_if_le (tgt := 119) hx hb dX0_layRounds_60 rfl (fun cnd => ?_) (fun cnd => ?_)
    · have hf := ec_t cnd hf
      exact Hkx119 S x1 x2 _ _ _ hf hM (lv_sub hl [0, 1, 2] rfl)
    · have hf := ec_f cnd hf
      refine lv_iload hx hb dX0_layRounds_63 (lv_at hl 4 rfl) ?_
      refine lv_iload_n hx hb dX0_layRounds_65 rfl (lv_at hl 3 rfl) ?_
      refine lv_iand hx hb dX0_layRounds_66 ?_
      refine lv_if_eq (tgt := 108) hx hb dX0_layRounds_67 rfl (fun cnd => ?_) (fun cnd => ?_)
      · have hf := ec_t cnd hf
        exact bX0_layRounds_108 X hr hlk ih S x1 x2 x3 x4 _ _ _ hf hM hl
      · have hf := ec_f cnd hf
        refine lv_aload_n hx hb dX0_layRounds_70 rfl (lv_at hl 0 rfl) ?_
        refine x_get (v := .ref (q 14)) X hM 14 (by decide) q782 rfl rfl dX0_layRounds_71 ?_
        refine lv_iload hx hb dX0_layRounds_74 (lv_at hl 4 rfl) ?_
        obtain ⟨v_10, h, hf⟩ := ec_bi hf
        refine x_zald X hM wxa14 h dX0_layRounds_76 ?_
        refine lv_if_eq (tgt := 108) hx hb dX0_layRounds_77 rfl (fun cnd => ?_) (fun cnd => ?_)
        · have hf := ec_t cnd hf
          exact bX0_layRounds_108 X hr hlk ih S x1 x2 x3 x4 _ _ _ hf hM hl
        · have hf := ec_f cnd hf
          refine lv_aload_n hx hb dX0_layRounds_80 rfl (lv_at hl 0 rfl) ?_
          refine x_get (v := .ref (q 15)) X hM 15 (by decide) q783 rfl rfl dX0_layRounds_81 ?_
          refine lv_iload_n hx hb dX0_layRounds_84 rfl (lv_at hl 2 rfl) ?_
          refine lv_aload_n hx hb dX0_layRounds_85 rfl (lv_at hl 0 rfl) ?_
          refine x_get (v := .ref (q 15)) X hM 15 (by decide) q783 rfl rfl dX0_layRounds_86 ?_
          refine lv_iload_n hx hb dX0_layRounds_89 rfl (lv_at hl 2 rfl) ?_
          obtain ⟨v_11, h, hf⟩ := ec_bi hf
          refine x_iald X hM wxa15 h dX0_layRounds_90 ?_
          refine lv_iconst (v := 1) hx hb dX0_layRounds_91 (by decide) ?_
          refine lv_aload_n hx hb dX0_layRounds_92 rfl (lv_at hl 0 rfl) ?_
          refine x_get (v := .ref (q 15)) X hM 15 (by decide) q783 rfl rfl dX0_layRounds_93 ?_
          refine lv_iload_n hx hb dX0_layRounds_96 rfl (lv_at hl 2 rfl) ?_
          refine lv_iload hx hb dX0_layRounds_97 (lv_at hl 4 rfl) ?_
          refine lv_iconst (v := -1) hx hb dX0_layRounds_99 (by decide) ?_
          refine lv_ixor hx hb dX0_layRounds_100 ?_
          refine lv_iand hx hb dX0_layRounds_101 ?_
          obtain ⟨v_12, h, hf⟩ := ec_bi hf
          refine x_iald X hM wxa15 h dX0_layRounds_102 ?_
          refine lv_iadd hx hb dX0_layRounds_103 ?_
          refine va_mmin (own := RX0) hx hb (X.2.2.1.trans hl.1.symm) X.2.2.2.1 (X.2.2.2.2 _ q626) (X.2.2.2.2 _ q627) (X.2.2.2.2 _ q79) (X.2.2.2.2 _ q628) (Nat.le_of_ble_eq_true rfl) (Nat.le_of_ble_eq_true rfl) (Nat.zero_le _) (Nat.zero_le _) dX0_layRounds_104 ?_
          obtain ⟨S_13, h, hf⟩ := ec_bi hf
          refine x_iast X hM wxa15 wxs15 h dX0_layRounds_107 (fun H locs hM => ?_)
          exact bX0_layRounds_108 X hr hlk ih S_13 x1 x2 x3 x4 _ _ _ hf hM hl
noncomputable def fX0_layRounds_35 (N : Nat) (kx125 : sX → Int32 → Option (Int32 × sX)) : Nat → sX → Int32 → Int32 → Option (Int32 × sX)
  | 0, _, _, _ => none
  | n + 1, S, x1, x2 =>
    if (256 : Int32) ≤ x2 then (
      kx125 S x1)
    else (
      ec_lt (x2 &&& (-x2)) fun x3_7 =>
      (ex_as S 15 256 x2 (9 : Int32)).bind fun S_8 =>
      fX0_layRounds_58 N (fun S_14 x1_15 x2_16 =>
        ec_lt (x2_16 + (1 : Int32)) fun x2_17 =>
        (fX0_layRounds_35 N kx125 n) S_14 x1_15 x2_17) N S_8 x1 x2 x3_7 x2)
theorem bX0_layRounds_35 {N : Nat} (X : CallFix p m c cX0_layRounds 5 s args lw_all RX0) (hr : meth.sig.returnType = (some .boolean)) (hlk : meth.locks = false) {res : Int32} {Sr : sX} {kx125 : sX → Int32 → Option (Int32 × sX)} (Hkx125 : ∀ (S : sX) (x1 : Int32) (H : Heap) (locs : List Loc) (ls : Array Slot), kx125 S x1 = some (res, Sr) → XW D dA o q S A s H locs → lv_has ls 5 [(0, .ref o), (1, .int x1)] → W p l e (rmL 12) s m args below meth c H locs 0 0 (MQ below (XPost D dA o q A (some (.int res)) Sr) args s 0 0 A) (F0 m 125 ls [])) : ∀ (n : Nat) (S : sX) (x1 : Int32) (x2 : Int32) (H : Heap) (locs : List Loc) (ls : Array Slot), fX0_layRounds_35 N kx125 n S x1 x2 = some (res, Sr) → XW D dA o q S A s H locs → lv_has ls 5 [(0, .ref o), (1, .int x1), (2, .int x2)] → W p l e (rmL 12) s m args below meth c H locs 0 0 (MQ below (XPost D dA o q A (some (.int res)) Sr) args s 0 0 A) (F0 m 35 ls []) := by
  have hx := X.1
  have hb := X.2.1
  intro n
  induction n with
  | zero =>
    intro S x1 x2 H locs ls hf hM hl
    rw [fX0_layRounds_35] at hf
    cases hf
  | succ n ih =>
    intro S x1 x2 H locs ls hf hM hl
    rw [fX0_layRounds_35] at hf
    refine lv_iload_n hx hb dX0_layRounds_35 rfl (lv_at hl 2 rfl) ?_
    refine lv_sipush (v := 256) hx hb dX0_layRounds_36 (by decide) ?_
    refine lv_icmp_ge (tgt := 125) hx hb dX0_layRounds_39 rfl (fun cnd => ?_) (fun cnd => ?_)
    · have hf := ec_t cnd hf
      exact Hkx125 S x1 _ _ _ hf hM (lv_sub hl [0, 1] rfl)
    · have hf := ec_f cnd hf
      refine lv_iload_n hx hb dX0_layRounds_42 rfl (lv_at hl 2 rfl) ?_
      refine lv_iload_n hx hb dX0_layRounds_43 rfl (lv_at hl 2 rfl) ?_
      refine lv_ineg hx hb dX0_layRounds_44 ?_
      refine lv_iand hx hb dX0_layRounds_45 ?_
      refine lv_topi (fun x3_7 ex => ?_)
      have hf := ec_lt_i ex hf
      refine lv_istore_n (lv' := [(3, .int x3_7), (0, .ref o), (1, .int x1), (2, .int x2)]) hx hb dX0_layRounds_46 rfl hl (by decide) rfl (fun ls hl => ?_)
      refine lv_aload_n hx hb dX0_layRounds_47 rfl (lv_at hl 1 rfl) ?_
      refine x_get (v := .ref (q 15)) X hM 15 (by decide) q783 rfl rfl dX0_layRounds_48 ?_
      refine lv_iload_n hx hb dX0_layRounds_51 rfl (lv_at hl 3 rfl) ?_
      refine lv_bipush (v := 9) hx hb dX0_layRounds_52 (by decide) ?_
      obtain ⟨S_8, h, hf⟩ := ec_bi hf
      refine x_iast X hM wxa15 wxs15 h dX0_layRounds_54 (fun H locs hM => ?_)
      refine lv_iload_n hx hb dX0_layRounds_55 rfl (lv_at hl 3 rfl) ?_
      refine lv_istore (lv' := [(4, .int x2), (3, .int x3_7), (0, .ref o), (1, .int x1), (2, .int x2)]) hx hb dX0_layRounds_56 hl (by decide) rfl (fun ls hl => ?_)
      exact bX0_layRounds_58 X hr hlk (fun S_14 x1_15 x2_16 H locs ls hf hM hl => by
        refine e_inc (w := 1) (f := fun v => [(2, .int v), (0, .ref o), (1, .int x1_15)]) hx hb dX0_layRounds_119 hl (k := 2) rfl (by decide) (by decide) (fun _ => rfl) (fun x2_17 ex ls hl => ?_)
        have hf := ec_lt_i ex hf
        refine lv_goto (tgt := 35) hx hb dX0_layRounds_122 rfl ?_
        exact ih S_14 x1_15 x2_17 _ _ _ hf hM (lv_sub hl [1, 2, 0] rfl)) N S_8 x1 x2 x3_7 x2 _ _ _ hf hM (lv_sub hl [2, 3, 4, 1, 0] rfl)
noncomputable def fX0_layRounds_199 (N : Nat) (k152 : sX → Int32 → Int32 → Option (Int32 × sX)) (S : sX) (x2 : Int32) (x3 : Int32) : Option (Int32 × sX) :=
  ec_lt (x3 + (1 : Int32)) fun x3_23 =>
  k152 S x2 x3_23
theorem bX0_layRounds_199 {N : Nat} (X : CallFix p m c cX0_layRounds 5 s args lw_all RX0) (hr : meth.sig.returnType = (some .boolean)) (hlk : meth.locks = false) {res : Int32} {Sr : sX} {k152 : sX → Int32 → Int32 → Option (Int32 × sX)} (Hk152 : ∀ (S : sX) (x2 : Int32) (x3 : Int32) (H : Heap) (locs : List Loc) (ls : Array Slot), k152 S x2 x3 = some (res, Sr) → XW D dA o q S A s H locs → lv_has ls 5 [(0, .ref o), (2, .int x2), (3, .int x3)] → W p l e (rmL 12) s m args below meth c H locs 0 0 (MQ below (XPost D dA o q A (some (.int res)) Sr) args s 0 0 A) (F0 m 152 ls [])) : ∀ (S : sX) (x2 : Int32) (x3 : Int32) (H : Heap) (locs : List Loc) (ls : Array Slot), fX0_layRounds_199 N k152 S x2 x3 = some (res, Sr) → XW D dA o q S A s H locs → lv_has ls 5 [(0, .ref o), (2, .int x2), (3, .int x3)] → W p l e (rmL 12) s m args below meth c H locs 0 0 (MQ below (XPost D dA o q A (some (.int res)) Sr) args s 0 0 A) (F0 m 199 ls []) := by
  have hx := X.1
  have hb := X.2.1
  intro S x2 x3 H locs ls hf hM hl
  unfold fX0_layRounds_199 at hf
  refine e_inc (w := 1) (f := fun v => [(3, .int v), (0, .ref o), (2, .int x2)]) hx hb dX0_layRounds_199 hl (k := 2) rfl (by decide) (by decide) (fun _ => rfl) (fun x3_23 ex ls hl => ?_)
  have hf := ec_lt_i ex hf
  refine lv_goto (tgt := 152) hx hb dX0_layRounds_202 rfl ?_
  exact Hk152 S x2 x3_23 _ _ _ hf hM (lv_sub hl [1, 2, 0] rfl)
noncomputable def fX0_layRounds_152 (N : Nat) (kx205 : sX → Int32 → Int32 → Option (Int32 × sX)) : Nat → sX → Int32 → Int32 → Option (Int32 × sX)
  | 0, _, _, _ => none
  | n + 1, S, x2, x3 =>
    if ¬ (x3 &&& (x2 ^^^ (-1 : Int32))) = 0 then (
      fX0_layRounds_199 N (fX0_layRounds_152 N kx205 n) S x2 x3)
    else (
      if ((x3 &&& x2) &&& (-x2)) = 0 then (
        fX0_layRounds_199 N (fX0_layRounds_152 N kx205 n) S x2 x3)
      else (
        (ec_ag (S.2.1 14) 256 x3).bind fun v_24 =>
        if v_24 = 0 then (
          fX0_layRounds_199 N (fX0_layRounds_152 N kx205 n) S x2 x3)
        else (
          (ec_ag (S.2.1 15) 256 (x2 &&& (x3 ^^^ (-1 : Int32)))).bind fun v_25 =>
          (ec_ag (S.2.1 15) 256 x2).bind fun v_26 =>
          if ((1 : Int32) + v_25) = v_26 then (
            kx205 S x2 x3)
          else (
            fX0_layRounds_199 N (fX0_layRounds_152 N kx205 n) S x2 x3))))
theorem bX0_layRounds_152 {N : Nat} (X : CallFix p m c cX0_layRounds 5 s args lw_all RX0) (hr : meth.sig.returnType = (some .boolean)) (hlk : meth.locks = false) {res : Int32} {Sr : sX} {kx205 : sX → Int32 → Int32 → Option (Int32 × sX)} (Hkx205 : ∀ (S : sX) (x2 : Int32) (x3 : Int32) (H : Heap) (locs : List Loc) (ls : Array Slot), kx205 S x2 x3 = some (res, Sr) → XW D dA o q S A s H locs → lv_has ls 5 [(0, .ref o), (2, .int x2), (3, .int x3)] → W p l e (rmL 12) s m args below meth c H locs 0 0 (MQ below (XPost D dA o q A (some (.int res)) Sr) args s 0 0 A) (F0 m 205 ls [])) : ∀ (n : Nat) (S : sX) (x2 : Int32) (x3 : Int32) (H : Heap) (locs : List Loc) (ls : Array Slot), fX0_layRounds_152 N kx205 n S x2 x3 = some (res, Sr) → XW D dA o q S A s H locs → lv_has ls 5 [(0, .ref o), (2, .int x2), (3, .int x3)] → W p l e (rmL 12) s m args below meth c H locs 0 0 (MQ below (XPost D dA o q A (some (.int res)) Sr) args s 0 0 A) (F0 m 152 ls []) := by
  have hx := X.1
  have hb := X.2.1
  intro n
  induction n with
  | zero =>
    intro S x2 x3 H locs ls hf hM hl
    rw [fX0_layRounds_152] at hf
    cases hf
  | succ n ih =>
    intro S x2 x3 H locs ls hf hM hl
    rw [fX0_layRounds_152] at hf
    refine lv_iload_n hx hb dX0_layRounds_152 rfl (lv_at hl 2 rfl) ?_
    refine lv_iload_n hx hb dX0_layRounds_153 rfl (lv_at hl 1 rfl) ?_
    refine lv_iconst (v := -1) hx hb dX0_layRounds_154 (by decide) ?_
    refine lv_ixor hx hb dX0_layRounds_155 ?_
    refine lv_iand hx hb dX0_layRounds_156 ?_
    refine lv_if_ne (tgt := 199) hx hb dX0_layRounds_157 rfl (fun cnd => ?_) (fun cnd => ?_)
    · have hf := ec_t cnd hf
      exact bX0_layRounds_199 X hr hlk ih S x2 x3 _ _ _ hf hM hl
    · have hf := ec_f (not_not_intro cnd) hf
      refine lv_iload_n hx hb dX0_layRounds_160 rfl (lv_at hl 2 rfl) ?_
      refine lv_iload_n hx hb dX0_layRounds_161 rfl (lv_at hl 1 rfl) ?_
      refine lv_iand hx hb dX0_layRounds_162 ?_
      refine lv_iload_n hx hb dX0_layRounds_163 rfl (lv_at hl 1 rfl) ?_
      refine lv_ineg hx hb dX0_layRounds_164 ?_
      refine lv_iand hx hb dX0_layRounds_165 ?_
      refine lv_if_eq (tgt := 199) hx hb dX0_layRounds_166 rfl (fun cnd => ?_) (fun cnd => ?_)
      · have hf := ec_t cnd hf
        exact bX0_layRounds_199 X hr hlk ih S x2 x3 _ _ _ hf hM hl
      · have hf := ec_f cnd hf
        refine lv_aload_n hx hb dX0_layRounds_169 rfl (lv_at hl 0 rfl) ?_
        refine x_get (v := .ref (q 14)) X hM 14 (by decide) q782 rfl rfl dX0_layRounds_170 ?_
        refine lv_iload_n hx hb dX0_layRounds_173 rfl (lv_at hl 2 rfl) ?_
        obtain ⟨v_24, h, hf⟩ := ec_bi hf
        refine x_zald X hM wxa14 h dX0_layRounds_174 ?_
        refine lv_if_eq (tgt := 199) hx hb dX0_layRounds_175 rfl (fun cnd => ?_) (fun cnd => ?_)
        · have hf := ec_t cnd hf
          exact bX0_layRounds_199 X hr hlk ih S x2 x3 _ _ _ hf hM hl
        · have hf := ec_f cnd hf
          refine lv_iconst (v := 1) hx hb dX0_layRounds_178 (by decide) ?_
          refine lv_aload_n hx hb dX0_layRounds_179 rfl (lv_at hl 0 rfl) ?_
          refine x_get (v := .ref (q 15)) X hM 15 (by decide) q783 rfl rfl dX0_layRounds_180 ?_
          refine lv_iload_n hx hb dX0_layRounds_183 rfl (lv_at hl 1 rfl) ?_
          refine lv_iload_n hx hb dX0_layRounds_184 rfl (lv_at hl 2 rfl) ?_
          refine lv_iconst (v := -1) hx hb dX0_layRounds_185 (by decide) ?_
          refine lv_ixor hx hb dX0_layRounds_186 ?_
          refine lv_iand hx hb dX0_layRounds_187 ?_
          obtain ⟨v_25, h, hf⟩ := ec_bi hf
          refine x_iald X hM wxa15 h dX0_layRounds_188 ?_
          refine lv_iadd hx hb dX0_layRounds_189 ?_
          refine lv_aload_n hx hb dX0_layRounds_190 rfl (lv_at hl 0 rfl) ?_
          refine x_get (v := .ref (q 15)) X hM 15 (by decide) q783 rfl rfl dX0_layRounds_191 ?_
          refine lv_iload_n hx hb dX0_layRounds_194 rfl (lv_at hl 1 rfl) ?_
          obtain ⟨v_26, h, hf⟩ := ec_bi hf
          refine x_iald X hM wxa15 h dX0_layRounds_195 ?_
          refine lv_icmp_eq (tgt := 205) hx hb dX0_layRounds_196 rfl (fun cnd => ?_) (fun cnd => ?_)
          · have hf := ec_t cnd hf
            exact Hkx205 S x2 x3 _ _ _ hf hM hl
          · have hf := ec_f cnd hf
            exact bX0_layRounds_199 X hr hlk ih S x2 x3 _ _ _ hf hM hl
noncomputable def fX0_layRounds_132 (N : Nat) (kx234 : sX → Int32 → Option (Int32 × sX)) : Nat → sX → Int32 → Option (Int32 × sX)
  | 0, _, _ => none
  | n + 1, S, x2 =>
    if x2 = 0 then (
      kx234 S x2)
    else (
      (ec_ag (S.2.1 15) 256 x2).bind fun v_21 =>
      if (8 : Int32) < v_21 then (
        kx234 S x2)
      else (
        ec_lt (x2 &&& (-x2)) fun x3_22 =>
        fX0_layRounds_152 N (fun S_27 x2_28 x3_29 =>
          (ex_as S_27 16 8 (S_27.1 17) x3_29).bind fun S_30 =>
          ec_lt (xI S_30 17 ((S_30.1 17) + (1 : Int32))) fun S_31 =>
          ec_lt (x2_28 &&& (x3_29 ^^^ (-1 : Int32))) fun x2_32 =>
          (fX0_layRounds_132 N kx234 n) S_31 x2_32) N S x2 x3_22))
theorem bX0_layRounds_132 {N : Nat} (X : CallFix p m c cX0_layRounds 5 s args lw_all RX0) (hr : meth.sig.returnType = (some .boolean)) (hlk : meth.locks = false) {res : Int32} {Sr : sX} {kx234 : sX → Int32 → Option (Int32 × sX)} (Hkx234 : ∀ (S : sX) (x2 : Int32) (H : Heap) (locs : List Loc) (ls : Array Slot), kx234 S x2 = some (res, Sr) → XW D dA o q S A s H locs → lv_has ls 5 [(0, .ref o), (2, .int x2)] → W p l e (rmL 12) s m args below meth c H locs 0 0 (MQ below (XPost D dA o q A (some (.int res)) Sr) args s 0 0 A) (F0 m 234 ls [])) : ∀ (n : Nat) (S : sX) (x2 : Int32) (H : Heap) (locs : List Loc) (ls : Array Slot), fX0_layRounds_132 N kx234 n S x2 = some (res, Sr) → XW D dA o q S A s H locs → lv_has ls 5 [(0, .ref o), (2, .int x2)] → W p l e (rmL 12) s m args below meth c H locs 0 0 (MQ below (XPost D dA o q A (some (.int res)) Sr) args s 0 0 A) (F0 m 132 ls []) := by
  have hx := X.1
  have hb := X.2.1
  intro n
  induction n with
  | zero =>
    intro S x2 H locs ls hf hM hl
    rw [fX0_layRounds_132] at hf
    cases hf
  | succ n ih =>
    intro S x2 H locs ls hf hM hl
    rw [fX0_layRounds_132] at hf
    refine lv_iload_n hx hb dX0_layRounds_132 rfl (lv_at hl 1 rfl) ?_
    refine lv_if_eq (tgt := 234) hx hb dX0_layRounds_133 rfl (fun cnd => ?_) (fun cnd => ?_)
    · have hf := ec_t cnd hf
      exact Hkx234 S x2 _ _ _ hf hM hl
    · have hf := ec_f cnd hf
      refine lv_aload_n hx hb dX0_layRounds_136 rfl (lv_at hl 0 rfl) ?_
      refine x_get (v := .ref (q 15)) X hM 15 (by decide) q783 rfl rfl dX0_layRounds_137 ?_
      refine lv_iload_n hx hb dX0_layRounds_140 rfl (lv_at hl 1 rfl) ?_
      obtain ⟨v_21, h, hf⟩ := ec_bi hf
      refine x_iald X hM wxa15 h dX0_layRounds_141 ?_
      refine lv_bipush (v := 8) hx hb dX0_layRounds_142 (by decide) ?_
      refine lv_icmp_gt (tgt := 234) hx hb dX0_layRounds_144 rfl (fun cnd => ?_) (fun cnd => ?_)
      · have hf := ec_t cnd hf
        exact Hkx234 S x2 _ _ _ hf hM hl
      · have hf := ec_f cnd hf
        refine lv_iload_n hx hb dX0_layRounds_147 rfl (lv_at hl 1 rfl) ?_
        refine lv_iload_n hx hb dX0_layRounds_148 rfl (lv_at hl 1 rfl) ?_
        refine lv_ineg hx hb dX0_layRounds_149 ?_
        refine lv_iand hx hb dX0_layRounds_150 ?_
        refine lv_topi (fun x3_22 ex => ?_)
        have hf := ec_lt_i ex hf
        refine lv_istore_n (lv' := [(3, .int x3_22), (0, .ref o), (2, .int x2)]) hx hb dX0_layRounds_151 rfl hl (by decide) rfl (fun ls hl => ?_)
        exact bX0_layRounds_152 X hr hlk (fun S_27 x2_28 x3_29 H locs ls hf hM hl => by
          refine lv_aload_n hx hb dX0_layRounds_205 rfl (lv_at hl 0 rfl) ?_
          refine x_get (v := .ref (q 16)) X hM 16 (by decide) q784 rfl rfl dX0_layRounds_206 ?_
          refine lv_aload_n hx hb dX0_layRounds_209 rfl (lv_at hl 0 rfl) ?_
          refine x_get (v := .int (S_27.1 17)) X hM 17 (by decide) q785 rfl rfl dX0_layRounds_210 ?_
          refine lv_iload_n hx hb dX0_layRounds_213 rfl (lv_at hl 2 rfl) ?_
          obtain ⟨S_30, h, hf⟩ := ec_bi hf
          refine x_iast X hM wxa16 wxs16 h dX0_layRounds_214 (fun H locs hM => ?_)
          refine lv_aload_n hx hb dX0_layRounds_215 rfl (lv_at hl 0 rfl) ?_
          refine lv_dup hx hb dX0_layRounds_216 rfl ?_
          refine x_get (v := .int (S_30.1 17)) X hM 17 (by decide) q785 rfl rfl dX0_layRounds_217 ?_
          refine lv_iconst (v := 1) hx hb dX0_layRounds_220 (by decide) ?_
          refine lv_iadd hx hb dX0_layRounds_221 ?_
          refine x_puti X hM 17 (by decide) q785 rfl rfl xfd17 (wxi17 _) dX0_layRounds_222 (fun S_31 H locs eS hM => ?_)
          have hf := ec_lt_i eS hf
          refine lv_iload_n hx hb dX0_layRounds_225 rfl (lv_at hl 1 rfl) ?_
          refine lv_iload_n hx hb dX0_layRounds_226 rfl (lv_at hl 2 rfl) ?_
          refine lv_iconst (v := -1) hx hb dX0_layRounds_227 (by decide) ?_
          refine lv_ixor hx hb dX0_layRounds_228 ?_
          refine lv_iand hx hb dX0_layRounds_229 ?_
          refine lv_topi (fun x2_32 ex => ?_)
          have hf := ec_lt_i ex hf
          refine lv_istore_n (lv' := [(2, .int x2_32), (0, .ref o), (3, .int x3_29)]) hx hb dX0_layRounds_230 rfl hl (by decide) rfl (fun ls hl => ?_)
          refine lv_goto (tgt := 132) hx hb dX0_layRounds_231 rfl ?_
          exact ih S_31 x2_32 _ _ _ hf hM (lv_sub hl [1, 0] rfl)) N S x2 x3_22 _ _ _ hf hM (lv_sub hl [1, 2, 0] rfl)
noncomputable def fX0_layRounds_234 (N : Nat) (S : sX) (x2 : Int32) : Option (Int32 × sX) :=
  if ¬ x2 = 0 then (
    some ((0 : Int32), S))
  else (
    some ((1 : Int32), S))
theorem bX0_layRounds_234 {N : Nat} (X : CallFix p m c cX0_layRounds 5 s args lw_all RX0) (hr : meth.sig.returnType = (some .boolean)) (hlk : meth.locks = false) {res : Int32} {Sr : sX} : ∀ (S : sX) (x2 : Int32) (H : Heap) (locs : List Loc) (ls : Array Slot), fX0_layRounds_234 N S x2 = some (res, Sr) → XW D dA o q S A s H locs → lv_has ls 5 [(0, .ref o), (2, .int x2)] → W p l e (rmL 12) s m args below meth c H locs 0 0 (MQ below (XPost D dA o q A (some (.int res)) Sr) args s 0 0 A) (F0 m 234 ls []) := by
  have hx := X.1
  have hb := X.2.1
  intro S x2 H locs ls hf hM hl
  unfold fX0_layRounds_234 at hf
  refine lv_iload_n hx hb dX0_layRounds_234 rfl (lv_at hl 1 rfl) ?_
  refine lv_if_ne (tgt := 242) hx hb dX0_layRounds_235 rfl (fun cnd => ?_) (fun cnd => ?_)
  · have hf := ec_t cnd hf
    refine lv_iconst (v := 0) hx hb dX0_layRounds_242 (by decide) ?_
    obtain ⟨rfl, rfl⟩ := Prod.mk.inj (Option.some.inj hf)
    exact x_zret X hr hlk hM rfl dX0_layRounds_243
  · have hf := ec_f (not_not_intro cnd) hf
    refine lv_iconst (v := 1) hx hb dX0_layRounds_238 (by decide) ?_
    refine lv_goto (tgt := 243) hx hb dX0_layRounds_239 rfl ?_
    obtain ⟨rfl, rfl⟩ := Prod.mk.inj (Option.some.inj hf)
    exact x_zret X hr hlk hM rfl dX0_layRounds_243
noncomputable def fX0_layRounds (N : Nat) (S : sX) (x1 : Int32) : Option (Int32 × sX) :=
  fX0_layRounds_2 N (fun S_4 x1_5 =>
    (ex_as S_4 15 256 (0 : Int32) (0 : Int32)).bind fun S_6 =>
    fX0_layRounds_35 N (fun S_18 x1_19 =>
      ec_lt (xI S_18 17 (0 : Int32)) fun S_20 =>
      fX0_layRounds_132 N (fun S_33 x2_34 =>
        fX0_layRounds_234 N S_33 x2_34) N S_20 x1_19) N S_6 x1_5 (1 : Int32)) N S x1 (0 : Int32)
theorem metX0_layRounds (l : Launch) (D : va_G) (dA : Nat → ClassId) (o : Nat) (q : Nat → Nat) (N : Nat) (S : sX) (x1 : Int32) (res : Int32) (Sr : sX) (hf : fX0_layRounds N S x1 = some (res, Sr)) : Met l yX0_layRounds (ws_ yX0_layRounds cX0_layRounds 5 (some .boolean)) (rmL 12) (XPre D dA o q S [.int x1]) (XPost D dA o q (XA o q S.2.2.2) (some (.int res)) Sr) 0 0 (XA o q S.2.2.2) := by
  refine x_ofW rfl (Nat.le_of_ble_eq_true rfl) (fun A p e s m args below meth c X hr hlk hM ls hl => ?_)
  have hl : lv_has ls 5 [(0, .ref o), (1, .int x1)] := hl
  have hx := X.1
  have hb := X.2.1
  unfold fX0_layRounds at hf
  refine lv_iconst (v := 0) hx hb dX0_layRounds_0 (by decide) ?_
  refine lv_istore_n (lv' := [(2, .int (0 : Int32)), (0, .ref o), (1, .int x1)]) hx hb dX0_layRounds_1 rfl hl (by decide) rfl (fun ls hl => ?_)
  exact bX0_layRounds_2 X hr hlk (fun S_4 x1_5 H locs ls hf hM hl => by
    refine lv_aload_n hx hb dX0_layRounds_26 rfl (lv_at hl 0 rfl) ?_
    refine x_get (v := .ref (q 15)) X hM 15 (by decide) q783 rfl rfl dX0_layRounds_27 ?_
    refine lv_iconst (v := 0) hx hb dX0_layRounds_30 (by decide) ?_
    refine lv_iconst (v := 0) hx hb dX0_layRounds_31 (by decide) ?_
    obtain ⟨S_6, h, hf⟩ := ec_bi hf
    refine x_iast X hM wxa15 wxs15 h dX0_layRounds_32 (fun H locs hM => ?_)
    refine lv_iconst (v := 1) hx hb dX0_layRounds_33 (by decide) ?_
    refine lv_istore_n (lv' := [(2, .int (1 : Int32)), (0, .ref o), (1, .int x1_5)]) hx hb dX0_layRounds_34 rfl hl (by decide) rfl (fun ls hl => ?_)
    exact bX0_layRounds_35 X hr hlk (fun S_18 x1_19 H locs ls hf hM hl => by
      refine lv_aload_n hx hb dX0_layRounds_125 rfl (lv_at hl 0 rfl) ?_
      refine lv_iconst (v := 0) hx hb dX0_layRounds_126 (by decide) ?_
      refine x_puti X hM 17 (by decide) q785 rfl rfl xfd17 (wxi17 _) dX0_layRounds_127 (fun S_20 H locs eS hM => ?_)
      have hf := ec_lt_i eS hf
      refine lv_iload_n hx hb dX0_layRounds_130 rfl (lv_at hl 1 rfl) ?_
      refine lv_istore_n (lv' := [(2, .int x1_19), (0, .ref o), (1, .int x1_19)]) hx hb dX0_layRounds_131 rfl hl (by decide) rfl (fun ls hl => ?_)
      exact bX0_layRounds_132 X hr hlk (fun S_33 x2_34 H locs ls hf hM hl => by
        exact bX0_layRounds_234 X hr hlk  S_33 x2_34 _ _ _ hf hM hl) N S_20 x1_19 _ _ _ hf hM (lv_sub hl [1, 0] rfl)) N S_6 x1_5 (1 : Int32) _ _ _ hf hM (lv_sub hl [1, 2, 0] rfl)) N S x1 (0 : Int32) _ _ _ hf hM (lv_sub hl [1, 2, 0] rfl)
theorem hX0_layRounds : yX0_layRounds.cls = RX0 ∧ yX0_layRounds.cls ≠ "java/lang/invoke/MethodHandle" ∧ yX0_layRounds.cls ≠ "java/lang/invoke/VarHandle" ∧ (parseMethodDescriptor yX0_layRounds.desc).map (fun d => d.parameters.length) = some 1 := by decide +kernel

theorem gX0_234 : GoodIn lw_all (wsV RX0 234 RX0 yX0_layRounds (ws_ yX0_layRounds cX0_layRounds 5 (some .boolean))) := lw_V q622 q624 qs19 q60 q625
noncomputable def fX0_rounds_25 (N : Nat) (S : sX) : Option (Int32 × sX) :=
  some ((-1 : Int32), S)
theorem bX0_rounds_25 {N : Nat} (X : CallFix p m c cX0_rounds 3 s args lw_all RX0) (hr : meth.sig.returnType = (some .int)) (hlk : meth.locks = false) {res : Int32} {Sr : sX} : ∀ (S : sX) (H : Heap) (locs : List Loc) (ls : Array Slot), fX0_rounds_25 N S = some (res, Sr) → XW D dA o q S A s H locs → lv_has ls 3 [(0, .ref o)] → W p l e (rmL 13) s m args below meth c H locs 0 0 (MQ below (XPost D dA o q A (some (.int res)) Sr) args s 0 0 A) (F0 m 25 ls []) := by
  have hx := X.1
  have hb := X.2.1
  intro S H locs ls hf hM hl
  unfold fX0_rounds_25 at hf
  refine lv_iconst (v := -1) hx hb dX0_rounds_25 (by decide) ?_
  obtain ⟨rfl, rfl⟩ := Prod.mk.inj (Option.some.inj hf)
  exact x_iret X hr hlk hM dX0_rounds_26
noncomputable def fX0_rounds_27 (N : Nat) (S : sX) (x1 : Int32) (x2 : Int32) : Option (Int32 × sX) :=
  ec_b2 (fX0_layRounds N S x1) fun v_3 S_2 =>
  if ¬ v_3 = 0 then (
    if ¬ x2 = 0 then (
      if (S_2.1 17) ≤ (x2 - (10 : Int32)) then (
        some ((-1 : Int32), S_2))
      else (
        (ec_ag (S_2.2.1 16) 8 (x2 - (10 : Int32))).bind fun v_4 =>
        some (v_4, S_2)))
    else (
      some ((S_2.1 17), S_2)))
  else (
    some ((-4 : Int32), S_2))
theorem bX0_rounds_27 {N : Nat} (X : CallFix p m c cX0_rounds 3 s args lw_all RX0) (hr : meth.sig.returnType = (some .int)) (hlk : meth.locks = false) {res : Int32} {Sr : sX} : ∀ (S : sX) (x1 : Int32) (x2 : Int32) (H : Heap) (locs : List Loc) (ls : Array Slot), fX0_rounds_27 N S x1 x2 = some (res, Sr) → XW D dA o q S A s H locs → lv_has ls 3 [(0, .ref o), (1, .int x1), (2, .int x2)] → W p l e (rmL 13) s m args below meth c H locs 0 0 (MQ below (XPost D dA o q A (some (.int res)) Sr) args s 0 0 A) (F0 m 27 ls []) := by
  have hx := X.1
  have hb := X.2.1
  intro S x1 x2 H locs ls hf hM hl
  unfold fX0_rounds_27 at hf
  refine lv_aload_n hx hb dX0_rounds_27 rfl (lv_at hl 0 rfl) ?_
  refine lv_iload_n hx hb dX0_rounds_28 rfl (lv_at hl 1 rfl) ?_
  obtain ⟨v_3, S_2, h, hf⟩ := ec_b2i hf
  refine x_cWi (v := .int v_3) (As := [.int x1]) (rest := []) X hM (metX0_layRounds l D dA o q N S x1 _ _ h) (cwV 1 X.2.2.2.2 gX0_234 rfl rfl rfl hX0_layRounds (rm_le (Nat.le_of_ble_eq_true rfl) (Nat.le_of_ble_eq_true rfl))) rfl hl.1 rfl (Nat.le_of_ble_eq_true rfl) ⟨Nat.zero_le _, Nat.zero_le _⟩ dX0_rounds_29 (fun H locs hM => ?_)
  refine lv_if_ne (tgt := 38) hx hb dX0_rounds_32 rfl (fun cnd => ?_) (fun cnd => ?_)
  · have hf := ec_t cnd hf
    refine lv_iload_n hx hb dX0_rounds_38 rfl (lv_at hl 2 rfl) ?_
    refine lv_if_ne (tgt := 49) hx hb dX0_rounds_39 rfl (fun cnd => ?_) (fun cnd => ?_)
    · have hf := ec_t cnd hf
      refine lv_iload_n hx hb dX0_rounds_49 rfl (lv_at hl 2 rfl) ?_
      refine lv_bipush (v := 10) hx hb dX0_rounds_50 (by decide) ?_
      refine lv_isub hx hb dX0_rounds_52 ?_
      refine lv_aload_n hx hb dX0_rounds_53 rfl (lv_at hl 0 rfl) ?_
      refine x_get (v := .int (S_2.1 17)) X hM 17 (by decide) q785 rfl rfl dX0_rounds_54 ?_
      refine lv_icmp_ge (tgt := 72) hx hb dX0_rounds_57 rfl (fun cnd => ?_) (fun cnd => ?_)
      · have hf := ec_t cnd hf
        refine lv_iconst (v := -1) hx hb dX0_rounds_72 (by decide) ?_
        obtain ⟨rfl, rfl⟩ := Prod.mk.inj (Option.some.inj hf)
        exact x_iret X hr hlk hM dX0_rounds_73
      · have hf := ec_f cnd hf
        refine lv_aload_n hx hb dX0_rounds_60 rfl (lv_at hl 0 rfl) ?_
        refine x_get (v := .ref (q 16)) X hM 16 (by decide) q784 rfl rfl dX0_rounds_61 ?_
        refine lv_iload_n hx hb dX0_rounds_64 rfl (lv_at hl 2 rfl) ?_
        refine lv_bipush (v := 10) hx hb dX0_rounds_65 (by decide) ?_
        refine lv_isub hx hb dX0_rounds_67 ?_
        obtain ⟨v_4, h, hf⟩ := ec_bi hf
        refine x_iald X hM wxa16 h dX0_rounds_68 ?_
        refine lv_goto (tgt := 73) hx hb dX0_rounds_69 rfl ?_
        obtain ⟨rfl, rfl⟩ := Prod.mk.inj (Option.some.inj hf)
        exact x_iret X hr hlk hM dX0_rounds_73
    · have hf := ec_f (not_not_intro cnd) hf
      refine lv_aload_n hx hb dX0_rounds_42 rfl (lv_at hl 0 rfl) ?_
      refine x_get (v := .int (S_2.1 17)) X hM 17 (by decide) q785 rfl rfl dX0_rounds_43 ?_
      refine lv_goto (tgt := 73) hx hb dX0_rounds_46 rfl ?_
      obtain ⟨rfl, rfl⟩ := Prod.mk.inj (Option.some.inj hf)
      exact x_iret X hr hlk hM dX0_rounds_73
  · have hf := ec_f (not_not_intro cnd) hf
    refine lv_bipush (v := -4) hx hb dX0_rounds_35 (by decide) ?_
    obtain ⟨rfl, rfl⟩ := Prod.mk.inj (Option.some.inj hf)
    exact x_iret X hr hlk hM dX0_rounds_37
noncomputable def fX0_rounds (N : Nat) (S : sX) (x1 : Int32) (x2 : Int32) : Option (Int32 × sX) :=
  (fX0_isSet x1).bind fun v_1 =>
  if v_1 = 0 then (
    fX0_rounds_25 N S)
  else (
    if x2 = 0 then (
      fX0_rounds_27 N S x1 x2)
    else (
      (fX0_isIn (x2.toInt64) (10 : Int64) (17 : Int64)).bind fun v_5 =>
      if ¬ v_5 = 0 then (
        fX0_rounds_27 N S x1 x2)
      else (
        fX0_rounds_25 N S)))
theorem metX0_rounds (l : Launch) (D : va_G) (dA : Nat → ClassId) (o : Nat) (q : Nat → Nat) (N : Nat) (S : sX) (x1 : Int32) (x2 : Int32) (res : Int32) (Sr : sX) (hf : fX0_rounds N S x1 x2 = some (res, Sr)) : Met l yX0_rounds (ws_ yX0_rounds cX0_rounds 3 (some .int)) (rmL 13) (XPre D dA o q S [.int x1, .int x2]) (XPost D dA o q (XA o q S.2.2.2) (some (.int res)) Sr) 0 0 (XA o q S.2.2.2) := by
  refine x_ofW rfl (Nat.le_of_ble_eq_true rfl) (fun A p e s m args below meth c X hr hlk hM ls hl => ?_)
  have hl : lv_has ls 3 [(0, .ref o), (1, .int x1), (2, .int x2)] := hl
  have hx := X.1
  have hb := X.2.1
  unfold fX0_rounds at hf
  refine lv_iload_n hx hb dX0_rounds_0 rfl (lv_at hl 1 rfl) ?_
  obtain ⟨v_1, h, hf⟩ := ec_bi hf
  refine e_cS (v := .int v_1) (As := [.int x1]) (rest := []) X (metX0_isSet l x1 _ h) (va_cwS 1 X.2.2.2.2 gX0_198 rfl rfl rfl hX0_isSet (rm_le (Nat.le_of_ble_eq_true rfl) (Nat.le_of_ble_eq_true rfl))) rfl hl.1 rfl (Nat.le_of_ble_eq_true rfl) ⟨Nat.zero_le _, Nat.zero_le _⟩ dX0_rounds_1 ?_
  refine lv_if_eq (tgt := 25) hx hb dX0_rounds_4 rfl (fun cnd => ?_) (fun cnd => ?_)
  · have hf := ec_t cnd hf
    exact bX0_rounds_25 X hr hlk  S _ _ _ hf hM (lv_sub hl [0] rfl)
  · have hf := ec_f cnd hf
    refine lv_iload_n hx hb dX0_rounds_7 rfl (lv_at hl 2 rfl) ?_
    refine lv_if_eq (tgt := 27) hx hb dX0_rounds_8 rfl (fun cnd => ?_) (fun cnd => ?_)
    · have hf := ec_t cnd hf
      exact bX0_rounds_27 X hr hlk  S x1 x2 _ _ _ hf hM hl
    · have hf := ec_f cnd hf
      refine lv_iload_n hx hb dX0_rounds_11 rfl (lv_at hl 2 rfl) ?_
      refine lv_i2l hx hb dX0_rounds_12 rfl ?_
      refine lv_ldc2 (own := RX0) (v := 10) hx hb X.2.2.2.1 (X.2.2.2.2 _ q469) dX0_rounds_13 ?_
      refine lv_ldc2 (own := RX0) (v := 17) hx hb X.2.2.2.1 (X.2.2.2.2 _ q470) dX0_rounds_16 ?_
      obtain ⟨v_5, h, hf⟩ := ec_bi hf
      refine e_cS (v := .int v_5) (As := [.long (x2.toInt64), .long (10 : Int64), .long (17 : Int64)]) (rest := []) X (metX0_isIn l (x2.toInt64) (10 : Int64) (17 : Int64) _ h) (va_cwS 3 X.2.2.2.2 gX0_21 rfl rfl rfl hX0_isIn (rm_le (Nat.le_of_ble_eq_true rfl) (Nat.le_of_ble_eq_true rfl))) rfl hl.1 rfl (Nat.le_of_ble_eq_true rfl) ⟨Nat.zero_le _, Nat.zero_le _⟩ dX0_rounds_19 ?_
      refine lv_if_ne (tgt := 27) hx hb dX0_rounds_22 rfl (fun cnd => ?_) (fun cnd => ?_)
      · have hf := ec_t cnd hf
        exact bX0_rounds_27 X hr hlk  S x1 x2 _ _ _ hf hM hl
      · have hf := ec_f (not_not_intro cnd) hf
        exact bX0_rounds_25 X hr hlk  S _ _ _ hf hM (lv_sub hl [0] rfl)
theorem hX0_rounds : yX0_rounds.cls = RX0 ∧ yX0_rounds.cls ≠ "java/lang/invoke/MethodHandle" ∧ yX0_rounds.cls ≠ "java/lang/invoke/VarHandle" ∧ (parseMethodDescriptor yX0_rounds.desc).map (fun d => d.parameters.length) = some 2 := by decide +kernel

noncomputable def fX0_laySlices_2 (N : Nat) (kx21 : sX → Int32 → Int32 → Int32 → Option sX) : Nat → sX → Int32 → Int32 → Int32 → Option sX
  | 0, _, _, _, _ => none
  | n + 1, S, x1, x2, x3 =>
    (ec_ag (S.2.1 16) 8 x3).bind fun v_1 =>
    if ¬ ((v_1 >>> (x2 &&& 31)) &&& (1 : Int32)) = 0 then (
      kx21 S x1 x2 x3)
    else (
      ec_lt (x3 + (1 : Int32)) fun x3_2 =>
      (fX0_laySlices_2 N kx21 n) S x1 x2 x3_2)
theorem bX0_laySlices_2 {N : Nat} (X : CallFix p m c cX0_laySlices 7 s args lw_all RX0) (hr : meth.sig.returnType = none) (hlk : meth.locks = false) {Sr : sX} {kx21 : sX → Int32 → Int32 → Int32 → Option sX} (Hkx21 : ∀ (S : sX) (x1 : Int32) (x2 : Int32) (x3 : Int32) (H : Heap) (locs : List Loc) (ls : Array Slot), kx21 S x1 x2 x3 = some Sr → XW D dA o q S A s H locs → lv_has ls 7 [(0, .ref o), (1, .int x1), (2, .int x2), (3, .int x3)] → W p l e (rmL 0) s m args below meth c H locs 0 0 (MQ below (XPost D dA o q A none Sr) args s 0 0 A) (F0 m 21 ls [])) : ∀ (n : Nat) (S : sX) (x1 : Int32) (x2 : Int32) (x3 : Int32) (H : Heap) (locs : List Loc) (ls : Array Slot), fX0_laySlices_2 N kx21 n S x1 x2 x3 = some Sr → XW D dA o q S A s H locs → lv_has ls 7 [(0, .ref o), (1, .int x1), (2, .int x2), (3, .int x3)] → W p l e (rmL 0) s m args below meth c H locs 0 0 (MQ below (XPost D dA o q A none Sr) args s 0 0 A) (F0 m 2 ls []) := by
  have hx := X.1
  have hb := X.2.1
  intro n
  induction n with
  | zero =>
    intro S x1 x2 x3 H locs ls hf hM hl
    rw [fX0_laySlices_2] at hf
    cases hf
  | succ n ih =>
    intro S x1 x2 x3 H locs ls hf hM hl
    rw [fX0_laySlices_2] at hf
    refine lv_aload_n hx hb dX0_laySlices_2 rfl (lv_at hl 0 rfl) ?_
    refine x_get (v := .ref (q 16)) X hM 16 (by decide) q784 rfl rfl dX0_laySlices_3 ?_
    refine lv_iload_n hx hb dX0_laySlices_6 rfl (lv_at hl 3 rfl) ?_
    obtain ⟨v_1, h, hf⟩ := ec_bi hf
    refine x_iald X hM wxa16 h dX0_laySlices_7 ?_
    refine lv_iload_n hx hb dX0_laySlices_8 rfl (lv_at hl 2 rfl) ?_
    refine lv_ishr hx hb dX0_laySlices_9 ?_
    refine lv_iconst (v := 1) hx hb dX0_laySlices_10 (by decide) ?_
    refine lv_iand hx hb dX0_laySlices_11 ?_
    refine lv_if_ne (tgt := 21) hx hb dX0_laySlices_12 rfl (fun cnd => ?_) (fun cnd => ?_)
    · have hf := ec_t cnd hf
      exact Hkx21 S x1 x2 x3 _ _ _ hf hM hl
    · have hf := ec_f (not_not_intro cnd) hf
      refine e_inc (w := 1) (f := fun v => [(3, .int v), (0, .ref o), (1, .int x1), (2, .int x2)]) hx hb dX0_laySlices_15 hl (k := 3) rfl (by decide) (by decide) (fun _ => rfl) (fun x3_2 ex ls hl => ?_)
      have hf := ec_lt_i ex hf
      refine lv_goto (tgt := 2) hx hb dX0_laySlices_18 rfl ?_
      exact ih S x1 x2 x3_2 _ _ _ hf hM (lv_sub hl [1, 2, 3, 0] rfl)
noncomputable def fX0_laySlices_103 (N : Nat) (k37 : sX → Int32 → Int32 → Int32 → Int32 → Int32 → Option sX) (S : sX) (x1 : Int32) (x2 : Int32) (x3 : Int32) (x4 : Int32) (x5 : Int32) (x6 : Nat) : Option sX :=
  (hI 7 S.2.2.2 x6 2).bind fun v_13 =>
  ec_lt (x4 + v_13) fun x4_14 =>
  ec_lt (x5 + (1 : Int32)) fun x5_15 =>
  k37 S x1 x2 x3 x4_14 x5_15
theorem bX0_laySlices_103 {N : Nat} (X : CallFix p m c cX0_laySlices 7 s args lw_all RX0) (hr : meth.sig.returnType = none) (hlk : meth.locks = false) {Sr : sX} {k37 : sX → Int32 → Int32 → Int32 → Int32 → Int32 → Option sX} (Hk37 : ∀ (S : sX) (x1 : Int32) (x2 : Int32) (x3 : Int32) (x4 : Int32) (x5 : Int32) (H : Heap) (locs : List Loc) (ls : Array Slot), k37 S x1 x2 x3 x4 x5 = some Sr → XW D dA o q S A s H locs → lv_has ls 7 [(0, .ref o), (1, .int x1), (2, .int x2), (3, .int x3), (4, .int x4), (5, .int x5)] → W p l e (rmL 0) s m args below meth c H locs 0 0 (MQ below (XPost D dA o q A none Sr) args s 0 0 A) (F0 m 37 ls [])) : ∀ (S : sX) (x1 : Int32) (x2 : Int32) (x3 : Int32) (x4 : Int32) (x5 : Int32) (x6 : Nat) (H : Heap) (locs : List Loc) (ls : Array Slot), fX0_laySlices_103 N k37 S x1 x2 x3 x4 x5 x6 = some Sr → XW D dA o q S A s H locs → lv_has ls 7 [(0, .ref o), (1, .int x1), (2, .int x2), (3, .int x3), (4, .int x4), (5, .int x5), (6, .ref x6)] → W p l e (rmL 0) s m args below meth c H locs 0 0 (MQ below (XPost D dA o q A none Sr) args s 0 0 A) (F0 m 103 ls []) := by
  have hx := X.1
  have hb := X.2.1
  intro S x1 x2 x3 x4 x5 x6 H locs ls hf hM hl
  unfold fX0_laySlices_103 at hf
  refine lv_iload hx hb dX0_laySlices_103 (lv_at hl 4 rfl) ?_
  refine lv_aload hx hb dX0_laySlices_105 (lv_at hl 6 rfl) ?_
  obtain ⟨v_13, h, hf⟩ := ec_bi hf
  refine h_getvN (v := .int v_13) (C := RX8) (T := TX8) (N := 5) (ci := 7) (k := 2) (host := "EventCounters") X hM in_X8 rfl (by decide) (xn_at hM.2.1 19 rfl) rfl (hI_i h) dX0_laySlices_107 ?_
  refine lv_iadd hx hb dX0_laySlices_110 ?_
  refine lv_topi (fun x4_14 ex => ?_)
  have hf := ec_lt_i ex hf
  refine lv_istore (lv' := [(4, .int x4_14), (0, .ref o), (1, .int x1), (2, .int x2), (3, .int x3), (5, .int x5), (6, .ref x6)]) hx hb dX0_laySlices_111 hl (by decide) rfl (fun ls hl => ?_)
  refine e_inc (w := 1) (f := fun v => [(5, .int v), (4, .int x4_14), (0, .ref o), (1, .int x1), (2, .int x2), (3, .int x3), (6, .ref x6)]) hx hb dX0_laySlices_113 hl (k := 5) rfl (by decide) (by decide) (fun _ => rfl) (fun x5_15 ex ls hl => ?_)
  have hf := ec_lt_i ex hf
  refine lv_goto (tgt := 37) hx hb dX0_laySlices_116 rfl ?_
  exact Hk37 S x1 x2 x3 x4_14 x5_15 _ _ _ hf hM (lv_sub hl [2, 3, 4, 5, 1, 0] rfl)
noncomputable def fX0_laySlices_37 (N : Nat) : Nat → sX → Int32 → Int32 → Int32 → Int32 → Int32 → Option sX
  | 0, _, _, _, _, _, _ => none
  | n + 1, S, x1, x2, x3, x4, x5 =>
    if (S.1 8) ≤ x5 then (
      some S)
    else (
      (hAi 0 S.2.2.2 (S.2.2.1 7) x5).bind fun v_9 =>
      (hAr 4 S.2.2.2 (S.2.2.1 3) v_9).bind fun v_10 =>
      (ec_dv x4 x1).bind fun v_11 =>
      (ec_rm v_11 (S.1 17)).bind fun v_12 =>
      if ¬ v_12 = x3 then (
        fX0_laySlices_103 N (fX0_laySlices_37 N n) S x1 x2 x3 x4 x5 v_10)
      else (
        (hR 7 S.2.2.2 v_10 3).bind fun v_16 =>
        (hAi 0 S.2.2.2 v_16 x2).bind fun v_17 =>
        ec_lt (xI S 18 ((S.1 18) + v_17)) fun S_18 =>
        (hI 7 S_18.2.2.2 v_10 2).bind fun v_19 =>
        ec_lt (xI S_18 19 ((S_18.1 19) + v_19)) fun S_20 =>
        fX0_laySlices_103 N (fX0_laySlices_37 N n) S_20 x1 x2 x3 x4 x5 v_10))
theorem bX0_laySlices_37 {N : Nat} (X : CallFix p m c cX0_laySlices 7 s args lw_all RX0) (hr : meth.sig.returnType = none) (hlk : meth.locks = false) {Sr : sX} : ∀ (n : Nat) (S : sX) (x1 : Int32) (x2 : Int32) (x3 : Int32) (x4 : Int32) (x5 : Int32) (H : Heap) (locs : List Loc) (ls : Array Slot), fX0_laySlices_37 N n S x1 x2 x3 x4 x5 = some Sr → XW D dA o q S A s H locs → lv_has ls 7 [(0, .ref o), (1, .int x1), (2, .int x2), (3, .int x3), (4, .int x4), (5, .int x5)] → W p l e (rmL 0) s m args below meth c H locs 0 0 (MQ below (XPost D dA o q A none Sr) args s 0 0 A) (F0 m 37 ls []) := by
  have hx := X.1
  have hb := X.2.1
  intro n
  induction n with
  | zero =>
    intro S x1 x2 x3 x4 x5 H locs ls hf hM hl
    rw [fX0_laySlices_37] at hf
    cases hf
  | succ n ih =>
    intro S x1 x2 x3 x4 x5 H locs ls hf hM hl
    rw [fX0_laySlices_37] at hf
    refine lv_iload hx hb dX0_laySlices_37 (lv_at hl 5 rfl) ?_
    refine lv_aload_n hx hb dX0_laySlices_39 rfl (lv_at hl 0 rfl) ?_
    refine x_get (v := .int (S.1 8)) X hM 8 (by decide) q776 rfl rfl dX0_laySlices_40 ?_
    refine lv_icmp_ge (tgt := 119) hx hb dX0_laySlices_43 rfl (fun cnd => ?_) (fun cnd => ?_)
    · have hf := ec_t cnd hf
      obtain rfl := Option.some.inj hf
      exact x_vret X hr hlk hM dX0_laySlices_119
    · have hf := ec_f cnd hf
      refine lv_aload_n hx hb dX0_laySlices_46 rfl (lv_at hl 0 rfl) ?_
      refine x_get (v := .ref (S.2.2.1 3)) X hM 3 (by decide) q771 rfl rfl dX0_laySlices_47 ?_
      refine lv_aload_n hx hb dX0_laySlices_50 rfl (lv_at hl 0 rfl) ?_
      refine x_get (v := .ref (S.2.2.1 7)) X hM 7 (by decide) q775 rfl rfl dX0_laySlices_51 ?_
      refine lv_iload hx hb dX0_laySlices_54 (lv_at hl 5 rfl) ?_
      obtain ⟨v_9, h, hf⟩ := ec_bi hf
      refine h_iald X hM h dX0_laySlices_56 ?_
      obtain ⟨v_10, h, hf⟩ := ec_bi hf
      refine h_aald (t := 4) X hM rfl rfl h dX0_laySlices_57 ?_
      refine lv_astore (lv' := [(6, .ref v_10), (0, .ref o), (1, .int x1), (2, .int x2), (3, .int x3), (4, .int x4), (5, .int x5)]) hx hb dX0_laySlices_58 hl (by decide) rfl (fun ls hl => ?_)
      refine lv_iload hx hb dX0_laySlices_60 (lv_at hl 5 rfl) ?_
      refine lv_iload_n hx hb dX0_laySlices_62 rfl (lv_at hl 2 rfl) ?_
      obtain ⟨v_11, h, hf⟩ := ec_bi hf
      refine e_dv hx hb h dX0_laySlices_63 ?_
      refine lv_aload_n hx hb dX0_laySlices_64 rfl (lv_at hl 1 rfl) ?_
      refine x_get (v := .int (S.1 17)) X hM 17 (by decide) q785 rfl rfl dX0_laySlices_65 ?_
      obtain ⟨v_12, h, hf⟩ := ec_bi hf
      refine e_rm hx hb h dX0_laySlices_68 ?_
      refine lv_iload_n hx hb dX0_laySlices_69 rfl (lv_at hl 4 rfl) ?_
      refine lv_icmp_ne (tgt := 103) hx hb dX0_laySlices_70 rfl (fun cnd => ?_) (fun cnd => ?_)
      · have hf := ec_t cnd hf
        exact bX0_laySlices_103 X hr hlk ih S x1 x2 x3 x4 x5 v_10 _ _ _ hf hM (lv_sub hl [1, 2, 3, 4, 5, 6, 0] rfl)
      · have hf := ec_f (not_not_intro cnd) hf
        refine lv_aload_n hx hb dX0_laySlices_73 rfl (lv_at hl 1 rfl) ?_
        refine lv_dup hx hb dX0_laySlices_74 rfl ?_
        refine x_get (v := .int (S.1 18)) X hM 18 (by decide) q786 rfl rfl dX0_laySlices_75 ?_
        refine lv_aload hx hb dX0_laySlices_78 (lv_at hl 0 rfl) ?_
        obtain ⟨v_16, h, hf⟩ := ec_bi hf
        refine h_getvN (v := .ref v_16) (C := RX8) (T := TX8) (N := 5) (ci := 7) (k := 3) (host := "EventCounters") X hM in_X8 rfl (by decide) (xn_at hM.2.1 20 rfl) rfl (hR_i h) dX0_laySlices_80 ?_
        refine lv_iload_n hx hb dX0_laySlices_83 rfl (lv_at hl 3 rfl) ?_
        obtain ⟨v_17, h, hf⟩ := ec_bi hf
        refine h_iald X hM h dX0_laySlices_84 ?_
        refine lv_iadd hx hb dX0_laySlices_85 ?_
        refine x_puti X hM 18 (by decide) q786 rfl rfl xfd18 (wxi18 _) dX0_laySlices_86 (fun S_18 H locs eS hM => ?_)
        have hf := ec_lt_i eS hf
        refine lv_aload_n hx hb dX0_laySlices_89 rfl (lv_at hl 1 rfl) ?_
        refine lv_dup hx hb dX0_laySlices_90 rfl ?_
        refine x_get (v := .int (S_18.1 19)) X hM 19 (by decide) q787 rfl rfl dX0_laySlices_91 ?_
        refine lv_aload hx hb dX0_laySlices_94 (lv_at hl 0 rfl) ?_
        obtain ⟨v_19, h, hf⟩ := ec_bi hf
        refine h_getvN (v := .int v_19) (C := RX8) (T := TX8) (N := 5) (ci := 7) (k := 2) (host := "EventCounters") X hM in_X8 rfl (by decide) (xn_at hM.2.1 19 rfl) rfl (hI_i h) dX0_laySlices_96 ?_
        refine lv_iadd hx hb dX0_laySlices_99 ?_
        refine x_puti X hM 19 (by decide) q787 rfl rfl xfd19 (wxi19 _) dX0_laySlices_100 (fun S_20 H locs eS hM => ?_)
        have hf := ec_lt_i eS hf
        exact bX0_laySlices_103 X hr hlk ih S_20 x1 x2 x3 x4 x5 v_10 _ _ _ hf hM (lv_sub hl [1, 2, 3, 4, 5, 6, 0] rfl)
noncomputable def fX0_laySlices (N : Nat) (S : sX) (x1 : Int32) (x2 : Int32) : Option sX :=
  fX0_laySlices_2 N (fun S_3 x1_4 x2_5 x3_6 =>
    ec_lt (xI S_3 18 (0 : Int32)) fun S_7 =>
    ec_lt (xI S_7 19 (0 : Int32)) fun S_8 =>
    fX0_laySlices_37 N N S_8 x1_4 x2_5 x3_6 (0 : Int32) (0 : Int32)) N S x1 x2 (0 : Int32)
theorem metX0_laySlices (l : Launch) (D : va_G) (dA : Nat → ClassId) (o : Nat) (q : Nat → Nat) (N : Nat) (S : sX) (x1 : Int32) (x2 : Int32) (Sr : sX) (hf : fX0_laySlices N S x1 x2 = some Sr) : Met l yX0_laySlices (ws_ yX0_laySlices cX0_laySlices 7 none) (rmL 0) (XPre D dA o q S [.int x1, .int x2]) (XPost D dA o q (XA o q S.2.2.2) none Sr) 0 0 (XA o q S.2.2.2) := by
  refine x_ofW rfl (Nat.le_of_ble_eq_true rfl) (fun A p e s m args below meth c X hr hlk hM ls hl => ?_)
  have hl : lv_has ls 7 [(0, .ref o), (1, .int x1), (2, .int x2)] := hl
  have hx := X.1
  have hb := X.2.1
  unfold fX0_laySlices at hf
  refine lv_iconst (v := 0) hx hb dX0_laySlices_0 (by decide) ?_
  refine lv_istore_n (lv' := [(3, .int (0 : Int32)), (0, .ref o), (1, .int x1), (2, .int x2)]) hx hb dX0_laySlices_1 rfl hl (by decide) rfl (fun ls hl => ?_)
  exact bX0_laySlices_2 X hr hlk (fun S_3 x1_4 x2_5 x3_6 H locs ls hf hM hl => by
    refine lv_aload_n hx hb dX0_laySlices_21 rfl (lv_at hl 0 rfl) ?_
    refine lv_iconst (v := 0) hx hb dX0_laySlices_22 (by decide) ?_
    refine x_puti X hM 18 (by decide) q786 rfl rfl xfd18 (wxi18 _) dX0_laySlices_23 (fun S_7 H locs eS hM => ?_)
    have hf := ec_lt_i eS hf
    refine lv_aload_n hx hb dX0_laySlices_26 rfl (lv_at hl 0 rfl) ?_
    refine lv_iconst (v := 0) hx hb dX0_laySlices_27 (by decide) ?_
    refine x_puti X hM 19 (by decide) q787 rfl rfl xfd19 (wxi19 _) dX0_laySlices_28 (fun S_8 H locs eS hM => ?_)
    have hf := ec_lt_i eS hf
    refine lv_iconst (v := 0) hx hb dX0_laySlices_31 (by decide) ?_
    refine lv_istore (lv' := [(4, .int (0 : Int32)), (0, .ref o), (1, .int x1_4), (2, .int x2_5), (3, .int x3_6)]) hx hb dX0_laySlices_32 hl (by decide) rfl (fun ls hl => ?_)
    refine lv_iconst (v := 0) hx hb dX0_laySlices_34 (by decide) ?_
    refine lv_istore (lv' := [(5, .int (0 : Int32)), (4, .int (0 : Int32)), (0, .ref o), (1, .int x1_4), (2, .int x2_5), (3, .int x3_6)]) hx hb dX0_laySlices_35 hl (by decide) rfl (fun ls hl => ?_)
    exact bX0_laySlices_37 X hr hlk  N S_8 x1_4 x2_5 x3_6 (0 : Int32) (0 : Int32) _ _ _ hf hM (lv_sub hl [2, 3, 4, 5, 1, 0] rfl)) N S x1 x2 (0 : Int32) _ _ _ hf hM (lv_sub hl [1, 2, 3, 0] rfl)
theorem hX0_laySlices : yX0_laySlices.cls = RX0 ∧ yX0_laySlices.cls ≠ "java/lang/invoke/MethodHandle" ∧ yX0_laySlices.cls ≠ "java/lang/invoke/VarHandle" ∧ (parseMethodDescriptor yX0_laySlices.desc).map (fun d => d.parameters.length) = some 2 := by decide +kernel

theorem gX0_245 : GoodIn lw_all (va_wsS RX0 245 yX0_isSlice (ws_ yX0_isSlice cX0_isSlice 3 (some .boolean))) := lw_S q633 q634 q60 q635
theorem gX0_249 : GoodIn lw_all (wsV RX0 249 RX0 yX0_laySlices (ws_ yX0_laySlices cX0_laySlices 7 none)) := lw_V q637 q639 qs20 q60 q640
noncomputable def fX0_sliced_20 (N : Nat) (S : sX) : Option (Int32 × sX) :=
  some ((-1 : Int32), S)
theorem bX0_sliced_20 {N : Nat} (X : CallFix p m c cX0_sliced 5 s args lw_all RX0) (hr : meth.sig.returnType = (some .int)) (hlk : meth.locks = false) {res : Int32} {Sr : sX} : ∀ (S : sX) (H : Heap) (locs : List Loc) (ls : Array Slot), fX0_sliced_20 N S = some (res, Sr) → XW D dA o q S A s H locs → lv_has ls 5 [(0, .ref o)] → W p l e (rmL 13) s m args below meth c H locs 0 0 (MQ below (XPost D dA o q A (some (.int res)) Sr) args s 0 0 A) (F0 m 20 ls []) := by
  have hx := X.1
  have hb := X.2.1
  intro S H locs ls hf hM hl
  unfold fX0_sliced_20 at hf
  refine lv_iconst (v := -1) hx hb dX0_sliced_20 (by decide) ?_
  obtain ⟨rfl, rfl⟩ := Prod.mk.inj (Option.some.inj hf)
  exact x_iret X hr hlk hM dX0_sliced_21
noncomputable def fX0_sliced (N : Nat) (S : sX) (x1 : Int32) (x2 : Int32) (x3 : Int32) (x4 : Int32) : Option (Int32 × sX) :=
  (fX0_isSlice x1 x2 x3).bind fun v_1 =>
  if v_1 = 0 then (
    fX0_sliced_20 N S)
  else (
    (fX0_isIn (x4.toInt64) (0 : Int64) (1 : Int64)).bind fun v_2 =>
    if ¬ v_2 = 0 then (
      ec_b2 (fX0_layRounds N S x1) fun v_4 S_3 =>
      if ¬ v_4 = 0 then (
        (fX0_laySlices N S_3 x2 x3).bind fun S_5 =>
        if ¬ x4 = 0 then (
          some ((S_5.1 19), S_5))
        else (
          some ((S_5.1 18), S_5)))
      else (
        some ((-4 : Int32), S_3)))
    else (
      fX0_sliced_20 N S))
theorem metX0_sliced (l : Launch) (D : va_G) (dA : Nat → ClassId) (o : Nat) (q : Nat → Nat) (N : Nat) (S : sX) (x1 : Int32) (x2 : Int32) (x3 : Int32) (x4 : Int32) (res : Int32) (Sr : sX) (hf : fX0_sliced N S x1 x2 x3 x4 = some (res, Sr)) : Met l yX0_sliced (ws_ yX0_sliced cX0_sliced 5 (some .int)) (rmL 13) (XPre D dA o q S [.int x1, .int x2, .int x3, .int x4]) (XPost D dA o q (XA o q S.2.2.2) (some (.int res)) Sr) 0 0 (XA o q S.2.2.2) := by
  refine x_ofW rfl (Nat.le_of_ble_eq_true rfl) (fun A p e s m args below meth c X hr hlk hM ls hl => ?_)
  have hl : lv_has ls 5 [(0, .ref o), (1, .int x1), (2, .int x2), (3, .int x3), (4, .int x4)] := hl
  have hx := X.1
  have hb := X.2.1
  unfold fX0_sliced at hf
  refine lv_iload_n hx hb dX0_sliced_0 rfl (lv_at hl 1 rfl) ?_
  refine lv_iload_n hx hb dX0_sliced_1 rfl (lv_at hl 2 rfl) ?_
  refine lv_iload_n hx hb dX0_sliced_2 rfl (lv_at hl 3 rfl) ?_
  obtain ⟨v_1, h, hf⟩ := ec_bi hf
  refine e_cS (v := .int v_1) (As := [.int x1, .int x2, .int x3]) (rest := []) X (metX0_isSlice l x1 x2 x3 _ h) (va_cwS 3 X.2.2.2.2 gX0_245 rfl rfl rfl hX0_isSlice (rm_le (Nat.le_of_ble_eq_true rfl) (Nat.le_of_ble_eq_true rfl))) rfl hl.1 rfl (Nat.le_of_ble_eq_true rfl) ⟨Nat.zero_le _, Nat.zero_le _⟩ dX0_sliced_3 ?_
  refine lv_if_eq (tgt := 20) hx hb dX0_sliced_6 rfl (fun cnd => ?_) (fun cnd => ?_)
  · have hf := ec_t cnd hf
    exact bX0_sliced_20 X hr hlk  S _ _ _ hf hM (lv_sub hl [0] rfl)
  · have hf := ec_f cnd hf
    refine lv_iload hx hb dX0_sliced_9 (lv_at hl 4 rfl) ?_
    refine lv_i2l hx hb dX0_sliced_11 rfl ?_
    refine lv_lconst (v := 0) hx hb dX0_sliced_12 (by decide) ?_
    refine lv_lconst (v := 1) hx hb dX0_sliced_13 (by decide) ?_
    obtain ⟨v_2, h, hf⟩ := ec_bi hf
    refine e_cS (v := .int v_2) (As := [.long (x4.toInt64), .long (0 : Int64), .long (1 : Int64)]) (rest := []) X (metX0_isIn l (x4.toInt64) (0 : Int64) (1 : Int64) _ h) (va_cwS 3 X.2.2.2.2 gX0_21 rfl rfl rfl hX0_isIn (rm_le (Nat.le_of_ble_eq_true rfl) (Nat.le_of_ble_eq_true rfl))) rfl hl.1 rfl (Nat.le_of_ble_eq_true rfl) ⟨Nat.zero_le _, Nat.zero_le _⟩ dX0_sliced_14 ?_
    refine lv_if_ne (tgt := 22) hx hb dX0_sliced_17 rfl (fun cnd => ?_) (fun cnd => ?_)
    · have hf := ec_t cnd hf
      refine lv_aload_n hx hb dX0_sliced_22 rfl (lv_at hl 0 rfl) ?_
      refine lv_iload_n hx hb dX0_sliced_23 rfl (lv_at hl 1 rfl) ?_
      obtain ⟨v_4, S_3, h, hf⟩ := ec_b2i hf
      refine x_cWi (v := .int v_4) (As := [.int x1]) (rest := []) X hM (metX0_layRounds l D dA o q N S x1 _ _ h) (cwV 1 X.2.2.2.2 gX0_234 rfl rfl rfl hX0_layRounds (rm_le (Nat.le_of_ble_eq_true rfl) (Nat.le_of_ble_eq_true rfl))) rfl hl.1 rfl (Nat.le_of_ble_eq_true rfl) ⟨Nat.zero_le _, Nat.zero_le _⟩ dX0_sliced_24 (fun H locs hM => ?_)
      refine lv_if_ne (tgt := 33) hx hb dX0_sliced_27 rfl (fun cnd => ?_) (fun cnd => ?_)
      · have hf := ec_t cnd hf
        refine lv_aload_n hx hb dX0_sliced_33 rfl (lv_at hl 0 rfl) ?_
        refine lv_iload_n hx hb dX0_sliced_34 rfl (lv_at hl 2 rfl) ?_
        refine lv_iload_n hx hb dX0_sliced_35 rfl (lv_at hl 3 rfl) ?_
        obtain ⟨S_5, h, hf⟩ := ec_bi hf
        refine x_cWv (As := [.int x2, .int x3]) (rest := []) X hM (metX0_laySlices l D dA o q N S_3 x2 x3 _ h) (cwV 2 X.2.2.2.2 gX0_249 rfl rfl rfl hX0_laySlices (rm_le (Nat.le_of_ble_eq_true rfl) (Nat.le_of_ble_eq_true rfl))) rfl hl.1 rfl (Nat.le_of_ble_eq_true rfl) ⟨Nat.zero_le _, Nat.zero_le _⟩ dX0_sliced_36 (fun H locs hM => ?_)
        refine lv_iload hx hb dX0_sliced_39 (lv_at hl 4 rfl) ?_
        refine lv_if_ne (tgt := 51) hx hb dX0_sliced_41 rfl (fun cnd => ?_) (fun cnd => ?_)
        · have hf := ec_t cnd hf
          refine lv_aload_n hx hb dX0_sliced_51 rfl (lv_at hl 0 rfl) ?_
          refine x_get (v := .int (S_5.1 19)) X hM 19 (by decide) q787 rfl rfl dX0_sliced_52 ?_
          obtain ⟨rfl, rfl⟩ := Prod.mk.inj (Option.some.inj hf)
          exact x_iret X hr hlk hM dX0_sliced_55
        · have hf := ec_f (not_not_intro cnd) hf
          refine lv_aload_n hx hb dX0_sliced_44 rfl (lv_at hl 0 rfl) ?_
          refine x_get (v := .int (S_5.1 18)) X hM 18 (by decide) q786 rfl rfl dX0_sliced_45 ?_
          refine lv_goto (tgt := 55) hx hb dX0_sliced_48 rfl ?_
          obtain ⟨rfl, rfl⟩ := Prod.mk.inj (Option.some.inj hf)
          exact x_iret X hr hlk hM dX0_sliced_55
      · have hf := ec_f (not_not_intro cnd) hf
        refine lv_bipush (v := -4) hx hb dX0_sliced_30 (by decide) ?_
        obtain ⟨rfl, rfl⟩ := Prod.mk.inj (Option.some.inj hf)
        exact x_iret X hr hlk hM dX0_sliced_32
    · have hf := ec_f (not_not_intro cnd) hf
      exact bX0_sliced_20 X hr hlk  S _ _ _ hf hM (lv_sub hl [0] rfl)
theorem hX0_sliced : yX0_sliced.cls = RX0 ∧ yX0_sliced.cls ≠ "java/lang/invoke/MethodHandle" ∧ yX0_sliced.cls ≠ "java/lang/invoke/VarHandle" ∧ (parseMethodDescriptor yX0_sliced.desc).map (fun d => d.parameters.length) = some 4 := by decide +kernel

noncomputable def fX0_off (S : sX) (x1 : Int32) : Option Int64 :=
  (ec_ag (S.2.1 10) 8 x1).bind fun v_1 =>
  some ((((S.1 18).toInt64) * ((S.1 9).toInt64)) - ((v_1.toInt64) * ((S.1 19).toInt64)))
theorem metX0_off (l : Launch) (D : va_G) (dA : Nat → ClassId) (o : Nat) (q : Nat → Nat) (S : sX) (x1 : Int32) (res : Int64) (hf : fX0_off S x1 = some res) : Met l yX0_off (ws_ yX0_off cX0_off 2 (some .long)) (rmL 0) (XPre D dA o q S [.int x1]) (k2_QcV (.long res)) 0 0 (fun _ => False) := by
  refine x_ofR rfl (Nat.le_of_ble_eq_true rfl) (fun p e s m args below meth c X hr hlk hM ls hl => ?_)
  have hl : lv_has ls 2 [(0, .ref o), (1, .int x1)] := hl
  have hx := X.1
  have hb := X.2.1
  unfold fX0_off at hf
  refine lv_aload_n hx hb dX0_off_0 rfl (lv_at hl 0 rfl) ?_
  refine x_get (v := .int (S.1 18)) X hM 18 (by decide) q786 rfl rfl dX0_off_1 ?_
  refine lv_i2l hx hb dX0_off_4 rfl ?_
  refine lv_aload_n hx hb dX0_off_5 rfl (lv_at hl 0 rfl) ?_
  refine x_get (v := .int (S.1 9)) X hM 9 (by decide) q777 rfl rfl dX0_off_6 ?_
  refine lv_i2l hx hb dX0_off_9 rfl ?_
  refine lv_lmul hx hb dX0_off_10 ?_
  refine lv_aload_n hx hb dX0_off_11 rfl (lv_at hl 0 rfl) ?_
  refine x_get (v := .ref (q 10)) X hM 10 (by decide) q778 rfl rfl dX0_off_12 ?_
  refine lv_iload_n hx hb dX0_off_15 rfl (lv_at hl 1 rfl) ?_
  obtain ⟨v_1, h, hf⟩ := ec_bi hf
  refine x_iald X hM wxa10 h dX0_off_16 ?_
  refine lv_i2l hx hb dX0_off_17 rfl ?_
  refine lv_aload_n hx hb dX0_off_18 rfl (lv_at hl 0 rfl) ?_
  refine x_get (v := .int (S.1 19)) X hM 19 (by decide) q787 rfl rfl dX0_off_19 ?_
  refine lv_i2l hx hb dX0_off_22 rfl ?_
  refine lv_lmul hx hb dX0_off_23 ?_
  refine lv_lsub hx hb dX0_off_24 ?_
  obtain rfl := Option.some.inj hf
  exact e_lretR hx hb hr hlk dX0_off_25
theorem hX0_off : yX0_off.cls = RX0 ∧ yX0_off.cls ≠ "java/lang/invoke/MethodHandle" ∧ yX0_off.cls ≠ "java/lang/invoke/VarHandle" ∧ (parseMethodDescriptor yX0_off.desc).map (fun d => d.parameters.length) = some 1 := by decide +kernel

theorem gX0_259 : GoodIn lw_all (wsV RX0 259 RX0 yX0_off (ws_ yX0_off cX0_off 2 (some .long))) := lw_V q648 q650 qs21 q60 q651
noncomputable def fX0_scaled_22 (N : Nat) (S : sX) : Option (Int64 × sX) :=
  some ((-1000000000000 : Int64), S)
theorem bX0_scaled_22 {N : Nat} (X : CallFix p m c cX0_scaled 5 s args lw_all RX0) (hr : meth.sig.returnType = (some .long)) (hlk : meth.locks = false) {res : Int64} {Sr : sX} : ∀ (S : sX) (H : Heap) (locs : List Loc) (ls : Array Slot), fX0_scaled_22 N S = some (res, Sr) → XW D dA o q S A s H locs → lv_has ls 5 [(0, .ref o)] → W p l e (rmL 13) s m args below meth c H locs 0 0 (MQ below (XPost D dA o q A (some (.long res)) Sr) args s 0 0 A) (F0 m 22 ls []) := by
  have hx := X.1
  have hb := X.2.1
  intro S H locs ls hf hM hl
  unfold fX0_scaled_22 at hf
  refine lv_ldc2 (own := RX0) (v := -1000000000000) hx hb X.2.2.2.1 (X.2.2.2.2 _ q646) dX0_scaled_22 ?_
  obtain ⟨rfl, rfl⟩ := Prod.mk.inj (Option.some.inj hf)
  exact x_lret X hr hlk hM dX0_scaled_25
noncomputable def fX0_scaled_80 (N : Nat) (S : sX) (x4 : Int32) (t0 : Int64) : Option (Int64 × sX) :=
  (fX0_lowest N t0 ((S.1 19).toInt64) x4).bind fun v_7 =>
  some (v_7, S)
theorem bX0_scaled_80 {N : Nat} (X : CallFix p m c cX0_scaled 5 s args lw_all RX0) (hr : meth.sig.returnType = (some .long)) (hlk : meth.locks = false) {res : Int64} {Sr : sX} : ∀ (S : sX) (x4 : Int32) (t0 : Int64) (H : Heap) (locs : List Loc) (ls : Array Slot), fX0_scaled_80 N S x4 t0 = some (res, Sr) → XW D dA o q S A s H locs → lv_has ls 5 [(0, .ref o), (4, .int x4)] → W p l e (rmL 13) s m args below meth c H locs 0 0 (MQ below (XPost D dA o q A (some (.long res)) Sr) args s 0 0 A) (F0 m 80 ls [.long t0]) := by
  have hx := X.1
  have hb := X.2.1
  intro S x4 t0 H locs ls hf hM hl
  unfold fX0_scaled_80 at hf
  refine lv_aload_n hx hb dX0_scaled_80 rfl (lv_at hl 0 rfl) ?_
  refine x_get (v := .int (S.1 19)) X hM 19 (by decide) q787 rfl rfl dX0_scaled_81 ?_
  refine lv_i2l hx hb dX0_scaled_84 rfl ?_
  refine lv_iload hx hb dX0_scaled_85 (lv_at hl 1 rfl) ?_
  obtain ⟨v_7, h, hf⟩ := ec_bi hf
  refine e_cS (v := .long v_7) (As := [.long t0, .long ((S.1 19).toInt64), .int x4]) (rest := []) X (metX0_lowest l N t0 ((S.1 19).toInt64) x4 _ h) (va_cwS 3 X.2.2.2.2 gX0_128 rfl rfl rfl hX0_lowest (rm_le (Nat.le_of_ble_eq_true rfl) (Nat.le_of_ble_eq_true rfl))) rfl hl.1 rfl (Nat.le_of_ble_eq_true rfl) ⟨Nat.zero_le _, Nat.zero_le _⟩ dX0_scaled_87 ?_
  obtain ⟨rfl, rfl⟩ := Prod.mk.inj (Option.some.inj hf)
  exact x_lret X hr hlk hM dX0_scaled_90
noncomputable def fX0_scaled (N : Nat) (S : sX) (x1 : Int32) (x2 : Int32) (x3 : Int32) (x4 : Int32) : Option (Int64 × sX) :=
  (fX0_isSlice x1 x2 x3).bind fun v_1 =>
  if v_1 = 0 then (
    fX0_scaled_22 N S)
  else (
    (fX0_isIn (x4.toInt64) (0 : Int64) (3 : Int64)).bind fun v_2 =>
    if ¬ v_2 = 0 then (
      ec_b2 (fX0_layRounds N S x1) fun v_4 S_3 =>
      if ¬ v_4 = 0 then (
        (fX0_laySlices N S_3 x2 x3).bind fun S_5 =>
        if ¬ (S_5.1 19) = 0 then (
          if (2 : Int32) ≤ x4 then (
            (fX0_off S_5 x3).bind fun v_6 =>
            fX0_scaled_80 N S_5 x4 v_6)
          else (
            fX0_scaled_80 N S_5 x4 (((S_5.1 18).toInt64) * ((S_5.1 9).toInt64))))
        else (
          some ((-1000000000004 : Int64), S_5)))
      else (
        some ((-1000000000004 : Int64), S_3)))
    else (
      fX0_scaled_22 N S))
theorem metX0_scaled (l : Launch) (D : va_G) (dA : Nat → ClassId) (o : Nat) (q : Nat → Nat) (N : Nat) (S : sX) (x1 : Int32) (x2 : Int32) (x3 : Int32) (x4 : Int32) (res : Int64) (Sr : sX) (hf : fX0_scaled N S x1 x2 x3 x4 = some (res, Sr)) : Met l yX0_scaled (ws_ yX0_scaled cX0_scaled 5 (some .long)) (rmL 13) (XPre D dA o q S [.int x1, .int x2, .int x3, .int x4]) (XPost D dA o q (XA o q S.2.2.2) (some (.long res)) Sr) 0 0 (XA o q S.2.2.2) := by
  refine x_ofW rfl (Nat.le_of_ble_eq_true rfl) (fun A p e s m args below meth c X hr hlk hM ls hl => ?_)
  have hl : lv_has ls 5 [(0, .ref o), (1, .int x1), (2, .int x2), (3, .int x3), (4, .int x4)] := hl
  have hx := X.1
  have hb := X.2.1
  unfold fX0_scaled at hf
  refine lv_iload_n hx hb dX0_scaled_0 rfl (lv_at hl 1 rfl) ?_
  refine lv_iload_n hx hb dX0_scaled_1 rfl (lv_at hl 2 rfl) ?_
  refine lv_iload_n hx hb dX0_scaled_2 rfl (lv_at hl 3 rfl) ?_
  obtain ⟨v_1, h, hf⟩ := ec_bi hf
  refine e_cS (v := .int v_1) (As := [.int x1, .int x2, .int x3]) (rest := []) X (metX0_isSlice l x1 x2 x3 _ h) (va_cwS 3 X.2.2.2.2 gX0_245 rfl rfl rfl hX0_isSlice (rm_le (Nat.le_of_ble_eq_true rfl) (Nat.le_of_ble_eq_true rfl))) rfl hl.1 rfl (Nat.le_of_ble_eq_true rfl) ⟨Nat.zero_le _, Nat.zero_le _⟩ dX0_scaled_3 ?_
  refine lv_if_eq (tgt := 22) hx hb dX0_scaled_6 rfl (fun cnd => ?_) (fun cnd => ?_)
  · have hf := ec_t cnd hf
    exact bX0_scaled_22 X hr hlk  S _ _ _ hf hM (lv_sub hl [0] rfl)
  · have hf := ec_f cnd hf
    refine lv_iload hx hb dX0_scaled_9 (lv_at hl 4 rfl) ?_
    refine lv_i2l hx hb dX0_scaled_11 rfl ?_
    refine lv_lconst (v := 0) hx hb dX0_scaled_12 (by decide) ?_
    refine lv_ldc2 (own := RX0) (v := 3) hx hb X.2.2.2.1 (X.2.2.2.2 _ q645) dX0_scaled_13 ?_
    obtain ⟨v_2, h, hf⟩ := ec_bi hf
    refine e_cS (v := .int v_2) (As := [.long (x4.toInt64), .long (0 : Int64), .long (3 : Int64)]) (rest := []) X (metX0_isIn l (x4.toInt64) (0 : Int64) (3 : Int64) _ h) (va_cwS 3 X.2.2.2.2 gX0_21 rfl rfl rfl hX0_isIn (rm_le (Nat.le_of_ble_eq_true rfl) (Nat.le_of_ble_eq_true rfl))) rfl hl.1 rfl (Nat.le_of_ble_eq_true rfl) ⟨Nat.zero_le _, Nat.zero_le _⟩ dX0_scaled_16 ?_
    refine lv_if_ne (tgt := 26) hx hb dX0_scaled_19 rfl (fun cnd => ?_) (fun cnd => ?_)
    · have hf := ec_t cnd hf
      refine lv_aload_n hx hb dX0_scaled_26 rfl (lv_at hl 0 rfl) ?_
      refine lv_iload_n hx hb dX0_scaled_27 rfl (lv_at hl 1 rfl) ?_
      obtain ⟨v_4, S_3, h, hf⟩ := ec_b2i hf
      refine x_cWi (v := .int v_4) (As := [.int x1]) (rest := []) X hM (metX0_layRounds l D dA o q N S x1 _ _ h) (cwV 1 X.2.2.2.2 gX0_234 rfl rfl rfl hX0_layRounds (rm_le (Nat.le_of_ble_eq_true rfl) (Nat.le_of_ble_eq_true rfl))) rfl hl.1 rfl (Nat.le_of_ble_eq_true rfl) ⟨Nat.zero_le _, Nat.zero_le _⟩ dX0_scaled_28 (fun H locs hM => ?_)
      refine lv_if_ne (tgt := 38) hx hb dX0_scaled_31 rfl (fun cnd => ?_) (fun cnd => ?_)
      · have hf := ec_t cnd hf
        refine lv_aload_n hx hb dX0_scaled_38 rfl (lv_at hl 0 rfl) ?_
        refine lv_iload_n hx hb dX0_scaled_39 rfl (lv_at hl 2 rfl) ?_
        refine lv_iload_n hx hb dX0_scaled_40 rfl (lv_at hl 3 rfl) ?_
        obtain ⟨S_5, h, hf⟩ := ec_bi hf
        refine x_cWv (As := [.int x2, .int x3]) (rest := []) X hM (metX0_laySlices l D dA o q N S_3 x2 x3 _ h) (cwV 2 X.2.2.2.2 gX0_249 rfl rfl rfl hX0_laySlices (rm_le (Nat.le_of_ble_eq_true rfl) (Nat.le_of_ble_eq_true rfl))) rfl hl.1 rfl (Nat.le_of_ble_eq_true rfl) ⟨Nat.zero_le _, Nat.zero_le _⟩ dX0_scaled_41 (fun H locs hM => ?_)
        refine lv_aload_n hx hb dX0_scaled_44 rfl (lv_at hl 0 rfl) ?_
        refine x_get (v := .int (S_5.1 19)) X hM 19 (by decide) q787 rfl rfl dX0_scaled_45 ?_
        refine lv_if_ne (tgt := 55) hx hb dX0_scaled_48 rfl (fun cnd => ?_) (fun cnd => ?_)
        · have hf := ec_t cnd hf
          refine lv_iload hx hb dX0_scaled_55 (lv_at hl 4 rfl) ?_
          refine lv_iconst (v := 2) hx hb dX0_scaled_57 (by decide) ?_
          refine lv_icmp_ge (tgt := 75) hx hb dX0_scaled_58 rfl (fun cnd => ?_) (fun cnd => ?_)
          · have hf := ec_t cnd hf
            refine lv_aload_n hx hb dX0_scaled_75 rfl (lv_at hl 0 rfl) ?_
            refine lv_iload_n hx hb dX0_scaled_76 rfl (lv_at hl 3 rfl) ?_
            obtain ⟨v_6, h, hf⟩ := ec_bi hf
            refine x_cR (v := .long v_6) (As := [.int x3]) (rest := []) X hM (metX0_off l D dA o q S_5 x3 _ h) (cwV 1 X.2.2.2.2 gX0_259 rfl rfl rfl hX0_off (rm_le (Nat.le_of_ble_eq_true rfl) (Nat.le_of_ble_eq_true rfl))) rfl hl.1 rfl (Nat.le_of_ble_eq_true rfl) ⟨Nat.zero_le _, Nat.zero_le _⟩ dX0_scaled_77 ?_
            exact bX0_scaled_80 X hr hlk  S_5 x4 v_6 _ _ _ hf hM (lv_sub hl [0, 4] rfl)
          · have hf := ec_f cnd hf
            refine lv_aload_n hx hb dX0_scaled_61 rfl (lv_at hl 0 rfl) ?_
            refine x_get (v := .int (S_5.1 18)) X hM 18 (by decide) q786 rfl rfl dX0_scaled_62 ?_
            refine lv_i2l hx hb dX0_scaled_65 rfl ?_
            refine lv_aload_n hx hb dX0_scaled_66 rfl (lv_at hl 0 rfl) ?_
            refine x_get (v := .int (S_5.1 9)) X hM 9 (by decide) q777 rfl rfl dX0_scaled_67 ?_
            refine lv_i2l hx hb dX0_scaled_70 rfl ?_
            refine lv_lmul hx hb dX0_scaled_71 ?_
            refine lv_goto (tgt := 80) hx hb dX0_scaled_72 rfl ?_
            exact bX0_scaled_80 X hr hlk  S_5 x4 (((S_5.1 18).toInt64) * ((S_5.1 9).toInt64)) _ _ _ hf hM (lv_sub hl [0, 4] rfl)
        · have hf := ec_f (not_not_intro cnd) hf
          refine lv_ldc2 (own := RX0) (v := -1000000000004) hx hb X.2.2.2.1 (X.2.2.2.2 _ q647) dX0_scaled_51 ?_
          obtain ⟨rfl, rfl⟩ := Prod.mk.inj (Option.some.inj hf)
          exact x_lret X hr hlk hM dX0_scaled_54
      · have hf := ec_f (not_not_intro cnd) hf
        refine lv_ldc2 (own := RX0) (v := -1000000000004) hx hb X.2.2.2.1 (X.2.2.2.2 _ q647) dX0_scaled_34 ?_
        obtain ⟨rfl, rfl⟩ := Prod.mk.inj (Option.some.inj hf)
        exact x_lret X hr hlk hM dX0_scaled_37
    · have hf := ec_f (not_not_intro cnd) hf
      exact bX0_scaled_22 X hr hlk  S _ _ _ hf hM (lv_sub hl [0] rfl)
theorem hX0_scaled : yX0_scaled.cls = RX0 ∧ yX0_scaled.cls ≠ "java/lang/invoke/MethodHandle" ∧ yX0_scaled.cls ≠ "java/lang/invoke/VarHandle" ∧ (parseMethodDescriptor yX0_scaled.desc).map (fun d => d.parameters.length) = some 4 := by decide +kernel

noncomputable def fX0_finest_34 (N : Nat) (S : sX) : Option (Int32 × sX) :=
  some ((-1 : Int32), S)
theorem bX0_finest_34 {N : Nat} (X : CallFix p m c cX0_finest 13 s args lw_all RX0) (hr : meth.sig.returnType = (some .int)) (hlk : meth.locks = false) {res : Int32} {Sr : sX} : ∀ (S : sX) (H : Heap) (locs : List Loc) (ls : Array Slot), fX0_finest_34 N S = some (res, Sr) → XW D dA o q S A s H locs → lv_has ls 13 [(0, .ref o)] → W p l e (rmL 13) s m args below meth c H locs 0 0 (MQ below (XPost D dA o q A (some (.int res)) Sr) args s 0 0 A) (F0 m 34 ls []) := by
  have hx := X.1
  have hb := X.2.1
  intro S H locs ls hf hM hl
  unfold fX0_finest_34 at hf
  refine lv_iconst (v := -1) hx hb dX0_finest_34 (by decide) ?_
  obtain ⟨rfl, rfl⟩ := Prod.mk.inj (Option.some.inj hf)
  exact x_iret X hr hlk hM dX0_finest_35
noncomputable def fX0_finest_131 (N : Nat) (k60 : sX → Int32 → Int32 → Int32 → Int64 → Int64 → Int32 → Option (Int32 × sX)) (S : sX) (x3 : Int32) (x4 : Int32) (x5 : Int32) (x6 : Int64) (x8 : Int64) (x10 : Int32) : Option (Int32 × sX) :=
  ec_lt (x10 + (1 : Int32)) fun x10_8 =>
  k60 S x3 x4 x5 x6 x8 x10_8
theorem bX0_finest_131 {N : Nat} (X : CallFix p m c cX0_finest 13 s args lw_all RX0) (hr : meth.sig.returnType = (some .int)) (hlk : meth.locks = false) {res : Int32} {Sr : sX} {k60 : sX → Int32 → Int32 → Int32 → Int64 → Int64 → Int32 → Option (Int32 × sX)} (Hk60 : ∀ (S : sX) (x3 : Int32) (x4 : Int32) (x5 : Int32) (x6 : Int64) (x8 : Int64) (x10 : Int32) (H : Heap) (locs : List Loc) (ls : Array Slot), k60 S x3 x4 x5 x6 x8 x10 = some (res, Sr) → XW D dA o q S A s H locs → lv_has ls 13 [(0, .ref o), (3, .int x3), (4, .int x4), (5, .int x5), (6, .long x6), (8, .long x8), (10, .int x10)] → W p l e (rmL 13) s m args below meth c H locs 0 0 (MQ below (XPost D dA o q A (some (.int res)) Sr) args s 0 0 A) (F0 m 60 ls [])) : ∀ (S : sX) (x3 : Int32) (x4 : Int32) (x5 : Int32) (x6 : Int64) (x8 : Int64) (x10 : Int32) (H : Heap) (locs : List Loc) (ls : Array Slot), fX0_finest_131 N k60 S x3 x4 x5 x6 x8 x10 = some (res, Sr) → XW D dA o q S A s H locs → lv_has ls 13 [(0, .ref o), (3, .int x3), (4, .int x4), (5, .int x5), (6, .long x6), (8, .long x8), (10, .int x10)] → W p l e (rmL 13) s m args below meth c H locs 0 0 (MQ below (XPost D dA o q A (some (.int res)) Sr) args s 0 0 A) (F0 m 131 ls []) := by
  have hx := X.1
  have hb := X.2.1
  intro S x3 x4 x5 x6 x8 x10 H locs ls hf hM hl
  unfold fX0_finest_131 at hf
  refine e_inc (w := 1) (f := fun v => [(10, .int v), (0, .ref o), (3, .int x3), (4, .int x4), (5, .int x5), (6, .long x6), (8, .long x8)]) hx hb dX0_finest_131 hl (k := 6) rfl (by decide) (by decide) (fun _ => rfl) (fun x10_8 ex ls hl => ?_)
  have hf := ec_lt_i ex hf
  refine lv_goto (tgt := 60) hx hb dX0_finest_134 rfl ?_
  exact Hk60 S x3 x4 x5 x6 x8 x10_8 _ _ _ hf hM (lv_sub hl [1, 2, 3, 4, 5, 6, 0] rfl)
noncomputable def fX0_finest_116 (N : Nat) (k60 : sX → Int32 → Int32 → Int32 → Int64 → Int64 → Int32 → Option (Int32 × sX)) (S : sX) (x3 : Int32) (x4 : Int32) (x10 : Int32) (x11 : Int64) : Option (Int32 × sX) :=
  ec_lt ((S.1 19).toInt64) fun x8_9 =>
  fX0_finest_131 N k60 S x3 x4 x10 x11 x8_9 x10
theorem bX0_finest_116 {N : Nat} (X : CallFix p m c cX0_finest 13 s args lw_all RX0) (hr : meth.sig.returnType = (some .int)) (hlk : meth.locks = false) {res : Int32} {Sr : sX} {k60 : sX → Int32 → Int32 → Int32 → Int64 → Int64 → Int32 → Option (Int32 × sX)} (Hk60 : ∀ (S : sX) (x3 : Int32) (x4 : Int32) (x5 : Int32) (x6 : Int64) (x8 : Int64) (x10 : Int32) (H : Heap) (locs : List Loc) (ls : Array Slot), k60 S x3 x4 x5 x6 x8 x10 = some (res, Sr) → XW D dA o q S A s H locs → lv_has ls 13 [(0, .ref o), (3, .int x3), (4, .int x4), (5, .int x5), (6, .long x6), (8, .long x8), (10, .int x10)] → W p l e (rmL 13) s m args below meth c H locs 0 0 (MQ below (XPost D dA o q A (some (.int res)) Sr) args s 0 0 A) (F0 m 60 ls [])) : ∀ (S : sX) (x3 : Int32) (x4 : Int32) (x10 : Int32) (x11 : Int64) (H : Heap) (locs : List Loc) (ls : Array Slot), fX0_finest_116 N k60 S x3 x4 x10 x11 = some (res, Sr) → XW D dA o q S A s H locs → lv_has ls 13 [(0, .ref o), (3, .int x3), (4, .int x4), (10, .int x10), (11, .long x11)] → W p l e (rmL 13) s m args below meth c H locs 0 0 (MQ below (XPost D dA o q A (some (.int res)) Sr) args s 0 0 A) (F0 m 116 ls []) := by
  have hx := X.1
  have hb := X.2.1
  intro S x3 x4 x10 x11 H locs ls hf hM hl
  unfold fX0_finest_116 at hf
  refine lv_iload hx hb dX0_finest_116 (lv_at hl 3 rfl) ?_
  refine lv_istore (lv' := [(5, .int x10), (0, .ref o), (3, .int x3), (4, .int x4), (10, .int x10), (11, .long x11)]) hx hb dX0_finest_118 hl (by decide) rfl (fun ls hl => ?_)
  refine lv_lload hx hb dX0_finest_120 (lv_at hl 5 rfl) ?_
  refine lv_lstore (lv' := [(6, .long x11), (5, .int x10), (0, .ref o), (3, .int x3), (4, .int x4), (10, .int x10), (11, .long x11)]) hx hb dX0_finest_122 hl (by decide) rfl (fun ls hl => ?_)
  refine lv_aload_n hx hb dX0_finest_124 rfl (lv_at hl 2 rfl) ?_
  refine x_get (v := .int (S.1 19)) X hM 19 (by decide) q787 rfl rfl dX0_finest_125 ?_
  refine lv_i2l hx hb dX0_finest_128 rfl ?_
  refine lv_topl (fun x8_9 ex => ?_)
  have hf := ec_lt_i ex hf
  refine lv_lstore (lv' := [(8, .long x8_9), (6, .long x11), (5, .int x10), (0, .ref o), (3, .int x3), (4, .int x4), (10, .int x10), (11, .long x11)]) hx hb dX0_finest_129 hl (by decide) rfl (fun ls hl => ?_)
  exact bX0_finest_131 X hr hlk Hk60 S x3 x4 x10 x11 x8_9 x10 _ _ _ hf hM (lv_sub hl [3, 4, 5, 2, 1, 0, 6] rfl)
noncomputable def fX0_finest_60 (N : Nat) (kx137 : sX → Int32 → Option (Int32 × sX)) : Nat → sX → Int32 → Int32 → Int32 → Int64 → Int64 → Int32 → Option (Int32 × sX)
  | 0, _, _, _, _, _, _, _ => none
  | n + 1, S, x3, x4, x5, x6, x8, x10 =>
    if x3 < x10 then (
      kx137 S x5)
    else (
      (fX0_laySlices N S x10 x4).bind fun S_5 =>
      (fX0_off S_5 x4).bind fun v_6 =>
      ec_lt (if 0 < v_6 then v_6 else -v_6) fun x11_7 =>
      if (S_5.1 19) ≤ 0 then (
        fX0_finest_131 N (fX0_finest_60 N kx137 n) S_5 x3 x4 x5 x6 x8 x10)
      else (
        if x5 = (-4 : Int32) then (
          fX0_finest_116 N (fX0_finest_60 N kx137 n) S_5 x3 x4 x10 x11_7)
        else (
          if 0 ≤ (lg_cmp (x11_7 * x8) (x6 * ((S_5.1 19).toInt64))) then (
            fX0_finest_131 N (fX0_finest_60 N kx137 n) S_5 x3 x4 x5 x6 x8 x10)
          else (
            fX0_finest_116 N (fX0_finest_60 N kx137 n) S_5 x3 x4 x10 x11_7))))
theorem bX0_finest_60 {N : Nat} (X : CallFix p m c cX0_finest 13 s args lw_all RX0) (hr : meth.sig.returnType = (some .int)) (hlk : meth.locks = false) {res : Int32} {Sr : sX} {kx137 : sX → Int32 → Option (Int32 × sX)} (Hkx137 : ∀ (S : sX) (x5 : Int32) (H : Heap) (locs : List Loc) (ls : Array Slot), kx137 S x5 = some (res, Sr) → XW D dA o q S A s H locs → lv_has ls 13 [(0, .ref o), (5, .int x5)] → W p l e (rmL 13) s m args below meth c H locs 0 0 (MQ below (XPost D dA o q A (some (.int res)) Sr) args s 0 0 A) (F0 m 137 ls [])) : ∀ (n : Nat) (S : sX) (x3 : Int32) (x4 : Int32) (x5 : Int32) (x6 : Int64) (x8 : Int64) (x10 : Int32) (H : Heap) (locs : List Loc) (ls : Array Slot), fX0_finest_60 N kx137 n S x3 x4 x5 x6 x8 x10 = some (res, Sr) → XW D dA o q S A s H locs → lv_has ls 13 [(0, .ref o), (3, .int x3), (4, .int x4), (5, .int x5), (6, .long x6), (8, .long x8), (10, .int x10)] → W p l e (rmL 13) s m args below meth c H locs 0 0 (MQ below (XPost D dA o q A (some (.int res)) Sr) args s 0 0 A) (F0 m 60 ls []) := by
  have hx := X.1
  have hb := X.2.1
  intro n
  induction n with
  | zero =>
    intro S x3 x4 x5 x6 x8 x10 H locs ls hf hM hl
    rw [fX0_finest_60] at hf
    cases hf
  | succ n ih =>
    intro S x3 x4 x5 x6 x8 x10 H locs ls hf hM hl
    rw [fX0_finest_60] at hf
    refine lv_iload hx hb dX0_finest_60 (lv_at hl 6 rfl) ?_
    refine lv_iload_n hx hb dX0_finest_62 rfl (lv_at hl 1 rfl) ?_
    refine lv_icmp_gt (tgt := 137) hx hb dX0_finest_63 rfl (fun cnd => ?_) (fun cnd => ?_)
    · have hf := ec_t cnd hf
      exact Hkx137 S x5 _ _ _ hf hM (lv_sub hl [0, 3] rfl)
    · have hf := ec_f cnd hf
      refine lv_aload_n hx hb dX0_finest_66 rfl (lv_at hl 0 rfl) ?_
      refine lv_iload hx hb dX0_finest_67 (lv_at hl 6 rfl) ?_
      refine lv_iload hx hb dX0_finest_69 (lv_at hl 2 rfl) ?_
      obtain ⟨S_5, h, hf⟩ := ec_bi hf
      refine x_cWv (As := [.int x10, .int x4]) (rest := []) X hM (metX0_laySlices l D dA o q N S x10 x4 _ h) (cwV 2 X.2.2.2.2 gX0_249 rfl rfl rfl hX0_laySlices (rm_le (Nat.le_of_ble_eq_true rfl) (Nat.le_of_ble_eq_true rfl))) rfl hl.1 rfl (Nat.le_of_ble_eq_true rfl) ⟨Nat.zero_le _, Nat.zero_le _⟩ dX0_finest_71 (fun H locs hM => ?_)
      refine lv_aload_n hx hb dX0_finest_74 rfl (lv_at hl 0 rfl) ?_
      refine lv_iload hx hb dX0_finest_75 (lv_at hl 2 rfl) ?_
      obtain ⟨v_6, h, hf⟩ := ec_bi hf
      refine x_cR (v := .long v_6) (As := [.int x4]) (rest := []) X hM (metX0_off l D dA o q S_5 x4 _ h) (cwV 1 X.2.2.2.2 gX0_259 rfl rfl rfl hX0_off (rm_le (Nat.le_of_ble_eq_true rfl) (Nat.le_of_ble_eq_true rfl))) rfl hl.1 rfl (Nat.le_of_ble_eq_true rfl) ⟨Nat.zero_le _, Nat.zero_le _⟩ dX0_finest_77 ?_
      refine va_mabs_long (own := RX0) hx hb (X.2.2.1.trans hl.1.symm) X.2.2.2.1 (X.2.2.2.2 _ q493) (X.2.2.2.2 _ q494) (X.2.2.2.2 _ q79) (X.2.2.2.2 _ q495) (Nat.le_of_ble_eq_true rfl) (Nat.le_of_ble_eq_true rfl) (Nat.zero_le _) (Nat.zero_le _) dX0_finest_80 ?_
      refine lv_topl (fun x11_7 ex => ?_)
      have hf := ec_lt_i ex hf
      refine lv_lstore (lv' := [(11, .long x11_7), (0, .ref o), (3, .int x3), (4, .int x4), (5, .int x5), (6, .long x6), (8, .long x8), (10, .int x10)]) hx hb dX0_finest_83 hl (by decide) rfl (fun ls hl => ?_)
      refine lv_aload_n hx hb dX0_finest_85 rfl (lv_at hl 1 rfl) ?_
      refine x_get (v := .int (S_5.1 19)) X hM 19 (by decide) q787 rfl rfl dX0_finest_86 ?_
      refine lv_if_le (tgt := 131) hx hb dX0_finest_89 rfl (fun cnd => ?_) (fun cnd => ?_)
      · have hf := ec_t cnd hf
        exact bX0_finest_131 X hr hlk ih S_5 x3 x4 x5 x6 x8 x10 _ _ _ hf hM (lv_sub hl [1, 2, 3, 4, 5, 6, 7] rfl)
      · have hf := ec_f cnd hf
        refine lv_iload hx hb dX0_finest_92 (lv_at hl 4 rfl) ?_
        refine lv_bipush (v := -4) hx hb dX0_finest_94 (by decide) ?_
        refine lv_icmp_eq (tgt := 116) hx hb dX0_finest_96 rfl (fun cnd => ?_) (fun cnd => ?_)
        · have hf := ec_t cnd hf
          exact bX0_finest_116 X hr hlk ih S_5 x3 x4 x10 x11_7 _ _ _ hf hM (lv_sub hl [1, 2, 3, 7, 0] rfl)
        · have hf := ec_f cnd hf
          refine lv_lload hx hb dX0_finest_99 (lv_at hl 0 rfl) ?_
          refine lv_lload hx hb dX0_finest_101 (lv_at hl 6 rfl) ?_
          refine lv_lmul hx hb dX0_finest_103 ?_
          refine lv_lload hx hb dX0_finest_104 (lv_at hl 5 rfl) ?_
          refine lv_aload_n hx hb dX0_finest_106 rfl (lv_at hl 1 rfl) ?_
          refine x_get (v := .int (S_5.1 19)) X hM 19 (by decide) q787 rfl rfl dX0_finest_107 ?_
          refine lv_i2l hx hb dX0_finest_110 rfl ?_
          refine lv_lmul hx hb dX0_finest_111 ?_
          refine W.lcmp hx hb dX0_finest_112 ?_
          refine lv_if_ge (tgt := 131) hx hb dX0_finest_113 rfl (fun cnd => ?_) (fun cnd => ?_)
          · have hf := ec_t cnd hf
            exact bX0_finest_131 X hr hlk ih S_5 x3 x4 x5 x6 x8 x10 _ _ _ hf hM (lv_sub hl [1, 2, 3, 4, 5, 6, 7] rfl)
          · have hf := ec_f cnd hf
            exact bX0_finest_116 X hr hlk ih S_5 x3 x4 x10 x11_7 _ _ _ hf hM (lv_sub hl [1, 2, 3, 7, 0] rfl)
noncomputable def fX0_finest (N : Nat) (S : sX) (x1 : Int32) (x2 : Int32) (x3 : Int32) (x4 : Int32) : Option (Int32 × sX) :=
  (fX0_isSlice x1 x2 x4).bind fun v_1 =>
  if v_1 = 0 then (
    fX0_finest_34 N S)
  else (
    (fX0_isIn (x3.toInt64) (x2.toInt64) ((if ((x2 + (200 : Int32)) - (1 : Int32)) < (999 : Int32) then ((x2 + (200 : Int32)) - (1 : Int32)) else (999 : Int32)).toInt64)).bind fun v_2 =>
    if ¬ v_2 = 0 then (
      ec_b2 (fX0_layRounds N S x1) fun v_4 S_3 =>
      if ¬ v_4 = 0 then (
        fX0_finest_60 N (fun S_10 x5_11 =>
          some (x5_11, S_10)) N S_3 x3 x4 (-4 : Int32) (0 : Int64) (1 : Int64) x2)
      else (
        some ((-4 : Int32), S_3)))
    else (
      fX0_finest_34 N S))
theorem metX0_finest (l : Launch) (D : va_G) (dA : Nat → ClassId) (o : Nat) (q : Nat → Nat) (N : Nat) (S : sX) (x1 : Int32) (x2 : Int32) (x3 : Int32) (x4 : Int32) (res : Int32) (Sr : sX) (hf : fX0_finest N S x1 x2 x3 x4 = some (res, Sr)) : Met l yX0_finest (ws_ yX0_finest cX0_finest 13 (some .int)) (rmL 13) (XPre D dA o q S [.int x1, .int x2, .int x3, .int x4]) (XPost D dA o q (XA o q S.2.2.2) (some (.int res)) Sr) 0 0 (XA o q S.2.2.2) := by
  refine x_ofW rfl (Nat.le_of_ble_eq_true rfl) (fun A p e s m args below meth c X hr hlk hM ls hl => ?_)
  have hl : lv_has ls 13 [(0, .ref o), (1, .int x1), (2, .int x2), (3, .int x3), (4, .int x4)] := hl
  have hx := X.1
  have hb := X.2.1
  unfold fX0_finest at hf
  refine lv_iload_n hx hb dX0_finest_0 rfl (lv_at hl 1 rfl) ?_
  refine lv_iload_n hx hb dX0_finest_1 rfl (lv_at hl 2 rfl) ?_
  refine lv_iload hx hb dX0_finest_2 (lv_at hl 4 rfl) ?_
  obtain ⟨v_1, h, hf⟩ := ec_bi hf
  refine e_cS (v := .int v_1) (As := [.int x1, .int x2, .int x4]) (rest := []) X (metX0_isSlice l x1 x2 x4 _ h) (va_cwS 3 X.2.2.2.2 gX0_245 rfl rfl rfl hX0_isSlice (rm_le (Nat.le_of_ble_eq_true rfl) (Nat.le_of_ble_eq_true rfl))) rfl hl.1 rfl (Nat.le_of_ble_eq_true rfl) ⟨Nat.zero_le _, Nat.zero_le _⟩ dX0_finest_4 ?_
  refine lv_if_eq (tgt := 34) hx hb dX0_finest_7 rfl (fun cnd => ?_) (fun cnd => ?_)
  · have hf := ec_t cnd hf
    exact bX0_finest_34 X hr hlk  S _ _ _ hf hM (lv_sub hl [0] rfl)
  · have hf := ec_f cnd hf
    refine lv_iload_n hx hb dX0_finest_10 rfl (lv_at hl 3 rfl) ?_
    refine lv_i2l hx hb dX0_finest_11 rfl ?_
    refine lv_iload_n hx hb dX0_finest_12 rfl (lv_at hl 2 rfl) ?_
    refine lv_i2l hx hb dX0_finest_13 rfl ?_
    refine lv_sipush (v := 999) hx hb dX0_finest_14 (by decide) ?_
    refine lv_iload_n hx hb dX0_finest_17 rfl (lv_at hl 2 rfl) ?_
    refine lv_sipush (v := 200) hx hb dX0_finest_18 (by decide) ?_
    refine lv_iadd hx hb dX0_finest_21 ?_
    refine lv_iconst (v := 1) hx hb dX0_finest_22 (by decide) ?_
    refine lv_isub hx hb dX0_finest_23 ?_
    refine va_mmin (own := RX0) hx hb (X.2.2.1.trans hl.1.symm) X.2.2.2.1 (X.2.2.2.2 _ q626) (X.2.2.2.2 _ q627) (X.2.2.2.2 _ q79) (X.2.2.2.2 _ q628) (Nat.le_of_ble_eq_true rfl) (Nat.le_of_ble_eq_true rfl) (Nat.zero_le _) (Nat.zero_le _) dX0_finest_24 ?_
    refine lv_i2l hx hb dX0_finest_27 rfl ?_
    obtain ⟨v_2, h, hf⟩ := ec_bi hf
    refine e_cS (v := .int v_2) (As := [.long (x3.toInt64), .long (x2.toInt64), .long ((if ((x2 + (200 : Int32)) - (1 : Int32)) < (999 : Int32) then ((x2 + (200 : Int32)) - (1 : Int32)) else (999 : Int32)).toInt64)]) (rest := []) X (metX0_isIn l (x3.toInt64) (x2.toInt64) ((if ((x2 + (200 : Int32)) - (1 : Int32)) < (999 : Int32) then ((x2 + (200 : Int32)) - (1 : Int32)) else (999 : Int32)).toInt64) _ h) (va_cwS 3 X.2.2.2.2 gX0_21 rfl rfl rfl hX0_isIn (rm_le (Nat.le_of_ble_eq_true rfl) (Nat.le_of_ble_eq_true rfl))) rfl hl.1 rfl (Nat.le_of_ble_eq_true rfl) ⟨Nat.zero_le _, Nat.zero_le _⟩ dX0_finest_28 ?_
    refine lv_if_ne (tgt := 36) hx hb dX0_finest_31 rfl (fun cnd => ?_) (fun cnd => ?_)
    · have hf := ec_t cnd hf
      refine lv_aload_n hx hb dX0_finest_36 rfl (lv_at hl 0 rfl) ?_
      refine lv_iload_n hx hb dX0_finest_37 rfl (lv_at hl 1 rfl) ?_
      obtain ⟨v_4, S_3, h, hf⟩ := ec_b2i hf
      refine x_cWi (v := .int v_4) (As := [.int x1]) (rest := []) X hM (metX0_layRounds l D dA o q N S x1 _ _ h) (cwV 1 X.2.2.2.2 gX0_234 rfl rfl rfl hX0_layRounds (rm_le (Nat.le_of_ble_eq_true rfl) (Nat.le_of_ble_eq_true rfl))) rfl hl.1 rfl (Nat.le_of_ble_eq_true rfl) ⟨Nat.zero_le _, Nat.zero_le _⟩ dX0_finest_38 (fun H locs hM => ?_)
      refine lv_if_ne (tgt := 47) hx hb dX0_finest_41 rfl (fun cnd => ?_) (fun cnd => ?_)
      · have hf := ec_t cnd hf
        refine lv_bipush (v := -4) hx hb dX0_finest_47 (by decide) ?_
        refine lv_istore (lv' := [(5, .int (-4 : Int32)), (0, .ref o), (1, .int x1), (2, .int x2), (3, .int x3), (4, .int x4)]) hx hb dX0_finest_49 hl (by decide) rfl (fun ls hl => ?_)
        refine lv_lconst (v := 0) hx hb dX0_finest_51 (by decide) ?_
        refine lv_lstore (lv' := [(6, .long (0 : Int64)), (5, .int (-4 : Int32)), (0, .ref o), (1, .int x1), (2, .int x2), (3, .int x3), (4, .int x4)]) hx hb dX0_finest_52 hl (by decide) rfl (fun ls hl => ?_)
        refine lv_lconst (v := 1) hx hb dX0_finest_54 (by decide) ?_
        refine lv_lstore (lv' := [(8, .long (1 : Int64)), (6, .long (0 : Int64)), (5, .int (-4 : Int32)), (0, .ref o), (1, .int x1), (2, .int x2), (3, .int x3), (4, .int x4)]) hx hb dX0_finest_55 hl (by decide) rfl (fun ls hl => ?_)
        refine lv_iload_n hx hb dX0_finest_57 rfl (lv_at hl 5 rfl) ?_
        refine lv_istore (lv' := [(10, .int x2), (8, .long (1 : Int64)), (6, .long (0 : Int64)), (5, .int (-4 : Int32)), (0, .ref o), (1, .int x1), (2, .int x2), (3, .int x3), (4, .int x4)]) hx hb dX0_finest_58 hl (by decide) rfl (fun ls hl => ?_)
        exact bX0_finest_60 X hr hlk (fun S_10 x5_11 H locs ls hf hM hl => by
          refine lv_iload hx hb dX0_finest_137 (lv_at hl 1 rfl) ?_
          obtain ⟨rfl, rfl⟩ := Prod.mk.inj (Option.some.inj hf)
          exact x_iret X hr hlk hM dX0_finest_139) N S_3 x3 x4 (-4 : Int32) (0 : Int64) (1 : Int64) x2 _ _ _ hf hM (lv_sub hl [4, 7, 8, 3, 2, 1, 0] rfl)
      · have hf := ec_f (not_not_intro cnd) hf
        refine lv_bipush (v := -4) hx hb dX0_finest_44 (by decide) ?_
        obtain ⟨rfl, rfl⟩ := Prod.mk.inj (Option.some.inj hf)
        exact x_iret X hr hlk hM dX0_finest_46
    · have hf := ec_f (not_not_intro cnd) hf
      exact bX0_finest_34 X hr hlk  S _ _ _ hf hM (lv_sub hl [0] rfl)
theorem hX0_finest : yX0_finest.cls = RX0 ∧ yX0_finest.cls ≠ "java/lang/invoke/MethodHandle" ∧ yX0_finest.cls ≠ "java/lang/invoke/VarHandle" ∧ (parseMethodDescriptor yX0_finest.desc).map (fun d => d.parameters.length) = some 4 := by decide +kernel

noncomputable def fX0_apart_5 (N : Nat) (S : sX) (kx57 : Int64 → Option Int64) : Nat → Int32 → Int64 → Int32 → Option Int64
  | 0, _, _, _ => none
  | n + 1, x1, x2, x4 =>
    if (S.1 4) ≤ x4 then (
      kx57 x2)
    else (
      (ec_ag (S.2.1 20) 16 x4).bind fun v_1 =>
      (ec_ag (S.2.1 10) 8 x1).bind fun v_2 =>
      (fX0_made S x4 x1).bind fun v_3 =>
      ec_lt (x2 + (if 0 < (((v_1.toInt64) * (v_2.toInt64)) - ((v_3.toInt64) * ((S.1 21).toInt64))) then (((v_1.toInt64) * (v_2.toInt64)) - ((v_3.toInt64) * ((S.1 21).toInt64))) else -(((v_1.toInt64) * (v_2.toInt64)) - ((v_3.toInt64) * ((S.1 21).toInt64))))) fun x2_4 =>
      ec_lt (x4 + (1 : Int32)) fun x4_5 =>
      (fX0_apart_5 N S kx57 n) x1 x2_4 x4_5)
theorem bX0_apart_5 {N : Nat} (X : CallFix p m c cX0_apart 5 s args lw_all RX0) (hr : meth.sig.returnType = (some .long)) (hlk : meth.locks = false) {S : sX} (hM : XW D dA o q S A s s.heap []) {res : Int64} {kx57 : Int64 → Option Int64} (Hkx57 : ∀ (x2 : Int64) (ls : Array Slot), kx57 x2 = some res → lv_has ls 5 [(0, .ref o), (2, .long x2)] → W p l e (rmL 1) s m args below meth c s.heap [] 0 0 (MQ below (k2_QcV (.long res)) args s 0 0 (fun _ => False)) (F0 m 57 ls [])) : ∀ (n : Nat) (x1 : Int32) (x2 : Int64) (x4 : Int32) (ls : Array Slot), fX0_apart_5 N S kx57 n x1 x2 x4 = some res → lv_has ls 5 [(0, .ref o), (1, .int x1), (2, .long x2), (4, .int x4)] → W p l e (rmL 1) s m args below meth c s.heap [] 0 0 (MQ below (k2_QcV (.long res)) args s 0 0 (fun _ => False)) (F0 m 5 ls []) := by
  have hx := X.1
  have hb := X.2.1
  intro n
  induction n with
  | zero =>
    intro x1 x2 x4 ls hf hl
    rw [fX0_apart_5] at hf
    cases hf
  | succ n ih =>
    intro x1 x2 x4 ls hf hl
    rw [fX0_apart_5] at hf
    refine lv_iload hx hb dX0_apart_5 (lv_at hl 3 rfl) ?_
    refine lv_aload_n hx hb dX0_apart_7 rfl (lv_at hl 0 rfl) ?_
    refine x_get (v := .int (S.1 4)) X hM 4 (by decide) q772 rfl rfl dX0_apart_8 ?_
    refine lv_icmp_ge (tgt := 57) hx hb dX0_apart_11 rfl (fun cnd => ?_) (fun cnd => ?_)
    · have hf := ec_t cnd hf
      exact Hkx57 x2 _ hf (lv_sub hl [0, 2] rfl)
    · have hf := ec_f cnd hf
      refine lv_lload_n hx hb dX0_apart_14 rfl (lv_at hl 2 rfl) ?_
      refine lv_aload_n hx hb dX0_apart_15 rfl (lv_at hl 0 rfl) ?_
      refine x_get (v := .ref (q 20)) X hM 20 (by decide) q788 rfl rfl dX0_apart_16 ?_
      refine lv_iload hx hb dX0_apart_19 (lv_at hl 3 rfl) ?_
      obtain ⟨v_1, h, hf⟩ := ec_bi hf
      refine x_iald X hM wxa20 h dX0_apart_21 ?_
      refine lv_i2l hx hb dX0_apart_22 rfl ?_
      refine lv_aload_n hx hb dX0_apart_23 rfl (lv_at hl 0 rfl) ?_
      refine x_get (v := .ref (q 10)) X hM 10 (by decide) q778 rfl rfl dX0_apart_24 ?_
      refine lv_iload_n hx hb dX0_apart_27 rfl (lv_at hl 1 rfl) ?_
      obtain ⟨v_2, h, hf⟩ := ec_bi hf
      refine x_iald X hM wxa10 h dX0_apart_28 ?_
      refine lv_i2l hx hb dX0_apart_29 rfl ?_
      refine lv_lmul hx hb dX0_apart_30 ?_
      refine lv_aload_n hx hb dX0_apart_31 rfl (lv_at hl 0 rfl) ?_
      refine lv_iload hx hb dX0_apart_32 (lv_at hl 3 rfl) ?_
      refine lv_iload_n hx hb dX0_apart_34 rfl (lv_at hl 1 rfl) ?_
      obtain ⟨v_3, h, hf⟩ := ec_bi hf
      refine x_cR (v := .int v_3) (As := [.int x4, .int x1]) (rest := [.long ((v_1.toInt64) * (v_2.toInt64)), .long x2]) X hM (metX0_made l D dA o q S x4 x1 _ h) (cwV 2 X.2.2.2.2 gX0_163 rfl rfl rfl hX0_made (rm_le (Nat.le_of_ble_eq_true rfl) (Nat.le_of_ble_eq_true rfl))) rfl hl.1 rfl (Nat.le_of_ble_eq_true rfl) ⟨Nat.zero_le _, Nat.zero_le _⟩ dX0_apart_35 ?_
      refine lv_i2l hx hb dX0_apart_38 rfl ?_
      refine lv_aload_n hx hb dX0_apart_39 rfl (lv_at hl 0 rfl) ?_
      refine x_get (v := .int (S.1 21)) X hM 21 (by decide) q789 rfl rfl dX0_apart_40 ?_
      refine lv_i2l hx hb dX0_apart_43 rfl ?_
      refine lv_lmul hx hb dX0_apart_44 ?_
      refine lv_lsub hx hb dX0_apart_45 ?_
      refine va_mabs_long (own := RX0) hx hb (X.2.2.1.trans hl.1.symm) X.2.2.2.1 (X.2.2.2.2 _ q493) (X.2.2.2.2 _ q494) (X.2.2.2.2 _ q79) (X.2.2.2.2 _ q495) (Nat.le_of_ble_eq_true rfl) (Nat.le_of_ble_eq_true rfl) (Nat.zero_le _) (Nat.zero_le _) dX0_apart_46 ?_
      refine lv_ladd hx hb dX0_apart_49 ?_
      refine lv_topl (fun x2_4 ex => ?_)
      have hf := ec_lt_i ex hf
      refine lv_lstore_n (lv' := [(2, .long x2_4), (0, .ref o), (1, .int x1), (4, .int x4)]) hx hb dX0_apart_50 rfl hl (by decide) rfl (fun ls hl => ?_)
      refine e_inc (w := 1) (f := fun v => [(4, .int v), (2, .long x2_4), (0, .ref o), (1, .int x1)]) hx hb dX0_apart_51 hl (k := 3) rfl (by decide) (by decide) (fun _ => rfl) (fun x4_5 ex ls hl => ?_)
      have hf := ec_lt_i ex hf
      refine lv_goto (tgt := 5) hx hb dX0_apart_54 rfl ?_
      exact ih x1 x2_4 x4_5 _ hf (lv_sub hl [2, 3, 1, 0] rfl)
noncomputable def fX0_apart (N : Nat) (S : sX) (x1 : Int32) : Option Int64 :=
  fX0_apart_5 N S (fun x2_6 =>
    some x2_6) N x1 (0 : Int64) (0 : Int32)
theorem metX0_apart (l : Launch) (D : va_G) (dA : Nat → ClassId) (o : Nat) (q : Nat → Nat) (N : Nat) (S : sX) (x1 : Int32) (res : Int64) (hf : fX0_apart N S x1 = some res) : Met l yX0_apart (ws_ yX0_apart cX0_apart 5 (some .long)) (rmL 1) (XPre D dA o q S [.int x1]) (k2_QcV (.long res)) 0 0 (fun _ => False) := by
  refine x_ofR rfl (Nat.le_of_ble_eq_true rfl) (fun p e s m args below meth c X hr hlk hM ls hl => ?_)
  have hl : lv_has ls 5 [(0, .ref o), (1, .int x1)] := hl
  have hx := X.1
  have hb := X.2.1
  unfold fX0_apart at hf
  refine lv_lconst (v := 0) hx hb dX0_apart_0 (by decide) ?_
  refine lv_lstore_n (lv' := [(2, .long (0 : Int64)), (0, .ref o), (1, .int x1)]) hx hb dX0_apart_1 rfl hl (by decide) rfl (fun ls hl => ?_)
  refine lv_iconst (v := 0) hx hb dX0_apart_2 (by decide) ?_
  refine lv_istore (lv' := [(4, .int (0 : Int32)), (2, .long (0 : Int64)), (0, .ref o), (1, .int x1)]) hx hb dX0_apart_3 hl (by decide) rfl (fun ls hl => ?_)
  exact bX0_apart_5 X hr hlk hM (fun x2_6 ls hf hl => by
    refine lv_lload_n hx hb dX0_apart_57 rfl (lv_at hl 1 rfl) ?_
    obtain rfl := Option.some.inj hf
    exact e_lretR hx hb hr hlk dX0_apart_58) N x1 (0 : Int64) (0 : Int32) _ hf (lv_sub hl [2, 3, 1, 0] rfl)
theorem hX0_apart : yX0_apart.cls = RX0 ∧ yX0_apart.cls ≠ "java/lang/invoke/MethodHandle" ∧ yX0_apart.cls ≠ "java/lang/invoke/VarHandle" ∧ (parseMethodDescriptor yX0_apart.desc).map (fun d => d.parameters.length) = some 1 := by decide +kernel
end
