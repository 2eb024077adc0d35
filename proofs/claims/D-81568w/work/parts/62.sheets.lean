set_option maxRecDepth 100000
noncomputable def fX0_cell (Qt : hH → Prop) (Qr : Int32 → hH → Prop) (S : hH) (bc bk : Nat) (x0 : Option Nat) (x1 x2 : Int32) : Prop :=
  ∃ (a n : Nat) (f : Nat → Int32), x0 = some a ∧ S a = some (.inl ((if x1 = 0 then 2 else if x1 = 1 then 3 else 0), n, .inl f)) ∧ n < 2 ^ 31 ∧ ((x2 < 0 ∨ n ≤ x2.toNatClampNeg) → 3 ≤ bc ∧ 222 ≤ bk ∧ Qt S) ∧ (¬ (x2 < 0 ∨ n ≤ x2.toNatClampNeg) → Qr (f x2.toNatClampNeg) S)
theorem metX0_cell (l : Launch) (D : va_G) (dA : Nat → ClassId) (K : oK) (htr : ∀ e : Env, l.admits e → e.platform.stackTraces = false) (cE : ClassId) (Qt : hH → Prop) (Qr : Int32 → hH → Prop) (S : hH) (bc bk : Nat) (x0 : Option Nat) (x1 x2 : Int32) {sz : Nat} (hf : fX0_cell Qt Qr S bc bk x0 x1 x2) : MetT l yX0_cell (ws_ yX0_cell cX0_cell 3 (some .int)) (rmE 10 bc bk) (UPre D dA K "java/lang/ArrayIndexOutOfBoundsException" cE sz S [va_rf x0, .int x1, .int x2]) (UPost D dA cE (NA S sz) (nqI Qr) Qt) bc bk (NA S sz) := by
  obtain ⟨a, n, f, rfl, ha, hn, ho, hi⟩ := hf
  refine u_ofW (own := RX0) htr rfl (by decide) (Nat.le_of_ble_eq_true rfl) (fun A p e s m args below meth c X hr hlk hne hE hcE hM ls hl => ?_)
  have hl : lv_has ls 3 [(0, .ref a), (1, .int x1), (2, .int x2)] := hl
  have hx := X.1
  have hb := X.2.1
  refine lv_iload_n hx hb dX0_cell_0 rfl (lv_at hl 1 rfl) ?_
  refine lv_if_ne (tgt := 13) hx hb dX0_cell_1 rfl (fun cnd => ?_) (fun cnd => ?_)
  rotate_left
  · have cnd : x1 = 0 := cnd
    rw [if_pos cnd] at ha
    refine lv_aload_n hx hb dX0_cell_4 rfl (lv_at hl 0 rfl) ?_
    refine va_castE hx hb X.2.2.2.1 (X.2.2.2.2 _ q936) (rt_cell hM ha (by decide)) dX0_cell_5 ?_
    refine lv_iload_n hx hb dX0_cell_8 rfl (lv_at hl 2 rfl) ?_
    by_cases hout : x2 < 0 ∨ n ≤ x2.toNatClampNeg
    · obtain ⟨hb1, hb2, hq⟩ := ho hout
      exact u_throw (names := ["java/lang/IndexOutOfBoundsException", "java/lang/RuntimeException", "java/lang/Exception"]) (rest := []) X hM hE hcE hl.1 (th_bald X hM ha hout hn dX0_cell_9) fit_ai (at_aioobe X.2.2.2.2 hM.2.1 hE.2.1 hE.2.2.1) (by decide) (Nat.le_of_ble_eq_true rfl) (Nat.le_of_ble_eq_true rfl) (by show 0 + 3 ≤ bc; omega) (by show 0 + (212 + 10) ≤ bk; omega) hne hlk (by omega) (by omega) hq
    refine e_bald X hM ha hout dX0_cell_9 ?_
    refine lv_goto (tgt := 33) hx hb dX0_cell_10 rfl ?_
    exact u_iret X hr hlk hM (Nat.zero_le _) (Nat.zero_le _) (hi hout) dX0_cell_33
  
  rw [if_neg cnd] at ha
  refine lv_iload_n hx hb dX0_cell_13 rfl (lv_at hl 1 rfl) ?_
  refine lv_iconst (v := 1) hx hb dX0_cell_14 (by decide) ?_
  refine lv_icmp_ne (tgt := 27) hx hb dX0_cell_15 rfl (fun cnd2 => ?_) (fun cnd2 => ?_)
  rotate_left
  · have cnd2 : x1 = 1 := cnd2
    rw [if_pos cnd2] at ha
    refine lv_aload_n hx hb dX0_cell_18 rfl (lv_at hl 0 rfl) ?_
    refine va_castE hx hb X.2.2.2.1 (X.2.2.2.2 _ q937) (rt_cell hM ha (by decide)) dX0_cell_19 ?_
    refine lv_iload_n hx hb dX0_cell_22 rfl (lv_at hl 2 rfl) ?_
    by_cases hout : x2 < 0 ∨ n ≤ x2.toNatClampNeg
    · obtain ⟨hb1, hb2, hq⟩ := ho hout
      exact u_throw (names := ["java/lang/IndexOutOfBoundsException", "java/lang/RuntimeException", "java/lang/Exception"]) (rest := []) X hM hE hcE hl.1 (th_sald X hM ha hout hn dX0_cell_23) fit_ai (at_aioobe X.2.2.2.2 hM.2.1 hE.2.1 hE.2.2.1) (by decide) (Nat.le_of_ble_eq_true rfl) (Nat.le_of_ble_eq_true rfl) (by show 0 + 3 ≤ bc; omega) (by show 0 + (212 + 10) ≤ bk; omega) hne hlk (by omega) (by omega) hq
    refine e_sald X hM ha hout dX0_cell_23 ?_
    refine lv_goto (tgt := 33) hx hb dX0_cell_24 rfl ?_
    exact u_iret X hr hlk hM (Nat.zero_le _) (Nat.zero_le _) (hi hout) dX0_cell_33
  
  rw [if_neg cnd2] at ha
  refine lv_aload_n hx hb dX0_cell_27 rfl (lv_at hl 0 rfl) ?_
  refine va_castE hx hb X.2.2.2.1 (X.2.2.2.2 _ q938) (rt_cell hM ha (by decide)) dX0_cell_28 ?_
  refine lv_iload_n hx hb dX0_cell_31 rfl (lv_at hl 2 rfl) ?_
  by_cases hout : x2 < 0 ∨ n ≤ x2.toNatClampNeg
  · obtain ⟨hb1, hb2, hq⟩ := ho hout
    exact u_throw (names := ["java/lang/IndexOutOfBoundsException", "java/lang/RuntimeException", "java/lang/Exception"]) (rest := []) X hM hE hcE hl.1 (th_iald X hM ha hout hn dX0_cell_32) fit_ai (at_aioobe X.2.2.2.2 hM.2.1 hE.2.1 hE.2.2.1) (by decide) (Nat.le_of_ble_eq_true rfl) (Nat.le_of_ble_eq_true rfl) (by show 0 + 3 ≤ bc; omega) (by show 0 + (212 + 10) ≤ bk; omega) hne hlk (by omega) (by omega) hq
  refine e_iald X hM ha hout dX0_cell_32 ?_
  exact u_iret X hr hlk hM (Nat.zero_le _) (Nat.zero_le _) (hi hout) dX0_cell_33
theorem hX0_cell : yX0_cell.cls ≠ "java/lang/invoke/MethodHandle" ∧ yX0_cell.cls ≠ "java/lang/invoke/VarHandle" ∧ (parseMethodDescriptor yX0_cell.desc).map (fun d => d.parameters.length) = some 3 := by decide +kernel

noncomputable def fX0_newRow (Qt : hH → Prop) (Qr : Nat → hH → Prop) (S : hH) (bc bk : Nat) (x0 x1 : Int32) : Prop :=
  (x1 < 0 → 3 ≤ bc ∧ 54 ≤ bk ∧ Qt S) ∧ (¬ x1 < 0 → x1.toNatClampNeg * 4 ≤ 536870912 ∧ 1 ≤ bc ∧ x1.toNatClampNeg ≤ bk ∧ ∀ q, S q = none → Qr q (va_up S q (some (.inl ((if x0 = 0 then 2 else if x0 = 1 then 3 else 0), x1.toNatClampNeg, .inl (fun _ => 0))))))
theorem metX0_newRow (l : Launch) (D : va_G) (dA : Nat → ClassId) (K : oK) (htr : ∀ e : Env, l.admits e → e.platform.stackTraces = false) (cE : ClassId) (Qt : hH → Prop) (Qr : Nat → hH → Prop) (S : hH) (bc bk : Nat) (x0 x1 : Int32) {sz : Nat} (hf : fX0_newRow Qt Qr S bc bk x0 x1) : MetT l yX0_newRow (ws_ yX0_newRow cX0_newRow 2 (some (.object "java/lang/Object"))) (rmE 10 bc bk) (UPre D dA K "java/lang/NegativeArraySizeException" cE sz S [.int x0, .int x1]) (UPost D dA cE (NA S sz) (nqR Qr) Qt) bc bk (NA S sz) := by
  obtain ⟨ho, hi⟩ := hf
  refine u_ofW (own := RX0) htr rfl (by decide) (Nat.le_of_ble_eq_true rfl) (fun A p e s m args below meth c X hr hlk hne hE hcE hM ls hl => ?_)
  have hl : lv_has ls 2 [(0, .int x0), (1, .int x1)] := hl
  have hx := X.1
  have hb := X.2.1
  refine lv_iload_n hx hb dX0_newRow_0 rfl (lv_at hl 0 rfl) ?_
  by_cases c0 : x0 = 0
  · rw [if_pos c0] at hi
    refine lv_lookup (off := 27) (tgt := 28) hx hb dX0_newRow_1 (by decide) (by rw [c0]; decide) rfl ?_
    refine lv_iload_n hx hb dX0_newRow_28 rfl (lv_at hl 1 rfl) ?_
    by_cases hneg : x1 < 0
    · obtain ⟨hb1, hb2, hq⟩ := ho hneg
      exact u_throw (names := ["java/lang/RuntimeException", "java/lang/Exception"]) (rest := []) X hM hE hcE hl.1 (th_neg X hneg dX0_newRow_29) fit_na (at_nase X.2.2.2.2 hM.2.1 hE.2.1 hE.2.2.1) (by decide) (Nat.le_of_ble_eq_true rfl) (Nat.le_of_ble_eq_true rfl) (by show 0 + 3 ≤ bc; omega) (by show 0 + (44 + 10) ≤ bk; omega) hne hlk (by omega) (by omega) hq
    obtain ⟨g1, g2, g3, hi⟩ := hi hneg
    refine n_newb X hM hE.1 q223 hneg rfl (by omega) (by show 0 + 1 ≤ bc; omega) (by show 0 + x1.toNatClampNeg ≤ bk; omega) dX0_newRow_29 (fun q H hq hM => ?_)
    exact u_aret X hr hlk hM (by omega) (by omega) (hi q hq) dX0_newRow_31
  
  rw [if_neg c0] at hi
  by_cases c1 : x0 = 1
  · rw [if_pos c1] at hi
    refine lv_lookup (off := 31) (tgt := 32) hx hb dX0_newRow_1 (by decide) (by rw [c1]; decide) rfl ?_
    refine lv_iload_n hx hb dX0_newRow_32 rfl (lv_at hl 1 rfl) ?_
    by_cases hneg : x1 < 0
    · obtain ⟨hb1, hb2, hq⟩ := ho hneg
      exact u_throw (names := ["java/lang/RuntimeException", "java/lang/Exception"]) (rest := []) X hM hE hcE hl.1 (th_neg X hneg dX0_newRow_33) fit_na (at_nase X.2.2.2.2 hM.2.1 hE.2.1 hE.2.2.1) (by decide) (Nat.le_of_ble_eq_true rfl) (Nat.le_of_ble_eq_true rfl) (by show 0 + 3 ≤ bc; omega) (by show 0 + (44 + 10) ≤ bk; omega) hne hlk (by omega) (by omega) hq
    obtain ⟨g1, g2, g3, hi⟩ := hi hneg
    refine n_news X hM hE.1 q887 hneg rfl (by omega) (by show 0 + 1 ≤ bc; omega) (by show 0 + x1.toNatClampNeg ≤ bk; omega) dX0_newRow_33 (fun q H hq hM => ?_)
    exact u_aret X hr hlk hM (by omega) (by omega) (hi q hq) dX0_newRow_35
  
  rw [if_neg c1] at hi
  refine lv_lookup (off := 35) (tgt := 36) hx hb dX0_newRow_1 (by decide) (by
    show Op.lookupswitch.offset [(0, 27), (1, 31)] 35 x0.toInt = 35
    rw [lv_osw (k := 0) c0 (by decide), lv_osw (k := 1) c1 (by decide)]
    rfl) rfl ?_
  refine lv_iload_n hx hb dX0_newRow_36 rfl (lv_at hl 1 rfl) ?_
  by_cases hneg : x1 < 0
  · obtain ⟨hb1, hb2, hq⟩ := ho hneg
    exact u_throw (names := ["java/lang/RuntimeException", "java/lang/Exception"]) (rest := []) X hM hE hcE hl.1 (th_neg X hneg dX0_newRow_37) fit_na (at_nase X.2.2.2.2 hM.2.1 hE.2.1 hE.2.2.1) (by decide) (Nat.le_of_ble_eq_true rfl) (Nat.le_of_ble_eq_true rfl) (by show 0 + 3 ≤ bc; omega) (by show 0 + (44 + 10) ≤ bk; omega) hne hlk (by omega) (by omega) hq
  obtain ⟨g1, g2, g3, hi⟩ := hi hneg
  refine n_newi X hM hE.1 q370 hneg rfl (by omega) (by show 0 + 1 ≤ bc; omega) (by show 0 + x1.toNatClampNeg ≤ bk; omega) dX0_newRow_37 (fun q H hq hM => ?_)
  exact u_aret X hr hlk hM (by omega) (by omega) (hi q hq) dX0_newRow_39
theorem hX0_newRow : yX0_newRow.cls ≠ "java/lang/invoke/MethodHandle" ∧ yX0_newRow.cls ≠ "java/lang/invoke/VarHandle" ∧ (parseMethodDescriptor yX0_newRow.desc).map (fun d => d.parameters.length) = some 2 := by decide +kernel

set_option maxRecDepth 100000
set_option maxHeartbeats 2000000
set_option linter.unusedVariables false
section
variable {p : Program} {l : Launch} {e : Env} {s : State} {m : MethodId} {args : Array Value} {below : List Frame} {meth : Method} {c : Code}
variable {D : va_G} {dA : Nat → ClassId} {o : Nat} {q : Nat → Nat} {A : Nat → Prop}
variable {K : oK}

theorem gX0_325 : GoodIn lw_all (va_wsS RX0 325 yX0_newRow (ws_ yX0_newRow cX0_newRow 2 (some (.object "java/lang/Object")))) := lw_S q884 q885 q60 q886
theorem bX0_sheet_h58 (X : CallFix p m c cX0_sheet 5 s args lw_all RX0) (hr : meth.sig.returnType = (some .int)) (hlk : meth.locks = false) {mc ms : Nat} {Qr : Int32 → sX → Prop} : ∀ (S : sX) (H : Heap) (locs : List Loc) (u w : Nat) (ls : Array Slot) (a : Nat), Qr (-14) S → u ≤ mc → w ≤ ms → XW D dA o q S A s H locs → lv_has ls 5 [(0, .ref o)] → W p l e (rmE 30 mc ms) s m args below meth c H locs u w (MQT below (YPost D dA o q A (yqI Qr)) args s mc ms A) (F0 m 58 ls [.ref a]) := by
  intro S H locs u w ls a hf hu hw hM hl
  refine lv_astore (lv' := [(4, .ref a), (0, .ref o)]) X.1 X.2.1 dX0_sheet_58 hl (by decide) rfl (fun ls hl => ?_)
  refine lv_bipush (v := -14) X.1 X.2.1 dX0_sheet_60 (by decide) ?_
  exact y_iret X hr hlk hM hu hw hf dX0_sheet_62
noncomputable def fX0_sheet_30 (Qr : Int32 → sX → Prop) (S : sX) (bc bk : Nat) : Prop :=
  Qr (-1 : Int32) S
theorem bX0_sheet_30 (X : CallFix p m c cX0_sheet 5 s args lw_all RX0) (hr : meth.sig.returnType = (some .int)) (hlk : meth.locks = false) (htb : c.exceptionTable.toList.map (fun h => (h.startPc, h.endPc, h.handlerPc, h.catchType)) = [(32, 57, 58, 336)]) (hE : EX K A l s) (hRf : ORF K s) {mc ms : Nat} {Qr : Int32 → sX → Prop} : ∀ (S : sX) (bc bk : Nat) (H : Heap) (locs : List Loc) (u w : Nat) (ls : Array Slot), fX0_sheet_30 Qr S bc bk → u + bc = mc → w + bk = ms → XW D dA o q S A s H locs → lv_has ls 5 [(0, .ref o)] → W p l e (rmE 30 mc ms) s m args below meth c H locs u w (MQT below (YPost D dA o q A (yqI Qr)) args s mc ms A) (F0 m 30 ls []) := by
  have hx := X.1
  have hb := X.2.1
  intro S bc bk H locs u w ls hf hu hw hM hl
  unfold fX0_sheet_30 at hf
  refine lv_iconst (v := -1) hx hb dX0_sheet_30 (by decide) ?_
  exact y_iret X hr hlk hM (nb_u hu) (nb_u hw) hf dX0_sheet_31
noncomputable def fX0_sheet (Qr : Int32 → sX → Prop) (S : sX) (bc bk : Nat) (x1 : Int32) (x2 : Int32) (x3 : Int32) : Prop :=
  ∃ v_1, (fX0_isIn (x1.toInt64) (0 : Int64) (3 : Int64)) = some v_1 ∧
  ((v_1 = 0) → (
    fX0_sheet_30 Qr S bc bk))
  ∧ (¬ (v_1 = 0) → (
    ∃ v_2, (fX0_isIn (x2.toInt64) (0 : Int64) (2 : Int64)) = some v_2 ∧
    ((v_2 = 0) → (
      fX0_sheet_30 Qr S bc bk))
    ∧ (¬ (v_2 = 0) → (
      ((x3 ≤ (40 : Int32)) → (
        ∃ v_3, (hAr 8 S.2.2.2 (S.2.2.1 27) x1) = some v_3 ∧
        ∃ c_4 k_5 : Nat, c_4 ≤ bc ∧ k_5 ≤ bk ∧ fX0_newRow (fun h => ec_lt (xH S h) fun S_7 => Qr (-14) S_7) (fun v_8 h => ec_lt (xH S h) fun S_6 =>
        ∃ h_9, (hPut 2 S_6.2.2.2 v_3 0 (.ref v_8)) = some h_9 ∧
        ec_lt (xH S_6 h_9) fun S_10 =>
        ∃ v_11, (hAr 8 S_10.2.2.2 (S_10.2.2.1 27) x1) = some v_11 ∧
        ∃ h_12, (hPut 2 S_10.2.2.2 v_11 1 (.int x3)) = some h_12 ∧
        ec_lt (xH S_10 h_12) fun S_13 =>
        Qr (1 : Int32) S_13) S.2.2.2 c_4 k_5 x2 x3))
      ∧ (¬ (x3 ≤ (40 : Int32)) → (
        fX0_sheet_30 Qr S bc bk))))))
theorem metX0_sheet (l : Launch) (D : va_G) (dA : Nat → ClassId) (K : oK) (o : Nat) (q : Nat → Nat) (htr : ∀ e : Env, l.admits e → e.platform.stackTraces = false) (Qr : Int32 → sX → Prop) (S : sX) (bc bk : Nat) (x1 : Int32) (x2 : Int32) (x3 : Int32) {sz : Nat} (hf : fX0_sheet Qr S bc bk x1 x2 x3) : Met l yX0_sheet (wsW_ yX0_sheet cX0_sheet 5 (some .int) [(32, 57, 58, 336)]) (rmE 30 bc bk) (EPre D dA K sz o q S [.int x1, .int x2, .int x3]) (YPost D dA o q (YA o q S.2.2.2 sz) (yqI Qr)) bc bk (YA o q S.2.2.2 sz) := by
  refine y_ofE htr rfl (Nat.le_of_ble_eq_true rfl) (fun A p e s m args below meth c X hr hlk htb hE hRf hM ls hl => ?_)
  have hl : lv_has ls 5 [(0, .ref o), (1, .int x1), (2, .int x2), (3, .int x3)] := hl
  have hx := X.1
  have hb := X.2.1
  have hu : 0 + bc = bc := Nat.zero_add bc
  have hw : 0 + bk = bk := Nat.zero_add bk
  unfold fX0_sheet at hf
  refine lv_iload_n hx hb dX0_sheet_0 rfl (lv_at hl 1 rfl) ?_
  refine lv_i2l hx hb dX0_sheet_1 rfl ?_
  refine lv_lconst (v := 0) hx hb dX0_sheet_2 (by decide) ?_
  refine lv_ldc2 (own := RX0) (v := 3) hx hb X.2.2.2.1 (X.2.2.2.2 _ q645) dX0_sheet_3 ?_
  obtain ⟨v_1, h, hf⟩ := hf
  refine e_cS (v := .int v_1) (As := [.long (x1.toInt64), .long (0 : Int64), .long (3 : Int64)]) (rest := []) X (metX0_isIn l (x1.toInt64) (0 : Int64) (3 : Int64) _ h) (va_cwS 3 X.2.2.2.2 gX0_21 rfl rfl rfl hX0_isIn (rmE_leL (Nat.le_of_ble_eq_true rfl) (Nat.le_of_ble_eq_true rfl))) rfl hl.1 rfl (Nat.le_of_ble_eq_true rfl) ⟨nb_u hu, nb_u hw⟩ dX0_sheet_6 ?_
  refine lv_if_eq (tgt := 30) hx hb dX0_sheet_9 rfl (fun cnd => ?_) (fun cnd => ?_)
  · have hf := hf.1 cnd
    exact bX0_sheet_30 X hr hlk htb hE hRf  S bc bk _ _ _ _ _ hf hu hw hM (lv_sub hl [0] rfl)
  · have hf := hf.2 cnd
    refine lv_iload_n hx hb dX0_sheet_12 rfl (lv_at hl 2 rfl) ?_
    refine lv_i2l hx hb dX0_sheet_13 rfl ?_
    refine lv_lconst (v := 0) hx hb dX0_sheet_14 (by decide) ?_
    refine lv_ldc2 (own := RX0) (v := 2) hx hb X.2.2.2.1 (X.2.2.2.2 _ q592) dX0_sheet_15 ?_
    obtain ⟨v_2, h, hf⟩ := hf
    refine e_cS (v := .int v_2) (As := [.long (x2.toInt64), .long (0 : Int64), .long (2 : Int64)]) (rest := []) X (metX0_isIn l (x2.toInt64) (0 : Int64) (2 : Int64) _ h) (va_cwS 3 X.2.2.2.2 gX0_21 rfl rfl rfl hX0_isIn (rmE_leL (Nat.le_of_ble_eq_true rfl) (Nat.le_of_ble_eq_true rfl))) rfl hl.1 rfl (Nat.le_of_ble_eq_true rfl) ⟨nb_u hu, nb_u hw⟩ dX0_sheet_18 ?_
    refine lv_if_eq (tgt := 30) hx hb dX0_sheet_21 rfl (fun cnd => ?_) (fun cnd => ?_)
    · have hf := hf.1 cnd
      exact bX0_sheet_30 X hr hlk htb hE hRf  S bc bk _ _ _ _ _ hf hu hw hM (lv_sub hl [0] rfl)
    · have hf := hf.2 cnd
      refine lv_iload_n hx hb dX0_sheet_24 rfl (lv_at hl 3 rfl) ?_
      refine lv_bipush (v := 40) hx hb dX0_sheet_25 (by decide) ?_
      refine lv_icmp_le (tgt := 32) hx hb dX0_sheet_27 rfl (fun cnd => ?_) (fun cnd => ?_)
      · have hf := hf.1 cnd
        refine lv_aload_n hx hb dX0_sheet_32 rfl (lv_at hl 0 rfl) ?_
        refine x_get (v := .ref (S.2.2.1 27)) X hM 27 (by decide) q795 rfl rfl dX0_sheet_33 ?_
        refine lv_iload_n hx hb dX0_sheet_36 rfl (lv_at hl 1 rfl) ?_
        obtain ⟨v_3, h, hf⟩ := hf
        refine h_aald (t := 8) X hM rfl rfl h dX0_sheet_37 ?_
        refine lv_iload_n hx hb dX0_sheet_38 rfl (lv_at hl 2 rfl) ?_
        refine lv_iload_n hx hb dX0_sheet_39 rfl (lv_at hl 3 rfl) ?_
        obtain ⟨c_4, k_5, hc1, hk1, hf⟩ := hf
        obtain ⟨cE, hcE⟩ : ∃ c0, s.vm.findClass "java/lang/NegativeArraySizeException" = some c0 := by
          obtain ⟨c0, k0, h0, -⟩ := Cond.instantiable_spec (X.2.2.2.2 _ q858)
          exact ⟨c0, h0⟩
        refine u_call (cls := "java/lang/NegativeArraySizeException") (rest := [.ref v_3]) hM hE.1 (t_runS (As := [.int x2, .int x3]) (rest := [.ref v_3]) X (metX0_newRow l D dA K hE.2.2.2.2.2 cE _ _ S.2.2.2 c_4 k_5 x2 x3 hf) (va_cwS 2 X.2.2.2.2 gX0_325 rfl rfl rfl hX0_newRow (rmE_le (Nat.le_of_ble_eq_true rfl) (Nat.le_of_ble_eq_true rfl))) ⟨UPre.blind, u_pre hM hE hRf hcE⟩ rfl rfl hl.1 rfl (lv_room (Nat.le_of_ble_eq_true rfl)) dX0_sheet_40 ⟨nb_le hu hc1, nb_le hw hk1⟩) hcE (fun hpl cE hcE => cTab_of _ (by rw [htb]; exact (l_hit (name := "java/lang/NegativeArraySizeException") hpl X.2.2.2.1 ⟨by decide, by decide⟩ (by decide) (X.2.2.2.2 _ q857) hcE (va_asg _ _) rfl))) (fun v h1 H locs hf hM => ?_) (fun a h1 H locs hf hM => ?_)
        rotate_left
        · obtain ⟨S_7, eS, hM⟩ := x_nm hM
          have hf := ec_lt_p eS hf
          exact bX0_sheet_h58 X hr hlk S_7 _ _ _ _ ls _ hf (nb_le hu hc1) (nb_le hw hk1) hM (lv_sub hl [0] rfl)
        obtain ⟨v_8, rfl, hf⟩ := hf
        obtain ⟨S_6, eS, hM⟩ := x_nm hM
        have hf := ec_lt_p eS hf
        have hu := nb_sub hu hc1
        have hw := nb_sub hw hk1
        refine W.eq (g2 := F0 m _ _ [.ref v_8, .ref v_3]) rfl ?_
        obtain ⟨h_9, h, hf⟩ := hf
        refine h_putN (C := RX2) (T := TX2) (N := 2) (ci := 2) (k := 0) (ty := .object "java/lang/Object") (host := "EventCounters") tyX2 tyX2_ok nmX2 X hM in_X2 rfl (by decide) (xn_at hM.2.1 37 rfl) rfl rfl (by decide +kernel) rfl rfl h dX0_sheet_43 (fun H locs hM => ?_)
        obtain ⟨S_10, eS, hM⟩ := x_nm hM
        have hf := ec_lt_p eS hf
        refine lv_aload_n hx hb dX0_sheet_46 rfl (lv_at hl 0 rfl) ?_
        refine x_get (v := .ref (S_10.2.2.1 27)) X hM 27 (by decide) q795 rfl rfl dX0_sheet_47 ?_
        refine lv_iload_n hx hb dX0_sheet_50 rfl (lv_at hl 1 rfl) ?_
        obtain ⟨v_11, h, hf⟩ := hf
        refine h_aald (t := 8) X hM rfl rfl h dX0_sheet_51 ?_
        refine lv_iload_n hx hb dX0_sheet_52 rfl (lv_at hl 3 rfl) ?_
        obtain ⟨h_12, h, hf⟩ := hf
        refine h_putN (C := RX2) (T := TX2) (N := 2) (ci := 2) (k := 1) (ty := .int) (host := "EventCounters") tyX2 tyX2_ok nmX2 X hM in_X2 rfl (by decide) (xn_at hM.2.1 38 rfl) rfl rfl (by decide +kernel) rfl rfl h dX0_sheet_53 (fun H locs hM => ?_)
        obtain ⟨S_13, eS, hM⟩ := x_nm hM
        have hf := ec_lt_p eS hf
        refine lv_iconst (v := 1) hx hb dX0_sheet_56 (by decide) ?_
        exact y_iret X hr hlk hM (nb_u hu) (nb_u hw) hf dX0_sheet_57
      · have hf := hf.2 cnd
        exact bX0_sheet_30 X hr hlk htb hE hRf  S bc bk _ _ _ _ _ hf hu hw hM (lv_sub hl [0] rfl)

theorem bX0_lay_h75 (X : CallFix p m c cX0_lay 6 s args lw_all RX0) (hr : meth.sig.returnType = (some .int)) (hlk : meth.locks = false) {mc ms : Nat} {Qr : Int32 → sX → Prop} : ∀ (S : sX) (H : Heap) (locs : List Loc) (u w : Nat) (ls : Array Slot) (a : Nat), Qr (-11) S → u ≤ mc → w ≤ ms → XW D dA o q S A s H locs → lv_has ls 6 [(0, .ref o)] → W p l e (rmE 30 mc ms) s m args below meth c H locs u w (MQT below (YPost D dA o q A (yqI Qr)) args s mc ms A) (F0 m 75 ls [.ref a]) := by
  intro S H locs u w ls a hf hu hw hM hl
  refine lv_astore (lv' := [(5, .ref a), (0, .ref o)]) X.1 X.2.1 dX0_lay_75 hl (by decide) rfl (fun ls hl => ?_)
  refine lv_bipush (v := -11) X.1 X.2.1 dX0_lay_77 (by decide) ?_
  exact y_iret X hr hlk hM hu hw hf dX0_lay_79
theorem bX0_lay_h80 (X : CallFix p m c cX0_lay 6 s args lw_all RX0) (hr : meth.sig.returnType = (some .int)) (hlk : meth.locks = false) {mc ms : Nat} {Qr : Int32 → sX → Prop} : ∀ (S : sX) (H : Heap) (locs : List Loc) (u w : Nat) (ls : Array Slot) (a : Nat), Qr (-12) S → u ≤ mc → w ≤ ms → XW D dA o q S A s H locs → lv_has ls 6 [(0, .ref o)] → W p l e (rmE 30 mc ms) s m args below meth c H locs u w (MQT below (YPost D dA o q A (yqI Qr)) args s mc ms A) (F0 m 80 ls [.ref a]) := by
  intro S H locs u w ls a hf hu hw hM hl
  refine lv_astore (lv' := [(5, .ref a), (0, .ref o)]) X.1 X.2.1 dX0_lay_80 hl (by decide) rfl (fun ls hl => ?_)
  refine lv_bipush (v := -12) X.1 X.2.1 dX0_lay_82 (by decide) ?_
  exact y_iret X hr hlk hM hu hw hf dX0_lay_84
noncomputable def fX0_lay_73 (Qr : Int32 → sX → Prop) (S : sX) (bc bk : Nat) : Prop :=
  Qr (1 : Int32) S
theorem bX0_lay_73 (X : CallFix p m c cX0_lay 6 s args lw_all RX0) (hr : meth.sig.returnType = (some .int)) (hlk : meth.locks = false) (htb : c.exceptionTable.toList.map (fun h => (h.startPc, h.endPc, h.handlerPc, h.catchType)) = [(25, 74, 75, 342), (25, 74, 80, 344)]) (hE : EX K A l s) (hRf : ORF K s) {mc ms : Nat} {Qr : Int32 → sX → Prop} : ∀ (S : sX) (bc bk : Nat) (H : Heap) (locs : List Loc) (u w : Nat) (ls : Array Slot), fX0_lay_73 Qr S bc bk → u + bc = mc → w + bk = ms → XW D dA o q S A s H locs → lv_has ls 6 [(0, .ref o)] → W p l e (rmE 30 mc ms) s m args below meth c H locs u w (MQT below (YPost D dA o q A (yqI Qr)) args s mc ms A) (F0 m 73 ls []) := by
  have hx := X.1
  have hb := X.2.1
  intro S bc bk H locs u w ls hf hu hw hM hl
  unfold fX0_lay_73 at hf
  refine lv_iconst (v := 1) hx hb dX0_lay_73 (by decide) ?_
  exact y_iret X hr hlk hM (nb_u hu) (nb_u hw) hf dX0_lay_74
noncomputable def fX0_lay (Qr : Int32 → sX → Prop) (S : sX) (bc bk : Nat) (x1 : Int32) (x2 : Int32) (x3 : Int32) : Prop :=
  ∃ v_1, (fX0_isIn (x1.toInt64) (0 : Int64) (3 : Int64)) = some v_1 ∧
  ((¬ v_1 = 0) → (
    ∃ v_2, (hAr 8 S.2.2.2 (S.2.2.1 27) x1) = some v_2 ∧
    ∃ v_3, (hQ 2 S.2.2.2 v_2 0) = some v_3 ∧
    ∃ τ_4, rowT S.2.2.2 v_3 = some τ_4 ∧
    (((if τ_4 = some 2 then (1 : Int32) else 0) = 0) → (
      ∃ τ_5, rowT S.2.2.2 v_3 = some τ_5 ∧
      (((if τ_5 = some 3 then (1 : Int32) else 0) = 0) → (
        ∃ τ_6, rowT S.2.2.2 v_3 = some τ_6 ∧
        (τ_6 = none ∨ τ_6 = some 0) ∧
        3 ≤ bc ∧ 600 ≤ bk ∧ (v_3 = none → Qr (-11) S) ∧ ∀ (a n : Nat) (f : Nat → Int32), v_3 = some a → S.2.2.2 a = some (.inl (0, n, .inl f)) → n < 2 ^ 31 ∧ ((x2 < 0 ∨ n ≤ x2.toNatClampNeg) → Qr (-12) S) ∧ (¬ (x2 < 0 ∨ n ≤ x2.toNatClampNeg) →
        ec_lt (xH S (va_up S.2.2.2 a (some (.inl (0, n, .inl (upd f x2.toNatClampNeg x3)))))) fun S_7 =>
        fX0_lay_73 Qr S_7 bc bk)))
      ∧ (¬ ((if τ_5 = some 3 then (1 : Int32) else 0) = 0) → (
        ∃ τ_8, rowT S.2.2.2 v_3 = some τ_8 ∧
        (τ_8 = none ∨ τ_8 = some 3) ∧
        3 ≤ bc ∧ 600 ≤ bk ∧ (v_3 = none → Qr (-11) S) ∧ ∀ (a n : Nat) (f : Nat → Int32), v_3 = some a → S.2.2.2 a = some (.inl (3, n, .inl f)) → n < 2 ^ 31 ∧ ((x2 < 0 ∨ n ≤ x2.toNatClampNeg) → Qr (-12) S) ∧ (¬ (x2 < 0 ∨ n ≤ x2.toNatClampNeg) →
        ec_lt (xH S (va_up S.2.2.2 a (some (.inl (3, n, .inl (upd f x2.toNatClampNeg (vp_nar .short (x3.toInt16.toInt32)))))))) fun S_9 =>
        fX0_lay_73 Qr S_9 bc bk)))))
    ∧ (¬ ((if τ_4 = some 2 then (1 : Int32) else 0) = 0) → (
      ∃ τ_10, rowT S.2.2.2 v_3 = some τ_10 ∧
      (τ_10 = none ∨ τ_10 = some 2) ∧
      3 ≤ bc ∧ 600 ≤ bk ∧ (v_3 = none → Qr (-11) S) ∧ ∀ (a n : Nat) (f : Nat → Int32), v_3 = some a → S.2.2.2 a = some (.inl (2, n, .inl f)) → n < 2 ^ 31 ∧ ((x2 < 0 ∨ n ≤ x2.toNatClampNeg) → Qr (-12) S) ∧ (¬ (x2 < 0 ∨ n ≤ x2.toNatClampNeg) →
      ec_lt (xH S (va_up S.2.2.2 a (some (.inl (2, n, .inl (upd f x2.toNatClampNeg (vp_nar .byte (x3.toInt8.toInt32)))))))) fun S_11 =>
      fX0_lay_73 Qr S_11 bc bk)))))
  ∧ (¬ (¬ v_1 = 0) → (
    Qr (-1 : Int32) S))
theorem metX0_lay (l : Launch) (D : va_G) (dA : Nat → ClassId) (K : oK) (o : Nat) (q : Nat → Nat) (htr : ∀ e : Env, l.admits e → e.platform.stackTraces = false) (Qr : Int32 → sX → Prop) (S : sX) (bc bk : Nat) (x1 : Int32) (x2 : Int32) (x3 : Int32) {sz : Nat} (hf : fX0_lay Qr S bc bk x1 x2 x3) : Met l yX0_lay (wsW_ yX0_lay cX0_lay 6 (some .int) [(25, 74, 75, 342), (25, 74, 80, 344)]) (rmE 30 bc bk) (EPre D dA K sz o q S [.int x1, .int x2, .int x3]) (YPost D dA o q (YA o q S.2.2.2 sz) (yqI Qr)) bc bk (YA o q S.2.2.2 sz) := by
  refine y_ofE htr rfl (Nat.le_of_ble_eq_true rfl) (fun A p e s m args below meth c X hr hlk htb hE hRf hM ls hl => ?_)
  have hl : lv_has ls 6 [(0, .ref o), (1, .int x1), (2, .int x2), (3, .int x3)] := hl
  have hx := X.1
  have hb := X.2.1
  have hu : 0 + bc = bc := Nat.zero_add bc
  have hw : 0 + bk = bk := Nat.zero_add bk
  unfold fX0_lay at hf
  refine lv_iload_n hx hb dX0_lay_0 rfl (lv_at hl 1 rfl) ?_
  refine lv_i2l hx hb dX0_lay_1 rfl ?_
  refine lv_lconst (v := 0) hx hb dX0_lay_2 (by decide) ?_
  refine lv_ldc2 (own := RX0) (v := 3) hx hb X.2.2.2.1 (X.2.2.2.2 _ q645) dX0_lay_3 ?_
  obtain ⟨v_1, h, hf⟩ := hf
  refine e_cS (v := .int v_1) (As := [.long (x1.toInt64), .long (0 : Int64), .long (3 : Int64)]) (rest := []) X (metX0_isIn l (x1.toInt64) (0 : Int64) (3 : Int64) _ h) (va_cwS 3 X.2.2.2.2 gX0_21 rfl rfl rfl hX0_isIn (rmE_leL (Nat.le_of_ble_eq_true rfl) (Nat.le_of_ble_eq_true rfl))) rfl hl.1 rfl (Nat.le_of_ble_eq_true rfl) ⟨nb_u hu, nb_u hw⟩ dX0_lay_6 ?_
  refine lv_if_ne (tgt := 14) hx hb dX0_lay_9 rfl (fun cnd => ?_) (fun cnd => ?_)
  · have hf := hf.1 cnd
    refine lv_aload_n hx hb dX0_lay_14 rfl (lv_at hl 0 rfl) ?_
    refine x_get (v := .ref (S.2.2.1 27)) X hM 27 (by decide) q795 rfl rfl dX0_lay_15 ?_
    refine lv_iload_n hx hb dX0_lay_18 rfl (lv_at hl 1 rfl) ?_
    obtain ⟨v_2, h, hf⟩ := hf
    refine h_aald (t := 8) X hM rfl rfl h dX0_lay_19 ?_
    obtain ⟨v_3, h, hf⟩ := hf
    refine h_getvN (v := va_rf v_3) (C := RX2) (T := TX2) (N := 2) (ci := 2) (k := 0) (host := "EventCounters") X hM in_X2 rfl (by decide) (xn_at hM.2.1 37 rfl) rfl (hQ_i h) dX0_lay_20 ?_
    refine lv_astoreQ (lv' := [(4, va_rf v_3), (0, .ref o), (1, .int x1), (2, .int x2), (3, .int x3)]) hx hb dX0_lay_23 hl (by decide) rfl (fun ls hl => ?_)
    refine lv_aloadQ hx hb dX0_lay_25 (lv_at hl 0 rfl) ?_
    obtain ⟨τ_4, hτ_4, hf⟩ := hf
    refine e_inst (t := 2) X hM hE.2.2.2.2.1 hτ_4 (by decide) q936 dX0_lay_27 ?_
    refine lv_if_eq (tgt := 45) hx hb dX0_lay_30 rfl (fun cnd => ?_) (fun cnd => ?_)
    · have hf := hf.1 cnd
      refine lv_aloadQ hx hb dX0_lay_45 (lv_at hl 0 rfl) ?_
      obtain ⟨τ_5, hτ_5, hf⟩ := hf
      refine e_inst (t := 3) X hM hE.2.2.2.2.1 hτ_5 (by decide) q937 dX0_lay_47 ?_
      refine lv_if_eq (tgt := 65) hx hb dX0_lay_50 rfl (fun cnd => ?_) (fun cnd => ?_)
      · have hf := hf.1 cnd
        refine lv_aloadQ hx hb dX0_lay_65 (lv_at hl 0 rfl) ?_
        obtain ⟨τ_6, hτ_6, hf⟩ := hf
        obtain ⟨hτ_62, hf⟩ := hf
        refine e_castY (t := 0) X hM hτ_6 hτ_62 q938 dX0_lay_67 ?_
        refine lv_iload_n hx hb dX0_lay_70 rfl (lv_at hl 3 rfl) ?_
        refine lv_iload_n hx hb dX0_lay_71 rfl (lv_at hl 4 rfl) ?_
        obtain ⟨hb1, hb2, hfn, hf⟩ := hf
        refine e_istQ (K := K) (v := x3) (j := x2) (rest := []) X hM hE hl.1 hτ_6 hτ_62 (fun a n f e1 e2 => (hf a n f e1 e2).1) dX0_lay_72 (Nat.le_of_ble_eq_true rfl) (Nat.le_of_ble_eq_true rfl) (nb_le hu (Nat.le_trans (Nat.le_of_ble_eq_true rfl) hb1) : _ + 3 ≤ _) (nb_le hw (Nat.le_trans (Nat.le_of_ble_eq_true rfl) hb2) : _ + 600 ≤ _) (fun hpl cE hcE => cTab_of _ (by rw [htb]; exact (l_hit (name := "java/lang/NullPointerException") hpl X.2.2.2.1 ⟨by decide, by decide⟩ (by decide) (X.2.2.2.2 _ q892) hcE (va_asg _ _) rfl))) (fun hpl cE hcE => cTab_of _ (by rw [htb]; exact (l_pass (C := "java/lang/ArrayIndexOutOfBoundsException") (name := "java/lang/NullPointerException") hpl X.2.2.2.1 ⟨by decide, by decide⟩ (by decide) (X.2.2.2.2 _ q892) hcE (hE.2.2.2.2.1.at 6 rfl) (l_hit (name := "java/lang/ArrayIndexOutOfBoundsException") hpl X.2.2.2.1 ⟨by decide, by decide⟩ (by decide) (X.2.2.2.2 _ q917) hcE (va_asg _ _) rfl)))) (fun e1 a H locs hM => ?_) (fun a n f e1 e2 e3 a1 H locs hM => ?_) (fun a n f e1 e2 e3 H locs hM => ?_)
        · have hf := hfn e1
          have hb1 := Nat.le_trans (show 1 ≤ 3 by decide) hb1
          have hb2 := Nat.le_trans (show 8 ≤ 600 by decide) hb2
          exact bX0_lay_h75 X hr hlk S _ _ _ _ ls _ hf (nb_le hu hb1) (nb_le hw hb2) hM (lv_sub hl [1] rfl)
        · have hf := (hf a n f e1 e2).2.1 e3
          have hb2 := Nat.le_trans (show 222 ≤ 600 by decide) hb2
          exact bX0_lay_h80 X hr hlk S _ _ _ _ ls _ hf (nb_le hu hb1) (nb_le hw hb2) hM (lv_sub hl [1] rfl)
        have hf := (hf a n f e1 e2).2.2 e3
        obtain ⟨S_7, eS, hM⟩ := x_nm hM
        have hf := ec_lt_p eS hf
        exact bX0_lay_73 X hr hlk htb hE hRf  S_7 bc bk _ _ _ _ _ hf hu hw hM (lv_sub hl [1] rfl)
      · have hf := hf.2 cnd
        refine lv_aloadQ hx hb dX0_lay_53 (lv_at hl 0 rfl) ?_
        obtain ⟨τ_8, hτ_8, hf⟩ := hf
        obtain ⟨hτ_82, hf⟩ := hf
        refine e_castY (t := 3) X hM hτ_8 hτ_82 q937 dX0_lay_55 ?_
        refine lv_iload_n hx hb dX0_lay_58 rfl (lv_at hl 3 rfl) ?_
        refine lv_iload_n hx hb dX0_lay_59 rfl (lv_at hl 4 rfl) ?_
        refine lv_i2s hx hb dX0_lay_60 rfl ?_
        obtain ⟨hb1, hb2, hfn, hf⟩ := hf
        refine e_sstQ (K := K) (v := (x3.toInt16.toInt32)) (j := x2) (rest := []) X hM hE hl.1 hτ_8 hτ_82 (fun a n f e1 e2 => (hf a n f e1 e2).1) dX0_lay_61 (Nat.le_of_ble_eq_true rfl) (Nat.le_of_ble_eq_true rfl) (nb_le hu (Nat.le_trans (Nat.le_of_ble_eq_true rfl) hb1) : _ + 3 ≤ _) (nb_le hw (Nat.le_trans (Nat.le_of_ble_eq_true rfl) hb2) : _ + 600 ≤ _) (fun hpl cE hcE => cTab_of _ (by rw [htb]; exact (l_hit (name := "java/lang/NullPointerException") hpl X.2.2.2.1 ⟨by decide, by decide⟩ (by decide) (X.2.2.2.2 _ q892) hcE (va_asg _ _) rfl))) (fun hpl cE hcE => cTab_of _ (by rw [htb]; exact (l_pass (C := "java/lang/ArrayIndexOutOfBoundsException") (name := "java/lang/NullPointerException") hpl X.2.2.2.1 ⟨by decide, by decide⟩ (by decide) (X.2.2.2.2 _ q892) hcE (hE.2.2.2.2.1.at 6 rfl) (l_hit (name := "java/lang/ArrayIndexOutOfBoundsException") hpl X.2.2.2.1 ⟨by decide, by decide⟩ (by decide) (X.2.2.2.2 _ q917) hcE (va_asg _ _) rfl)))) (fun e1 a H locs hM => ?_) (fun a n f e1 e2 e3 a1 H locs hM => ?_) (fun a n f e1 e2 e3 H locs hM => ?_)
        · have hf := hfn e1
          have hb1 := Nat.le_trans (show 1 ≤ 3 by decide) hb1
          have hb2 := Nat.le_trans (show 8 ≤ 600 by decide) hb2
          exact bX0_lay_h75 X hr hlk S _ _ _ _ ls _ hf (nb_le hu hb1) (nb_le hw hb2) hM (lv_sub hl [1] rfl)
        · have hf := (hf a n f e1 e2).2.1 e3
          have hb2 := Nat.le_trans (show 222 ≤ 600 by decide) hb2
          exact bX0_lay_h80 X hr hlk S _ _ _ _ ls _ hf (nb_le hu hb1) (nb_le hw hb2) hM (lv_sub hl [1] rfl)
        have hf := (hf a n f e1 e2).2.2 e3
        obtain ⟨S_9, eS, hM⟩ := x_nm hM
        have hf := ec_lt_p eS hf
        refine lv_goto (tgt := 73) hx hb dX0_lay_62 rfl ?_
        exact bX0_lay_73 X hr hlk htb hE hRf  S_9 bc bk _ _ _ _ _ hf hu hw hM (lv_sub hl [1] rfl)
    · have hf := hf.2 cnd
      refine lv_aloadQ hx hb dX0_lay_33 (lv_at hl 0 rfl) ?_
      obtain ⟨τ_10, hτ_10, hf⟩ := hf
      obtain ⟨hτ_102, hf⟩ := hf
      refine e_castY (t := 2) X hM hτ_10 hτ_102 q936 dX0_lay_35 ?_
      refine lv_iload_n hx hb dX0_lay_38 rfl (lv_at hl 3 rfl) ?_
      refine lv_iload_n hx hb dX0_lay_39 rfl (lv_at hl 4 rfl) ?_
      refine lv_i2b hx hb dX0_lay_40 rfl ?_
      obtain ⟨hb1, hb2, hfn, hf⟩ := hf
      refine e_bstQ (K := K) (v := (x3.toInt8.toInt32)) (j := x2) (rest := []) X hM hE hl.1 hτ_10 hτ_102 (fun a n f e1 e2 => (hf a n f e1 e2).1) dX0_lay_41 (Nat.le_of_ble_eq_true rfl) (Nat.le_of_ble_eq_true rfl) (nb_le hu (Nat.le_trans (Nat.le_of_ble_eq_true rfl) hb1) : _ + 3 ≤ _) (nb_le hw (Nat.le_trans (Nat.le_of_ble_eq_true rfl) hb2) : _ + 600 ≤ _) (fun hpl cE hcE => cTab_of _ (by rw [htb]; exact (l_hit (name := "java/lang/NullPointerException") hpl X.2.2.2.1 ⟨by decide, by decide⟩ (by decide) (X.2.2.2.2 _ q892) hcE (va_asg _ _) rfl))) (fun hpl cE hcE => cTab_of _ (by rw [htb]; exact (l_pass (C := "java/lang/ArrayIndexOutOfBoundsException") (name := "java/lang/NullPointerException") hpl X.2.2.2.1 ⟨by decide, by decide⟩ (by decide) (X.2.2.2.2 _ q892) hcE (hE.2.2.2.2.1.at 6 rfl) (l_hit (name := "java/lang/ArrayIndexOutOfBoundsException") hpl X.2.2.2.1 ⟨by decide, by decide⟩ (by decide) (X.2.2.2.2 _ q917) hcE (va_asg _ _) rfl)))) (fun e1 a H locs hM => ?_) (fun a n f e1 e2 e3 a1 H locs hM => ?_) (fun a n f e1 e2 e3 H locs hM => ?_)
      · have hf := hfn e1
        have hb1 := Nat.le_trans (show 1 ≤ 3 by decide) hb1
        have hb2 := Nat.le_trans (show 8 ≤ 600 by decide) hb2
        exact bX0_lay_h75 X hr hlk S _ _ _ _ ls _ hf (nb_le hu hb1) (nb_le hw hb2) hM (lv_sub hl [1] rfl)
      · have hf := (hf a n f e1 e2).2.1 e3
        have hb2 := Nat.le_trans (show 222 ≤ 600 by decide) hb2
        exact bX0_lay_h80 X hr hlk S _ _ _ _ ls _ hf (nb_le hu hb1) (nb_le hw hb2) hM (lv_sub hl [1] rfl)
      have hf := (hf a n f e1 e2).2.2 e3
      obtain ⟨S_11, eS, hM⟩ := x_nm hM
      have hf := ec_lt_p eS hf
      refine lv_goto (tgt := 73) hx hb dX0_lay_42 rfl ?_
      exact bX0_lay_73 X hr hlk htb hE hRf  S_11 bc bk _ _ _ _ _ hf hu hw hM (lv_sub hl [1] rfl)
  · have hf := hf.2 (not_not_intro cnd)
    refine lv_iconst (v := -1) hx hb dX0_lay_12 (by decide) ?_
    exact y_iret X hr hlk hM (nb_u hu) (nb_u hw) hf dX0_lay_13

theorem gX0_346 : GoodIn lw_all (va_wsS RX0 346 yX0_cell (ws_ yX0_cell cX0_cell 3 (some .int))) := lw_S q957 q958 q60 q959
theorem bX0_said_h241 (X : CallFix p m c cX0_said 15 s args lw_all RX0) (hr : meth.sig.returnType = (some .int)) (hlk : meth.locks = false) {mc ms : Nat} {Qr : Int32 → sX → Prop} : ∀ (S : sX) (H : Heap) (locs : List Loc) (u w : Nat) (ls : Array Slot) (a : Nat), Qr (-11) S → u ≤ mc → w ≤ ms → XW D dA o q S A s H locs → lv_has ls 15 [(0, .ref o)] → W p l e (rmE 30 mc ms) s m args below meth c H locs u w (MQT below (YPost D dA o q A (yqI Qr)) args s mc ms A) (F0 m 241 ls [.ref a]) := by
  intro S H locs u w ls a hf hu hw hM hl
  refine lv_astore (lv' := [(10, .ref a), (0, .ref o)]) X.1 X.2.1 dX0_said_241 hl (by decide) rfl (fun ls hl => ?_)
  refine lv_bipush (v := -11) X.1 X.2.1 dX0_said_243 (by decide) ?_
  exact y_iret X hr hlk hM hu hw hf dX0_said_245
theorem bX0_said_h246 (X : CallFix p m c cX0_said 15 s args lw_all RX0) (hr : meth.sig.returnType = (some .int)) (hlk : meth.locks = false) {mc ms : Nat} {Qr : Int32 → sX → Prop} : ∀ (S : sX) (H : Heap) (locs : List Loc) (u w : Nat) (ls : Array Slot) (a : Nat), Qr (-13) S → u ≤ mc → w ≤ ms → XW D dA o q S A s H locs → lv_has ls 15 [(0, .ref o)] → W p l e (rmE 30 mc ms) s m args below meth c H locs u w (MQT below (YPost D dA o q A (yqI Qr)) args s mc ms A) (F0 m 246 ls [.ref a]) := by
  intro S H locs u w ls a hf hu hw hM hl
  refine lv_astore (lv' := [(10, .ref a), (0, .ref o)]) X.1 X.2.1 dX0_said_246 hl (by decide) rfl (fun ls hl => ?_)
  refine lv_bipush (v := -13) X.1 X.2.1 dX0_said_248 (by decide) ?_
  exact y_iret X hr hlk hM hu hw hf dX0_said_250
theorem bX0_said_h251 (X : CallFix p m c cX0_said 15 s args lw_all RX0) (hr : meth.sig.returnType = (some .int)) (hlk : meth.locks = false) {mc ms : Nat} {Qr : Int32 → sX → Prop} : ∀ (S : sX) (H : Heap) (locs : List Loc) (u w : Nat) (ls : Array Slot) (a : Nat), Qr (-12) S → u ≤ mc → w ≤ ms → XW D dA o q S A s H locs → lv_has ls 15 [(0, .ref o)] → W p l e (rmE 30 mc ms) s m args below meth c H locs u w (MQT below (YPost D dA o q A (yqI Qr)) args s mc ms A) (F0 m 251 ls [.ref a]) := by
  intro S H locs u w ls a hf hu hw hM hl
  refine lv_astore (lv' := [(10, .ref a), (0, .ref o)]) X.1 X.2.1 dX0_said_251 hl (by decide) rfl (fun ls hl => ?_)
  refine lv_bipush (v := -12) X.1 X.2.1 dX0_said_253 (by decide) ?_
  exact y_iret X hr hlk hM hu hw hf dX0_said_255
noncomputable def fX0_said_45 (N : Nat) (Qr : Int32 → sX → Prop) (S : sX) (bc bk : Nat) : Prop :=
  Qr (-1 : Int32) S
theorem bX0_said_45 {N : Nat} (X : CallFix p m c cX0_said 15 s args lw_all RX0) (hr : meth.sig.returnType = (some .int)) (hlk : meth.locks = false) (htb : c.exceptionTable.toList.map (fun h => (h.startPc, h.endPc, h.handlerPc, h.catchType)) = [(60, 153, 241, 342), (154, 238, 241, 342), (60, 153, 246, 350), (154, 238, 246, 350), (60, 153, 251, 344), (154, 238, 251, 344)]) (hE : EX K A l s) (hRf : ORF K s) {mc ms : Nat} {Qr : Int32 → sX → Prop} : ∀ (S : sX) (bc bk : Nat) (H : Heap) (locs : List Loc) (u w : Nat) (ls : Array Slot), fX0_said_45 N Qr S bc bk → u + bc = mc → w + bk = ms → XW D dA o q S A s H locs → lv_has ls 15 [(0, .ref o)] → W p l e (rmE 30 mc ms) s m args below meth c H locs u w (MQT below (YPost D dA o q A (yqI Qr)) args s mc ms A) (F0 m 45 ls []) := by
  have hx := X.1
  have hb := X.2.1
  intro S bc bk H locs u w ls hf hu hw hM hl
  unfold fX0_said_45 at hf
  refine lv_iconst (v := -1) hx hb dX0_said_45 (by decide) ?_
  exact y_iret X hr hlk hM (nb_u hu) (nb_u hw) hf dX0_said_46
noncomputable def fX0_said_202 (N : Nat) (Qr : Int32 → sX → Prop) (k109 : sX → Nat → Nat → Int32 → Int32 → Int32 → Int32 → Int32 → Int32 → Int32 → Int32 → Nat → Int32 → Int32 → Prop) (S : sX) (bc bk : Nat) (x2 : Int32) (x3 : Int32) (x4 : Int32) (x5 : Int32) (x6 : Int32) (x8 : Int32) (x9 : Int32) (x10 : Nat) (x11 : Int32) (x12 : Int32) (x13 : Int32) (x14 : Int32) (t0 : Int32) : Prop :=
  ec_lt (x8 + (if (0 : Int32) < (x13 - x14) then (x13 - x14) else (0 : Int32))) fun x8_18 =>
  ec_lt (x9 + (if (0 : Int32) < (x14 - x13) then (x14 - x13) else (0 : Int32))) fun x9_19 =>
  ec_lt (x12 + (1 : Int32)) fun x12_20 =>
  k109 S bc bk x2 x3 x4 x5 x6 t0 x8_18 x9_19 x10 x11 x12_20
theorem bX0_said_202 {N : Nat} (X : CallFix p m c cX0_said 15 s args lw_all RX0) (hr : meth.sig.returnType = (some .int)) (hlk : meth.locks = false) (htb : c.exceptionTable.toList.map (fun h => (h.startPc, h.endPc, h.handlerPc, h.catchType)) = [(60, 153, 241, 342), (154, 238, 241, 342), (60, 153, 246, 350), (154, 238, 246, 350), (60, 153, 251, 344), (154, 238, 251, 344)]) (hE : EX K A l s) (hRf : ORF K s) {mc ms : Nat} {Qr : Int32 → sX → Prop} {k109 : sX → Nat → Nat → Int32 → Int32 → Int32 → Int32 → Int32 → Int32 → Int32 → Int32 → Nat → Int32 → Int32 → Prop} (Hk109 : ∀ (S : sX) (bc bk : Nat) (x2 : Int32) (x3 : Int32) (x4 : Int32) (x5 : Int32) (x6 : Int32) (x7 : Int32) (x8 : Int32) (x9 : Int32) (x10 : Nat) (x11 : Int32) (x12 : Int32) (H : Heap) (locs : List Loc) (u w : Nat) (ls : Array Slot), k109 S bc bk x2 x3 x4 x5 x6 x7 x8 x9 x10 x11 x12 → u + bc = mc → w + bk = ms → XW D dA o q S A s H locs → lv_has ls 15 [(0, .ref o), (2, .int x2), (3, .int x3), (4, .int x4), (5, .int x5), (6, .int x6), (7, .int x7), (8, .int x8), (9, .int x9), (10, .ref x10), (11, .int x11), (12, .int x12)] → W p l e (rmE 30 mc ms) s m args below meth c H locs u w (MQT below (YPost D dA o q A (yqI Qr)) args s mc ms A) (F0 m 109 ls [])) : ∀ (S : sX) (bc bk : Nat) (x2 : Int32) (x3 : Int32) (x4 : Int32) (x5 : Int32) (x6 : Int32) (x8 : Int32) (x9 : Int32) (x10 : Nat) (x11 : Int32) (x12 : Int32) (x13 : Int32) (x14 : Int32) (t0 : Int32) (H : Heap) (locs : List Loc) (u w : Nat) (ls : Array Slot), fX0_said_202 N Qr k109 S bc bk x2 x3 x4 x5 x6 x8 x9 x10 x11 x12 x13 x14 t0 → u + bc = mc → w + bk = ms → XW D dA o q S A s H locs → lv_has ls 15 [(0, .ref o), (2, .int x2), (3, .int x3), (4, .int x4), (5, .int x5), (6, .int x6), (8, .int x8), (9, .int x9), (10, .ref x10), (11, .int x11), (12, .int x12), (13, .int x13), (14, .int x14)] → W p l e (rmE 30 mc ms) s m args below meth c H locs u w (MQT below (YPost D dA o q A (yqI Qr)) args s mc ms A) (F0 m 202 ls [.int t0]) := by
  have hx := X.1
  have hb := X.2.1
  intro S bc bk x2 x3 x4 x5 x6 x8 x9 x10 x11 x12 x13 x14 t0 H locs u w ls hf hu hw hM hl
  unfold fX0_said_202 at hf
  refine lv_istore (lv' := [(7, .int t0), (0, .ref o), (2, .int x2), (3, .int x3), (4, .int x4), (5, .int x5), (6, .int x6), (8, .int x8), (9, .int x9), (10, .ref x10), (11, .int x11), (12, .int x12), (13, .int x13), (14, .int x14)]) hx hb dX0_said_202 hl (by decide) rfl (fun ls hl => ?_)
  refine lv_iload hx hb dX0_said_204 (lv_at hl 7 rfl) ?_
  refine lv_iconst (v := 0) hx hb dX0_said_206 (by decide) ?_
  refine lv_iload hx hb dX0_said_207 (lv_at hl 12 rfl) ?_
  refine lv_iload hx hb dX0_said_209 (lv_at hl 13 rfl) ?_
  refine lv_isub hx hb dX0_said_211 ?_
  refine va_mmax (own := RX0) hx hb (X.2.2.1.trans hl.1.symm) X.2.2.2.1 (X.2.2.2.2 _ q569) (X.2.2.2.2 _ q570) (X.2.2.2.2 _ q79) (X.2.2.2.2 _ q571) (Nat.le_of_ble_eq_true rfl) (Nat.le_of_ble_eq_true rfl) (nb_u hu) (nb_u hw) dX0_said_212 ?_
  refine lv_iadd hx hb dX0_said_215 ?_
  refine lv_topi (fun x8_18 ex => ?_)
  have hf := ec_lt_p ex hf
  refine lv_istore (lv' := [(8, .int x8_18), (7, .int t0), (0, .ref o), (2, .int x2), (3, .int x3), (4, .int x4), (5, .int x5), (6, .int x6), (9, .int x9), (10, .ref x10), (11, .int x11), (12, .int x12), (13, .int x13), (14, .int x14)]) hx hb dX0_said_216 hl (by decide) rfl (fun ls hl => ?_)
  refine lv_iload hx hb dX0_said_218 (lv_at hl 8 rfl) ?_
  refine lv_iconst (v := 0) hx hb dX0_said_220 (by decide) ?_
  refine lv_iload hx hb dX0_said_221 (lv_at hl 13 rfl) ?_
  refine lv_iload hx hb dX0_said_223 (lv_at hl 12 rfl) ?_
  refine lv_isub hx hb dX0_said_225 ?_
  refine va_mmax (own := RX0) hx hb (X.2.2.1.trans hl.1.symm) X.2.2.2.1 (X.2.2.2.2 _ q569) (X.2.2.2.2 _ q570) (X.2.2.2.2 _ q79) (X.2.2.2.2 _ q571) (Nat.le_of_ble_eq_true rfl) (Nat.le_of_ble_eq_true rfl) (nb_u hu) (nb_u hw) dX0_said_226 ?_
  refine lv_iadd hx hb dX0_said_229 ?_
  refine lv_topi (fun x9_19 ex => ?_)
  have hf := ec_lt_p ex hf
  refine lv_istore (lv' := [(9, .int x9_19), (8, .int x8_18), (7, .int t0), (0, .ref o), (2, .int x2), (3, .int x3), (4, .int x4), (5, .int x5), (6, .int x6), (10, .ref x10), (11, .int x11), (12, .int x12), (13, .int x13), (14, .int x14)]) hx hb dX0_said_230 hl (by decide) rfl (fun ls hl => ?_)
  refine e_inc (w := 1) (f := fun v => [(12, .int v), (9, .int x9_19), (8, .int x8_18), (7, .int t0), (0, .ref o), (2, .int x2), (3, .int x3), (4, .int x4), (5, .int x5), (6, .int x6), (10, .ref x10), (11, .int x11), (13, .int x13), (14, .int x14)]) hx hb dX0_said_232 hl (k := 11) rfl (by decide) (by decide) (fun _ => rfl) (fun x12_20 ex ls hl => ?_)
  have hf := ec_lt_p ex hf
  refine lv_goto (tgt := 109) hx hb dX0_said_235 rfl ?_
  exact Hk109 S bc bk x2 x3 x4 x5 x6 t0 x8_18 x9_19 x10 x11 x12_20 _ _ _ _ _ hf hu hw hM (lv_sub hl [4, 5, 6, 7, 8, 9, 3, 2, 1, 10, 11, 0] rfl)
noncomputable def fX0_said_200 (N : Nat) (Qr : Int32 → sX → Prop) (k109 : sX → Nat → Nat → Int32 → Int32 → Int32 → Int32 → Int32 → Int32 → Int32 → Int32 → Nat → Int32 → Int32 → Prop) (S : sX) (bc bk : Nat) (x2 : Int32) (x3 : Int32) (x4 : Int32) (x5 : Int32) (x6 : Int32) (x7 : Int32) (x8 : Int32) (x9 : Int32) (x10 : Nat) (x11 : Int32) (x12 : Int32) (x13 : Int32) (x14 : Int32) : Prop :=
  fX0_said_202 N Qr k109 S bc bk x2 x3 x4 x5 x6 x8 x9 x10 x11 x12 x13 x14 x7
theorem bX0_said_200 {N : Nat} (X : CallFix p m c cX0_said 15 s args lw_all RX0) (hr : meth.sig.returnType = (some .int)) (hlk : meth.locks = false) (htb : c.exceptionTable.toList.map (fun h => (h.startPc, h.endPc, h.handlerPc, h.catchType)) = [(60, 153, 241, 342), (154, 238, 241, 342), (60, 153, 246, 350), (154, 238, 246, 350), (60, 153, 251, 344), (154, 238, 251, 344)]) (hE : EX K A l s) (hRf : ORF K s) {mc ms : Nat} {Qr : Int32 → sX → Prop} {k109 : sX → Nat → Nat → Int32 → Int32 → Int32 → Int32 → Int32 → Int32 → Int32 → Int32 → Nat → Int32 → Int32 → Prop} (Hk109 : ∀ (S : sX) (bc bk : Nat) (x2 : Int32) (x3 : Int32) (x4 : Int32) (x5 : Int32) (x6 : Int32) (x7 : Int32) (x8 : Int32) (x9 : Int32) (x10 : Nat) (x11 : Int32) (x12 : Int32) (H : Heap) (locs : List Loc) (u w : Nat) (ls : Array Slot), k109 S bc bk x2 x3 x4 x5 x6 x7 x8 x9 x10 x11 x12 → u + bc = mc → w + bk = ms → XW D dA o q S A s H locs → lv_has ls 15 [(0, .ref o), (2, .int x2), (3, .int x3), (4, .int x4), (5, .int x5), (6, .int x6), (7, .int x7), (8, .int x8), (9, .int x9), (10, .ref x10), (11, .int x11), (12, .int x12)] → W p l e (rmE 30 mc ms) s m args below meth c H locs u w (MQT below (YPost D dA o q A (yqI Qr)) args s mc ms A) (F0 m 109 ls [])) : ∀ (S : sX) (bc bk : Nat) (x2 : Int32) (x3 : Int32) (x4 : Int32) (x5 : Int32) (x6 : Int32) (x7 : Int32) (x8 : Int32) (x9 : Int32) (x10 : Nat) (x11 : Int32) (x12 : Int32) (x13 : Int32) (x14 : Int32) (H : Heap) (locs : List Loc) (u w : Nat) (ls : Array Slot), fX0_said_200 N Qr k109 S bc bk x2 x3 x4 x5 x6 x7 x8 x9 x10 x11 x12 x13 x14 → u + bc = mc → w + bk = ms → XW D dA o q S A s H locs → lv_has ls 15 [(0, .ref o), (2, .int x2), (3, .int x3), (4, .int x4), (5, .int x5), (6, .int x6), (7, .int x7), (8, .int x8), (9, .int x9), (10, .ref x10), (11, .int x11), (12, .int x12), (13, .int x13), (14, .int x14)] → W p l e (rmE 30 mc ms) s m args below meth c H locs u w (MQT below (YPost D dA o q A (yqI Qr)) args s mc ms A) (F0 m 200 ls []) := by
  have hx := X.1
  have hb := X.2.1
  intro S bc bk x2 x3 x4 x5 x6 x7 x8 x9 x10 x11 x12 x13 x14 H locs u w ls hf hu hw hM hl
  unfold fX0_said_200 at hf
  refine lv_iload hx hb dX0_said_200 (lv_at hl 6 rfl) ?_
  exact bX0_said_202 X hr hlk htb hE hRf Hk109 S bc bk x2 x3 x4 x5 x6 x8 x9 x10 x11 x12 x13 x14 x7 _ _ _ _ _ hf hu hw hM (lv_sub hl [0, 1, 2, 3, 4, 5, 7, 8, 9, 10, 11, 12, 13] rfl)
noncomputable def fX0_said_178 (N : Nat) (Qr : Int32 → sX → Prop) (k109 : sX → Nat → Nat → Int32 → Int32 → Int32 → Int32 → Int32 → Int32 → Int32 → Int32 → Nat → Int32 → Int32 → Prop) (S : sX) (bc bk : Nat) (x2 : Int32) (x3 : Int32) (x4 : Int32) (x5 : Int32) (x7 : Int32) (x8 : Int32) (x9 : Int32) (x10 : Nat) (x11 : Int32) (x12 : Int32) (x13 : Int32) (x14 : Int32) (t0 : Int32) (t1 : Int32) : Prop :=
  ec_lt (t1 + t0) fun x6_17 =>
  ((x13 = x14) → (
    fX0_said_200 N Qr k109 S bc bk x2 x3 x4 x5 x6_17 x7 x8 x9 x10 x11 x12 x13 x14))
  ∧ (¬ (x13 = x14) → (
    ((¬ x7 = (-4 : Int32)) → (
      fX0_said_200 N Qr k109 S bc bk x2 x3 x4 x5 x6_17 x7 x8 x9 x10 x11 x12 x13 x14))
    ∧ (¬ (¬ x7 = (-4 : Int32)) → (
      fX0_said_202 N Qr k109 S bc bk x2 x3 x4 x5 x6_17 x8 x9 x10 x11 x12 x13 x14 x12))))
theorem bX0_said_178 {N : Nat} (X : CallFix p m c cX0_said 15 s args lw_all RX0) (hr : meth.sig.returnType = (some .int)) (hlk : meth.locks = false) (htb : c.exceptionTable.toList.map (fun h => (h.startPc, h.endPc, h.handlerPc, h.catchType)) = [(60, 153, 241, 342), (154, 238, 241, 342), (60, 153, 246, 350), (154, 238, 246, 350), (60, 153, 251, 344), (154, 238, 251, 344)]) (hE : EX K A l s) (hRf : ORF K s) {mc ms : Nat} {Qr : Int32 → sX → Prop} {k109 : sX → Nat → Nat → Int32 → Int32 → Int32 → Int32 → Int32 → Int32 → Int32 → Int32 → Nat → Int32 → Int32 → Prop} (Hk109 : ∀ (S : sX) (bc bk : Nat) (x2 : Int32) (x3 : Int32) (x4 : Int32) (x5 : Int32) (x6 : Int32) (x7 : Int32) (x8 : Int32) (x9 : Int32) (x10 : Nat) (x11 : Int32) (x12 : Int32) (H : Heap) (locs : List Loc) (u w : Nat) (ls : Array Slot), k109 S bc bk x2 x3 x4 x5 x6 x7 x8 x9 x10 x11 x12 → u + bc = mc → w + bk = ms → XW D dA o q S A s H locs → lv_has ls 15 [(0, .ref o), (2, .int x2), (3, .int x3), (4, .int x4), (5, .int x5), (6, .int x6), (7, .int x7), (8, .int x8), (9, .int x9), (10, .ref x10), (11, .int x11), (12, .int x12)] → W p l e (rmE 30 mc ms) s m args below meth c H locs u w (MQT below (YPost D dA o q A (yqI Qr)) args s mc ms A) (F0 m 109 ls [])) : ∀ (S : sX) (bc bk : Nat) (x2 : Int32) (x3 : Int32) (x4 : Int32) (x5 : Int32) (x7 : Int32) (x8 : Int32) (x9 : Int32) (x10 : Nat) (x11 : Int32) (x12 : Int32) (x13 : Int32) (x14 : Int32) (t0 : Int32) (t1 : Int32) (H : Heap) (locs : List Loc) (u w : Nat) (ls : Array Slot), fX0_said_178 N Qr k109 S bc bk x2 x3 x4 x5 x7 x8 x9 x10 x11 x12 x13 x14 t0 t1 → u + bc = mc → w + bk = ms → XW D dA o q S A s H locs → lv_has ls 15 [(0, .ref o), (2, .int x2), (3, .int x3), (4, .int x4), (5, .int x5), (7, .int x7), (8, .int x8), (9, .int x9), (10, .ref x10), (11, .int x11), (12, .int x12), (13, .int x13), (14, .int x14)] → W p l e (rmE 30 mc ms) s m args below meth c H locs u w (MQT below (YPost D dA o q A (yqI Qr)) args s mc ms A) (F0 m 178 ls [.int t0, .int t1]) := by
  have hx := X.1
  have hb := X.2.1
  intro S bc bk x2 x3 x4 x5 x7 x8 x9 x10 x11 x12 x13 x14 t0 t1 H locs u w ls hf hu hw hM hl
  unfold fX0_said_178 at hf
  refine lv_iadd hx hb dX0_said_178 ?_
  refine lv_topi (fun x6_17 ex => ?_)
  have hf := ec_lt_p ex hf
  refine lv_istore (lv' := [(6, .int x6_17), (0, .ref o), (2, .int x2), (3, .int x3), (4, .int x4), (5, .int x5), (7, .int x7), (8, .int x8), (9, .int x9), (10, .ref x10), (11, .int x11), (12, .int x12), (13, .int x13), (14, .int x14)]) hx hb dX0_said_179 hl (by decide) rfl (fun ls hl => ?_)
  refine lv_iload hx hb dX0_said_181 (lv_at hl 12 rfl) ?_
  refine lv_iload hx hb dX0_said_183 (lv_at hl 13 rfl) ?_
  refine lv_icmp_eq (tgt := 200) hx hb dX0_said_185 rfl (fun cnd => ?_) (fun cnd => ?_)
  · have hf := hf.1 cnd
    exact bX0_said_200 X hr hlk htb hE hRf Hk109 S bc bk x2 x3 x4 x5 x6_17 x7 x8 x9 x10 x11 x12 x13 x14 _ _ _ _ _ hf hu hw hM (lv_sub hl [1, 2, 3, 4, 5, 0, 6, 7, 8, 9, 10, 11, 12, 13] rfl)
  · have hf := hf.2 cnd
    refine lv_iload hx hb dX0_said_188 (lv_at hl 6 rfl) ?_
    refine lv_bipush (v := -4) hx hb dX0_said_190 (by decide) ?_
    refine lv_icmp_ne (tgt := 200) hx hb dX0_said_192 rfl (fun cnd => ?_) (fun cnd => ?_)
    · have hf := hf.1 cnd
      exact bX0_said_200 X hr hlk htb hE hRf Hk109 S bc bk x2 x3 x4 x5 x6_17 x7 x8 x9 x10 x11 x12 x13 x14 _ _ _ _ _ hf hu hw hM (lv_sub hl [1, 2, 3, 4, 5, 0, 6, 7, 8, 9, 10, 11, 12, 13] rfl)
    · have hf := hf.2 (not_not_intro cnd)
      refine lv_iload hx hb dX0_said_195 (lv_at hl 11 rfl) ?_
      refine lv_goto (tgt := 202) hx hb dX0_said_197 rfl ?_
      exact bX0_said_202 X hr hlk htb hE hRf Hk109 S bc bk x2 x3 x4 x5 x6_17 x8 x9 x10 x11 x12 x13 x14 x12 _ _ _ _ _ hf hu hw hM (lv_sub hl [1, 2, 3, 4, 5, 0, 7, 8, 9, 10, 11, 12, 13] rfl)
noncomputable def fX0_said_109 (N : Nat) (Qr : Int32 → sX → Prop) (kx148 : sX → Nat → Nat → Int32 → Prop) (kx238 : sX → Nat → Nat → Int32 → Int32 → Int32 → Int32 → Int32 → Prop) : Nat → sX → Nat → Nat → Int32 → Int32 → Int32 → Int32 → Int32 → Int32 → Int32 → Int32 → Nat → Int32 → Int32 → Prop
  | 0, _, _, _, _, _, _, _, _, _, _, _, _, _, _ => False
  | n + 1, S, bc, bk, x2, x3, x4, x5, x6, x7, x8, x9, x10, x11, x12 =>
    (((S.1 4) ≤ x12) → (
      kx238 S bc bk x5 x6 x7 x8 x9))
    ∧ (¬ ((S.1 4) ≤ x12) → (
      ((x11 < 0) → (
        kx238 S bc bk x5 x6 x7 x8 x9))
      ∧ (¬ (x11 < 0) → (
        ∃ c_10 k_11 : Nat, c_10 ≤ bc ∧ k_11 ≤ bk ∧ fX0_cell (fun h => ec_lt (xH S h) fun S_13 => Qr (-12) S_13) (fun v_14 h => ec_lt (xH S h) fun S_12 =>
        ∃ v_15, (fX0_isIn (v_14.toInt64) (0 : Int64) (999999 : Int64)) = some v_15 ∧
        ((¬ v_15 = 0) → (
          ∃ v_16, (fX0_made S_12 x12 x4) = some v_16 ∧
          ((¬ v_14 = v_16) → (
            fX0_said_178 N Qr (fX0_said_109 N Qr kx148 kx238 n) S_12 (bc - c_10) (bk - k_11) x2 x3 x4 x5 x7 x8 x9 x10 x11 x12 v_14 v_16 (0 : Int32) x6))
          ∧ (¬ (¬ v_14 = v_16) → (
            fX0_said_178 N Qr (fX0_said_109 N Qr kx148 kx238 n) S_12 (bc - c_10) (bk - k_11) x2 x3 x4 x5 x7 x8 x9 x10 x11 x12 v_14 v_16 (1 : Int32) x6))))
        ∧ (¬ (¬ v_15 = 0) → (
          kx148 S_12 (bc - c_10) (bk - k_11) x12))) S.2.2.2 c_10 k_11 (some x10) x2 (x3 + x12)))))
theorem bX0_said_109 {N : Nat} (X : CallFix p m c cX0_said 15 s args lw_all RX0) (hr : meth.sig.returnType = (some .int)) (hlk : meth.locks = false) (htb : c.exceptionTable.toList.map (fun h => (h.startPc, h.endPc, h.handlerPc, h.catchType)) = [(60, 153, 241, 342), (154, 238, 241, 342), (60, 153, 246, 350), (154, 238, 246, 350), (60, 153, 251, 344), (154, 238, 251, 344)]) (hE : EX K A l s) (hRf : ORF K s) {mc ms : Nat} {Qr : Int32 → sX → Prop} {kx148 : sX → Nat → Nat → Int32 → Prop} {kx238 : sX → Nat → Nat → Int32 → Int32 → Int32 → Int32 → Int32 → Prop} (Hkx148 : ∀ (S : sX) (bc bk : Nat) (x12 : Int32) (H : Heap) (locs : List Loc) (u w : Nat) (ls : Array Slot), kx148 S bc bk x12 → u + bc = mc → w + bk = ms → XW D dA o q S A s H locs → lv_has ls 15 [(0, .ref o), (12, .int x12)] → W p l e (rmE 30 mc ms) s m args below meth c H locs u w (MQT below (YPost D dA o q A (yqI Qr)) args s mc ms A) (F0 m 148 ls [])) (Hkx238 : ∀ (S : sX) (bc bk : Nat) (x5 : Int32) (x6 : Int32) (x7 : Int32) (x8 : Int32) (x9 : Int32) (H : Heap) (locs : List Loc) (u w : Nat) (ls : Array Slot), kx238 S bc bk x5 x6 x7 x8 x9 → u + bc = mc → w + bk = ms → XW D dA o q S A s H locs → lv_has ls 15 [(0, .ref o), (5, .int x5), (6, .int x6), (7, .int x7), (8, .int x8), (9, .int x9)] → W p l e (rmE 30 mc ms) s m args below meth c H locs u w (MQT below (YPost D dA o q A (yqI Qr)) args s mc ms A) (F0 m 238 ls [])) : ∀ (n : Nat) (S : sX) (bc bk : Nat) (x2 : Int32) (x3 : Int32) (x4 : Int32) (x5 : Int32) (x6 : Int32) (x7 : Int32) (x8 : Int32) (x9 : Int32) (x10 : Nat) (x11 : Int32) (x12 : Int32) (H : Heap) (locs : List Loc) (u w : Nat) (ls : Array Slot), fX0_said_109 N Qr kx148 kx238 n S bc bk x2 x3 x4 x5 x6 x7 x8 x9 x10 x11 x12 → u + bc = mc → w + bk = ms → XW D dA o q S A s H locs → lv_has ls 15 [(0, .ref o), (2, .int x2), (3, .int x3), (4, .int x4), (5, .int x5), (6, .int x6), (7, .int x7), (8, .int x8), (9, .int x9), (10, .ref x10), (11, .int x11), (12, .int x12)] → W p l e (rmE 30 mc ms) s m args below meth c H locs u w (MQT below (YPost D dA o q A (yqI Qr)) args s mc ms A) (F0 m 109 ls []) := by
  have hx := X.1
  have hb := X.2.1
  intro n
  induction n with
  | zero =>
    intro S bc bk x2 x3 x4 x5 x6 x7 x8 x9 x10 x11 x12 H locs u w ls hf hu hw hM hl
    rw [fX0_said_109] at hf
    exact hf.elim
  | succ n ih =>
    intro S bc bk x2 x3 x4 x5 x6 x7 x8 x9 x10 x11 x12 H locs u w ls hf hu hw hM hl
    rw [fX0_said_109] at hf
    refine lv_iload hx hb dX0_said_109 (lv_at hl 11 rfl) ?_
    refine lv_aload_n hx hb dX0_said_111 rfl (lv_at hl 0 rfl) ?_
    refine x_get (v := .int (S.1 4)) X hM 4 (by decide) q772 rfl rfl dX0_said_112 ?_
    refine lv_icmp_ge (tgt := 238) hx hb dX0_said_115 rfl (fun cnd => ?_) (fun cnd => ?_)
    · have hf := hf.1 cnd
      exact Hkx238 S bc bk x5 x6 x7 x8 x9 _ _ _ _ _ hf hu hw hM (lv_sub hl [0, 4, 5, 6, 7, 8] rfl)
    · have hf := hf.2 cnd
      refine lv_iload hx hb dX0_said_118 (lv_at hl 10 rfl) ?_
      refine lv_if_lt (tgt := 238) hx hb dX0_said_120 rfl (fun cnd => ?_) (fun cnd => ?_)
      · have hf := hf.1 cnd
        exact Hkx238 S bc bk x5 x6 x7 x8 x9 _ _ _ _ _ hf hu hw hM (lv_sub hl [0, 4, 5, 6, 7, 8] rfl)
      · have hf := hf.2 cnd
        refine lv_aload hx hb dX0_said_123 (lv_at hl 9 rfl) ?_
        refine lv_iload_n hx hb dX0_said_125 rfl (lv_at hl 1 rfl) ?_
        refine lv_iload_n hx hb dX0_said_126 rfl (lv_at hl 2 rfl) ?_
        refine lv_iload hx hb dX0_said_127 (lv_at hl 11 rfl) ?_
        refine lv_iadd hx hb dX0_said_129 ?_
        obtain ⟨c_10, k_11, hc1, hk1, hf⟩ := hf
        obtain ⟨cE, hcE⟩ : ∃ c0, s.vm.findClass "java/lang/ArrayIndexOutOfBoundsException" = some c0 := ⟨_, (hE.2.2.2.2.1.at 6 rfl).choose_spec.choose_spec.1⟩
        refine u_call (cls := "java/lang/ArrayIndexOutOfBoundsException") (rest := []) hM hE.1 (t_runS (As := [.ref x10, .int x2, .int (x3 + x12)]) (rest := []) X (metX0_cell l D dA K hE.2.2.2.2.2 cE _ _ S.2.2.2 c_10 k_11 (some x10) x2 (x3 + x12) hf) (va_cwS 3 X.2.2.2.2 gX0_346 rfl rfl rfl hX0_cell (rmE_le (Nat.le_of_ble_eq_true rfl) (Nat.le_of_ble_eq_true rfl))) ⟨UPre.blind, u_pre hM hE hRf hcE⟩ rfl rfl hl.1 rfl (lv_room (Nat.le_of_ble_eq_true rfl)) dX0_said_130 ⟨nb_le hu hc1, nb_le hw hk1⟩) hcE (fun hpl cE hcE => cTab_of _ (by rw [htb]; exact (l_pass (C := "java/lang/ArrayIndexOutOfBoundsException") (name := "java/lang/NullPointerException") hpl X.2.2.2.1 ⟨by decide, by decide⟩ (by decide) (X.2.2.2.2 _ q892) hcE (hE.2.2.2.2.1.at 6 rfl) (l_skip (by decide) (l_pass (C := "java/lang/ArrayIndexOutOfBoundsException") (name := "java/lang/ClassCastException") hpl X.2.2.2.1 ⟨by decide, by decide⟩ (by decide) (X.2.2.2.2 _ q943) hcE (hE.2.2.2.2.1.at 7 rfl) (l_skip (by decide) (l_hit (name := "java/lang/ArrayIndexOutOfBoundsException") hpl X.2.2.2.1 ⟨by decide, by decide⟩ (by decide) (X.2.2.2.2 _ q917) hcE (va_asg _ _) rfl))))))) (fun v h1 H locs hf hM => ?_) (fun a h1 H locs hf hM => ?_)
        rotate_left
        · obtain ⟨S_13, eS, hM⟩ := x_nm hM
          have hf := ec_lt_p eS hf
          exact bX0_said_h251 X hr hlk S_13 _ _ _ _ ls _ hf (nb_le hu hc1) (nb_le hw hk1) hM (lv_sub hl [0] rfl)
        obtain ⟨v_14, rfl, hf⟩ := hf
        obtain ⟨S_12, eS, hM⟩ := x_nm hM
        have hf := ec_lt_p eS hf
        have hu := nb_sub hu hc1
        have hw := nb_sub hw hk1
        refine W.eq (g2 := F0 m _ _ [.int v_14]) rfl ?_
        refine lv_istore (lv' := [(13, .int v_14), (0, .ref o), (2, .int x2), (3, .int x3), (4, .int x4), (5, .int x5), (6, .int x6), (7, .int x7), (8, .int x8), (9, .int x9), (10, .ref x10), (11, .int x11), (12, .int x12)]) hx hb dX0_said_133 hl (by decide) rfl (fun ls hl => ?_)
        refine lv_iload hx hb dX0_said_135 (lv_at hl 0 rfl) ?_
        refine lv_i2l hx hb dX0_said_137 rfl ?_
        refine lv_lconst (v := 0) hx hb dX0_said_138 (by decide) ?_
        refine lv_ldc2 (own := RX0) (v := 999999) hx hb X.2.2.2.1 (X.2.2.2.2 _ q523) dX0_said_139 ?_
        obtain ⟨v_15, h, hf⟩ := hf
        refine e_cS (v := .int v_15) (As := [.long (v_14.toInt64), .long (0 : Int64), .long (999999 : Int64)]) (rest := []) X (metX0_isIn l (v_14.toInt64) (0 : Int64) (999999 : Int64) _ h) (va_cwS 3 X.2.2.2.2 gX0_21 rfl rfl rfl hX0_isIn (rmE_leL (Nat.le_of_ble_eq_true rfl) (Nat.le_of_ble_eq_true rfl))) rfl hl.1 rfl (Nat.le_of_ble_eq_true rfl) ⟨nb_u hu, nb_u hw⟩ dX0_said_142 ?_
        refine lv_if_ne (tgt := 154) hx hb dX0_said_145 rfl (fun cnd => ?_) (fun cnd => ?_)
        · have hf := hf.1 cnd
          refine lv_aload_n hx hb dX0_said_154 rfl (lv_at hl 1 rfl) ?_
          refine lv_iload hx hb dX0_said_155 (lv_at hl 12 rfl) ?_
          refine lv_iload hx hb dX0_said_157 (lv_at hl 4 rfl) ?_
          obtain ⟨v_16, h, hf⟩ := hf
          refine x_cR (v := .int v_16) (As := [.int x12, .int x4]) (rest := []) X hM (metX0_made l D dA o q S_12 x12 x4 _ h) (cwV 2 X.2.2.2.2 gX0_163 rfl rfl rfl hX0_made (rmE_leL (Nat.le_of_ble_eq_true rfl) (Nat.le_of_ble_eq_true rfl))) rfl hl.1 rfl (Nat.le_of_ble_eq_true rfl) ⟨nb_u hu, nb_u hw⟩ dX0_said_159 ?_
          refine lv_istore (lv' := [(14, .int v_16), (13, .int v_14), (0, .ref o), (2, .int x2), (3, .int x3), (4, .int x4), (5, .int x5), (6, .int x6), (7, .int x7), (8, .int x8), (9, .int x9), (10, .ref x10), (11, .int x11), (12, .int x12)]) hx hb dX0_said_162 hl (by decide) rfl (fun ls hl => ?_)
          refine lv_iload hx hb dX0_said_164 (lv_at hl 7 rfl) ?_
          refine lv_iload hx hb dX0_said_166 (lv_at hl 1 rfl) ?_
          refine lv_iload hx hb dX0_said_168 (lv_at hl 0 rfl) ?_
          refine lv_icmp_ne (tgt := 177) hx hb dX0_said_170 rfl (fun cnd => ?_) (fun cnd => ?_)
          · have hf := hf.1 cnd
            refine lv_iconst (v := 0) hx hb dX0_said_177 (by decide) ?_
            exact bX0_said_178 X hr hlk htb hE hRf ih S_12 (bc - c_10) (bk - k_11) x2 x3 x4 x5 x7 x8 x9 x10 x11 x12 v_14 v_16 (0 : Int32) x6 _ _ _ _ _ hf hu hw hM (lv_sub hl [2, 3, 4, 5, 6, 8, 9, 10, 11, 12, 13, 1, 0] rfl)
          · have hf := hf.2 (not_not_intro cnd)
            refine lv_iconst (v := 1) hx hb dX0_said_173 (by decide) ?_
            refine lv_goto (tgt := 178) hx hb dX0_said_174 rfl ?_
            exact bX0_said_178 X hr hlk htb hE hRf ih S_12 (bc - c_10) (bk - k_11) x2 x3 x4 x5 x7 x8 x9 x10 x11 x12 v_14 v_16 (1 : Int32) x6 _ _ _ _ _ hf hu hw hM (lv_sub hl [2, 3, 4, 5, 6, 8, 9, 10, 11, 12, 13, 1, 0] rfl)
        · have hf := hf.2 (not_not_intro cnd)
          exact Hkx148 S_12 (bc - c_10) (bk - k_11) x12 _ _ _ _ _ hf hu hw hM (lv_sub hl [1, 12] rfl)
noncomputable def fX0_said_238 (N : Nat) (Qr : Int32 → sX → Prop) (S : sX) (bc bk : Nat) (x5 : Int32) (x6 : Int32) (x7 : Int32) (x8 : Int32) (x9 : Int32) : Prop :=
  ((¬ x5 = 0) → (
    ((¬ x5 = (1 : Int32)) → (
      ((¬ x5 = (2 : Int32)) → (
        Qr x9 S))
      ∧ (¬ (¬ x5 = (2 : Int32)) → (
        Qr x8 S))))
    ∧ (¬ (¬ x5 = (1 : Int32)) → (
      Qr x7 S))))
  ∧ (¬ (¬ x5 = 0) → (
    Qr x6 S))
theorem bX0_said_238 {N : Nat} (X : CallFix p m c cX0_said 15 s args lw_all RX0) (hr : meth.sig.returnType = (some .int)) (hlk : meth.locks = false) (htb : c.exceptionTable.toList.map (fun h => (h.startPc, h.endPc, h.handlerPc, h.catchType)) = [(60, 153, 241, 342), (154, 238, 241, 342), (60, 153, 246, 350), (154, 238, 246, 350), (60, 153, 251, 344), (154, 238, 251, 344)]) (hE : EX K A l s) (hRf : ORF K s) {mc ms : Nat} {Qr : Int32 → sX → Prop} : ∀ (S : sX) (bc bk : Nat) (x5 : Int32) (x6 : Int32) (x7 : Int32) (x8 : Int32) (x9 : Int32) (H : Heap) (locs : List Loc) (u w : Nat) (ls : Array Slot), fX0_said_238 N Qr S bc bk x5 x6 x7 x8 x9 → u + bc = mc → w + bk = ms → XW D dA o q S A s H locs → lv_has ls 15 [(0, .ref o), (5, .int x5), (6, .int x6), (7, .int x7), (8, .int x8), (9, .int x9)] → W p l e (rmE 30 mc ms) s m args below meth c H locs u w (MQT below (YPost D dA o q A (yqI Qr)) args s mc ms A) (F0 m 238 ls []) := by
  have hx := X.1
  have hb := X.2.1
  intro S bc bk x5 x6 x7 x8 x9 H locs u w ls hf hu hw hM hl
  unfold fX0_said_238 at hf
  refine lv_goto (tgt := 256) hx hb dX0_said_238 rfl ?_
  refine lv_iload hx hb dX0_said_256 (lv_at hl 1 rfl) ?_
  refine lv_if_ne (tgt := 266) hx hb dX0_said_258 rfl (fun cnd => ?_) (fun cnd => ?_)
  · have hf := hf.1 cnd
    refine lv_iload hx hb dX0_said_266 (lv_at hl 1 rfl) ?_
    refine lv_iconst (v := 1) hx hb dX0_said_268 (by decide) ?_
    refine lv_icmp_ne (tgt := 277) hx hb dX0_said_269 rfl (fun cnd => ?_) (fun cnd => ?_)
    · have hf := hf.1 cnd
      refine lv_iload hx hb dX0_said_277 (lv_at hl 1 rfl) ?_
      refine lv_iconst (v := 2) hx hb dX0_said_279 (by decide) ?_
      refine lv_icmp_ne (tgt := 288) hx hb dX0_said_280 rfl (fun cnd => ?_) (fun cnd => ?_)
      · have hf := hf.1 cnd
        refine lv_iload hx hb dX0_said_288 (lv_at hl 5 rfl) ?_
        exact y_iret X hr hlk hM (nb_u hu) (nb_u hw) hf dX0_said_290
      · have hf := hf.2 (not_not_intro cnd)
        refine lv_iload hx hb dX0_said_283 (lv_at hl 4 rfl) ?_
        refine lv_goto (tgt := 290) hx hb dX0_said_285 rfl ?_
        exact y_iret X hr hlk hM (nb_u hu) (nb_u hw) hf dX0_said_290
    · have hf := hf.2 (not_not_intro cnd)
      refine lv_iload hx hb dX0_said_272 (lv_at hl 3 rfl) ?_
      refine lv_goto (tgt := 290) hx hb dX0_said_274 rfl ?_
      exact y_iret X hr hlk hM (nb_u hu) (nb_u hw) hf dX0_said_290
  · have hf := hf.2 (not_not_intro cnd)
    refine lv_iload hx hb dX0_said_261 (lv_at hl 2 rfl) ?_
    refine lv_goto (tgt := 290) hx hb dX0_said_263 rfl ?_
    exact y_iret X hr hlk hM (nb_u hu) (nb_u hw) hf dX0_said_290
noncomputable def fX0_said_104 (N : Nat) (Qr : Int32 → sX → Prop) (S : sX) (bc bk : Nat) (x2 : Int32) (x3 : Int32) (x4 : Int32) (x5 : Int32) (x6 : Int32) (x7 : Int32) (x8 : Int32) (x9 : Int32) (x10 : Nat) (t0 : Int32) : Prop :=
  fX0_said_109 N Qr (fun S_21 bc_22 bk_23 x12_24 =>
    Qr ((-20 : Int32) - x12_24) S_21) (fun S_25 bc_26 bk_27 x5_28 x6_29 x7_30 x8_31 x9_32 =>
    fX0_said_238 N Qr S_25 bc_26 bk_27 x5_28 x6_29 x7_30 x8_31 x9_32) N S bc bk x2 x3 x4 x5 x6 x7 x8 x9 x10 t0 (0 : Int32)
theorem bX0_said_104 {N : Nat} (X : CallFix p m c cX0_said 15 s args lw_all RX0) (hr : meth.sig.returnType = (some .int)) (hlk : meth.locks = false) (htb : c.exceptionTable.toList.map (fun h => (h.startPc, h.endPc, h.handlerPc, h.catchType)) = [(60, 153, 241, 342), (154, 238, 241, 342), (60, 153, 246, 350), (154, 238, 246, 350), (60, 153, 251, 344), (154, 238, 251, 344)]) (hE : EX K A l s) (hRf : ORF K s) {mc ms : Nat} {Qr : Int32 → sX → Prop} : ∀ (S : sX) (bc bk : Nat) (x2 : Int32) (x3 : Int32) (x4 : Int32) (x5 : Int32) (x6 : Int32) (x7 : Int32) (x8 : Int32) (x9 : Int32) (x10 : Nat) (t0 : Int32) (H : Heap) (locs : List Loc) (u w : Nat) (ls : Array Slot), fX0_said_104 N Qr S bc bk x2 x3 x4 x5 x6 x7 x8 x9 x10 t0 → u + bc = mc → w + bk = ms → XW D dA o q S A s H locs → lv_has ls 15 [(0, .ref o), (2, .int x2), (3, .int x3), (4, .int x4), (5, .int x5), (6, .int x6), (7, .int x7), (8, .int x8), (9, .int x9), (10, .ref x10)] → W p l e (rmE 30 mc ms) s m args below meth c H locs u w (MQT below (YPost D dA o q A (yqI Qr)) args s mc ms A) (F0 m 104 ls [.int t0]) := by
  have hx := X.1
  have hb := X.2.1
  intro S bc bk x2 x3 x4 x5 x6 x7 x8 x9 x10 t0 H locs u w ls hf hu hw hM hl
  unfold fX0_said_104 at hf
  refine lv_istore (lv' := [(11, .int t0), (0, .ref o), (2, .int x2), (3, .int x3), (4, .int x4), (5, .int x5), (6, .int x6), (7, .int x7), (8, .int x8), (9, .int x9), (10, .ref x10)]) hx hb dX0_said_104 hl (by decide) rfl (fun ls hl => ?_)
  refine lv_iconst (v := 0) hx hb dX0_said_106 (by decide) ?_
  refine lv_istore (lv' := [(12, .int (0 : Int32)), (11, .int t0), (0, .ref o), (2, .int x2), (3, .int x3), (4, .int x4), (5, .int x5), (6, .int x6), (7, .int x7), (8, .int x8), (9, .int x9), (10, .ref x10)]) hx hb dX0_said_107 hl (by decide) rfl (fun ls hl => ?_)
  exact bX0_said_109 X hr hlk htb hE hRf (fun S_21 bc_22 bk_23 x12_24 H locs u w ls hf hu hw hM hl => by
    refine lv_bipush (v := -20) hx hb dX0_said_148 (by decide) ?_
    refine lv_iload hx hb dX0_said_150 (lv_at hl 1 rfl) ?_
    refine lv_isub hx hb dX0_said_152 ?_
    exact y_iret X hr hlk hM (nb_u hu) (nb_u hw) hf dX0_said_153) (fun S_25 bc_26 bk_27 x5_28 x6_29 x7_30 x8_31 x9_32 H locs u w ls hf hu hw hM hl => by
    exact bX0_said_238 X hr hlk htb hE hRf  S_25 bc_26 bk_27 x5_28 x6_29 x7_30 x8_31 x9_32 _ _ _ _ _ hf hu hw hM hl) N S bc bk x2 x3 x4 x5 x6 x7 x8 x9 x10 t0 (0 : Int32) _ _ _ _ _ hf hu hw hM (lv_sub hl [2, 3, 4, 5, 6, 7, 8, 9, 10, 11, 1, 0] rfl)
noncomputable def fX0_said (N : Nat) (Qr : Int32 → sX → Prop) (S : sX) (bc bk : Nat) (x1 : Int32) (x2 : Int32) (x3 : Int32) (x4 : Int32) (x5 : Int32) : Prop :=
  ∃ v_1, (fX0_isIn (x1.toInt64) (0 : Int64) (3 : Int64)) = some v_1 ∧
  ((v_1 = 0) → (
    fX0_said_45 N Qr S bc bk))
  ∧ (¬ (v_1 = 0) → (
    ∃ v_2, (fX0_isIn (x2.toInt64) (0 : Int64) (2 : Int64)) = some v_2 ∧
    ((v_2 = 0) → (
      fX0_said_45 N Qr S bc bk))
    ∧ (¬ (v_2 = 0) → (
      ∃ v_3, (fX0_isEvent x4) = some v_3 ∧
      ((v_3 = 0) → (
        fX0_said_45 N Qr S bc bk))
      ∧ (¬ (v_3 = 0) → (
        ∃ v_4, (fX0_isIn (x5.toInt64) (0 : Int64) (3 : Int64)) = some v_4 ∧
        ((¬ v_4 = 0) → (
          ∃ v_5, (hAr 8 S.2.2.2 (S.2.2.1 27) x1) = some v_5 ∧
          ∃ v_6, (hQ 2 S.2.2.2 v_5 0) = some v_6 ∧
          ((¬ x2 = 0) → (
            ((¬ x2 = (1 : Int32)) → (
              ∃ τ_7, rowT S.2.2.2 v_6 = some τ_7 ∧
              3 ≤ bc ∧ 600 ≤ bk ∧ (¬ (τ_7 = none ∨ τ_7 = some 0) → Qr (-13) S) ∧ ((τ_7 = none ∨ τ_7 = some 0) →
              3 ≤ bc ∧ 600 ≤ bk ∧ (v_6 = none → Qr (-11) S) ∧ ∀ (a_8 n_9 : Nat) (f : Nat → Int32), v_6 = some a_8 → S.2.2.2 a_8 = some (.inl (0, n_9, .inl f)) →
              fX0_said_104 N Qr S bc bk x2 x3 x4 x5 (0 : Int32) (-4 : Int32) (0 : Int32) (0 : Int32) a_8 (Int32.ofNat n_9))))
            ∧ (¬ (¬ x2 = (1 : Int32)) → (
              ∃ τ_33, rowT S.2.2.2 v_6 = some τ_33 ∧
              3 ≤ bc ∧ 600 ≤ bk ∧ (¬ (τ_33 = none ∨ τ_33 = some 3) → Qr (-13) S) ∧ ((τ_33 = none ∨ τ_33 = some 3) →
              3 ≤ bc ∧ 600 ≤ bk ∧ (v_6 = none → Qr (-11) S) ∧ ∀ (a_34 n_35 : Nat) (f : Nat → Int32), v_6 = some a_34 → S.2.2.2 a_34 = some (.inl (3, n_35, .inl f)) →
              fX0_said_104 N Qr S bc bk x2 x3 x4 x5 (0 : Int32) (-4 : Int32) (0 : Int32) (0 : Int32) a_34 (Int32.ofNat n_35))))))
          ∧ (¬ (¬ x2 = 0) → (
            ∃ τ_36, rowT S.2.2.2 v_6 = some τ_36 ∧
            3 ≤ bc ∧ 600 ≤ bk ∧ (¬ (τ_36 = none ∨ τ_36 = some 2) → Qr (-13) S) ∧ ((τ_36 = none ∨ τ_36 = some 2) →
            3 ≤ bc ∧ 600 ≤ bk ∧ (v_6 = none → Qr (-11) S) ∧ ∀ (a_37 n_38 : Nat) (f : Nat → Int32), v_6 = some a_37 → S.2.2.2 a_37 = some (.inl (2, n_38, .inl f)) →
            fX0_said_104 N Qr S bc bk x2 x3 x4 x5 (0 : Int32) (-4 : Int32) (0 : Int32) (0 : Int32) a_37 (Int32.ofNat n_38))))))
        ∧ (¬ (¬ v_4 = 0) → (
          fX0_said_45 N Qr S bc bk))))))))
theorem metX0_said (l : Launch) (D : va_G) (dA : Nat → ClassId) (K : oK) (o : Nat) (q : Nat → Nat) (htr : ∀ e : Env, l.admits e → e.platform.stackTraces = false) (N : Nat) (Qr : Int32 → sX → Prop) (S : sX) (bc bk : Nat) (x1 : Int32) (x2 : Int32) (x3 : Int32) (x4 : Int32) (x5 : Int32) {sz : Nat} (hf : fX0_said N Qr S bc bk x1 x2 x3 x4 x5) : Met l yX0_said (wsW_ yX0_said cX0_said 15 (some .int) [(60, 153, 241, 342), (154, 238, 241, 342), (60, 153, 246, 350), (154, 238, 246, 350), (60, 153, 251, 344), (154, 238, 251, 344)]) (rmE 30 bc bk) (EPre D dA K sz o q S [.int x1, .int x2, .int x3, .int x4, .int x5]) (YPost D dA o q (YA o q S.2.2.2 sz) (yqI Qr)) bc bk (YA o q S.2.2.2 sz) := by
  refine y_ofE htr rfl (Nat.le_of_ble_eq_true rfl) (fun A p e s m args below meth c X hr hlk htb hE hRf hM ls hl => ?_)
  have hl : lv_has ls 15 [(0, .ref o), (1, .int x1), (2, .int x2), (3, .int x3), (4, .int x4), (5, .int x5)] := hl
  have hx := X.1
  have hb := X.2.1
  have hu : 0 + bc = bc := Nat.zero_add bc
  have hw : 0 + bk = bk := Nat.zero_add bk
  unfold fX0_said at hf
  refine lv_iload_n hx hb dX0_said_0 rfl (lv_at hl 1 rfl) ?_
  refine lv_i2l hx hb dX0_said_1 rfl ?_
  refine lv_lconst (v := 0) hx hb dX0_said_2 (by decide) ?_
  refine lv_ldc2 (own := RX0) (v := 3) hx hb X.2.2.2.1 (X.2.2.2.2 _ q645) dX0_said_3 ?_
  obtain ⟨v_1, h, hf⟩ := hf
  refine e_cS (v := .int v_1) (As := [.long (x1.toInt64), .long (0 : Int64), .long (3 : Int64)]) (rest := []) X (metX0_isIn l (x1.toInt64) (0 : Int64) (3 : Int64) _ h) (va_cwS 3 X.2.2.2.2 gX0_21 rfl rfl rfl hX0_isIn (rmE_leL (Nat.le_of_ble_eq_true rfl) (Nat.le_of_ble_eq_true rfl))) rfl hl.1 rfl (Nat.le_of_ble_eq_true rfl) ⟨nb_u hu, nb_u hw⟩ dX0_said_6 ?_
  refine lv_if_eq (tgt := 45) hx hb dX0_said_9 rfl (fun cnd => ?_) (fun cnd => ?_)
  · have hf := hf.1 cnd
    exact bX0_said_45 X hr hlk htb hE hRf  S bc bk _ _ _ _ _ hf hu hw hM (lv_sub hl [0] rfl)
  · have hf := hf.2 cnd
    refine lv_iload_n hx hb dX0_said_12 rfl (lv_at hl 2 rfl) ?_
    refine lv_i2l hx hb dX0_said_13 rfl ?_
    refine lv_lconst (v := 0) hx hb dX0_said_14 (by decide) ?_
    refine lv_ldc2 (own := RX0) (v := 2) hx hb X.2.2.2.1 (X.2.2.2.2 _ q592) dX0_said_15 ?_
    obtain ⟨v_2, h, hf⟩ := hf
    refine e_cS (v := .int v_2) (As := [.long (x2.toInt64), .long (0 : Int64), .long (2 : Int64)]) (rest := []) X (metX0_isIn l (x2.toInt64) (0 : Int64) (2 : Int64) _ h) (va_cwS 3 X.2.2.2.2 gX0_21 rfl rfl rfl hX0_isIn (rmE_leL (Nat.le_of_ble_eq_true rfl) (Nat.le_of_ble_eq_true rfl))) rfl hl.1 rfl (Nat.le_of_ble_eq_true rfl) ⟨nb_u hu, nb_u hw⟩ dX0_said_18 ?_
    refine lv_if_eq (tgt := 45) hx hb dX0_said_21 rfl (fun cnd => ?_) (fun cnd => ?_)
    · have hf := hf.1 cnd
      exact bX0_said_45 X hr hlk htb hE hRf  S bc bk _ _ _ _ _ hf hu hw hM (lv_sub hl [0] rfl)
    · have hf := hf.2 cnd
      refine lv_iload hx hb dX0_said_24 (lv_at hl 4 rfl) ?_
      obtain ⟨v_3, h, hf⟩ := hf
      refine e_cS (v := .int v_3) (As := [.int x4]) (rest := []) X (metX0_isEvent l x4 _ h) (va_cwS 1 X.2.2.2.2 gX0_125 rfl rfl rfl hX0_isEvent (rmE_leL (Nat.le_of_ble_eq_true rfl) (Nat.le_of_ble_eq_true rfl))) rfl hl.1 rfl (Nat.le_of_ble_eq_true rfl) ⟨nb_u hu, nb_u hw⟩ dX0_said_26 ?_
      refine lv_if_eq (tgt := 45) hx hb dX0_said_29 rfl (fun cnd => ?_) (fun cnd => ?_)
      · have hf := hf.1 cnd
        exact bX0_said_45 X hr hlk htb hE hRf  S bc bk _ _ _ _ _ hf hu hw hM (lv_sub hl [0] rfl)
      · have hf := hf.2 cnd
        refine lv_iload hx hb dX0_said_32 (lv_at hl 5 rfl) ?_
        refine lv_i2l hx hb dX0_said_34 rfl ?_
        refine lv_lconst (v := 0) hx hb dX0_said_35 (by decide) ?_
        refine lv_ldc2 (own := RX0) (v := 3) hx hb X.2.2.2.1 (X.2.2.2.2 _ q645) dX0_said_36 ?_
        obtain ⟨v_4, h, hf⟩ := hf
        refine e_cS (v := .int v_4) (As := [.long (x5.toInt64), .long (0 : Int64), .long (3 : Int64)]) (rest := []) X (metX0_isIn l (x5.toInt64) (0 : Int64) (3 : Int64) _ h) (va_cwS 3 X.2.2.2.2 gX0_21 rfl rfl rfl hX0_isIn (rmE_leL (Nat.le_of_ble_eq_true rfl) (Nat.le_of_ble_eq_true rfl))) rfl hl.1 rfl (Nat.le_of_ble_eq_true rfl) ⟨nb_u hu, nb_u hw⟩ dX0_said_39 ?_
        refine lv_if_ne (tgt := 47) hx hb dX0_said_42 rfl (fun cnd => ?_) (fun cnd => ?_)
        · have hf := hf.1 cnd
          refine lv_iconst (v := 0) hx hb dX0_said_47 (by decide) ?_
          refine lv_istore (lv' := [(6, .int (0 : Int32)), (0, .ref o), (1, .int x1), (2, .int x2), (3, .int x3), (4, .int x4), (5, .int x5)]) hx hb dX0_said_48 hl (by decide) rfl (fun ls hl => ?_)
          refine lv_bipush (v := -4) hx hb dX0_said_50 (by decide) ?_
          refine lv_istore (lv' := [(7, .int (-4 : Int32)), (6, .int (0 : Int32)), (0, .ref o), (1, .int x1), (2, .int x2), (3, .int x3), (4, .int x4), (5, .int x5)]) hx hb dX0_said_52 hl (by decide) rfl (fun ls hl => ?_)
          refine lv_iconst (v := 0) hx hb dX0_said_54 (by decide) ?_
          refine lv_istore (lv' := [(8, .int (0 : Int32)), (7, .int (-4 : Int32)), (6, .int (0 : Int32)), (0, .ref o), (1, .int x1), (2, .int x2), (3, .int x3), (4, .int x4), (5, .int x5)]) hx hb dX0_said_55 hl (by decide) rfl (fun ls hl => ?_)
          refine lv_iconst (v := 0) hx hb dX0_said_57 (by decide) ?_
          refine lv_istore (lv' := [(9, .int (0 : Int32)), (8, .int (0 : Int32)), (7, .int (-4 : Int32)), (6, .int (0 : Int32)), (0, .ref o), (1, .int x1), (2, .int x2), (3, .int x3), (4, .int x4), (5, .int x5)]) hx hb dX0_said_58 hl (by decide) rfl (fun ls hl => ?_)
          refine lv_aload_n hx hb dX0_said_60 rfl (lv_at hl 4 rfl) ?_
          refine x_get (v := .ref (S.2.2.1 27)) X hM 27 (by decide) q795 rfl rfl dX0_said_61 ?_
          refine lv_iload_n hx hb dX0_said_64 rfl (lv_at hl 5 rfl) ?_
          obtain ⟨v_5, h, hf⟩ := hf
          refine h_aald (t := 8) X hM rfl rfl h dX0_said_65 ?_
          obtain ⟨v_6, h, hf⟩ := hf
          refine h_getvN (v := va_rf v_6) (C := RX2) (T := TX2) (N := 2) (ci := 2) (k := 0) (host := "EventCounters") X hM in_X2 rfl (by decide) (xn_at hM.2.1 37 rfl) rfl (hQ_i h) dX0_said_66 ?_
          refine lv_astoreQ (lv' := [(10, va_rf v_6), (9, .int (0 : Int32)), (8, .int (0 : Int32)), (7, .int (-4 : Int32)), (6, .int (0 : Int32)), (0, .ref o), (1, .int x1), (2, .int x2), (3, .int x3), (4, .int x4), (5, .int x5)]) hx hb dX0_said_69 hl (by decide) rfl (fun ls hl => ?_)
          refine lv_iload_n hx hb dX0_said_71 rfl (lv_at hl 7 rfl) ?_
          refine lv_if_ne (tgt := 84) hx hb dX0_said_72 rfl (fun cnd => ?_) (fun cnd => ?_)
          · have hf := hf.1 cnd
            refine lv_iload_n hx hb dX0_said_84 rfl (lv_at hl 7 rfl) ?_
            refine lv_iconst (v := 1) hx hb dX0_said_85 (by decide) ?_
            refine lv_icmp_ne (tgt := 98) hx hb dX0_said_86 rfl (fun cnd => ?_) (fun cnd => ?_)
            · have hf := hf.1 cnd
              refine lv_aloadQ hx hb dX0_said_98 (lv_at hl 0 rfl) ?_
              obtain ⟨τ_7, hτ_7, hf⟩ := hf
              obtain ⟨hb1, hb2, hfn, hf⟩ := hf
              by_cases hτ_72 : ¬ (τ_7 = none ∨ τ_7 = some 0)
              · refine e_castN (K := K) (t := 0) (rest := []) X hM hE hl.1 hτ_7 hτ_72 (by decide) q938 dX0_said_100 (Nat.le_of_ble_eq_true rfl) (Nat.le_of_ble_eq_true rfl) (nb_le hu (Nat.le_trans (Nat.le_of_ble_eq_true rfl) hb1) : _ + 3 ≤ _) (nb_le hw (Nat.le_trans (Nat.le_of_ble_eq_true rfl) hb2) : _ + 600 ≤ _) (fun hpl cE hcE => cTab_of _ (by rw [htb]; exact (l_pass (C := "java/lang/ClassCastException") (name := "java/lang/NullPointerException") hpl X.2.2.2.1 ⟨by decide, by decide⟩ (by decide) (X.2.2.2.2 _ q892) hcE (hE.2.2.2.2.1.at 8 rfl) (l_skip (by decide) (l_hit (name := "java/lang/ClassCastException") hpl X.2.2.2.1 ⟨by decide, by decide⟩ (by decide) (X.2.2.2.2 _ q943) hcE (va_asg _ _) rfl))))) (fun a H locs hM => ?_)
                have hf := hfn hτ_72
                exact bX0_said_h246 X hr hlk S _ _ _ _ ls _ hf (nb_le hu hb1) (nb_le hw hb2) hM (lv_sub hl [5] rfl)
              have hτ_72 := Decidable.not_not.mp hτ_72
              have hf := hf hτ_72
              refine e_castY (t := 0) X hM hτ_7 hτ_72 q938 dX0_said_100 ?_
              obtain ⟨hb1, hb2, hfn, hf⟩ := hf
              refine e_lenQ (K := K) (rest := []) X hM hE hl.1 hτ_7 hτ_72 dX0_said_103 (Nat.le_of_ble_eq_true rfl) (Nat.le_of_ble_eq_true rfl) (nb_le hu (Nat.le_trans (Nat.le_of_ble_eq_true rfl) hb1) : _ + 1 ≤ _) (nb_le hw (Nat.le_trans (Nat.le_of_ble_eq_true rfl) hb2) : _ + 8 ≤ _) (fun hpl cE hcE => cTab_of _ (by rw [htb]; exact (l_hit (name := "java/lang/NullPointerException") hpl X.2.2.2.1 ⟨by decide, by decide⟩ (by decide) (X.2.2.2.2 _ q892) hcE (va_asg _ _) rfl))) (fun e1 a H locs hM => ?_) (fun a_8 n_9 f e1 e2 => ?_)
              · have hf := hfn e1
                have hb1 := Nat.le_trans (show 1 ≤ 3 by decide) hb1
                have hb2 := Nat.le_trans (show 8 ≤ 600 by decide) hb2
                exact bX0_said_h241 X hr hlk S _ _ _ _ ls _ hf (nb_le hu hb1) (nb_le hw hb2) hM (lv_sub hl [5] rfl)
              have hg := hf a_8 n_9 f e1 e2
              subst e1
              have hf := hg
              have hl : lv_has ls 15 [(10, .ref a_8), (9, .int (0 : Int32)), (8, .int (0 : Int32)), (7, .int (-4 : Int32)), (6, .int (0 : Int32)), (0, .ref o), (1, .int x1), (2, .int x2), (3, .int x3), (4, .int x4), (5, .int x5)] := hl
              exact bX0_said_104 X hr hlk htb hE hRf  S bc bk x2 x3 x4 x5 (0 : Int32) (-4 : Int32) (0 : Int32) (0 : Int32) a_8 (Int32.ofNat n_9) _ _ _ _ _ hf hu hw hM (lv_sub hl [5, 7, 8, 9, 10, 4, 3, 2, 1, 0] rfl)
            · have hf := hf.2 (not_not_intro cnd)
              refine lv_aloadQ hx hb dX0_said_89 (lv_at hl 0 rfl) ?_
              obtain ⟨τ_33, hτ_33, hf⟩ := hf
              obtain ⟨hb1, hb2, hfn, hf⟩ := hf
              by_cases hτ_332 : ¬ (τ_33 = none ∨ τ_33 = some 3)
              · refine e_castN (K := K) (t := 3) (rest := []) X hM hE hl.1 hτ_33 hτ_332 (by decide) q937 dX0_said_91 (Nat.le_of_ble_eq_true rfl) (Nat.le_of_ble_eq_true rfl) (nb_le hu (Nat.le_trans (Nat.le_of_ble_eq_true rfl) hb1) : _ + 3 ≤ _) (nb_le hw (Nat.le_trans (Nat.le_of_ble_eq_true rfl) hb2) : _ + 600 ≤ _) (fun hpl cE hcE => cTab_of _ (by rw [htb]; exact (l_pass (C := "java/lang/ClassCastException") (name := "java/lang/NullPointerException") hpl X.2.2.2.1 ⟨by decide, by decide⟩ (by decide) (X.2.2.2.2 _ q892) hcE (hE.2.2.2.2.1.at 8 rfl) (l_skip (by decide) (l_hit (name := "java/lang/ClassCastException") hpl X.2.2.2.1 ⟨by decide, by decide⟩ (by decide) (X.2.2.2.2 _ q943) hcE (va_asg _ _) rfl))))) (fun a H locs hM => ?_)
                have hf := hfn hτ_332
                exact bX0_said_h246 X hr hlk S _ _ _ _ ls _ hf (nb_le hu hb1) (nb_le hw hb2) hM (lv_sub hl [5] rfl)
              have hτ_332 := Decidable.not_not.mp hτ_332
              have hf := hf hτ_332
              refine e_castY (t := 3) X hM hτ_33 hτ_332 q937 dX0_said_91 ?_
              obtain ⟨hb1, hb2, hfn, hf⟩ := hf
              refine e_lenQ (K := K) (rest := []) X hM hE hl.1 hτ_33 hτ_332 dX0_said_94 (Nat.le_of_ble_eq_true rfl) (Nat.le_of_ble_eq_true rfl) (nb_le hu (Nat.le_trans (Nat.le_of_ble_eq_true rfl) hb1) : _ + 1 ≤ _) (nb_le hw (Nat.le_trans (Nat.le_of_ble_eq_true rfl) hb2) : _ + 8 ≤ _) (fun hpl cE hcE => cTab_of _ (by rw [htb]; exact (l_hit (name := "java/lang/NullPointerException") hpl X.2.2.2.1 ⟨by decide, by decide⟩ (by decide) (X.2.2.2.2 _ q892) hcE (va_asg _ _) rfl))) (fun e1 a H locs hM => ?_) (fun a_34 n_35 f e1 e2 => ?_)
              · have hf := hfn e1
                have hb1 := Nat.le_trans (show 1 ≤ 3 by decide) hb1
                have hb2 := Nat.le_trans (show 8 ≤ 600 by decide) hb2
                exact bX0_said_h241 X hr hlk S _ _ _ _ ls _ hf (nb_le hu hb1) (nb_le hw hb2) hM (lv_sub hl [5] rfl)
              have hg := hf a_34 n_35 f e1 e2
              subst e1
              have hf := hg
              have hl : lv_has ls 15 [(10, .ref a_34), (9, .int (0 : Int32)), (8, .int (0 : Int32)), (7, .int (-4 : Int32)), (6, .int (0 : Int32)), (0, .ref o), (1, .int x1), (2, .int x2), (3, .int x3), (4, .int x4), (5, .int x5)] := hl
              refine lv_goto (tgt := 104) hx hb dX0_said_95 rfl ?_
              exact bX0_said_104 X hr hlk htb hE hRf  S bc bk x2 x3 x4 x5 (0 : Int32) (-4 : Int32) (0 : Int32) (0 : Int32) a_34 (Int32.ofNat n_35) _ _ _ _ _ hf hu hw hM (lv_sub hl [5, 7, 8, 9, 10, 4, 3, 2, 1, 0] rfl)
          · have hf := hf.2 (not_not_intro cnd)
            refine lv_aloadQ hx hb dX0_said_75 (lv_at hl 0 rfl) ?_
            obtain ⟨τ_36, hτ_36, hf⟩ := hf
            obtain ⟨hb1, hb2, hfn, hf⟩ := hf
            by_cases hτ_362 : ¬ (τ_36 = none ∨ τ_36 = some 2)
            · refine e_castN (K := K) (t := 2) (rest := []) X hM hE hl.1 hτ_36 hτ_362 (by decide) q936 dX0_said_77 (Nat.le_of_ble_eq_true rfl) (Nat.le_of_ble_eq_true rfl) (nb_le hu (Nat.le_trans (Nat.le_of_ble_eq_true rfl) hb1) : _ + 3 ≤ _) (nb_le hw (Nat.le_trans (Nat.le_of_ble_eq_true rfl) hb2) : _ + 600 ≤ _) (fun hpl cE hcE => cTab_of _ (by rw [htb]; exact (l_pass (C := "java/lang/ClassCastException") (name := "java/lang/NullPointerException") hpl X.2.2.2.1 ⟨by decide, by decide⟩ (by decide) (X.2.2.2.2 _ q892) hcE (hE.2.2.2.2.1.at 8 rfl) (l_skip (by decide) (l_hit (name := "java/lang/ClassCastException") hpl X.2.2.2.1 ⟨by decide, by decide⟩ (by decide) (X.2.2.2.2 _ q943) hcE (va_asg _ _) rfl))))) (fun a H locs hM => ?_)
              have hf := hfn hτ_362
              exact bX0_said_h246 X hr hlk S _ _ _ _ ls _ hf (nb_le hu hb1) (nb_le hw hb2) hM (lv_sub hl [5] rfl)
            have hτ_362 := Decidable.not_not.mp hτ_362
            have hf := hf hτ_362
            refine e_castY (t := 2) X hM hτ_36 hτ_362 q936 dX0_said_77 ?_
            obtain ⟨hb1, hb2, hfn, hf⟩ := hf
            refine e_lenQ (K := K) (rest := []) X hM hE hl.1 hτ_36 hτ_362 dX0_said_80 (Nat.le_of_ble_eq_true rfl) (Nat.le_of_ble_eq_true rfl) (nb_le hu (Nat.le_trans (Nat.le_of_ble_eq_true rfl) hb1) : _ + 1 ≤ _) (nb_le hw (Nat.le_trans (Nat.le_of_ble_eq_true rfl) hb2) : _ + 8 ≤ _) (fun hpl cE hcE => cTab_of _ (by rw [htb]; exact (l_hit (name := "java/lang/NullPointerException") hpl X.2.2.2.1 ⟨by decide, by decide⟩ (by decide) (X.2.2.2.2 _ q892) hcE (va_asg _ _) rfl))) (fun e1 a H locs hM => ?_) (fun a_37 n_38 f e1 e2 => ?_)
            · have hf := hfn e1
              have hb1 := Nat.le_trans (show 1 ≤ 3 by decide) hb1
              have hb2 := Nat.le_trans (show 8 ≤ 600 by decide) hb2
              exact bX0_said_h241 X hr hlk S _ _ _ _ ls _ hf (nb_le hu hb1) (nb_le hw hb2) hM (lv_sub hl [5] rfl)
            have hg := hf a_37 n_38 f e1 e2
            subst e1
            have hf := hg
            have hl : lv_has ls 15 [(10, .ref a_37), (9, .int (0 : Int32)), (8, .int (0 : Int32)), (7, .int (-4 : Int32)), (6, .int (0 : Int32)), (0, .ref o), (1, .int x1), (2, .int x2), (3, .int x3), (4, .int x4), (5, .int x5)] := hl
            refine lv_goto (tgt := 104) hx hb dX0_said_81 rfl ?_
            exact bX0_said_104 X hr hlk htb hE hRf  S bc bk x2 x3 x4 x5 (0 : Int32) (-4 : Int32) (0 : Int32) (0 : Int32) a_37 (Int32.ofNat n_38) _ _ _ _ _ hf hu hw hM (lv_sub hl [5, 7, 8, 9, 10, 4, 3, 2, 1, 0] rfl)
        · have hf := hf.2 (not_not_intro cnd)
          exact bX0_said_45 X hr hlk htb hE hRf  S bc bk _ _ _ _ _ hf hu hw hM (lv_sub hl [0] rfl)

end
