set_option maxRecDepth 100000
set_option maxRecDepth 100000
set_option maxHeartbeats 2000000
set_option linter.unusedVariables false
section
variable {p : Program} {l : Launch} {e : Env} {s : State} {m : MethodId} {args : Array Value} {below : List Frame} {meth : Method} {c : Code}
variable {D : va_G} {dA : Nat → ClassId} {o : Nat} {q : Nat → Nat} {A : Nat → Prop}
variable {K : oK}
noncomputable def fX4_at (S : hH) (x0 : Nat) (x1 : Int32) : Option Int32 :=
  (hR 4 S x0 0).bind fun v_1 =>
  (hLen 2 S v_1).bind fun v_2 =>
  if v_2 ≤ x1 then (
    some (-4 : Int32))
  else (
    (hR 4 S x0 0).bind fun v_3 =>
    (hAi 2 S v_3 x1).bind fun v_4 =>
    some (v_4 &&& (255 : Int32)))
theorem metX4_at (l : Launch) (D : va_G) (dA : Nat → ClassId) (S : hH) (x0 : Nat) (x1 : Int32) (res : Int32) (hf : fX4_at S x0 x1 = some res) : Met l yX4_at (ws_ yX4_at cX4_at 2 (some .int)) (rmL 0) (HPre D dA S [.ref x0, .int x1]) (k2_QcV (.int res)) 0 0 (fun _ => False) := by
  refine h_ofR rfl (by decide) (Nat.le_of_ble_eq_true rfl) (fun p e s m args below meth c X hr hlk hM ls hl => ?_)
  have hl : lv_has ls 2 [(0, .ref x0), (1, .int x1)] := hl
  have hx := X.1
  have hb := X.2.1
  unfold fX4_at at hf
  refine lv_iload_n hx hb dX4_at_0 rfl (lv_at hl 1 rfl) ?_
  refine lv_aload_n hx hb dX4_at_1 rfl (lv_at hl 0 rfl) ?_
  obtain ⟨v_1, h, hf⟩ := ec_bi hf
  refine h_getv (v := .ref v_1) (C := RX4) (T := TX4) (N := 9) (ci := 4) (k := 0) X hM in_X4 rfl (by decide) q224 rfl (hR_i h) dX4_at_2 ?_
  obtain ⟨v_2, h, hf⟩ := ec_bi hf
  refine h_alen (t := 2) X hM rfl h dX4_at_5 ?_
  refine lv_icmp_ge (tgt := 22) hx hb dX4_at_6 rfl (fun cnd => ?_) (fun cnd => ?_)
  · have hf := ec_t cnd hf
    refine lv_bipush (v := -4) hx hb dX4_at_22 (by decide) ?_
    obtain rfl := Option.some.inj hf
    exact e_iretR hx hb hr hlk dX4_at_24
  · have hf := ec_f cnd hf
    refine lv_aload_n hx hb dX4_at_9 rfl (lv_at hl 0 rfl) ?_
    obtain ⟨v_3, h, hf⟩ := ec_bi hf
    refine h_getv (v := .ref v_3) (C := RX4) (T := TX4) (N := 9) (ci := 4) (k := 0) X hM in_X4 rfl (by decide) q224 rfl (hR_i h) dX4_at_10 ?_
    refine lv_iload_n hx hb dX4_at_13 rfl (lv_at hl 1 rfl) ?_
    obtain ⟨v_4, h, hf⟩ := ec_bi hf
    refine h_bald X hM h dX4_at_14 ?_
    refine lv_sipush (v := 255) hx hb dX4_at_15 (by decide) ?_
    refine lv_iand hx hb dX4_at_18 ?_
    refine lv_goto (tgt := 24) hx hb dX4_at_19 rfl ?_
    obtain rfl := Option.some.inj hf
    exact e_iretR hx hb hr hlk dX4_at_24
theorem hX4_at : yX4_at.cls = RX4 ∧ yX4_at.cls ≠ "java/lang/invoke/MethodHandle" ∧ yX4_at.cls ≠ "java/lang/invoke/VarHandle" ∧ (parseMethodDescriptor yX4_at.desc).map (fun d => d.parameters.length) = some 1 := by decide +kernel

noncomputable def fX4_must (Qt : Nat → hH → Prop) (Qr : hH → Prop) (S : hH) (bc bk : Nat) (x0 : Nat) (x1 : Int32) (x2 : Int32) : Prop :=
  ((¬ x1 = 0) → (
    Qr S))
  ∧ (¬ (¬ x1 = 0) → (
    1 ≤ bc ∧ 8 ≤ bk ∧ ∀ q_1 : Nat, S q_1 = none →
    ec_lt (va_up S q_1 (some (.inr (5, [.null, .null, .null, .null, .null, .int 0, .int 0, .int 0])))) fun S_2 =>
    ∃ v_3, (hI 4 S_2 x0 5) = some v_3 ∧
    ∃ c_4 k_5 : Nat, c_4 ≤ (bc - 1) ∧ k_5 ≤ (bk - 8) ∧ fX5_init Qt (fun S_6 =>
    Qt q_1 S_6) S_2 c_4 k_5 q_1 x2 v_3))
theorem metX4_must (l : Launch) (D : va_G) (dA : Nat → ClassId) (K : oK) (Qt : Nat → hH → Prop) (Qr : hH → Prop) (S : hH) (bc bk : Nat) (x0 : Nat) (x1 : Int32) (x2 : Int32) {sz : Nat} (hf : fX4_must Qt Qr S bc bk x0 x1 x2) : MetT l yX4_must (ws_ yX4_must cX4_must 3 none) (rmN 5 bc bk) (NPre D dA K sz S [.ref x0, .int x1, .int x2]) (NPost D dA (NA S sz) (nqV Qr) Qt) bc bk (NA S sz) := by
  refine n_ofW rfl (by decide) (Nat.le_of_ble_eq_true rfl) (fun A p e s m args below meth c X hr hlk hne hin hA hO hRf hM ls hl => ?_)
  have hl : lv_has ls 3 [(0, .ref x0), (1, .int x1), (2, .int x2)] := hl
  have hx := X.1
  have hb := X.2.1
  have hu : 0 + bc = bc := Nat.zero_add bc
  have hw : 0 + bk = bk := Nat.zero_add bk
  unfold fX4_must at hf
  refine lv_iload_n hx hb dX4_must_0 rfl (lv_at hl 1 rfl) ?_
  refine lv_if_ne (tgt := 17) hx hb dX4_must_1 rfl (fun cnd => ?_) (fun cnd => ?_)
  · have hf := hf.1 cnd
    exact n_vret X hr hlk hM (nb_u hu) (nb_u hw) hf dX4_must_17
  · have hf := hf.2 (not_not_intro cnd)
    obtain ⟨hb1, hb2, hf⟩ := hf
    refine n_new (C := RX5) (T := TX5) (N := 8) (ci := 5) (fs := [.null, .null, .null, .null, .null, .int 0, .int 0, .int 0]) tyX5 tyX5_ok X hM hA in_X5 q134 q135 q69 rfl (fun j hj => by rcases (show j = 0 ∨ j = 1 ∨ j = 2 ∨ j = 3 ∨ j = 4 ∨ j = 5 ∨ j = 6 ∨ j = 7 by omega) with rfl | rfl | rfl | rfl | rfl | rfl | rfl | rfl <;> rfl) (nb_le hu hb1) (nb_le hw hb2) dX4_must_4 (fun q_1 H hq hM => ?_)
    have hf := hf q_1 hq
    obtain ⟨S_2, eS⟩ : ∃ z : hH, z = va_up S q_1 (some (.inr (5, [.null, .null, .null, .null, .null, .int 0, .int 0, .int 0]))) := ⟨_, rfl⟩
    rw [← eS] at hM
    have hf := ec_lt_p eS hf
    have hu := nb_sub hu hb1
    have hw := nb_sub hw hb2
    refine lv_dup hx hb dX4_must_7 rfl ?_
    refine lv_iload_n hx hb dX4_must_8 rfl (lv_at hl 2 rfl) ?_
    refine lv_aload_n hx hb dX4_must_9 rfl (lv_at hl 0 rfl) ?_
    obtain ⟨v_3, h, hf⟩ := hf
    refine h_getv (v := .int v_3) (C := RX4) (T := TX4) (N := 9) (ci := 4) (k := 5) X hM in_X4 rfl (by decide) q233 rfl (hI_i h) dX4_must_10 ?_
    obtain ⟨c_4, k_5, hc1, hk1, hf⟩ := hf
    refine n_cI (As := [.int x2, .int v_3]) (rest := [.ref q_1]) X hM hA hO hRf (metX5_initW l D dA K Qt _ S_2 c_4 k_5 q_1 x2 v_3 hf) (cwI 2 X.2.2.2.2 (lw_meth q192) rfl rfl rfl (X.2.2.2.2 _ q69) (X.2.2.2.2 _ q190) (X.2.2.2.2 _ q191) rfl hX5_init (rmN_le (Nat.le_of_ble_eq_true rfl) (Nat.le_of_ble_eq_true rfl))) hne hlk rfl hl.1 rfl (Nat.le_of_ble_eq_true rfl) ⟨nb_le hu hc1, nb_le hw hk1⟩ (nb_le hu hc1) (nb_le hw hk1) dX4_must_13 (fun v S1 H locs hf hM => ?_)
    obtain ⟨rfl, hf⟩ := hf
    generalize S1 = S_6 at hf hM
    have hu := nb_sub hu hc1
    have hw := nb_sub hw hk1
    refine W.eq (g2 := F0 m _ _ [.ref q_1]) rfl ?_
    exact n_athrow X hne hlk hM (nb_u hu) (nb_u hw) hf dX4_must_16
theorem hX4_must : yX4_must.cls ≠ "java/lang/invoke/MethodHandle" ∧ yX4_must.cls ≠ "java/lang/invoke/VarHandle" ∧ (parseMethodDescriptor yX4_must.desc).map (fun d => d.parameters.length) = some 2 := by decide +kernel

theorem gX4_55 : GoodIn lw_all (wsV RX4 55 RX4 yX4_at (ws_ yX4_at cX4_at 2 (some .int))) := lw_V q121 q123 qs1 q65 q124
theorem gX4_74 : GoodIn lw_all (wsV RX4 74 RX4 yX4_must (ws_ yX4_must cX4_must 3 none)) := lw_V q130 q132 qs2 q65 q133
noncomputable def fX4_next_8 (N : Nat) (Qt : Nat → hH → Prop) (Qr : hH → Prop) (kx34 : hH → Nat → Nat → Nat → Prop) : Nat → hH → Nat → Nat → Nat → Prop
  | 0, _, _, _, _ => False
  | n + 1, S, bc, bk, x0 =>
    ∃ v_3, (hI 4 S x0 5) = some v_3 ∧
    ∃ w_5, (hObj 4 S x0) = some w_5 ∧
    ∃ v_4, (fX4_at S x0 v_3) = some v_4 ∧
    ((¬ v_4 = (32 : Int32)) → (
      kx34 S bc bk x0))
    ∧ (¬ (¬ v_4 = (32 : Int32)) → (
      ∃ v_6, (hI 4 S x0 5) = some v_6 ∧
      ∃ h_7, (hPut 4 S x0 5 (.int (v_6 + (1 : Int32)))) = some h_7 ∧
      (fX4_next_8 N Qt Qr kx34 n) h_7 bc bk x0))
theorem bX4_next_8 {N : Nat} (X : CallFix p m c cX4_next 2 s args lw_all RX4) (hr : meth.sig.returnType = none) (hlk : meth.locks = false) (hne : c.exceptionTable.isEmpty = true) (hin : meth.name = yX4_next.name) (hA : ∀ x, s.heap.size ≤ x → A x) (hO : OLD K A s s.heap) (hRf : ORF K s) {mc ms : Nat} {Qt : Nat → hH → Prop} {Qr : hH → Prop} {kx34 : hH → Nat → Nat → Nat → Prop} (Hkx34 : ∀ (S : hH) (bc bk : Nat) (x0 : Nat) (H : Heap) (locs : List Loc) (u w : Nat) (ls : Array Slot), kx34 S bc bk x0 → u + bc = mc → w + bk = ms → HX D dA [] S A s H locs → lv_has ls 2 [(0, .ref x0)] → W p l e (rmN 6 mc ms) s m args below meth c H locs u w (MQT below (NPost D dA A (nqV Qr) Qt) args s mc ms A) (F0 m 34 ls [])) : ∀ (n : Nat) (S : hH) (bc bk : Nat) (x0 : Nat) (H : Heap) (locs : List Loc) (u w : Nat) (ls : Array Slot), fX4_next_8 N Qt Qr kx34 n S bc bk x0 → u + bc = mc → w + bk = ms → HX D dA [] S A s H locs → lv_has ls 2 [(0, .ref x0)] → W p l e (rmN 6 mc ms) s m args below meth c H locs u w (MQT below (NPost D dA A (nqV Qr) Qt) args s mc ms A) (F0 m 8 ls []) := by
  have hx := X.1
  have hb := X.2.1
  intro n
  induction n with
  | zero =>
    intro S bc bk x0 H locs u w ls hf hu hw hM hl
    rw [fX4_next_8] at hf
    exact hf.elim
  | succ n ih =>
    intro S bc bk x0 H locs u w ls hf hu hw hM hl
    rw [fX4_next_8] at hf
    refine lv_aload_n hx hb dX4_next_8 rfl (lv_at hl 0 rfl) ?_
    refine lv_aload_n hx hb dX4_next_9 rfl (lv_at hl 0 rfl) ?_
    obtain ⟨v_3, h, hf⟩ := hf
    refine h_getv (v := .int v_3) (C := RX4) (T := TX4) (N := 9) (ci := 4) (k := 5) X hM in_X4 rfl (by decide) q233 rfl (hI_i h) dX4_next_10 ?_
    obtain ⟨w_5, ho, hf⟩ := hf
    obtain ⟨v_4, h, hf⟩ := hf
    refine h_cR (C := RX4) (T := TX4) (N := 9) (v := .int v_4) (As := [.int v_3]) (rest := []) X hM rfl ho (metX4_at l D dA S x0 v_3 _ h) (cwV 1 X.2.2.2.2 gX4_55 rfl rfl rfl hX4_at (rmN_leL (Nat.le_of_ble_eq_true rfl) (Nat.le_of_ble_eq_true rfl))) rfl hl.1 rfl (Nat.le_of_ble_eq_true rfl) ⟨nb_u hu, nb_u hw⟩ dX4_next_13 ?_
    refine lv_bipush (v := 32) hx hb dX4_next_16 (by decide) ?_
    refine lv_icmp_ne (tgt := 34) hx hb dX4_next_18 rfl (fun cnd => ?_) (fun cnd => ?_)
    · have hf := hf.1 cnd
      exact Hkx34 S bc bk x0 _ _ _ _ _ hf hu hw hM hl
    · have hf := hf.2 (not_not_intro cnd)
      refine lv_aload_n hx hb dX4_next_21 rfl (lv_at hl 0 rfl) ?_
      refine lv_dup hx hb dX4_next_22 rfl ?_
      obtain ⟨v_6, h, hf⟩ := hf
      refine h_getv (v := .int v_6) (C := RX4) (T := TX4) (N := 9) (ci := 4) (k := 5) X hM in_X4 rfl (by decide) q233 rfl (hI_i h) dX4_next_23 ?_
      refine lv_iconst (v := 1) hx hb dX4_next_26 (by decide) ?_
      refine lv_iadd hx hb dX4_next_27 ?_
      obtain ⟨h_7, h, hf⟩ := hf
      refine h_put (C := RX4) (T := TX4) (N := 9) (ci := 4) (k := 5) (ty := .int) tyX4 tyX4_ok nmX4 X hM in_X4 rfl (by decide) q233 rfl rfl (by decide +kernel) rfl rfl h dX4_next_28 (fun H locs hM => ?_)
      refine lv_goto (tgt := 8) hx hb dX4_next_31 rfl ?_
      exact ih h_7 bc bk x0 _ _ _ _ _ hf hu hw hM hl
noncomputable def fX4_next_283 (N : Nat) (Qt : Nat → hH → Prop) (Qr : hH → Prop) (S : hH) (bc bk : Nat) (x0 : Nat) (t0 : Int32) (t1 : Nat) : Prop :=
  ∃ w_20, (hObj 4 S t1) = some w_20 ∧
  ∃ c_21 k_22 : Nat, c_21 ≤ bc ∧ k_22 ≤ bk ∧ fX4_must Qt (fun S_23 =>
  ∃ h_24, (hPut 4 S_23 x0 7 (.int (3 : Int32))) = some h_24 ∧
  Qr h_24) S c_21 k_22 t1 t0 (1 : Int32)
theorem bX4_next_283 {N : Nat} (X : CallFix p m c cX4_next 2 s args lw_all RX4) (hr : meth.sig.returnType = none) (hlk : meth.locks = false) (hne : c.exceptionTable.isEmpty = true) (hin : meth.name = yX4_next.name) (hA : ∀ x, s.heap.size ≤ x → A x) (hO : OLD K A s s.heap) (hRf : ORF K s) {mc ms : Nat} {Qt : Nat → hH → Prop} {Qr : hH → Prop} : ∀ (S : hH) (bc bk : Nat) (x0 : Nat) (t0 : Int32) (t1 : Nat) (H : Heap) (locs : List Loc) (u w : Nat) (ls : Array Slot), fX4_next_283 N Qt Qr S bc bk x0 t0 t1 → u + bc = mc → w + bk = ms → HX D dA [] S A s H locs → lv_has ls 2 [(0, .ref x0)] → W p l e (rmN 6 mc ms) s m args below meth c H locs u w (MQT below (NPost D dA A (nqV Qr) Qt) args s mc ms A) (F0 m 283 ls [.int t0, .ref t1]) := by
  have hx := X.1
  have hb := X.2.1
  intro S bc bk x0 t0 t1 H locs u w ls hf hu hw hM hl
  unfold fX4_next_283 at hf
  refine lv_iconst (v := 1) hx hb dX4_next_283 (by decide) ?_
  obtain ⟨w_20, ho, hf⟩ := hf
  obtain ⟨c_21, k_22, hc1, hk1, hf⟩ := hf
  refine n_cV (C := RX4) (T := TX4) (N := 9) (As := [.int t0, .int (1 : Int32)]) (rest := []) X hM hA hO hRf rfl ho (metX4_must l D dA K Qt _ S c_21 k_22 t1 t0 (1 : Int32) hf) (cwV 2 X.2.2.2.2 gX4_74 rfl rfl rfl ⟨rfl, hX4_must⟩ (rmN_le (Nat.le_of_ble_eq_true rfl) (Nat.le_of_ble_eq_true rfl))) hne hlk rfl hl.1 rfl (Nat.le_of_ble_eq_true rfl) ⟨nb_le hu hc1, nb_le hw hk1⟩ (nb_le hu hc1) (nb_le hw hk1) dX4_next_284 (fun v S1 H locs hf hM => ?_)
  obtain ⟨rfl, hf⟩ := hf
  generalize S1 = S_23 at hf hM
  have hu := nb_sub hu hc1
  have hw := nb_sub hw hk1
  refine W.eq (g2 := F0 m _ _ []) rfl ?_
  refine lv_aload_n hx hb dX4_next_287 rfl (lv_at hl 0 rfl) ?_
  refine lv_iconst (v := 3) hx hb dX4_next_288 (by decide) ?_
  obtain ⟨h_24, h, hf⟩ := hf
  refine h_put (C := RX4) (T := TX4) (N := 9) (ci := 4) (k := 7) (ty := .int) tyX4 tyX4_ok nmX4 X hM in_X4 rfl (by decide) q235 rfl rfl (by decide +kernel) rfl rfl h dX4_next_289 (fun H locs hM => ?_)
  exact n_vret X hr hlk hM (nb_u hu) (nb_u hw) hf dX4_next_292
noncomputable def fX4_next_224 (N : Nat) (Qt : Nat → hH → Prop) (Qr : hH → Prop) (k163 : hH → Nat → Nat → Nat → Prop) (S : hH) (bc bk : Nat) (x0 : Nat) (t0 : Int32) (t1 : Nat) : Prop :=
  ∃ h_35, (hPut 4 S t1 8 (.int t0)) = some h_35 ∧
  ∃ v_36, (hI 4 h_35 x0 6) = some v_36 ∧
  ∃ h_37, (hPut 4 h_35 x0 6 (.int (v_36 + (1 : Int32)))) = some h_37 ∧
  k163 h_37 bc bk x0
theorem bX4_next_224 {N : Nat} (X : CallFix p m c cX4_next 2 s args lw_all RX4) (hr : meth.sig.returnType = none) (hlk : meth.locks = false) (hne : c.exceptionTable.isEmpty = true) (hin : meth.name = yX4_next.name) (hA : ∀ x, s.heap.size ≤ x → A x) (hO : OLD K A s s.heap) (hRf : ORF K s) {mc ms : Nat} {Qt : Nat → hH → Prop} {Qr : hH → Prop} {k163 : hH → Nat → Nat → Nat → Prop} (Hk163 : ∀ (S : hH) (bc bk : Nat) (x0 : Nat) (H : Heap) (locs : List Loc) (u w : Nat) (ls : Array Slot), k163 S bc bk x0 → u + bc = mc → w + bk = ms → HX D dA [] S A s H locs → lv_has ls 2 [(0, .ref x0)] → W p l e (rmN 6 mc ms) s m args below meth c H locs u w (MQT below (NPost D dA A (nqV Qr) Qt) args s mc ms A) (F0 m 163 ls [])) : ∀ (S : hH) (bc bk : Nat) (x0 : Nat) (t0 : Int32) (t1 : Nat) (H : Heap) (locs : List Loc) (u w : Nat) (ls : Array Slot), fX4_next_224 N Qt Qr k163 S bc bk x0 t0 t1 → u + bc = mc → w + bk = ms → HX D dA [] S A s H locs → lv_has ls 2 [(0, .ref x0)] → W p l e (rmN 6 mc ms) s m args below meth c H locs u w (MQT below (NPost D dA A (nqV Qr) Qt) args s mc ms A) (F0 m 224 ls [.int t0, .ref t1]) := by
  have hx := X.1
  have hb := X.2.1
  intro S bc bk x0 t0 t1 H locs u w ls hf hu hw hM hl
  unfold fX4_next_224 at hf
  obtain ⟨h_35, h, hf⟩ := hf
  refine h_put (C := RX4) (T := TX4) (N := 9) (ci := 4) (k := 8) (ty := .int) tyX4 tyX4_ok nmX4 X hM in_X4 rfl (by decide) q236 rfl rfl (by decide +kernel) rfl rfl h dX4_next_224 (fun H locs hM => ?_)
  refine lv_aload_n hx hb dX4_next_227 rfl (lv_at hl 0 rfl) ?_
  refine lv_dup hx hb dX4_next_228 rfl ?_
  obtain ⟨v_36, h, hf⟩ := hf
  refine h_getv (v := .int v_36) (C := RX4) (T := TX4) (N := 9) (ci := 4) (k := 6) X hM in_X4 rfl (by decide) q234 rfl (hI_i h) dX4_next_229 ?_
  refine lv_iconst (v := 1) hx hb dX4_next_232 (by decide) ?_
  refine lv_iadd hx hb dX4_next_233 ?_
  obtain ⟨h_37, h, hf⟩ := hf
  refine h_put (C := RX4) (T := TX4) (N := 9) (ci := 4) (k := 6) (ty := .int) tyX4 tyX4_ok nmX4 X hM in_X4 rfl (by decide) q234 rfl rfl (by decide +kernel) rfl rfl h dX4_next_234 (fun H locs hM => ?_)
  refine lv_goto (tgt := 163) hx hb dX4_next_237 rfl ?_
  exact Hk163 h_37 bc bk x0 _ _ _ _ _ hf hu hw hM hl
noncomputable def fX4_next_163 (N : Nat) (Qt : Nat → hH → Prop) (Qr : hH → Prop) (kx240 : hH → Nat → Nat → Nat → Prop) : Nat → hH → Nat → Nat → Nat → Prop
  | 0, _, _, _, _ => False
  | n + 1, S, bc, bk, x0 =>
    ∃ v_28, (hI 4 S x0 6) = some v_28 ∧
    ∃ w_30, (hObj 4 S x0) = some w_30 ∧
    ∃ v_29, (fX4_at S x0 v_28) = some v_29 ∧
    ∃ v_31, (fX0_isIn (v_29.toInt64) (48 : Int64) (57 : Int64)) = some v_31 ∧
    ((v_31 = 0) → (
      kx240 S bc bk x0))
    ∧ (¬ (v_31 = 0) → (
      ∃ v_32, (hI 4 S x0 6) = some v_32 ∧
      ∃ v_33, (hI 4 S x0 5) = some v_33 ∧
      (((2 : Int32) ≤ (v_32 - v_33)) → (
        ∃ v_34, (hI 4 S x0 8) = some v_34 ∧
        fX4_next_224 N Qt Qr (fX4_next_163 N Qt Qr kx240 n) S bc bk x0 v_34 x0))
      ∧ (¬ ((2 : Int32) ≤ (v_32 - v_33)) → (
        ∃ v_38, (hI 4 S x0 8) = some v_38 ∧
        ∃ v_39, (hI 4 S x0 6) = some v_39 ∧
        ∃ w_41, (hObj 4 S x0) = some w_41 ∧
        ∃ v_40, (fX4_at S x0 v_39) = some v_40 ∧
        fX4_next_224 N Qt Qr (fX4_next_163 N Qt Qr kx240 n) S bc bk x0 ((((10 : Int32) * v_38) + v_40) - (48 : Int32)) x0))))
theorem bX4_next_163 {N : Nat} (X : CallFix p m c cX4_next 2 s args lw_all RX4) (hr : meth.sig.returnType = none) (hlk : meth.locks = false) (hne : c.exceptionTable.isEmpty = true) (hin : meth.name = yX4_next.name) (hA : ∀ x, s.heap.size ≤ x → A x) (hO : OLD K A s s.heap) (hRf : ORF K s) {mc ms : Nat} {Qt : Nat → hH → Prop} {Qr : hH → Prop} {kx240 : hH → Nat → Nat → Nat → Prop} (Hkx240 : ∀ (S : hH) (bc bk : Nat) (x0 : Nat) (H : Heap) (locs : List Loc) (u w : Nat) (ls : Array Slot), kx240 S bc bk x0 → u + bc = mc → w + bk = ms → HX D dA [] S A s H locs → lv_has ls 2 [(0, .ref x0)] → W p l e (rmN 6 mc ms) s m args below meth c H locs u w (MQT below (NPost D dA A (nqV Qr) Qt) args s mc ms A) (F0 m 240 ls [])) : ∀ (n : Nat) (S : hH) (bc bk : Nat) (x0 : Nat) (H : Heap) (locs : List Loc) (u w : Nat) (ls : Array Slot), fX4_next_163 N Qt Qr kx240 n S bc bk x0 → u + bc = mc → w + bk = ms → HX D dA [] S A s H locs → lv_has ls 2 [(0, .ref x0)] → W p l e (rmN 6 mc ms) s m args below meth c H locs u w (MQT below (NPost D dA A (nqV Qr) Qt) args s mc ms A) (F0 m 163 ls []) := by
  have hx := X.1
  have hb := X.2.1
  intro n
  induction n with
  | zero =>
    intro S bc bk x0 H locs u w ls hf hu hw hM hl
    rw [fX4_next_163] at hf
    exact hf.elim
  | succ n ih =>
    intro S bc bk x0 H locs u w ls hf hu hw hM hl
    rw [fX4_next_163] at hf
    refine lv_aload_n hx hb dX4_next_163 rfl (lv_at hl 0 rfl) ?_
    refine lv_aload_n hx hb dX4_next_164 rfl (lv_at hl 0 rfl) ?_
    obtain ⟨v_28, h, hf⟩ := hf
    refine h_getv (v := .int v_28) (C := RX4) (T := TX4) (N := 9) (ci := 4) (k := 6) X hM in_X4 rfl (by decide) q234 rfl (hI_i h) dX4_next_165 ?_
    obtain ⟨w_30, ho, hf⟩ := hf
    obtain ⟨v_29, h, hf⟩ := hf
    refine h_cR (C := RX4) (T := TX4) (N := 9) (v := .int v_29) (As := [.int v_28]) (rest := []) X hM rfl ho (metX4_at l D dA S x0 v_28 _ h) (cwV 1 X.2.2.2.2 gX4_55 rfl rfl rfl hX4_at (rmN_leL (Nat.le_of_ble_eq_true rfl) (Nat.le_of_ble_eq_true rfl))) rfl hl.1 rfl (Nat.le_of_ble_eq_true rfl) ⟨nb_u hu, nb_u hw⟩ dX4_next_168 ?_
    refine lv_i2l hx hb dX4_next_171 rfl ?_
    refine lv_ldc2 (own := RX4) (v := 48) hx hb X.2.2.2.1 (X.2.2.2.2 _ q128) dX4_next_172 ?_
    refine lv_ldc2 (own := RX4) (v := 57) hx hb X.2.2.2.1 (X.2.2.2.2 _ q129) dX4_next_175 ?_
    obtain ⟨v_31, h, hf⟩ := hf
    refine e_cSN (host := "EventCounters") (v := .int v_31) (As := [.long (v_29.toInt64), .long (48 : Int64), .long (57 : Int64)]) (rest := []) X (metX0_isIn l (v_29.toInt64) (48 : Int64) (57 : Int64) _ h) ⟨va_cnB 3 X.2.2.2.2 (lw_meth q96) rfl rfl rfl (xn_at hM.2.1 0 rfl) (X.2.2.2.2 _ q60) hX0_isIn (rmN_leL (Nat.le_of_ble_eq_true rfl) (Nat.le_of_ble_eq_true rfl)), X.2.2.2.2 _ q95, trivial⟩ rfl hl.1 rfl (Nat.le_of_ble_eq_true rfl) ⟨nb_u hu, nb_u hw⟩ dX4_next_178 ?_
    refine lv_if_eq (tgt := 240) hx hb dX4_next_181 rfl (fun cnd => ?_) (fun cnd => ?_)
    · have hf := hf.1 cnd
      exact Hkx240 S bc bk x0 _ _ _ _ _ hf hu hw hM hl
    · have hf := hf.2 cnd
      refine lv_aload_n hx hb dX4_next_184 rfl (lv_at hl 0 rfl) ?_
      refine lv_aload_n hx hb dX4_next_185 rfl (lv_at hl 0 rfl) ?_
      obtain ⟨v_32, h, hf⟩ := hf
      refine h_getv (v := .int v_32) (C := RX4) (T := TX4) (N := 9) (ci := 4) (k := 6) X hM in_X4 rfl (by decide) q234 rfl (hI_i h) dX4_next_186 ?_
      refine lv_aload_n hx hb dX4_next_189 rfl (lv_at hl 0 rfl) ?_
      obtain ⟨v_33, h, hf⟩ := hf
      refine h_getv (v := .int v_33) (C := RX4) (T := TX4) (N := 9) (ci := 4) (k := 5) X hM in_X4 rfl (by decide) q233 rfl (hI_i h) dX4_next_190 ?_
      refine lv_isub hx hb dX4_next_193 ?_
      refine lv_iconst (v := 2) hx hb dX4_next_194 (by decide) ?_
      refine lv_icmp_ge (tgt := 220) hx hb dX4_next_195 rfl (fun cnd => ?_) (fun cnd => ?_)
      · have hf := hf.1 cnd
        refine lv_aload_n hx hb dX4_next_220 rfl (lv_at hl 0 rfl) ?_
        obtain ⟨v_34, h, hf⟩ := hf
        refine h_getv (v := .int v_34) (C := RX4) (T := TX4) (N := 9) (ci := 4) (k := 8) X hM in_X4 rfl (by decide) q236 rfl (hI_i h) dX4_next_221 ?_
        exact bX4_next_224 X hr hlk hne hin hA hO hRf ih S bc bk x0 v_34 x0 _ _ _ _ _ hf hu hw hM hl
      · have hf := hf.2 cnd
        refine lv_bipush (v := 10) hx hb dX4_next_198 (by decide) ?_
        refine lv_aload_n hx hb dX4_next_200 rfl (lv_at hl 0 rfl) ?_
        obtain ⟨v_38, h, hf⟩ := hf
        refine h_getv (v := .int v_38) (C := RX4) (T := TX4) (N := 9) (ci := 4) (k := 8) X hM in_X4 rfl (by decide) q236 rfl (hI_i h) dX4_next_201 ?_
        refine lv_imul hx hb dX4_next_204 ?_
        refine lv_aload_n hx hb dX4_next_205 rfl (lv_at hl 0 rfl) ?_
        refine lv_aload_n hx hb dX4_next_206 rfl (lv_at hl 0 rfl) ?_
        obtain ⟨v_39, h, hf⟩ := hf
        refine h_getv (v := .int v_39) (C := RX4) (T := TX4) (N := 9) (ci := 4) (k := 6) X hM in_X4 rfl (by decide) q234 rfl (hI_i h) dX4_next_207 ?_
        obtain ⟨w_41, ho, hf⟩ := hf
        obtain ⟨v_40, h, hf⟩ := hf
        refine h_cR (C := RX4) (T := TX4) (N := 9) (v := .int v_40) (As := [.int v_39]) (rest := [.int ((10 : Int32) * v_38), .ref x0]) X hM rfl ho (metX4_at l D dA S x0 v_39 _ h) (cwV 1 X.2.2.2.2 gX4_55 rfl rfl rfl hX4_at (rmN_leL (Nat.le_of_ble_eq_true rfl) (Nat.le_of_ble_eq_true rfl))) rfl hl.1 rfl (Nat.le_of_ble_eq_true rfl) ⟨nb_u hu, nb_u hw⟩ dX4_next_210 ?_
        refine lv_iadd hx hb dX4_next_213 ?_
        refine lv_bipush (v := 48) hx hb dX4_next_214 (by decide) ?_
        refine lv_isub hx hb dX4_next_216 ?_
        refine lv_goto (tgt := 224) hx hb dX4_next_217 rfl ?_
        exact bX4_next_224 X hr hlk hne hin hA hO hRf ih S bc bk x0 ((((10 : Int32) * v_38) + v_40) - (48 : Int32)) x0 _ _ _ _ _ hf hu hw hM hl
noncomputable def fX4_next_259 (N : Nat) (Qt : Nat → hH → Prop) (Qr : hH → Prop) (S : hH) (bc bk : Nat) (x0 : Nat) (t0 : Int32) (t1 : Nat) : Prop :=
  ∃ w_48, (hObj 4 S t1) = some w_48 ∧
  ∃ c_49 k_50 : Nat, c_49 ≤ bc ∧ k_50 ≤ bk ∧ fX4_must Qt (fun S_51 =>
  ∃ h_52, (hPut 4 S_51 x0 7 (.int (2 : Int32))) = some h_52 ∧
  Qr h_52) S c_49 k_50 t1 t0 (1 : Int32)
theorem bX4_next_259 {N : Nat} (X : CallFix p m c cX4_next 2 s args lw_all RX4) (hr : meth.sig.returnType = none) (hlk : meth.locks = false) (hne : c.exceptionTable.isEmpty = true) (hin : meth.name = yX4_next.name) (hA : ∀ x, s.heap.size ≤ x → A x) (hO : OLD K A s s.heap) (hRf : ORF K s) {mc ms : Nat} {Qt : Nat → hH → Prop} {Qr : hH → Prop} : ∀ (S : hH) (bc bk : Nat) (x0 : Nat) (t0 : Int32) (t1 : Nat) (H : Heap) (locs : List Loc) (u w : Nat) (ls : Array Slot), fX4_next_259 N Qt Qr S bc bk x0 t0 t1 → u + bc = mc → w + bk = ms → HX D dA [] S A s H locs → lv_has ls 2 [(0, .ref x0)] → W p l e (rmN 6 mc ms) s m args below meth c H locs u w (MQT below (NPost D dA A (nqV Qr) Qt) args s mc ms A) (F0 m 259 ls [.int t0, .ref t1]) := by
  have hx := X.1
  have hb := X.2.1
  intro S bc bk x0 t0 t1 H locs u w ls hf hu hw hM hl
  unfold fX4_next_259 at hf
  refine lv_iconst (v := 1) hx hb dX4_next_259 (by decide) ?_
  obtain ⟨w_48, ho, hf⟩ := hf
  obtain ⟨c_49, k_50, hc1, hk1, hf⟩ := hf
  refine n_cV (C := RX4) (T := TX4) (N := 9) (As := [.int t0, .int (1 : Int32)]) (rest := []) X hM hA hO hRf rfl ho (metX4_must l D dA K Qt _ S c_49 k_50 t1 t0 (1 : Int32) hf) (cwV 2 X.2.2.2.2 gX4_74 rfl rfl rfl ⟨rfl, hX4_must⟩ (rmN_le (Nat.le_of_ble_eq_true rfl) (Nat.le_of_ble_eq_true rfl))) hne hlk rfl hl.1 rfl (Nat.le_of_ble_eq_true rfl) ⟨nb_le hu hc1, nb_le hw hk1⟩ (nb_le hu hc1) (nb_le hw hk1) dX4_next_260 (fun v S1 H locs hf hM => ?_)
  obtain ⟨rfl, hf⟩ := hf
  generalize S1 = S_51 at hf hM
  have hu := nb_sub hu hc1
  have hw := nb_sub hw hk1
  refine W.eq (g2 := F0 m _ _ []) rfl ?_
  refine lv_aload_n hx hb dX4_next_263 rfl (lv_at hl 0 rfl) ?_
  refine lv_iconst (v := 2) hx hb dX4_next_264 (by decide) ?_
  obtain ⟨h_52, h, hf⟩ := hf
  refine h_put (C := RX4) (T := TX4) (N := 9) (ci := 4) (k := 7) (ty := .int) tyX4 tyX4_ok nmX4 X hM in_X4 rfl (by decide) q235 rfl rfl (by decide +kernel) rfl rfl h dX4_next_265 (fun H locs hM => ?_)
  refine lv_goto (tgt := 292) hx hb dX4_next_268 rfl ?_
  exact n_vret X hr hlk hM (nb_u hu) (nb_u hw) hf dX4_next_292
noncomputable def fX4_next_94 (N : Nat) (Qt : Nat → hH → Prop) (Qr : hH → Prop) (kx128 : hH → Nat → Nat → Nat → Prop) : Nat → hH → Nat → Nat → Nat → Prop
  | 0, _, _, _, _ => False
  | n + 1, S, bc, bk, x0 =>
    ∃ v_53, (hI 4 S x0 6) = some v_53 ∧
    ∃ w_55, (hObj 4 S x0) = some w_55 ∧
    ∃ v_54, (fX4_at S x0 v_53) = some v_54 ∧
    ∃ v_56, (fX0_isIn (v_54.toInt64) (97 : Int64) (122 : Int64)) = some v_56 ∧
    ((v_56 = 0) → (
      kx128 S bc bk x0))
    ∧ (¬ (v_56 = 0) → (
      ∃ v_57, (hI 4 S x0 6) = some v_57 ∧
      ∃ h_58, (hPut 4 S x0 6 (.int (v_57 + (1 : Int32)))) = some h_58 ∧
      (fX4_next_94 N Qt Qr kx128 n) h_58 bc bk x0))
theorem bX4_next_94 {N : Nat} (X : CallFix p m c cX4_next 2 s args lw_all RX4) (hr : meth.sig.returnType = none) (hlk : meth.locks = false) (hne : c.exceptionTable.isEmpty = true) (hin : meth.name = yX4_next.name) (hA : ∀ x, s.heap.size ≤ x → A x) (hO : OLD K A s s.heap) (hRf : ORF K s) {mc ms : Nat} {Qt : Nat → hH → Prop} {Qr : hH → Prop} {kx128 : hH → Nat → Nat → Nat → Prop} (Hkx128 : ∀ (S : hH) (bc bk : Nat) (x0 : Nat) (H : Heap) (locs : List Loc) (u w : Nat) (ls : Array Slot), kx128 S bc bk x0 → u + bc = mc → w + bk = ms → HX D dA [] S A s H locs → lv_has ls 2 [(0, .ref x0)] → W p l e (rmN 6 mc ms) s m args below meth c H locs u w (MQT below (NPost D dA A (nqV Qr) Qt) args s mc ms A) (F0 m 128 ls [])) : ∀ (n : Nat) (S : hH) (bc bk : Nat) (x0 : Nat) (H : Heap) (locs : List Loc) (u w : Nat) (ls : Array Slot), fX4_next_94 N Qt Qr kx128 n S bc bk x0 → u + bc = mc → w + bk = ms → HX D dA [] S A s H locs → lv_has ls 2 [(0, .ref x0)] → W p l e (rmN 6 mc ms) s m args below meth c H locs u w (MQT below (NPost D dA A (nqV Qr) Qt) args s mc ms A) (F0 m 94 ls []) := by
  have hx := X.1
  have hb := X.2.1
  intro n
  induction n with
  | zero =>
    intro S bc bk x0 H locs u w ls hf hu hw hM hl
    rw [fX4_next_94] at hf
    exact hf.elim
  | succ n ih =>
    intro S bc bk x0 H locs u w ls hf hu hw hM hl
    rw [fX4_next_94] at hf
    refine lv_aload_n hx hb dX4_next_94 rfl (lv_at hl 0 rfl) ?_
    refine lv_aload_n hx hb dX4_next_95 rfl (lv_at hl 0 rfl) ?_
    obtain ⟨v_53, h, hf⟩ := hf
    refine h_getv (v := .int v_53) (C := RX4) (T := TX4) (N := 9) (ci := 4) (k := 6) X hM in_X4 rfl (by decide) q234 rfl (hI_i h) dX4_next_96 ?_
    obtain ⟨w_55, ho, hf⟩ := hf
    obtain ⟨v_54, h, hf⟩ := hf
    refine h_cR (C := RX4) (T := TX4) (N := 9) (v := .int v_54) (As := [.int v_53]) (rest := []) X hM rfl ho (metX4_at l D dA S x0 v_53 _ h) (cwV 1 X.2.2.2.2 gX4_55 rfl rfl rfl hX4_at (rmN_leL (Nat.le_of_ble_eq_true rfl) (Nat.le_of_ble_eq_true rfl))) rfl hl.1 rfl (Nat.le_of_ble_eq_true rfl) ⟨nb_u hu, nb_u hw⟩ dX4_next_99 ?_
    refine lv_i2l hx hb dX4_next_102 rfl ?_
    refine lv_ldc2 (own := RX4) (v := 97) hx hb X.2.2.2.1 (X.2.2.2.2 _ q125) dX4_next_103 ?_
    refine lv_ldc2 (own := RX4) (v := 122) hx hb X.2.2.2.1 (X.2.2.2.2 _ q126) dX4_next_106 ?_
    obtain ⟨v_56, h, hf⟩ := hf
    refine e_cSN (host := "EventCounters") (v := .int v_56) (As := [.long (v_54.toInt64), .long (97 : Int64), .long (122 : Int64)]) (rest := []) X (metX0_isIn l (v_54.toInt64) (97 : Int64) (122 : Int64) _ h) ⟨va_cnB 3 X.2.2.2.2 (lw_meth q96) rfl rfl rfl (xn_at hM.2.1 0 rfl) (X.2.2.2.2 _ q60) hX0_isIn (rmN_leL (Nat.le_of_ble_eq_true rfl) (Nat.le_of_ble_eq_true rfl)), X.2.2.2.2 _ q95, trivial⟩ rfl hl.1 rfl (Nat.le_of_ble_eq_true rfl) ⟨nb_u hu, nb_u hw⟩ dX4_next_109 ?_
    refine lv_if_eq (tgt := 128) hx hb dX4_next_112 rfl (fun cnd => ?_) (fun cnd => ?_)
    · have hf := hf.1 cnd
      exact Hkx128 S bc bk x0 _ _ _ _ _ hf hu hw hM hl
    · have hf := hf.2 cnd
      refine lv_aload_n hx hb dX4_next_115 rfl (lv_at hl 0 rfl) ?_
      refine lv_dup hx hb dX4_next_116 rfl ?_
      obtain ⟨v_57, h, hf⟩ := hf
      refine h_getv (v := .int v_57) (C := RX4) (T := TX4) (N := 9) (ci := 4) (k := 6) X hM in_X4 rfl (by decide) q234 rfl (hI_i h) dX4_next_117 ?_
      refine lv_iconst (v := 1) hx hb dX4_next_120 (by decide) ?_
      refine lv_iadd hx hb dX4_next_121 ?_
      obtain ⟨h_58, h, hf⟩ := hf
      refine h_put (C := RX4) (T := TX4) (N := 9) (ci := 4) (k := 6) (ty := .int) tyX4 tyX4_ok nmX4 X hM in_X4 rfl (by decide) q234 rfl rfl (by decide +kernel) rfl rfl h dX4_next_122 (fun H locs hM => ?_)
      refine lv_goto (tgt := 94) hx hb dX4_next_125 rfl ?_
      exact ih h_58 bc bk x0 _ _ _ _ _ hf hu hw hM hl
noncomputable def fX4_next (N : Nat) (Qt : Nat → hH → Prop) (Qr : hH → Prop) (S : hH) (bc bk : Nat) (x0 : Nat) : Prop :=
  ∃ v_1, (hI 4 S x0 6) = some v_1 ∧
  ∃ h_2, (hPut 4 S x0 5 (.int v_1)) = some h_2 ∧
  fX4_next_8 N Qt Qr (fun S_8 bc_9 bk_10 x0_11 =>
    ∃ v_12, (hI 4 S_8 x0_11 5) = some v_12 ∧
    ∃ w_14, (hObj 4 S_8 x0_11) = some w_14 ∧
    ∃ v_13, (fX4_at S_8 x0_11 v_12) = some v_13 ∧
    ∃ v_15, (hI 4 S_8 x0_11 5) = some v_15 ∧
    ∃ h_16, (hPut 4 S_8 x0_11 6 (.int (v_15 + (1 : Int32)))) = some h_16 ∧
    ∃ h_17, (hPut 4 h_16 x0_11 8 (.int v_13)) = some h_17 ∧
    ((¬ v_13 = (-4 : Int32)) → (
      ∃ v_18, (fX0_isIn (v_13.toInt64) (97 : Int64) (122 : Int64)) = some v_18 ∧
      ((v_18 = 0) → (
        ∃ v_19, (fX0_isIn (v_13.toInt64) (48 : Int64) (57 : Int64)) = some v_19 ∧
        ((v_19 = 0) → (
          ((¬ v_13 = (59 : Int32)) → (
            fX4_next_283 N Qt Qr h_17 bc_9 bk_10 x0_11 (0 : Int32) x0_11))
          ∧ (¬ (¬ v_13 = (59 : Int32)) → (
            fX4_next_283 N Qt Qr h_17 bc_9 bk_10 x0_11 (1 : Int32) x0_11))))
        ∧ (¬ (v_19 = 0) → (
          ∃ v_25, (hI 4 h_17 x0_11 5) = some v_25 ∧
          ∃ h_26, (hPut 4 h_17 x0_11 6 (.int v_25)) = some h_26 ∧
          ∃ h_27, (hPut 4 h_26 x0_11 8 (.int (0 : Int32))) = some h_27 ∧
          fX4_next_163 N Qt Qr (fun S_42 bc_43 bk_44 x0_45 =>
            ∃ v_46, (hI 4 S_42 x0_45 6) = some v_46 ∧
            ∃ v_47, (hI 4 S_42 x0_45 5) = some v_47 ∧
            (((2 : Int32) < (v_46 - v_47)) → (
              fX4_next_259 N Qt Qr S_42 bc_43 bk_44 x0_45 (0 : Int32) x0_45))
            ∧ (¬ ((2 : Int32) < (v_46 - v_47)) → (
              fX4_next_259 N Qt Qr S_42 bc_43 bk_44 x0_45 (1 : Int32) x0_45))) N h_27 bc_9 bk_10 x0_11))))
      ∧ (¬ (v_18 = 0) → (
        fX4_next_94 N Qt Qr (fun S_59 bc_60 bk_61 x0_62 =>
          ∃ h_63, (hPut 4 S_59 x0_62 7 (.int (1 : Int32))) = some h_63 ∧
          Qr h_63) N h_17 bc_9 bk_10 x0_11))))
    ∧ (¬ (¬ v_13 = (-4 : Int32)) → (
      ∃ v_64, (hI 4 h_17 x0_11 5) = some v_64 ∧
      ∃ h_65, (hPut 4 h_17 x0_11 6 (.int v_64)) = some h_65 ∧
      ∃ h_66, (hPut 4 h_65 x0_11 7 (.int (0 : Int32))) = some h_66 ∧
      Qr h_66))) N h_2 bc bk x0
theorem metX4_next (l : Launch) (D : va_G) (dA : Nat → ClassId) (K : oK) (N : Nat) (Qt : Nat → hH → Prop) (Qr : hH → Prop) (S : hH) (bc bk : Nat) (x0 : Nat) {sz : Nat} (hf : fX4_next N Qt Qr S bc bk x0) : MetT l yX4_next (ws_ yX4_next cX4_next 2 none) (rmN 6 bc bk) (NPre D dA K sz S [.ref x0]) (NPost D dA (NA S sz) (nqV Qr) Qt) bc bk (NA S sz) := by
  refine n_ofW rfl (by decide) (Nat.le_of_ble_eq_true rfl) (fun A p e s m args below meth c X hr hlk hne hin hA hO hRf hM ls hl => ?_)
  have hl : lv_has ls 2 [(0, .ref x0)] := hl
  have hx := X.1
  have hb := X.2.1
  have hu : 0 + bc = bc := Nat.zero_add bc
  have hw : 0 + bk = bk := Nat.zero_add bk
  unfold fX4_next at hf
  refine lv_aload_n hx hb dX4_next_0 rfl (lv_at hl 0 rfl) ?_
  refine lv_aload_n hx hb dX4_next_1 rfl (lv_at hl 0 rfl) ?_
  obtain ⟨v_1, h, hf⟩ := hf
  refine h_getv (v := .int v_1) (C := RX4) (T := TX4) (N := 9) (ci := 4) (k := 6) X hM in_X4 rfl (by decide) q234 rfl (hI_i h) dX4_next_2 ?_
  obtain ⟨h_2, h, hf⟩ := hf
  refine h_put (C := RX4) (T := TX4) (N := 9) (ci := 4) (k := 5) (ty := .int) tyX4 tyX4_ok nmX4 X hM in_X4 rfl (by decide) q233 rfl rfl (by decide +kernel) rfl rfl h dX4_next_5 (fun H locs hM => ?_)
  exact bX4_next_8 X hr hlk hne hin hA hO hRf (fun S_8 bc_9 bk_10 x0_11 H locs u w ls hf hu hw hM hl => by
    refine lv_aload_n hx hb dX4_next_34 rfl (lv_at hl 0 rfl) ?_
    refine lv_aload_n hx hb dX4_next_35 rfl (lv_at hl 0 rfl) ?_
    obtain ⟨v_12, h, hf⟩ := hf
    refine h_getv (v := .int v_12) (C := RX4) (T := TX4) (N := 9) (ci := 4) (k := 5) X hM in_X4 rfl (by decide) q233 rfl (hI_i h) dX4_next_36 ?_
    obtain ⟨w_14, ho, hf⟩ := hf
    obtain ⟨v_13, h, hf⟩ := hf
    refine h_cR (C := RX4) (T := TX4) (N := 9) (v := .int v_13) (As := [.int v_12]) (rest := []) X hM rfl ho (metX4_at l D dA S_8 x0_11 v_12 _ h) (cwV 1 X.2.2.2.2 gX4_55 rfl rfl rfl hX4_at (rmN_leL (Nat.le_of_ble_eq_true rfl) (Nat.le_of_ble_eq_true rfl))) rfl hl.1 rfl (Nat.le_of_ble_eq_true rfl) ⟨nb_u hu, nb_u hw⟩ dX4_next_39 ?_
    refine lv_istore_n (lv' := [(1, .int v_13), (0, .ref x0_11)]) hx hb dX4_next_42 rfl hl (by decide) rfl (fun ls hl => ?_)
    refine lv_aload_n hx hb dX4_next_43 rfl (lv_at hl 1 rfl) ?_
    refine lv_aload_n hx hb dX4_next_44 rfl (lv_at hl 1 rfl) ?_
    obtain ⟨v_15, h, hf⟩ := hf
    refine h_getv (v := .int v_15) (C := RX4) (T := TX4) (N := 9) (ci := 4) (k := 5) X hM in_X4 rfl (by decide) q233 rfl (hI_i h) dX4_next_45 ?_
    refine lv_iconst (v := 1) hx hb dX4_next_48 (by decide) ?_
    refine lv_iadd hx hb dX4_next_49 ?_
    obtain ⟨h_16, h, hf⟩ := hf
    refine h_put (C := RX4) (T := TX4) (N := 9) (ci := 4) (k := 6) (ty := .int) tyX4 tyX4_ok nmX4 X hM in_X4 rfl (by decide) q234 rfl rfl (by decide +kernel) rfl rfl h dX4_next_50 (fun H locs hM => ?_)
    refine lv_aload_n hx hb dX4_next_53 rfl (lv_at hl 1 rfl) ?_
    refine lv_iload_n hx hb dX4_next_54 rfl (lv_at hl 0 rfl) ?_
    obtain ⟨h_17, h, hf⟩ := hf
    refine h_put (C := RX4) (T := TX4) (N := 9) (ci := 4) (k := 8) (ty := .int) tyX4 tyX4_ok nmX4 X hM in_X4 rfl (by decide) q236 rfl rfl (by decide +kernel) rfl rfl h dX4_next_55 (fun H locs hM => ?_)
    refine lv_iload_n hx hb dX4_next_58 rfl (lv_at hl 0 rfl) ?_
    refine lv_bipush (v := -4) hx hb dX4_next_59 (by decide) ?_
    refine lv_icmp_ne (tgt := 80) hx hb dX4_next_61 rfl (fun cnd => ?_) (fun cnd => ?_)
    · have hf := hf.1 cnd
      refine lv_iload_n hx hb dX4_next_80 rfl (lv_at hl 0 rfl) ?_
      refine lv_i2l hx hb dX4_next_81 rfl ?_
      refine lv_ldc2 (own := RX4) (v := 97) hx hb X.2.2.2.1 (X.2.2.2.2 _ q125) dX4_next_82 ?_
      refine lv_ldc2 (own := RX4) (v := 122) hx hb X.2.2.2.1 (X.2.2.2.2 _ q126) dX4_next_85 ?_
      obtain ⟨v_18, h, hf⟩ := hf
      refine e_cSN (host := "EventCounters") (v := .int v_18) (As := [.long (v_13.toInt64), .long (97 : Int64), .long (122 : Int64)]) (rest := []) X (metX0_isIn l (v_13.toInt64) (97 : Int64) (122 : Int64) _ h) ⟨va_cnB 3 X.2.2.2.2 (lw_meth q96) rfl rfl rfl (xn_at hM.2.1 0 rfl) (X.2.2.2.2 _ q60) hX0_isIn (rmN_leL (Nat.le_of_ble_eq_true rfl) (Nat.le_of_ble_eq_true rfl)), X.2.2.2.2 _ q95, trivial⟩ rfl hl.1 rfl (Nat.le_of_ble_eq_true rfl) ⟨nb_u hu, nb_u hw⟩ dX4_next_88 ?_
      refine lv_if_eq (tgt := 136) hx hb dX4_next_91 rfl (fun cnd => ?_) (fun cnd => ?_)
      · have hf := hf.1 cnd
        refine lv_iload_n hx hb dX4_next_136 rfl (lv_at hl 0 rfl) ?_
        refine lv_i2l hx hb dX4_next_137 rfl ?_
        refine lv_ldc2 (own := RX4) (v := 48) hx hb X.2.2.2.1 (X.2.2.2.2 _ q128) dX4_next_138 ?_
        refine lv_ldc2 (own := RX4) (v := 57) hx hb X.2.2.2.1 (X.2.2.2.2 _ q129) dX4_next_141 ?_
        obtain ⟨v_19, h, hf⟩ := hf
        refine e_cSN (host := "EventCounters") (v := .int v_19) (As := [.long (v_13.toInt64), .long (48 : Int64), .long (57 : Int64)]) (rest := []) X (metX0_isIn l (v_13.toInt64) (48 : Int64) (57 : Int64) _ h) ⟨va_cnB 3 X.2.2.2.2 (lw_meth q96) rfl rfl rfl (xn_at hM.2.1 0 rfl) (X.2.2.2.2 _ q60) hX0_isIn (rmN_leL (Nat.le_of_ble_eq_true rfl) (Nat.le_of_ble_eq_true rfl)), X.2.2.2.2 _ q95, trivial⟩ rfl hl.1 rfl (Nat.le_of_ble_eq_true rfl) ⟨nb_u hu, nb_u hw⟩ dX4_next_144 ?_
        refine lv_if_eq (tgt := 271) hx hb dX4_next_147 rfl (fun cnd => ?_) (fun cnd => ?_)
        · have hf := hf.1 cnd
          refine lv_aload_n hx hb dX4_next_271 rfl (lv_at hl 1 rfl) ?_
          refine lv_iload_n hx hb dX4_next_272 rfl (lv_at hl 0 rfl) ?_
          refine lv_bipush (v := 59) hx hb dX4_next_273 (by decide) ?_
          refine lv_icmp_ne (tgt := 282) hx hb dX4_next_275 rfl (fun cnd => ?_) (fun cnd => ?_)
          · have hf := hf.1 cnd
            refine lv_iconst (v := 0) hx hb dX4_next_282 (by decide) ?_
            exact bX4_next_283 X hr hlk hne hin hA hO hRf  h_17 bc_9 bk_10 x0_11 (0 : Int32) x0_11 _ _ _ _ _ hf hu hw hM (lv_sub hl [1] rfl)
          · have hf := hf.2 (not_not_intro cnd)
            refine lv_iconst (v := 1) hx hb dX4_next_278 (by decide) ?_
            refine lv_goto (tgt := 283) hx hb dX4_next_279 rfl ?_
            exact bX4_next_283 X hr hlk hne hin hA hO hRf  h_17 bc_9 bk_10 x0_11 (1 : Int32) x0_11 _ _ _ _ _ hf hu hw hM (lv_sub hl [1] rfl)
        · have hf := hf.2 cnd
          refine lv_aload_n hx hb dX4_next_150 rfl (lv_at hl 1 rfl) ?_
          refine lv_aload_n hx hb dX4_next_151 rfl (lv_at hl 1 rfl) ?_
          obtain ⟨v_25, h, hf⟩ := hf
          refine h_getv (v := .int v_25) (C := RX4) (T := TX4) (N := 9) (ci := 4) (k := 5) X hM in_X4 rfl (by decide) q233 rfl (hI_i h) dX4_next_152 ?_
          obtain ⟨h_26, h, hf⟩ := hf
          refine h_put (C := RX4) (T := TX4) (N := 9) (ci := 4) (k := 6) (ty := .int) tyX4 tyX4_ok nmX4 X hM in_X4 rfl (by decide) q234 rfl rfl (by decide +kernel) rfl rfl h dX4_next_155 (fun H locs hM => ?_)
          refine lv_aload_n hx hb dX4_next_158 rfl (lv_at hl 1 rfl) ?_
          refine lv_iconst (v := 0) hx hb dX4_next_159 (by decide) ?_
          obtain ⟨h_27, h, hf⟩ := hf
          refine h_put (C := RX4) (T := TX4) (N := 9) (ci := 4) (k := 8) (ty := .int) tyX4 tyX4_ok nmX4 X hM in_X4 rfl (by decide) q236 rfl rfl (by decide +kernel) rfl rfl h dX4_next_160 (fun H locs hM => ?_)
          exact bX4_next_163 X hr hlk hne hin hA hO hRf (fun S_42 bc_43 bk_44 x0_45 H locs u w ls hf hu hw hM hl => by
            refine lv_aload_n hx hb dX4_next_240 rfl (lv_at hl 0 rfl) ?_
            refine lv_aload_n hx hb dX4_next_241 rfl (lv_at hl 0 rfl) ?_
            obtain ⟨v_46, h, hf⟩ := hf
            refine h_getv (v := .int v_46) (C := RX4) (T := TX4) (N := 9) (ci := 4) (k := 6) X hM in_X4 rfl (by decide) q234 rfl (hI_i h) dX4_next_242 ?_
            refine lv_aload_n hx hb dX4_next_245 rfl (lv_at hl 0 rfl) ?_
            obtain ⟨v_47, h, hf⟩ := hf
            refine h_getv (v := .int v_47) (C := RX4) (T := TX4) (N := 9) (ci := 4) (k := 5) X hM in_X4 rfl (by decide) q233 rfl (hI_i h) dX4_next_246 ?_
            refine lv_isub hx hb dX4_next_249 ?_
            refine lv_iconst (v := 2) hx hb dX4_next_250 (by decide) ?_
            refine lv_icmp_gt (tgt := 258) hx hb dX4_next_251 rfl (fun cnd => ?_) (fun cnd => ?_)
            · have hf := hf.1 cnd
              refine lv_iconst (v := 0) hx hb dX4_next_258 (by decide) ?_
              exact bX4_next_259 X hr hlk hne hin hA hO hRf  S_42 bc_43 bk_44 x0_45 (0 : Int32) x0_45 _ _ _ _ _ hf hu hw hM hl
            · have hf := hf.2 cnd
              refine lv_iconst (v := 1) hx hb dX4_next_254 (by decide) ?_
              refine lv_goto (tgt := 259) hx hb dX4_next_255 rfl ?_
              exact bX4_next_259 X hr hlk hne hin hA hO hRf  S_42 bc_43 bk_44 x0_45 (1 : Int32) x0_45 _ _ _ _ _ hf hu hw hM hl) N h_27 bc_9 bk_10 x0_11 _ _ _ _ _ hf hu hw hM (lv_sub hl [1] rfl)
      · have hf := hf.2 cnd
        exact bX4_next_94 X hr hlk hne hin hA hO hRf (fun S_59 bc_60 bk_61 x0_62 H locs u w ls hf hu hw hM hl => by
          refine lv_aload_n hx hb dX4_next_128 rfl (lv_at hl 0 rfl) ?_
          refine lv_iconst (v := 1) hx hb dX4_next_129 (by decide) ?_
          obtain ⟨h_63, h, hf⟩ := hf
          refine h_put (C := RX4) (T := TX4) (N := 9) (ci := 4) (k := 7) (ty := .int) tyX4 tyX4_ok nmX4 X hM in_X4 rfl (by decide) q235 rfl rfl (by decide +kernel) rfl rfl h dX4_next_130 (fun H locs hM => ?_)
          refine lv_goto (tgt := 292) hx hb dX4_next_133 rfl ?_
          exact n_vret X hr hlk hM (nb_u hu) (nb_u hw) hf dX4_next_292) N h_17 bc_9 bk_10 x0_11 _ _ _ _ _ hf hu hw hM (lv_sub hl [1] rfl)
    · have hf := hf.2 (not_not_intro cnd)
      refine lv_aload_n hx hb dX4_next_64 rfl (lv_at hl 1 rfl) ?_
      refine lv_aload_n hx hb dX4_next_65 rfl (lv_at hl 1 rfl) ?_
      obtain ⟨v_64, h, hf⟩ := hf
      refine h_getv (v := .int v_64) (C := RX4) (T := TX4) (N := 9) (ci := 4) (k := 5) X hM in_X4 rfl (by decide) q233 rfl (hI_i h) dX4_next_66 ?_
      obtain ⟨h_65, h, hf⟩ := hf
      refine h_put (C := RX4) (T := TX4) (N := 9) (ci := 4) (k := 6) (ty := .int) tyX4 tyX4_ok nmX4 X hM in_X4 rfl (by decide) q234 rfl rfl (by decide +kernel) rfl rfl h dX4_next_69 (fun H locs hM => ?_)
      refine lv_aload_n hx hb dX4_next_72 rfl (lv_at hl 1 rfl) ?_
      refine lv_iconst (v := 0) hx hb dX4_next_73 (by decide) ?_
      obtain ⟨h_66, h, hf⟩ := hf
      refine h_put (C := RX4) (T := TX4) (N := 9) (ci := 4) (k := 7) (ty := .int) tyX4 tyX4_ok nmX4 X hM in_X4 rfl (by decide) q235 rfl rfl (by decide +kernel) rfl rfl h dX4_next_74 (fun H locs hM => ?_)
      refine lv_goto (tgt := 292) hx hb dX4_next_77 rfl ?_
      exact n_vret X hr hlk hM (nb_u hu) (nb_u hw) hf dX4_next_292) N h_2 bc bk x0 _ _ _ _ _ hf hu hw hM hl
theorem hX4_next : yX4_next.cls ≠ "java/lang/invoke/MethodHandle" ∧ yX4_next.cls ≠ "java/lang/invoke/VarHandle" ∧ (parseMethodDescriptor yX4_next.desc).map (fun d => d.parameters.length) = some 0 := by decide +kernel

theorem gX4_27 : GoodIn lw_all (wsV RX4 27 RX4 yX4_next (ws_ yX4_next cX4_next 2 none)) := lw_V q117 q119 qs0 q65 q120
noncomputable def fX4_number_14 (N : Nat) (Qt : Nat → hH → Prop) (Qr : Int32 → hH → Prop) (S : hH) (bc bk : Nat) (x0 : Nat) (x1 : Int32) (x2 : Int32) (t0 : Int32) (t1 : Nat) : Prop :=
  ∃ w_2, (hObj 4 S t1) = some w_2 ∧
  ∃ c_3 k_4 : Nat, c_3 ≤ bc ∧ k_4 ≤ bk ∧ fX4_must Qt (fun S_5 =>
  ∃ v_6, (hI 4 S_5 x0 8) = some v_6 ∧
  ∃ v_7, (fX0_isIn (v_6.toInt64) (x1.toInt64) (x2.toInt64)) = some v_7 ∧
  ∃ w_8, (hObj 4 S_5 x0) = some w_8 ∧
  ∃ c_9 k_10 : Nat, c_9 ≤ (bc - c_3) ∧ k_10 ≤ (bk - k_4) ∧ fX4_must Qt (fun S_11 =>
  ∃ v_12, (hI 4 S_11 x0 8) = some v_12 ∧
  ∃ w_13, (hObj 4 S_11 x0) = some w_13 ∧
  ∃ c_14 k_15 : Nat, c_14 ≤ ((bc - c_3) - c_9) ∧ k_15 ≤ ((bk - k_4) - k_10) ∧ fX4_next N Qt (fun S_16 =>
  Qr v_12 S_16) S_11 c_14 k_15 x0) S_5 c_9 k_10 x0 v_7 (3 : Int32)) S c_3 k_4 t1 t0 (2 : Int32)
theorem bX4_number_14 {N : Nat} (X : CallFix p m c cX4_number 4 s args lw_all RX4) (hr : meth.sig.returnType = (some .int)) (hlk : meth.locks = false) (hne : c.exceptionTable.isEmpty = true) (hin : meth.name = yX4_number.name) (hA : ∀ x, s.heap.size ≤ x → A x) (hO : OLD K A s s.heap) (hRf : ORF K s) {mc ms : Nat} {Qt : Nat → hH → Prop} {Qr : Int32 → hH → Prop} : ∀ (S : hH) (bc bk : Nat) (x0 : Nat) (x1 : Int32) (x2 : Int32) (t0 : Int32) (t1 : Nat) (H : Heap) (locs : List Loc) (u w : Nat) (ls : Array Slot), fX4_number_14 N Qt Qr S bc bk x0 x1 x2 t0 t1 → u + bc = mc → w + bk = ms → HX D dA [] S A s H locs → lv_has ls 4 [(0, .ref x0), (1, .int x1), (2, .int x2)] → W p l e (rmN 7 mc ms) s m args below meth c H locs u w (MQT below (NPost D dA A (nqI Qr) Qt) args s mc ms A) (F0 m 14 ls [.int t0, .ref t1]) := by
  have hx := X.1
  have hb := X.2.1
  intro S bc bk x0 x1 x2 t0 t1 H locs u w ls hf hu hw hM hl
  unfold fX4_number_14 at hf
  refine lv_iconst (v := 2) hx hb dX4_number_14 (by decide) ?_
  obtain ⟨w_2, ho, hf⟩ := hf
  obtain ⟨c_3, k_4, hc1, hk1, hf⟩ := hf
  refine n_cV (C := RX4) (T := TX4) (N := 9) (As := [.int t0, .int (2 : Int32)]) (rest := []) X hM hA hO hRf rfl ho (metX4_must l D dA K Qt _ S c_3 k_4 t1 t0 (2 : Int32) hf) (cwV 2 X.2.2.2.2 gX4_74 rfl rfl rfl ⟨rfl, hX4_must⟩ (rmN_le (Nat.le_of_ble_eq_true rfl) (Nat.le_of_ble_eq_true rfl))) hne hlk rfl hl.1 rfl (Nat.le_of_ble_eq_true rfl) ⟨nb_le hu hc1, nb_le hw hk1⟩ (nb_le hu hc1) (nb_le hw hk1) dX4_number_15 (fun v S1 H locs hf hM => ?_)
  obtain ⟨rfl, hf⟩ := hf
  generalize S1 = S_5 at hf hM
  have hu := nb_sub hu hc1
  have hw := nb_sub hw hk1
  refine W.eq (g2 := F0 m _ _ []) rfl ?_
  refine lv_aload_n hx hb dX4_number_18 rfl (lv_at hl 0 rfl) ?_
  refine lv_aload_n hx hb dX4_number_19 rfl (lv_at hl 0 rfl) ?_
  obtain ⟨v_6, h, hf⟩ := hf
  refine h_getv (v := .int v_6) (C := RX4) (T := TX4) (N := 9) (ci := 4) (k := 8) X hM in_X4 rfl (by decide) q236 rfl (hI_i h) dX4_number_20 ?_
  refine lv_i2l hx hb dX4_number_23 rfl ?_
  refine lv_iload_n hx hb dX4_number_24 rfl (lv_at hl 1 rfl) ?_
  refine lv_i2l hx hb dX4_number_25 rfl ?_
  refine lv_iload_n hx hb dX4_number_26 rfl (lv_at hl 2 rfl) ?_
  refine lv_i2l hx hb dX4_number_27 rfl ?_
  obtain ⟨v_7, h, hf⟩ := hf
  refine e_cSN (host := "EventCounters") (v := .int v_7) (As := [.long (v_6.toInt64), .long (x1.toInt64), .long (x2.toInt64)]) (rest := [.ref x0]) X (metX0_isIn l (v_6.toInt64) (x1.toInt64) (x2.toInt64) _ h) ⟨va_cnB 3 X.2.2.2.2 (lw_meth q96) rfl rfl rfl (xn_at hM.2.1 0 rfl) (X.2.2.2.2 _ q60) hX0_isIn (rmN_leL (Nat.le_of_ble_eq_true rfl) (Nat.le_of_ble_eq_true rfl)), X.2.2.2.2 _ q95, trivial⟩ rfl hl.1 rfl (Nat.le_of_ble_eq_true rfl) ⟨nb_u hu, nb_u hw⟩ dX4_number_28 ?_
  refine lv_iconst (v := 3) hx hb dX4_number_31 (by decide) ?_
  obtain ⟨w_8, ho, hf⟩ := hf
  obtain ⟨c_9, k_10, hc1, hk1, hf⟩ := hf
  refine n_cV (C := RX4) (T := TX4) (N := 9) (As := [.int v_7, .int (3 : Int32)]) (rest := []) X hM hA hO hRf rfl ho (metX4_must l D dA K Qt _ S_5 c_9 k_10 x0 v_7 (3 : Int32) hf) (cwV 2 X.2.2.2.2 gX4_74 rfl rfl rfl ⟨rfl, hX4_must⟩ (rmN_le (Nat.le_of_ble_eq_true rfl) (Nat.le_of_ble_eq_true rfl))) hne hlk rfl hl.1 rfl (Nat.le_of_ble_eq_true rfl) ⟨nb_le hu hc1, nb_le hw hk1⟩ (nb_le hu hc1) (nb_le hw hk1) dX4_number_32 (fun v S1 H locs hf hM => ?_)
  obtain ⟨rfl, hf⟩ := hf
  generalize S1 = S_11 at hf hM
  have hu := nb_sub hu hc1
  have hw := nb_sub hw hk1
  refine W.eq (g2 := F0 m _ _ []) rfl ?_
  refine lv_aload_n hx hb dX4_number_35 rfl (lv_at hl 0 rfl) ?_
  obtain ⟨v_12, h, hf⟩ := hf
  refine h_getv (v := .int v_12) (C := RX4) (T := TX4) (N := 9) (ci := 4) (k := 8) X hM in_X4 rfl (by decide) q236 rfl (hI_i h) dX4_number_36 ?_
  refine lv_istore_n (lv' := [(3, .int v_12), (0, .ref x0), (1, .int x1), (2, .int x2)]) hx hb dX4_number_39 rfl hl (by decide) rfl (fun ls hl => ?_)
  refine lv_aload_n hx hb dX4_number_40 rfl (lv_at hl 1 rfl) ?_
  obtain ⟨w_13, ho, hf⟩ := hf
  obtain ⟨c_14, k_15, hc1, hk1, hf⟩ := hf
  refine n_cV (C := RX4) (T := TX4) (N := 9) (As := []) (rest := []) X hM hA hO hRf rfl ho (metX4_next l D dA K N Qt _ S_11 c_14 k_15 x0 hf) (cwV 0 X.2.2.2.2 gX4_27 rfl rfl rfl ⟨rfl, hX4_next⟩ (rmN_le (Nat.le_of_ble_eq_true rfl) (Nat.le_of_ble_eq_true rfl))) hne hlk rfl hl.1 rfl (Nat.le_of_ble_eq_true rfl) ⟨nb_le hu hc1, nb_le hw hk1⟩ (nb_le hu hc1) (nb_le hw hk1) dX4_number_41 (fun v S1 H locs hf hM => ?_)
  obtain ⟨rfl, hf⟩ := hf
  generalize S1 = S_16 at hf hM
  have hu := nb_sub hu hc1
  have hw := nb_sub hw hk1
  refine W.eq (g2 := F0 m _ _ []) rfl ?_
  refine lv_iload_n hx hb dX4_number_44 rfl (lv_at hl 0 rfl) ?_
  exact n_iret X hr hlk hM (nb_u hu) (nb_u hw) hf dX4_number_45
noncomputable def fX4_number (N : Nat) (Qt : Nat → hH → Prop) (Qr : Int32 → hH → Prop) (S : hH) (bc bk : Nat) (x0 : Nat) (x1 : Int32) (x2 : Int32) : Prop :=
  ∃ v_1, (hI 4 S x0 7) = some v_1 ∧
  ((¬ v_1 = (2 : Int32)) → (
    fX4_number_14 N Qt Qr S bc bk x0 x1 x2 (0 : Int32) x0))
  ∧ (¬ (¬ v_1 = (2 : Int32)) → (
    fX4_number_14 N Qt Qr S bc bk x0 x1 x2 (1 : Int32) x0))
theorem metX4_number (l : Launch) (D : va_G) (dA : Nat → ClassId) (K : oK) (N : Nat) (Qt : Nat → hH → Prop) (Qr : Int32 → hH → Prop) (S : hH) (bc bk : Nat) (x0 : Nat) (x1 : Int32) (x2 : Int32) {sz : Nat} (hf : fX4_number N Qt Qr S bc bk x0 x1 x2) : MetT l yX4_number (ws_ yX4_number cX4_number 4 (some .int)) (rmN 7 bc bk) (NPre D dA K sz S [.ref x0, .int x1, .int x2]) (NPost D dA (NA S sz) (nqI Qr) Qt) bc bk (NA S sz) := by
  refine n_ofW rfl (by decide) (Nat.le_of_ble_eq_true rfl) (fun A p e s m args below meth c X hr hlk hne hin hA hO hRf hM ls hl => ?_)
  have hl : lv_has ls 4 [(0, .ref x0), (1, .int x1), (2, .int x2)] := hl
  have hx := X.1
  have hb := X.2.1
  have hu : 0 + bc = bc := Nat.zero_add bc
  have hw : 0 + bk = bk := Nat.zero_add bk
  unfold fX4_number at hf
  refine lv_aload_n hx hb dX4_number_0 rfl (lv_at hl 0 rfl) ?_
  refine lv_aload_n hx hb dX4_number_1 rfl (lv_at hl 0 rfl) ?_
  obtain ⟨v_1, h, hf⟩ := hf
  refine h_getv (v := .int v_1) (C := RX4) (T := TX4) (N := 9) (ci := 4) (k := 7) X hM in_X4 rfl (by decide) q235 rfl (hI_i h) dX4_number_2 ?_
  refine lv_iconst (v := 2) hx hb dX4_number_5 (by decide) ?_
  refine lv_icmp_ne (tgt := 13) hx hb dX4_number_6 rfl (fun cnd => ?_) (fun cnd => ?_)
  · have hf := hf.1 cnd
    refine lv_iconst (v := 0) hx hb dX4_number_13 (by decide) ?_
    exact bX4_number_14 X hr hlk hne hin hA hO hRf  S bc bk x0 x1 x2 (0 : Int32) x0 _ _ _ _ _ hf hu hw hM hl
  · have hf := hf.2 (not_not_intro cnd)
    refine lv_iconst (v := 1) hx hb dX4_number_9 (by decide) ?_
    refine lv_goto (tgt := 14) hx hb dX4_number_10 rfl ?_
    exact bX4_number_14 X hr hlk hne hin hA hO hRf  S bc bk x0 x1 x2 (1 : Int32) x0 _ _ _ _ _ hf hu hw hM hl
theorem hX4_number : yX4_number.cls ≠ "java/lang/invoke/MethodHandle" ∧ yX4_number.cls ≠ "java/lang/invoke/VarHandle" ∧ (parseMethodDescriptor yX4_number.desc).map (fun d => d.parameters.length) = some 2 := by decide +kernel

noncomputable def fX4_sign_14 (N : Nat) (Qt : Nat → hH → Prop) (Qr : hH → Prop) (S : hH) (bc bk : Nat) (x0 : Nat) (t0 : Int32) (t1 : Nat) : Prop :=
  ∃ w_2, (hObj 4 S t1) = some w_2 ∧
  ∃ c_3 k_4 : Nat, c_3 ≤ bc ∧ k_4 ≤ bk ∧ fX4_must Qt (fun S_5 =>
  ∃ w_6, (hObj 4 S_5 x0) = some w_6 ∧
  ∃ c_7 k_8 : Nat, c_7 ≤ (bc - c_3) ∧ k_8 ≤ (bk - k_4) ∧ fX4_next N Qt (fun S_9 =>
  Qr S_9) S_5 c_7 k_8 x0) S c_3 k_4 t1 t0 (2 : Int32)
theorem bX4_sign_14 {N : Nat} (X : CallFix p m c cX4_sign 1 s args lw_all RX4) (hr : meth.sig.returnType = none) (hlk : meth.locks = false) (hne : c.exceptionTable.isEmpty = true) (hin : meth.name = yX4_sign.name) (hA : ∀ x, s.heap.size ≤ x → A x) (hO : OLD K A s s.heap) (hRf : ORF K s) {mc ms : Nat} {Qt : Nat → hH → Prop} {Qr : hH → Prop} : ∀ (S : hH) (bc bk : Nat) (x0 : Nat) (t0 : Int32) (t1 : Nat) (H : Heap) (locs : List Loc) (u w : Nat) (ls : Array Slot), fX4_sign_14 N Qt Qr S bc bk x0 t0 t1 → u + bc = mc → w + bk = ms → HX D dA [] S A s H locs → lv_has ls 1 [(0, .ref x0)] → W p l e (rmN 7 mc ms) s m args below meth c H locs u w (MQT below (NPost D dA A (nqV Qr) Qt) args s mc ms A) (F0 m 14 ls [.int t0, .ref t1]) := by
  have hx := X.1
  have hb := X.2.1
  intro S bc bk x0 t0 t1 H locs u w ls hf hu hw hM hl
  unfold fX4_sign_14 at hf
  refine lv_iconst (v := 2) hx hb dX4_sign_14 (by decide) ?_
  obtain ⟨w_2, ho, hf⟩ := hf
  obtain ⟨c_3, k_4, hc1, hk1, hf⟩ := hf
  refine n_cV (C := RX4) (T := TX4) (N := 9) (As := [.int t0, .int (2 : Int32)]) (rest := []) X hM hA hO hRf rfl ho (metX4_must l D dA K Qt _ S c_3 k_4 t1 t0 (2 : Int32) hf) (cwV 2 X.2.2.2.2 gX4_74 rfl rfl rfl ⟨rfl, hX4_must⟩ (rmN_le (Nat.le_of_ble_eq_true rfl) (Nat.le_of_ble_eq_true rfl))) hne hlk rfl hl.1 rfl (Nat.le_of_ble_eq_true rfl) ⟨nb_le hu hc1, nb_le hw hk1⟩ (nb_le hu hc1) (nb_le hw hk1) dX4_sign_15 (fun v S1 H locs hf hM => ?_)
  obtain ⟨rfl, hf⟩ := hf
  generalize S1 = S_5 at hf hM
  have hu := nb_sub hu hc1
  have hw := nb_sub hw hk1
  refine W.eq (g2 := F0 m _ _ []) rfl ?_
  refine lv_aload_n hx hb dX4_sign_18 rfl (lv_at hl 0 rfl) ?_
  obtain ⟨w_6, ho, hf⟩ := hf
  obtain ⟨c_7, k_8, hc1, hk1, hf⟩ := hf
  refine n_cV (C := RX4) (T := TX4) (N := 9) (As := []) (rest := []) X hM hA hO hRf rfl ho (metX4_next l D dA K N Qt _ S_5 c_7 k_8 x0 hf) (cwV 0 X.2.2.2.2 gX4_27 rfl rfl rfl ⟨rfl, hX4_next⟩ (rmN_le (Nat.le_of_ble_eq_true rfl) (Nat.le_of_ble_eq_true rfl))) hne hlk rfl hl.1 rfl (Nat.le_of_ble_eq_true rfl) ⟨nb_le hu hc1, nb_le hw hk1⟩ (nb_le hu hc1) (nb_le hw hk1) dX4_sign_19 (fun v S1 H locs hf hM => ?_)
  obtain ⟨rfl, hf⟩ := hf
  generalize S1 = S_9 at hf hM
  have hu := nb_sub hu hc1
  have hw := nb_sub hw hk1
  refine W.eq (g2 := F0 m _ _ []) rfl ?_
  exact n_vret X hr hlk hM (nb_u hu) (nb_u hw) hf dX4_sign_22
noncomputable def fX4_sign (N : Nat) (Qt : Nat → hH → Prop) (Qr : hH → Prop) (S : hH) (bc bk : Nat) (x0 : Nat) : Prop :=
  ∃ v_1, (hI 4 S x0 7) = some v_1 ∧
  ((¬ v_1 = (3 : Int32)) → (
    fX4_sign_14 N Qt Qr S bc bk x0 (0 : Int32) x0))
  ∧ (¬ (¬ v_1 = (3 : Int32)) → (
    fX4_sign_14 N Qt Qr S bc bk x0 (1 : Int32) x0))
theorem metX4_sign (l : Launch) (D : va_G) (dA : Nat → ClassId) (K : oK) (N : Nat) (Qt : Nat → hH → Prop) (Qr : hH → Prop) (S : hH) (bc bk : Nat) (x0 : Nat) {sz : Nat} (hf : fX4_sign N Qt Qr S bc bk x0) : MetT l yX4_sign (ws_ yX4_sign cX4_sign 1 none) (rmN 7 bc bk) (NPre D dA K sz S [.ref x0]) (NPost D dA (NA S sz) (nqV Qr) Qt) bc bk (NA S sz) := by
  refine n_ofW rfl (by decide) (Nat.le_of_ble_eq_true rfl) (fun A p e s m args below meth c X hr hlk hne hin hA hO hRf hM ls hl => ?_)
  have hl : lv_has ls 1 [(0, .ref x0)] := hl
  have hx := X.1
  have hb := X.2.1
  have hu : 0 + bc = bc := Nat.zero_add bc
  have hw : 0 + bk = bk := Nat.zero_add bk
  unfold fX4_sign at hf
  refine lv_aload_n hx hb dX4_sign_0 rfl (lv_at hl 0 rfl) ?_
  refine lv_aload_n hx hb dX4_sign_1 rfl (lv_at hl 0 rfl) ?_
  obtain ⟨v_1, h, hf⟩ := hf
  refine h_getv (v := .int v_1) (C := RX4) (T := TX4) (N := 9) (ci := 4) (k := 7) X hM in_X4 rfl (by decide) q235 rfl (hI_i h) dX4_sign_2 ?_
  refine lv_iconst (v := 3) hx hb dX4_sign_5 (by decide) ?_
  refine lv_icmp_ne (tgt := 13) hx hb dX4_sign_6 rfl (fun cnd => ?_) (fun cnd => ?_)
  · have hf := hf.1 cnd
    refine lv_iconst (v := 0) hx hb dX4_sign_13 (by decide) ?_
    exact bX4_sign_14 X hr hlk hne hin hA hO hRf  S bc bk x0 (0 : Int32) x0 _ _ _ _ _ hf hu hw hM hl
  · have hf := hf.2 (not_not_intro cnd)
    refine lv_iconst (v := 1) hx hb dX4_sign_9 (by decide) ?_
    refine lv_goto (tgt := 14) hx hb dX4_sign_10 rfl ?_
    exact bX4_sign_14 X hr hlk hne hin hA hO hRf  S bc bk x0 (1 : Int32) x0 _ _ _ _ _ hf hu hw hM hl
theorem hX4_sign : yX4_sign.cls ≠ "java/lang/invoke/MethodHandle" ∧ yX4_sign.cls ≠ "java/lang/invoke/VarHandle" ∧ (parseMethodDescriptor yX4_sign.desc).map (fun d => d.parameters.length) = some 0 := by decide +kernel
end
