set_option maxRecDepth 100000
set_option maxHeartbeats 2000000
set_option linter.unusedVariables false
section
variable {p : Program} {l : Launch} {e : Env} {s : State} {m : MethodId} {args : Array Value} {below : List Frame} {meth : Method} {c : Code}
variable {D : va_G} {o : Nat} {q : Nat → Nat} {d dz : ClassId}
noncomputable def fX3_freshCounters_2 (N : Nat) : Nat → sM → Int32 → Option sM
  | 0, _, _ => none
  | n + 1, S, x1 =>
    if (4 : Int32) ≤ x1 then (
      some S)
    else (
      (ec_as S 37 4 x1 (255 : Int32)).bind fun S_1 =>
      (ec_as S_1 38 4 x1 (8 : Int32)).bind fun S_2 =>
      ec_lt (x1 + (1 : Int32)) fun x1_3 =>
      (fX3_freshCounters_2 N n) S_2 x1_3)
theorem bX3_freshCounters_2 {N : Nat} (X : CallFix p m c cX3_freshCounters 2 s args lw_all RX3) (hr : meth.sig.returnType = none) (hlk : meth.locks = false) (hG : MG o q) {Sr : sM} : ∀ (n : Nat) (S : sM) (x1 : Int32) (H : Heap) (locs : List Loc) (ls : Array Slot), fX3_freshCounters_2 N n S x1 = some Sr → MW D o q d dz S s H locs → lv_has ls 2 [(0, .ref o), (1, .int x1)] → W p l e (rmL 0) s m args below meth c H locs 0 0 (MQ below (MPost D o q d dz none Sr) args s 0 0 (AM o q)) (F0 m 2 ls []) := by
  have hx := X.1
  have hb := X.2.1
  intro n
  induction n with
  | zero =>
    intro S x1 H locs ls hf hM hl
    rw [fX3_freshCounters_2] at hf
    cases hf
  | succ n ih =>
    intro S x1 H locs ls hf hM hl
    rw [fX3_freshCounters_2] at hf
    refine lv_iload_n hx hb dX3_freshCounters_2 rfl (lv_at hl 1 rfl) ?_
    refine lv_iconst (v := 4) hx hb dX3_freshCounters_3 (by decide) ?_
    refine lv_icmp_ge (tgt := 30) hx hb dX3_freshCounters_4 rfl (fun cnd => ?_) (fun cnd => ?_)
    · have hf := ec_t cnd hf
      obtain rfl := Option.some.inj hf
      exact m_vret X hr hlk hM dX3_freshCounters_30
    · have hf := ec_f cnd hf
      refine lv_aload_n hx hb dX3_freshCounters_7 rfl (lv_at hl 0 rfl) ?_
      refine m_get (v := .ref (q 37)) X hM 37 (by decide) q1011 rfl rfl dX3_freshCounters_8 ?_
      refine lv_iload_n hx hb dX3_freshCounters_11 rfl (lv_at hl 1 rfl) ?_
      refine lv_sipush (v := 255) hx hb dX3_freshCounters_12 (by decide) ?_
      obtain ⟨S_1, h, hf⟩ := ec_bi hf
      refine m_iast X hG hM wma37 wms37 h dX3_freshCounters_15 (fun H locs hM => ?_)
      refine lv_aload_n hx hb dX3_freshCounters_16 rfl (lv_at hl 0 rfl) ?_
      refine m_get (v := .ref (q 38)) X hM 38 (by decide) q1012 rfl rfl dX3_freshCounters_17 ?_
      refine lv_iload_n hx hb dX3_freshCounters_20 rfl (lv_at hl 1 rfl) ?_
      refine lv_bipush (v := 8) hx hb dX3_freshCounters_21 (by decide) ?_
      obtain ⟨S_2, h, hf⟩ := ec_bi hf
      refine m_iast X hG hM wma38 wms38 h dX3_freshCounters_23 (fun H locs hM => ?_)
      refine e_inc (w := 1) (f := fun v => [(1, .int v), (0, .ref o)]) hx hb dX3_freshCounters_24 hl (k := 1) rfl (by decide) (by decide) (fun _ => rfl) (fun x1_3 ex ls hl => ?_)
      have hf := ec_lt_i ex hf
      refine lv_goto (tgt := 2) hx hb dX3_freshCounters_27 rfl ?_
      exact ih S_2 x1_3 _ _ _ hf hM (lv_sub hl [1, 0] rfl)
noncomputable def fX3_freshCounters (N : Nat) (S : sM) : Option sM :=
  fX3_freshCounters_2 N N S (0 : Int32)
theorem metX3_freshCounters (l : Launch) (D : va_G) (o : Nat) (q : Nat → Nat) (d dz : ClassId) (hG : MG o q) (N : Nat) (S : sM) (Sr : sM) (hf : fX3_freshCounters N S = some Sr) : Met l yX3_freshCounters (ws_ yX3_freshCounters cX3_freshCounters 2 none) (rmL 0) (MPre D o q d dz S []) (MPost D o q d dz none Sr) 0 0 (AM o q) := by
  refine m_ofW rfl (Nat.le_of_ble_eq_true rfl) (fun p e s m args below meth c X hr hlk hM ls hl => ?_)
  have hl : lv_has ls 2 [(0, .ref o)] := hl
  have hx := X.1
  have hb := X.2.1
  unfold fX3_freshCounters at hf
  refine lv_iconst (v := 0) hx hb dX3_freshCounters_0 (by decide) ?_
  refine lv_istore_n (lv' := [(1, .int (0 : Int32)), (0, .ref o)]) hx hb dX3_freshCounters_1 rfl hl (by decide) rfl (fun ls hl => ?_)
  exact bX3_freshCounters_2 X hr hlk hG N S (0 : Int32) _ _ _ hf hM (lv_sub hl [1, 0] rfl)
theorem hX3_freshCounters : yX3_freshCounters.cls = RX3 ∧ yX3_freshCounters.cls ≠ "java/lang/invoke/MethodHandle" ∧ yX3_freshCounters.cls ≠ "java/lang/invoke/VarHandle" ∧ (parseMethodDescriptor yX3_freshCounters.desc).map (fun d => d.parameters.length) = some 0 := by decide +kernel

noncomputable def fX3_feed_19 (N : Nat) (kx56 : sM → Option (Int32 × sM)) : Nat → sM → Int64 → Int32 → Option (Int32 × sM)
  | 0, _, _, _ => none
  | n + 1, S, x1, x3 =>
    if x3 < 0 then (
      kx56 S)
    else (
      (ec_as S 24 320 (S.1 25) (((x1 >>> (x3.toInt64 &&& 63)) &&& (255 : Int64)).toInt32)).bind fun S_1 =>
      ec_lt (mI S_1 25 ((S_1.1 25) + (1 : Int32))) fun S_2 =>
      ec_lt (x3 + (-8 : Int32)) fun x3_3 =>
      (fX3_feed_19 N kx56 n) S_2 x1 x3_3)
theorem bX3_feed_19 {N : Nat} (X : CallFix p m c cX3_feed 4 s args lw_all RX3) (hr : meth.sig.returnType = (some .int)) (hlk : meth.locks = false) (hG : MG o q) {res : Int32} {Sr : sM} {kx56 : sM → Option (Int32 × sM)} (Hkx56 : ∀ (S : sM) (H : Heap) (locs : List Loc) (ls : Array Slot), kx56 S = some (res, Sr) → MW D o q d dz S s H locs → lv_has ls 4 [(0, .ref o)] → W p l e (rmL 0) s m args below meth c H locs 0 0 (MQ below (MPost D o q d dz (some (.int res)) Sr) args s 0 0 (AM o q)) (F0 m 56 ls [])) : ∀ (n : Nat) (S : sM) (x1 : Int64) (x3 : Int32) (H : Heap) (locs : List Loc) (ls : Array Slot), fX3_feed_19 N kx56 n S x1 x3 = some (res, Sr) → MW D o q d dz S s H locs → lv_has ls 4 [(0, .ref o), (1, .long x1), (3, .int x3)] → W p l e (rmL 0) s m args below meth c H locs 0 0 (MQ below (MPost D o q d dz (some (.int res)) Sr) args s 0 0 (AM o q)) (F0 m 19 ls []) := by
  have hx := X.1
  have hb := X.2.1
  intro n
  induction n with
  | zero =>
    intro S x1 x3 H locs ls hf hM hl
    rw [fX3_feed_19] at hf
    cases hf
  | succ n ih =>
    intro S x1 x3 H locs ls hf hM hl
    rw [fX3_feed_19] at hf
    refine lv_iload_n hx hb dX3_feed_19 rfl (lv_at hl 2 rfl) ?_
    refine lv_if_lt (tgt := 56) hx hb dX3_feed_20 rfl (fun cnd => ?_) (fun cnd => ?_)
    · have hf := ec_t cnd hf
      exact Hkx56 S _ _ _ hf hM (lv_sub hl [0] rfl)
    · have hf := ec_f cnd hf
      refine lv_aload_n hx hb dX3_feed_23 rfl (lv_at hl 0 rfl) ?_
      refine m_get (v := .ref (q 24)) X hM 24 (by decide) q998 rfl rfl dX3_feed_24 ?_
      refine lv_aload_n hx hb dX3_feed_27 rfl (lv_at hl 0 rfl) ?_
      refine m_get (v := .int (S.1 25)) X hM 25 (by decide) q999 rfl rfl dX3_feed_28 ?_
      refine lv_lload_n hx hb dX3_feed_31 rfl (lv_at hl 1 rfl) ?_
      refine lv_iload_n hx hb dX3_feed_32 rfl (lv_at hl 2 rfl) ?_
      refine lv_lshr hx hb dX3_feed_33 rfl ?_
      refine lv_ldc2 (own := RX3) (v := 255) hx hb X.2.2.2.1 (X.2.2.2.2 _ q1147) dX3_feed_34 ?_
      refine lv_land hx hb dX3_feed_37 ?_
      refine lv_l2i hx hb dX3_feed_38 rfl ?_
      obtain ⟨S_1, h, hf⟩ := ec_bi hf
      refine m_iast X hG hM wma24 wms24 h dX3_feed_39 (fun H locs hM => ?_)
      refine lv_aload_n hx hb dX3_feed_40 rfl (lv_at hl 0 rfl) ?_
      refine lv_dup hx hb dX3_feed_41 rfl ?_
      refine m_get (v := .int (S_1.1 25)) X hM 25 (by decide) q999 rfl rfl dX3_feed_42 ?_
      refine lv_iconst (v := 1) hx hb dX3_feed_45 (by decide) ?_
      refine lv_iadd hx hb dX3_feed_46 ?_
      refine m_puti X hG hM 25 (by decide) q999 rfl rfl mfd25 (wmi25 _) dX3_feed_47 (fun S_2 H locs eS hM => ?_)
      have hf := ec_lt_i eS hf
      refine e_inc (w := -8) (f := fun v => [(3, .int v), (0, .ref o), (1, .long x1)]) hx hb dX3_feed_50 hl (k := 2) rfl (by decide) (by decide) (fun _ => rfl) (fun x3_3 ex ls hl => ?_)
      have hf := ec_lt_i ex hf
      refine lv_goto (tgt := 19) hx hb dX3_feed_53 rfl ?_
      exact ih S_2 x1 x3_3 _ _ _ hf hM (lv_sub hl [1, 2, 0] rfl)
noncomputable def fX3_feed (N : Nat) (S : sM) (x1 : Int64) : Option (Int32 × sM) :=
  if ((S.1 25) + (8 : Int32)) ≤ (320 : Int32) then (
    fX3_feed_19 N (fun S_4 =>
      some ((S_4.1 25), S_4)) N S x1 (56 : Int32))
  else (
    some ((-3 : Int32), S))
theorem metX3_feed (l : Launch) (D : va_G) (o : Nat) (q : Nat → Nat) (d dz : ClassId) (hG : MG o q) (N : Nat) (S : sM) (x1 : Int64) (res : Int32) (Sr : sM) (hf : fX3_feed N S x1 = some (res, Sr)) : Met l yX3_feed (ws_ yX3_feed cX3_feed 4 (some .int)) (rmL 0) (MPre D o q d dz S [.long x1]) (MPost D o q d dz (some (.int res)) Sr) 0 0 (AM o q) := by
  refine m_ofW rfl (Nat.le_of_ble_eq_true rfl) (fun p e s m args below meth c X hr hlk hM ls hl => ?_)
  have hl : lv_has ls 4 [(0, .ref o), (1, .long x1)] := hl
  have hx := X.1
  have hb := X.2.1
  unfold fX3_feed at hf
  refine lv_aload_n hx hb dX3_feed_0 rfl (lv_at hl 0 rfl) ?_
  refine m_get (v := .int (S.1 25)) X hM 25 (by decide) q999 rfl rfl dX3_feed_1 ?_
  refine lv_bipush (v := 8) hx hb dX3_feed_4 (by decide) ?_
  refine lv_iadd hx hb dX3_feed_6 ?_
  refine lv_sipush (v := 320) hx hb dX3_feed_7 (by decide) ?_
  refine lv_icmp_le (tgt := 16) hx hb dX3_feed_10 rfl (fun cnd => ?_) (fun cnd => ?_)
  · have hf := ec_t cnd hf
    refine lv_bipush (v := 56) hx hb dX3_feed_16 (by decide) ?_
    refine lv_istore_n (lv' := [(3, .int (56 : Int32)), (0, .ref o), (1, .long x1)]) hx hb dX3_feed_18 rfl hl (by decide) rfl (fun ls hl => ?_)
    exact bX3_feed_19 X hr hlk hG (fun S_4 H locs ls hf hM hl => by
      refine lv_aload_n hx hb dX3_feed_56 rfl (lv_at hl 0 rfl) ?_
      refine m_get (v := .int (S_4.1 25)) X hM 25 (by decide) q999 rfl rfl dX3_feed_57 ?_
      obtain ⟨rfl, rfl⟩ := Prod.mk.inj (Option.some.inj hf)
      exact m_iret X hr hlk hM dX3_feed_60) N S x1 (56 : Int32) _ _ _ hf hM (lv_sub hl [1, 2, 0] rfl)
  · have hf := ec_f cnd hf
    refine lv_bipush (v := -3) hx hb dX3_feed_13 (by decide) ?_
    obtain ⟨rfl, rfl⟩ := Prod.mk.inj (Option.some.inj hf)
    exact m_iret X hr hlk hM dX3_feed_15
theorem hX3_feed : yX3_feed.cls = RX3 ∧ yX3_feed.cls ≠ "java/lang/invoke/MethodHandle" ∧ yX3_feed.cls ≠ "java/lang/invoke/VarHandle" ∧ (parseMethodDescriptor yX3_feed.desc).map (fun d => d.parameters.length) = some 1 := by decide +kernel

noncomputable def fX3_in_17 : Option Int32 :=
  some (0 : Int32)
theorem bX3_in_17 (X : CallFix p m c cX3_in 6 s args lw_all RX3) (hr : meth.sig.returnType = (some .boolean)) (hlk : meth.locks = false) {res : Int32} : ∀ (ls : Array Slot), fX3_in_17 = some res → lv_has ls 6 [] → W p l e (rmL 0) s m args below meth c s.heap [] 0 0 (MQ below (k2_QcV (.int res)) args s 0 0 (fun _ => False)) (F0 m 17 ls []) := by
  have hx := X.1
  have hb := X.2.1
  intro ls hf hl
  unfold fX3_in_17 at hf
  refine lv_iconst (v := 0) hx hb dX3_in_17 (by decide) ?_
  obtain rfl := Option.some.inj hf
  exact e_zretR hx hb hr hlk rfl dX3_in_18
noncomputable def fX3_in (x0 : Int64) (x2 : Int64) (x4 : Int64) : Option Int32 :=
  if (lg_cmp x0 x2) < 0 then (
    fX3_in_17)
  else (
    if 0 < (lg_cmp x0 x4) then (
      fX3_in_17)
    else (
      some (1 : Int32)))
theorem metX3_in (l : Launch) (x0 : Int64) (x2 : Int64) (x4 : Int64) (res : Int32) (hf : fX3_in x0 x2 x4 = some res) : Met l yX3_in (ws_ yX3_in cX3_in 6 (some .boolean)) (rmL 0) (PA [.long x0, .long x2, .long x4]) (k2_QcV (.int res)) 0 0 (fun _ => False) := by
  refine e_ofS (by decide) (Nat.le_of_ble_eq_true rfl) (fun p e s m args below meth c X hr hlk ls hl => ?_)
  have hl : lv_has ls 6 [(0, .long x0), (2, .long x2), (4, .long x4)] := hl
  have hx := X.1
  have hb := X.2.1
  unfold fX3_in at hf
  refine lv_lload_n hx hb dX3_in_0 rfl (lv_at hl 0 rfl) ?_
  refine lv_lload_n hx hb dX3_in_1 rfl (lv_at hl 1 rfl) ?_
  refine W.lcmp hx hb dX3_in_2 ?_
  refine lv_if_lt (tgt := 17) hx hb dX3_in_3 rfl (fun cnd => ?_) (fun cnd => ?_)
  · have hf := ec_t cnd hf
    exact bX3_in_17 X hr hlk  _ hf (lv_sub hl [] rfl)
  · have hf := ec_f cnd hf
    refine lv_lload_n hx hb dX3_in_6 rfl (lv_at hl 0 rfl) ?_
    refine lv_lload hx hb dX3_in_7 (lv_at hl 2 rfl) ?_
    refine W.lcmp hx hb dX3_in_9 ?_
    refine lv_if_gt (tgt := 17) hx hb dX3_in_10 rfl (fun cnd => ?_) (fun cnd => ?_)
    · have hf := ec_t cnd hf
      exact bX3_in_17 X hr hlk  _ hf (lv_sub hl [] rfl)
    · have hf := ec_f cnd hf
      refine lv_iconst (v := 1) hx hb dX3_in_13 (by decide) ?_
      refine lv_goto (tgt := 18) hx hb dX3_in_14 rfl ?_
      obtain rfl := Option.some.inj hf
      exact e_zretR hx hb hr hlk rfl dX3_in_18
theorem hX3_in : yX3_in.cls ≠ "java/lang/invoke/MethodHandle" ∧ yX3_in.cls ≠ "java/lang/invoke/VarHandle" ∧ (parseMethodDescriptor yX3_in.desc).map (fun d => d.parameters.length) = some 3 := by decide +kernel

theorem gX3_124 : GoodIn lw_all (va_wsS RX3 124 yX3_in (ws_ yX3_in cX3_in 6 (some .boolean))) := lw_S q1152 q1153 q63 q1154
noncomputable def fX3_end (S : sM) (x1 : Int32) : Option (Int32 × sM) :=
  (fX3_in (x1.toInt64) (0 : Int64) ((S.1 25).toInt64)).bind fun v_1 =>
  if ¬ v_1 = 0 then (
    ec_lt (S.1 25) fun x2_2 =>
    ec_lt (mI S 25 x1) fun S_3 =>
    some (x2_2, S_3))
  else (
    some ((-1 : Int32), S))
theorem metX3_end (l : Launch) (D : va_G) (o : Nat) (q : Nat → Nat) (d dz : ClassId) (hG : MG o q) (S : sM) (x1 : Int32) (res : Int32) (Sr : sM) (hf : fX3_end S x1 = some (res, Sr)) : Met l yX3_end (ws_ yX3_end cX3_end 3 (some .int)) (rmL 1) (MPre D o q d dz S [.int x1]) (MPost D o q d dz (some (.int res)) Sr) 0 0 (AM o q) := by
  refine m_ofW rfl (Nat.le_of_ble_eq_true rfl) (fun p e s m args below meth c X hr hlk hM ls hl => ?_)
  have hl : lv_has ls 3 [(0, .ref o), (1, .int x1)] := hl
  have hx := X.1
  have hb := X.2.1
  unfold fX3_end at hf
  refine lv_iload_n hx hb dX3_end_0 rfl (lv_at hl 1 rfl) ?_
  refine lv_i2l hx hb dX3_end_1 rfl ?_
  refine lv_lconst (v := 0) hx hb dX3_end_2 (by decide) ?_
  refine lv_aload_n hx hb dX3_end_3 rfl (lv_at hl 0 rfl) ?_
  refine m_get (v := .int (S.1 25)) X hM 25 (by decide) q999 rfl rfl dX3_end_4 ?_
  refine lv_i2l hx hb dX3_end_7 rfl ?_
  obtain ⟨v_1, h, hf⟩ := ec_bi hf
  refine e_cS (v := .int v_1) (As := [.long (x1.toInt64), .long (0 : Int64), .long ((S.1 25).toInt64)]) (rest := []) X (metX3_in l (x1.toInt64) (0 : Int64) ((S.1 25).toInt64) _ h) (va_cwS 3 X.2.2.2.2 gX3_124 rfl rfl rfl hX3_in ⟨Nat.le_of_ble_eq_true rfl, Nat.le_of_ble_eq_true rfl⟩) rfl hl.1 rfl (Nat.le_of_ble_eq_true rfl) ⟨Nat.zero_le _, Nat.zero_le _⟩ dX3_end_8 ?_
  refine lv_if_ne (tgt := 16) hx hb dX3_end_11 rfl (fun cnd => ?_) (fun cnd => ?_)
  · have hf := ec_t cnd hf
    refine lv_aload_n hx hb dX3_end_16 rfl (lv_at hl 0 rfl) ?_
    refine m_get (v := .int (S.1 25)) X hM 25 (by decide) q999 rfl rfl dX3_end_17 ?_
    refine lv_topi (fun x2_2 ex => ?_)
    have hf := ec_lt_i ex hf
    refine lv_istore_n (lv' := [(2, .int x2_2), (0, .ref o), (1, .int x1)]) hx hb dX3_end_20 rfl hl (by decide) rfl (fun ls hl => ?_)
    refine lv_aload_n hx hb dX3_end_21 rfl (lv_at hl 1 rfl) ?_
    refine lv_iload_n hx hb dX3_end_22 rfl (lv_at hl 2 rfl) ?_
    refine m_puti X hG hM 25 (by decide) q999 rfl rfl mfd25 (wmi25 _) dX3_end_23 (fun S_3 H locs eS hM => ?_)
    have hf := ec_lt_i eS hf
    refine lv_iload_n hx hb dX3_end_26 rfl (lv_at hl 0 rfl) ?_
    obtain ⟨rfl, rfl⟩ := Prod.mk.inj (Option.some.inj hf)
    exact m_iret X hr hlk hM dX3_end_27
  · have hf := ec_f (not_not_intro cnd) hf
    refine lv_iconst (v := -1) hx hb dX3_end_14 (by decide) ?_
    obtain ⟨rfl, rfl⟩ := Prod.mk.inj (Option.some.inj hf)
    exact m_iret X hr hlk hM dX3_end_15
theorem hX3_end : yX3_end.cls = RX3 ∧ yX3_end.cls ≠ "java/lang/invoke/MethodHandle" ∧ yX3_end.cls ≠ "java/lang/invoke/VarHandle" ∧ (parseMethodDescriptor yX3_end.desc).map (fun d => d.parameters.length) = some 1 := by decide +kernel

noncomputable def fX3_look (S : sM) (x1 : Int32) : Option Int32 :=
  if (S.1 25) ≤ x1 then (
    some (-1 : Int32))
  else (
    (ec_ag (S.2.2 24) 320 x1).bind fun v_1 =>
    some v_1)
theorem metX3_look (l : Launch) (D : va_G) (o : Nat) (q : Nat → Nat) (d dz : ClassId) (S : sM) (x1 : Int32) (res : Int32) (hf : fX3_look S x1 = some res) : Met l yX3_look (ws_ yX3_look cX3_look 2 (some .int)) (rmL 0) (MPre D o q d dz S [.int x1]) (k2_QcV (.int res)) 0 0 (fun _ => False) := by
  refine m_ofR rfl (Nat.le_of_ble_eq_true rfl) (fun p e s m args below meth c X hr hlk hM ls hl => ?_)
  have hl : lv_has ls 2 [(0, .ref o), (1, .int x1)] := hl
  have hx := X.1
  have hb := X.2.1
  unfold fX3_look at hf
  refine lv_iload_n hx hb dX3_look_0 rfl (lv_at hl 1 rfl) ?_
  refine lv_aload_n hx hb dX3_look_1 rfl (lv_at hl 0 rfl) ?_
  refine m_get (v := .int (S.1 25)) X hM 25 (by decide) q999 rfl rfl dX3_look_2 ?_
  refine lv_icmp_ge (tgt := 17) hx hb dX3_look_5 rfl (fun cnd => ?_) (fun cnd => ?_)
  · have hf := ec_t cnd hf
    refine lv_iconst (v := -1) hx hb dX3_look_17 (by decide) ?_
    obtain rfl := Option.some.inj hf
    exact e_iretR hx hb hr hlk dX3_look_18
  · have hf := ec_f cnd hf
    refine lv_aload_n hx hb dX3_look_8 rfl (lv_at hl 0 rfl) ?_
    refine m_get (v := .ref (q 24)) X hM 24 (by decide) q998 rfl rfl dX3_look_9 ?_
    refine lv_iload_n hx hb dX3_look_12 rfl (lv_at hl 1 rfl) ?_
    obtain ⟨v_1, h, hf⟩ := ec_bi hf
    refine m_iald X hM wma24 h dX3_look_13 ?_
    refine lv_goto (tgt := 18) hx hb dX3_look_14 rfl ?_
    obtain rfl := Option.some.inj hf
    exact e_iretR hx hb hr hlk dX3_look_18
theorem hX3_look : yX3_look.cls = RX3 ∧ yX3_look.cls ≠ "java/lang/invoke/MethodHandle" ∧ yX3_look.cls ≠ "java/lang/invoke/VarHandle" ∧ (parseMethodDescriptor yX3_look.desc).map (fun d => d.parameters.length) = some 1 := by decide +kernel

noncomputable def fX3_wants (S : sM) (x1 : Int32) (x2 : Int32) : Option sM :=
  if ¬ x1 = 0 then (
    some S)
  else (
    if ¬ (S.1 30) = 0 then (
      some S)
    else (
      ec_lt (mI S 30 x2) fun S_1 =>
      ec_lt (mI S_1 31 (S_1.1 27)) fun S_2 =>
      some S_2))
theorem metX3_wants (l : Launch) (D : va_G) (o : Nat) (q : Nat → Nat) (d dz : ClassId) (hG : MG o q) (S : sM) (x1 : Int32) (x2 : Int32) (Sr : sM) (hf : fX3_wants S x1 x2 = some Sr) : Met l yX3_wants (ws_ yX3_wants cX3_wants 3 none) (rmL 0) (MPre D o q d dz S [.int x1, .int x2]) (MPost D o q d dz none Sr) 0 0 (AM o q) := by
  refine m_ofW rfl (Nat.le_of_ble_eq_true rfl) (fun p e s m args below meth c X hr hlk hM ls hl => ?_)
  have hl : lv_has ls 3 [(0, .ref o), (1, .int x1), (2, .int x2)] := hl
  have hx := X.1
  have hb := X.2.1
  unfold fX3_wants at hf
  refine lv_iload_n hx hb dX3_wants_0 rfl (lv_at hl 1 rfl) ?_
  refine lv_if_ne (tgt := 24) hx hb dX3_wants_1 rfl (fun cnd => ?_) (fun cnd => ?_)
  · have hf := ec_t cnd hf
    obtain rfl := Option.some.inj hf
    exact m_vret X hr hlk hM dX3_wants_24
  · have hf := ec_f (not_not_intro cnd) hf
    refine lv_aload_n hx hb dX3_wants_4 rfl (lv_at hl 0 rfl) ?_
    refine m_get (v := .int (S.1 30)) X hM 30 (by decide) q1004 rfl rfl dX3_wants_5 ?_
    refine lv_if_ne (tgt := 24) hx hb dX3_wants_8 rfl (fun cnd => ?_) (fun cnd => ?_)
    · have hf := ec_t cnd hf
      obtain rfl := Option.some.inj hf
      exact m_vret X hr hlk hM dX3_wants_24
    · have hf := ec_f (not_not_intro cnd) hf
      refine lv_aload_n hx hb dX3_wants_11 rfl (lv_at hl 0 rfl) ?_
      refine lv_iload_n hx hb dX3_wants_12 rfl (lv_at hl 2 rfl) ?_
      refine m_puti X hG hM 30 (by decide) q1004 rfl rfl mfd30 (wmi30 _) dX3_wants_13 (fun S_1 H locs eS hM => ?_)
      have hf := ec_lt_i eS hf
      refine lv_aload_n hx hb dX3_wants_16 rfl (lv_at hl 0 rfl) ?_
      refine lv_aload_n hx hb dX3_wants_17 rfl (lv_at hl 0 rfl) ?_
      refine m_get (v := .int (S_1.1 27)) X hM 27 (by decide) q1001 rfl rfl dX3_wants_18 ?_
      refine m_puti X hG hM 31 (by decide) q1005 rfl rfl mfd31 (wmi31 _) dX3_wants_21 (fun S_2 H locs eS hM => ?_)
      have hf := ec_lt_i eS hf
      obtain rfl := Option.some.inj hf
      exact m_vret X hr hlk hM dX3_wants_24
theorem hX3_wants : yX3_wants.cls = RX3 ∧ yX3_wants.cls ≠ "java/lang/invoke/MethodHandle" ∧ yX3_wants.cls ≠ "java/lang/invoke/VarHandle" ∧ (parseMethodDescriptor yX3_wants.desc).map (fun d => d.parameters.length) = some 2 := by decide +kernel

theorem gX3_140 : GoodIn lw_all (wsV RX3 140 RX3 yX3_look (ws_ yX3_look cX3_look 2 (some .int))) := lw_V q1163 q1165 qs29 q63 q1166
theorem gX3_162 : GoodIn lw_all (wsV RX3 162 RX3 yX3_wants (ws_ yX3_wants cX3_wants 3 none)) := lw_V q1171 q1173 qs30 q63 q1174
noncomputable def fX3_next_8 (N : Nat) (kx34 : sM → Option sM) : Nat → sM → Option sM
  | 0, _ => none
  | n + 1, S =>
    (fX3_look S (S.1 26)).bind fun v_1 =>
    if ¬ v_1 = (32 : Int32) then (
      kx34 S)
    else (
      ec_lt (mI S 26 ((S.1 26) + (1 : Int32))) fun S_2 =>
      (fX3_next_8 N kx34 n) S_2)
theorem bX3_next_8 {N : Nat} (X : CallFix p m c cX3_next 2 s args lw_all RX3) (hr : meth.sig.returnType = none) (hlk : meth.locks = false) (hG : MG o q) {Sr : sM} {kx34 : sM → Option sM} (Hkx34 : ∀ (S : sM) (H : Heap) (locs : List Loc) (ls : Array Slot), kx34 S = some Sr → MW D o q d dz S s H locs → lv_has ls 2 [(0, .ref o)] → W p l e (rmL 1) s m args below meth c H locs 0 0 (MQ below (MPost D o q d dz none Sr) args s 0 0 (AM o q)) (F0 m 34 ls [])) : ∀ (n : Nat) (S : sM) (H : Heap) (locs : List Loc) (ls : Array Slot), fX3_next_8 N kx34 n S = some Sr → MW D o q d dz S s H locs → lv_has ls 2 [(0, .ref o)] → W p l e (rmL 1) s m args below meth c H locs 0 0 (MQ below (MPost D o q d dz none Sr) args s 0 0 (AM o q)) (F0 m 8 ls []) := by
  have hx := X.1
  have hb := X.2.1
  intro n
  induction n with
  | zero =>
    intro S H locs ls hf hM hl
    rw [fX3_next_8] at hf
    cases hf
  | succ n ih =>
    intro S H locs ls hf hM hl
    rw [fX3_next_8] at hf
    refine lv_aload_n hx hb dX3_next_8 rfl (lv_at hl 0 rfl) ?_
    refine lv_aload_n hx hb dX3_next_9 rfl (lv_at hl 0 rfl) ?_
    refine m_get (v := .int (S.1 26)) X hM 26 (by decide) q1000 rfl rfl dX3_next_10 ?_
    obtain ⟨v_1, h, hf⟩ := ec_bi hf
    refine m_cR (v := .int v_1) (As := [.int (S.1 26)]) (rest := []) X hM (metX3_look l D o q d dz S (S.1 26) _ h) (cwV 1 X.2.2.2.2 gX3_140 rfl rfl rfl hX3_look ⟨Nat.le_of_ble_eq_true rfl, Nat.le_of_ble_eq_true rfl⟩) rfl hl.1 rfl (Nat.le_of_ble_eq_true rfl) ⟨Nat.zero_le _, Nat.zero_le _⟩ dX3_next_13 ?_
    refine lv_bipush (v := 32) hx hb dX3_next_16 (by decide) ?_
    refine lv_icmp_ne (tgt := 34) hx hb dX3_next_18 rfl (fun cnd => ?_) (fun cnd => ?_)
    · have hf := ec_t cnd hf
      exact Hkx34 S _ _ _ hf hM hl
    · have hf := ec_f (not_not_intro cnd) hf
      refine lv_aload_n hx hb dX3_next_21 rfl (lv_at hl 0 rfl) ?_
      refine lv_dup hx hb dX3_next_22 rfl ?_
      refine m_get (v := .int (S.1 26)) X hM 26 (by decide) q1000 rfl rfl dX3_next_23 ?_
      refine lv_iconst (v := 1) hx hb dX3_next_26 (by decide) ?_
      refine lv_iadd hx hb dX3_next_27 ?_
      refine m_puti X hG hM 26 (by decide) q1000 rfl rfl mfd26 (wmi26 _) dX3_next_28 (fun S_2 H locs eS hM => ?_)
      have hf := ec_lt_i eS hf
      refine lv_goto (tgt := 8) hx hb dX3_next_31 rfl ?_
      exact ih S_2 _ _ _ hf hM hl
noncomputable def fX3_next_260 (N : Nat) (S : sM) (t0 : Int32) : Option sM :=
  (fX3_wants S t0 (1 : Int32)).bind fun S_9 =>
  ec_lt (mI S_9 26 ((S_9.1 26) + (1 : Int32))) fun S_10 =>
  some S_10
theorem bX3_next_260 {N : Nat} (X : CallFix p m c cX3_next 2 s args lw_all RX3) (hr : meth.sig.returnType = none) (hlk : meth.locks = false) (hG : MG o q) {Sr : sM} : ∀ (S : sM) (t0 : Int32) (H : Heap) (locs : List Loc) (ls : Array Slot), fX3_next_260 N S t0 = some Sr → MW D o q d dz S s H locs → lv_has ls 2 [(0, .ref o)] → W p l e (rmL 1) s m args below meth c H locs 0 0 (MQ below (MPost D o q d dz none Sr) args s 0 0 (AM o q)) (F0 m 260 ls [.int t0, .ref o]) := by
  have hx := X.1
  have hb := X.2.1
  intro S t0 H locs ls hf hM hl
  unfold fX3_next_260 at hf
  refine lv_iconst (v := 1) hx hb dX3_next_260 (by decide) ?_
  obtain ⟨S_9, h, hf⟩ := ec_bi hf
  refine m_cWv (As := [.int t0, .int (1 : Int32)]) (rest := []) X hM (metX3_wants l D o q d dz hG S t0 (1 : Int32) _ h) (cwV 2 X.2.2.2.2 gX3_162 rfl rfl rfl hX3_wants ⟨Nat.le_of_ble_eq_true rfl, Nat.le_of_ble_eq_true rfl⟩) rfl hl.1 rfl (Nat.le_of_ble_eq_true rfl) ⟨Nat.zero_le _, Nat.zero_le _⟩ dX3_next_261 (fun H locs hM => ?_)
  refine lv_aload_n hx hb dX3_next_264 rfl (lv_at hl 0 rfl) ?_
  refine lv_dup hx hb dX3_next_265 rfl ?_
  refine m_get (v := .int (S_9.1 26)) X hM 26 (by decide) q1000 rfl rfl dX3_next_266 ?_
  refine lv_iconst (v := 1) hx hb dX3_next_269 (by decide) ?_
  refine lv_iadd hx hb dX3_next_270 ?_
  refine m_puti X hG hM 26 (by decide) q1000 rfl rfl mfd26 (wmi26 _) dX3_next_271 (fun S_10 H locs eS hM => ?_)
  have hf := ec_lt_i eS hf
  obtain rfl := Option.some.inj hf
  exact m_vret X hr hlk hM dX3_next_274
noncomputable def fX3_next_201 (N : Nat) (k140 : sM → Option sM) (S : sM) (t0 : Int32) : Option sM :=
  ec_lt (mI S 29 t0) fun S_15 =>
  ec_lt (mI S_15 26 ((S_15.1 26) + (1 : Int32))) fun S_16 =>
  k140 S_16
theorem bX3_next_201 {N : Nat} (X : CallFix p m c cX3_next 2 s args lw_all RX3) (hr : meth.sig.returnType = none) (hlk : meth.locks = false) (hG : MG o q) {Sr : sM} {k140 : sM → Option sM} (Hk140 : ∀ (S : sM) (H : Heap) (locs : List Loc) (ls : Array Slot), k140 S = some Sr → MW D o q d dz S s H locs → lv_has ls 2 [(0, .ref o)] → W p l e (rmL 1) s m args below meth c H locs 0 0 (MQ below (MPost D o q d dz none Sr) args s 0 0 (AM o q)) (F0 m 140 ls [])) : ∀ (S : sM) (t0 : Int32) (H : Heap) (locs : List Loc) (ls : Array Slot), fX3_next_201 N k140 S t0 = some Sr → MW D o q d dz S s H locs → lv_has ls 2 [(0, .ref o)] → W p l e (rmL 1) s m args below meth c H locs 0 0 (MQ below (MPost D o q d dz none Sr) args s 0 0 (AM o q)) (F0 m 201 ls [.int t0, .ref o]) := by
  have hx := X.1
  have hb := X.2.1
  intro S t0 H locs ls hf hM hl
  unfold fX3_next_201 at hf
  refine m_puti X hG hM 29 (by decide) q1003 rfl rfl mfd29 (wmi29 _) dX3_next_201 (fun S_15 H locs eS hM => ?_)
  have hf := ec_lt_i eS hf
  refine lv_aload_n hx hb dX3_next_204 rfl (lv_at hl 0 rfl) ?_
  refine lv_dup hx hb dX3_next_205 rfl ?_
  refine m_get (v := .int (S_15.1 26)) X hM 26 (by decide) q1000 rfl rfl dX3_next_206 ?_
  refine lv_iconst (v := 1) hx hb dX3_next_209 (by decide) ?_
  refine lv_iadd hx hb dX3_next_210 ?_
  refine m_puti X hG hM 26 (by decide) q1000 rfl rfl mfd26 (wmi26 _) dX3_next_211 (fun S_16 H locs eS hM => ?_)
  have hf := ec_lt_i eS hf
  refine lv_goto (tgt := 140) hx hb dX3_next_214 rfl ?_
  exact Hk140 S_16 _ _ _ hf hM hl
noncomputable def fX3_next_140 (N : Nat) (kx217 : sM → Option sM) : Nat → sM → Option sM
  | 0, _ => none
  | n + 1, S =>
    (fX3_look S (S.1 26)).bind fun v_13 =>
    (fX3_in (v_13.toInt64) (48 : Int64) (57 : Int64)).bind fun v_14 =>
    if v_14 = 0 then (
      kx217 S)
    else (
      if (2 : Int32) ≤ ((S.1 26) - (S.1 27)) then (
        fX3_next_201 N (fX3_next_140 N kx217 n) S (S.1 29))
      else (
        (fX3_look S (S.1 26)).bind fun v_17 =>
        fX3_next_201 N (fX3_next_140 N kx217 n) S ((((10 : Int32) * (S.1 29)) + v_17) - (48 : Int32))))
theorem bX3_next_140 {N : Nat} (X : CallFix p m c cX3_next 2 s args lw_all RX3) (hr : meth.sig.returnType = none) (hlk : meth.locks = false) (hG : MG o q) {Sr : sM} {kx217 : sM → Option sM} (Hkx217 : ∀ (S : sM) (H : Heap) (locs : List Loc) (ls : Array Slot), kx217 S = some Sr → MW D o q d dz S s H locs → lv_has ls 2 [(0, .ref o)] → W p l e (rmL 1) s m args below meth c H locs 0 0 (MQ below (MPost D o q d dz none Sr) args s 0 0 (AM o q)) (F0 m 217 ls [])) : ∀ (n : Nat) (S : sM) (H : Heap) (locs : List Loc) (ls : Array Slot), fX3_next_140 N kx217 n S = some Sr → MW D o q d dz S s H locs → lv_has ls 2 [(0, .ref o)] → W p l e (rmL 1) s m args below meth c H locs 0 0 (MQ below (MPost D o q d dz none Sr) args s 0 0 (AM o q)) (F0 m 140 ls []) := by
  have hx := X.1
  have hb := X.2.1
  intro n
  induction n with
  | zero =>
    intro S H locs ls hf hM hl
    rw [fX3_next_140] at hf
    cases hf
  | succ n ih =>
    intro S H locs ls hf hM hl
    rw [fX3_next_140] at hf
    refine lv_aload_n hx hb dX3_next_140 rfl (lv_at hl 0 rfl) ?_
    refine lv_aload_n hx hb dX3_next_141 rfl (lv_at hl 0 rfl) ?_
    refine m_get (v := .int (S.1 26)) X hM 26 (by decide) q1000 rfl rfl dX3_next_142 ?_
    obtain ⟨v_13, h, hf⟩ := ec_bi hf
    refine m_cR (v := .int v_13) (As := [.int (S.1 26)]) (rest := []) X hM (metX3_look l D o q d dz S (S.1 26) _ h) (cwV 1 X.2.2.2.2 gX3_140 rfl rfl rfl hX3_look ⟨Nat.le_of_ble_eq_true rfl, Nat.le_of_ble_eq_true rfl⟩) rfl hl.1 rfl (Nat.le_of_ble_eq_true rfl) ⟨Nat.zero_le _, Nat.zero_le _⟩ dX3_next_145 ?_
    refine lv_i2l hx hb dX3_next_148 rfl ?_
    refine lv_ldc2 (own := RX3) (v := 48) hx hb X.2.2.2.1 (X.2.2.2.2 _ q1169) dX3_next_149 ?_
    refine lv_ldc2 (own := RX3) (v := 57) hx hb X.2.2.2.1 (X.2.2.2.2 _ q1170) dX3_next_152 ?_
    obtain ⟨v_14, h, hf⟩ := ec_bi hf
    refine e_cS (v := .int v_14) (As := [.long (v_13.toInt64), .long (48 : Int64), .long (57 : Int64)]) (rest := []) X (metX3_in l (v_13.toInt64) (48 : Int64) (57 : Int64) _ h) (va_cwS 3 X.2.2.2.2 gX3_124 rfl rfl rfl hX3_in ⟨Nat.le_of_ble_eq_true rfl, Nat.le_of_ble_eq_true rfl⟩) rfl hl.1 rfl (Nat.le_of_ble_eq_true rfl) ⟨Nat.zero_le _, Nat.zero_le _⟩ dX3_next_155 ?_
    refine lv_if_eq (tgt := 217) hx hb dX3_next_158 rfl (fun cnd => ?_) (fun cnd => ?_)
    · have hf := ec_t cnd hf
      exact Hkx217 S _ _ _ hf hM hl
    · have hf := ec_f cnd hf
      refine lv_aload_n hx hb dX3_next_161 rfl (lv_at hl 0 rfl) ?_
      refine lv_aload_n hx hb dX3_next_162 rfl (lv_at hl 0 rfl) ?_
      refine m_get (v := .int (S.1 26)) X hM 26 (by decide) q1000 rfl rfl dX3_next_163 ?_
      refine lv_aload_n hx hb dX3_next_166 rfl (lv_at hl 0 rfl) ?_
      refine m_get (v := .int (S.1 27)) X hM 27 (by decide) q1001 rfl rfl dX3_next_167 ?_
      refine lv_isub hx hb dX3_next_170 ?_
      refine lv_iconst (v := 2) hx hb dX3_next_171 (by decide) ?_
      refine lv_icmp_ge (tgt := 197) hx hb dX3_next_172 rfl (fun cnd => ?_) (fun cnd => ?_)
      · have hf := ec_t cnd hf
        refine lv_aload_n hx hb dX3_next_197 rfl (lv_at hl 0 rfl) ?_
        refine m_get (v := .int (S.1 29)) X hM 29 (by decide) q1003 rfl rfl dX3_next_198 ?_
        exact bX3_next_201 X hr hlk hG ih S (S.1 29) _ _ _ hf hM hl
      · have hf := ec_f cnd hf
        refine lv_bipush (v := 10) hx hb dX3_next_175 (by decide) ?_
        refine lv_aload_n hx hb dX3_next_177 rfl (lv_at hl 0 rfl) ?_
        refine m_get (v := .int (S.1 29)) X hM 29 (by decide) q1003 rfl rfl dX3_next_178 ?_
        refine lv_imul hx hb dX3_next_181 ?_
        refine lv_aload_n hx hb dX3_next_182 rfl (lv_at hl 0 rfl) ?_
        refine lv_aload_n hx hb dX3_next_183 rfl (lv_at hl 0 rfl) ?_
        refine m_get (v := .int (S.1 26)) X hM 26 (by decide) q1000 rfl rfl dX3_next_184 ?_
        obtain ⟨v_17, h, hf⟩ := ec_bi hf
        refine m_cR (v := .int v_17) (As := [.int (S.1 26)]) (rest := [.int ((10 : Int32) * (S.1 29)), .ref o]) X hM (metX3_look l D o q d dz S (S.1 26) _ h) (cwV 1 X.2.2.2.2 gX3_140 rfl rfl rfl hX3_look ⟨Nat.le_of_ble_eq_true rfl, Nat.le_of_ble_eq_true rfl⟩) rfl hl.1 rfl (Nat.le_of_ble_eq_true rfl) ⟨Nat.zero_le _, Nat.zero_le _⟩ dX3_next_187 ?_
        refine lv_iadd hx hb dX3_next_190 ?_
        refine lv_bipush (v := 48) hx hb dX3_next_191 (by decide) ?_
        refine lv_isub hx hb dX3_next_193 ?_
        refine lv_goto (tgt := 201) hx hb dX3_next_194 rfl ?_
        exact bX3_next_201 X hr hlk hG ih S ((((10 : Int32) * (S.1 29)) + v_17) - (48 : Int32)) _ _ _ hf hM hl
noncomputable def fX3_next_236 (N : Nat) (S : sM) (t0 : Int32) : Option sM :=
  (fX3_wants S t0 (1 : Int32)).bind fun S_19 =>
  some S_19
theorem bX3_next_236 {N : Nat} (X : CallFix p m c cX3_next 2 s args lw_all RX3) (hr : meth.sig.returnType = none) (hlk : meth.locks = false) (hG : MG o q) {Sr : sM} : ∀ (S : sM) (t0 : Int32) (H : Heap) (locs : List Loc) (ls : Array Slot), fX3_next_236 N S t0 = some Sr → MW D o q d dz S s H locs → lv_has ls 2 [(0, .ref o)] → W p l e (rmL 1) s m args below meth c H locs 0 0 (MQ below (MPost D o q d dz none Sr) args s 0 0 (AM o q)) (F0 m 236 ls [.int t0, .ref o]) := by
  have hx := X.1
  have hb := X.2.1
  intro S t0 H locs ls hf hM hl
  unfold fX3_next_236 at hf
  refine lv_iconst (v := 1) hx hb dX3_next_236 (by decide) ?_
  obtain ⟨S_19, h, hf⟩ := ec_bi hf
  refine m_cWv (As := [.int t0, .int (1 : Int32)]) (rest := []) X hM (metX3_wants l D o q d dz hG S t0 (1 : Int32) _ h) (cwV 2 X.2.2.2.2 gX3_162 rfl rfl rfl hX3_wants ⟨Nat.le_of_ble_eq_true rfl, Nat.le_of_ble_eq_true rfl⟩) rfl hl.1 rfl (Nat.le_of_ble_eq_true rfl) ⟨Nat.zero_le _, Nat.zero_le _⟩ dX3_next_237 (fun H locs hM => ?_)
  refine lv_goto (tgt := 274) hx hb dX3_next_240 rfl ?_
  obtain rfl := Option.some.inj hf
  exact m_vret X hr hlk hM dX3_next_274
noncomputable def fX3_next_82 (N : Nat) : Nat → sM → Option sM
  | 0, _ => none
  | n + 1, S =>
    (fX3_look S (S.1 26)).bind fun v_21 =>
    (fX3_in (v_21.toInt64) (97 : Int64) (122 : Int64)).bind fun v_22 =>
    if v_22 = 0 then (
      some S)
    else (
      ec_lt (mI S 26 ((S.1 26) + (1 : Int32))) fun S_23 =>
      (fX3_next_82 N n) S_23)
theorem bX3_next_82 {N : Nat} (X : CallFix p m c cX3_next 2 s args lw_all RX3) (hr : meth.sig.returnType = none) (hlk : meth.locks = false) (hG : MG o q) {Sr : sM} : ∀ (n : Nat) (S : sM) (H : Heap) (locs : List Loc) (ls : Array Slot), fX3_next_82 N n S = some Sr → MW D o q d dz S s H locs → lv_has ls 2 [(0, .ref o)] → W p l e (rmL 1) s m args below meth c H locs 0 0 (MQ below (MPost D o q d dz none Sr) args s 0 0 (AM o q)) (F0 m 82 ls []) := by
  have hx := X.1
  have hb := X.2.1
  intro n
  induction n with
  | zero =>
    intro S H locs ls hf hM hl
    rw [fX3_next_82] at hf
    cases hf
  | succ n ih =>
    intro S H locs ls hf hM hl
    rw [fX3_next_82] at hf
    refine lv_aload_n hx hb dX3_next_82 rfl (lv_at hl 0 rfl) ?_
    refine lv_aload_n hx hb dX3_next_83 rfl (lv_at hl 0 rfl) ?_
    refine m_get (v := .int (S.1 26)) X hM 26 (by decide) q1000 rfl rfl dX3_next_84 ?_
    obtain ⟨v_21, h, hf⟩ := ec_bi hf
    refine m_cR (v := .int v_21) (As := [.int (S.1 26)]) (rest := []) X hM (metX3_look l D o q d dz S (S.1 26) _ h) (cwV 1 X.2.2.2.2 gX3_140 rfl rfl rfl hX3_look ⟨Nat.le_of_ble_eq_true rfl, Nat.le_of_ble_eq_true rfl⟩) rfl hl.1 rfl (Nat.le_of_ble_eq_true rfl) ⟨Nat.zero_le _, Nat.zero_le _⟩ dX3_next_87 ?_
    refine lv_i2l hx hb dX3_next_90 rfl ?_
    refine lv_ldc2 (own := RX3) (v := 97) hx hb X.2.2.2.1 (X.2.2.2.2 _ q1167) dX3_next_91 ?_
    refine lv_ldc2 (own := RX3) (v := 122) hx hb X.2.2.2.1 (X.2.2.2.2 _ q1168) dX3_next_94 ?_
    obtain ⟨v_22, h, hf⟩ := ec_bi hf
    refine e_cS (v := .int v_22) (As := [.long (v_21.toInt64), .long (97 : Int64), .long (122 : Int64)]) (rest := []) X (metX3_in l (v_21.toInt64) (97 : Int64) (122 : Int64) _ h) (va_cwS 3 X.2.2.2.2 gX3_124 rfl rfl rfl hX3_in ⟨Nat.le_of_ble_eq_true rfl, Nat.le_of_ble_eq_true rfl⟩) rfl hl.1 rfl (Nat.le_of_ble_eq_true rfl) ⟨Nat.zero_le _, Nat.zero_le _⟩ dX3_next_97 ?_
    refine lv_if_eq (tgt := 274) hx hb dX3_next_100 rfl (fun cnd => ?_) (fun cnd => ?_)
    · have hf := ec_t cnd hf
      obtain rfl := Option.some.inj hf
      exact m_vret X hr hlk hM dX3_next_274
    · have hf := ec_f cnd hf
      refine lv_aload_n hx hb dX3_next_103 rfl (lv_at hl 0 rfl) ?_
      refine lv_dup hx hb dX3_next_104 rfl ?_
      refine m_get (v := .int (S.1 26)) X hM 26 (by decide) q1000 rfl rfl dX3_next_105 ?_
      refine lv_iconst (v := 1) hx hb dX3_next_108 (by decide) ?_
      refine lv_iadd hx hb dX3_next_109 ?_
      refine m_puti X hG hM 26 (by decide) q1000 rfl rfl mfd26 (wmi26 _) dX3_next_110 (fun S_23 H locs eS hM => ?_)
      have hf := ec_lt_i eS hf
      refine lv_goto (tgt := 82) hx hb dX3_next_113 rfl ?_
      exact ih S_23 _ _ _ hf hM hl
noncomputable def fX3_next (N : Nat) (S : sM) : Option sM :=
  if (S.1 30) ≤ 0 then (
    fX3_next_8 N (fun S_3 =>
      ec_lt (mI S_3 27 (S_3.1 26)) fun S_4 =>
      (fX3_look S_4 (S_4.1 26)).bind fun v_5 =>
      if 0 ≤ v_5 then (
        (fX3_in (v_5.toInt64) (97 : Int64) (122 : Int64)).bind fun v_6 =>
        if v_6 = 0 then (
          (fX3_in (v_5.toInt64) (48 : Int64) (57 : Int64)).bind fun v_7 =>
          if v_7 = 0 then (
            ec_lt (mI S_4 28 (3 : Int32)) fun S_8 =>
            if ¬ v_5 = (59 : Int32) then (
              fX3_next_260 N S_8 (0 : Int32))
            else (
              fX3_next_260 N S_8 (1 : Int32)))
          else (
            ec_lt (mI S_4 28 (2 : Int32)) fun S_11 =>
            ec_lt (mI S_11 29 (0 : Int32)) fun S_12 =>
            fX3_next_140 N (fun S_18 =>
              if (2 : Int32) < ((S_18.1 26) - (S_18.1 27)) then (
                fX3_next_236 N S_18 (0 : Int32))
              else (
                fX3_next_236 N S_18 (1 : Int32))) N S_12))
        else (
          ec_lt (mI S_4 28 (1 : Int32)) fun S_20 =>
          fX3_next_82 N N S_20))
      else (
        ec_lt (mI S_4 28 (0 : Int32)) fun S_24 =>
        some S_24)) N S)
  else (
    some S)
theorem metX3_next (l : Launch) (D : va_G) (o : Nat) (q : Nat → Nat) (d dz : ClassId) (hG : MG o q) (N : Nat) (S : sM) (Sr : sM) (hf : fX3_next N S = some Sr) : Met l yX3_next (ws_ yX3_next cX3_next 2 none) (rmL 1) (MPre D o q d dz S []) (MPost D o q d dz none Sr) 0 0 (AM o q) := by
  refine m_ofW rfl (Nat.le_of_ble_eq_true rfl) (fun p e s m args below meth c X hr hlk hM ls hl => ?_)
  have hl : lv_has ls 2 [(0, .ref o)] := hl
  have hx := X.1
  have hb := X.2.1
  unfold fX3_next at hf
  refine lv_aload_n hx hb dX3_next_0 rfl (lv_at hl 0 rfl) ?_
  refine m_get (v := .int (S.1 30)) X hM 30 (by decide) q1004 rfl rfl dX3_next_1 ?_
  refine lv_if_le (tgt := 8) hx hb dX3_next_4 rfl (fun cnd => ?_) (fun cnd => ?_)
  · have hf := ec_t cnd hf
    exact bX3_next_8 X hr hlk hG (fun S_3 H locs ls hf hM hl => by
      refine lv_aload_n hx hb dX3_next_34 rfl (lv_at hl 0 rfl) ?_
      refine lv_aload_n hx hb dX3_next_35 rfl (lv_at hl 0 rfl) ?_
      refine m_get (v := .int (S_3.1 26)) X hM 26 (by decide) q1000 rfl rfl dX3_next_36 ?_
      refine m_puti X hG hM 27 (by decide) q1001 rfl rfl mfd27 (wmi27 _) dX3_next_39 (fun S_4 H locs eS hM => ?_)
      have hf := ec_lt_i eS hf
      refine lv_aload_n hx hb dX3_next_42 rfl (lv_at hl 0 rfl) ?_
      refine lv_aload_n hx hb dX3_next_43 rfl (lv_at hl 0 rfl) ?_
      refine m_get (v := .int (S_4.1 26)) X hM 26 (by decide) q1000 rfl rfl dX3_next_44 ?_
      obtain ⟨v_5, h, hf⟩ := ec_bi hf
      refine m_cR (v := .int v_5) (As := [.int (S_4.1 26)]) (rest := []) X hM (metX3_look l D o q d dz S_4 (S_4.1 26) _ h) (cwV 1 X.2.2.2.2 gX3_140 rfl rfl rfl hX3_look ⟨Nat.le_of_ble_eq_true rfl, Nat.le_of_ble_eq_true rfl⟩) rfl hl.1 rfl (Nat.le_of_ble_eq_true rfl) ⟨Nat.zero_le _, Nat.zero_le _⟩ dX3_next_47 ?_
      refine lv_istore_n (lv' := [(1, .int v_5), (0, .ref o)]) hx hb dX3_next_50 rfl hl (by decide) rfl (fun ls hl => ?_)
      refine lv_iload_n hx hb dX3_next_51 rfl (lv_at hl 0 rfl) ?_
      refine lv_if_ge (tgt := 63) hx hb dX3_next_52 rfl (fun cnd => ?_) (fun cnd => ?_)
      · have hf := ec_t cnd hf
        refine lv_iload_n hx hb dX3_next_63 rfl (lv_at hl 0 rfl) ?_
        refine lv_i2l hx hb dX3_next_64 rfl ?_
        refine lv_ldc2 (own := RX3) (v := 97) hx hb X.2.2.2.1 (X.2.2.2.2 _ q1167) dX3_next_65 ?_
        refine lv_ldc2 (own := RX3) (v := 122) hx hb X.2.2.2.1 (X.2.2.2.2 _ q1168) dX3_next_68 ?_
        obtain ⟨v_6, h, hf⟩ := ec_bi hf
        refine e_cS (v := .int v_6) (As := [.long (v_5.toInt64), .long (97 : Int64), .long (122 : Int64)]) (rest := []) X (metX3_in l (v_5.toInt64) (97 : Int64) (122 : Int64) _ h) (va_cwS 3 X.2.2.2.2 gX3_124 rfl rfl rfl hX3_in ⟨Nat.le_of_ble_eq_true rfl, Nat.le_of_ble_eq_true rfl⟩) rfl hl.1 rfl (Nat.le_of_ble_eq_true rfl) ⟨Nat.zero_le _, Nat.zero_le _⟩ dX3_next_71 ?_
        refine lv_if_eq (tgt := 116) hx hb dX3_next_74 rfl (fun cnd => ?_) (fun cnd => ?_)
        · have hf := ec_t cnd hf
          refine lv_iload_n hx hb dX3_next_116 rfl (lv_at hl 0 rfl) ?_
          refine lv_i2l hx hb dX3_next_117 rfl ?_
          refine lv_ldc2 (own := RX3) (v := 48) hx hb X.2.2.2.1 (X.2.2.2.2 _ q1169) dX3_next_118 ?_
          refine lv_ldc2 (own := RX3) (v := 57) hx hb X.2.2.2.1 (X.2.2.2.2 _ q1170) dX3_next_121 ?_
          obtain ⟨v_7, h, hf⟩ := ec_bi hf
          refine e_cS (v := .int v_7) (As := [.long (v_5.toInt64), .long (48 : Int64), .long (57 : Int64)]) (rest := []) X (metX3_in l (v_5.toInt64) (48 : Int64) (57 : Int64) _ h) (va_cwS 3 X.2.2.2.2 gX3_124 rfl rfl rfl hX3_in ⟨Nat.le_of_ble_eq_true rfl, Nat.le_of_ble_eq_true rfl⟩) rfl hl.1 rfl (Nat.le_of_ble_eq_true rfl) ⟨Nat.zero_le _, Nat.zero_le _⟩ dX3_next_124 ?_
          refine lv_if_eq (tgt := 243) hx hb dX3_next_127 rfl (fun cnd => ?_) (fun cnd => ?_)
          · have hf := ec_t cnd hf
            refine lv_aload_n hx hb dX3_next_243 rfl (lv_at hl 1 rfl) ?_
            refine lv_iconst (v := 3) hx hb dX3_next_244 (by decide) ?_
            refine m_puti X hG hM 28 (by decide) q1002 rfl rfl mfd28 (wmi28 _) dX3_next_245 (fun S_8 H locs eS hM => ?_)
            have hf := ec_lt_i eS hf
            refine lv_aload_n hx hb dX3_next_248 rfl (lv_at hl 1 rfl) ?_
            refine lv_iload_n hx hb dX3_next_249 rfl (lv_at hl 0 rfl) ?_
            refine lv_bipush (v := 59) hx hb dX3_next_250 (by decide) ?_
            refine lv_icmp_ne (tgt := 259) hx hb dX3_next_252 rfl (fun cnd => ?_) (fun cnd => ?_)
            · have hf := ec_t cnd hf
              refine lv_iconst (v := 0) hx hb dX3_next_259 (by decide) ?_
              exact bX3_next_260 X hr hlk hG S_8 (0 : Int32) _ _ _ hf hM (lv_sub hl [1] rfl)
            · have hf := ec_f (not_not_intro cnd) hf
              refine lv_iconst (v := 1) hx hb dX3_next_255 (by decide) ?_
              refine lv_goto (tgt := 260) hx hb dX3_next_256 rfl ?_
              exact bX3_next_260 X hr hlk hG S_8 (1 : Int32) _ _ _ hf hM (lv_sub hl [1] rfl)
          · have hf := ec_f cnd hf
            refine lv_aload_n hx hb dX3_next_130 rfl (lv_at hl 1 rfl) ?_
            refine lv_iconst (v := 2) hx hb dX3_next_131 (by decide) ?_
            refine m_puti X hG hM 28 (by decide) q1002 rfl rfl mfd28 (wmi28 _) dX3_next_132 (fun S_11 H locs eS hM => ?_)
            have hf := ec_lt_i eS hf
            refine lv_aload_n hx hb dX3_next_135 rfl (lv_at hl 1 rfl) ?_
            refine lv_iconst (v := 0) hx hb dX3_next_136 (by decide) ?_
            refine m_puti X hG hM 29 (by decide) q1003 rfl rfl mfd29 (wmi29 _) dX3_next_137 (fun S_12 H locs eS hM => ?_)
            have hf := ec_lt_i eS hf
            exact bX3_next_140 X hr hlk hG (fun S_18 H locs ls hf hM hl => by
              refine lv_aload_n hx hb dX3_next_217 rfl (lv_at hl 0 rfl) ?_
              refine lv_aload_n hx hb dX3_next_218 rfl (lv_at hl 0 rfl) ?_
              refine m_get (v := .int (S_18.1 26)) X hM 26 (by decide) q1000 rfl rfl dX3_next_219 ?_
              refine lv_aload_n hx hb dX3_next_222 rfl (lv_at hl 0 rfl) ?_
              refine m_get (v := .int (S_18.1 27)) X hM 27 (by decide) q1001 rfl rfl dX3_next_223 ?_
              refine lv_isub hx hb dX3_next_226 ?_
              refine lv_iconst (v := 2) hx hb dX3_next_227 (by decide) ?_
              refine lv_icmp_gt (tgt := 235) hx hb dX3_next_228 rfl (fun cnd => ?_) (fun cnd => ?_)
              · have hf := ec_t cnd hf
                refine lv_iconst (v := 0) hx hb dX3_next_235 (by decide) ?_
                exact bX3_next_236 X hr hlk hG S_18 (0 : Int32) _ _ _ hf hM hl
              · have hf := ec_f cnd hf
                refine lv_iconst (v := 1) hx hb dX3_next_231 (by decide) ?_
                refine lv_goto (tgt := 236) hx hb dX3_next_232 rfl ?_
                exact bX3_next_236 X hr hlk hG S_18 (1 : Int32) _ _ _ hf hM hl) N S_12 _ _ _ hf hM (lv_sub hl [1] rfl)
        · have hf := ec_f cnd hf
          refine lv_aload_n hx hb dX3_next_77 rfl (lv_at hl 1 rfl) ?_
          refine lv_iconst (v := 1) hx hb dX3_next_78 (by decide) ?_
          refine m_puti X hG hM 28 (by decide) q1002 rfl rfl mfd28 (wmi28 _) dX3_next_79 (fun S_20 H locs eS hM => ?_)
          have hf := ec_lt_i eS hf
          exact bX3_next_82 X hr hlk hG N S_20 _ _ _ hf hM (lv_sub hl [1] rfl)
      · have hf := ec_f cnd hf
        refine lv_aload_n hx hb dX3_next_55 rfl (lv_at hl 1 rfl) ?_
        refine lv_iconst (v := 0) hx hb dX3_next_56 (by decide) ?_
        refine m_puti X hG hM 28 (by decide) q1002 rfl rfl mfd28 (wmi28 _) dX3_next_57 (fun S_24 H locs eS hM => ?_)
        have hf := ec_lt_i eS hf
        refine lv_goto (tgt := 274) hx hb dX3_next_60 rfl ?_
        obtain rfl := Option.some.inj hf
        exact m_vret X hr hlk hM dX3_next_274) N S _ _ _ hf hM hl
  · have hf := ec_f cnd hf
    obtain rfl := Option.some.inj hf
    exact m_vret X hr hlk hM dX3_next_7
theorem hX3_next : yX3_next.cls = RX3 ∧ yX3_next.cls ≠ "java/lang/invoke/MethodHandle" ∧ yX3_next.cls ≠ "java/lang/invoke/VarHandle" ∧ (parseMethodDescriptor yX3_next.desc).map (fun d => d.parameters.length) = some 0 := by decide +kernel

noncomputable def fX3_is_78 (S : sM) : Option Int32 :=
  some (0 : Int32)
theorem bX3_is_78 (X : CallFix p m c cX3_is 6 s args lw_all RX3) (hr : meth.sig.returnType = (some .boolean)) (hlk : meth.locks = false) {S : sM} (hM : MW D o q d dz S s s.heap []) {res : Int32} : ∀ (ls : Array Slot), fX3_is_78 S = some res → lv_has ls 6 [(0, .ref o)] → W p l e (rmL 1) s m args below meth c s.heap [] 0 0 (MQ below (k2_QcV (.int res)) args s 0 0 (fun _ => False)) (F0 m 78 ls []) := by
  have hx := X.1
  have hb := X.2.1
  intro ls hf hl
  unfold fX3_is_78 at hf
  refine lv_iconst (v := 0) hx hb dX3_is_78 (by decide) ?_
  obtain rfl := Option.some.inj hf
  exact e_zretR hx hb hr hlk rfl dX3_is_79
noncomputable def fX3_is_74 (S : sM) : Option Int32 :=
  some (1 : Int32)
theorem bX3_is_74 (X : CallFix p m c cX3_is 6 s args lw_all RX3) (hr : meth.sig.returnType = (some .boolean)) (hlk : meth.locks = false) {S : sM} (hM : MW D o q d dz S s s.heap []) {res : Int32} : ∀ (ls : Array Slot), fX3_is_74 S = some res → lv_has ls 6 [(0, .ref o)] → W p l e (rmL 1) s m args below meth c s.heap [] 0 0 (MQ below (k2_QcV (.int res)) args s 0 0 (fun _ => False)) (F0 m 74 ls []) := by
  have hx := X.1
  have hb := X.2.1
  intro ls hf hl
  unfold fX3_is_74 at hf
  refine lv_iconst (v := 1) hx hb dX3_is_74 (by decide) ?_
  refine lv_goto (tgt := 79) hx hb dX3_is_75 rfl ?_
  obtain rfl := Option.some.inj hf
  exact e_zretR hx hb hr hlk rfl dX3_is_79
noncomputable def fX3_is (S : sM) (x1 : Int32) (x2 : Int32) (x3 : Int32) (x4 : Int32) (x5 : Int32) : Option Int32 :=
  if ¬ ((S.1 26) - (S.1 27)) = x1 then (
    fX3_is_78 S)
  else (
    (fX3_look S (S.1 27)).bind fun v_1 =>
    if ¬ v_1 = x2 then (
      fX3_is_78 S)
    else (
      (fX3_look S ((S.1 27) + (1 : Int32))).bind fun v_2 =>
      if ¬ v_2 = x3 then (
        fX3_is_78 S)
      else (
        (fX3_look S ((S.1 27) + (2 : Int32))).bind fun v_3 =>
        if ¬ v_3 = x4 then (
          fX3_is_78 S)
        else (
          if x1 < (4 : Int32) then (
            fX3_is_74 S)
          else (
            (fX3_look S ((S.1 27) + (3 : Int32))).bind fun v_4 =>
            if ¬ v_4 = x5 then (
              fX3_is_78 S)
            else (
              fX3_is_74 S))))))
theorem metX3_is (l : Launch) (D : va_G) (o : Nat) (q : Nat → Nat) (d dz : ClassId) (S : sM) (x1 : Int32) (x2 : Int32) (x3 : Int32) (x4 : Int32) (x5 : Int32) (res : Int32) (hf : fX3_is S x1 x2 x3 x4 x5 = some res) : Met l yX3_is (ws_ yX3_is cX3_is 6 (some .boolean)) (rmL 1) (MPre D o q d dz S [.int x1, .int x2, .int x3, .int x4, .int x5]) (k2_QcV (.int res)) 0 0 (fun _ => False) := by
  refine m_ofR rfl (Nat.le_of_ble_eq_true rfl) (fun p e s m args below meth c X hr hlk hM ls hl => ?_)
  have hl : lv_has ls 6 [(0, .ref o), (1, .int x1), (2, .int x2), (3, .int x3), (4, .int x4), (5, .int x5)] := hl
  have hx := X.1
  have hb := X.2.1
  unfold fX3_is at hf
  refine lv_aload_n hx hb dX3_is_0 rfl (lv_at hl 0 rfl) ?_
  refine m_get (v := .int (S.1 26)) X hM 26 (by decide) q1000 rfl rfl dX3_is_1 ?_
  refine lv_aload_n hx hb dX3_is_4 rfl (lv_at hl 0 rfl) ?_
  refine m_get (v := .int (S.1 27)) X hM 27 (by decide) q1001 rfl rfl dX3_is_5 ?_
  refine lv_isub hx hb dX3_is_8 ?_
  refine lv_iload_n hx hb dX3_is_9 rfl (lv_at hl 1 rfl) ?_
  refine lv_icmp_ne (tgt := 78) hx hb dX3_is_10 rfl (fun cnd => ?_) (fun cnd => ?_)
  · have hf := ec_t cnd hf
    exact bX3_is_78 X hr hlk hM _ hf (lv_sub hl [0] rfl)
  · have hf := ec_f (not_not_intro cnd) hf
    refine lv_aload_n hx hb dX3_is_13 rfl (lv_at hl 0 rfl) ?_
    refine lv_aload_n hx hb dX3_is_14 rfl (lv_at hl 0 rfl) ?_
    refine m_get (v := .int (S.1 27)) X hM 27 (by decide) q1001 rfl rfl dX3_is_15 ?_
    obtain ⟨v_1, h, hf⟩ := ec_bi hf
    refine m_cR (v := .int v_1) (As := [.int (S.1 27)]) (rest := []) X hM (metX3_look l D o q d dz S (S.1 27) _ h) (cwV 1 X.2.2.2.2 gX3_140 rfl rfl rfl hX3_look ⟨Nat.le_of_ble_eq_true rfl, Nat.le_of_ble_eq_true rfl⟩) rfl hl.1 rfl (Nat.le_of_ble_eq_true rfl) ⟨Nat.zero_le _, Nat.zero_le _⟩ dX3_is_18 ?_
    refine lv_iload_n hx hb dX3_is_21 rfl (lv_at hl 2 rfl) ?_
    refine lv_icmp_ne (tgt := 78) hx hb dX3_is_22 rfl (fun cnd => ?_) (fun cnd => ?_)
    · have hf := ec_t cnd hf
      exact bX3_is_78 X hr hlk hM _ hf (lv_sub hl [0] rfl)
    · have hf := ec_f (not_not_intro cnd) hf
      refine lv_aload_n hx hb dX3_is_25 rfl (lv_at hl 0 rfl) ?_
      refine lv_aload_n hx hb dX3_is_26 rfl (lv_at hl 0 rfl) ?_
      refine m_get (v := .int (S.1 27)) X hM 27 (by decide) q1001 rfl rfl dX3_is_27 ?_
      refine lv_iconst (v := 1) hx hb dX3_is_30 (by decide) ?_
      refine lv_iadd hx hb dX3_is_31 ?_
      obtain ⟨v_2, h, hf⟩ := ec_bi hf
      refine m_cR (v := .int v_2) (As := [.int ((S.1 27) + (1 : Int32))]) (rest := []) X hM (metX3_look l D o q d dz S ((S.1 27) + (1 : Int32)) _ h) (cwV 1 X.2.2.2.2 gX3_140 rfl rfl rfl hX3_look ⟨Nat.le_of_ble_eq_true rfl, Nat.le_of_ble_eq_true rfl⟩) rfl hl.1 rfl (Nat.le_of_ble_eq_true rfl) ⟨Nat.zero_le _, Nat.zero_le _⟩ dX3_is_32 ?_
      refine lv_iload_n hx hb dX3_is_35 rfl (lv_at hl 3 rfl) ?_
      refine lv_icmp_ne (tgt := 78) hx hb dX3_is_36 rfl (fun cnd => ?_) (fun cnd => ?_)
      · have hf := ec_t cnd hf
        exact bX3_is_78 X hr hlk hM _ hf (lv_sub hl [0] rfl)
      · have hf := ec_f (not_not_intro cnd) hf
        refine lv_aload_n hx hb dX3_is_39 rfl (lv_at hl 0 rfl) ?_
        refine lv_aload_n hx hb dX3_is_40 rfl (lv_at hl 0 rfl) ?_
        refine m_get (v := .int (S.1 27)) X hM 27 (by decide) q1001 rfl rfl dX3_is_41 ?_
        refine lv_iconst (v := 2) hx hb dX3_is_44 (by decide) ?_
        refine lv_iadd hx hb dX3_is_45 ?_
        obtain ⟨v_3, h, hf⟩ := ec_bi hf
        refine m_cR (v := .int v_3) (As := [.int ((S.1 27) + (2 : Int32))]) (rest := []) X hM (metX3_look l D o q d dz S ((S.1 27) + (2 : Int32)) _ h) (cwV 1 X.2.2.2.2 gX3_140 rfl rfl rfl hX3_look ⟨Nat.le_of_ble_eq_true rfl, Nat.le_of_ble_eq_true rfl⟩) rfl hl.1 rfl (Nat.le_of_ble_eq_true rfl) ⟨Nat.zero_le _, Nat.zero_le _⟩ dX3_is_46 ?_
        refine lv_iload hx hb dX3_is_49 (lv_at hl 4 rfl) ?_
        refine lv_icmp_ne (tgt := 78) hx hb dX3_is_51 rfl (fun cnd => ?_) (fun cnd => ?_)
        · have hf := ec_t cnd hf
          exact bX3_is_78 X hr hlk hM _ hf (lv_sub hl [0] rfl)
        · have hf := ec_f (not_not_intro cnd) hf
          refine lv_iload_n hx hb dX3_is_54 rfl (lv_at hl 1 rfl) ?_
          refine lv_iconst (v := 4) hx hb dX3_is_55 (by decide) ?_
          refine lv_icmp_lt (tgt := 74) hx hb dX3_is_56 rfl (fun cnd => ?_) (fun cnd => ?_)
          · have hf := ec_t cnd hf
            exact bX3_is_74 X hr hlk hM _ hf (lv_sub hl [0] rfl)
          · have hf := ec_f cnd hf
            refine lv_aload_n hx hb dX3_is_59 rfl (lv_at hl 0 rfl) ?_
            refine lv_aload_n hx hb dX3_is_60 rfl (lv_at hl 0 rfl) ?_
            refine m_get (v := .int (S.1 27)) X hM 27 (by decide) q1001 rfl rfl dX3_is_61 ?_
            refine lv_iconst (v := 3) hx hb dX3_is_64 (by decide) ?_
            refine lv_iadd hx hb dX3_is_65 ?_
            obtain ⟨v_4, h, hf⟩ := ec_bi hf
            refine m_cR (v := .int v_4) (As := [.int ((S.1 27) + (3 : Int32))]) (rest := []) X hM (metX3_look l D o q d dz S ((S.1 27) + (3 : Int32)) _ h) (cwV 1 X.2.2.2.2 gX3_140 rfl rfl rfl hX3_look ⟨Nat.le_of_ble_eq_true rfl, Nat.le_of_ble_eq_true rfl⟩) rfl hl.1 rfl (Nat.le_of_ble_eq_true rfl) ⟨Nat.zero_le _, Nat.zero_le _⟩ dX3_is_66 ?_
            refine lv_iload hx hb dX3_is_69 (lv_at hl 5 rfl) ?_
            refine lv_icmp_ne (tgt := 78) hx hb dX3_is_71 rfl (fun cnd => ?_) (fun cnd => ?_)
            · have hf := ec_t cnd hf
              exact bX3_is_78 X hr hlk hM _ hf (lv_sub hl [0] rfl)
            · have hf := ec_f (not_not_intro cnd) hf
              exact bX3_is_74 X hr hlk hM _ hf (lv_sub hl [0] rfl)
theorem hX3_is : yX3_is.cls = RX3 ∧ yX3_is.cls ≠ "java/lang/invoke/MethodHandle" ∧ yX3_is.cls ≠ "java/lang/invoke/VarHandle" ∧ (parseMethodDescriptor yX3_is.desc).map (fun d => d.parameters.length) = some 5 := by decide +kernel

theorem gX3_144 : GoodIn lw_all (wsV RX3 144 RX3 yX3_is (ws_ yX3_is cX3_is 6 (some .boolean))) := lw_V q1183 q1185 qs33 q63 q1186
noncomputable def fX3_nameNow (S : sM) : Option Int32 :=
  (fX3_is S (4 : Int32) (108 : Int32) (105 : Int32) (110 : Int32) (101 : Int32)).bind fun v_1 =>
  if v_1 = 0 then (
    (fX3_is S (4 : Int32) (108 : Int32) (111 : Int32) (111 : Int32) (112 : Int32)).bind fun v_2 =>
    if v_2 = 0 then (
      (fX3_is S (3 : Int32) (101 : Int32) (110 : Int32) (100 : Int32) (0 : Int32)).bind fun v_3 =>
      if v_3 = 0 then (
        some (-4 : Int32))
      else (
        some (2 : Int32)))
    else (
      some (1 : Int32)))
  else (
    some (0 : Int32))
theorem metX3_nameNow (l : Launch) (D : va_G) (o : Nat) (q : Nat → Nat) (d dz : ClassId) (S : sM) (res : Int32) (hf : fX3_nameNow S = some res) : Met l yX3_nameNow (ws_ yX3_nameNow cX3_nameNow 1 (some .int)) (rmL 2) (MPre D o q d dz S []) (k2_QcV (.int res)) 0 0 (fun _ => False) := by
  refine m_ofR rfl (Nat.le_of_ble_eq_true rfl) (fun p e s m args below meth c X hr hlk hM ls hl => ?_)
  have hl : lv_has ls 1 [(0, .ref o)] := hl
  have hx := X.1
  have hb := X.2.1
  unfold fX3_nameNow at hf
  refine lv_aload_n hx hb dX3_nameNow_0 rfl (lv_at hl 0 rfl) ?_
  refine lv_iconst (v := 4) hx hb dX3_nameNow_1 (by decide) ?_
  refine lv_bipush (v := 108) hx hb dX3_nameNow_2 (by decide) ?_
  refine lv_bipush (v := 105) hx hb dX3_nameNow_4 (by decide) ?_
  refine lv_bipush (v := 110) hx hb dX3_nameNow_6 (by decide) ?_
  refine lv_bipush (v := 101) hx hb dX3_nameNow_8 (by decide) ?_
  obtain ⟨v_1, h, hf⟩ := ec_bi hf
  refine m_cR (v := .int v_1) (As := [.int (4 : Int32), .int (108 : Int32), .int (105 : Int32), .int (110 : Int32), .int (101 : Int32)]) (rest := []) X hM (metX3_is l D o q d dz S (4 : Int32) (108 : Int32) (105 : Int32) (110 : Int32) (101 : Int32) _ h) (cwV 5 X.2.2.2.2 gX3_144 rfl rfl rfl hX3_is ⟨Nat.le_of_ble_eq_true rfl, Nat.le_of_ble_eq_true rfl⟩) rfl hl.1 rfl (Nat.le_of_ble_eq_true rfl) ⟨Nat.zero_le _, Nat.zero_le _⟩ dX3_nameNow_10 ?_
  refine lv_if_eq (tgt := 20) hx hb dX3_nameNow_13 rfl (fun cnd => ?_) (fun cnd => ?_)
  · have hf := ec_t cnd hf
    refine lv_aload_n hx hb dX3_nameNow_20 rfl (lv_at hl 0 rfl) ?_
    refine lv_iconst (v := 4) hx hb dX3_nameNow_21 (by decide) ?_
    refine lv_bipush (v := 108) hx hb dX3_nameNow_22 (by decide) ?_
    refine lv_bipush (v := 111) hx hb dX3_nameNow_24 (by decide) ?_
    refine lv_bipush (v := 111) hx hb dX3_nameNow_26 (by decide) ?_
    refine lv_bipush (v := 112) hx hb dX3_nameNow_28 (by decide) ?_
    obtain ⟨v_2, h, hf⟩ := ec_bi hf
    refine m_cR (v := .int v_2) (As := [.int (4 : Int32), .int (108 : Int32), .int (111 : Int32), .int (111 : Int32), .int (112 : Int32)]) (rest := []) X hM (metX3_is l D o q d dz S (4 : Int32) (108 : Int32) (111 : Int32) (111 : Int32) (112 : Int32) _ h) (cwV 5 X.2.2.2.2 gX3_144 rfl rfl rfl hX3_is ⟨Nat.le_of_ble_eq_true rfl, Nat.le_of_ble_eq_true rfl⟩) rfl hl.1 rfl (Nat.le_of_ble_eq_true rfl) ⟨Nat.zero_le _, Nat.zero_le _⟩ dX3_nameNow_30 ?_
    refine lv_if_eq (tgt := 40) hx hb dX3_nameNow_33 rfl (fun cnd => ?_) (fun cnd => ?_)
    · have hf := ec_t cnd hf
      refine lv_aload_n hx hb dX3_nameNow_40 rfl (lv_at hl 0 rfl) ?_
      refine lv_iconst (v := 3) hx hb dX3_nameNow_41 (by decide) ?_
      refine lv_bipush (v := 101) hx hb dX3_nameNow_42 (by decide) ?_
      refine lv_bipush (v := 110) hx hb dX3_nameNow_44 (by decide) ?_
      refine lv_bipush (v := 100) hx hb dX3_nameNow_46 (by decide) ?_
      refine lv_iconst (v := 0) hx hb dX3_nameNow_48 (by decide) ?_
      obtain ⟨v_3, h, hf⟩ := ec_bi hf
      refine m_cR (v := .int v_3) (As := [.int (3 : Int32), .int (101 : Int32), .int (110 : Int32), .int (100 : Int32), .int (0 : Int32)]) (rest := []) X hM (metX3_is l D o q d dz S (3 : Int32) (101 : Int32) (110 : Int32) (100 : Int32) (0 : Int32) _ h) (cwV 5 X.2.2.2.2 gX3_144 rfl rfl rfl hX3_is ⟨Nat.le_of_ble_eq_true rfl, Nat.le_of_ble_eq_true rfl⟩) rfl hl.1 rfl (Nat.le_of_ble_eq_true rfl) ⟨Nat.zero_le _, Nat.zero_le _⟩ dX3_nameNow_49 ?_
      refine lv_if_eq (tgt := 59) hx hb dX3_nameNow_52 rfl (fun cnd => ?_) (fun cnd => ?_)
      · have hf := ec_t cnd hf
        refine lv_bipush (v := -4) hx hb dX3_nameNow_59 (by decide) ?_
        obtain rfl := Option.some.inj hf
        exact e_iretR hx hb hr hlk dX3_nameNow_61
      · have hf := ec_f cnd hf
        refine lv_iconst (v := 2) hx hb dX3_nameNow_55 (by decide) ?_
        refine lv_goto (tgt := 61) hx hb dX3_nameNow_56 rfl ?_
        obtain rfl := Option.some.inj hf
        exact e_iretR hx hb hr hlk dX3_nameNow_61
    · have hf := ec_f cnd hf
      refine lv_iconst (v := 1) hx hb dX3_nameNow_36 (by decide) ?_
      refine lv_goto (tgt := 61) hx hb dX3_nameNow_37 rfl ?_
      obtain rfl := Option.some.inj hf
      exact e_iretR hx hb hr hlk dX3_nameNow_61
  · have hf := ec_f cnd hf
    refine lv_iconst (v := 0) hx hb dX3_nameNow_16 (by decide) ?_
    refine lv_goto (tgt := 61) hx hb dX3_nameNow_17 rfl ?_
    obtain rfl := Option.some.inj hf
    exact e_iretR hx hb hr hlk dX3_nameNow_61
theorem hX3_nameNow : yX3_nameNow.cls = RX3 ∧ yX3_nameNow.cls ≠ "java/lang/invoke/MethodHandle" ∧ yX3_nameNow.cls ≠ "java/lang/invoke/VarHandle" ∧ (parseMethodDescriptor yX3_nameNow.desc).map (fun d => d.parameters.length) = some 0 := by decide +kernel

theorem gX3_166 : GoodIn lw_all (wsV RX3 166 RX3 yX3_next (ws_ yX3_next cX3_next 2 none)) := lw_V q1159 q1161 qs28 q63 q1162
noncomputable def fX3_readNumber_49 (N : Nat) (S : sM) : Option (Int32 × sM) :=
  ec_lt (S.1 29) fun x3_1 =>
  (fX3_next N S).bind fun S_2 =>
  some (x3_1, S_2)
theorem bX3_readNumber_49 {N : Nat} (X : CallFix p m c cX3_readNumber 4 s args lw_all RX3) (hr : meth.sig.returnType = (some .int)) (hlk : meth.locks = false) (hG : MG o q) {res : Int32} {Sr : sM} : ∀ (S : sM) (H : Heap) (locs : List Loc) (ls : Array Slot), fX3_readNumber_49 N S = some (res, Sr) → MW D o q d dz S s H locs → lv_has ls 4 [(0, .ref o)] → W p l e (rmL 2) s m args below meth c H locs 0 0 (MQ below (MPost D o q d dz (some (.int res)) Sr) args s 0 0 (AM o q)) (F0 m 49 ls []) := by
  have hx := X.1
  have hb := X.2.1
  intro S H locs ls hf hM hl
  unfold fX3_readNumber_49 at hf
  refine lv_aload_n hx hb dX3_readNumber_49 rfl (lv_at hl 0 rfl) ?_
  refine m_get (v := .int (S.1 29)) X hM 29 (by decide) q1003 rfl rfl dX3_readNumber_50 ?_
  refine lv_topi (fun x3_1 ex => ?_)
  have hf := ec_lt_i ex hf
  refine lv_istore_n (lv' := [(3, .int x3_1), (0, .ref o)]) hx hb dX3_readNumber_53 rfl hl (by decide) rfl (fun ls hl => ?_)
  refine lv_aload_n hx hb dX3_readNumber_54 rfl (lv_at hl 1 rfl) ?_
  obtain ⟨S_2, h, hf⟩ := ec_bi hf
  refine m_cWv (As := []) (rest := []) X hM (metX3_next l D o q d dz hG N S _ h) (cwV 0 X.2.2.2.2 gX3_166 rfl rfl rfl hX3_next ⟨Nat.le_of_ble_eq_true rfl, Nat.le_of_ble_eq_true rfl⟩) rfl hl.1 rfl (Nat.le_of_ble_eq_true rfl) ⟨Nat.zero_le _, Nat.zero_le _⟩ dX3_readNumber_55 (fun H locs hM => ?_)
  refine lv_iload_n hx hb dX3_readNumber_58 rfl (lv_at hl 0 rfl) ?_
  obtain ⟨rfl, rfl⟩ := Prod.mk.inj (Option.some.inj hf)
  exact m_iret X hr hlk hM dX3_readNumber_59
noncomputable def fX3_readNumber_25 (N : Nat) (S : sM) (x1 : Int32) (x2 : Int32) : Option (Int32 × sM) :=
  if ¬ (S.1 30) = 0 then (
    fX3_readNumber_49 N S)
  else (
    (fX3_in ((S.1 29).toInt64) (x1.toInt64) (x2.toInt64)).bind fun v_3 =>
    (fX3_wants S v_3 (3 : Int32)).bind fun S_4 =>
    fX3_readNumber_49 N S_4)
theorem bX3_readNumber_25 {N : Nat} (X : CallFix p m c cX3_readNumber 4 s args lw_all RX3) (hr : meth.sig.returnType = (some .int)) (hlk : meth.locks = false) (hG : MG o q) {res : Int32} {Sr : sM} : ∀ (S : sM) (x1 : Int32) (x2 : Int32) (H : Heap) (locs : List Loc) (ls : Array Slot), fX3_readNumber_25 N S x1 x2 = some (res, Sr) → MW D o q d dz S s H locs → lv_has ls 4 [(0, .ref o), (1, .int x1), (2, .int x2)] → W p l e (rmL 2) s m args below meth c H locs 0 0 (MQ below (MPost D o q d dz (some (.int res)) Sr) args s 0 0 (AM o q)) (F0 m 25 ls []) := by
  have hx := X.1
  have hb := X.2.1
  intro S x1 x2 H locs ls hf hM hl
  unfold fX3_readNumber_25 at hf
  refine lv_aload_n hx hb dX3_readNumber_25 rfl (lv_at hl 0 rfl) ?_
  refine m_get (v := .int (S.1 30)) X hM 30 (by decide) q1004 rfl rfl dX3_readNumber_26 ?_
  refine lv_if_ne (tgt := 49) hx hb dX3_readNumber_29 rfl (fun cnd => ?_) (fun cnd => ?_)
  · have hf := ec_t cnd hf
    exact bX3_readNumber_49 X hr hlk hG S _ _ _ hf hM (lv_sub hl [0] rfl)
  · have hf := ec_f (not_not_intro cnd) hf
    refine lv_aload_n hx hb dX3_readNumber_32 rfl (lv_at hl 0 rfl) ?_
    refine lv_aload_n hx hb dX3_readNumber_33 rfl (lv_at hl 0 rfl) ?_
    refine m_get (v := .int (S.1 29)) X hM 29 (by decide) q1003 rfl rfl dX3_readNumber_34 ?_
    refine lv_i2l hx hb dX3_readNumber_37 rfl ?_
    refine lv_iload_n hx hb dX3_readNumber_38 rfl (lv_at hl 1 rfl) ?_
    refine lv_i2l hx hb dX3_readNumber_39 rfl ?_
    refine lv_iload_n hx hb dX3_readNumber_40 rfl (lv_at hl 2 rfl) ?_
    refine lv_i2l hx hb dX3_readNumber_41 rfl ?_
    obtain ⟨v_3, h, hf⟩ := ec_bi hf
    refine e_cS (v := .int v_3) (As := [.long ((S.1 29).toInt64), .long (x1.toInt64), .long (x2.toInt64)]) (rest := [.ref o]) X (metX3_in l ((S.1 29).toInt64) (x1.toInt64) (x2.toInt64) _ h) (va_cwS 3 X.2.2.2.2 gX3_124 rfl rfl rfl hX3_in ⟨Nat.le_of_ble_eq_true rfl, Nat.le_of_ble_eq_true rfl⟩) rfl hl.1 rfl (Nat.le_of_ble_eq_true rfl) ⟨Nat.zero_le _, Nat.zero_le _⟩ dX3_readNumber_42 ?_
    refine lv_iconst (v := 3) hx hb dX3_readNumber_45 (by decide) ?_
    obtain ⟨S_4, h, hf⟩ := ec_bi hf
    refine m_cWv (As := [.int v_3, .int (3 : Int32)]) (rest := []) X hM (metX3_wants l D o q d dz hG S v_3 (3 : Int32) _ h) (cwV 2 X.2.2.2.2 gX3_162 rfl rfl rfl hX3_wants ⟨Nat.le_of_ble_eq_true rfl, Nat.le_of_ble_eq_true rfl⟩) rfl hl.1 rfl (Nat.le_of_ble_eq_true rfl) ⟨Nat.zero_le _, Nat.zero_le _⟩ dX3_readNumber_46 (fun H locs hM => ?_)
    exact bX3_readNumber_49 X hr hlk hG S_4 _ _ _ hf hM (lv_sub hl [0] rfl)
noncomputable def fX3_readNumber_21 (N : Nat) (S : sM) (x1 : Int32) (x2 : Int32) (t0 : Int32) : Option (Int32 × sM) :=
  (fX3_wants S t0 (2 : Int32)).bind fun S_5 =>
  fX3_readNumber_25 N S_5 x1 x2
theorem bX3_readNumber_21 {N : Nat} (X : CallFix p m c cX3_readNumber 4 s args lw_all RX3) (hr : meth.sig.returnType = (some .int)) (hlk : meth.locks = false) (hG : MG o q) {res : Int32} {Sr : sM} : ∀ (S : sM) (x1 : Int32) (x2 : Int32) (t0 : Int32) (H : Heap) (locs : List Loc) (ls : Array Slot), fX3_readNumber_21 N S x1 x2 t0 = some (res, Sr) → MW D o q d dz S s H locs → lv_has ls 4 [(0, .ref o), (1, .int x1), (2, .int x2)] → W p l e (rmL 2) s m args below meth c H locs 0 0 (MQ below (MPost D o q d dz (some (.int res)) Sr) args s 0 0 (AM o q)) (F0 m 21 ls [.int t0, .ref o]) := by
  have hx := X.1
  have hb := X.2.1
  intro S x1 x2 t0 H locs ls hf hM hl
  unfold fX3_readNumber_21 at hf
  refine lv_iconst (v := 2) hx hb dX3_readNumber_21 (by decide) ?_
  obtain ⟨S_5, h, hf⟩ := ec_bi hf
  refine m_cWv (As := [.int t0, .int (2 : Int32)]) (rest := []) X hM (metX3_wants l D o q d dz hG S t0 (2 : Int32) _ h) (cwV 2 X.2.2.2.2 gX3_162 rfl rfl rfl hX3_wants ⟨Nat.le_of_ble_eq_true rfl, Nat.le_of_ble_eq_true rfl⟩) rfl hl.1 rfl (Nat.le_of_ble_eq_true rfl) ⟨Nat.zero_le _, Nat.zero_le _⟩ dX3_readNumber_22 (fun H locs hM => ?_)
  exact bX3_readNumber_25 X hr hlk hG S_5 x1 x2 _ _ _ hf hM hl
noncomputable def fX3_readNumber (N : Nat) (S : sM) (x1 : Int32) (x2 : Int32) : Option (Int32 × sM) :=
  if ¬ (S.1 30) = 0 then (
    fX3_readNumber_25 N S x1 x2)
  else (
    if ¬ (S.1 28) = (2 : Int32) then (
      fX3_readNumber_21 N S x1 x2 (0 : Int32))
    else (
      fX3_readNumber_21 N S x1 x2 (1 : Int32)))
theorem metX3_readNumber (l : Launch) (D : va_G) (o : Nat) (q : Nat → Nat) (d dz : ClassId) (hG : MG o q) (N : Nat) (S : sM) (x1 : Int32) (x2 : Int32) (res : Int32) (Sr : sM) (hf : fX3_readNumber N S x1 x2 = some (res, Sr)) : Met l yX3_readNumber (ws_ yX3_readNumber cX3_readNumber 4 (some .int)) (rmL 2) (MPre D o q d dz S [.int x1, .int x2]) (MPost D o q d dz (some (.int res)) Sr) 0 0 (AM o q) := by
  refine m_ofW rfl (Nat.le_of_ble_eq_true rfl) (fun p e s m args below meth c X hr hlk hM ls hl => ?_)
  have hl : lv_has ls 4 [(0, .ref o), (1, .int x1), (2, .int x2)] := hl
  have hx := X.1
  have hb := X.2.1
  unfold fX3_readNumber at hf
  refine lv_aload_n hx hb dX3_readNumber_0 rfl (lv_at hl 0 rfl) ?_
  refine m_get (v := .int (S.1 30)) X hM 30 (by decide) q1004 rfl rfl dX3_readNumber_1 ?_
  refine lv_if_ne (tgt := 25) hx hb dX3_readNumber_4 rfl (fun cnd => ?_) (fun cnd => ?_)
  · have hf := ec_t cnd hf
    exact bX3_readNumber_25 X hr hlk hG S x1 x2 _ _ _ hf hM hl
  · have hf := ec_f (not_not_intro cnd) hf
    refine lv_aload_n hx hb dX3_readNumber_7 rfl (lv_at hl 0 rfl) ?_
    refine lv_aload_n hx hb dX3_readNumber_8 rfl (lv_at hl 0 rfl) ?_
    refine m_get (v := .int (S.1 28)) X hM 28 (by decide) q1002 rfl rfl dX3_readNumber_9 ?_
    refine lv_iconst (v := 2) hx hb dX3_readNumber_12 (by decide) ?_
    refine lv_icmp_ne (tgt := 20) hx hb dX3_readNumber_13 rfl (fun cnd => ?_) (fun cnd => ?_)
    · have hf := ec_t cnd hf
      refine lv_iconst (v := 0) hx hb dX3_readNumber_20 (by decide) ?_
      exact bX3_readNumber_21 X hr hlk hG S x1 x2 (0 : Int32) _ _ _ hf hM hl
    · have hf := ec_f (not_not_intro cnd) hf
      refine lv_iconst (v := 1) hx hb dX3_readNumber_16 (by decide) ?_
      refine lv_goto (tgt := 21) hx hb dX3_readNumber_17 rfl ?_
      exact bX3_readNumber_21 X hr hlk hG S x1 x2 (1 : Int32) _ _ _ hf hM hl
theorem hX3_readNumber : yX3_readNumber.cls = RX3 ∧ yX3_readNumber.cls ≠ "java/lang/invoke/MethodHandle" ∧ yX3_readNumber.cls ≠ "java/lang/invoke/VarHandle" ∧ (parseMethodDescriptor yX3_readNumber.desc).map (fun d => d.parameters.length) = some 2 := by decide +kernel

theorem gX3_171 : GoodIn lw_all (wsV RX3 171 RX3 yX3_readNumber (ws_ yX3_readNumber cX3_readNumber 4 (some .int))) := lw_V q1191 q1193 qs35 q63 q1194
noncomputable def fX3_readEvents_129 (N : Nat) (k2 : sM → Int32 → Option sM) (S : sM) (x1 : Int32) : Option sM :=
  k2 S x1
theorem bX3_readEvents_129 {N : Nat} (X : CallFix p m c cX3_readEvents 4 s args lw_all RX3) (hr : meth.sig.returnType = none) (hlk : meth.locks = false) (hG : MG o q) {Sr : sM} {k2 : sM → Int32 → Option sM} (Hk2 : ∀ (S : sM) (x1 : Int32) (H : Heap) (locs : List Loc) (ls : Array Slot), k2 S x1 = some Sr → MW D o q d dz S s H locs → lv_has ls 4 [(0, .ref o), (1, .int x1)] → W p l e (rmL 3) s m args below meth c H locs 0 0 (MQ below (MPost D o q d dz none Sr) args s 0 0 (AM o q)) (F0 m 2 ls [])) : ∀ (S : sM) (x1 : Int32) (H : Heap) (locs : List Loc) (ls : Array Slot), fX3_readEvents_129 N k2 S x1 = some Sr → MW D o q d dz S s H locs → lv_has ls 4 [(0, .ref o), (1, .int x1)] → W p l e (rmL 3) s m args below meth c H locs 0 0 (MQ below (MPost D o q d dz none Sr) args s 0 0 (AM o q)) (F0 m 129 ls []) := by
  have hx := X.1
  have hb := X.2.1
  intro S x1 H locs ls hf hM hl
  unfold fX3_readEvents_129 at hf
  refine lv_goto (tgt := 2) hx hb dX3_readEvents_129 rfl ?_
  exact Hk2 S x1 _ _ _ hf hM hl
noncomputable def fX3_readEvents_89 (N : Nat) (k2 : sM → Int32 → Option sM) (S : sM) (x1 : Int32) (x2 : Int32) : Option sM :=
  (fX3_next N S).bind fun S_4 =>
  ec_b2 (fX3_readNumber N S_4 (0 : Int32) (99 : Int32)) fun v_6 S_5 =>
  if ¬ (S_5.1 30) = 0 then (
    fX3_readEvents_129 N k2 S_5 x1)
  else (
    ec_lt (x1 ||| ((1 : Int32) <<< (x2 &&& 31))) fun x1_7 =>
    (ec_as S_5 13 128 (((8 : Int32) * (S_5.1 11)) + x2) v_6).bind fun S_8 =>
    fX3_readEvents_129 N k2 S_8 x1_7)
theorem bX3_readEvents_89 {N : Nat} (X : CallFix p m c cX3_readEvents 4 s args lw_all RX3) (hr : meth.sig.returnType = none) (hlk : meth.locks = false) (hG : MG o q) {Sr : sM} {k2 : sM → Int32 → Option sM} (Hk2 : ∀ (S : sM) (x1 : Int32) (H : Heap) (locs : List Loc) (ls : Array Slot), k2 S x1 = some Sr → MW D o q d dz S s H locs → lv_has ls 4 [(0, .ref o), (1, .int x1)] → W p l e (rmL 3) s m args below meth c H locs 0 0 (MQ below (MPost D o q d dz none Sr) args s 0 0 (AM o q)) (F0 m 2 ls [])) : ∀ (S : sM) (x1 : Int32) (x2 : Int32) (H : Heap) (locs : List Loc) (ls : Array Slot), fX3_readEvents_89 N k2 S x1 x2 = some Sr → MW D o q d dz S s H locs → lv_has ls 4 [(0, .ref o), (1, .int x1), (2, .int x2)] → W p l e (rmL 3) s m args below meth c H locs 0 0 (MQ below (MPost D o q d dz none Sr) args s 0 0 (AM o q)) (F0 m 89 ls []) := by
  have hx := X.1
  have hb := X.2.1
  intro S x1 x2 H locs ls hf hM hl
  unfold fX3_readEvents_89 at hf
  refine lv_aload_n hx hb dX3_readEvents_89 rfl (lv_at hl 0 rfl) ?_
  obtain ⟨S_4, h, hf⟩ := ec_bi hf
  refine m_cWv (As := []) (rest := []) X hM (metX3_next l D o q d dz hG N S _ h) (cwV 0 X.2.2.2.2 gX3_166 rfl rfl rfl hX3_next ⟨Nat.le_of_ble_eq_true rfl, Nat.le_of_ble_eq_true rfl⟩) rfl hl.1 rfl (Nat.le_of_ble_eq_true rfl) ⟨Nat.zero_le _, Nat.zero_le _⟩ dX3_readEvents_90 (fun H locs hM => ?_)
  refine lv_aload_n hx hb dX3_readEvents_93 rfl (lv_at hl 0 rfl) ?_
  refine lv_iconst (v := 0) hx hb dX3_readEvents_94 (by decide) ?_
  refine lv_bipush (v := 99) hx hb dX3_readEvents_95 (by decide) ?_
  obtain ⟨v_6, S_5, h, hf⟩ := ec_b2i hf
  refine m_cWi (v := .int v_6) (As := [.int (0 : Int32), .int (99 : Int32)]) (rest := []) X hM (metX3_readNumber l D o q d dz hG N S_4 (0 : Int32) (99 : Int32) _ _ h) (cwV 2 X.2.2.2.2 gX3_171 rfl rfl rfl hX3_readNumber ⟨Nat.le_of_ble_eq_true rfl, Nat.le_of_ble_eq_true rfl⟩) rfl hl.1 rfl (Nat.le_of_ble_eq_true rfl) ⟨Nat.zero_le _, Nat.zero_le _⟩ dX3_readEvents_97 (fun H locs hM => ?_)
  refine lv_istore_n (lv' := [(3, .int v_6), (0, .ref o), (1, .int x1), (2, .int x2)]) hx hb dX3_readEvents_100 rfl hl (by decide) rfl (fun ls hl => ?_)
  refine lv_aload_n hx hb dX3_readEvents_101 rfl (lv_at hl 1 rfl) ?_
  refine m_get (v := .int (S_5.1 30)) X hM 30 (by decide) q1004 rfl rfl dX3_readEvents_102 ?_
  refine lv_if_ne (tgt := 129) hx hb dX3_readEvents_105 rfl (fun cnd => ?_) (fun cnd => ?_)
  · have hf := ec_t cnd hf
    exact bX3_readEvents_129 X hr hlk hG Hk2 S_5 x1 _ _ _ hf hM (lv_sub hl [1, 2] rfl)
  · have hf := ec_f (not_not_intro cnd) hf
    refine lv_iload_n hx hb dX3_readEvents_108 rfl (lv_at hl 2 rfl) ?_
    refine lv_iconst (v := 1) hx hb dX3_readEvents_109 (by decide) ?_
    refine lv_iload_n hx hb dX3_readEvents_110 rfl (lv_at hl 3 rfl) ?_
    refine lv_ishl hx hb dX3_readEvents_111 ?_
    refine lv_ior hx hb dX3_readEvents_112 ?_
    refine lv_topi (fun x1_7 ex => ?_)
    have hf := ec_lt_i ex hf
    refine lv_istore_n (lv' := [(1, .int x1_7), (3, .int v_6), (0, .ref o), (2, .int x2)]) hx hb dX3_readEvents_113 rfl hl (by decide) rfl (fun ls hl => ?_)
    refine lv_aload_n hx hb dX3_readEvents_114 rfl (lv_at hl 2 rfl) ?_
    refine m_get (v := .ref (q 13)) X hM 13 (by decide) q987 rfl rfl dX3_readEvents_115 ?_
    refine lv_bipush (v := 8) hx hb dX3_readEvents_118 (by decide) ?_
    refine lv_aload_n hx hb dX3_readEvents_120 rfl (lv_at hl 2 rfl) ?_
    refine m_get (v := .int (S_5.1 11)) X hM 11 (by decide) q985 rfl rfl dX3_readEvents_121 ?_
    refine lv_imul hx hb dX3_readEvents_124 ?_
    refine lv_iload_n hx hb dX3_readEvents_125 rfl (lv_at hl 3 rfl) ?_
    refine lv_iadd hx hb dX3_readEvents_126 ?_
    refine lv_iload_n hx hb dX3_readEvents_127 rfl (lv_at hl 1 rfl) ?_
    obtain ⟨S_8, h, hf⟩ := ec_bi hf
    refine m_iast X hG hM wma13 wms13 h dX3_readEvents_128 (fun H locs hM => ?_)
    exact bX3_readEvents_129 X hr hlk hG Hk2 S_8 x1_7 _ _ _ hf hM (lv_sub hl [2, 0] rfl)
noncomputable def fX3_readEvents_85 (N : Nat) (k2 : sM → Int32 → Option sM) (S : sM) (x1 : Int32) (x2 : Int32) (t0 : Int32) : Option sM :=
  (fX3_wants S t0 (4 : Int32)).bind fun S_9 =>
  fX3_readEvents_89 N k2 S_9 x1 x2
theorem bX3_readEvents_85 {N : Nat} (X : CallFix p m c cX3_readEvents 4 s args lw_all RX3) (hr : meth.sig.returnType = none) (hlk : meth.locks = false) (hG : MG o q) {Sr : sM} {k2 : sM → Int32 → Option sM} (Hk2 : ∀ (S : sM) (x1 : Int32) (H : Heap) (locs : List Loc) (ls : Array Slot), k2 S x1 = some Sr → MW D o q d dz S s H locs → lv_has ls 4 [(0, .ref o), (1, .int x1)] → W p l e (rmL 3) s m args below meth c H locs 0 0 (MQ below (MPost D o q d dz none Sr) args s 0 0 (AM o q)) (F0 m 2 ls [])) : ∀ (S : sM) (x1 : Int32) (x2 : Int32) (t0 : Int32) (H : Heap) (locs : List Loc) (ls : Array Slot), fX3_readEvents_85 N k2 S x1 x2 t0 = some Sr → MW D o q d dz S s H locs → lv_has ls 4 [(0, .ref o), (1, .int x1), (2, .int x2)] → W p l e (rmL 3) s m args below meth c H locs 0 0 (MQ below (MPost D o q d dz none Sr) args s 0 0 (AM o q)) (F0 m 85 ls [.int t0, .ref o]) := by
  have hx := X.1
  have hb := X.2.1
  intro S x1 x2 t0 H locs ls hf hM hl
  unfold fX3_readEvents_85 at hf
  refine lv_iconst (v := 4) hx hb dX3_readEvents_85 (by decide) ?_
  obtain ⟨S_9, h, hf⟩ := ec_bi hf
  refine m_cWv (As := [.int t0, .int (4 : Int32)]) (rest := []) X hM (metX3_wants l D o q d dz hG S t0 (4 : Int32) _ h) (cwV 2 X.2.2.2.2 gX3_162 rfl rfl rfl hX3_wants ⟨Nat.le_of_ble_eq_true rfl, Nat.le_of_ble_eq_true rfl⟩) rfl hl.1 rfl (Nat.le_of_ble_eq_true rfl) ⟨Nat.zero_le _, Nat.zero_le _⟩ dX3_readEvents_86 (fun H locs hM => ?_)
  exact bX3_readEvents_89 X hr hlk hG Hk2 S_9 x1 x2 _ _ _ hf hM hl
noncomputable def fX3_readEvents_60 (N : Nat) (k2 : sM → Int32 → Option sM) (S : sM) (x1 : Int32) (x2 : Int32) (t0 : Int32) : Option sM :=
  (fX3_wants S t0 (3 : Int32)).bind fun S_3 =>
  if ¬ (S_3.1 30) = 0 then (
    fX3_readEvents_89 N k2 S_3 x1 x2)
  else (
    if ¬ ((x1 >>> (x2 &&& 31)) &&& (1 : Int32)) = 0 then (
      fX3_readEvents_85 N k2 S_3 x1 x2 (0 : Int32))
    else (
      fX3_readEvents_85 N k2 S_3 x1 x2 (1 : Int32)))
theorem bX3_readEvents_60 {N : Nat} (X : CallFix p m c cX3_readEvents 4 s args lw_all RX3) (hr : meth.sig.returnType = none) (hlk : meth.locks = false) (hG : MG o q) {Sr : sM} {k2 : sM → Int32 → Option sM} (Hk2 : ∀ (S : sM) (x1 : Int32) (H : Heap) (locs : List Loc) (ls : Array Slot), k2 S x1 = some Sr → MW D o q d dz S s H locs → lv_has ls 4 [(0, .ref o), (1, .int x1)] → W p l e (rmL 3) s m args below meth c H locs 0 0 (MQ below (MPost D o q d dz none Sr) args s 0 0 (AM o q)) (F0 m 2 ls [])) : ∀ (S : sM) (x1 : Int32) (x2 : Int32) (t0 : Int32) (H : Heap) (locs : List Loc) (ls : Array Slot), fX3_readEvents_60 N k2 S x1 x2 t0 = some Sr → MW D o q d dz S s H locs → lv_has ls 4 [(0, .ref o), (1, .int x1), (2, .int x2)] → W p l e (rmL 3) s m args below meth c H locs 0 0 (MQ below (MPost D o q d dz none Sr) args s 0 0 (AM o q)) (F0 m 60 ls [.int t0, .ref o]) := by
  have hx := X.1
  have hb := X.2.1
  intro S x1 x2 t0 H locs ls hf hM hl
  unfold fX3_readEvents_60 at hf
  refine lv_iconst (v := 3) hx hb dX3_readEvents_60 (by decide) ?_
  obtain ⟨S_3, h, hf⟩ := ec_bi hf
  refine m_cWv (As := [.int t0, .int (3 : Int32)]) (rest := []) X hM (metX3_wants l D o q d dz hG S t0 (3 : Int32) _ h) (cwV 2 X.2.2.2.2 gX3_162 rfl rfl rfl hX3_wants ⟨Nat.le_of_ble_eq_true rfl, Nat.le_of_ble_eq_true rfl⟩) rfl hl.1 rfl (Nat.le_of_ble_eq_true rfl) ⟨Nat.zero_le _, Nat.zero_le _⟩ dX3_readEvents_61 (fun H locs hM => ?_)
  refine lv_aload_n hx hb dX3_readEvents_64 rfl (lv_at hl 0 rfl) ?_
  refine m_get (v := .int (S_3.1 30)) X hM 30 (by decide) q1004 rfl rfl dX3_readEvents_65 ?_
  refine lv_if_ne (tgt := 89) hx hb dX3_readEvents_68 rfl (fun cnd => ?_) (fun cnd => ?_)
  · have hf := ec_t cnd hf
    exact bX3_readEvents_89 X hr hlk hG Hk2 S_3 x1 x2 _ _ _ hf hM hl
  · have hf := ec_f (not_not_intro cnd) hf
    refine lv_aload_n hx hb dX3_readEvents_71 rfl (lv_at hl 0 rfl) ?_
    refine lv_iload_n hx hb dX3_readEvents_72 rfl (lv_at hl 1 rfl) ?_
    refine lv_iload_n hx hb dX3_readEvents_73 rfl (lv_at hl 2 rfl) ?_
    refine lv_ishr hx hb dX3_readEvents_74 ?_
    refine lv_iconst (v := 1) hx hb dX3_readEvents_75 (by decide) ?_
    refine lv_iand hx hb dX3_readEvents_76 ?_
    refine lv_if_ne (tgt := 84) hx hb dX3_readEvents_77 rfl (fun cnd => ?_) (fun cnd => ?_)
    · have hf := ec_t cnd hf
      refine lv_iconst (v := 0) hx hb dX3_readEvents_84 (by decide) ?_
      exact bX3_readEvents_85 X hr hlk hG Hk2 S_3 x1 x2 (0 : Int32) _ _ _ hf hM hl
    · have hf := ec_f (not_not_intro cnd) hf
      refine lv_iconst (v := 1) hx hb dX3_readEvents_80 (by decide) ?_
      refine lv_goto (tgt := 85) hx hb dX3_readEvents_81 rfl ?_
      exact bX3_readEvents_85 X hr hlk hG Hk2 S_3 x1 x2 (1 : Int32) _ _ _ hf hM hl
noncomputable def fX3_readEvents_59 (N : Nat) (k2 : sM → Int32 → Option sM) (S : sM) (x1 : Int32) (x2 : Int32) : Option sM :=
  fX3_readEvents_60 N k2 S x1 x2 (0 : Int32)
theorem bX3_readEvents_59 {N : Nat} (X : CallFix p m c cX3_readEvents 4 s args lw_all RX3) (hr : meth.sig.returnType = none) (hlk : meth.locks = false) (hG : MG o q) {Sr : sM} {k2 : sM → Int32 → Option sM} (Hk2 : ∀ (S : sM) (x1 : Int32) (H : Heap) (locs : List Loc) (ls : Array Slot), k2 S x1 = some Sr → MW D o q d dz S s H locs → lv_has ls 4 [(0, .ref o), (1, .int x1)] → W p l e (rmL 3) s m args below meth c H locs 0 0 (MQ below (MPost D o q d dz none Sr) args s 0 0 (AM o q)) (F0 m 2 ls [])) : ∀ (S : sM) (x1 : Int32) (x2 : Int32) (H : Heap) (locs : List Loc) (ls : Array Slot), fX3_readEvents_59 N k2 S x1 x2 = some Sr → MW D o q d dz S s H locs → lv_has ls 4 [(0, .ref o), (1, .int x1), (2, .int x2)] → W p l e (rmL 3) s m args below meth c H locs 0 0 (MQ below (MPost D o q d dz none Sr) args s 0 0 (AM o q)) (F0 m 59 ls [.ref o]) := by
  have hx := X.1
  have hb := X.2.1
  intro S x1 x2 H locs ls hf hM hl
  unfold fX3_readEvents_59 at hf
  refine lv_iconst (v := 0) hx hb dX3_readEvents_59 (by decide) ?_
  exact bX3_readEvents_60 X hr hlk hG Hk2 S x1 x2 (0 : Int32) _ _ _ hf hM hl
noncomputable def fX3_readEvents_2 (N : Nat) : Nat → sM → Int32 → Option sM
  | 0, _, _ => none
  | n + 1, S, x1 =>
    if ¬ (S.1 30) = 0 then (
      some S)
    else (
      if ¬ (S.1 28) = (1 : Int32) then (
        some S)
      else (
        (fX3_look S (S.1 27)).bind fun v_1 =>
        ec_lt (v_1 - (97 : Int32)) fun x2_2 =>
        if ¬ ((S.1 26) - (S.1 27)) = (1 : Int32) then (
          fX3_readEvents_59 N (fX3_readEvents_2 N n) S x1 x2_2)
        else (
          (fX3_in (x2_2.toInt64) (0 : Int64) (7 : Int64)).bind fun v_10 =>
          if v_10 = 0 then (
            fX3_readEvents_59 N (fX3_readEvents_2 N n) S x1 x2_2)
          else (
            fX3_readEvents_60 N (fX3_readEvents_2 N n) S x1 x2_2 (1 : Int32)))))
theorem bX3_readEvents_2 {N : Nat} (X : CallFix p m c cX3_readEvents 4 s args lw_all RX3) (hr : meth.sig.returnType = none) (hlk : meth.locks = false) (hG : MG o q) {Sr : sM} : ∀ (n : Nat) (S : sM) (x1 : Int32) (H : Heap) (locs : List Loc) (ls : Array Slot), fX3_readEvents_2 N n S x1 = some Sr → MW D o q d dz S s H locs → lv_has ls 4 [(0, .ref o), (1, .int x1)] → W p l e (rmL 3) s m args below meth c H locs 0 0 (MQ below (MPost D o q d dz none Sr) args s 0 0 (AM o q)) (F0 m 2 ls []) := by
  have hx := X.1
  have hb := X.2.1
  intro n
  induction n with
  | zero =>
    intro S x1 H locs ls hf hM hl
    rw [fX3_readEvents_2] at hf
    cases hf
  | succ n ih =>
    intro S x1 H locs ls hf hM hl
    rw [fX3_readEvents_2] at hf
    refine lv_aload_n hx hb dX3_readEvents_2 rfl (lv_at hl 0 rfl) ?_
    refine m_get (v := .int (S.1 30)) X hM 30 (by decide) q1004 rfl rfl dX3_readEvents_3 ?_
    refine lv_if_ne (tgt := 132) hx hb dX3_readEvents_6 rfl (fun cnd => ?_) (fun cnd => ?_)
    · have hf := ec_t cnd hf
      obtain rfl := Option.some.inj hf
      exact m_vret X hr hlk hM dX3_readEvents_132
    · have hf := ec_f (not_not_intro cnd) hf
      refine lv_aload_n hx hb dX3_readEvents_9 rfl (lv_at hl 0 rfl) ?_
      refine m_get (v := .int (S.1 28)) X hM 28 (by decide) q1002 rfl rfl dX3_readEvents_10 ?_
      refine lv_iconst (v := 1) hx hb dX3_readEvents_13 (by decide) ?_
      refine lv_icmp_ne (tgt := 132) hx hb dX3_readEvents_14 rfl (fun cnd => ?_) (fun cnd => ?_)
      · have hf := ec_t cnd hf
        obtain rfl := Option.some.inj hf
        exact m_vret X hr hlk hM dX3_readEvents_132
      · have hf := ec_f (not_not_intro cnd) hf
        refine lv_aload_n hx hb dX3_readEvents_17 rfl (lv_at hl 0 rfl) ?_
        refine lv_aload_n hx hb dX3_readEvents_18 rfl (lv_at hl 0 rfl) ?_
        refine m_get (v := .int (S.1 27)) X hM 27 (by decide) q1001 rfl rfl dX3_readEvents_19 ?_
        obtain ⟨v_1, h, hf⟩ := ec_bi hf
        refine m_cR (v := .int v_1) (As := [.int (S.1 27)]) (rest := []) X hM (metX3_look l D o q d dz S (S.1 27) _ h) (cwV 1 X.2.2.2.2 gX3_140 rfl rfl rfl hX3_look ⟨Nat.le_of_ble_eq_true rfl, Nat.le_of_ble_eq_true rfl⟩) rfl hl.1 rfl (Nat.le_of_ble_eq_true rfl) ⟨Nat.zero_le _, Nat.zero_le _⟩ dX3_readEvents_22 ?_
        refine lv_bipush (v := 97) hx hb dX3_readEvents_25 (by decide) ?_
        refine lv_isub hx hb dX3_readEvents_27 ?_
        refine lv_topi (fun x2_2 ex => ?_)
        have hf := ec_lt_i ex hf
        refine lv_istore_n (lv' := [(2, .int x2_2), (0, .ref o), (1, .int x1)]) hx hb dX3_readEvents_28 rfl hl (by decide) rfl (fun ls hl => ?_)
        refine lv_aload_n hx hb dX3_readEvents_29 rfl (lv_at hl 1 rfl) ?_
        refine lv_aload_n hx hb dX3_readEvents_30 rfl (lv_at hl 1 rfl) ?_
        refine m_get (v := .int (S.1 26)) X hM 26 (by decide) q1000 rfl rfl dX3_readEvents_31 ?_
        refine lv_aload_n hx hb dX3_readEvents_34 rfl (lv_at hl 1 rfl) ?_
        refine m_get (v := .int (S.1 27)) X hM 27 (by decide) q1001 rfl rfl dX3_readEvents_35 ?_
        refine lv_isub hx hb dX3_readEvents_38 ?_
        refine lv_iconst (v := 1) hx hb dX3_readEvents_39 (by decide) ?_
        refine lv_icmp_ne (tgt := 59) hx hb dX3_readEvents_40 rfl (fun cnd => ?_) (fun cnd => ?_)
        · have hf := ec_t cnd hf
          exact bX3_readEvents_59 X hr hlk hG ih S x1 x2_2 _ _ _ hf hM (lv_sub hl [1, 2, 0] rfl)
        · have hf := ec_f (not_not_intro cnd) hf
          refine lv_iload_n hx hb dX3_readEvents_43 rfl (lv_at hl 0 rfl) ?_
          refine lv_i2l hx hb dX3_readEvents_44 rfl ?_
          refine lv_lconst (v := 0) hx hb dX3_readEvents_45 (by decide) ?_
          refine lv_ldc2 (own := RX3) (v := 7) hx hb X.2.2.2.1 (X.2.2.2.2 _ q1199) dX3_readEvents_46 ?_
          obtain ⟨v_10, h, hf⟩ := ec_bi hf
          refine e_cS (v := .int v_10) (As := [.long (x2_2.toInt64), .long (0 : Int64), .long (7 : Int64)]) (rest := [.ref o]) X (metX3_in l (x2_2.toInt64) (0 : Int64) (7 : Int64) _ h) (va_cwS 3 X.2.2.2.2 gX3_124 rfl rfl rfl hX3_in ⟨Nat.le_of_ble_eq_true rfl, Nat.le_of_ble_eq_true rfl⟩) rfl hl.1 rfl (Nat.le_of_ble_eq_true rfl) ⟨Nat.zero_le _, Nat.zero_le _⟩ dX3_readEvents_49 ?_
          refine lv_if_eq (tgt := 59) hx hb dX3_readEvents_52 rfl (fun cnd => ?_) (fun cnd => ?_)
          · have hf := ec_t cnd hf
            exact bX3_readEvents_59 X hr hlk hG ih S x1 x2_2 _ _ _ hf hM (lv_sub hl [1, 2, 0] rfl)
          · have hf := ec_f cnd hf
            refine lv_iconst (v := 1) hx hb dX3_readEvents_55 (by decide) ?_
            refine lv_goto (tgt := 60) hx hb dX3_readEvents_56 rfl ?_
            exact bX3_readEvents_60 X hr hlk hG ih S x1 x2_2 (1 : Int32) _ _ _ hf hM (lv_sub hl [1, 2, 0] rfl)
noncomputable def fX3_readEvents (N : Nat) (S : sM) : Option sM :=
  fX3_readEvents_2 N N S (0 : Int32)
theorem metX3_readEvents (l : Launch) (D : va_G) (o : Nat) (q : Nat → Nat) (d dz : ClassId) (hG : MG o q) (N : Nat) (S : sM) (Sr : sM) (hf : fX3_readEvents N S = some Sr) : Met l yX3_readEvents (ws_ yX3_readEvents cX3_readEvents 4 none) (rmL 3) (MPre D o q d dz S []) (MPost D o q d dz none Sr) 0 0 (AM o q) := by
  refine m_ofW rfl (Nat.le_of_ble_eq_true rfl) (fun p e s m args below meth c X hr hlk hM ls hl => ?_)
  have hl : lv_has ls 4 [(0, .ref o)] := hl
  have hx := X.1
  have hb := X.2.1
  unfold fX3_readEvents at hf
  refine lv_iconst (v := 0) hx hb dX3_readEvents_0 (by decide) ?_
  refine lv_istore_n (lv' := [(1, .int (0 : Int32)), (0, .ref o)]) hx hb dX3_readEvents_1 rfl hl (by decide) rfl (fun ls hl => ?_)
  exact bX3_readEvents_2 X hr hlk hG N S (0 : Int32) _ _ _ hf hM (lv_sub hl [1, 0] rfl)
theorem hX3_readEvents : yX3_readEvents.cls = RX3 ∧ yX3_readEvents.cls ≠ "java/lang/invoke/MethodHandle" ∧ yX3_readEvents.cls ≠ "java/lang/invoke/VarHandle" ∧ (parseMethodDescriptor yX3_readEvents.desc).map (fun d => d.parameters.length) = some 0 := by decide +kernel

theorem gX3_178 : GoodIn lw_all (wsV RX3 178 RX3 yX3_readEvents (ws_ yX3_readEvents cX3_readEvents 4 none)) := lw_V q1195 q1197 qs36 q63 q1198
noncomputable def fX3_readLine_33 (N : Nat) (kx67 : sM → Int32 → Option sM) : Nat → sM → Int32 → Int32 → Option sM
  | 0, _, _, _ => none
  | n + 1, S, x1, x2 =>
    if (8 : Int32) ≤ x2 then (
      kx67 S x1)
    else (
      if ¬ (S.1 30) = 0 then (
        kx67 S x1)
      else (
        (ec_as S 13 128 (((8 : Int32) * (S.1 11)) + x2) (0 : Int32)).bind fun S_5 =>
        ec_lt (x2 + (1 : Int32)) fun x2_6 =>
        (fX3_readLine_33 N kx67 n) S_5 x1 x2_6))
theorem bX3_readLine_33 {N : Nat} (X : CallFix p m c cX3_readLine 3 s args lw_all RX3) (hr : meth.sig.returnType = none) (hlk : meth.locks = false) (hG : MG o q) {Sr : sM} {kx67 : sM → Int32 → Option sM} (Hkx67 : ∀ (S : sM) (x1 : Int32) (H : Heap) (locs : List Loc) (ls : Array Slot), kx67 S x1 = some Sr → MW D o q d dz S s H locs → lv_has ls 3 [(0, .ref o), (1, .int x1)] → W p l e (rmL 4) s m args below meth c H locs 0 0 (MQ below (MPost D o q d dz none Sr) args s 0 0 (AM o q)) (F0 m 67 ls [])) : ∀ (n : Nat) (S : sM) (x1 : Int32) (x2 : Int32) (H : Heap) (locs : List Loc) (ls : Array Slot), fX3_readLine_33 N kx67 n S x1 x2 = some Sr → MW D o q d dz S s H locs → lv_has ls 3 [(0, .ref o), (1, .int x1), (2, .int x2)] → W p l e (rmL 4) s m args below meth c H locs 0 0 (MQ below (MPost D o q d dz none Sr) args s 0 0 (AM o q)) (F0 m 33 ls []) := by
  have hx := X.1
  have hb := X.2.1
  intro n
  induction n with
  | zero =>
    intro S x1 x2 H locs ls hf hM hl
    rw [fX3_readLine_33] at hf
    cases hf
  | succ n ih =>
    intro S x1 x2 H locs ls hf hM hl
    rw [fX3_readLine_33] at hf
    refine lv_iload_n hx hb dX3_readLine_33 rfl (lv_at hl 2 rfl) ?_
    refine lv_bipush (v := 8) hx hb dX3_readLine_34 (by decide) ?_
    refine lv_icmp_ge (tgt := 67) hx hb dX3_readLine_36 rfl (fun cnd => ?_) (fun cnd => ?_)
    · have hf := ec_t cnd hf
      exact Hkx67 S x1 _ _ _ hf hM (lv_sub hl [0, 1] rfl)
    · have hf := ec_f cnd hf
      refine lv_aload_n hx hb dX3_readLine_39 rfl (lv_at hl 0 rfl) ?_
      refine m_get (v := .int (S.1 30)) X hM 30 (by decide) q1004 rfl rfl dX3_readLine_40 ?_
      refine lv_if_ne (tgt := 67) hx hb dX3_readLine_43 rfl (fun cnd => ?_) (fun cnd => ?_)
      · have hf := ec_t cnd hf
        exact Hkx67 S x1 _ _ _ hf hM (lv_sub hl [0, 1] rfl)
      · have hf := ec_f (not_not_intro cnd) hf
        refine lv_aload_n hx hb dX3_readLine_46 rfl (lv_at hl 0 rfl) ?_
        refine m_get (v := .ref (q 13)) X hM 13 (by decide) q987 rfl rfl dX3_readLine_47 ?_
        refine lv_bipush (v := 8) hx hb dX3_readLine_50 (by decide) ?_
        refine lv_aload_n hx hb dX3_readLine_52 rfl (lv_at hl 0 rfl) ?_
        refine m_get (v := .int (S.1 11)) X hM 11 (by decide) q985 rfl rfl dX3_readLine_53 ?_
        refine lv_imul hx hb dX3_readLine_56 ?_
        refine lv_iload_n hx hb dX3_readLine_57 rfl (lv_at hl 2 rfl) ?_
        refine lv_iadd hx hb dX3_readLine_58 ?_
        refine lv_iconst (v := 0) hx hb dX3_readLine_59 (by decide) ?_
        obtain ⟨S_5, h, hf⟩ := ec_bi hf
        refine m_iast X hG hM wma13 wms13 h dX3_readLine_60 (fun H locs hM => ?_)
        refine e_inc (w := 1) (f := fun v => [(2, .int v), (0, .ref o), (1, .int x1)]) hx hb dX3_readLine_61 hl (k := 2) rfl (by decide) (by decide) (fun _ => rfl) (fun x2_6 ex ls hl => ?_)
        have hf := ec_lt_i ex hf
        refine lv_goto (tgt := 33) hx hb dX3_readLine_64 rfl ?_
        exact ih S_5 x1 x2_6 _ _ _ hf hM (lv_sub hl [1, 2, 0] rfl)
noncomputable def fX3_readLine_119 (N : Nat) (S : sM) (t0 : Int32) (t1 : Int32) : Option sM :=
  (ec_as S 14 16 t1 t0).bind fun S_12 =>
  (ec_as S_12 21 100 (S_12.1 23) (S_12.1 11)).bind fun S_13 =>
  ec_lt (mI S_13 23 ((S_13.1 23) + (1 : Int32))) fun S_14 =>
  ec_lt (mI S_14 11 ((S_14.1 11) + (1 : Int32))) fun S_15 =>
  some S_15
theorem bX3_readLine_119 {N : Nat} (X : CallFix p m c cX3_readLine 3 s args lw_all RX3) (hr : meth.sig.returnType = none) (hlk : meth.locks = false) (hG : MG o q) {Sr : sM} : ∀ (S : sM) (t0 : Int32) (t1 : Int32) (H : Heap) (locs : List Loc) (ls : Array Slot), fX3_readLine_119 N S t0 t1 = some Sr → MW D o q d dz S s H locs → lv_has ls 3 [(0, .ref o)] → W p l e (rmL 4) s m args below meth c H locs 0 0 (MQ below (MPost D o q d dz none Sr) args s 0 0 (AM o q)) (F0 m 119 ls [.int t0, .int t1, .ref (q 14)]) := by
  have hx := X.1
  have hb := X.2.1
  intro S t0 t1 H locs ls hf hM hl
  unfold fX3_readLine_119 at hf
  obtain ⟨S_12, h, hf⟩ := ec_bi hf
  refine m_iast X hG hM wma14 wms14 h dX3_readLine_119 (fun H locs hM => ?_)
  refine lv_aload_n hx hb dX3_readLine_120 rfl (lv_at hl 0 rfl) ?_
  refine m_get (v := .ref (q 21)) X hM 21 (by decide) q995 rfl rfl dX3_readLine_121 ?_
  refine lv_aload_n hx hb dX3_readLine_124 rfl (lv_at hl 0 rfl) ?_
  refine m_get (v := .int (S_12.1 23)) X hM 23 (by decide) q997 rfl rfl dX3_readLine_125 ?_
  refine lv_aload_n hx hb dX3_readLine_128 rfl (lv_at hl 0 rfl) ?_
  refine m_get (v := .int (S_12.1 11)) X hM 11 (by decide) q985 rfl rfl dX3_readLine_129 ?_
  obtain ⟨S_13, h, hf⟩ := ec_bi hf
  refine m_iast X hG hM wma21 wms21 h dX3_readLine_132 (fun H locs hM => ?_)
  refine lv_aload_n hx hb dX3_readLine_133 rfl (lv_at hl 0 rfl) ?_
  refine lv_dup hx hb dX3_readLine_134 rfl ?_
  refine m_get (v := .int (S_13.1 23)) X hM 23 (by decide) q997 rfl rfl dX3_readLine_135 ?_
  refine lv_iconst (v := 1) hx hb dX3_readLine_138 (by decide) ?_
  refine lv_iadd hx hb dX3_readLine_139 ?_
  refine m_puti X hG hM 23 (by decide) q997 rfl rfl mfd23 (wmi23 _) dX3_readLine_140 (fun S_14 H locs eS hM => ?_)
  have hf := ec_lt_i eS hf
  refine lv_aload_n hx hb dX3_readLine_143 rfl (lv_at hl 0 rfl) ?_
  refine lv_dup hx hb dX3_readLine_144 rfl ?_
  refine m_get (v := .int (S_14.1 11)) X hM 11 (by decide) q985 rfl rfl dX3_readLine_145 ?_
  refine lv_iconst (v := 1) hx hb dX3_readLine_148 (by decide) ?_
  refine lv_iadd hx hb dX3_readLine_149 ?_
  refine m_puti X hG hM 11 (by decide) q985 rfl rfl mfd11 (wmi11 _) dX3_readLine_150 (fun S_15 H locs eS hM => ?_)
  have hf := ec_lt_i eS hf
  obtain rfl := Option.some.inj hf
  exact m_vret X hr hlk hM dX3_readLine_153
noncomputable def fX3_readLine_67 (N : Nat) (S : sM) (x1 : Int32) : Option sM :=
  (fX3_readEvents N S).bind fun S_9 =>
  if ¬ (S_9.1 30) = 0 then (
    some S_9)
  else (
    (ec_as S_9 12 16 (S_9.1 11) x1).bind fun S_10 =>
    if ¬ (S_10.1 19) = 0 then (
      (ec_ag (S_10.2.2 18) 5 ((S_10.1 19) - (1 : Int32))).bind fun v_11 =>
      fX3_readLine_119 N S_10 v_11 (S_10.1 11))
    else (
      fX3_readLine_119 N S_10 (-4 : Int32) (S_10.1 11)))
theorem bX3_readLine_67 {N : Nat} (X : CallFix p m c cX3_readLine 3 s args lw_all RX3) (hr : meth.sig.returnType = none) (hlk : meth.locks = false) (hG : MG o q) {Sr : sM} : ∀ (S : sM) (x1 : Int32) (H : Heap) (locs : List Loc) (ls : Array Slot), fX3_readLine_67 N S x1 = some Sr → MW D o q d dz S s H locs → lv_has ls 3 [(0, .ref o), (1, .int x1)] → W p l e (rmL 4) s m args below meth c H locs 0 0 (MQ below (MPost D o q d dz none Sr) args s 0 0 (AM o q)) (F0 m 67 ls []) := by
  have hx := X.1
  have hb := X.2.1
  intro S x1 H locs ls hf hM hl
  unfold fX3_readLine_67 at hf
  refine lv_aload_n hx hb dX3_readLine_67 rfl (lv_at hl 0 rfl) ?_
  obtain ⟨S_9, h, hf⟩ := ec_bi hf
  refine m_cWv (As := []) (rest := []) X hM (metX3_readEvents l D o q d dz hG N S _ h) (cwV 0 X.2.2.2.2 gX3_178 rfl rfl rfl hX3_readEvents ⟨Nat.le_of_ble_eq_true rfl, Nat.le_of_ble_eq_true rfl⟩) rfl hl.1 rfl (Nat.le_of_ble_eq_true rfl) ⟨Nat.zero_le _, Nat.zero_le _⟩ dX3_readLine_68 (fun H locs hM => ?_)
  refine lv_aload_n hx hb dX3_readLine_71 rfl (lv_at hl 0 rfl) ?_
  refine m_get (v := .int (S_9.1 30)) X hM 30 (by decide) q1004 rfl rfl dX3_readLine_72 ?_
  refine lv_if_ne (tgt := 153) hx hb dX3_readLine_75 rfl (fun cnd => ?_) (fun cnd => ?_)
  · have hf := ec_t cnd hf
    obtain rfl := Option.some.inj hf
    exact m_vret X hr hlk hM dX3_readLine_153
  · have hf := ec_f (not_not_intro cnd) hf
    refine lv_aload_n hx hb dX3_readLine_78 rfl (lv_at hl 0 rfl) ?_
    refine m_get (v := .ref (q 12)) X hM 12 (by decide) q986 rfl rfl dX3_readLine_79 ?_
    refine lv_aload_n hx hb dX3_readLine_82 rfl (lv_at hl 0 rfl) ?_
    refine m_get (v := .int (S_9.1 11)) X hM 11 (by decide) q985 rfl rfl dX3_readLine_83 ?_
    refine lv_iload_n hx hb dX3_readLine_86 rfl (lv_at hl 1 rfl) ?_
    obtain ⟨S_10, h, hf⟩ := ec_bi hf
    refine m_iast X hG hM wma12 wms12 h dX3_readLine_87 (fun H locs hM => ?_)
    refine lv_aload_n hx hb dX3_readLine_88 rfl (lv_at hl 0 rfl) ?_
    refine m_get (v := .ref (q 14)) X hM 14 (by decide) q988 rfl rfl dX3_readLine_89 ?_
    refine lv_aload_n hx hb dX3_readLine_92 rfl (lv_at hl 0 rfl) ?_
    refine m_get (v := .int (S_10.1 11)) X hM 11 (by decide) q985 rfl rfl dX3_readLine_93 ?_
    refine lv_aload_n hx hb dX3_readLine_96 rfl (lv_at hl 0 rfl) ?_
    refine m_get (v := .int (S_10.1 19)) X hM 19 (by decide) q993 rfl rfl dX3_readLine_97 ?_
    refine lv_if_ne (tgt := 108) hx hb dX3_readLine_100 rfl (fun cnd => ?_) (fun cnd => ?_)
    · have hf := ec_t cnd hf
      refine lv_aload_n hx hb dX3_readLine_108 rfl (lv_at hl 0 rfl) ?_
      refine m_get (v := .ref (q 18)) X hM 18 (by decide) q992 rfl rfl dX3_readLine_109 ?_
      refine lv_aload_n hx hb dX3_readLine_112 rfl (lv_at hl 0 rfl) ?_
      refine m_get (v := .int (S_10.1 19)) X hM 19 (by decide) q993 rfl rfl dX3_readLine_113 ?_
      refine lv_iconst (v := 1) hx hb dX3_readLine_116 (by decide) ?_
      refine lv_isub hx hb dX3_readLine_117 ?_
      obtain ⟨v_11, h, hf⟩ := ec_bi hf
      refine m_iald X hM wma18 h dX3_readLine_118 ?_
      exact bX3_readLine_119 X hr hlk hG S_10 v_11 (S_10.1 11) _ _ _ hf hM (lv_sub hl [0] rfl)
    · have hf := ec_f (not_not_intro cnd) hf
      refine lv_bipush (v := -4) hx hb dX3_readLine_103 (by decide) ?_
      refine lv_goto (tgt := 119) hx hb dX3_readLine_105 rfl ?_
      exact bX3_readLine_119 X hr hlk hG S_10 (-4 : Int32) (S_10.1 11) _ _ _ hf hM (lv_sub hl [0] rfl)
noncomputable def fX3_readLine_15 (N : Nat) (S : sM) (t0 : Int32) : Option sM :=
  (fX3_wants S t0 (5 : Int32)).bind fun S_1 =>
  (fX3_next N S_1).bind fun S_2 =>
  ec_b2 (fX3_readNumber N S_2 (1 : Int32) (20 : Int32)) fun v_4 S_3 =>
  fX3_readLine_33 N (fun S_7 x1_8 =>
    fX3_readLine_67 N S_7 x1_8) N S_3 v_4 (0 : Int32)
theorem bX3_readLine_15 {N : Nat} (X : CallFix p m c cX3_readLine 3 s args lw_all RX3) (hr : meth.sig.returnType = none) (hlk : meth.locks = false) (hG : MG o q) {Sr : sM} : ∀ (S : sM) (t0 : Int32) (H : Heap) (locs : List Loc) (ls : Array Slot), fX3_readLine_15 N S t0 = some Sr → MW D o q d dz S s H locs → lv_has ls 3 [(0, .ref o)] → W p l e (rmL 4) s m args below meth c H locs 0 0 (MQ below (MPost D o q d dz none Sr) args s 0 0 (AM o q)) (F0 m 15 ls [.int t0, .ref o]) := by
  have hx := X.1
  have hb := X.2.1
  intro S t0 H locs ls hf hM hl
  unfold fX3_readLine_15 at hf
  refine lv_iconst (v := 5) hx hb dX3_readLine_15 (by decide) ?_
  obtain ⟨S_1, h, hf⟩ := ec_bi hf
  refine m_cWv (As := [.int t0, .int (5 : Int32)]) (rest := []) X hM (metX3_wants l D o q d dz hG S t0 (5 : Int32) _ h) (cwV 2 X.2.2.2.2 gX3_162 rfl rfl rfl hX3_wants ⟨Nat.le_of_ble_eq_true rfl, Nat.le_of_ble_eq_true rfl⟩) rfl hl.1 rfl (Nat.le_of_ble_eq_true rfl) ⟨Nat.zero_le _, Nat.zero_le _⟩ dX3_readLine_16 (fun H locs hM => ?_)
  refine lv_aload_n hx hb dX3_readLine_19 rfl (lv_at hl 0 rfl) ?_
  obtain ⟨S_2, h, hf⟩ := ec_bi hf
  refine m_cWv (As := []) (rest := []) X hM (metX3_next l D o q d dz hG N S_1 _ h) (cwV 0 X.2.2.2.2 gX3_166 rfl rfl rfl hX3_next ⟨Nat.le_of_ble_eq_true rfl, Nat.le_of_ble_eq_true rfl⟩) rfl hl.1 rfl (Nat.le_of_ble_eq_true rfl) ⟨Nat.zero_le _, Nat.zero_le _⟩ dX3_readLine_20 (fun H locs hM => ?_)
  refine lv_aload_n hx hb dX3_readLine_23 rfl (lv_at hl 0 rfl) ?_
  refine lv_iconst (v := 1) hx hb dX3_readLine_24 (by decide) ?_
  refine lv_bipush (v := 20) hx hb dX3_readLine_25 (by decide) ?_
  obtain ⟨v_4, S_3, h, hf⟩ := ec_b2i hf
  refine m_cWi (v := .int v_4) (As := [.int (1 : Int32), .int (20 : Int32)]) (rest := []) X hM (metX3_readNumber l D o q d dz hG N S_2 (1 : Int32) (20 : Int32) _ _ h) (cwV 2 X.2.2.2.2 gX3_171 rfl rfl rfl hX3_readNumber ⟨Nat.le_of_ble_eq_true rfl, Nat.le_of_ble_eq_true rfl⟩) rfl hl.1 rfl (Nat.le_of_ble_eq_true rfl) ⟨Nat.zero_le _, Nat.zero_le _⟩ dX3_readLine_27 (fun H locs hM => ?_)
  refine lv_istore_n (lv' := [(1, .int v_4), (0, .ref o)]) hx hb dX3_readLine_30 rfl hl (by decide) rfl (fun ls hl => ?_)
  refine lv_iconst (v := 0) hx hb dX3_readLine_31 (by decide) ?_
  refine lv_istore_n (lv' := [(2, .int (0 : Int32)), (1, .int v_4), (0, .ref o)]) hx hb dX3_readLine_32 rfl hl (by decide) rfl (fun ls hl => ?_)
  exact bX3_readLine_33 X hr hlk hG (fun S_7 x1_8 H locs ls hf hM hl => by
    exact bX3_readLine_67 X hr hlk hG S_7 x1_8 _ _ _ hf hM hl) N S_3 v_4 (0 : Int32) _ _ _ hf hM (lv_sub hl [2, 1, 0] rfl)
noncomputable def fX3_readLine (N : Nat) (S : sM) : Option sM :=
  if (16 : Int32) ≤ (S.1 11) then (
    fX3_readLine_15 N S (0 : Int32))
  else (
    fX3_readLine_15 N S (1 : Int32))
theorem metX3_readLine (l : Launch) (D : va_G) (o : Nat) (q : Nat → Nat) (d dz : ClassId) (hG : MG o q) (N : Nat) (S : sM) (Sr : sM) (hf : fX3_readLine N S = some Sr) : Met l yX3_readLine (ws_ yX3_readLine cX3_readLine 3 none) (rmL 4) (MPre D o q d dz S []) (MPost D o q d dz none Sr) 0 0 (AM o q) := by
  refine m_ofW rfl (Nat.le_of_ble_eq_true rfl) (fun p e s m args below meth c X hr hlk hM ls hl => ?_)
  have hl : lv_has ls 3 [(0, .ref o)] := hl
  have hx := X.1
  have hb := X.2.1
  unfold fX3_readLine at hf
  refine lv_aload_n hx hb dX3_readLine_0 rfl (lv_at hl 0 rfl) ?_
  refine lv_aload_n hx hb dX3_readLine_1 rfl (lv_at hl 0 rfl) ?_
  refine m_get (v := .int (S.1 11)) X hM 11 (by decide) q985 rfl rfl dX3_readLine_2 ?_
  refine lv_bipush (v := 16) hx hb dX3_readLine_5 (by decide) ?_
  refine lv_icmp_ge (tgt := 14) hx hb dX3_readLine_7 rfl (fun cnd => ?_) (fun cnd => ?_)
  · have hf := ec_t cnd hf
    refine lv_iconst (v := 0) hx hb dX3_readLine_14 (by decide) ?_
    exact bX3_readLine_15 X hr hlk hG S (0 : Int32) _ _ _ hf hM hl
  · have hf := ec_f cnd hf
    refine lv_iconst (v := 1) hx hb dX3_readLine_10 (by decide) ?_
    refine lv_goto (tgt := 15) hx hb dX3_readLine_11 rfl ?_
    exact bX3_readLine_15 X hr hlk hG S (1 : Int32) _ _ _ hf hM hl
theorem hX3_readLine : yX3_readLine.cls = RX3 ∧ yX3_readLine.cls ≠ "java/lang/invoke/MethodHandle" ∧ yX3_readLine.cls ≠ "java/lang/invoke/VarHandle" ∧ (parseMethodDescriptor yX3_readLine.desc).map (fun d => d.parameters.length) = some 0 := by decide +kernel

noncomputable def fX3_readLoop_78 (N : Nat) (S : sM) (t0 : Int32) (t1 : Int32) : Option sM :=
  (ec_as S 17 40 t1 t0).bind fun S_7 =>
  (ec_as S_7 18 5 (S_7.1 19) (S_7.1 15)).bind fun S_8 =>
  (ec_as S_8 21 100 (S_8.1 23) ((100 : Int32) + (S_8.1 15))).bind fun S_9 =>
  ec_lt (mI S_9 23 ((S_9.1 23) + (1 : Int32))) fun S_10 =>
  ec_lt (mI S_10 15 ((S_10.1 15) + (1 : Int32))) fun S_11 =>
  ec_lt (mI S_11 19 ((S_11.1 19) + (1 : Int32))) fun S_12 =>
  some S_12
theorem bX3_readLoop_78 {N : Nat} (X : CallFix p m c cX3_readLoop 2 s args lw_all RX3) (hr : meth.sig.returnType = none) (hlk : meth.locks = false) (hG : MG o q) {Sr : sM} : ∀ (S : sM) (t0 : Int32) (t1 : Int32) (H : Heap) (locs : List Loc) (ls : Array Slot), fX3_readLoop_78 N S t0 t1 = some Sr → MW D o q d dz S s H locs → lv_has ls 2 [(0, .ref o)] → W p l e (rmL 3) s m args below meth c H locs 0 0 (MQ below (MPost D o q d dz none Sr) args s 0 0 (AM o q)) (F0 m 78 ls [.int t0, .int t1, .ref (q 17)]) := by
  have hx := X.1
  have hb := X.2.1
  intro S t0 t1 H locs ls hf hM hl
  unfold fX3_readLoop_78 at hf
  obtain ⟨S_7, h, hf⟩ := ec_bi hf
  refine m_iast X hG hM wma17 wms17 h dX3_readLoop_78 (fun H locs hM => ?_)
  refine lv_aload_n hx hb dX3_readLoop_79 rfl (lv_at hl 0 rfl) ?_
  refine m_get (v := .ref (q 18)) X hM 18 (by decide) q992 rfl rfl dX3_readLoop_80 ?_
  refine lv_aload_n hx hb dX3_readLoop_83 rfl (lv_at hl 0 rfl) ?_
  refine m_get (v := .int (S_7.1 19)) X hM 19 (by decide) q993 rfl rfl dX3_readLoop_84 ?_
  refine lv_aload_n hx hb dX3_readLoop_87 rfl (lv_at hl 0 rfl) ?_
  refine m_get (v := .int (S_7.1 15)) X hM 15 (by decide) q989 rfl rfl dX3_readLoop_88 ?_
  obtain ⟨S_8, h, hf⟩ := ec_bi hf
  refine m_iast X hG hM wma18 wms18 h dX3_readLoop_91 (fun H locs hM => ?_)
  refine lv_aload_n hx hb dX3_readLoop_92 rfl (lv_at hl 0 rfl) ?_
  refine m_get (v := .ref (q 21)) X hM 21 (by decide) q995 rfl rfl dX3_readLoop_93 ?_
  refine lv_aload_n hx hb dX3_readLoop_96 rfl (lv_at hl 0 rfl) ?_
  refine m_get (v := .int (S_8.1 23)) X hM 23 (by decide) q997 rfl rfl dX3_readLoop_97 ?_
  refine lv_bipush (v := 100) hx hb dX3_readLoop_100 (by decide) ?_
  refine lv_aload_n hx hb dX3_readLoop_102 rfl (lv_at hl 0 rfl) ?_
  refine m_get (v := .int (S_8.1 15)) X hM 15 (by decide) q989 rfl rfl dX3_readLoop_103 ?_
  refine lv_iadd hx hb dX3_readLoop_106 ?_
  obtain ⟨S_9, h, hf⟩ := ec_bi hf
  refine m_iast X hG hM wma21 wms21 h dX3_readLoop_107 (fun H locs hM => ?_)
  refine lv_aload_n hx hb dX3_readLoop_108 rfl (lv_at hl 0 rfl) ?_
  refine lv_dup hx hb dX3_readLoop_109 rfl ?_
  refine m_get (v := .int (S_9.1 23)) X hM 23 (by decide) q997 rfl rfl dX3_readLoop_110 ?_
  refine lv_iconst (v := 1) hx hb dX3_readLoop_113 (by decide) ?_
  refine lv_iadd hx hb dX3_readLoop_114 ?_
  refine m_puti X hG hM 23 (by decide) q997 rfl rfl mfd23 (wmi23 _) dX3_readLoop_115 (fun S_10 H locs eS hM => ?_)
  have hf := ec_lt_i eS hf
  refine lv_aload_n hx hb dX3_readLoop_118 rfl (lv_at hl 0 rfl) ?_
  refine lv_dup hx hb dX3_readLoop_119 rfl ?_
  refine m_get (v := .int (S_10.1 15)) X hM 15 (by decide) q989 rfl rfl dX3_readLoop_120 ?_
  refine lv_iconst (v := 1) hx hb dX3_readLoop_123 (by decide) ?_
  refine lv_iadd hx hb dX3_readLoop_124 ?_
  refine m_puti X hG hM 15 (by decide) q989 rfl rfl mfd15 (wmi15 _) dX3_readLoop_125 (fun S_11 H locs eS hM => ?_)
  have hf := ec_lt_i eS hf
  refine lv_aload_n hx hb dX3_readLoop_128 rfl (lv_at hl 0 rfl) ?_
  refine lv_dup hx hb dX3_readLoop_129 rfl ?_
  refine m_get (v := .int (S_11.1 19)) X hM 19 (by decide) q993 rfl rfl dX3_readLoop_130 ?_
  refine lv_iconst (v := 1) hx hb dX3_readLoop_133 (by decide) ?_
  refine lv_iadd hx hb dX3_readLoop_134 ?_
  refine m_puti X hG hM 19 (by decide) q993 rfl rfl mfd19 (wmi19 _) dX3_readLoop_135 (fun S_12 H locs eS hM => ?_)
  have hf := ec_lt_i eS hf
  obtain rfl := Option.some.inj hf
  exact m_vret X hr hlk hM dX3_readLoop_138
noncomputable def fX3_readLoop_14 (N : Nat) (S : sM) (t0 : Int32) : Option sM :=
  (fX3_wants S t0 (5 : Int32)).bind fun S_1 =>
  (fX3_next N S_1).bind fun S_2 =>
  ec_b2 (fX3_readNumber N S_2 (1 : Int32) (99 : Int32)) fun v_4 S_3 =>
  if ¬ (S_3.1 30) = 0 then (
    some S_3)
  else (
    (ec_as S_3 16 40 (S_3.1 15) v_4).bind fun S_5 =>
    if ¬ (S_5.1 19) = 0 then (
      (ec_ag (S_5.2.2 18) 5 ((S_5.1 19) - (1 : Int32))).bind fun v_6 =>
      fX3_readLoop_78 N S_5 v_6 (S_5.1 15))
    else (
      fX3_readLoop_78 N S_5 (-4 : Int32) (S_5.1 15)))
theorem bX3_readLoop_14 {N : Nat} (X : CallFix p m c cX3_readLoop 2 s args lw_all RX3) (hr : meth.sig.returnType = none) (hlk : meth.locks = false) (hG : MG o q) {Sr : sM} : ∀ (S : sM) (t0 : Int32) (H : Heap) (locs : List Loc) (ls : Array Slot), fX3_readLoop_14 N S t0 = some Sr → MW D o q d dz S s H locs → lv_has ls 2 [(0, .ref o)] → W p l e (rmL 3) s m args below meth c H locs 0 0 (MQ below (MPost D o q d dz none Sr) args s 0 0 (AM o q)) (F0 m 14 ls [.int t0, .ref o]) := by
  have hx := X.1
  have hb := X.2.1
  intro S t0 H locs ls hf hM hl
  unfold fX3_readLoop_14 at hf
  refine lv_iconst (v := 5) hx hb dX3_readLoop_14 (by decide) ?_
  obtain ⟨S_1, h, hf⟩ := ec_bi hf
  refine m_cWv (As := [.int t0, .int (5 : Int32)]) (rest := []) X hM (metX3_wants l D o q d dz hG S t0 (5 : Int32) _ h) (cwV 2 X.2.2.2.2 gX3_162 rfl rfl rfl hX3_wants ⟨Nat.le_of_ble_eq_true rfl, Nat.le_of_ble_eq_true rfl⟩) rfl hl.1 rfl (Nat.le_of_ble_eq_true rfl) ⟨Nat.zero_le _, Nat.zero_le _⟩ dX3_readLoop_15 (fun H locs hM => ?_)
  refine lv_aload_n hx hb dX3_readLoop_18 rfl (lv_at hl 0 rfl) ?_
  obtain ⟨S_2, h, hf⟩ := ec_bi hf
  refine m_cWv (As := []) (rest := []) X hM (metX3_next l D o q d dz hG N S_1 _ h) (cwV 0 X.2.2.2.2 gX3_166 rfl rfl rfl hX3_next ⟨Nat.le_of_ble_eq_true rfl, Nat.le_of_ble_eq_true rfl⟩) rfl hl.1 rfl (Nat.le_of_ble_eq_true rfl) ⟨Nat.zero_le _, Nat.zero_le _⟩ dX3_readLoop_19 (fun H locs hM => ?_)
  refine lv_aload_n hx hb dX3_readLoop_22 rfl (lv_at hl 0 rfl) ?_
  refine lv_iconst (v := 1) hx hb dX3_readLoop_23 (by decide) ?_
  refine lv_bipush (v := 99) hx hb dX3_readLoop_24 (by decide) ?_
  obtain ⟨v_4, S_3, h, hf⟩ := ec_b2i hf
  refine m_cWi (v := .int v_4) (As := [.int (1 : Int32), .int (99 : Int32)]) (rest := []) X hM (metX3_readNumber l D o q d dz hG N S_2 (1 : Int32) (99 : Int32) _ _ h) (cwV 2 X.2.2.2.2 gX3_171 rfl rfl rfl hX3_readNumber ⟨Nat.le_of_ble_eq_true rfl, Nat.le_of_ble_eq_true rfl⟩) rfl hl.1 rfl (Nat.le_of_ble_eq_true rfl) ⟨Nat.zero_le _, Nat.zero_le _⟩ dX3_readLoop_26 (fun H locs hM => ?_)
  refine lv_istore_n (lv' := [(1, .int v_4), (0, .ref o)]) hx hb dX3_readLoop_29 rfl hl (by decide) rfl (fun ls hl => ?_)
  refine lv_aload_n hx hb dX3_readLoop_30 rfl (lv_at hl 1 rfl) ?_
  refine m_get (v := .int (S_3.1 30)) X hM 30 (by decide) q1004 rfl rfl dX3_readLoop_31 ?_
  refine lv_if_ne (tgt := 138) hx hb dX3_readLoop_34 rfl (fun cnd => ?_) (fun cnd => ?_)
  · have hf := ec_t cnd hf
    obtain rfl := Option.some.inj hf
    exact m_vret X hr hlk hM dX3_readLoop_138
  · have hf := ec_f (not_not_intro cnd) hf
    refine lv_aload_n hx hb dX3_readLoop_37 rfl (lv_at hl 1 rfl) ?_
    refine m_get (v := .ref (q 16)) X hM 16 (by decide) q990 rfl rfl dX3_readLoop_38 ?_
    refine lv_aload_n hx hb dX3_readLoop_41 rfl (lv_at hl 1 rfl) ?_
    refine m_get (v := .int (S_3.1 15)) X hM 15 (by decide) q989 rfl rfl dX3_readLoop_42 ?_
    refine lv_iload_n hx hb dX3_readLoop_45 rfl (lv_at hl 0 rfl) ?_
    obtain ⟨S_5, h, hf⟩ := ec_bi hf
    refine m_iast X hG hM wma16 wms16 h dX3_readLoop_46 (fun H locs hM => ?_)
    refine lv_aload_n hx hb dX3_readLoop_47 rfl (lv_at hl 1 rfl) ?_
    refine m_get (v := .ref (q 17)) X hM 17 (by decide) q991 rfl rfl dX3_readLoop_48 ?_
    refine lv_aload_n hx hb dX3_readLoop_51 rfl (lv_at hl 1 rfl) ?_
    refine m_get (v := .int (S_5.1 15)) X hM 15 (by decide) q989 rfl rfl dX3_readLoop_52 ?_
    refine lv_aload_n hx hb dX3_readLoop_55 rfl (lv_at hl 1 rfl) ?_
    refine m_get (v := .int (S_5.1 19)) X hM 19 (by decide) q993 rfl rfl dX3_readLoop_56 ?_
    refine lv_if_ne (tgt := 67) hx hb dX3_readLoop_59 rfl (fun cnd => ?_) (fun cnd => ?_)
    · have hf := ec_t cnd hf
      refine lv_aload_n hx hb dX3_readLoop_67 rfl (lv_at hl 1 rfl) ?_
      refine m_get (v := .ref (q 18)) X hM 18 (by decide) q992 rfl rfl dX3_readLoop_68 ?_
      refine lv_aload_n hx hb dX3_readLoop_71 rfl (lv_at hl 1 rfl) ?_
      refine m_get (v := .int (S_5.1 19)) X hM 19 (by decide) q993 rfl rfl dX3_readLoop_72 ?_
      refine lv_iconst (v := 1) hx hb dX3_readLoop_75 (by decide) ?_
      refine lv_isub hx hb dX3_readLoop_76 ?_
      obtain ⟨v_6, h, hf⟩ := ec_bi hf
      refine m_iald X hM wma18 h dX3_readLoop_77 ?_
      exact bX3_readLoop_78 X hr hlk hG S_5 v_6 (S_5.1 15) _ _ _ hf hM (lv_sub hl [1] rfl)
    · have hf := ec_f (not_not_intro cnd) hf
      refine lv_bipush (v := -4) hx hb dX3_readLoop_62 (by decide) ?_
      refine lv_goto (tgt := 78) hx hb dX3_readLoop_64 rfl ?_
      exact bX3_readLoop_78 X hr hlk hG S_5 (-4 : Int32) (S_5.1 15) _ _ _ hf hM (lv_sub hl [1] rfl)
noncomputable def fX3_readLoop (N : Nat) (S : sM) : Option sM :=
  if (4 : Int32) ≤ (S.1 19) then (
    fX3_readLoop_14 N S (0 : Int32))
  else (
    fX3_readLoop_14 N S (1 : Int32))
theorem metX3_readLoop (l : Launch) (D : va_G) (o : Nat) (q : Nat → Nat) (d dz : ClassId) (hG : MG o q) (N : Nat) (S : sM) (Sr : sM) (hf : fX3_readLoop N S = some Sr) : Met l yX3_readLoop (ws_ yX3_readLoop cX3_readLoop 2 none) (rmL 3) (MPre D o q d dz S []) (MPost D o q d dz none Sr) 0 0 (AM o q) := by
  refine m_ofW rfl (Nat.le_of_ble_eq_true rfl) (fun p e s m args below meth c X hr hlk hM ls hl => ?_)
  have hl : lv_has ls 2 [(0, .ref o)] := hl
  have hx := X.1
  have hb := X.2.1
  unfold fX3_readLoop at hf
  refine lv_aload_n hx hb dX3_readLoop_0 rfl (lv_at hl 0 rfl) ?_
  refine lv_aload_n hx hb dX3_readLoop_1 rfl (lv_at hl 0 rfl) ?_
  refine m_get (v := .int (S.1 19)) X hM 19 (by decide) q993 rfl rfl dX3_readLoop_2 ?_
  refine lv_iconst (v := 4) hx hb dX3_readLoop_5 (by decide) ?_
  refine lv_icmp_ge (tgt := 13) hx hb dX3_readLoop_6 rfl (fun cnd => ?_) (fun cnd => ?_)
  · have hf := ec_t cnd hf
    refine lv_iconst (v := 0) hx hb dX3_readLoop_13 (by decide) ?_
    exact bX3_readLoop_14 X hr hlk hG S (0 : Int32) _ _ _ hf hM hl
  · have hf := ec_f cnd hf
    refine lv_iconst (v := 1) hx hb dX3_readLoop_9 (by decide) ?_
    refine lv_goto (tgt := 14) hx hb dX3_readLoop_10 rfl ?_
    exact bX3_readLoop_14 X hr hlk hG S (1 : Int32) _ _ _ hf hM hl
theorem hX3_readLoop : yX3_readLoop.cls = RX3 ∧ yX3_readLoop.cls ≠ "java/lang/invoke/MethodHandle" ∧ yX3_readLoop.cls ≠ "java/lang/invoke/VarHandle" ∧ (parseMethodDescriptor yX3_readLoop.desc).map (fun d => d.parameters.length) = some 0 := by decide +kernel

noncomputable def fX3_readEnd_66 (N : Nat) (S : sM) : Option sM :=
  (fX3_next N S).bind fun S_2 =>
  some S_2
theorem bX3_readEnd_66 {N : Nat} (X : CallFix p m c cX3_readEnd 1 s args lw_all RX3) (hr : meth.sig.returnType = none) (hlk : meth.locks = false) (hG : MG o q) {Sr : sM} : ∀ (S : sM) (H : Heap) (locs : List Loc) (ls : Array Slot), fX3_readEnd_66 N S = some Sr → MW D o q d dz S s H locs → lv_has ls 1 [(0, .ref o)] → W p l e (rmL 2) s m args below meth c H locs 0 0 (MQ below (MPost D o q d dz none Sr) args s 0 0 (AM o q)) (F0 m 66 ls []) := by
  have hx := X.1
  have hb := X.2.1
  intro S H locs ls hf hM hl
  unfold fX3_readEnd_66 at hf
  refine lv_aload_n hx hb dX3_readEnd_66 rfl (lv_at hl 0 rfl) ?_
  obtain ⟨S_2, h, hf⟩ := ec_bi hf
  refine m_cWv (As := []) (rest := []) X hM (metX3_next l D o q d dz hG N S _ h) (cwV 0 X.2.2.2.2 gX3_166 rfl rfl rfl hX3_next ⟨Nat.le_of_ble_eq_true rfl, Nat.le_of_ble_eq_true rfl⟩) rfl hl.1 rfl (Nat.le_of_ble_eq_true rfl) ⟨Nat.zero_le _, Nat.zero_le _⟩ dX3_readEnd_67 (fun H locs hM => ?_)
  obtain rfl := Option.some.inj hf
  exact m_vret X hr hlk hM dX3_readEnd_70
noncomputable def fX3_readEnd_13 (N : Nat) (S : sM) (t0 : Int32) : Option sM :=
  (fX3_wants S t0 (2 : Int32)).bind fun S_1 =>
  if ¬ (S_1.1 30) = 0 then (
    fX3_readEnd_66 N S_1)
  else (
    ec_lt (mI S_1 19 ((S_1.1 19) - (1 : Int32))) fun S_3 =>
    (ec_ag (S_3.2.2 18) 5 (S_3.1 19)).bind fun v_4 =>
    (ec_as S_3 21 100 (S_3.1 23) ((200 : Int32) + v_4)).bind fun S_5 =>
    ec_lt (mI S_5 23 ((S_5.1 23) + (1 : Int32))) fun S_6 =>
    fX3_readEnd_66 N S_6)
theorem bX3_readEnd_13 {N : Nat} (X : CallFix p m c cX3_readEnd 1 s args lw_all RX3) (hr : meth.sig.returnType = none) (hlk : meth.locks = false) (hG : MG o q) {Sr : sM} : ∀ (S : sM) (t0 : Int32) (H : Heap) (locs : List Loc) (ls : Array Slot), fX3_readEnd_13 N S t0 = some Sr → MW D o q d dz S s H locs → lv_has ls 1 [(0, .ref o)] → W p l e (rmL 2) s m args below meth c H locs 0 0 (MQ below (MPost D o q d dz none Sr) args s 0 0 (AM o q)) (F0 m 13 ls [.int t0, .ref o]) := by
  have hx := X.1
  have hb := X.2.1
  intro S t0 H locs ls hf hM hl
  unfold fX3_readEnd_13 at hf
  refine lv_iconst (v := 2) hx hb dX3_readEnd_13 (by decide) ?_
  obtain ⟨S_1, h, hf⟩ := ec_bi hf
  refine m_cWv (As := [.int t0, .int (2 : Int32)]) (rest := []) X hM (metX3_wants l D o q d dz hG S t0 (2 : Int32) _ h) (cwV 2 X.2.2.2.2 gX3_162 rfl rfl rfl hX3_wants ⟨Nat.le_of_ble_eq_true rfl, Nat.le_of_ble_eq_true rfl⟩) rfl hl.1 rfl (Nat.le_of_ble_eq_true rfl) ⟨Nat.zero_le _, Nat.zero_le _⟩ dX3_readEnd_14 (fun H locs hM => ?_)
  refine lv_aload_n hx hb dX3_readEnd_17 rfl (lv_at hl 0 rfl) ?_
  refine m_get (v := .int (S_1.1 30)) X hM 30 (by decide) q1004 rfl rfl dX3_readEnd_18 ?_
  refine lv_if_ne (tgt := 66) hx hb dX3_readEnd_21 rfl (fun cnd => ?_) (fun cnd => ?_)
  · have hf := ec_t cnd hf
    exact bX3_readEnd_66 X hr hlk hG S_1 _ _ _ hf hM hl
  · have hf := ec_f (not_not_intro cnd) hf
    refine lv_aload_n hx hb dX3_readEnd_24 rfl (lv_at hl 0 rfl) ?_
    refine lv_dup hx hb dX3_readEnd_25 rfl ?_
    refine m_get (v := .int (S_1.1 19)) X hM 19 (by decide) q993 rfl rfl dX3_readEnd_26 ?_
    refine lv_iconst (v := 1) hx hb dX3_readEnd_29 (by decide) ?_
    refine lv_isub hx hb dX3_readEnd_30 ?_
    refine m_puti X hG hM 19 (by decide) q993 rfl rfl mfd19 (wmi19 _) dX3_readEnd_31 (fun S_3 H locs eS hM => ?_)
    have hf := ec_lt_i eS hf
    refine lv_aload_n hx hb dX3_readEnd_34 rfl (lv_at hl 0 rfl) ?_
    refine m_get (v := .ref (q 21)) X hM 21 (by decide) q995 rfl rfl dX3_readEnd_35 ?_
    refine lv_aload_n hx hb dX3_readEnd_38 rfl (lv_at hl 0 rfl) ?_
    refine m_get (v := .int (S_3.1 23)) X hM 23 (by decide) q997 rfl rfl dX3_readEnd_39 ?_
    refine lv_sipush (v := 200) hx hb dX3_readEnd_42 (by decide) ?_
    refine lv_aload_n hx hb dX3_readEnd_45 rfl (lv_at hl 0 rfl) ?_
    refine m_get (v := .ref (q 18)) X hM 18 (by decide) q992 rfl rfl dX3_readEnd_46 ?_
    refine lv_aload_n hx hb dX3_readEnd_49 rfl (lv_at hl 0 rfl) ?_
    refine m_get (v := .int (S_3.1 19)) X hM 19 (by decide) q993 rfl rfl dX3_readEnd_50 ?_
    obtain ⟨v_4, h, hf⟩ := ec_bi hf
    refine m_iald X hM wma18 h dX3_readEnd_53 ?_
    refine lv_iadd hx hb dX3_readEnd_54 ?_
    obtain ⟨S_5, h, hf⟩ := ec_bi hf
    refine m_iast X hG hM wma21 wms21 h dX3_readEnd_55 (fun H locs hM => ?_)
    refine lv_aload_n hx hb dX3_readEnd_56 rfl (lv_at hl 0 rfl) ?_
    refine lv_dup hx hb dX3_readEnd_57 rfl ?_
    refine m_get (v := .int (S_5.1 23)) X hM 23 (by decide) q997 rfl rfl dX3_readEnd_58 ?_
    refine lv_iconst (v := 1) hx hb dX3_readEnd_61 (by decide) ?_
    refine lv_iadd hx hb dX3_readEnd_62 ?_
    refine m_puti X hG hM 23 (by decide) q997 rfl rfl mfd23 (wmi23 _) dX3_readEnd_63 (fun S_6 H locs eS hM => ?_)
    have hf := ec_lt_i eS hf
    exact bX3_readEnd_66 X hr hlk hG S_6 _ _ _ hf hM hl
noncomputable def fX3_readEnd (N : Nat) (S : sM) : Option sM :=
  if (S.1 19) ≤ 0 then (
    fX3_readEnd_13 N S (0 : Int32))
  else (
    fX3_readEnd_13 N S (1 : Int32))
theorem metX3_readEnd (l : Launch) (D : va_G) (o : Nat) (q : Nat → Nat) (d dz : ClassId) (hG : MG o q) (N : Nat) (S : sM) (Sr : sM) (hf : fX3_readEnd N S = some Sr) : Met l yX3_readEnd (ws_ yX3_readEnd cX3_readEnd 1 none) (rmL 2) (MPre D o q d dz S []) (MPost D o q d dz none Sr) 0 0 (AM o q) := by
  refine m_ofW rfl (Nat.le_of_ble_eq_true rfl) (fun p e s m args below meth c X hr hlk hM ls hl => ?_)
  have hl : lv_has ls 1 [(0, .ref o)] := hl
  have hx := X.1
  have hb := X.2.1
  unfold fX3_readEnd at hf
  refine lv_aload_n hx hb dX3_readEnd_0 rfl (lv_at hl 0 rfl) ?_
  refine lv_aload_n hx hb dX3_readEnd_1 rfl (lv_at hl 0 rfl) ?_
  refine m_get (v := .int (S.1 19)) X hM 19 (by decide) q993 rfl rfl dX3_readEnd_2 ?_
  refine lv_if_le (tgt := 12) hx hb dX3_readEnd_5 rfl (fun cnd => ?_) (fun cnd => ?_)
  · have hf := ec_t cnd hf
    refine lv_iconst (v := 0) hx hb dX3_readEnd_12 (by decide) ?_
    exact bX3_readEnd_13 X hr hlk hG S (0 : Int32) _ _ _ hf hM hl
  · have hf := ec_f cnd hf
    refine lv_iconst (v := 1) hx hb dX3_readEnd_8 (by decide) ?_
    refine lv_goto (tgt := 13) hx hb dX3_readEnd_9 rfl ?_
    exact bX3_readEnd_13 X hr hlk hG S (1 : Int32) _ _ _ hf hM hl
theorem hX3_readEnd : yX3_readEnd.cls = RX3 ∧ yX3_readEnd.cls ≠ "java/lang/invoke/MethodHandle" ∧ yX3_readEnd.cls ≠ "java/lang/invoke/VarHandle" ∧ (parseMethodDescriptor yX3_readEnd.desc).map (fun d => d.parameters.length) = some 0 := by decide +kernel

theorem gX3_200 : GoodIn lw_all (wsV RX3 200 RX3 yX3_readEnd (ws_ yX3_readEnd cX3_readEnd 1 none)) := lw_V q1204 q1206 qs38 q63 q1207
theorem gX3_197 : GoodIn lw_all (wsV RX3 197 RX3 yX3_readLoop (ws_ yX3_readLoop cX3_readLoop 2 none)) := lw_V q1200 q1202 qs37 q63 q1203
theorem gX3_194 : GoodIn lw_all (wsV RX3 194 RX3 yX3_readLine (ws_ yX3_readLine cX3_readLine 3 none)) := lw_V q1187 q1189 qs34 q63 q1190
theorem gX3_190 : GoodIn lw_all (wsV RX3 190 RX3 yX3_nameNow (ws_ yX3_nameNow cX3_nameNow 1 (some .int))) := lw_V q1179 q1181 qs32 q63 q1182
noncomputable def fX3_readItem_91 (N : Nat) (S : sM) : Option sM :=
  (fX3_next N S).bind fun S_2 =>
  some S_2
theorem bX3_readItem_91 {N : Nat} (X : CallFix p m c cX3_readItem 2 s args lw_all RX3) (hr : meth.sig.returnType = none) (hlk : meth.locks = false) (hG : MG o q) {Sr : sM} : ∀ (S : sM) (H : Heap) (locs : List Loc) (ls : Array Slot), fX3_readItem_91 N S = some Sr → MW D o q d dz S s H locs → lv_has ls 2 [(0, .ref o)] → W p l e (rmL 5) s m args below meth c H locs 0 0 (MQ below (MPost D o q d dz none Sr) args s 0 0 (AM o q)) (F0 m 91 ls []) := by
  have hx := X.1
  have hb := X.2.1
  intro S H locs ls hf hM hl
  unfold fX3_readItem_91 at hf
  refine lv_aload_n hx hb dX3_readItem_91 rfl (lv_at hl 0 rfl) ?_
  obtain ⟨S_2, h, hf⟩ := ec_bi hf
  refine m_cWv (As := []) (rest := []) X hM (metX3_next l D o q d dz hG N S _ h) (cwV 0 X.2.2.2.2 gX3_166 rfl rfl rfl hX3_next ⟨Nat.le_of_ble_eq_true rfl, Nat.le_of_ble_eq_true rfl⟩) rfl hl.1 rfl (Nat.le_of_ble_eq_true rfl) ⟨Nat.zero_le _, Nat.zero_le _⟩ dX3_readItem_92 (fun H locs hM => ?_)
  obtain rfl := Option.some.inj hf
  exact m_vret X hr hlk hM dX3_readItem_95
noncomputable def fX3_readItem_87 (N : Nat) (S : sM) (t0 : Int32) : Option sM :=
  (fX3_wants S t0 (2 : Int32)).bind fun S_3 =>
  fX3_readItem_91 N S_3
theorem bX3_readItem_87 {N : Nat} (X : CallFix p m c cX3_readItem 2 s args lw_all RX3) (hr : meth.sig.returnType = none) (hlk : meth.locks = false) (hG : MG o q) {Sr : sM} : ∀ (S : sM) (t0 : Int32) (H : Heap) (locs : List Loc) (ls : Array Slot), fX3_readItem_87 N S t0 = some Sr → MW D o q d dz S s H locs → lv_has ls 2 [(0, .ref o)] → W p l e (rmL 5) s m args below meth c H locs 0 0 (MQ below (MPost D o q d dz none Sr) args s 0 0 (AM o q)) (F0 m 87 ls [.int t0, .ref o]) := by
  have hx := X.1
  have hb := X.2.1
  intro S t0 H locs ls hf hM hl
  unfold fX3_readItem_87 at hf
  refine lv_iconst (v := 2) hx hb dX3_readItem_87 (by decide) ?_
  obtain ⟨S_3, h, hf⟩ := ec_bi hf
  refine m_cWv (As := [.int t0, .int (2 : Int32)]) (rest := []) X hM (metX3_wants l D o q d dz hG S t0 (2 : Int32) _ h) (cwV 2 X.2.2.2.2 gX3_162 rfl rfl rfl hX3_wants ⟨Nat.le_of_ble_eq_true rfl, Nat.le_of_ble_eq_true rfl⟩) rfl hl.1 rfl (Nat.le_of_ble_eq_true rfl) ⟨Nat.zero_le _, Nat.zero_le _⟩ dX3_readItem_88 (fun H locs hM => ?_)
  exact bX3_readItem_91 X hr hlk hG S_3 _ _ _ hf hM hl
noncomputable def fX3_readItem_66 (N : Nat) (S : sM) : Option sM :=
  if ¬ (S.1 30) = 0 then (
    fX3_readItem_91 N S)
  else (
    if ¬ (S.1 28) = (3 : Int32) then (
      fX3_readItem_87 N S (0 : Int32))
    else (
      fX3_readItem_87 N S (1 : Int32)))
theorem bX3_readItem_66 {N : Nat} (X : CallFix p m c cX3_readItem 2 s args lw_all RX3) (hr : meth.sig.returnType = none) (hlk : meth.locks = false) (hG : MG o q) {Sr : sM} : ∀ (S : sM) (H : Heap) (locs : List Loc) (ls : Array Slot), fX3_readItem_66 N S = some Sr → MW D o q d dz S s H locs → lv_has ls 2 [(0, .ref o)] → W p l e (rmL 5) s m args below meth c H locs 0 0 (MQ below (MPost D o q d dz none Sr) args s 0 0 (AM o q)) (F0 m 66 ls []) := by
  have hx := X.1
  have hb := X.2.1
  intro S H locs ls hf hM hl
  unfold fX3_readItem_66 at hf
  refine lv_aload_n hx hb dX3_readItem_66 rfl (lv_at hl 0 rfl) ?_
  refine m_get (v := .int (S.1 30)) X hM 30 (by decide) q1004 rfl rfl dX3_readItem_67 ?_
  refine lv_if_ne (tgt := 91) hx hb dX3_readItem_70 rfl (fun cnd => ?_) (fun cnd => ?_)
  · have hf := ec_t cnd hf
    exact bX3_readItem_91 X hr hlk hG S _ _ _ hf hM hl
  · have hf := ec_f (not_not_intro cnd) hf
    refine lv_aload_n hx hb dX3_readItem_73 rfl (lv_at hl 0 rfl) ?_
    refine lv_aload_n hx hb dX3_readItem_74 rfl (lv_at hl 0 rfl) ?_
    refine m_get (v := .int (S.1 28)) X hM 28 (by decide) q1002 rfl rfl dX3_readItem_75 ?_
    refine lv_iconst (v := 3) hx hb dX3_readItem_78 (by decide) ?_
    refine lv_icmp_ne (tgt := 86) hx hb dX3_readItem_79 rfl (fun cnd => ?_) (fun cnd => ?_)
    · have hf := ec_t cnd hf
      refine lv_iconst (v := 0) hx hb dX3_readItem_86 (by decide) ?_
      exact bX3_readItem_87 X hr hlk hG S (0 : Int32) _ _ _ hf hM hl
    · have hf := ec_f (not_not_intro cnd) hf
      refine lv_iconst (v := 1) hx hb dX3_readItem_82 (by decide) ?_
      refine lv_goto (tgt := 87) hx hb dX3_readItem_83 rfl ?_
      exact bX3_readItem_87 X hr hlk hG S (1 : Int32) _ _ _ hf hM hl
noncomputable def fX3_readItem_30 (N : Nat) (S : sM) (x1 : Int32) (t0 : Int32) : Option sM :=
  (fX3_wants S t0 (2 : Int32)).bind fun S_1 =>
  if ¬ x1 = 0 then (
    if ¬ x1 = (1 : Int32) then (
      if ¬ x1 = (2 : Int32) then (
        fX3_readItem_66 N S_1)
      else (
        (fX3_readEnd N S_1).bind fun S_4 =>
        fX3_readItem_66 N S_4))
    else (
      (fX3_readLoop N S_1).bind fun S_5 =>
      fX3_readItem_66 N S_5))
  else (
    (fX3_readLine N S_1).bind fun S_6 =>
    fX3_readItem_66 N S_6)
theorem bX3_readItem_30 {N : Nat} (X : CallFix p m c cX3_readItem 2 s args lw_all RX3) (hr : meth.sig.returnType = none) (hlk : meth.locks = false) (hG : MG o q) {Sr : sM} : ∀ (S : sM) (x1 : Int32) (t0 : Int32) (H : Heap) (locs : List Loc) (ls : Array Slot), fX3_readItem_30 N S x1 t0 = some Sr → MW D o q d dz S s H locs → lv_has ls 2 [(0, .ref o), (1, .int x1)] → W p l e (rmL 5) s m args below meth c H locs 0 0 (MQ below (MPost D o q d dz none Sr) args s 0 0 (AM o q)) (F0 m 30 ls [.int t0, .ref o]) := by
  have hx := X.1
  have hb := X.2.1
  intro S x1 t0 H locs ls hf hM hl
  unfold fX3_readItem_30 at hf
  refine lv_iconst (v := 2) hx hb dX3_readItem_30 (by decide) ?_
  obtain ⟨S_1, h, hf⟩ := ec_bi hf
  refine m_cWv (As := [.int t0, .int (2 : Int32)]) (rest := []) X hM (metX3_wants l D o q d dz hG S t0 (2 : Int32) _ h) (cwV 2 X.2.2.2.2 gX3_162 rfl rfl rfl hX3_wants ⟨Nat.le_of_ble_eq_true rfl, Nat.le_of_ble_eq_true rfl⟩) rfl hl.1 rfl (Nat.le_of_ble_eq_true rfl) ⟨Nat.zero_le _, Nat.zero_le _⟩ dX3_readItem_31 (fun H locs hM => ?_)
  refine lv_iload_n hx hb dX3_readItem_34 rfl (lv_at hl 1 rfl) ?_
  refine lv_if_ne (tgt := 45) hx hb dX3_readItem_35 rfl (fun cnd => ?_) (fun cnd => ?_)
  · have hf := ec_t cnd hf
    refine lv_iload_n hx hb dX3_readItem_45 rfl (lv_at hl 1 rfl) ?_
    refine lv_iconst (v := 1) hx hb dX3_readItem_46 (by decide) ?_
    refine lv_icmp_ne (tgt := 57) hx hb dX3_readItem_47 rfl (fun cnd => ?_) (fun cnd => ?_)
    · have hf := ec_t cnd hf
      refine lv_iload_n hx hb dX3_readItem_57 rfl (lv_at hl 1 rfl) ?_
      refine lv_iconst (v := 2) hx hb dX3_readItem_58 (by decide) ?_
      refine lv_icmp_ne (tgt := 66) hx hb dX3_readItem_59 rfl (fun cnd => ?_) (fun cnd => ?_)
      · have hf := ec_t cnd hf
        exact bX3_readItem_66 X hr hlk hG S_1 _ _ _ hf hM (lv_sub hl [0] rfl)
      · have hf := ec_f (not_not_intro cnd) hf
        refine lv_aload_n hx hb dX3_readItem_62 rfl (lv_at hl 0 rfl) ?_
        obtain ⟨S_4, h, hf⟩ := ec_bi hf
        refine m_cWv (As := []) (rest := []) X hM (metX3_readEnd l D o q d dz hG N S_1 _ h) (cwV 0 X.2.2.2.2 gX3_200 rfl rfl rfl hX3_readEnd ⟨Nat.le_of_ble_eq_true rfl, Nat.le_of_ble_eq_true rfl⟩) rfl hl.1 rfl (Nat.le_of_ble_eq_true rfl) ⟨Nat.zero_le _, Nat.zero_le _⟩ dX3_readItem_63 (fun H locs hM => ?_)
        exact bX3_readItem_66 X hr hlk hG S_4 _ _ _ hf hM (lv_sub hl [0] rfl)
    · have hf := ec_f (not_not_intro cnd) hf
      refine lv_aload_n hx hb dX3_readItem_50 rfl (lv_at hl 0 rfl) ?_
      obtain ⟨S_5, h, hf⟩ := ec_bi hf
      refine m_cWv (As := []) (rest := []) X hM (metX3_readLoop l D o q d dz hG N S_1 _ h) (cwV 0 X.2.2.2.2 gX3_197 rfl rfl rfl hX3_readLoop ⟨Nat.le_of_ble_eq_true rfl, Nat.le_of_ble_eq_true rfl⟩) rfl hl.1 rfl (Nat.le_of_ble_eq_true rfl) ⟨Nat.zero_le _, Nat.zero_le _⟩ dX3_readItem_51 (fun H locs hM => ?_)
      refine lv_goto (tgt := 66) hx hb dX3_readItem_54 rfl ?_
      exact bX3_readItem_66 X hr hlk hG S_5 _ _ _ hf hM (lv_sub hl [0] rfl)
  · have hf := ec_f (not_not_intro cnd) hf
    refine lv_aload_n hx hb dX3_readItem_38 rfl (lv_at hl 0 rfl) ?_
    obtain ⟨S_6, h, hf⟩ := ec_bi hf
    refine m_cWv (As := []) (rest := []) X hM (metX3_readLine l D o q d dz hG N S_1 _ h) (cwV 0 X.2.2.2.2 gX3_194 rfl rfl rfl hX3_readLine ⟨Nat.le_of_ble_eq_true rfl, Nat.le_of_ble_eq_true rfl⟩) rfl hl.1 rfl (Nat.le_of_ble_eq_true rfl) ⟨Nat.zero_le _, Nat.zero_le _⟩ dX3_readItem_39 (fun H locs hM => ?_)
    refine lv_goto (tgt := 66) hx hb dX3_readItem_42 rfl ?_
    exact bX3_readItem_66 X hr hlk hG S_6 _ _ _ hf hM (lv_sub hl [0] rfl)
noncomputable def fX3_readItem_17 (N : Nat) (S : sM) (t0 : Int32) : Option sM :=
  if t0 = (-4 : Int32) then (
    fX3_readItem_30 N S t0 (0 : Int32))
  else (
    fX3_readItem_30 N S t0 (1 : Int32))
theorem bX3_readItem_17 {N : Nat} (X : CallFix p m c cX3_readItem 2 s args lw_all RX3) (hr : meth.sig.returnType = none) (hlk : meth.locks = false) (hG : MG o q) {Sr : sM} : ∀ (S : sM) (t0 : Int32) (H : Heap) (locs : List Loc) (ls : Array Slot), fX3_readItem_17 N S t0 = some Sr → MW D o q d dz S s H locs → lv_has ls 2 [(0, .ref o)] → W p l e (rmL 5) s m args below meth c H locs 0 0 (MQ below (MPost D o q d dz none Sr) args s 0 0 (AM o q)) (F0 m 17 ls [.int t0]) := by
  have hx := X.1
  have hb := X.2.1
  intro S t0 H locs ls hf hM hl
  unfold fX3_readItem_17 at hf
  refine lv_istore_n (lv' := [(1, .int t0), (0, .ref o)]) hx hb dX3_readItem_17 rfl hl (by decide) rfl (fun ls hl => ?_)
  refine lv_aload_n hx hb dX3_readItem_18 rfl (lv_at hl 1 rfl) ?_
  refine lv_iload_n hx hb dX3_readItem_19 rfl (lv_at hl 0 rfl) ?_
  refine lv_bipush (v := -4) hx hb dX3_readItem_20 (by decide) ?_
  refine lv_icmp_eq (tgt := 29) hx hb dX3_readItem_22 rfl (fun cnd => ?_) (fun cnd => ?_)
  · have hf := ec_t cnd hf
    refine lv_iconst (v := 0) hx hb dX3_readItem_29 (by decide) ?_
    exact bX3_readItem_30 X hr hlk hG S t0 (0 : Int32) _ _ _ hf hM (lv_sub hl [1, 0] rfl)
  · have hf := ec_f cnd hf
    refine lv_iconst (v := 1) hx hb dX3_readItem_25 (by decide) ?_
    refine lv_goto (tgt := 30) hx hb dX3_readItem_26 rfl ?_
    exact bX3_readItem_30 X hr hlk hG S t0 (1 : Int32) _ _ _ hf hM (lv_sub hl [1, 0] rfl)
noncomputable def fX3_readItem (N : Nat) (S : sM) : Option sM :=
  if ¬ (S.1 28) = (1 : Int32) then (
    fX3_readItem_17 N S (-4 : Int32))
  else (
    (fX3_nameNow S).bind fun v_7 =>
    fX3_readItem_17 N S v_7)
theorem metX3_readItem (l : Launch) (D : va_G) (o : Nat) (q : Nat → Nat) (d dz : ClassId) (hG : MG o q) (N : Nat) (S : sM) (Sr : sM) (hf : fX3_readItem N S = some Sr) : Met l yX3_readItem (ws_ yX3_readItem cX3_readItem 2 none) (rmL 5) (MPre D o q d dz S []) (MPost D o q d dz none Sr) 0 0 (AM o q) := by
  refine m_ofW rfl (Nat.le_of_ble_eq_true rfl) (fun p e s m args below meth c X hr hlk hM ls hl => ?_)
  have hl : lv_has ls 2 [(0, .ref o)] := hl
  have hx := X.1
  have hb := X.2.1
  unfold fX3_readItem at hf
  refine lv_aload_n hx hb dX3_readItem_0 rfl (lv_at hl 0 rfl) ?_
  refine m_get (v := .int (S.1 28)) X hM 28 (by decide) q1002 rfl rfl dX3_readItem_1 ?_
  refine lv_iconst (v := 1) hx hb dX3_readItem_4 (by decide) ?_
  refine lv_icmp_ne (tgt := 15) hx hb dX3_readItem_5 rfl (fun cnd => ?_) (fun cnd => ?_)
  · have hf := ec_t cnd hf
    refine lv_bipush (v := -4) hx hb dX3_readItem_15 (by decide) ?_
    exact bX3_readItem_17 X hr hlk hG S (-4 : Int32) _ _ _ hf hM hl
  · have hf := ec_f (not_not_intro cnd) hf
    refine lv_aload_n hx hb dX3_readItem_8 rfl (lv_at hl 0 rfl) ?_
    obtain ⟨v_7, h, hf⟩ := ec_bi hf
    refine m_cR (v := .int v_7) (As := []) (rest := []) X hM (metX3_nameNow l D o q d dz S _ h) (cwV 0 X.2.2.2.2 gX3_190 rfl rfl rfl hX3_nameNow ⟨Nat.le_of_ble_eq_true rfl, Nat.le_of_ble_eq_true rfl⟩) rfl hl.1 rfl (Nat.le_of_ble_eq_true rfl) ⟨Nat.zero_le _, Nat.zero_le _⟩ dX3_readItem_9 ?_
    refine lv_goto (tgt := 17) hx hb dX3_readItem_12 rfl ?_
    exact bX3_readItem_17 X hr hlk hG S v_7 _ _ _ hf hM hl
theorem hX3_readItem : yX3_readItem.cls = RX3 ∧ yX3_readItem.cls ≠ "java/lang/invoke/MethodHandle" ∧ yX3_readItem.cls ≠ "java/lang/invoke/VarHandle" ∧ (parseMethodDescriptor yX3_readItem.desc).map (fun d => d.parameters.length) = some 0 := by decide +kernel

noncomputable def fX3_dTimes_10 (N : Nat) (S : sM) (kx40 : Int64 → Option Int64) : Nat → Int64 → Int32 → Option Int64
  | 0, _, _ => none
  | n + 1, x2, x4 =>
    if x4 = (-4 : Int32) then (
      kx40 x2)
    else (
      (ec_ag (S.2.2 16) 40 x4).bind fun v_2 =>
      ec_lt (x2 * (v_2.toInt64)) fun x2_3 =>
      (ec_ag (S.2.2 17) 40 x4).bind fun v_4 =>
      (fX3_dTimes_10 N S kx40 n) x2_3 v_4)
theorem bX3_dTimes_10 {N : Nat} (X : CallFix p m c cX3_dTimes 5 s args lw_all RX3) (hr : meth.sig.returnType = (some .long)) (hlk : meth.locks = false) {S : sM} (hM : MW D o q d dz S s s.heap []) {res : Int64} {kx40 : Int64 → Option Int64} (Hkx40 : ∀ (x2 : Int64) (ls : Array Slot), kx40 x2 = some res → lv_has ls 5 [(0, .ref o), (2, .long x2)] → W p l e (rmL 0) s m args below meth c s.heap [] 0 0 (MQ below (k2_QcV (.long res)) args s 0 0 (fun _ => False)) (F0 m 40 ls [])) : ∀ (n : Nat) (x2 : Int64) (x4 : Int32) (ls : Array Slot), fX3_dTimes_10 N S kx40 n x2 x4 = some res → lv_has ls 5 [(0, .ref o), (2, .long x2), (4, .int x4)] → W p l e (rmL 0) s m args below meth c s.heap [] 0 0 (MQ below (k2_QcV (.long res)) args s 0 0 (fun _ => False)) (F0 m 10 ls []) := by
  have hx := X.1
  have hb := X.2.1
  intro n
  induction n with
  | zero =>
    intro x2 x4 ls hf hl
    rw [fX3_dTimes_10] at hf
    cases hf
  | succ n ih =>
    intro x2 x4 ls hf hl
    rw [fX3_dTimes_10] at hf
    refine lv_iload hx hb dX3_dTimes_10 (lv_at hl 2 rfl) ?_
    refine lv_bipush (v := -4) hx hb dX3_dTimes_12 (by decide) ?_
    refine lv_icmp_eq (tgt := 40) hx hb dX3_dTimes_14 rfl (fun cnd => ?_) (fun cnd => ?_)
    · have hf := ec_t cnd hf
      exact Hkx40 x2 _ hf (lv_sub hl [0, 1] rfl)
    · have hf := ec_f cnd hf
      refine lv_lload_n hx hb dX3_dTimes_17 rfl (lv_at hl 1 rfl) ?_
      refine lv_aload_n hx hb dX3_dTimes_18 rfl (lv_at hl 0 rfl) ?_
      refine m_get (v := .ref (q 16)) X hM 16 (by decide) q990 rfl rfl dX3_dTimes_19 ?_
      refine lv_iload hx hb dX3_dTimes_22 (lv_at hl 2 rfl) ?_
      obtain ⟨v_2, h, hf⟩ := ec_bi hf
      refine m_iald X hM wma16 h dX3_dTimes_24 ?_
      refine lv_i2l hx hb dX3_dTimes_25 rfl ?_
      refine lv_lmul hx hb dX3_dTimes_26 ?_
      refine lv_topl (fun x2_3 ex => ?_)
      have hf := ec_lt_i ex hf
      refine lv_lstore_n (lv' := [(2, .long x2_3), (0, .ref o), (4, .int x4)]) hx hb dX3_dTimes_27 rfl hl (by decide) rfl (fun ls hl => ?_)
      refine lv_aload_n hx hb dX3_dTimes_28 rfl (lv_at hl 1 rfl) ?_
      refine m_get (v := .ref (q 17)) X hM 17 (by decide) q991 rfl rfl dX3_dTimes_29 ?_
      refine lv_iload hx hb dX3_dTimes_32 (lv_at hl 2 rfl) ?_
      obtain ⟨v_4, h, hf⟩ := ec_bi hf
      refine m_iald X hM wma17 h dX3_dTimes_34 ?_
      refine lv_istore (lv' := [(4, .int v_4), (2, .long x2_3), (0, .ref o)]) hx hb dX3_dTimes_35 hl (by decide) rfl (fun ls hl => ?_)
      refine lv_goto (tgt := 10) hx hb dX3_dTimes_37 rfl ?_
      exact ih x2_3 v_4 _ hf (lv_sub hl [2, 1, 0] rfl)
noncomputable def fX3_dTimes (N : Nat) (S : sM) (x1 : Int32) : Option Int64 :=
  (ec_ag (S.2.2 14) 16 x1).bind fun v_1 =>
  fX3_dTimes_10 N S (fun x2_5 =>
    some x2_5) N (1 : Int64) v_1
theorem metX3_dTimes (l : Launch) (D : va_G) (o : Nat) (q : Nat → Nat) (d dz : ClassId) (N : Nat) (S : sM) (x1 : Int32) (res : Int64) (hf : fX3_dTimes N S x1 = some res) : Met l yX3_dTimes (ws_ yX3_dTimes cX3_dTimes 5 (some .long)) (rmL 0) (MPre D o q d dz S [.int x1]) (k2_QcV (.long res)) 0 0 (fun _ => False) := by
  refine m_ofR rfl (Nat.le_of_ble_eq_true rfl) (fun p e s m args below meth c X hr hlk hM ls hl => ?_)
  have hl : lv_has ls 5 [(0, .ref o), (1, .int x1)] := hl
  have hx := X.1
  have hb := X.2.1
  unfold fX3_dTimes at hf
  refine lv_lconst (v := 1) hx hb dX3_dTimes_0 (by decide) ?_
  refine lv_lstore_n (lv' := [(2, .long (1 : Int64)), (0, .ref o), (1, .int x1)]) hx hb dX3_dTimes_1 rfl hl (by decide) rfl (fun ls hl => ?_)
  refine lv_aload_n hx hb dX3_dTimes_2 rfl (lv_at hl 1 rfl) ?_
  refine m_get (v := .ref (q 14)) X hM 14 (by decide) q988 rfl rfl dX3_dTimes_3 ?_
  refine lv_iload_n hx hb dX3_dTimes_6 rfl (lv_at hl 2 rfl) ?_
  obtain ⟨v_1, h, hf⟩ := ec_bi hf
  refine m_iald X hM wma14 h dX3_dTimes_7 ?_
  refine lv_istore (lv' := [(4, .int v_1), (2, .long (1 : Int64)), (0, .ref o), (1, .int x1)]) hx hb dX3_dTimes_8 hl (by decide) rfl (fun ls hl => ?_)
  exact bX3_dTimes_10 X hr hlk hM (fun x2_5 ls hf hl => by
    refine lv_lload_n hx hb dX3_dTimes_40 rfl (lv_at hl 1 rfl) ?_
    obtain rfl := Option.some.inj hf
    exact e_lretR hx hb hr hlk dX3_dTimes_41) N (1 : Int64) v_1 _ hf (lv_sub hl [2, 1, 0] rfl)
theorem hX3_dTimes : yX3_dTimes.cls = RX3 ∧ yX3_dTimes.cls ≠ "java/lang/invoke/MethodHandle" ∧ yX3_dTimes.cls ≠ "java/lang/invoke/VarHandle" ∧ (parseMethodDescriptor yX3_dTimes.desc).map (fun d => d.parameters.length) = some 1 := by decide +kernel
end
