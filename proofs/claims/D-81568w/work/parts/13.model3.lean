set_option maxRecDepth 100000
set_option maxHeartbeats 2000000
set_option linter.unusedVariables false
section
variable {p : Program} {l : Launch} {e : Env} {s : State} {m : MethodId} {args : Array Value} {below : List Frame} {meth : Method} {c : Code}
variable {D : va_G} {o : Nat} {q : Nat → Nat} {d dz : ClassId}
theorem gX3_295 : GoodIn lw_all (wsV RX3 295 RX3 yX3_findRounds (ws_ yX3_findRounds cX3_findRounds 6 none)) := lw_V q1342 q1344 qs50 q63 q1345
noncomputable def fX3_rounds_25 (N : Nat) (S : sM) : Option (Int32 × sM) :=
  some ((-1 : Int32), S)
theorem bX3_rounds_25 {N : Nat} (X : CallFix p m c cX3_rounds 3 s args lw_all RX3) (hr : meth.sig.returnType = (some .int)) (hlk : meth.locks = false) (hG : MG o q) {res : Int32} {Sr : sM} : ∀ (S : sM) (H : Heap) (locs : List Loc) (ls : Array Slot), fX3_rounds_25 N S = some (res, Sr) → MW D o q d dz S s H locs → lv_has ls 3 [(0, .ref o)] → W p l e (rmL 3) s m args below meth c H locs 0 0 (MQ below (MPost D o q d dz (some (.int res)) Sr) args s 0 0 (AM o q)) (F0 m 25 ls []) := by
  have hx := X.1
  have hb := X.2.1
  intro S H locs ls hf hM hl
  unfold fX3_rounds_25 at hf
  refine lv_iconst (v := -1) hx hb dX3_rounds_25 (by decide) ?_
  obtain ⟨rfl, rfl⟩ := Prod.mk.inj (Option.some.inj hf)
  exact m_iret X hr hlk hM dX3_rounds_26
noncomputable def fX3_rounds_27 (N : Nat) (S : sM) (x1 : Int32) (x2 : Int32) : Option (Int32 × sM) :=
  (fX3_findRounds N S x1).bind fun S_2 =>
  if ¬ (S_2.1 41) = (-4 : Int32) then (
    if ¬ x2 = 0 then (
      if (S_2.1 41) ≤ (x2 - (10 : Int32)) then (
        some ((-1 : Int32), S_2))
      else (
        (ec_ag (S_2.2.2 42) 8 (x2 - (10 : Int32))).bind fun v_3 =>
        some (v_3, S_2)))
    else (
      some ((S_2.1 41), S_2)))
  else (
    some ((-4 : Int32), S_2))
theorem bX3_rounds_27 {N : Nat} (X : CallFix p m c cX3_rounds 3 s args lw_all RX3) (hr : meth.sig.returnType = (some .int)) (hlk : meth.locks = false) (hG : MG o q) {res : Int32} {Sr : sM} : ∀ (S : sM) (x1 : Int32) (x2 : Int32) (H : Heap) (locs : List Loc) (ls : Array Slot), fX3_rounds_27 N S x1 x2 = some (res, Sr) → MW D o q d dz S s H locs → lv_has ls 3 [(0, .ref o), (1, .int x1), (2, .int x2)] → W p l e (rmL 3) s m args below meth c H locs 0 0 (MQ below (MPost D o q d dz (some (.int res)) Sr) args s 0 0 (AM o q)) (F0 m 27 ls []) := by
  have hx := X.1
  have hb := X.2.1
  intro S x1 x2 H locs ls hf hM hl
  unfold fX3_rounds_27 at hf
  refine lv_aload_n hx hb dX3_rounds_27 rfl (lv_at hl 0 rfl) ?_
  refine lv_iload_n hx hb dX3_rounds_28 rfl (lv_at hl 1 rfl) ?_
  obtain ⟨S_2, h, hf⟩ := ec_bi hf
  refine m_cWv (As := [.int x1]) (rest := []) X hM (metX3_findRounds l D o q d dz hG N S x1 _ h) (cwV 1 X.2.2.2.2 gX3_295 rfl rfl rfl hX3_findRounds ⟨Nat.le_of_ble_eq_true rfl, Nat.le_of_ble_eq_true rfl⟩) rfl hl.1 rfl (Nat.le_of_ble_eq_true rfl) ⟨Nat.zero_le _, Nat.zero_le _⟩ dX3_rounds_29 (fun H locs hM => ?_)
  refine lv_aload_n hx hb dX3_rounds_32 rfl (lv_at hl 0 rfl) ?_
  refine m_get (v := .int (S_2.1 41)) X hM 41 (by decide) q1015 rfl rfl dX3_rounds_33 ?_
  refine lv_bipush (v := -4) hx hb dX3_rounds_36 (by decide) ?_
  refine lv_icmp_ne (tgt := 44) hx hb dX3_rounds_38 rfl (fun cnd => ?_) (fun cnd => ?_)
  · have hf := ec_t cnd hf
    refine lv_iload_n hx hb dX3_rounds_44 rfl (lv_at hl 2 rfl) ?_
    refine lv_if_ne (tgt := 55) hx hb dX3_rounds_45 rfl (fun cnd => ?_) (fun cnd => ?_)
    · have hf := ec_t cnd hf
      refine lv_iload_n hx hb dX3_rounds_55 rfl (lv_at hl 2 rfl) ?_
      refine lv_bipush (v := 10) hx hb dX3_rounds_56 (by decide) ?_
      refine lv_isub hx hb dX3_rounds_58 ?_
      refine lv_aload_n hx hb dX3_rounds_59 rfl (lv_at hl 0 rfl) ?_
      refine m_get (v := .int (S_2.1 41)) X hM 41 (by decide) q1015 rfl rfl dX3_rounds_60 ?_
      refine lv_icmp_ge (tgt := 78) hx hb dX3_rounds_63 rfl (fun cnd => ?_) (fun cnd => ?_)
      · have hf := ec_t cnd hf
        refine lv_iconst (v := -1) hx hb dX3_rounds_78 (by decide) ?_
        obtain ⟨rfl, rfl⟩ := Prod.mk.inj (Option.some.inj hf)
        exact m_iret X hr hlk hM dX3_rounds_79
      · have hf := ec_f cnd hf
        refine lv_aload_n hx hb dX3_rounds_66 rfl (lv_at hl 0 rfl) ?_
        refine m_get (v := .ref (q 42)) X hM 42 (by decide) q1016 rfl rfl dX3_rounds_67 ?_
        refine lv_iload_n hx hb dX3_rounds_70 rfl (lv_at hl 2 rfl) ?_
        refine lv_bipush (v := 10) hx hb dX3_rounds_71 (by decide) ?_
        refine lv_isub hx hb dX3_rounds_73 ?_
        obtain ⟨v_3, h, hf⟩ := ec_bi hf
        refine m_iald X hM wma42 h dX3_rounds_74 ?_
        refine lv_goto (tgt := 79) hx hb dX3_rounds_75 rfl ?_
        obtain ⟨rfl, rfl⟩ := Prod.mk.inj (Option.some.inj hf)
        exact m_iret X hr hlk hM dX3_rounds_79
    · have hf := ec_f (not_not_intro cnd) hf
      refine lv_aload_n hx hb dX3_rounds_48 rfl (lv_at hl 0 rfl) ?_
      refine m_get (v := .int (S_2.1 41)) X hM 41 (by decide) q1015 rfl rfl dX3_rounds_49 ?_
      refine lv_goto (tgt := 79) hx hb dX3_rounds_52 rfl ?_
      obtain ⟨rfl, rfl⟩ := Prod.mk.inj (Option.some.inj hf)
      exact m_iret X hr hlk hM dX3_rounds_79
  · have hf := ec_f (not_not_intro cnd) hf
    refine lv_bipush (v := -4) hx hb dX3_rounds_41 (by decide) ?_
    obtain ⟨rfl, rfl⟩ := Prod.mk.inj (Option.some.inj hf)
    exact m_iret X hr hlk hM dX3_rounds_43
noncomputable def fX3_rounds (N : Nat) (S : sM) (x1 : Int32) (x2 : Int32) : Option (Int32 × sM) :=
  (fX3_areEvents x1).bind fun v_1 =>
  if v_1 = 0 then (
    fX3_rounds_25 N S)
  else (
    if x2 = 0 then (
      fX3_rounds_27 N S x1 x2)
    else (
      (fX3_in (x2.toInt64) (10 : Int64) (17 : Int64)).bind fun v_4 =>
      if ¬ v_4 = 0 then (
        fX3_rounds_27 N S x1 x2)
      else (
        fX3_rounds_25 N S)))
theorem metX3_rounds (l : Launch) (D : va_G) (o : Nat) (q : Nat → Nat) (d dz : ClassId) (hG : MG o q) (N : Nat) (S : sM) (x1 : Int32) (x2 : Int32) (res : Int32) (Sr : sM) (hf : fX3_rounds N S x1 x2 = some (res, Sr)) : Met l yX3_rounds (ws_ yX3_rounds cX3_rounds 3 (some .int)) (rmL 3) (MPre D o q d dz S [.int x1, .int x2]) (MPost D o q d dz (some (.int res)) Sr) 0 0 (AM o q) := by
  refine m_ofW rfl (Nat.le_of_ble_eq_true rfl) (fun p e s m args below meth c X hr hlk hM ls hl => ?_)
  have hl : lv_has ls 3 [(0, .ref o), (1, .int x1), (2, .int x2)] := hl
  have hx := X.1
  have hb := X.2.1
  unfold fX3_rounds at hf
  refine lv_iload_n hx hb dX3_rounds_0 rfl (lv_at hl 1 rfl) ?_
  obtain ⟨v_1, h, hf⟩ := ec_bi hf
  refine e_cS (v := .int v_1) (As := [.int x1]) (rest := []) X (metX3_areEvents l x1 _ h) (va_cwS 1 X.2.2.2.2 gX3_286 rfl rfl rfl hX3_areEvents ⟨Nat.le_of_ble_eq_true rfl, Nat.le_of_ble_eq_true rfl⟩) rfl hl.1 rfl (Nat.le_of_ble_eq_true rfl) ⟨Nat.zero_le _, Nat.zero_le _⟩ dX3_rounds_1 ?_
  refine lv_if_eq (tgt := 25) hx hb dX3_rounds_4 rfl (fun cnd => ?_) (fun cnd => ?_)
  · have hf := ec_t cnd hf
    exact bX3_rounds_25 X hr hlk hG S _ _ _ hf hM (lv_sub hl [0] rfl)
  · have hf := ec_f cnd hf
    refine lv_iload_n hx hb dX3_rounds_7 rfl (lv_at hl 2 rfl) ?_
    refine lv_if_eq (tgt := 27) hx hb dX3_rounds_8 rfl (fun cnd => ?_) (fun cnd => ?_)
    · have hf := ec_t cnd hf
      exact bX3_rounds_27 X hr hlk hG S x1 x2 _ _ _ hf hM hl
    · have hf := ec_f cnd hf
      refine lv_iload_n hx hb dX3_rounds_11 rfl (lv_at hl 2 rfl) ?_
      refine lv_i2l hx hb dX3_rounds_12 rfl ?_
      refine lv_ldc2 (own := RX3) (v := 10) hx hb X.2.2.2.1 (X.2.2.2.2 _ q1241) dX3_rounds_13 ?_
      refine lv_ldc2 (own := RX3) (v := 17) hx hb X.2.2.2.1 (X.2.2.2.2 _ q1242) dX3_rounds_16 ?_
      obtain ⟨v_4, h, hf⟩ := ec_bi hf
      refine e_cS (v := .int v_4) (As := [.long (x2.toInt64), .long (10 : Int64), .long (17 : Int64)]) (rest := []) X (metX3_in l (x2.toInt64) (10 : Int64) (17 : Int64) _ h) (va_cwS 3 X.2.2.2.2 gX3_124 rfl rfl rfl hX3_in ⟨Nat.le_of_ble_eq_true rfl, Nat.le_of_ble_eq_true rfl⟩) rfl hl.1 rfl (Nat.le_of_ble_eq_true rfl) ⟨Nat.zero_le _, Nat.zero_le _⟩ dX3_rounds_19 ?_
      refine lv_if_ne (tgt := 27) hx hb dX3_rounds_22 rfl (fun cnd => ?_) (fun cnd => ?_)
      · have hf := ec_t cnd hf
        exact bX3_rounds_27 X hr hlk hG S x1 x2 _ _ _ hf hM hl
      · have hf := ec_f (not_not_intro cnd) hf
        exact bX3_rounds_25 X hr hlk hG S _ _ _ hf hM (lv_sub hl [0] rfl)
theorem hX3_rounds : yX3_rounds.cls = RX3 ∧ yX3_rounds.cls ≠ "java/lang/invoke/MethodHandle" ∧ yX3_rounds.cls ≠ "java/lang/invoke/VarHandle" ∧ (parseMethodDescriptor yX3_rounds.desc).map (fun d => d.parameters.length) = some 2 := by decide +kernel

noncomputable def fX3_isOf_27 : Option Int32 :=
  some (0 : Int32)
theorem bX3_isOf_27 (X : CallFix p m c cX3_isOf 2 s args lw_all RX3) (hr : meth.sig.returnType = (some .boolean)) (hlk : meth.locks = false) {res : Int32} : ∀ (ls : Array Slot), fX3_isOf_27 = some res → lv_has ls 2 [] → W p l e (rmL 2) s m args below meth c s.heap [] 0 0 (MQ below (k2_QcV (.int res)) args s 0 0 (fun _ => False)) (F0 m 27 ls []) := by
  have hx := X.1
  have hb := X.2.1
  intro ls hf hl
  unfold fX3_isOf_27 at hf
  refine lv_iconst (v := 0) hx hb dX3_isOf_27 (by decide) ?_
  obtain rfl := Option.some.inj hf
  exact e_zretR hx hb hr hlk rfl dX3_isOf_28
noncomputable def fX3_isOf (x0 : Int32) (x1 : Int32) : Option Int32 :=
  (fX3_areEvents x0).bind fun v_1 =>
  if v_1 = 0 then (
    fX3_isOf_27)
  else (
    (fX3_isEvent x1).bind fun v_2 =>
    if v_2 = 0 then (
      fX3_isOf_27)
    else (
      if ¬ ((x0 >>> (x1 &&& 31)) &&& (1 : Int32)) = (1 : Int32) then (
        fX3_isOf_27)
      else (
        some (1 : Int32))))
theorem metX3_isOf (l : Launch) (x0 : Int32) (x1 : Int32) (res : Int32) (hf : fX3_isOf x0 x1 = some res) : Met l yX3_isOf (ws_ yX3_isOf cX3_isOf 2 (some .boolean)) (rmL 2) (PA [.int x0, .int x1]) (k2_QcV (.int res)) 0 0 (fun _ => False) := by
  refine e_ofS (by decide) (Nat.le_of_ble_eq_true rfl) (fun p e s m args below meth c X hr hlk ls hl => ?_)
  have hl : lv_has ls 2 [(0, .int x0), (1, .int x1)] := hl
  have hx := X.1
  have hb := X.2.1
  unfold fX3_isOf at hf
  refine lv_iload_n hx hb dX3_isOf_0 rfl (lv_at hl 0 rfl) ?_
  obtain ⟨v_1, h, hf⟩ := ec_bi hf
  refine e_cS (v := .int v_1) (As := [.int x0]) (rest := []) X (metX3_areEvents l x0 _ h) (va_cwS 1 X.2.2.2.2 gX3_286 rfl rfl rfl hX3_areEvents ⟨Nat.le_of_ble_eq_true rfl, Nat.le_of_ble_eq_true rfl⟩) rfl hl.1 rfl (Nat.le_of_ble_eq_true rfl) ⟨Nat.zero_le _, Nat.zero_le _⟩ dX3_isOf_1 ?_
  refine lv_if_eq (tgt := 27) hx hb dX3_isOf_4 rfl (fun cnd => ?_) (fun cnd => ?_)
  · have hf := ec_t cnd hf
    exact bX3_isOf_27 X hr hlk  _ hf (lv_sub hl [] rfl)
  · have hf := ec_f cnd hf
    refine lv_iload_n hx hb dX3_isOf_7 rfl (lv_at hl 1 rfl) ?_
    obtain ⟨v_2, h, hf⟩ := ec_bi hf
    refine e_cS (v := .int v_2) (As := [.int x1]) (rest := []) X (metX3_isEvent l x1 _ h) (va_cwS 1 X.2.2.2.2 gX3_260 rfl rfl rfl hX3_isEvent ⟨Nat.le_of_ble_eq_true rfl, Nat.le_of_ble_eq_true rfl⟩) rfl hl.1 rfl (Nat.le_of_ble_eq_true rfl) ⟨Nat.zero_le _, Nat.zero_le _⟩ dX3_isOf_8 ?_
    refine lv_if_eq (tgt := 27) hx hb dX3_isOf_11 rfl (fun cnd => ?_) (fun cnd => ?_)
    · have hf := ec_t cnd hf
      exact bX3_isOf_27 X hr hlk  _ hf (lv_sub hl [] rfl)
    · have hf := ec_f cnd hf
      refine lv_iload_n hx hb dX3_isOf_14 rfl (lv_at hl 0 rfl) ?_
      refine lv_iload_n hx hb dX3_isOf_15 rfl (lv_at hl 1 rfl) ?_
      refine lv_ishr hx hb dX3_isOf_16 ?_
      refine lv_iconst (v := 1) hx hb dX3_isOf_17 (by decide) ?_
      refine lv_iand hx hb dX3_isOf_18 ?_
      refine lv_iconst (v := 1) hx hb dX3_isOf_19 (by decide) ?_
      refine lv_icmp_ne (tgt := 27) hx hb dX3_isOf_20 rfl (fun cnd => ?_) (fun cnd => ?_)
      · have hf := ec_t cnd hf
        exact bX3_isOf_27 X hr hlk  _ hf (lv_sub hl [] rfl)
      · have hf := ec_f (not_not_intro cnd) hf
        refine lv_iconst (v := 1) hx hb dX3_isOf_23 (by decide) ?_
        refine lv_goto (tgt := 28) hx hb dX3_isOf_24 rfl ?_
        obtain rfl := Option.some.inj hf
        exact e_zretR hx hb hr hlk rfl dX3_isOf_28
theorem hX3_isOf : yX3_isOf.cls ≠ "java/lang/invoke/MethodHandle" ∧ yX3_isOf.cls ≠ "java/lang/invoke/VarHandle" ∧ (parseMethodDescriptor yX3_isOf.desc).map (fun d => d.parameters.length) = some 2 := by decide +kernel

noncomputable def fX3_countsIn_2 (N : Nat) (kx21 : sM → Int32 → Int32 → Int32 → Option sM) : Nat → sM → Int32 → Int32 → Int32 → Option sM
  | 0, _, _, _, _ => none
  | n + 1, S, x1, x2, x3 =>
    (ec_ag (S.2.2 42) 8 x3).bind fun v_1 =>
    if ¬ ((v_1 >>> (x2 &&& 31)) &&& (1 : Int32)) = 0 then (
      kx21 S x1 x2 x3)
    else (
      ec_lt (x3 + (1 : Int32)) fun x3_2 =>
      (fX3_countsIn_2 N kx21 n) S x1 x2 x3_2)
theorem bX3_countsIn_2 {N : Nat} (X : CallFix p m c cX3_countsIn 6 s args lw_all RX3) (hr : meth.sig.returnType = none) (hlk : meth.locks = false) (hG : MG o q) {Sr : sM} {kx21 : sM → Int32 → Int32 → Int32 → Option sM} (Hkx21 : ∀ (S : sM) (x1 : Int32) (x2 : Int32) (x3 : Int32) (H : Heap) (locs : List Loc) (ls : Array Slot), kx21 S x1 x2 x3 = some Sr → MW D o q d dz S s H locs → lv_has ls 6 [(0, .ref o), (1, .int x1), (2, .int x2), (3, .int x3)] → W p l e (rmL 1) s m args below meth c H locs 0 0 (MQ below (MPost D o q d dz none Sr) args s 0 0 (AM o q)) (F0 m 21 ls [])) : ∀ (n : Nat) (S : sM) (x1 : Int32) (x2 : Int32) (x3 : Int32) (H : Heap) (locs : List Loc) (ls : Array Slot), fX3_countsIn_2 N kx21 n S x1 x2 x3 = some Sr → MW D o q d dz S s H locs → lv_has ls 6 [(0, .ref o), (1, .int x1), (2, .int x2), (3, .int x3)] → W p l e (rmL 1) s m args below meth c H locs 0 0 (MQ below (MPost D o q d dz none Sr) args s 0 0 (AM o q)) (F0 m 2 ls []) := by
  have hx := X.1
  have hb := X.2.1
  intro n
  induction n with
  | zero =>
    intro S x1 x2 x3 H locs ls hf hM hl
    rw [fX3_countsIn_2] at hf
    cases hf
  | succ n ih =>
    intro S x1 x2 x3 H locs ls hf hM hl
    rw [fX3_countsIn_2] at hf
    refine lv_aload_n hx hb dX3_countsIn_2 rfl (lv_at hl 0 rfl) ?_
    refine m_get (v := .ref (q 42)) X hM 42 (by decide) q1016 rfl rfl dX3_countsIn_3 ?_
    refine lv_iload_n hx hb dX3_countsIn_6 rfl (lv_at hl 3 rfl) ?_
    obtain ⟨v_1, h, hf⟩ := ec_bi hf
    refine m_iald X hM wma42 h dX3_countsIn_7 ?_
    refine lv_iload_n hx hb dX3_countsIn_8 rfl (lv_at hl 2 rfl) ?_
    refine lv_ishr hx hb dX3_countsIn_9 ?_
    refine lv_iconst (v := 1) hx hb dX3_countsIn_10 (by decide) ?_
    refine lv_iand hx hb dX3_countsIn_11 ?_
    refine lv_if_ne (tgt := 21) hx hb dX3_countsIn_12 rfl (fun cnd => ?_) (fun cnd => ?_)
    · have hf := ec_t cnd hf
      exact Hkx21 S x1 x2 x3 _ _ _ hf hM hl
    · have hf := ec_f (not_not_intro cnd) hf
      refine e_inc (w := 1) (f := fun v => [(3, .int v), (0, .ref o), (1, .int x1), (2, .int x2)]) hx hb dX3_countsIn_15 hl (k := 3) rfl (by decide) (by decide) (fun _ => rfl) (fun x3_2 ex ls hl => ?_)
      have hf := ec_lt_i ex hf
      refine lv_goto (tgt := 2) hx hb dX3_countsIn_18 rfl ?_
      exact ih S x1 x2 x3_2 _ _ _ hf hM (lv_sub hl [1, 2, 3, 0] rfl)
noncomputable def fX3_countsIn_103 (N : Nat) (k37 : sM → Int32 → Int32 → Int32 → Int32 → Int32 → Option sM) (S : sM) (x1 : Int32) (x2 : Int32) (x3 : Int32) (x4 : Int32) (x5 : Int32) : Option sM :=
  (ec_ag (S.2.2 8) 6000 x5).bind fun v_11 =>
  (ec_ag (S.2.2 1) 16 v_11).bind fun v_12 =>
  ec_lt (x4 + v_12) fun x4_13 =>
  ec_lt (x5 + (1 : Int32)) fun x5_14 =>
  k37 S x1 x2 x3 x4_13 x5_14
theorem bX3_countsIn_103 {N : Nat} (X : CallFix p m c cX3_countsIn 6 s args lw_all RX3) (hr : meth.sig.returnType = none) (hlk : meth.locks = false) (hG : MG o q) {Sr : sM} {k37 : sM → Int32 → Int32 → Int32 → Int32 → Int32 → Option sM} (Hk37 : ∀ (S : sM) (x1 : Int32) (x2 : Int32) (x3 : Int32) (x4 : Int32) (x5 : Int32) (H : Heap) (locs : List Loc) (ls : Array Slot), k37 S x1 x2 x3 x4 x5 = some Sr → MW D o q d dz S s H locs → lv_has ls 6 [(0, .ref o), (1, .int x1), (2, .int x2), (3, .int x3), (4, .int x4), (5, .int x5)] → W p l e (rmL 1) s m args below meth c H locs 0 0 (MQ below (MPost D o q d dz none Sr) args s 0 0 (AM o q)) (F0 m 37 ls [])) : ∀ (S : sM) (x1 : Int32) (x2 : Int32) (x3 : Int32) (x4 : Int32) (x5 : Int32) (H : Heap) (locs : List Loc) (ls : Array Slot), fX3_countsIn_103 N k37 S x1 x2 x3 x4 x5 = some Sr → MW D o q d dz S s H locs → lv_has ls 6 [(0, .ref o), (1, .int x1), (2, .int x2), (3, .int x3), (4, .int x4), (5, .int x5)] → W p l e (rmL 1) s m args below meth c H locs 0 0 (MQ below (MPost D o q d dz none Sr) args s 0 0 (AM o q)) (F0 m 103 ls []) := by
  have hx := X.1
  have hb := X.2.1
  intro S x1 x2 x3 x4 x5 H locs ls hf hM hl
  unfold fX3_countsIn_103 at hf
  refine lv_iload hx hb dX3_countsIn_103 (lv_at hl 4 rfl) ?_
  refine lv_aload_n hx hb dX3_countsIn_105 rfl (lv_at hl 0 rfl) ?_
  refine m_get (v := .ref (q 1)) X hM 1 (by decide) q975 rfl rfl dX3_countsIn_106 ?_
  refine lv_aload_n hx hb dX3_countsIn_109 rfl (lv_at hl 0 rfl) ?_
  refine m_get (v := .ref (q 8)) X hM 8 (by decide) q982 rfl rfl dX3_countsIn_110 ?_
  refine lv_iload hx hb dX3_countsIn_113 (lv_at hl 5 rfl) ?_
  obtain ⟨v_11, h, hf⟩ := ec_bi hf
  refine m_iald X hM wma8 h dX3_countsIn_115 ?_
  obtain ⟨v_12, h, hf⟩ := ec_bi hf
  refine m_iald X hM wma1 h dX3_countsIn_116 ?_
  refine lv_iadd hx hb dX3_countsIn_117 ?_
  refine lv_topi (fun x4_13 ex => ?_)
  have hf := ec_lt_i ex hf
  refine lv_istore (lv' := [(4, .int x4_13), (0, .ref o), (1, .int x1), (2, .int x2), (3, .int x3), (5, .int x5)]) hx hb dX3_countsIn_118 hl (by decide) rfl (fun ls hl => ?_)
  refine e_inc (w := 1) (f := fun v => [(5, .int v), (4, .int x4_13), (0, .ref o), (1, .int x1), (2, .int x2), (3, .int x3)]) hx hb dX3_countsIn_120 hl (k := 5) rfl (by decide) (by decide) (fun _ => rfl) (fun x5_14 ex ls hl => ?_)
  have hf := ec_lt_i ex hf
  refine lv_goto (tgt := 37) hx hb dX3_countsIn_123 rfl ?_
  exact Hk37 S x1 x2 x3 x4_13 x5_14 _ _ _ hf hM (lv_sub hl [2, 3, 4, 5, 1, 0] rfl)
noncomputable def fX3_countsIn_37 (N : Nat) : Nat → sM → Int32 → Int32 → Int32 → Int32 → Int32 → Option sM
  | 0, _, _, _, _, _, _ => none
  | n + 1, S, x1, x2, x3, x4, x5 =>
    if (S.1 7) ≤ x5 then (
      some S)
    else (
      (ec_dv x4 x1).bind fun v_9 =>
      (ec_rm v_9 (S.1 41)).bind fun v_10 =>
      if ¬ v_10 = x3 then (
        fX3_countsIn_103 N (fX3_countsIn_37 N n) S x1 x2 x3 x4 x5)
      else (
        (ec_ag (S.2.2 8) 6000 x5).bind fun v_15 =>
        (fX3_made S v_15 x2).bind fun v_16 =>
        ec_lt (mL S 43 ((S.2.1 43) + (v_16.toInt64))) fun S_17 =>
        (ec_ag (S_17.2.2 8) 6000 x5).bind fun v_18 =>
        (ec_ag (S_17.2.2 1) 16 v_18).bind fun v_19 =>
        ec_lt (mL S_17 44 ((S_17.2.1 44) + (v_19.toInt64))) fun S_20 =>
        fX3_countsIn_103 N (fX3_countsIn_37 N n) S_20 x1 x2 x3 x4 x5))
theorem bX3_countsIn_37 {N : Nat} (X : CallFix p m c cX3_countsIn 6 s args lw_all RX3) (hr : meth.sig.returnType = none) (hlk : meth.locks = false) (hG : MG o q) {Sr : sM} : ∀ (n : Nat) (S : sM) (x1 : Int32) (x2 : Int32) (x3 : Int32) (x4 : Int32) (x5 : Int32) (H : Heap) (locs : List Loc) (ls : Array Slot), fX3_countsIn_37 N n S x1 x2 x3 x4 x5 = some Sr → MW D o q d dz S s H locs → lv_has ls 6 [(0, .ref o), (1, .int x1), (2, .int x2), (3, .int x3), (4, .int x4), (5, .int x5)] → W p l e (rmL 1) s m args below meth c H locs 0 0 (MQ below (MPost D o q d dz none Sr) args s 0 0 (AM o q)) (F0 m 37 ls []) := by
  have hx := X.1
  have hb := X.2.1
  intro n
  induction n with
  | zero =>
    intro S x1 x2 x3 x4 x5 H locs ls hf hM hl
    rw [fX3_countsIn_37] at hf
    cases hf
  | succ n ih =>
    intro S x1 x2 x3 x4 x5 H locs ls hf hM hl
    rw [fX3_countsIn_37] at hf
    refine lv_iload hx hb dX3_countsIn_37 (lv_at hl 5 rfl) ?_
    refine lv_aload_n hx hb dX3_countsIn_39 rfl (lv_at hl 0 rfl) ?_
    refine m_get (v := .int (S.1 7)) X hM 7 (by decide) q981 rfl rfl dX3_countsIn_40 ?_
    refine lv_icmp_ge (tgt := 126) hx hb dX3_countsIn_43 rfl (fun cnd => ?_) (fun cnd => ?_)
    · have hf := ec_t cnd hf
      obtain rfl := Option.some.inj hf
      exact m_vret X hr hlk hM dX3_countsIn_126
    · have hf := ec_f cnd hf
      refine lv_iload hx hb dX3_countsIn_46 (lv_at hl 4 rfl) ?_
      refine lv_iload_n hx hb dX3_countsIn_48 rfl (lv_at hl 1 rfl) ?_
      obtain ⟨v_9, h, hf⟩ := ec_bi hf
      refine e_dv hx hb h dX3_countsIn_49 ?_
      refine lv_aload_n hx hb dX3_countsIn_50 rfl (lv_at hl 0 rfl) ?_
      refine m_get (v := .int (S.1 41)) X hM 41 (by decide) q1015 rfl rfl dX3_countsIn_51 ?_
      obtain ⟨v_10, h, hf⟩ := ec_bi hf
      refine e_rm hx hb h dX3_countsIn_54 ?_
      refine lv_iload_n hx hb dX3_countsIn_55 rfl (lv_at hl 3 rfl) ?_
      refine lv_icmp_ne (tgt := 103) hx hb dX3_countsIn_56 rfl (fun cnd => ?_) (fun cnd => ?_)
      · have hf := ec_t cnd hf
        exact bX3_countsIn_103 X hr hlk hG ih S x1 x2 x3 x4 x5 _ _ _ hf hM hl
      · have hf := ec_f (not_not_intro cnd) hf
        refine lv_aload_n hx hb dX3_countsIn_59 rfl (lv_at hl 0 rfl) ?_
        refine lv_dup hx hb dX3_countsIn_60 rfl ?_
        refine m_get (v := .long (S.2.1 43)) X hM 43 (by decide) q1017 rfl rfl dX3_countsIn_61 ?_
        refine lv_aload_n hx hb dX3_countsIn_64 rfl (lv_at hl 0 rfl) ?_
        refine lv_aload_n hx hb dX3_countsIn_65 rfl (lv_at hl 0 rfl) ?_
        refine m_get (v := .ref (q 8)) X hM 8 (by decide) q982 rfl rfl dX3_countsIn_66 ?_
        refine lv_iload hx hb dX3_countsIn_69 (lv_at hl 5 rfl) ?_
        obtain ⟨v_15, h, hf⟩ := ec_bi hf
        refine m_iald X hM wma8 h dX3_countsIn_71 ?_
        refine lv_iload_n hx hb dX3_countsIn_72 rfl (lv_at hl 2 rfl) ?_
        obtain ⟨v_16, h, hf⟩ := ec_bi hf
        refine m_cR (v := .int v_16) (As := [.int v_15, .int x2]) (rest := [.long (S.2.1 43), .ref o]) X hM (metX3_made l D o q d dz S v_15 x2 _ h) (cwV 2 X.2.2.2.2 gX3_251 rfl rfl rfl hX3_made ⟨Nat.le_of_ble_eq_true rfl, Nat.le_of_ble_eq_true rfl⟩) rfl hl.1 rfl (Nat.le_of_ble_eq_true rfl) ⟨Nat.zero_le _, Nat.zero_le _⟩ dX3_countsIn_73 ?_
        refine lv_i2l hx hb dX3_countsIn_76 rfl ?_
        refine lv_ladd hx hb dX3_countsIn_77 ?_
        refine m_putl X hG hM 43 (by decide) q1017 rfl rfl mfd43 (wml43 _) dX3_countsIn_78 (fun S_17 H locs eS hM => ?_)
        have hf := ec_lt_i eS hf
        refine lv_aload_n hx hb dX3_countsIn_81 rfl (lv_at hl 0 rfl) ?_
        refine lv_dup hx hb dX3_countsIn_82 rfl ?_
        refine m_get (v := .long (S_17.2.1 44)) X hM 44 (by decide) q1018 rfl rfl dX3_countsIn_83 ?_
        refine lv_aload_n hx hb dX3_countsIn_86 rfl (lv_at hl 0 rfl) ?_
        refine m_get (v := .ref (q 1)) X hM 1 (by decide) q975 rfl rfl dX3_countsIn_87 ?_
        refine lv_aload_n hx hb dX3_countsIn_90 rfl (lv_at hl 0 rfl) ?_
        refine m_get (v := .ref (q 8)) X hM 8 (by decide) q982 rfl rfl dX3_countsIn_91 ?_
        refine lv_iload hx hb dX3_countsIn_94 (lv_at hl 5 rfl) ?_
        obtain ⟨v_18, h, hf⟩ := ec_bi hf
        refine m_iald X hM wma8 h dX3_countsIn_96 ?_
        obtain ⟨v_19, h, hf⟩ := ec_bi hf
        refine m_iald X hM wma1 h dX3_countsIn_97 ?_
        refine lv_i2l hx hb dX3_countsIn_98 rfl ?_
        refine lv_ladd hx hb dX3_countsIn_99 ?_
        refine m_putl X hG hM 44 (by decide) q1018 rfl rfl mfd44 (wml44 _) dX3_countsIn_100 (fun S_20 H locs eS hM => ?_)
        have hf := ec_lt_i eS hf
        exact bX3_countsIn_103 X hr hlk hG ih S_20 x1 x2 x3 x4 x5 _ _ _ hf hM hl
noncomputable def fX3_countsIn (N : Nat) (S : sM) (x1 : Int32) (x2 : Int32) : Option sM :=
  fX3_countsIn_2 N (fun S_3 x1_4 x2_5 x3_6 =>
    ec_lt (mL S_3 43 (0 : Int64)) fun S_7 =>
    ec_lt (mL S_7 44 (0 : Int64)) fun S_8 =>
    fX3_countsIn_37 N N S_8 x1_4 x2_5 x3_6 (0 : Int32) (0 : Int32)) N S x1 x2 (0 : Int32)
theorem metX3_countsIn (l : Launch) (D : va_G) (o : Nat) (q : Nat → Nat) (d dz : ClassId) (hG : MG o q) (N : Nat) (S : sM) (x1 : Int32) (x2 : Int32) (Sr : sM) (hf : fX3_countsIn N S x1 x2 = some Sr) : Met l yX3_countsIn (ws_ yX3_countsIn cX3_countsIn 6 none) (rmL 1) (MPre D o q d dz S [.int x1, .int x2]) (MPost D o q d dz none Sr) 0 0 (AM o q) := by
  refine m_ofW rfl (Nat.le_of_ble_eq_true rfl) (fun p e s m args below meth c X hr hlk hM ls hl => ?_)
  have hl : lv_has ls 6 [(0, .ref o), (1, .int x1), (2, .int x2)] := hl
  have hx := X.1
  have hb := X.2.1
  unfold fX3_countsIn at hf
  refine lv_iconst (v := 0) hx hb dX3_countsIn_0 (by decide) ?_
  refine lv_istore_n (lv' := [(3, .int (0 : Int32)), (0, .ref o), (1, .int x1), (2, .int x2)]) hx hb dX3_countsIn_1 rfl hl (by decide) rfl (fun ls hl => ?_)
  exact bX3_countsIn_2 X hr hlk hG (fun S_3 x1_4 x2_5 x3_6 H locs ls hf hM hl => by
    refine lv_aload_n hx hb dX3_countsIn_21 rfl (lv_at hl 0 rfl) ?_
    refine lv_lconst (v := 0) hx hb dX3_countsIn_22 (by decide) ?_
    refine m_putl X hG hM 43 (by decide) q1017 rfl rfl mfd43 (wml43 _) dX3_countsIn_23 (fun S_7 H locs eS hM => ?_)
    have hf := ec_lt_i eS hf
    refine lv_aload_n hx hb dX3_countsIn_26 rfl (lv_at hl 0 rfl) ?_
    refine lv_lconst (v := 0) hx hb dX3_countsIn_27 (by decide) ?_
    refine m_putl X hG hM 44 (by decide) q1018 rfl rfl mfd44 (wml44 _) dX3_countsIn_28 (fun S_8 H locs eS hM => ?_)
    have hf := ec_lt_i eS hf
    refine lv_iconst (v := 0) hx hb dX3_countsIn_31 (by decide) ?_
    refine lv_istore (lv' := [(4, .int (0 : Int32)), (0, .ref o), (1, .int x1_4), (2, .int x2_5), (3, .int x3_6)]) hx hb dX3_countsIn_32 hl (by decide) rfl (fun ls hl => ?_)
    refine lv_iconst (v := 0) hx hb dX3_countsIn_34 (by decide) ?_
    refine lv_istore (lv' := [(5, .int (0 : Int32)), (4, .int (0 : Int32)), (0, .ref o), (1, .int x1_4), (2, .int x2_5), (3, .int x3_6)]) hx hb dX3_countsIn_35 hl (by decide) rfl (fun ls hl => ?_)
    exact bX3_countsIn_37 X hr hlk hG N S_8 x1_4 x2_5 x3_6 (0 : Int32) (0 : Int32) _ _ _ hf hM (lv_sub hl [2, 3, 4, 5, 1, 0] rfl)) N S x1 x2 (0 : Int32) _ _ _ hf hM (lv_sub hl [1, 2, 3, 0] rfl)
theorem hX3_countsIn : yX3_countsIn.cls = RX3 ∧ yX3_countsIn.cls ≠ "java/lang/invoke/MethodHandle" ∧ yX3_countsIn.cls ≠ "java/lang/invoke/VarHandle" ∧ (parseMethodDescriptor yX3_countsIn.desc).map (fun d => d.parameters.length) = some 2 := by decide +kernel

theorem gX3_299 : GoodIn lw_all (wsV RX3 299 RX3 yX3_countsIn (ws_ yX3_countsIn cX3_countsIn 6 none)) := lw_V q1358 q1360 qs52 q63 q1361
noncomputable def fX3_countsBy (N : Nat) (S : sM) (x1 : Int32) (x2 : Int32) (x3 : Int32) : Option (Int32 × sM) :=
  (fX3_findRounds N S x1).bind fun S_1 =>
  if ¬ (S_1.1 41) = (-4 : Int32) then (
    (fX3_countsIn N S_1 x2 x3).bind fun S_2 =>
    some ((1 : Int32), S_2))
  else (
    some ((0 : Int32), S_1))
theorem metX3_countsBy (l : Launch) (D : va_G) (o : Nat) (q : Nat → Nat) (d dz : ClassId) (hG : MG o q) (N : Nat) (S : sM) (x1 : Int32) (x2 : Int32) (x3 : Int32) (res : Int32) (Sr : sM) (hf : fX3_countsBy N S x1 x2 x3 = some (res, Sr)) : Met l yX3_countsBy (ws_ yX3_countsBy cX3_countsBy 4 (some .boolean)) (rmL 3) (MPre D o q d dz S [.int x1, .int x2, .int x3]) (MPost D o q d dz (some (.int res)) Sr) 0 0 (AM o q) := by
  refine m_ofW rfl (Nat.le_of_ble_eq_true rfl) (fun p e s m args below meth c X hr hlk hM ls hl => ?_)
  have hl : lv_has ls 4 [(0, .ref o), (1, .int x1), (2, .int x2), (3, .int x3)] := hl
  have hx := X.1
  have hb := X.2.1
  unfold fX3_countsBy at hf
  refine lv_aload_n hx hb dX3_countsBy_0 rfl (lv_at hl 0 rfl) ?_
  refine lv_iload_n hx hb dX3_countsBy_1 rfl (lv_at hl 1 rfl) ?_
  obtain ⟨S_1, h, hf⟩ := ec_bi hf
  refine m_cWv (As := [.int x1]) (rest := []) X hM (metX3_findRounds l D o q d dz hG N S x1 _ h) (cwV 1 X.2.2.2.2 gX3_295 rfl rfl rfl hX3_findRounds ⟨Nat.le_of_ble_eq_true rfl, Nat.le_of_ble_eq_true rfl⟩) rfl hl.1 rfl (Nat.le_of_ble_eq_true rfl) ⟨Nat.zero_le _, Nat.zero_le _⟩ dX3_countsBy_2 (fun H locs hM => ?_)
  refine lv_aload_n hx hb dX3_countsBy_5 rfl (lv_at hl 0 rfl) ?_
  refine m_get (v := .int (S_1.1 41)) X hM 41 (by decide) q1015 rfl rfl dX3_countsBy_6 ?_
  refine lv_bipush (v := -4) hx hb dX3_countsBy_9 (by decide) ?_
  refine lv_icmp_ne (tgt := 16) hx hb dX3_countsBy_11 rfl (fun cnd => ?_) (fun cnd => ?_)
  · have hf := ec_t cnd hf
    refine lv_aload_n hx hb dX3_countsBy_16 rfl (lv_at hl 0 rfl) ?_
    refine lv_iload_n hx hb dX3_countsBy_17 rfl (lv_at hl 2 rfl) ?_
    refine lv_iload_n hx hb dX3_countsBy_18 rfl (lv_at hl 3 rfl) ?_
    obtain ⟨S_2, h, hf⟩ := ec_bi hf
    refine m_cWv (As := [.int x2, .int x3]) (rest := []) X hM (metX3_countsIn l D o q d dz hG N S_1 x2 x3 _ h) (cwV 2 X.2.2.2.2 gX3_299 rfl rfl rfl hX3_countsIn ⟨Nat.le_of_ble_eq_true rfl, Nat.le_of_ble_eq_true rfl⟩) rfl hl.1 rfl (Nat.le_of_ble_eq_true rfl) ⟨Nat.zero_le _, Nat.zero_le _⟩ dX3_countsBy_19 (fun H locs hM => ?_)
    refine lv_iconst (v := 1) hx hb dX3_countsBy_22 (by decide) ?_
    obtain ⟨rfl, rfl⟩ := Prod.mk.inj (Option.some.inj hf)
    exact m_zret X hr hlk hM rfl dX3_countsBy_23
  · have hf := ec_f (not_not_intro cnd) hf
    refine lv_iconst (v := 0) hx hb dX3_countsBy_14 (by decide) ?_
    obtain ⟨rfl, rfl⟩ := Prod.mk.inj (Option.some.inj hf)
    exact m_zret X hr hlk hM rfl dX3_countsBy_15
theorem hX3_countsBy : yX3_countsBy.cls = RX3 ∧ yX3_countsBy.cls ≠ "java/lang/invoke/MethodHandle" ∧ yX3_countsBy.cls ≠ "java/lang/invoke/VarHandle" ∧ (parseMethodDescriptor yX3_countsBy.desc).map (fun d => d.parameters.length) = some 3 := by decide +kernel

theorem gX3_310 : GoodIn lw_all (va_wsS RX3 310 yX3_isOf (ws_ yX3_isOf cX3_isOf 2 (some .boolean))) := lw_S q1350 q1351 q63 q1352
theorem gX3_315 : GoodIn lw_all (wsV RX3 315 RX3 yX3_countsBy (ws_ yX3_countsBy cX3_countsBy 4 (some .boolean))) := lw_V q1354 q1356 qs51 q63 q1357
noncomputable def fX3_sliced_31 (N : Nat) (S : sM) : Option (Int32 × sM) :=
  some ((-1 : Int32), S)
theorem bX3_sliced_31 {N : Nat} (X : CallFix p m c cX3_sliced 5 s args lw_all RX3) (hr : meth.sig.returnType = (some .int)) (hlk : meth.locks = false) (hG : MG o q) {res : Int32} {Sr : sM} : ∀ (S : sM) (H : Heap) (locs : List Loc) (ls : Array Slot), fX3_sliced_31 N S = some (res, Sr) → MW D o q d dz S s H locs → lv_has ls 5 [(0, .ref o)] → W p l e (rmL 4) s m args below meth c H locs 0 0 (MQ below (MPost D o q d dz (some (.int res)) Sr) args s 0 0 (AM o q)) (F0 m 31 ls []) := by
  have hx := X.1
  have hb := X.2.1
  intro S H locs ls hf hM hl
  unfold fX3_sliced_31 at hf
  refine lv_iconst (v := -1) hx hb dX3_sliced_31 (by decide) ?_
  obtain ⟨rfl, rfl⟩ := Prod.mk.inj (Option.some.inj hf)
  exact m_iret X hr hlk hM dX3_sliced_32
noncomputable def fX3_sliced_64 (N : Nat) (S : sM) (t0 : Int64) : Option (Int32 × sM) :=
  some ((t0.toInt32), S)
theorem bX3_sliced_64 {N : Nat} (X : CallFix p m c cX3_sliced 5 s args lw_all RX3) (hr : meth.sig.returnType = (some .int)) (hlk : meth.locks = false) (hG : MG o q) {res : Int32} {Sr : sM} : ∀ (S : sM) (t0 : Int64) (H : Heap) (locs : List Loc) (ls : Array Slot), fX3_sliced_64 N S t0 = some (res, Sr) → MW D o q d dz S s H locs → lv_has ls 5 [(0, .ref o)] → W p l e (rmL 4) s m args below meth c H locs 0 0 (MQ below (MPost D o q d dz (some (.int res)) Sr) args s 0 0 (AM o q)) (F0 m 64 ls [.long t0]) := by
  have hx := X.1
  have hb := X.2.1
  intro S t0 H locs ls hf hM hl
  unfold fX3_sliced_64 at hf
  refine lv_l2i hx hb dX3_sliced_64 rfl ?_
  obtain ⟨rfl, rfl⟩ := Prod.mk.inj (Option.some.inj hf)
  exact m_iret X hr hlk hM dX3_sliced_65
noncomputable def fX3_sliced (N : Nat) (S : sM) (x1 : Int32) (x2 : Int32) (x3 : Int32) (x4 : Int32) : Option (Int32 × sM) :=
  (fX3_isOf x1 x3).bind fun v_1 =>
  if v_1 = 0 then (
    fX3_sliced_31 N S)
  else (
    (fX3_in (x2.toInt64) (1 : Int64) (999 : Int64)).bind fun v_2 =>
    if v_2 = 0 then (
      fX3_sliced_31 N S)
    else (
      (fX3_in (x4.toInt64) (0 : Int64) (1 : Int64)).bind fun v_3 =>
      if ¬ v_3 = 0 then (
        ec_b2 (fX3_countsBy N S x1 x2 x3) fun v_5 S_4 =>
        if ¬ v_5 = 0 then (
          if ¬ x4 = 0 then (
            fX3_sliced_64 N S_4 (S_4.2.1 44))
          else (
            fX3_sliced_64 N S_4 (S_4.2.1 43)))
        else (
          some ((-4 : Int32), S_4)))
      else (
        fX3_sliced_31 N S)))
theorem metX3_sliced (l : Launch) (D : va_G) (o : Nat) (q : Nat → Nat) (d dz : ClassId) (hG : MG o q) (N : Nat) (S : sM) (x1 : Int32) (x2 : Int32) (x3 : Int32) (x4 : Int32) (res : Int32) (Sr : sM) (hf : fX3_sliced N S x1 x2 x3 x4 = some (res, Sr)) : Met l yX3_sliced (ws_ yX3_sliced cX3_sliced 5 (some .int)) (rmL 4) (MPre D o q d dz S [.int x1, .int x2, .int x3, .int x4]) (MPost D o q d dz (some (.int res)) Sr) 0 0 (AM o q) := by
  refine m_ofW rfl (Nat.le_of_ble_eq_true rfl) (fun p e s m args below meth c X hr hlk hM ls hl => ?_)
  have hl : lv_has ls 5 [(0, .ref o), (1, .int x1), (2, .int x2), (3, .int x3), (4, .int x4)] := hl
  have hx := X.1
  have hb := X.2.1
  unfold fX3_sliced at hf
  refine lv_iload_n hx hb dX3_sliced_0 rfl (lv_at hl 1 rfl) ?_
  refine lv_iload_n hx hb dX3_sliced_1 rfl (lv_at hl 3 rfl) ?_
  obtain ⟨v_1, h, hf⟩ := ec_bi hf
  refine e_cS (v := .int v_1) (As := [.int x1, .int x3]) (rest := []) X (metX3_isOf l x1 x3 _ h) (va_cwS 2 X.2.2.2.2 gX3_310 rfl rfl rfl hX3_isOf ⟨Nat.le_of_ble_eq_true rfl, Nat.le_of_ble_eq_true rfl⟩) rfl hl.1 rfl (Nat.le_of_ble_eq_true rfl) ⟨Nat.zero_le _, Nat.zero_le _⟩ dX3_sliced_2 ?_
  refine lv_if_eq (tgt := 31) hx hb dX3_sliced_5 rfl (fun cnd => ?_) (fun cnd => ?_)
  · have hf := ec_t cnd hf
    exact bX3_sliced_31 X hr hlk hG S _ _ _ hf hM (lv_sub hl [0] rfl)
  · have hf := ec_f cnd hf
    refine lv_iload_n hx hb dX3_sliced_8 rfl (lv_at hl 2 rfl) ?_
    refine lv_i2l hx hb dX3_sliced_9 rfl ?_
    refine lv_lconst (v := 1) hx hb dX3_sliced_10 (by decide) ?_
    refine lv_ldc2 (own := RX3) (v := 999) hx hb X.2.2.2.1 (X.2.2.2.2 _ q1353) dX3_sliced_11 ?_
    obtain ⟨v_2, h, hf⟩ := ec_bi hf
    refine e_cS (v := .int v_2) (As := [.long (x2.toInt64), .long (1 : Int64), .long (999 : Int64)]) (rest := []) X (metX3_in l (x2.toInt64) (1 : Int64) (999 : Int64) _ h) (va_cwS 3 X.2.2.2.2 gX3_124 rfl rfl rfl hX3_in ⟨Nat.le_of_ble_eq_true rfl, Nat.le_of_ble_eq_true rfl⟩) rfl hl.1 rfl (Nat.le_of_ble_eq_true rfl) ⟨Nat.zero_le _, Nat.zero_le _⟩ dX3_sliced_14 ?_
    refine lv_if_eq (tgt := 31) hx hb dX3_sliced_17 rfl (fun cnd => ?_) (fun cnd => ?_)
    · have hf := ec_t cnd hf
      exact bX3_sliced_31 X hr hlk hG S _ _ _ hf hM (lv_sub hl [0] rfl)
    · have hf := ec_f cnd hf
      refine lv_iload hx hb dX3_sliced_20 (lv_at hl 4 rfl) ?_
      refine lv_i2l hx hb dX3_sliced_22 rfl ?_
      refine lv_lconst (v := 0) hx hb dX3_sliced_23 (by decide) ?_
      refine lv_lconst (v := 1) hx hb dX3_sliced_24 (by decide) ?_
      obtain ⟨v_3, h, hf⟩ := ec_bi hf
      refine e_cS (v := .int v_3) (As := [.long (x4.toInt64), .long (0 : Int64), .long (1 : Int64)]) (rest := []) X (metX3_in l (x4.toInt64) (0 : Int64) (1 : Int64) _ h) (va_cwS 3 X.2.2.2.2 gX3_124 rfl rfl rfl hX3_in ⟨Nat.le_of_ble_eq_true rfl, Nat.le_of_ble_eq_true rfl⟩) rfl hl.1 rfl (Nat.le_of_ble_eq_true rfl) ⟨Nat.zero_le _, Nat.zero_le _⟩ dX3_sliced_25 ?_
      refine lv_if_ne (tgt := 33) hx hb dX3_sliced_28 rfl (fun cnd => ?_) (fun cnd => ?_)
      · have hf := ec_t cnd hf
        refine lv_aload_n hx hb dX3_sliced_33 rfl (lv_at hl 0 rfl) ?_
        refine lv_iload_n hx hb dX3_sliced_34 rfl (lv_at hl 1 rfl) ?_
        refine lv_iload_n hx hb dX3_sliced_35 rfl (lv_at hl 2 rfl) ?_
        refine lv_iload_n hx hb dX3_sliced_36 rfl (lv_at hl 3 rfl) ?_
        obtain ⟨v_5, S_4, h, hf⟩ := ec_b2i hf
        refine m_cWi (v := .int v_5) (As := [.int x1, .int x2, .int x3]) (rest := []) X hM (metX3_countsBy l D o q d dz hG N S x1 x2 x3 _ _ h) (cwV 3 X.2.2.2.2 gX3_315 rfl rfl rfl hX3_countsBy ⟨Nat.le_of_ble_eq_true rfl, Nat.le_of_ble_eq_true rfl⟩) rfl hl.1 rfl (Nat.le_of_ble_eq_true rfl) ⟨Nat.zero_le _, Nat.zero_le _⟩ dX3_sliced_37 (fun H locs hM => ?_)
        refine lv_if_ne (tgt := 48) hx hb dX3_sliced_40 rfl (fun cnd => ?_) (fun cnd => ?_)
        · have hf := ec_t cnd hf
          refine lv_iload hx hb dX3_sliced_48 (lv_at hl 4 rfl) ?_
          refine lv_if_ne (tgt := 60) hx hb dX3_sliced_50 rfl (fun cnd => ?_) (fun cnd => ?_)
          · have hf := ec_t cnd hf
            refine lv_aload_n hx hb dX3_sliced_60 rfl (lv_at hl 0 rfl) ?_
            refine m_get (v := .long (S_4.2.1 44)) X hM 44 (by decide) q1018 rfl rfl dX3_sliced_61 ?_
            exact bX3_sliced_64 X hr hlk hG S_4 (S_4.2.1 44) _ _ _ hf hM (lv_sub hl [0] rfl)
          · have hf := ec_f (not_not_intro cnd) hf
            refine lv_aload_n hx hb dX3_sliced_53 rfl (lv_at hl 0 rfl) ?_
            refine m_get (v := .long (S_4.2.1 43)) X hM 43 (by decide) q1017 rfl rfl dX3_sliced_54 ?_
            refine lv_goto (tgt := 64) hx hb dX3_sliced_57 rfl ?_
            exact bX3_sliced_64 X hr hlk hG S_4 (S_4.2.1 43) _ _ _ hf hM (lv_sub hl [0] rfl)
        · have hf := ec_f (not_not_intro cnd) hf
          refine lv_bipush (v := -4) hx hb dX3_sliced_43 (by decide) ?_
          refine lv_goto (tgt := 65) hx hb dX3_sliced_45 rfl ?_
          obtain ⟨rfl, rfl⟩ := Prod.mk.inj (Option.some.inj hf)
          exact m_iret X hr hlk hM dX3_sliced_65
      · have hf := ec_f (not_not_intro cnd) hf
        exact bX3_sliced_31 X hr hlk hG S _ _ _ hf hM (lv_sub hl [0] rfl)
theorem hX3_sliced : yX3_sliced.cls = RX3 ∧ yX3_sliced.cls ≠ "java/lang/invoke/MethodHandle" ∧ yX3_sliced.cls ≠ "java/lang/invoke/VarHandle" ∧ (parseMethodDescriptor yX3_sliced.desc).map (fun d => d.parameters.length) = some 4 := by decide +kernel

noncomputable def fX3_scaled_33 (N : Nat) (S : sM) : Option (Int64 × sM) :=
  some ((-1000000000000 : Int64), S)
theorem bX3_scaled_33 {N : Nat} (X : CallFix p m c cX3_scaled 5 s args lw_all RX3) (hr : meth.sig.returnType = (some .long)) (hlk : meth.locks = false) (hG : MG o q) {res : Int64} {Sr : sM} : ∀ (S : sM) (H : Heap) (locs : List Loc) (ls : Array Slot), fX3_scaled_33 N S = some (res, Sr) → MW D o q d dz S s H locs → lv_has ls 5 [(0, .ref o)] → W p l e (rmL 4) s m args below meth c H locs 0 0 (MQ below (MPost D o q d dz (some (.long res)) Sr) args s 0 0 (AM o q)) (F0 m 33 ls []) := by
  have hx := X.1
  have hb := X.2.1
  intro S H locs ls hf hM hl
  unfold fX3_scaled_33 at hf
  refine lv_ldc2 (own := RX3) (v := -1000000000000) hx hb X.2.2.2.1 (X.2.2.2.2 _ q1367) dX3_scaled_33 ?_
  obtain ⟨rfl, rfl⟩ := Prod.mk.inj (Option.some.inj hf)
  exact m_lret X hr hlk hM dX3_scaled_36
noncomputable def fX3_scaled_56 (N : Nat) (S : sM) : Option (Int64 × sM) :=
  some ((-1000000000004 : Int64), S)
theorem bX3_scaled_56 {N : Nat} (X : CallFix p m c cX3_scaled 5 s args lw_all RX3) (hr : meth.sig.returnType = (some .long)) (hlk : meth.locks = false) (hG : MG o q) {res : Int64} {Sr : sM} : ∀ (S : sM) (H : Heap) (locs : List Loc) (ls : Array Slot), fX3_scaled_56 N S = some (res, Sr) → MW D o q d dz S s H locs → lv_has ls 5 [(0, .ref o)] → W p l e (rmL 4) s m args below meth c H locs 0 0 (MQ below (MPost D o q d dz (some (.long res)) Sr) args s 0 0 (AM o q)) (F0 m 56 ls []) := by
  have hx := X.1
  have hb := X.2.1
  intro S H locs ls hf hM hl
  unfold fX3_scaled_56 at hf
  refine lv_ldc2 (own := RX3) (v := -1000000000004) hx hb X.2.2.2.1 (X.2.2.2.2 _ q1368) dX3_scaled_56 ?_
  obtain ⟨rfl, rfl⟩ := Prod.mk.inj (Option.some.inj hf)
  exact m_lret X hr hlk hM dX3_scaled_59
noncomputable def fX3_scaled_91 (N : Nat) (S : sM) (x4 : Int32) (t0 : Int64) (t1 : Int64) : Option (Int64 × sM) :=
  (ec_rm x4 (2 : Int32)).bind fun v_7 =>
  (fX3_told N (t1 - t0) (S.2.1 44) v_7).bind fun v_8 =>
  some (v_8, S)
theorem bX3_scaled_91 {N : Nat} (X : CallFix p m c cX3_scaled 5 s args lw_all RX3) (hr : meth.sig.returnType = (some .long)) (hlk : meth.locks = false) (hG : MG o q) {res : Int64} {Sr : sM} : ∀ (S : sM) (x4 : Int32) (t0 : Int64) (t1 : Int64) (H : Heap) (locs : List Loc) (ls : Array Slot), fX3_scaled_91 N S x4 t0 t1 = some (res, Sr) → MW D o q d dz S s H locs → lv_has ls 5 [(0, .ref o), (4, .int x4)] → W p l e (rmL 4) s m args below meth c H locs 0 0 (MQ below (MPost D o q d dz (some (.long res)) Sr) args s 0 0 (AM o q)) (F0 m 91 ls [.long t0, .long t1]) := by
  have hx := X.1
  have hb := X.2.1
  intro S x4 t0 t1 H locs ls hf hM hl
  unfold fX3_scaled_91 at hf
  refine lv_lsub hx hb dX3_scaled_91 ?_
  refine lv_aload_n hx hb dX3_scaled_92 rfl (lv_at hl 0 rfl) ?_
  refine m_get (v := .long (S.2.1 44)) X hM 44 (by decide) q1018 rfl rfl dX3_scaled_93 ?_
  refine lv_iload hx hb dX3_scaled_96 (lv_at hl 1 rfl) ?_
  refine lv_iconst (v := 2) hx hb dX3_scaled_98 (by decide) ?_
  obtain ⟨v_7, h, hf⟩ := ec_bi hf
  refine e_rm hx hb h dX3_scaled_99 ?_
  obtain ⟨v_8, h, hf⟩ := ec_bi hf
  refine e_cS (v := .long v_8) (As := [.long (t1 - t0), .long (S.2.1 44), .int v_7]) (rest := []) X (metX3_told l N (t1 - t0) (S.2.1 44) v_7 _ h) (va_cwS 3 X.2.2.2.2 gX3_263 rfl rfl rfl hX3_told ⟨Nat.le_of_ble_eq_true rfl, Nat.le_of_ble_eq_true rfl⟩) rfl hl.1 rfl (Nat.le_of_ble_eq_true rfl) ⟨Nat.zero_le _, Nat.zero_le _⟩ dX3_scaled_100 ?_
  obtain ⟨rfl, rfl⟩ := Prod.mk.inj (Option.some.inj hf)
  exact m_lret X hr hlk hM dX3_scaled_103
noncomputable def fX3_scaled (N : Nat) (S : sM) (x1 : Int32) (x2 : Int32) (x3 : Int32) (x4 : Int32) : Option (Int64 × sM) :=
  (fX3_isOf x1 x3).bind fun v_1 =>
  if v_1 = 0 then (
    fX3_scaled_33 N S)
  else (
    (fX3_in (x2.toInt64) (1 : Int64) (999 : Int64)).bind fun v_2 =>
    if v_2 = 0 then (
      fX3_scaled_33 N S)
    else (
      (fX3_in (x4.toInt64) (0 : Int64) (3 : Int64)).bind fun v_3 =>
      if ¬ v_3 = 0 then (
        ec_b2 (fX3_countsBy N S x1 x2 x3) fun v_5 S_4 =>
        if v_5 = 0 then (
          fX3_scaled_56 N S_4)
        else (
          if ¬ (lg_cmp (S_4.2.1 44) (0 : Int64)) = 0 then (
            if (2 : Int32) ≤ x4 then (
              (fX3_total N S_4 x3).bind fun v_6 =>
              fX3_scaled_91 N S_4 x4 ((v_6.toInt64) * (S_4.2.1 44)) ((S_4.2.1 43) * ((S_4.1 10).toInt64)))
            else (
              fX3_scaled_91 N S_4 x4 (0 : Int64) ((S_4.2.1 43) * ((S_4.1 10).toInt64))))
          else (
            fX3_scaled_56 N S_4)))
      else (
        fX3_scaled_33 N S)))
theorem metX3_scaled (l : Launch) (D : va_G) (o : Nat) (q : Nat → Nat) (d dz : ClassId) (hG : MG o q) (N : Nat) (S : sM) (x1 : Int32) (x2 : Int32) (x3 : Int32) (x4 : Int32) (res : Int64) (Sr : sM) (hf : fX3_scaled N S x1 x2 x3 x4 = some (res, Sr)) : Met l yX3_scaled (ws_ yX3_scaled cX3_scaled 5 (some .long)) (rmL 4) (MPre D o q d dz S [.int x1, .int x2, .int x3, .int x4]) (MPost D o q d dz (some (.long res)) Sr) 0 0 (AM o q) := by
  refine m_ofW rfl (Nat.le_of_ble_eq_true rfl) (fun p e s m args below meth c X hr hlk hM ls hl => ?_)
  have hl : lv_has ls 5 [(0, .ref o), (1, .int x1), (2, .int x2), (3, .int x3), (4, .int x4)] := hl
  have hx := X.1
  have hb := X.2.1
  unfold fX3_scaled at hf
  refine lv_iload_n hx hb dX3_scaled_0 rfl (lv_at hl 1 rfl) ?_
  refine lv_iload_n hx hb dX3_scaled_1 rfl (lv_at hl 3 rfl) ?_
  obtain ⟨v_1, h, hf⟩ := ec_bi hf
  refine e_cS (v := .int v_1) (As := [.int x1, .int x3]) (rest := []) X (metX3_isOf l x1 x3 _ h) (va_cwS 2 X.2.2.2.2 gX3_310 rfl rfl rfl hX3_isOf ⟨Nat.le_of_ble_eq_true rfl, Nat.le_of_ble_eq_true rfl⟩) rfl hl.1 rfl (Nat.le_of_ble_eq_true rfl) ⟨Nat.zero_le _, Nat.zero_le _⟩ dX3_scaled_2 ?_
  refine lv_if_eq (tgt := 33) hx hb dX3_scaled_5 rfl (fun cnd => ?_) (fun cnd => ?_)
  · have hf := ec_t cnd hf
    exact bX3_scaled_33 X hr hlk hG S _ _ _ hf hM (lv_sub hl [0] rfl)
  · have hf := ec_f cnd hf
    refine lv_iload_n hx hb dX3_scaled_8 rfl (lv_at hl 2 rfl) ?_
    refine lv_i2l hx hb dX3_scaled_9 rfl ?_
    refine lv_lconst (v := 1) hx hb dX3_scaled_10 (by decide) ?_
    refine lv_ldc2 (own := RX3) (v := 999) hx hb X.2.2.2.1 (X.2.2.2.2 _ q1353) dX3_scaled_11 ?_
    obtain ⟨v_2, h, hf⟩ := ec_bi hf
    refine e_cS (v := .int v_2) (As := [.long (x2.toInt64), .long (1 : Int64), .long (999 : Int64)]) (rest := []) X (metX3_in l (x2.toInt64) (1 : Int64) (999 : Int64) _ h) (va_cwS 3 X.2.2.2.2 gX3_124 rfl rfl rfl hX3_in ⟨Nat.le_of_ble_eq_true rfl, Nat.le_of_ble_eq_true rfl⟩) rfl hl.1 rfl (Nat.le_of_ble_eq_true rfl) ⟨Nat.zero_le _, Nat.zero_le _⟩ dX3_scaled_14 ?_
    refine lv_if_eq (tgt := 33) hx hb dX3_scaled_17 rfl (fun cnd => ?_) (fun cnd => ?_)
    · have hf := ec_t cnd hf
      exact bX3_scaled_33 X hr hlk hG S _ _ _ hf hM (lv_sub hl [0] rfl)
    · have hf := ec_f cnd hf
      refine lv_iload hx hb dX3_scaled_20 (lv_at hl 4 rfl) ?_
      refine lv_i2l hx hb dX3_scaled_22 rfl ?_
      refine lv_lconst (v := 0) hx hb dX3_scaled_23 (by decide) ?_
      refine lv_ldc2 (own := RX3) (v := 3) hx hb X.2.2.2.1 (X.2.2.2.2 _ q1366) dX3_scaled_24 ?_
      obtain ⟨v_3, h, hf⟩ := ec_bi hf
      refine e_cS (v := .int v_3) (As := [.long (x4.toInt64), .long (0 : Int64), .long (3 : Int64)]) (rest := []) X (metX3_in l (x4.toInt64) (0 : Int64) (3 : Int64) _ h) (va_cwS 3 X.2.2.2.2 gX3_124 rfl rfl rfl hX3_in ⟨Nat.le_of_ble_eq_true rfl, Nat.le_of_ble_eq_true rfl⟩) rfl hl.1 rfl (Nat.le_of_ble_eq_true rfl) ⟨Nat.zero_le _, Nat.zero_le _⟩ dX3_scaled_27 ?_
      refine lv_if_ne (tgt := 37) hx hb dX3_scaled_30 rfl (fun cnd => ?_) (fun cnd => ?_)
      · have hf := ec_t cnd hf
        refine lv_aload_n hx hb dX3_scaled_37 rfl (lv_at hl 0 rfl) ?_
        refine lv_iload_n hx hb dX3_scaled_38 rfl (lv_at hl 1 rfl) ?_
        refine lv_iload_n hx hb dX3_scaled_39 rfl (lv_at hl 2 rfl) ?_
        refine lv_iload_n hx hb dX3_scaled_40 rfl (lv_at hl 3 rfl) ?_
        obtain ⟨v_5, S_4, h, hf⟩ := ec_b2i hf
        refine m_cWi (v := .int v_5) (As := [.int x1, .int x2, .int x3]) (rest := []) X hM (metX3_countsBy l D o q d dz hG N S x1 x2 x3 _ _ h) (cwV 3 X.2.2.2.2 gX3_315 rfl rfl rfl hX3_countsBy ⟨Nat.le_of_ble_eq_true rfl, Nat.le_of_ble_eq_true rfl⟩) rfl hl.1 rfl (Nat.le_of_ble_eq_true rfl) ⟨Nat.zero_le _, Nat.zero_le _⟩ dX3_scaled_41 (fun H locs hM => ?_)
        refine lv_if_eq (tgt := 56) hx hb dX3_scaled_44 rfl (fun cnd => ?_) (fun cnd => ?_)
        · have hf := ec_t cnd hf
          exact bX3_scaled_56 X hr hlk hG S_4 _ _ _ hf hM (lv_sub hl [0] rfl)
        · have hf := ec_f cnd hf
          refine lv_aload_n hx hb dX3_scaled_47 rfl (lv_at hl 0 rfl) ?_
          refine m_get (v := .long (S_4.2.1 44)) X hM 44 (by decide) q1018 rfl rfl dX3_scaled_48 ?_
          refine lv_lconst (v := 0) hx hb dX3_scaled_51 (by decide) ?_
          refine W.lcmp hx hb dX3_scaled_52 ?_
          refine lv_if_ne (tgt := 60) hx hb dX3_scaled_53 rfl (fun cnd => ?_) (fun cnd => ?_)
          · have hf := ec_t cnd hf
            refine lv_aload_n hx hb dX3_scaled_60 rfl (lv_at hl 0 rfl) ?_
            refine m_get (v := .long (S_4.2.1 43)) X hM 43 (by decide) q1017 rfl rfl dX3_scaled_61 ?_
            refine lv_aload_n hx hb dX3_scaled_64 rfl (lv_at hl 0 rfl) ?_
            refine m_get (v := .int (S_4.1 10)) X hM 10 (by decide) q984 rfl rfl dX3_scaled_65 ?_
            refine lv_i2l hx hb dX3_scaled_68 rfl ?_
            refine lv_lmul hx hb dX3_scaled_69 ?_
            refine lv_iload hx hb dX3_scaled_70 (lv_at hl 4 rfl) ?_
            refine lv_iconst (v := 2) hx hb dX3_scaled_72 (by decide) ?_
            refine lv_icmp_ge (tgt := 80) hx hb dX3_scaled_73 rfl (fun cnd => ?_) (fun cnd => ?_)
            · have hf := ec_t cnd hf
              refine lv_aload_n hx hb dX3_scaled_80 rfl (lv_at hl 0 rfl) ?_
              refine lv_iload_n hx hb dX3_scaled_81 rfl (lv_at hl 3 rfl) ?_
              obtain ⟨v_6, h, hf⟩ := ec_bi hf
              refine m_cR (v := .int v_6) (As := [.int x3]) (rest := [.long ((S_4.2.1 43) * ((S_4.1 10).toInt64))]) X hM (metX3_total l D o q d dz N S_4 x3 _ h) (cwV 1 X.2.2.2.2 gX3_257 rfl rfl rfl hX3_total ⟨Nat.le_of_ble_eq_true rfl, Nat.le_of_ble_eq_true rfl⟩) rfl hl.1 rfl (Nat.le_of_ble_eq_true rfl) ⟨Nat.zero_le _, Nat.zero_le _⟩ dX3_scaled_82 ?_
              refine lv_i2l hx hb dX3_scaled_85 rfl ?_
              refine lv_aload_n hx hb dX3_scaled_86 rfl (lv_at hl 0 rfl) ?_
              refine m_get (v := .long (S_4.2.1 44)) X hM 44 (by decide) q1018 rfl rfl dX3_scaled_87 ?_
              refine lv_lmul hx hb dX3_scaled_90 ?_
              exact bX3_scaled_91 X hr hlk hG S_4 x4 ((v_6.toInt64) * (S_4.2.1 44)) ((S_4.2.1 43) * ((S_4.1 10).toInt64)) _ _ _ hf hM (lv_sub hl [0, 4] rfl)
            · have hf := ec_f cnd hf
              refine lv_lconst (v := 0) hx hb dX3_scaled_76 (by decide) ?_
              refine lv_goto (tgt := 91) hx hb dX3_scaled_77 rfl ?_
              exact bX3_scaled_91 X hr hlk hG S_4 x4 (0 : Int64) ((S_4.2.1 43) * ((S_4.1 10).toInt64)) _ _ _ hf hM (lv_sub hl [0, 4] rfl)
          · have hf := ec_f (not_not_intro cnd) hf
            exact bX3_scaled_56 X hr hlk hG S_4 _ _ _ hf hM (lv_sub hl [0] rfl)
      · have hf := ec_f (not_not_intro cnd) hf
        exact bX3_scaled_33 X hr hlk hG S _ _ _ hf hM (lv_sub hl [0] rfl)
theorem hX3_scaled : yX3_scaled.cls = RX3 ∧ yX3_scaled.cls ≠ "java/lang/invoke/MethodHandle" ∧ yX3_scaled.cls ≠ "java/lang/invoke/VarHandle" ∧ (parseMethodDescriptor yX3_scaled.desc).map (fun d => d.parameters.length) = some 4 := by decide +kernel

noncomputable def fX3_finest_43 (N : Nat) (S : sM) : Option (Int32 × sM) :=
  some ((-1 : Int32), S)
theorem bX3_finest_43 {N : Nat} (X : CallFix p m c cX3_finest 14 s args lw_all RX3) (hr : meth.sig.returnType = (some .int)) (hlk : meth.locks = false) (hG : MG o q) {res : Int32} {Sr : sM} : ∀ (S : sM) (H : Heap) (locs : List Loc) (ls : Array Slot), fX3_finest_43 N S = some (res, Sr) → MW D o q d dz S s H locs → lv_has ls 14 [(0, .ref o)] → W p l e (rmL 3) s m args below meth c H locs 0 0 (MQ below (MPost D o q d dz (some (.int res)) Sr) args s 0 0 (AM o q)) (F0 m 43 ls []) := by
  have hx := X.1
  have hb := X.2.1
  intro S H locs ls hf hM hl
  unfold fX3_finest_43 at hf
  refine lv_iconst (v := -1) hx hb dX3_finest_43 (by decide) ?_
  obtain ⟨rfl, rfl⟩ := Prod.mk.inj (Option.some.inj hf)
  exact m_iret X hr hlk hM dX3_finest_44
noncomputable def fX3_finest_195 (N : Nat) (k63 : sM → Int32 → Int32 → Int32 → Int64 → Int64 → Int32 → Option (Int32 × sM)) (S : sM) (x3 : Int32) (x4 : Int32) (x5 : Int32) (x6 : Int64) (x10 : Int32) (t0 : Int64) : Option (Int32 × sM) :=
  ec_lt (x10 + (1 : Int32)) fun x10_8 =>
  k63 S x3 x4 x5 x6 t0 x10_8
theorem bX3_finest_195 {N : Nat} (X : CallFix p m c cX3_finest 14 s args lw_all RX3) (hr : meth.sig.returnType = (some .int)) (hlk : meth.locks = false) (hG : MG o q) {res : Int32} {Sr : sM} {k63 : sM → Int32 → Int32 → Int32 → Int64 → Int64 → Int32 → Option (Int32 × sM)} (Hk63 : ∀ (S : sM) (x3 : Int32) (x4 : Int32) (x5 : Int32) (x6 : Int64) (x8 : Int64) (x10 : Int32) (H : Heap) (locs : List Loc) (ls : Array Slot), k63 S x3 x4 x5 x6 x8 x10 = some (res, Sr) → MW D o q d dz S s H locs → lv_has ls 14 [(0, .ref o), (3, .int x3), (4, .int x4), (5, .int x5), (6, .long x6), (8, .long x8), (10, .int x10)] → W p l e (rmL 3) s m args below meth c H locs 0 0 (MQ below (MPost D o q d dz (some (.int res)) Sr) args s 0 0 (AM o q)) (F0 m 63 ls [])) : ∀ (S : sM) (x3 : Int32) (x4 : Int32) (x5 : Int32) (x6 : Int64) (x10 : Int32) (t0 : Int64) (H : Heap) (locs : List Loc) (ls : Array Slot), fX3_finest_195 N k63 S x3 x4 x5 x6 x10 t0 = some (res, Sr) → MW D o q d dz S s H locs → lv_has ls 14 [(0, .ref o), (3, .int x3), (4, .int x4), (5, .int x5), (6, .long x6), (10, .int x10)] → W p l e (rmL 3) s m args below meth c H locs 0 0 (MQ below (MPost D o q d dz (some (.int res)) Sr) args s 0 0 (AM o q)) (F0 m 195 ls [.long t0]) := by
  have hx := X.1
  have hb := X.2.1
  intro S x3 x4 x5 x6 x10 t0 H locs ls hf hM hl
  unfold fX3_finest_195 at hf
  refine lv_lstore (lv' := [(8, .long t0), (0, .ref o), (3, .int x3), (4, .int x4), (5, .int x5), (6, .long x6), (10, .int x10)]) hx hb dX3_finest_195 hl (by decide) rfl (fun ls hl => ?_)
  refine e_inc (w := 1) (f := fun v => [(10, .int v), (8, .long t0), (0, .ref o), (3, .int x3), (4, .int x4), (5, .int x5), (6, .long x6)]) hx hb dX3_finest_197 hl (k := 6) rfl (by decide) (by decide) (fun _ => rfl) (fun x10_8 ex ls hl => ?_)
  have hf := ec_lt_i ex hf
  refine lv_goto (tgt := 63) hx hb dX3_finest_200 rfl ?_
  exact Hk63 S x3 x4 x5 x6 t0 x10_8 _ _ _ hf hM (lv_sub hl [2, 3, 4, 5, 6, 1, 0] rfl)
noncomputable def fX3_finest_179 (N : Nat) (k63 : sM → Int32 → Int32 → Int32 → Int64 → Int64 → Int32 → Option (Int32 × sM)) (S : sM) (x3 : Int32) (x4 : Int32) (x5 : Int32) (x8 : Int64) (x10 : Int32) (x13 : Int32) (t0 : Int64) : Option (Int32 × sM) :=
  if x13 = 0 then (
    fX3_finest_195 N k63 S x3 x4 x5 t0 x10 x8)
  else (
    fX3_finest_195 N k63 S x3 x4 x5 t0 x10 (S.2.1 44))
theorem bX3_finest_179 {N : Nat} (X : CallFix p m c cX3_finest 14 s args lw_all RX3) (hr : meth.sig.returnType = (some .int)) (hlk : meth.locks = false) (hG : MG o q) {res : Int32} {Sr : sM} {k63 : sM → Int32 → Int32 → Int32 → Int64 → Int64 → Int32 → Option (Int32 × sM)} (Hk63 : ∀ (S : sM) (x3 : Int32) (x4 : Int32) (x5 : Int32) (x6 : Int64) (x8 : Int64) (x10 : Int32) (H : Heap) (locs : List Loc) (ls : Array Slot), k63 S x3 x4 x5 x6 x8 x10 = some (res, Sr) → MW D o q d dz S s H locs → lv_has ls 14 [(0, .ref o), (3, .int x3), (4, .int x4), (5, .int x5), (6, .long x6), (8, .long x8), (10, .int x10)] → W p l e (rmL 3) s m args below meth c H locs 0 0 (MQ below (MPost D o q d dz (some (.int res)) Sr) args s 0 0 (AM o q)) (F0 m 63 ls [])) : ∀ (S : sM) (x3 : Int32) (x4 : Int32) (x5 : Int32) (x8 : Int64) (x10 : Int32) (x13 : Int32) (t0 : Int64) (H : Heap) (locs : List Loc) (ls : Array Slot), fX3_finest_179 N k63 S x3 x4 x5 x8 x10 x13 t0 = some (res, Sr) → MW D o q d dz S s H locs → lv_has ls 14 [(0, .ref o), (3, .int x3), (4, .int x4), (5, .int x5), (8, .long x8), (10, .int x10), (13, .int x13)] → W p l e (rmL 3) s m args below meth c H locs 0 0 (MQ below (MPost D o q d dz (some (.int res)) Sr) args s 0 0 (AM o q)) (F0 m 179 ls [.long t0]) := by
  have hx := X.1
  have hb := X.2.1
  intro S x3 x4 x5 x8 x10 x13 t0 H locs ls hf hM hl
  unfold fX3_finest_179 at hf
  refine lv_lstore (lv' := [(6, .long t0), (0, .ref o), (3, .int x3), (4, .int x4), (5, .int x5), (8, .long x8), (10, .int x10), (13, .int x13)]) hx hb dX3_finest_179 hl (by decide) rfl (fun ls hl => ?_)
  refine lv_iload hx hb dX3_finest_181 (lv_at hl 7 rfl) ?_
  refine lv_if_eq (tgt := 193) hx hb dX3_finest_183 rfl (fun cnd => ?_) (fun cnd => ?_)
  · have hf := ec_t cnd hf
    refine lv_lload hx hb dX3_finest_193 (lv_at hl 5 rfl) ?_
    exact bX3_finest_195 X hr hlk hG Hk63 S x3 x4 x5 t0 x10 x8 _ _ _ hf hM (lv_sub hl [1, 2, 3, 4, 0, 6] rfl)
  · have hf := ec_f cnd hf
    refine lv_aload_n hx hb dX3_finest_186 rfl (lv_at hl 1 rfl) ?_
    refine m_get (v := .long (S.2.1 44)) X hM 44 (by decide) q1018 rfl rfl dX3_finest_187 ?_
    refine lv_goto (tgt := 195) hx hb dX3_finest_190 rfl ?_
    exact bX3_finest_195 X hr hlk hG Hk63 S x3 x4 x5 t0 x10 (S.2.1 44) _ _ _ hf hM (lv_sub hl [1, 2, 3, 4, 0, 6] rfl)
noncomputable def fX3_finest_165 (N : Nat) (k63 : sM → Int32 → Int32 → Int32 → Int64 → Int64 → Int32 → Option (Int32 × sM)) (S : sM) (x3 : Int32) (x4 : Int32) (x6 : Int64) (x8 : Int64) (x10 : Int32) (x11 : Int64) (x13 : Int32) (t0 : Int32) : Option (Int32 × sM) :=
  if x13 = 0 then (
    fX3_finest_179 N k63 S x3 x4 t0 x8 x10 x13 x6)
  else (
    fX3_finest_179 N k63 S x3 x4 t0 x8 x10 x13 x11)
theorem bX3_finest_165 {N : Nat} (X : CallFix p m c cX3_finest 14 s args lw_all RX3) (hr : meth.sig.returnType = (some .int)) (hlk : meth.locks = false) (hG : MG o q) {res : Int32} {Sr : sM} {k63 : sM → Int32 → Int32 → Int32 → Int64 → Int64 → Int32 → Option (Int32 × sM)} (Hk63 : ∀ (S : sM) (x3 : Int32) (x4 : Int32) (x5 : Int32) (x6 : Int64) (x8 : Int64) (x10 : Int32) (H : Heap) (locs : List Loc) (ls : Array Slot), k63 S x3 x4 x5 x6 x8 x10 = some (res, Sr) → MW D o q d dz S s H locs → lv_has ls 14 [(0, .ref o), (3, .int x3), (4, .int x4), (5, .int x5), (6, .long x6), (8, .long x8), (10, .int x10)] → W p l e (rmL 3) s m args below meth c H locs 0 0 (MQ below (MPost D o q d dz (some (.int res)) Sr) args s 0 0 (AM o q)) (F0 m 63 ls [])) : ∀ (S : sM) (x3 : Int32) (x4 : Int32) (x6 : Int64) (x8 : Int64) (x10 : Int32) (x11 : Int64) (x13 : Int32) (t0 : Int32) (H : Heap) (locs : List Loc) (ls : Array Slot), fX3_finest_165 N k63 S x3 x4 x6 x8 x10 x11 x13 t0 = some (res, Sr) → MW D o q d dz S s H locs → lv_has ls 14 [(0, .ref o), (3, .int x3), (4, .int x4), (6, .long x6), (8, .long x8), (10, .int x10), (11, .long x11), (13, .int x13)] → W p l e (rmL 3) s m args below meth c H locs 0 0 (MQ below (MPost D o q d dz (some (.int res)) Sr) args s 0 0 (AM o q)) (F0 m 165 ls [.int t0]) := by
  have hx := X.1
  have hb := X.2.1
  intro S x3 x4 x6 x8 x10 x11 x13 t0 H locs ls hf hM hl
  unfold fX3_finest_165 at hf
  refine lv_istore (lv' := [(5, .int t0), (0, .ref o), (3, .int x3), (4, .int x4), (6, .long x6), (8, .long x8), (10, .int x10), (11, .long x11), (13, .int x13)]) hx hb dX3_finest_165 hl (by decide) rfl (fun ls hl => ?_)
  refine lv_iload hx hb dX3_finest_167 (lv_at hl 8 rfl) ?_
  refine lv_if_eq (tgt := 177) hx hb dX3_finest_169 rfl (fun cnd => ?_) (fun cnd => ?_)
  · have hf := ec_t cnd hf
    refine lv_lload hx hb dX3_finest_177 (lv_at hl 4 rfl) ?_
    exact bX3_finest_179 X hr hlk hG Hk63 S x3 x4 t0 x8 x10 x13 x6 _ _ _ hf hM (lv_sub hl [1, 2, 3, 0, 5, 6, 8] rfl)
  · have hf := ec_f cnd hf
    refine lv_lload hx hb dX3_finest_172 (lv_at hl 7 rfl) ?_
    refine lv_goto (tgt := 179) hx hb dX3_finest_174 rfl ?_
    exact bX3_finest_179 X hr hlk hG Hk63 S x3 x4 t0 x8 x10 x13 x11 _ _ _ hf hM (lv_sub hl [1, 2, 3, 0, 5, 6, 8] rfl)
noncomputable def fX3_finest_151 (N : Nat) (k63 : sM → Int32 → Int32 → Int32 → Int64 → Int64 → Int32 → Option (Int32 × sM)) (S : sM) (x3 : Int32) (x4 : Int32) (x5 : Int32) (x6 : Int64) (x8 : Int64) (x10 : Int32) (x11 : Int64) (t0 : Int32) : Option (Int32 × sM) :=
  if t0 = 0 then (
    fX3_finest_165 N k63 S x3 x4 x6 x8 x10 x11 t0 x5)
  else (
    fX3_finest_165 N k63 S x3 x4 x6 x8 x10 x11 t0 x10)
theorem bX3_finest_151 {N : Nat} (X : CallFix p m c cX3_finest 14 s args lw_all RX3) (hr : meth.sig.returnType = (some .int)) (hlk : meth.locks = false) (hG : MG o q) {res : Int32} {Sr : sM} {k63 : sM → Int32 → Int32 → Int32 → Int64 → Int64 → Int32 → Option (Int32 × sM)} (Hk63 : ∀ (S : sM) (x3 : Int32) (x4 : Int32) (x5 : Int32) (x6 : Int64) (x8 : Int64) (x10 : Int32) (H : Heap) (locs : List Loc) (ls : Array Slot), k63 S x3 x4 x5 x6 x8 x10 = some (res, Sr) → MW D o q d dz S s H locs → lv_has ls 14 [(0, .ref o), (3, .int x3), (4, .int x4), (5, .int x5), (6, .long x6), (8, .long x8), (10, .int x10)] → W p l e (rmL 3) s m args below meth c H locs 0 0 (MQ below (MPost D o q d dz (some (.int res)) Sr) args s 0 0 (AM o q)) (F0 m 63 ls [])) : ∀ (S : sM) (x3 : Int32) (x4 : Int32) (x5 : Int32) (x6 : Int64) (x8 : Int64) (x10 : Int32) (x11 : Int64) (t0 : Int32) (H : Heap) (locs : List Loc) (ls : Array Slot), fX3_finest_151 N k63 S x3 x4 x5 x6 x8 x10 x11 t0 = some (res, Sr) → MW D o q d dz S s H locs → lv_has ls 14 [(0, .ref o), (3, .int x3), (4, .int x4), (5, .int x5), (6, .long x6), (8, .long x8), (10, .int x10), (11, .long x11)] → W p l e (rmL 3) s m args below meth c H locs 0 0 (MQ below (MPost D o q d dz (some (.int res)) Sr) args s 0 0 (AM o q)) (F0 m 151 ls [.int t0]) := by
  have hx := X.1
  have hb := X.2.1
  intro S x3 x4 x5 x6 x8 x10 x11 t0 H locs ls hf hM hl
  unfold fX3_finest_151 at hf
  refine lv_istore (lv' := [(13, .int t0), (0, .ref o), (3, .int x3), (4, .int x4), (5, .int x5), (6, .long x6), (8, .long x8), (10, .int x10), (11, .long x11)]) hx hb dX3_finest_151 hl (by decide) rfl (fun ls hl => ?_)
  refine lv_iload hx hb dX3_finest_153 (lv_at hl 0 rfl) ?_
  refine lv_if_eq (tgt := 163) hx hb dX3_finest_155 rfl (fun cnd => ?_) (fun cnd => ?_)
  · have hf := ec_t cnd hf
    refine lv_iload hx hb dX3_finest_163 (lv_at hl 4 rfl) ?_
    exact bX3_finest_165 X hr hlk hG Hk63 S x3 x4 x6 x8 x10 x11 t0 x5 _ _ _ hf hM (lv_sub hl [1, 2, 3, 5, 6, 7, 8, 0] rfl)
  · have hf := ec_f cnd hf
    refine lv_iload hx hb dX3_finest_158 (lv_at hl 7 rfl) ?_
    refine lv_goto (tgt := 165) hx hb dX3_finest_160 rfl ?_
    exact bX3_finest_165 X hr hlk hG Hk63 S x3 x4 x6 x8 x10 x11 t0 x10 _ _ _ hf hM (lv_sub hl [1, 2, 3, 5, 6, 7, 8, 0] rfl)
noncomputable def fX3_finest_150 (N : Nat) (k63 : sM → Int32 → Int32 → Int32 → Int64 → Int64 → Int32 → Option (Int32 × sM)) (S : sM) (x3 : Int32) (x4 : Int32) (x5 : Int32) (x6 : Int64) (x8 : Int64) (x10 : Int32) (x11 : Int64) : Option (Int32 × sM) :=
  fX3_finest_151 N k63 S x3 x4 x5 x6 x8 x10 x11 (0 : Int32)
theorem bX3_finest_150 {N : Nat} (X : CallFix p m c cX3_finest 14 s args lw_all RX3) (hr : meth.sig.returnType = (some .int)) (hlk : meth.locks = false) (hG : MG o q) {res : Int32} {Sr : sM} {k63 : sM → Int32 → Int32 → Int32 → Int64 → Int64 → Int32 → Option (Int32 × sM)} (Hk63 : ∀ (S : sM) (x3 : Int32) (x4 : Int32) (x5 : Int32) (x6 : Int64) (x8 : Int64) (x10 : Int32) (H : Heap) (locs : List Loc) (ls : Array Slot), k63 S x3 x4 x5 x6 x8 x10 = some (res, Sr) → MW D o q d dz S s H locs → lv_has ls 14 [(0, .ref o), (3, .int x3), (4, .int x4), (5, .int x5), (6, .long x6), (8, .long x8), (10, .int x10)] → W p l e (rmL 3) s m args below meth c H locs 0 0 (MQ below (MPost D o q d dz (some (.int res)) Sr) args s 0 0 (AM o q)) (F0 m 63 ls [])) : ∀ (S : sM) (x3 : Int32) (x4 : Int32) (x5 : Int32) (x6 : Int64) (x8 : Int64) (x10 : Int32) (x11 : Int64) (H : Heap) (locs : List Loc) (ls : Array Slot), fX3_finest_150 N k63 S x3 x4 x5 x6 x8 x10 x11 = some (res, Sr) → MW D o q d dz S s H locs → lv_has ls 14 [(0, .ref o), (3, .int x3), (4, .int x4), (5, .int x5), (6, .long x6), (8, .long x8), (10, .int x10), (11, .long x11)] → W p l e (rmL 3) s m args below meth c H locs 0 0 (MQ below (MPost D o q d dz (some (.int res)) Sr) args s 0 0 (AM o q)) (F0 m 150 ls []) := by
  have hx := X.1
  have hb := X.2.1
  intro S x3 x4 x5 x6 x8 x10 x11 H locs ls hf hM hl
  unfold fX3_finest_150 at hf
  refine lv_iconst (v := 0) hx hb dX3_finest_150 (by decide) ?_
  exact bX3_finest_151 X hr hlk hG Hk63 S x3 x4 x5 x6 x8 x10 x11 (0 : Int32) _ _ _ hf hM hl
noncomputable def fX3_finest_146 (N : Nat) (k63 : sM → Int32 → Int32 → Int32 → Int64 → Int64 → Int32 → Option (Int32 × sM)) (S : sM) (x3 : Int32) (x4 : Int32) (x5 : Int32) (x6 : Int64) (x8 : Int64) (x10 : Int32) (x11 : Int64) : Option (Int32 × sM) :=
  fX3_finest_151 N k63 S x3 x4 x5 x6 x8 x10 x11 (1 : Int32)
theorem bX3_finest_146 {N : Nat} (X : CallFix p m c cX3_finest 14 s args lw_all RX3) (hr : meth.sig.returnType = (some .int)) (hlk : meth.locks = false) (hG : MG o q) {res : Int32} {Sr : sM} {k63 : sM → Int32 → Int32 → Int32 → Int64 → Int64 → Int32 → Option (Int32 × sM)} (Hk63 : ∀ (S : sM) (x3 : Int32) (x4 : Int32) (x5 : Int32) (x6 : Int64) (x8 : Int64) (x10 : Int32) (H : Heap) (locs : List Loc) (ls : Array Slot), k63 S x3 x4 x5 x6 x8 x10 = some (res, Sr) → MW D o q d dz S s H locs → lv_has ls 14 [(0, .ref o), (3, .int x3), (4, .int x4), (5, .int x5), (6, .long x6), (8, .long x8), (10, .int x10)] → W p l e (rmL 3) s m args below meth c H locs 0 0 (MQ below (MPost D o q d dz (some (.int res)) Sr) args s 0 0 (AM o q)) (F0 m 63 ls [])) : ∀ (S : sM) (x3 : Int32) (x4 : Int32) (x5 : Int32) (x6 : Int64) (x8 : Int64) (x10 : Int32) (x11 : Int64) (H : Heap) (locs : List Loc) (ls : Array Slot), fX3_finest_146 N k63 S x3 x4 x5 x6 x8 x10 x11 = some (res, Sr) → MW D o q d dz S s H locs → lv_has ls 14 [(0, .ref o), (3, .int x3), (4, .int x4), (5, .int x5), (6, .long x6), (8, .long x8), (10, .int x10), (11, .long x11)] → W p l e (rmL 3) s m args below meth c H locs 0 0 (MQ below (MPost D o q d dz (some (.int res)) Sr) args s 0 0 (AM o q)) (F0 m 146 ls []) := by
  have hx := X.1
  have hb := X.2.1
  intro S x3 x4 x5 x6 x8 x10 x11 H locs ls hf hM hl
  unfold fX3_finest_146 at hf
  refine lv_iconst (v := 1) hx hb dX3_finest_146 (by decide) ?_
  refine lv_goto (tgt := 151) hx hb dX3_finest_147 rfl ?_
  exact bX3_finest_151 X hr hlk hG Hk63 S x3 x4 x5 x6 x8 x10 x11 (1 : Int32) _ _ _ hf hM hl
noncomputable def fX3_finest_63 (N : Nat) (kx203 : sM → Int32 → Option (Int32 × sM)) : Nat → sM → Int32 → Int32 → Int32 → Int64 → Int64 → Int32 → Option (Int32 × sM)
  | 0, _, _, _, _, _, _, _ => none
  | n + 1, S, x3, x4, x5, x6, x8, x10 =>
    if x3 < x10 then (
      kx203 S x5)
    else (
      if (S.1 41) = (-4 : Int32) then (
        kx203 S x5)
      else (
        (fX3_countsIn N S x10 x4).bind fun S_5 =>
        (fX3_total N S_5 x4).bind fun v_6 =>
        (fX3_size (((S_5.2.1 43) * ((S_5.1 10).toInt64)) - ((v_6.toInt64) * (S_5.2.1 44)))).bind fun v_7 =>
        if (lg_cmp (S_5.2.1 44) (0 : Int64)) ≤ 0 then (
          fX3_finest_150 N (fX3_finest_63 N kx203 n) S_5 x3 x4 x5 x6 x8 x10 v_7)
        else (
          if x5 = (-4 : Int32) then (
            fX3_finest_146 N (fX3_finest_63 N kx203 n) S_5 x3 x4 x5 x6 x8 x10 v_7)
          else (
            if 0 ≤ (lg_cmp (v_7 * x8) (x6 * (S_5.2.1 44))) then (
              fX3_finest_150 N (fX3_finest_63 N kx203 n) S_5 x3 x4 x5 x6 x8 x10 v_7)
            else (
              fX3_finest_146 N (fX3_finest_63 N kx203 n) S_5 x3 x4 x5 x6 x8 x10 v_7)))))
theorem bX3_finest_63 {N : Nat} (X : CallFix p m c cX3_finest 14 s args lw_all RX3) (hr : meth.sig.returnType = (some .int)) (hlk : meth.locks = false) (hG : MG o q) {res : Int32} {Sr : sM} {kx203 : sM → Int32 → Option (Int32 × sM)} (Hkx203 : ∀ (S : sM) (x5 : Int32) (H : Heap) (locs : List Loc) (ls : Array Slot), kx203 S x5 = some (res, Sr) → MW D o q d dz S s H locs → lv_has ls 14 [(0, .ref o), (5, .int x5)] → W p l e (rmL 3) s m args below meth c H locs 0 0 (MQ below (MPost D o q d dz (some (.int res)) Sr) args s 0 0 (AM o q)) (F0 m 203 ls [])) : ∀ (n : Nat) (S : sM) (x3 : Int32) (x4 : Int32) (x5 : Int32) (x6 : Int64) (x8 : Int64) (x10 : Int32) (H : Heap) (locs : List Loc) (ls : Array Slot), fX3_finest_63 N kx203 n S x3 x4 x5 x6 x8 x10 = some (res, Sr) → MW D o q d dz S s H locs → lv_has ls 14 [(0, .ref o), (3, .int x3), (4, .int x4), (5, .int x5), (6, .long x6), (8, .long x8), (10, .int x10)] → W p l e (rmL 3) s m args below meth c H locs 0 0 (MQ below (MPost D o q d dz (some (.int res)) Sr) args s 0 0 (AM o q)) (F0 m 63 ls []) := by
  have hx := X.1
  have hb := X.2.1
  intro n
  induction n with
  | zero =>
    intro S x3 x4 x5 x6 x8 x10 H locs ls hf hM hl
    rw [fX3_finest_63] at hf
    cases hf
  | succ n ih =>
    intro S x3 x4 x5 x6 x8 x10 H locs ls hf hM hl
    rw [fX3_finest_63] at hf
    refine lv_iload hx hb dX3_finest_63 (lv_at hl 6 rfl) ?_
    refine lv_iload_n hx hb dX3_finest_65 rfl (lv_at hl 1 rfl) ?_
    refine lv_icmp_gt (tgt := 203) hx hb dX3_finest_66 rfl (fun cnd => ?_) (fun cnd => ?_)
    · have hf := ec_t cnd hf
      exact Hkx203 S x5 _ _ _ hf hM (lv_sub hl [0, 3] rfl)
    · have hf := ec_f cnd hf
      refine lv_aload_n hx hb dX3_finest_69 rfl (lv_at hl 0 rfl) ?_
      refine m_get (v := .int (S.1 41)) X hM 41 (by decide) q1015 rfl rfl dX3_finest_70 ?_
      refine lv_bipush (v := -4) hx hb dX3_finest_73 (by decide) ?_
      refine lv_icmp_eq (tgt := 203) hx hb dX3_finest_75 rfl (fun cnd => ?_) (fun cnd => ?_)
      · have hf := ec_t cnd hf
        exact Hkx203 S x5 _ _ _ hf hM (lv_sub hl [0, 3] rfl)
      · have hf := ec_f cnd hf
        refine lv_aload_n hx hb dX3_finest_78 rfl (lv_at hl 0 rfl) ?_
        refine lv_iload hx hb dX3_finest_79 (lv_at hl 6 rfl) ?_
        refine lv_iload hx hb dX3_finest_81 (lv_at hl 2 rfl) ?_
        obtain ⟨S_5, h, hf⟩ := ec_bi hf
        refine m_cWv (As := [.int x10, .int x4]) (rest := []) X hM (metX3_countsIn l D o q d dz hG N S x10 x4 _ h) (cwV 2 X.2.2.2.2 gX3_299 rfl rfl rfl hX3_countsIn ⟨Nat.le_of_ble_eq_true rfl, Nat.le_of_ble_eq_true rfl⟩) rfl hl.1 rfl (Nat.le_of_ble_eq_true rfl) ⟨Nat.zero_le _, Nat.zero_le _⟩ dX3_finest_83 (fun H locs hM => ?_)
        refine lv_aload_n hx hb dX3_finest_86 rfl (lv_at hl 0 rfl) ?_
        refine m_get (v := .long (S_5.2.1 43)) X hM 43 (by decide) q1017 rfl rfl dX3_finest_87 ?_
        refine lv_aload_n hx hb dX3_finest_90 rfl (lv_at hl 0 rfl) ?_
        refine m_get (v := .int (S_5.1 10)) X hM 10 (by decide) q984 rfl rfl dX3_finest_91 ?_
        refine lv_i2l hx hb dX3_finest_94 rfl ?_
        refine lv_lmul hx hb dX3_finest_95 ?_
        refine lv_aload_n hx hb dX3_finest_96 rfl (lv_at hl 0 rfl) ?_
        refine lv_iload hx hb dX3_finest_97 (lv_at hl 2 rfl) ?_
        obtain ⟨v_6, h, hf⟩ := ec_bi hf
        refine m_cR (v := .int v_6) (As := [.int x4]) (rest := [.long ((S_5.2.1 43) * ((S_5.1 10).toInt64))]) X hM (metX3_total l D o q d dz N S_5 x4 _ h) (cwV 1 X.2.2.2.2 gX3_257 rfl rfl rfl hX3_total ⟨Nat.le_of_ble_eq_true rfl, Nat.le_of_ble_eq_true rfl⟩) rfl hl.1 rfl (Nat.le_of_ble_eq_true rfl) ⟨Nat.zero_le _, Nat.zero_le _⟩ dX3_finest_99 ?_
        refine lv_i2l hx hb dX3_finest_102 rfl ?_
        refine lv_aload_n hx hb dX3_finest_103 rfl (lv_at hl 0 rfl) ?_
        refine m_get (v := .long (S_5.2.1 44)) X hM 44 (by decide) q1018 rfl rfl dX3_finest_104 ?_
        refine lv_lmul hx hb dX3_finest_107 ?_
        refine lv_lsub hx hb dX3_finest_108 ?_
        obtain ⟨v_7, h, hf⟩ := ec_bi hf
        refine e_cS (v := .long v_7) (As := [.long (((S_5.2.1 43) * ((S_5.1 10).toInt64)) - ((v_6.toInt64) * (S_5.2.1 44)))]) (rest := []) X (metX3_size l (((S_5.2.1 43) * ((S_5.1 10).toInt64)) - ((v_6.toInt64) * (S_5.2.1 44))) _ h) (va_cwS 1 X.2.2.2.2 gX3_111 rfl rfl rfl hX3_size ⟨Nat.le_of_ble_eq_true rfl, Nat.le_of_ble_eq_true rfl⟩) rfl hl.1 rfl (Nat.le_of_ble_eq_true rfl) ⟨Nat.zero_le _, Nat.zero_le _⟩ dX3_finest_109 ?_
        refine lv_lstore (lv' := [(11, .long v_7), (0, .ref o), (3, .int x3), (4, .int x4), (5, .int x5), (6, .long x6), (8, .long x8), (10, .int x10)]) hx hb dX3_finest_112 hl (by decide) rfl (fun ls hl => ?_)
        refine lv_aload_n hx hb dX3_finest_114 rfl (lv_at hl 1 rfl) ?_
        refine m_get (v := .long (S_5.2.1 44)) X hM 44 (by decide) q1018 rfl rfl dX3_finest_115 ?_
        refine lv_lconst (v := 0) hx hb dX3_finest_118 (by decide) ?_
        refine W.lcmp hx hb dX3_finest_119 ?_
        refine lv_if_le (tgt := 150) hx hb dX3_finest_120 rfl (fun cnd => ?_) (fun cnd => ?_)
        · have hf := ec_t cnd hf
          exact bX3_finest_150 X hr hlk hG ih S_5 x3 x4 x5 x6 x8 x10 v_7 _ _ _ hf hM (lv_sub hl [1, 2, 3, 4, 5, 6, 7, 0] rfl)
        · have hf := ec_f cnd hf
          refine lv_iload hx hb dX3_finest_123 (lv_at hl 4 rfl) ?_
          refine lv_bipush (v := -4) hx hb dX3_finest_125 (by decide) ?_
          refine lv_icmp_eq (tgt := 146) hx hb dX3_finest_127 rfl (fun cnd => ?_) (fun cnd => ?_)
          · have hf := ec_t cnd hf
            exact bX3_finest_146 X hr hlk hG ih S_5 x3 x4 x5 x6 x8 x10 v_7 _ _ _ hf hM (lv_sub hl [1, 2, 3, 4, 5, 6, 7, 0] rfl)
          · have hf := ec_f cnd hf
            refine lv_lload hx hb dX3_finest_130 (lv_at hl 0 rfl) ?_
            refine lv_lload hx hb dX3_finest_132 (lv_at hl 6 rfl) ?_
            refine lv_lmul hx hb dX3_finest_134 ?_
            refine lv_lload hx hb dX3_finest_135 (lv_at hl 5 rfl) ?_
            refine lv_aload_n hx hb dX3_finest_137 rfl (lv_at hl 1 rfl) ?_
            refine m_get (v := .long (S_5.2.1 44)) X hM 44 (by decide) q1018 rfl rfl dX3_finest_138 ?_
            refine lv_lmul hx hb dX3_finest_141 ?_
            refine W.lcmp hx hb dX3_finest_142 ?_
            refine lv_if_ge (tgt := 150) hx hb dX3_finest_143 rfl (fun cnd => ?_) (fun cnd => ?_)
            · have hf := ec_t cnd hf
              exact bX3_finest_150 X hr hlk hG ih S_5 x3 x4 x5 x6 x8 x10 v_7 _ _ _ hf hM (lv_sub hl [1, 2, 3, 4, 5, 6, 7, 0] rfl)
            · have hf := ec_f cnd hf
              exact bX3_finest_146 X hr hlk hG ih S_5 x3 x4 x5 x6 x8 x10 v_7 _ _ _ hf hM (lv_sub hl [1, 2, 3, 4, 5, 6, 7, 0] rfl)
noncomputable def fX3_finest_203 (N : Nat) (S : sM) (x5 : Int32) : Option (Int32 × sM) :=
  some (x5, S)
theorem bX3_finest_203 {N : Nat} (X : CallFix p m c cX3_finest 14 s args lw_all RX3) (hr : meth.sig.returnType = (some .int)) (hlk : meth.locks = false) (hG : MG o q) {res : Int32} {Sr : sM} : ∀ (S : sM) (x5 : Int32) (H : Heap) (locs : List Loc) (ls : Array Slot), fX3_finest_203 N S x5 = some (res, Sr) → MW D o q d dz S s H locs → lv_has ls 14 [(0, .ref o), (5, .int x5)] → W p l e (rmL 3) s m args below meth c H locs 0 0 (MQ below (MPost D o q d dz (some (.int res)) Sr) args s 0 0 (AM o q)) (F0 m 203 ls []) := by
  have hx := X.1
  have hb := X.2.1
  intro S x5 H locs ls hf hM hl
  unfold fX3_finest_203 at hf
  refine lv_iload hx hb dX3_finest_203 (lv_at hl 1 rfl) ?_
  obtain ⟨rfl, rfl⟩ := Prod.mk.inj (Option.some.inj hf)
  exact m_iret X hr hlk hM dX3_finest_205
noncomputable def fX3_finest (N : Nat) (S : sM) (x1 : Int32) (x2 : Int32) (x3 : Int32) (x4 : Int32) : Option (Int32 × sM) :=
  (fX3_isOf x1 x4).bind fun v_1 =>
  if v_1 = 0 then (
    fX3_finest_43 N S)
  else (
    (fX3_in (x2.toInt64) (1 : Int64) (999 : Int64)).bind fun v_2 =>
    if v_2 = 0 then (
      fX3_finest_43 N S)
    else (
      (fX3_in (x3.toInt64) (x2.toInt64) (999 : Int64)).bind fun v_3 =>
      if v_3 = 0 then (
        fX3_finest_43 N S)
      else (
        if (x3 - x2) ≤ (199 : Int32) then (
          (fX3_findRounds N S x1).bind fun S_4 =>
          fX3_finest_63 N (fun S_9 x5_10 =>
            fX3_finest_203 N S_9 x5_10) N S_4 x3 x4 (-4 : Int32) (0 : Int64) (1 : Int64) x2)
        else (
          fX3_finest_43 N S))))
theorem metX3_finest (l : Launch) (D : va_G) (o : Nat) (q : Nat → Nat) (d dz : ClassId) (hG : MG o q) (N : Nat) (S : sM) (x1 : Int32) (x2 : Int32) (x3 : Int32) (x4 : Int32) (res : Int32) (Sr : sM) (hf : fX3_finest N S x1 x2 x3 x4 = some (res, Sr)) : Met l yX3_finest (ws_ yX3_finest cX3_finest 14 (some .int)) (rmL 3) (MPre D o q d dz S [.int x1, .int x2, .int x3, .int x4]) (MPost D o q d dz (some (.int res)) Sr) 0 0 (AM o q) := by
  refine m_ofW rfl (Nat.le_of_ble_eq_true rfl) (fun p e s m args below meth c X hr hlk hM ls hl => ?_)
  have hl : lv_has ls 14 [(0, .ref o), (1, .int x1), (2, .int x2), (3, .int x3), (4, .int x4)] := hl
  have hx := X.1
  have hb := X.2.1
  unfold fX3_finest at hf
  refine lv_iload_n hx hb dX3_finest_0 rfl (lv_at hl 1 rfl) ?_
  refine lv_iload hx hb dX3_finest_1 (lv_at hl 4 rfl) ?_
  obtain ⟨v_1, h, hf⟩ := ec_bi hf
  refine e_cS (v := .int v_1) (As := [.int x1, .int x4]) (rest := []) X (metX3_isOf l x1 x4 _ h) (va_cwS 2 X.2.2.2.2 gX3_310 rfl rfl rfl hX3_isOf ⟨Nat.le_of_ble_eq_true rfl, Nat.le_of_ble_eq_true rfl⟩) rfl hl.1 rfl (Nat.le_of_ble_eq_true rfl) ⟨Nat.zero_le _, Nat.zero_le _⟩ dX3_finest_3 ?_
  refine lv_if_eq (tgt := 43) hx hb dX3_finest_6 rfl (fun cnd => ?_) (fun cnd => ?_)
  · have hf := ec_t cnd hf
    exact bX3_finest_43 X hr hlk hG S _ _ _ hf hM (lv_sub hl [0] rfl)
  · have hf := ec_f cnd hf
    refine lv_iload_n hx hb dX3_finest_9 rfl (lv_at hl 2 rfl) ?_
    refine lv_i2l hx hb dX3_finest_10 rfl ?_
    refine lv_lconst (v := 1) hx hb dX3_finest_11 (by decide) ?_
    refine lv_ldc2 (own := RX3) (v := 999) hx hb X.2.2.2.1 (X.2.2.2.2 _ q1353) dX3_finest_12 ?_
    obtain ⟨v_2, h, hf⟩ := ec_bi hf
    refine e_cS (v := .int v_2) (As := [.long (x2.toInt64), .long (1 : Int64), .long (999 : Int64)]) (rest := []) X (metX3_in l (x2.toInt64) (1 : Int64) (999 : Int64) _ h) (va_cwS 3 X.2.2.2.2 gX3_124 rfl rfl rfl hX3_in ⟨Nat.le_of_ble_eq_true rfl, Nat.le_of_ble_eq_true rfl⟩) rfl hl.1 rfl (Nat.le_of_ble_eq_true rfl) ⟨Nat.zero_le _, Nat.zero_le _⟩ dX3_finest_15 ?_
    refine lv_if_eq (tgt := 43) hx hb dX3_finest_18 rfl (fun cnd => ?_) (fun cnd => ?_)
    · have hf := ec_t cnd hf
      exact bX3_finest_43 X hr hlk hG S _ _ _ hf hM (lv_sub hl [0] rfl)
    · have hf := ec_f cnd hf
      refine lv_iload_n hx hb dX3_finest_21 rfl (lv_at hl 3 rfl) ?_
      refine lv_i2l hx hb dX3_finest_22 rfl ?_
      refine lv_iload_n hx hb dX3_finest_23 rfl (lv_at hl 2 rfl) ?_
      refine lv_i2l hx hb dX3_finest_24 rfl ?_
      refine lv_ldc2 (own := RX3) (v := 999) hx hb X.2.2.2.1 (X.2.2.2.2 _ q1353) dX3_finest_25 ?_
      obtain ⟨v_3, h, hf⟩ := ec_bi hf
      refine e_cS (v := .int v_3) (As := [.long (x3.toInt64), .long (x2.toInt64), .long (999 : Int64)]) (rest := []) X (metX3_in l (x3.toInt64) (x2.toInt64) (999 : Int64) _ h) (va_cwS 3 X.2.2.2.2 gX3_124 rfl rfl rfl hX3_in ⟨Nat.le_of_ble_eq_true rfl, Nat.le_of_ble_eq_true rfl⟩) rfl hl.1 rfl (Nat.le_of_ble_eq_true rfl) ⟨Nat.zero_le _, Nat.zero_le _⟩ dX3_finest_28 ?_
      refine lv_if_eq (tgt := 43) hx hb dX3_finest_31 rfl (fun cnd => ?_) (fun cnd => ?_)
      · have hf := ec_t cnd hf
        exact bX3_finest_43 X hr hlk hG S _ _ _ hf hM (lv_sub hl [0] rfl)
      · have hf := ec_f cnd hf
        refine lv_iload_n hx hb dX3_finest_34 rfl (lv_at hl 3 rfl) ?_
        refine lv_iload_n hx hb dX3_finest_35 rfl (lv_at hl 2 rfl) ?_
        refine lv_isub hx hb dX3_finest_36 ?_
        refine lv_sipush (v := 199) hx hb dX3_finest_37 (by decide) ?_
        refine lv_icmp_le (tgt := 45) hx hb dX3_finest_40 rfl (fun cnd => ?_) (fun cnd => ?_)
        · have hf := ec_t cnd hf
          refine lv_bipush (v := -4) hx hb dX3_finest_45 (by decide) ?_
          refine lv_istore (lv' := [(5, .int (-4 : Int32)), (0, .ref o), (1, .int x1), (2, .int x2), (3, .int x3), (4, .int x4)]) hx hb dX3_finest_47 hl (by decide) rfl (fun ls hl => ?_)
          refine lv_lconst (v := 0) hx hb dX3_finest_49 (by decide) ?_
          refine lv_lstore (lv' := [(6, .long (0 : Int64)), (5, .int (-4 : Int32)), (0, .ref o), (1, .int x1), (2, .int x2), (3, .int x3), (4, .int x4)]) hx hb dX3_finest_50 hl (by decide) rfl (fun ls hl => ?_)
          refine lv_lconst (v := 1) hx hb dX3_finest_52 (by decide) ?_
          refine lv_lstore (lv' := [(8, .long (1 : Int64)), (6, .long (0 : Int64)), (5, .int (-4 : Int32)), (0, .ref o), (1, .int x1), (2, .int x2), (3, .int x3), (4, .int x4)]) hx hb dX3_finest_53 hl (by decide) rfl (fun ls hl => ?_)
          refine lv_aload_n hx hb dX3_finest_55 rfl (lv_at hl 3 rfl) ?_
          refine lv_iload_n hx hb dX3_finest_56 rfl (lv_at hl 4 rfl) ?_
          obtain ⟨S_4, h, hf⟩ := ec_bi hf
          refine m_cWv (As := [.int x1]) (rest := []) X hM (metX3_findRounds l D o q d dz hG N S x1 _ h) (cwV 1 X.2.2.2.2 gX3_295 rfl rfl rfl hX3_findRounds ⟨Nat.le_of_ble_eq_true rfl, Nat.le_of_ble_eq_true rfl⟩) rfl hl.1 rfl (Nat.le_of_ble_eq_true rfl) ⟨Nat.zero_le _, Nat.zero_le _⟩ dX3_finest_57 (fun H locs hM => ?_)
          refine lv_iload_n hx hb dX3_finest_60 rfl (lv_at hl 5 rfl) ?_
          refine lv_istore (lv' := [(10, .int x2), (8, .long (1 : Int64)), (6, .long (0 : Int64)), (5, .int (-4 : Int32)), (0, .ref o), (1, .int x1), (2, .int x2), (3, .int x3), (4, .int x4)]) hx hb dX3_finest_61 hl (by decide) rfl (fun ls hl => ?_)
          exact bX3_finest_63 X hr hlk hG (fun S_9 x5_10 H locs ls hf hM hl => by
            exact bX3_finest_203 X hr hlk hG S_9 x5_10 _ _ _ hf hM hl) N S_4 x3 x4 (-4 : Int32) (0 : Int64) (1 : Int64) x2 _ _ _ hf hM (lv_sub hl [4, 7, 8, 3, 2, 1, 0] rfl)
        · have hf := ec_f cnd hf
          exact bX3_finest_43 X hr hlk hG S _ _ _ hf hM (lv_sub hl [0] rfl)
theorem hX3_finest : yX3_finest.cls = RX3 ∧ yX3_finest.cls ≠ "java/lang/invoke/MethodHandle" ∧ yX3_finest.cls ≠ "java/lang/invoke/VarHandle" ∧ (parseMethodDescriptor yX3_finest.desc).map (fun d => d.parameters.length) = some 4 := by decide +kernel

noncomputable def fX3_isSampling_48 : Option Int32 :=
  some (0 : Int32)
theorem bX3_isSampling_48 (X : CallFix p m c cX3_isSampling 4 s args lw_all RX3) (hr : meth.sig.returnType = (some .boolean)) (hlk : meth.locks = false) {res : Int32} : ∀ (ls : Array Slot), fX3_isSampling_48 = some res → lv_has ls 4 [] → W p l e (rmL 2) s m args below meth c s.heap [] 0 0 (MQ below (k2_QcV (.int res)) args s 0 0 (fun _ => False)) (F0 m 48 ls []) := by
  have hx := X.1
  have hb := X.2.1
  intro ls hf hl
  unfold fX3_isSampling_48 at hf
  refine lv_iconst (v := 0) hx hb dX3_isSampling_48 (by decide) ?_
  obtain rfl := Option.some.inj hf
  exact e_zretR hx hb hr hlk rfl dX3_isSampling_49
noncomputable def fX3_isSampling (x0 : Int32) (x1 : Int32) (x2 : Int32) (x3 : Int32) : Option Int32 :=
  (fX3_isEvent x0).bind fun v_1 =>
  if v_1 = 0 then (
    fX3_isSampling_48)
  else (
    (fX3_in (x1.toInt64) (1 : Int64) (9999 : Int64)).bind fun v_2 =>
    if v_2 = 0 then (
      fX3_isSampling_48)
    else (
      (fX3_in (x2.toInt64) (0 : Int64) ((x1 - (1 : Int32)).toInt64)).bind fun v_3 =>
      if v_3 = 0 then (
        fX3_isSampling_48)
      else (
        (fX3_in (x3.toInt64) (0 : Int64) (9 : Int64)).bind fun v_4 =>
        if v_4 = 0 then (
          fX3_isSampling_48)
        else (
          some (1 : Int32)))))
theorem metX3_isSampling (l : Launch) (x0 : Int32) (x1 : Int32) (x2 : Int32) (x3 : Int32) (res : Int32) (hf : fX3_isSampling x0 x1 x2 x3 = some res) : Met l yX3_isSampling (ws_ yX3_isSampling cX3_isSampling 4 (some .boolean)) (rmL 2) (PA [.int x0, .int x1, .int x2, .int x3]) (k2_QcV (.int res)) 0 0 (fun _ => False) := by
  refine e_ofS (by decide) (Nat.le_of_ble_eq_true rfl) (fun p e s m args below meth c X hr hlk ls hl => ?_)
  have hl : lv_has ls 4 [(0, .int x0), (1, .int x1), (2, .int x2), (3, .int x3)] := hl
  have hx := X.1
  have hb := X.2.1
  unfold fX3_isSampling at hf
  refine lv_iload_n hx hb dX3_isSampling_0 rfl (lv_at hl 0 rfl) ?_
  obtain ⟨v_1, h, hf⟩ := ec_bi hf
  refine e_cS (v := .int v_1) (As := [.int x0]) (rest := []) X (metX3_isEvent l x0 _ h) (va_cwS 1 X.2.2.2.2 gX3_260 rfl rfl rfl hX3_isEvent ⟨Nat.le_of_ble_eq_true rfl, Nat.le_of_ble_eq_true rfl⟩) rfl hl.1 rfl (Nat.le_of_ble_eq_true rfl) ⟨Nat.zero_le _, Nat.zero_le _⟩ dX3_isSampling_1 ?_
  refine lv_if_eq (tgt := 48) hx hb dX3_isSampling_4 rfl (fun cnd => ?_) (fun cnd => ?_)
  · have hf := ec_t cnd hf
    exact bX3_isSampling_48 X hr hlk  _ hf (lv_sub hl [] rfl)
  · have hf := ec_f cnd hf
    refine lv_iload_n hx hb dX3_isSampling_7 rfl (lv_at hl 1 rfl) ?_
    refine lv_i2l hx hb dX3_isSampling_8 rfl ?_
    refine lv_lconst (v := 1) hx hb dX3_isSampling_9 (by decide) ?_
    refine lv_ldc2 (own := RX3) (v := 9999) hx hb X.2.2.2.1 (X.2.2.2.2 _ q1380) dX3_isSampling_10 ?_
    obtain ⟨v_2, h, hf⟩ := ec_bi hf
    refine e_cS (v := .int v_2) (As := [.long (x1.toInt64), .long (1 : Int64), .long (9999 : Int64)]) (rest := []) X (metX3_in l (x1.toInt64) (1 : Int64) (9999 : Int64) _ h) (va_cwS 3 X.2.2.2.2 gX3_124 rfl rfl rfl hX3_in ⟨Nat.le_of_ble_eq_true rfl, Nat.le_of_ble_eq_true rfl⟩) rfl hl.1 rfl (Nat.le_of_ble_eq_true rfl) ⟨Nat.zero_le _, Nat.zero_le _⟩ dX3_isSampling_13 ?_
    refine lv_if_eq (tgt := 48) hx hb dX3_isSampling_16 rfl (fun cnd => ?_) (fun cnd => ?_)
    · have hf := ec_t cnd hf
      exact bX3_isSampling_48 X hr hlk  _ hf (lv_sub hl [] rfl)
    · have hf := ec_f cnd hf
      refine lv_iload_n hx hb dX3_isSampling_19 rfl (lv_at hl 2 rfl) ?_
      refine lv_i2l hx hb dX3_isSampling_20 rfl ?_
      refine lv_lconst (v := 0) hx hb dX3_isSampling_21 (by decide) ?_
      refine lv_iload_n hx hb dX3_isSampling_22 rfl (lv_at hl 1 rfl) ?_
      refine lv_iconst (v := 1) hx hb dX3_isSampling_23 (by decide) ?_
      refine lv_isub hx hb dX3_isSampling_24 ?_
      refine lv_i2l hx hb dX3_isSampling_25 rfl ?_
      obtain ⟨v_3, h, hf⟩ := ec_bi hf
      refine e_cS (v := .int v_3) (As := [.long (x2.toInt64), .long (0 : Int64), .long ((x1 - (1 : Int32)).toInt64)]) (rest := []) X (metX3_in l (x2.toInt64) (0 : Int64) ((x1 - (1 : Int32)).toInt64) _ h) (va_cwS 3 X.2.2.2.2 gX3_124 rfl rfl rfl hX3_in ⟨Nat.le_of_ble_eq_true rfl, Nat.le_of_ble_eq_true rfl⟩) rfl hl.1 rfl (Nat.le_of_ble_eq_true rfl) ⟨Nat.zero_le _, Nat.zero_le _⟩ dX3_isSampling_26 ?_
      refine lv_if_eq (tgt := 48) hx hb dX3_isSampling_29 rfl (fun cnd => ?_) (fun cnd => ?_)
      · have hf := ec_t cnd hf
        exact bX3_isSampling_48 X hr hlk  _ hf (lv_sub hl [] rfl)
      · have hf := ec_f cnd hf
        refine lv_iload_n hx hb dX3_isSampling_32 rfl (lv_at hl 3 rfl) ?_
        refine lv_i2l hx hb dX3_isSampling_33 rfl ?_
        refine lv_lconst (v := 0) hx hb dX3_isSampling_34 (by decide) ?_
        refine lv_ldc2 (own := RX3) (v := 9) hx hb X.2.2.2.1 (X.2.2.2.2 _ q1381) dX3_isSampling_35 ?_
        obtain ⟨v_4, h, hf⟩ := ec_bi hf
        refine e_cS (v := .int v_4) (As := [.long (x3.toInt64), .long (0 : Int64), .long (9 : Int64)]) (rest := []) X (metX3_in l (x3.toInt64) (0 : Int64) (9 : Int64) _ h) (va_cwS 3 X.2.2.2.2 gX3_124 rfl rfl rfl hX3_in ⟨Nat.le_of_ble_eq_true rfl, Nat.le_of_ble_eq_true rfl⟩) rfl hl.1 rfl (Nat.le_of_ble_eq_true rfl) ⟨Nat.zero_le _, Nat.zero_le _⟩ dX3_isSampling_38 ?_
        refine lv_if_eq (tgt := 48) hx hb dX3_isSampling_41 rfl (fun cnd => ?_) (fun cnd => ?_)
        · have hf := ec_t cnd hf
          exact bX3_isSampling_48 X hr hlk  _ hf (lv_sub hl [] rfl)
        · have hf := ec_f cnd hf
          refine lv_iconst (v := 1) hx hb dX3_isSampling_44 (by decide) ?_
          refine lv_goto (tgt := 49) hx hb dX3_isSampling_45 rfl ?_
          obtain rfl := Option.some.inj hf
          exact e_zretR hx hb hr hlk rfl dX3_isSampling_49
theorem hX3_isSampling : yX3_isSampling.cls ≠ "java/lang/invoke/MethodHandle" ∧ yX3_isSampling.cls ≠ "java/lang/invoke/VarHandle" ∧ (parseMethodDescriptor yX3_isSampling.desc).map (fun d => d.parameters.length) = some 4 := by decide +kernel

noncomputable def fX3_findSamples_13 (N : Nat) (kx34 : sM → Int32 → Int32 → Int32 → Int32 → Option sM) : Nat → sM → Int32 → Int32 → Int32 → Int32 → Int32 → Option sM
  | 0, _, _, _, _, _, _ => none
  | n + 1, S, x1, x2, x3, x4, x5 =>
    if (16 : Int32) ≤ x5 then (
      kx34 S x1 x2 x3 x4)
    else (
      (ec_as S 47 16 x5 (0 : Int32)).bind fun S_3 =>
      ec_lt (x5 + (1 : Int32)) fun x5_4 =>
      (fX3_findSamples_13 N kx34 n) S_3 x1 x2 x3 x4 x5_4)
theorem bX3_findSamples_13 {N : Nat} (X : CallFix p m c cX3_findSamples 8 s args lw_all RX3) (hr : meth.sig.returnType = none) (hlk : meth.locks = false) (hG : MG o q) {Sr : sM} {kx34 : sM → Int32 → Int32 → Int32 → Int32 → Option sM} (Hkx34 : ∀ (S : sM) (x1 : Int32) (x2 : Int32) (x3 : Int32) (x4 : Int32) (H : Heap) (locs : List Loc) (ls : Array Slot), kx34 S x1 x2 x3 x4 = some Sr → MW D o q d dz S s H locs → lv_has ls 8 [(0, .ref o), (1, .int x1), (2, .int x2), (3, .int x3), (4, .int x4)] → W p l e (rmL 1) s m args below meth c H locs 0 0 (MQ below (MPost D o q d dz none Sr) args s 0 0 (AM o q)) (F0 m 34 ls [])) : ∀ (n : Nat) (S : sM) (x1 : Int32) (x2 : Int32) (x3 : Int32) (x4 : Int32) (x5 : Int32) (H : Heap) (locs : List Loc) (ls : Array Slot), fX3_findSamples_13 N kx34 n S x1 x2 x3 x4 x5 = some Sr → MW D o q d dz S s H locs → lv_has ls 8 [(0, .ref o), (1, .int x1), (2, .int x2), (3, .int x3), (4, .int x4), (5, .int x5)] → W p l e (rmL 1) s m args below meth c H locs 0 0 (MQ below (MPost D o q d dz none Sr) args s 0 0 (AM o q)) (F0 m 13 ls []) := by
  have hx := X.1
  have hb := X.2.1
  intro n
  induction n with
  | zero =>
    intro S x1 x2 x3 x4 x5 H locs ls hf hM hl
    rw [fX3_findSamples_13] at hf
    cases hf
  | succ n ih =>
    intro S x1 x2 x3 x4 x5 H locs ls hf hM hl
    rw [fX3_findSamples_13] at hf
    refine lv_iload hx hb dX3_findSamples_13 (lv_at hl 5 rfl) ?_
    refine lv_bipush (v := 16) hx hb dX3_findSamples_15 (by decide) ?_
    refine lv_icmp_ge (tgt := 34) hx hb dX3_findSamples_17 rfl (fun cnd => ?_) (fun cnd => ?_)
    · have hf := ec_t cnd hf
      exact Hkx34 S x1 x2 x3 x4 _ _ _ hf hM (lv_sub hl [0, 1, 2, 3, 4] rfl)
    · have hf := ec_f cnd hf
      refine lv_aload_n hx hb dX3_findSamples_20 rfl (lv_at hl 0 rfl) ?_
      refine m_get (v := .ref (q 47)) X hM 47 (by decide) q1021 rfl rfl dX3_findSamples_21 ?_
      refine lv_iload hx hb dX3_findSamples_24 (lv_at hl 5 rfl) ?_
      refine lv_iconst (v := 0) hx hb dX3_findSamples_26 (by decide) ?_
      obtain ⟨S_3, h, hf⟩ := ec_bi hf
      refine m_iast X hG hM wma47 wms47 h dX3_findSamples_27 (fun H locs hM => ?_)
      refine e_inc (w := 1) (f := fun v => [(5, .int v), (0, .ref o), (1, .int x1), (2, .int x2), (3, .int x3), (4, .int x4)]) hx hb dX3_findSamples_28 hl (k := 5) rfl (by decide) (by decide) (fun _ => rfl) (fun x5_4 ex ls hl => ?_)
      have hf := ec_lt_i ex hf
      refine lv_goto (tgt := 13) hx hb dX3_findSamples_31 rfl ?_
      exact ih S_3 x1 x2 x3 x4 x5_4 _ _ _ hf hM (lv_sub hl [1, 2, 3, 4, 5, 0] rfl)
noncomputable def fX3_findSamples_135 (N : Nat) (k40 : sM → Int32 → Int32 → Int32 → Int32 → Int32 → Option sM) (S : sM) (x1 : Int32) (x2 : Int32) (x4 : Int32) (x5 : Int32) (x6 : Int32) : Option sM :=
  ec_lt (x6 + (1 : Int32)) fun x6_17 =>
  k40 S x1 x2 x4 x5 x6_17
theorem bX3_findSamples_135 {N : Nat} (X : CallFix p m c cX3_findSamples 8 s args lw_all RX3) (hr : meth.sig.returnType = none) (hlk : meth.locks = false) (hG : MG o q) {Sr : sM} {k40 : sM → Int32 → Int32 → Int32 → Int32 → Int32 → Option sM} (Hk40 : ∀ (S : sM) (x1 : Int32) (x2 : Int32) (x4 : Int32) (x5 : Int32) (x6 : Int32) (H : Heap) (locs : List Loc) (ls : Array Slot), k40 S x1 x2 x4 x5 x6 = some Sr → MW D o q d dz S s H locs → lv_has ls 8 [(0, .ref o), (1, .int x1), (2, .int x2), (4, .int x4), (5, .int x5), (6, .int x6)] → W p l e (rmL 1) s m args below meth c H locs 0 0 (MQ below (MPost D o q d dz none Sr) args s 0 0 (AM o q)) (F0 m 40 ls [])) : ∀ (S : sM) (x1 : Int32) (x2 : Int32) (x4 : Int32) (x5 : Int32) (x6 : Int32) (H : Heap) (locs : List Loc) (ls : Array Slot), fX3_findSamples_135 N k40 S x1 x2 x4 x5 x6 = some Sr → MW D o q d dz S s H locs → lv_has ls 8 [(0, .ref o), (1, .int x1), (2, .int x2), (4, .int x4), (5, .int x5), (6, .int x6)] → W p l e (rmL 1) s m args below meth c H locs 0 0 (MQ below (MPost D o q d dz none Sr) args s 0 0 (AM o q)) (F0 m 135 ls []) := by
  have hx := X.1
  have hb := X.2.1
  intro S x1 x2 x4 x5 x6 H locs ls hf hM hl
  unfold fX3_findSamples_135 at hf
  refine e_inc (w := 1) (f := fun v => [(6, .int v), (0, .ref o), (1, .int x1), (2, .int x2), (4, .int x4), (5, .int x5)]) hx hb dX3_findSamples_135 hl (k := 5) rfl (by decide) (by decide) (fun _ => rfl) (fun x6_17 ex ls hl => ?_)
  have hf := ec_lt_i ex hf
  refine lv_goto (tgt := 40) hx hb dX3_findSamples_138 rfl ?_
  exact Hk40 S x1 x2 x4 x5 x6_17 _ _ _ hf hM (lv_sub hl [1, 2, 3, 4, 5, 0] rfl)
noncomputable def fX3_findSamples_40 (N : Nat) : Nat → sM → Int32 → Int32 → Int32 → Int32 → Int32 → Option sM
  | 0, _, _, _, _, _, _ => none
  | n + 1, S, x1, x2, x4, x5, x6 =>
    if (S.1 7) ≤ x6 then (
      some S)
    else (
      (ec_ag (S.2.2 8) 6000 x6).bind fun v_10 =>
      (fX3_made S v_10 x1).bind fun v_11 =>
      ec_lt (x5 + v_11) fun x5_12 =>
      (ec_dv x5_12 x2).bind fun v_13 =>
      (ec_rm x5_12 x2).bind fun v_14 =>
      ec_lt (mI S 45 ((S.1 45) + v_13)) fun S_15 =>
      if (S_15.1 7) ≤ (x6 + x4) then (
        ec_lt (mI S_15 46 ((S_15.1 46) + v_13)) fun S_16 =>
        fX3_findSamples_135 N (fX3_findSamples_40 N n) S_16 x1 x2 x4 v_14 x6)
      else (
        (ec_ag (S_15.2.2 8) 6000 (x6 + x4)).bind fun v_18 =>
        (ec_ag (S_15.2.2 47) 16 v_18).bind fun v_19 =>
        (ec_as S_15 47 16 v_18 (v_19 + v_13)).bind fun S_20 =>
        fX3_findSamples_135 N (fX3_findSamples_40 N n) S_20 x1 x2 x4 v_14 x6))
theorem bX3_findSamples_40 {N : Nat} (X : CallFix p m c cX3_findSamples 8 s args lw_all RX3) (hr : meth.sig.returnType = none) (hlk : meth.locks = false) (hG : MG o q) {Sr : sM} : ∀ (n : Nat) (S : sM) (x1 : Int32) (x2 : Int32) (x4 : Int32) (x5 : Int32) (x6 : Int32) (H : Heap) (locs : List Loc) (ls : Array Slot), fX3_findSamples_40 N n S x1 x2 x4 x5 x6 = some Sr → MW D o q d dz S s H locs → lv_has ls 8 [(0, .ref o), (1, .int x1), (2, .int x2), (4, .int x4), (5, .int x5), (6, .int x6)] → W p l e (rmL 1) s m args below meth c H locs 0 0 (MQ below (MPost D o q d dz none Sr) args s 0 0 (AM o q)) (F0 m 40 ls []) := by
  have hx := X.1
  have hb := X.2.1
  intro n
  induction n with
  | zero =>
    intro S x1 x2 x4 x5 x6 H locs ls hf hM hl
    rw [fX3_findSamples_40] at hf
    cases hf
  | succ n ih =>
    intro S x1 x2 x4 x5 x6 H locs ls hf hM hl
    rw [fX3_findSamples_40] at hf
    refine lv_iload hx hb dX3_findSamples_40 (lv_at hl 5 rfl) ?_
    refine lv_aload_n hx hb dX3_findSamples_42 rfl (lv_at hl 0 rfl) ?_
    refine m_get (v := .int (S.1 7)) X hM 7 (by decide) q981 rfl rfl dX3_findSamples_43 ?_
    refine lv_icmp_ge (tgt := 141) hx hb dX3_findSamples_46 rfl (fun cnd => ?_) (fun cnd => ?_)
    · have hf := ec_t cnd hf
      obtain rfl := Option.some.inj hf
      exact m_vret X hr hlk hM dX3_findSamples_141
    · have hf := ec_f cnd hf
      refine lv_iload hx hb dX3_findSamples_49 (lv_at hl 4 rfl) ?_
      refine lv_aload_n hx hb dX3_findSamples_51 rfl (lv_at hl 0 rfl) ?_
      refine lv_aload_n hx hb dX3_findSamples_52 rfl (lv_at hl 0 rfl) ?_
      refine m_get (v := .ref (q 8)) X hM 8 (by decide) q982 rfl rfl dX3_findSamples_53 ?_
      refine lv_iload hx hb dX3_findSamples_56 (lv_at hl 5 rfl) ?_
      obtain ⟨v_10, h, hf⟩ := ec_bi hf
      refine m_iald X hM wma8 h dX3_findSamples_58 ?_
      refine lv_iload_n hx hb dX3_findSamples_59 rfl (lv_at hl 1 rfl) ?_
      obtain ⟨v_11, h, hf⟩ := ec_bi hf
      refine m_cR (v := .int v_11) (As := [.int v_10, .int x1]) (rest := [.int x5]) X hM (metX3_made l D o q d dz S v_10 x1 _ h) (cwV 2 X.2.2.2.2 gX3_251 rfl rfl rfl hX3_made ⟨Nat.le_of_ble_eq_true rfl, Nat.le_of_ble_eq_true rfl⟩) rfl hl.1 rfl (Nat.le_of_ble_eq_true rfl) ⟨Nat.zero_le _, Nat.zero_le _⟩ dX3_findSamples_60 ?_
      refine lv_iadd hx hb dX3_findSamples_63 ?_
      refine lv_topi (fun x5_12 ex => ?_)
      have hf := ec_lt_i ex hf
      refine lv_istore (lv' := [(5, .int x5_12), (0, .ref o), (1, .int x1), (2, .int x2), (4, .int x4), (6, .int x6)]) hx hb dX3_findSamples_64 hl (by decide) rfl (fun ls hl => ?_)
      refine lv_iload hx hb dX3_findSamples_66 (lv_at hl 0 rfl) ?_
      refine lv_iload_n hx hb dX3_findSamples_68 rfl (lv_at hl 3 rfl) ?_
      obtain ⟨v_13, h, hf⟩ := ec_bi hf
      refine e_dv hx hb h dX3_findSamples_69 ?_
      refine lv_istore (lv' := [(7, .int v_13), (5, .int x5_12), (0, .ref o), (1, .int x1), (2, .int x2), (4, .int x4), (6, .int x6)]) hx hb dX3_findSamples_70 hl (by decide) rfl (fun ls hl => ?_)
      refine lv_iload hx hb dX3_findSamples_72 (lv_at hl 1 rfl) ?_
      refine lv_iload_n hx hb dX3_findSamples_74 rfl (lv_at hl 4 rfl) ?_
      obtain ⟨v_14, h, hf⟩ := ec_bi hf
      refine e_rm hx hb h dX3_findSamples_75 ?_
      refine lv_istore (lv' := [(5, .int v_14), (7, .int v_13), (0, .ref o), (1, .int x1), (2, .int x2), (4, .int x4), (6, .int x6)]) hx hb dX3_findSamples_76 hl (by decide) rfl (fun ls hl => ?_)
      refine lv_aload_n hx hb dX3_findSamples_78 rfl (lv_at hl 2 rfl) ?_
      refine lv_dup hx hb dX3_findSamples_79 rfl ?_
      refine m_get (v := .int (S.1 45)) X hM 45 (by decide) q1019 rfl rfl dX3_findSamples_80 ?_
      refine lv_iload hx hb dX3_findSamples_83 (lv_at hl 1 rfl) ?_
      refine lv_iadd hx hb dX3_findSamples_85 ?_
      refine m_puti X hG hM 45 (by decide) q1019 rfl rfl mfd45 (wmi45 _) dX3_findSamples_86 (fun S_15 H locs eS hM => ?_)
      have hf := ec_lt_i eS hf
      refine lv_iload hx hb dX3_findSamples_89 (lv_at hl 6 rfl) ?_
      refine lv_iload hx hb dX3_findSamples_91 (lv_at hl 5 rfl) ?_
      refine lv_iadd hx hb dX3_findSamples_93 ?_
      refine lv_aload_n hx hb dX3_findSamples_94 rfl (lv_at hl 2 rfl) ?_
      refine m_get (v := .int (S_15.1 7)) X hM 7 (by decide) q981 rfl rfl dX3_findSamples_95 ?_
      refine lv_icmp_ge (tgt := 124) hx hb dX3_findSamples_98 rfl (fun cnd => ?_) (fun cnd => ?_)
      · have hf := ec_t cnd hf
        refine lv_aload_n hx hb dX3_findSamples_124 rfl (lv_at hl 2 rfl) ?_
        refine lv_dup hx hb dX3_findSamples_125 rfl ?_
        refine m_get (v := .int (S_15.1 46)) X hM 46 (by decide) q1020 rfl rfl dX3_findSamples_126 ?_
        refine lv_iload hx hb dX3_findSamples_129 (lv_at hl 1 rfl) ?_
        refine lv_iadd hx hb dX3_findSamples_131 ?_
        refine m_puti X hG hM 46 (by decide) q1020 rfl rfl mfd46 (wmi46 _) dX3_findSamples_132 (fun S_16 H locs eS hM => ?_)
        have hf := ec_lt_i eS hf
        exact bX3_findSamples_135 X hr hlk hG ih S_16 x1 x2 x4 v_14 x6 _ _ _ hf hM (lv_sub hl [2, 3, 4, 5, 0, 6] rfl)
      · have hf := ec_f cnd hf
        refine lv_aload_n hx hb dX3_findSamples_101 rfl (lv_at hl 2 rfl) ?_
        refine m_get (v := .ref (q 47)) X hM 47 (by decide) q1021 rfl rfl dX3_findSamples_102 ?_
        refine lv_aload_n hx hb dX3_findSamples_105 rfl (lv_at hl 2 rfl) ?_
        refine m_get (v := .ref (q 8)) X hM 8 (by decide) q982 rfl rfl dX3_findSamples_106 ?_
        refine lv_iload hx hb dX3_findSamples_109 (lv_at hl 6 rfl) ?_
        refine lv_iload hx hb dX3_findSamples_111 (lv_at hl 5 rfl) ?_
        refine lv_iadd hx hb dX3_findSamples_113 ?_
        obtain ⟨v_18, h, hf⟩ := ec_bi hf
        refine m_iald X hM wma8 h dX3_findSamples_114 ?_
        refine lv_dup2_11 hx hb dX3_findSamples_115 rfl rfl ?_
        obtain ⟨v_19, h, hf⟩ := ec_bi hf
        refine m_iald X hM wma47 h dX3_findSamples_116 ?_
        refine lv_iload hx hb dX3_findSamples_117 (lv_at hl 1 rfl) ?_
        refine lv_iadd hx hb dX3_findSamples_119 ?_
        obtain ⟨S_20, h, hf⟩ := ec_bi hf
        refine m_iast X hG hM wma47 wms47 h dX3_findSamples_120 (fun H locs hM => ?_)
        refine lv_goto (tgt := 135) hx hb dX3_findSamples_121 rfl ?_
        exact bX3_findSamples_135 X hr hlk hG ih S_20 x1 x2 x4 v_14 x6 _ _ _ hf hM (lv_sub hl [2, 3, 4, 5, 0, 6] rfl)
noncomputable def fX3_findSamples (N : Nat) (S : sM) (x1 : Int32) (x2 : Int32) (x3 : Int32) (x4 : Int32) : Option sM :=
  ec_lt (mI S 45 (0 : Int32)) fun S_1 =>
  ec_lt (mI S_1 46 (0 : Int32)) fun S_2 =>
  fX3_findSamples_13 N (fun S_5 x1_6 x2_7 x3_8 x4_9 =>
    fX3_findSamples_40 N N S_5 x1_6 x2_7 x4_9 x3_8 (0 : Int32)) N S_2 x1 x2 x3 x4 (0 : Int32)
theorem metX3_findSamples (l : Launch) (D : va_G) (o : Nat) (q : Nat → Nat) (d dz : ClassId) (hG : MG o q) (N : Nat) (S : sM) (x1 : Int32) (x2 : Int32) (x3 : Int32) (x4 : Int32) (Sr : sM) (hf : fX3_findSamples N S x1 x2 x3 x4 = some Sr) : Met l yX3_findSamples (ws_ yX3_findSamples cX3_findSamples 8 none) (rmL 1) (MPre D o q d dz S [.int x1, .int x2, .int x3, .int x4]) (MPost D o q d dz none Sr) 0 0 (AM o q) := by
  refine m_ofW rfl (Nat.le_of_ble_eq_true rfl) (fun p e s m args below meth c X hr hlk hM ls hl => ?_)
  have hl : lv_has ls 8 [(0, .ref o), (1, .int x1), (2, .int x2), (3, .int x3), (4, .int x4)] := hl
  have hx := X.1
  have hb := X.2.1
  unfold fX3_findSamples at hf
  refine lv_aload_n hx hb dX3_findSamples_0 rfl (lv_at hl 0 rfl) ?_
  refine lv_iconst (v := 0) hx hb dX3_findSamples_1 (by decide) ?_
  refine m_puti X hG hM 45 (by decide) q1019 rfl rfl mfd45 (wmi45 _) dX3_findSamples_2 (fun S_1 H locs eS hM => ?_)
  have hf := ec_lt_i eS hf
  refine lv_aload_n hx hb dX3_findSamples_5 rfl (lv_at hl 0 rfl) ?_
  refine lv_iconst (v := 0) hx hb dX3_findSamples_6 (by decide) ?_
  refine m_puti X hG hM 46 (by decide) q1020 rfl rfl mfd46 (wmi46 _) dX3_findSamples_7 (fun S_2 H locs eS hM => ?_)
  have hf := ec_lt_i eS hf
  refine lv_iconst (v := 0) hx hb dX3_findSamples_10 (by decide) ?_
  refine lv_istore (lv' := [(5, .int (0 : Int32)), (0, .ref o), (1, .int x1), (2, .int x2), (3, .int x3), (4, .int x4)]) hx hb dX3_findSamples_11 hl (by decide) rfl (fun ls hl => ?_)
  exact bX3_findSamples_13 X hr hlk hG (fun S_5 x1_6 x2_7 x3_8 x4_9 H locs ls hf hM hl => by
    refine lv_iload_n hx hb dX3_findSamples_34 rfl (lv_at hl 3 rfl) ?_
    refine lv_istore (lv' := [(5, .int x3_8), (0, .ref o), (1, .int x1_6), (2, .int x2_7), (3, .int x3_8), (4, .int x4_9)]) hx hb dX3_findSamples_35 hl (by decide) rfl (fun ls hl => ?_)
    refine lv_iconst (v := 0) hx hb dX3_findSamples_37 (by decide) ?_
    refine lv_istore (lv' := [(6, .int (0 : Int32)), (5, .int x3_8), (0, .ref o), (1, .int x1_6), (2, .int x2_7), (3, .int x3_8), (4, .int x4_9)]) hx hb dX3_findSamples_38 hl (by decide) rfl (fun ls hl => ?_)
    exact bX3_findSamples_40 X hr hlk hG N S_5 x1_6 x2_7 x4_9 x3_8 (0 : Int32) _ _ _ hf hM (lv_sub hl [2, 3, 4, 6, 1, 0] rfl)) N S_2 x1 x2 x3 x4 (0 : Int32) _ _ _ hf hM (lv_sub hl [1, 2, 3, 4, 5, 0] rfl)
theorem hX3_findSamples : yX3_findSamples.cls = RX3 ∧ yX3_findSamples.cls ≠ "java/lang/invoke/MethodHandle" ∧ yX3_findSamples.cls ≠ "java/lang/invoke/VarHandle" ∧ (parseMethodDescriptor yX3_findSamples.desc).map (fun d => d.parameters.length) = some 4 := by decide +kernel

theorem gX3_335 : GoodIn lw_all (va_wsS RX3 335 yX3_isSampling (ws_ yX3_isSampling cX3_isSampling 4 (some .boolean))) := lw_S q1377 q1378 q63 q1379
theorem gX3_339 : GoodIn lw_all (wsV RX3 339 RX3 yX3_findSamples (ws_ yX3_findSamples cX3_findSamples 8 none)) := lw_V q1382 q1384 qs53 q63 q1385
noncomputable def fX3_shows_20 (N : Nat) (S : sM) : Option (Int32 × sM) :=
  some ((-1 : Int32), S)
theorem bX3_shows_20 {N : Nat} (X : CallFix p m c cX3_shows 6 s args lw_all RX3) (hr : meth.sig.returnType = (some .int)) (hlk : meth.locks = false) (hG : MG o q) {res : Int32} {Sr : sM} : ∀ (S : sM) (H : Heap) (locs : List Loc) (ls : Array Slot), fX3_shows_20 N S = some (res, Sr) → MW D o q d dz S s H locs → lv_has ls 6 [(0, .ref o)] → W p l e (rmL 3) s m args below meth c H locs 0 0 (MQ below (MPost D o q d dz (some (.int res)) Sr) args s 0 0 (AM o q)) (F0 m 20 ls []) := by
  have hx := X.1
  have hb := X.2.1
  intro S H locs ls hf hM hl
  unfold fX3_shows_20 at hf
  refine lv_iconst (v := -1) hx hb dX3_shows_20 (by decide) ?_
  obtain ⟨rfl, rfl⟩ := Prod.mk.inj (Option.some.inj hf)
  exact m_iret X hr hlk hM dX3_shows_21
noncomputable def fX3_shows (N : Nat) (S : sM) (x1 : Int32) (x2 : Int32) (x3 : Int32) (x4 : Int32) (x5 : Int32) : Option (Int32 × sM) :=
  (fX3_isSampling x1 x2 x3 x4).bind fun v_1 =>
  if v_1 = 0 then (
    fX3_shows_20 N S)
  else (
    (fX3_isLine S x5).bind fun v_2 =>
    if ¬ v_2 = 0 then (
      (fX3_findSamples N S x1 x2 x3 x4).bind fun S_3 =>
      (ec_ag (S_3.2.2 47) 16 x5).bind fun v_4 =>
      some (v_4, S_3))
    else (
      fX3_shows_20 N S))
theorem metX3_shows (l : Launch) (D : va_G) (o : Nat) (q : Nat → Nat) (d dz : ClassId) (hG : MG o q) (N : Nat) (S : sM) (x1 : Int32) (x2 : Int32) (x3 : Int32) (x4 : Int32) (x5 : Int32) (res : Int32) (Sr : sM) (hf : fX3_shows N S x1 x2 x3 x4 x5 = some (res, Sr)) : Met l yX3_shows (ws_ yX3_shows cX3_shows 6 (some .int)) (rmL 3) (MPre D o q d dz S [.int x1, .int x2, .int x3, .int x4, .int x5]) (MPost D o q d dz (some (.int res)) Sr) 0 0 (AM o q) := by
  refine m_ofW rfl (Nat.le_of_ble_eq_true rfl) (fun p e s m args below meth c X hr hlk hM ls hl => ?_)
  have hl : lv_has ls 6 [(0, .ref o), (1, .int x1), (2, .int x2), (3, .int x3), (4, .int x4), (5, .int x5)] := hl
  have hx := X.1
  have hb := X.2.1
  unfold fX3_shows at hf
  refine lv_iload_n hx hb dX3_shows_0 rfl (lv_at hl 1 rfl) ?_
  refine lv_iload_n hx hb dX3_shows_1 rfl (lv_at hl 2 rfl) ?_
  refine lv_iload_n hx hb dX3_shows_2 rfl (lv_at hl 3 rfl) ?_
  refine lv_iload hx hb dX3_shows_3 (lv_at hl 4 rfl) ?_
  obtain ⟨v_1, h, hf⟩ := ec_bi hf
  refine e_cS (v := .int v_1) (As := [.int x1, .int x2, .int x3, .int x4]) (rest := []) X (metX3_isSampling l x1 x2 x3 x4 _ h) (va_cwS 4 X.2.2.2.2 gX3_335 rfl rfl rfl hX3_isSampling ⟨Nat.le_of_ble_eq_true rfl, Nat.le_of_ble_eq_true rfl⟩) rfl hl.1 rfl (Nat.le_of_ble_eq_true rfl) ⟨Nat.zero_le _, Nat.zero_le _⟩ dX3_shows_5 ?_
  refine lv_if_eq (tgt := 20) hx hb dX3_shows_8 rfl (fun cnd => ?_) (fun cnd => ?_)
  · have hf := ec_t cnd hf
    exact bX3_shows_20 X hr hlk hG S _ _ _ hf hM (lv_sub hl [0] rfl)
  · have hf := ec_f cnd hf
    refine lv_aload_n hx hb dX3_shows_11 rfl (lv_at hl 0 rfl) ?_
    refine lv_iload hx hb dX3_shows_12 (lv_at hl 5 rfl) ?_
    obtain ⟨v_2, h, hf⟩ := ec_bi hf
    refine m_cR (v := .int v_2) (As := [.int x5]) (rest := []) X hM (metX3_isLine l D o q d dz S x5 _ h) (cwV 1 X.2.2.2.2 gX3_243 rfl rfl rfl hX3_isLine ⟨Nat.le_of_ble_eq_true rfl, Nat.le_of_ble_eq_true rfl⟩) rfl hl.1 rfl (Nat.le_of_ble_eq_true rfl) ⟨Nat.zero_le _, Nat.zero_le _⟩ dX3_shows_14 ?_
    refine lv_if_ne (tgt := 22) hx hb dX3_shows_17 rfl (fun cnd => ?_) (fun cnd => ?_)
    · have hf := ec_t cnd hf
      refine lv_aload_n hx hb dX3_shows_22 rfl (lv_at hl 0 rfl) ?_
      refine lv_iload_n hx hb dX3_shows_23 rfl (lv_at hl 1 rfl) ?_
      refine lv_iload_n hx hb dX3_shows_24 rfl (lv_at hl 2 rfl) ?_
      refine lv_iload_n hx hb dX3_shows_25 rfl (lv_at hl 3 rfl) ?_
      refine lv_iload hx hb dX3_shows_26 (lv_at hl 4 rfl) ?_
      obtain ⟨S_3, h, hf⟩ := ec_bi hf
      refine m_cWv (As := [.int x1, .int x2, .int x3, .int x4]) (rest := []) X hM (metX3_findSamples l D o q d dz hG N S x1 x2 x3 x4 _ h) (cwV 4 X.2.2.2.2 gX3_339 rfl rfl rfl hX3_findSamples ⟨Nat.le_of_ble_eq_true rfl, Nat.le_of_ble_eq_true rfl⟩) rfl hl.1 rfl (Nat.le_of_ble_eq_true rfl) ⟨Nat.zero_le _, Nat.zero_le _⟩ dX3_shows_28 (fun H locs hM => ?_)
      refine lv_aload_n hx hb dX3_shows_31 rfl (lv_at hl 0 rfl) ?_
      refine m_get (v := .ref (q 47)) X hM 47 (by decide) q1021 rfl rfl dX3_shows_32 ?_
      refine lv_iload hx hb dX3_shows_35 (lv_at hl 5 rfl) ?_
      obtain ⟨v_4, h, hf⟩ := ec_bi hf
      refine m_iald X hM wma47 h dX3_shows_37 ?_
      obtain ⟨rfl, rfl⟩ := Prod.mk.inj (Option.some.inj hf)
      exact m_iret X hr hlk hM dX3_shows_38
    · have hf := ec_f (not_not_intro cnd) hf
      exact bX3_shows_20 X hr hlk hG S _ _ _ hf hM (lv_sub hl [0] rfl)
theorem hX3_shows : yX3_shows.cls = RX3 ∧ yX3_shows.cls ≠ "java/lang/invoke/MethodHandle" ∧ yX3_shows.cls ≠ "java/lang/invoke/VarHandle" ∧ (parseMethodDescriptor yX3_shows.desc).map (fun d => d.parameters.length) = some 5 := by decide +kernel

noncomputable def fX3_samples_24 (N : Nat) (S : sM) : Option (Int32 × sM) :=
  some ((-1 : Int32), S)
theorem bX3_samples_24 {N : Nat} (X : CallFix p m c cX3_samples 11 s args lw_all RX3) (hr : meth.sig.returnType = (some .int)) (hlk : meth.locks = false) (hG : MG o q) {res : Int32} {Sr : sM} : ∀ (S : sM) (H : Heap) (locs : List Loc) (ls : Array Slot), fX3_samples_24 N S = some (res, Sr) → MW D o q d dz S s H locs → lv_has ls 11 [(0, .ref o)] → W p l e (rmL 3) s m args below meth c H locs 0 0 (MQ below (MPost D o q d dz (some (.int res)) Sr) args s 0 0 (AM o q)) (F0 m 24 ls []) := by
  have hx := X.1
  have hb := X.2.1
  intro S H locs ls hf hM hl
  unfold fX3_samples_24 at hf
  refine lv_iconst (v := -1) hx hb dX3_samples_24 (by decide) ?_
  obtain ⟨rfl, rfl⟩ := Prod.mk.inj (Option.some.inj hf)
  exact m_iret X hr hlk hM dX3_samples_25
noncomputable def fX3_samples_190 (N : Nat) (k51 : sM → Int32 → Int32 → Int32 → Int32 → Int32 → Int32 → Int32 → Option (Int32 × sM)) (S : sM) (x1 : Int32) (x5 : Int32) (x6 : Int32) (x7 : Int32) (x8 : Int32) (x10 : Int32) (t0 : Int32) : Option (Int32 × sM) :=
  ec_lt (x10 + (1 : Int32)) fun x10_11 =>
  k51 S x1 x5 x6 x7 x8 t0 x10_11
theorem bX3_samples_190 {N : Nat} (X : CallFix p m c cX3_samples 11 s args lw_all RX3) (hr : meth.sig.returnType = (some .int)) (hlk : meth.locks = false) (hG : MG o q) {res : Int32} {Sr : sM} {k51 : sM → Int32 → Int32 → Int32 → Int32 → Int32 → Int32 → Int32 → Option (Int32 × sM)} (Hk51 : ∀ (S : sM) (x1 : Int32) (x5 : Int32) (x6 : Int32) (x7 : Int32) (x8 : Int32) (x9 : Int32) (x10 : Int32) (H : Heap) (locs : List Loc) (ls : Array Slot), k51 S x1 x5 x6 x7 x8 x9 x10 = some (res, Sr) → MW D o q d dz S s H locs → lv_has ls 11 [(0, .ref o), (1, .int x1), (5, .int x5), (6, .int x6), (7, .int x7), (8, .int x8), (9, .int x9), (10, .int x10)] → W p l e (rmL 3) s m args below meth c H locs 0 0 (MQ below (MPost D o q d dz (some (.int res)) Sr) args s 0 0 (AM o q)) (F0 m 51 ls [])) : ∀ (S : sM) (x1 : Int32) (x5 : Int32) (x6 : Int32) (x7 : Int32) (x8 : Int32) (x10 : Int32) (t0 : Int32) (H : Heap) (locs : List Loc) (ls : Array Slot), fX3_samples_190 N k51 S x1 x5 x6 x7 x8 x10 t0 = some (res, Sr) → MW D o q d dz S s H locs → lv_has ls 11 [(0, .ref o), (1, .int x1), (5, .int x5), (6, .int x6), (7, .int x7), (8, .int x8), (10, .int x10)] → W p l e (rmL 3) s m args below meth c H locs 0 0 (MQ below (MPost D o q d dz (some (.int res)) Sr) args s 0 0 (AM o q)) (F0 m 190 ls [.int t0]) := by
  have hx := X.1
  have hb := X.2.1
  intro S x1 x5 x6 x7 x8 x10 t0 H locs ls hf hM hl
  unfold fX3_samples_190 at hf
  refine lv_istore (lv' := [(9, .int t0), (0, .ref o), (1, .int x1), (5, .int x5), (6, .int x6), (7, .int x7), (8, .int x8), (10, .int x10)]) hx hb dX3_samples_190 hl (by decide) rfl (fun ls hl => ?_)
  refine e_inc (w := 1) (f := fun v => [(10, .int v), (9, .int t0), (0, .ref o), (1, .int x1), (5, .int x5), (6, .int x6), (7, .int x7), (8, .int x8)]) hx hb dX3_samples_192 hl (k := 7) rfl (by decide) (by decide) (fun _ => rfl) (fun x10_11 ex ls hl => ?_)
  have hf := ec_lt_i ex hf
  refine lv_goto (tgt := 51) hx hb dX3_samples_195 rfl ?_
  exact Hk51 S x1 x5 x6 x7 x8 t0 x10_11 _ _ _ hf hM (lv_sub hl [2, 3, 4, 5, 6, 7, 1, 0] rfl)
noncomputable def fX3_samples_188 (N : Nat) (k51 : sM → Int32 → Int32 → Int32 → Int32 → Int32 → Int32 → Int32 → Option (Int32 × sM)) (S : sM) (x1 : Int32) (x5 : Int32) (x6 : Int32) (x7 : Int32) (x8 : Int32) (x9 : Int32) (x10 : Int32) : Option (Int32 × sM) :=
  fX3_samples_190 N k51 S x1 x5 x6 x7 x8 x10 x9
theorem bX3_samples_188 {N : Nat} (X : CallFix p m c cX3_samples 11 s args lw_all RX3) (hr : meth.sig.returnType = (some .int)) (hlk : meth.locks = false) (hG : MG o q) {res : Int32} {Sr : sM} {k51 : sM → Int32 → Int32 → Int32 → Int32 → Int32 → Int32 → Int32 → Option (Int32 × sM)} (Hk51 : ∀ (S : sM) (x1 : Int32) (x5 : Int32) (x6 : Int32) (x7 : Int32) (x8 : Int32) (x9 : Int32) (x10 : Int32) (H : Heap) (locs : List Loc) (ls : Array Slot), k51 S x1 x5 x6 x7 x8 x9 x10 = some (res, Sr) → MW D o q d dz S s H locs → lv_has ls 11 [(0, .ref o), (1, .int x1), (5, .int x5), (6, .int x6), (7, .int x7), (8, .int x8), (9, .int x9), (10, .int x10)] → W p l e (rmL 3) s m args below meth c H locs 0 0 (MQ below (MPost D o q d dz (some (.int res)) Sr) args s 0 0 (AM o q)) (F0 m 51 ls [])) : ∀ (S : sM) (x1 : Int32) (x5 : Int32) (x6 : Int32) (x7 : Int32) (x8 : Int32) (x9 : Int32) (x10 : Int32) (H : Heap) (locs : List Loc) (ls : Array Slot), fX3_samples_188 N k51 S x1 x5 x6 x7 x8 x9 x10 = some (res, Sr) → MW D o q d dz S s H locs → lv_has ls 11 [(0, .ref o), (1, .int x1), (5, .int x5), (6, .int x6), (7, .int x7), (8, .int x8), (9, .int x9), (10, .int x10)] → W p l e (rmL 3) s m args below meth c H locs 0 0 (MQ below (MPost D o q d dz (some (.int res)) Sr) args s 0 0 (AM o q)) (F0 m 188 ls []) := by
  have hx := X.1
  have hb := X.2.1
  intro S x1 x5 x6 x7 x8 x9 x10 H locs ls hf hM hl
  unfold fX3_samples_188 at hf
  refine lv_iload hx hb dX3_samples_188 (lv_at hl 6 rfl) ?_
  exact bX3_samples_190 X hr hlk hG Hk51 S x1 x5 x6 x7 x8 x10 x9 _ _ _ hf hM (lv_sub hl [0, 1, 2, 3, 4, 5, 7] rfl)
noncomputable def fX3_samples_183 (N : Nat) (k51 : sM → Int32 → Int32 → Int32 → Int32 → Int32 → Int32 → Int32 → Option (Int32 × sM)) (S : sM) (x1 : Int32) (x5 : Int32) (x6 : Int32) (x7 : Int32) (x8 : Int32) (x10 : Int32) : Option (Int32 × sM) :=
  fX3_samples_190 N k51 S x1 x5 x6 x7 x8 x10 x10
theorem bX3_samples_183 {N : Nat} (X : CallFix p m c cX3_samples 11 s args lw_all RX3) (hr : meth.sig.returnType = (some .int)) (hlk : meth.locks = false) (hG : MG o q) {res : Int32} {Sr : sM} {k51 : sM → Int32 → Int32 → Int32 → Int32 → Int32 → Int32 → Int32 → Option (Int32 × sM)} (Hk51 : ∀ (S : sM) (x1 : Int32) (x5 : Int32) (x6 : Int32) (x7 : Int32) (x8 : Int32) (x9 : Int32) (x10 : Int32) (H : Heap) (locs : List Loc) (ls : Array Slot), k51 S x1 x5 x6 x7 x8 x9 x10 = some (res, Sr) → MW D o q d dz S s H locs → lv_has ls 11 [(0, .ref o), (1, .int x1), (5, .int x5), (6, .int x6), (7, .int x7), (8, .int x8), (9, .int x9), (10, .int x10)] → W p l e (rmL 3) s m args below meth c H locs 0 0 (MQ below (MPost D o q d dz (some (.int res)) Sr) args s 0 0 (AM o q)) (F0 m 51 ls [])) : ∀ (S : sM) (x1 : Int32) (x5 : Int32) (x6 : Int32) (x7 : Int32) (x8 : Int32) (x10 : Int32) (H : Heap) (locs : List Loc) (ls : Array Slot), fX3_samples_183 N k51 S x1 x5 x6 x7 x8 x10 = some (res, Sr) → MW D o q d dz S s H locs → lv_has ls 11 [(0, .ref o), (1, .int x1), (5, .int x5), (6, .int x6), (7, .int x7), (8, .int x8), (10, .int x10)] → W p l e (rmL 3) s m args below meth c H locs 0 0 (MQ below (MPost D o q d dz (some (.int res)) Sr) args s 0 0 (AM o q)) (F0 m 183 ls []) := by
  have hx := X.1
  have hb := X.2.1
  intro S x1 x5 x6 x7 x8 x10 H locs ls hf hM hl
  unfold fX3_samples_183 at hf
  refine lv_iload hx hb dX3_samples_183 (lv_at hl 6 rfl) ?_
  refine lv_goto (tgt := 190) hx hb dX3_samples_185 rfl ?_
  exact bX3_samples_190 X hr hlk hG Hk51 S x1 x5 x6 x7 x8 x10 x10 _ _ _ hf hM hl
noncomputable def fX3_samples_146 (N : Nat) (k51 : sM → Int32 → Int32 → Int32 → Int32 → Int32 → Int32 → Int32 → Option (Int32 × sM)) (S : sM) (x1 : Int32) (x5 : Int32) (x6 : Int32) (x7 : Int32) (x9 : Int32) (x10 : Int32) (t0 : Int32) (t1 : Int32) : Option (Int32 × sM) :=
  ec_lt (t1 ||| t0) fun x8_9 =>
  (ec_ag (S.2.2 47) 16 x10).bind fun v_10 =>
  if v_10 ≤ 0 then (
    fX3_samples_188 N k51 S x1 x5 x6 x7 x8_9 x9 x10)
  else (
    if x9 = (-4 : Int32) then (
      fX3_samples_183 N k51 S x1 x5 x6 x7 x8_9 x10)
    else (
      (ec_ag (S.2.2 47) 16 x10).bind fun v_12 =>
      (ec_ag (S.2.2 47) 16 x9).bind fun v_13 =>
      if v_12 ≤ v_13 then (
        fX3_samples_188 N k51 S x1 x5 x6 x7 x8_9 x9 x10)
      else (
        fX3_samples_183 N k51 S x1 x5 x6 x7 x8_9 x10)))
theorem bX3_samples_146 {N : Nat} (X : CallFix p m c cX3_samples 11 s args lw_all RX3) (hr : meth.sig.returnType = (some .int)) (hlk : meth.locks = false) (hG : MG o q) {res : Int32} {Sr : sM} {k51 : sM → Int32 → Int32 → Int32 → Int32 → Int32 → Int32 → Int32 → Option (Int32 × sM)} (Hk51 : ∀ (S : sM) (x1 : Int32) (x5 : Int32) (x6 : Int32) (x7 : Int32) (x8 : Int32) (x9 : Int32) (x10 : Int32) (H : Heap) (locs : List Loc) (ls : Array Slot), k51 S x1 x5 x6 x7 x8 x9 x10 = some (res, Sr) → MW D o q d dz S s H locs → lv_has ls 11 [(0, .ref o), (1, .int x1), (5, .int x5), (6, .int x6), (7, .int x7), (8, .int x8), (9, .int x9), (10, .int x10)] → W p l e (rmL 3) s m args below meth c H locs 0 0 (MQ below (MPost D o q d dz (some (.int res)) Sr) args s 0 0 (AM o q)) (F0 m 51 ls [])) : ∀ (S : sM) (x1 : Int32) (x5 : Int32) (x6 : Int32) (x7 : Int32) (x9 : Int32) (x10 : Int32) (t0 : Int32) (t1 : Int32) (H : Heap) (locs : List Loc) (ls : Array Slot), fX3_samples_146 N k51 S x1 x5 x6 x7 x9 x10 t0 t1 = some (res, Sr) → MW D o q d dz S s H locs → lv_has ls 11 [(0, .ref o), (1, .int x1), (5, .int x5), (6, .int x6), (7, .int x7), (9, .int x9), (10, .int x10)] → W p l e (rmL 3) s m args below meth c H locs 0 0 (MQ below (MPost D o q d dz (some (.int res)) Sr) args s 0 0 (AM o q)) (F0 m 146 ls [.int t0, .int t1]) := by
  have hx := X.1
  have hb := X.2.1
  intro S x1 x5 x6 x7 x9 x10 t0 t1 H locs ls hf hM hl
  unfold fX3_samples_146 at hf
  refine lv_ior hx hb dX3_samples_146 ?_
  refine lv_topi (fun x8_9 ex => ?_)
  have hf := ec_lt_i ex hf
  refine lv_istore (lv' := [(8, .int x8_9), (0, .ref o), (1, .int x1), (5, .int x5), (6, .int x6), (7, .int x7), (9, .int x9), (10, .int x10)]) hx hb dX3_samples_147 hl (by decide) rfl (fun ls hl => ?_)
  refine lv_aload_n hx hb dX3_samples_149 rfl (lv_at hl 1 rfl) ?_
  refine m_get (v := .ref (q 47)) X hM 47 (by decide) q1021 rfl rfl dX3_samples_150 ?_
  refine lv_iload hx hb dX3_samples_153 (lv_at hl 7 rfl) ?_
  obtain ⟨v_10, h, hf⟩ := ec_bi hf
  refine m_iald X hM wma47 h dX3_samples_155 ?_
  refine lv_if_le (tgt := 188) hx hb dX3_samples_156 rfl (fun cnd => ?_) (fun cnd => ?_)
  · have hf := ec_t cnd hf
    exact bX3_samples_188 X hr hlk hG Hk51 S x1 x5 x6 x7 x8_9 x9 x10 _ _ _ hf hM (lv_sub hl [1, 2, 3, 4, 5, 0, 6, 7] rfl)
  · have hf := ec_f cnd hf
    refine lv_iload hx hb dX3_samples_159 (lv_at hl 6 rfl) ?_
    refine lv_bipush (v := -4) hx hb dX3_samples_161 (by decide) ?_
    refine lv_icmp_eq (tgt := 183) hx hb dX3_samples_163 rfl (fun cnd => ?_) (fun cnd => ?_)
    · have hf := ec_t cnd hf
      exact bX3_samples_183 X hr hlk hG Hk51 S x1 x5 x6 x7 x8_9 x10 _ _ _ hf hM (lv_sub hl [1, 2, 3, 4, 5, 0, 7] rfl)
    · have hf := ec_f cnd hf
      refine lv_aload_n hx hb dX3_samples_166 rfl (lv_at hl 1 rfl) ?_
      refine m_get (v := .ref (q 47)) X hM 47 (by decide) q1021 rfl rfl dX3_samples_167 ?_
      refine lv_iload hx hb dX3_samples_170 (lv_at hl 7 rfl) ?_
      obtain ⟨v_12, h, hf⟩ := ec_bi hf
      refine m_iald X hM wma47 h dX3_samples_172 ?_
      refine lv_aload_n hx hb dX3_samples_173 rfl (lv_at hl 1 rfl) ?_
      refine m_get (v := .ref (q 47)) X hM 47 (by decide) q1021 rfl rfl dX3_samples_174 ?_
      refine lv_iload hx hb dX3_samples_177 (lv_at hl 6 rfl) ?_
      obtain ⟨v_13, h, hf⟩ := ec_bi hf
      refine m_iald X hM wma47 h dX3_samples_179 ?_
      refine lv_icmp_le (tgt := 188) hx hb dX3_samples_180 rfl (fun cnd => ?_) (fun cnd => ?_)
      · have hf := ec_t cnd hf
        exact bX3_samples_188 X hr hlk hG Hk51 S x1 x5 x6 x7 x8_9 x9 x10 _ _ _ hf hM (lv_sub hl [1, 2, 3, 4, 5, 0, 6, 7] rfl)
      · have hf := ec_f cnd hf
        exact bX3_samples_183 X hr hlk hG Hk51 S x1 x5 x6 x7 x8_9 x10 _ _ _ hf hM (lv_sub hl [1, 2, 3, 4, 5, 0, 7] rfl)
noncomputable def fX3_samples_145 (N : Nat) (k51 : sM → Int32 → Int32 → Int32 → Int32 → Int32 → Int32 → Int32 → Option (Int32 × sM)) (S : sM) (x1 : Int32) (x5 : Int32) (x6 : Int32) (x7 : Int32) (x9 : Int32) (x10 : Int32) (t0 : Int32) : Option (Int32 × sM) :=
  fX3_samples_146 N k51 S x1 x5 x6 x7 x9 x10 (0 : Int32) t0
theorem bX3_samples_145 {N : Nat} (X : CallFix p m c cX3_samples 11 s args lw_all RX3) (hr : meth.sig.returnType = (some .int)) (hlk : meth.locks = false) (hG : MG o q) {res : Int32} {Sr : sM} {k51 : sM → Int32 → Int32 → Int32 → Int32 → Int32 → Int32 → Int32 → Option (Int32 × sM)} (Hk51 : ∀ (S : sM) (x1 : Int32) (x5 : Int32) (x6 : Int32) (x7 : Int32) (x8 : Int32) (x9 : Int32) (x10 : Int32) (H : Heap) (locs : List Loc) (ls : Array Slot), k51 S x1 x5 x6 x7 x8 x9 x10 = some (res, Sr) → MW D o q d dz S s H locs → lv_has ls 11 [(0, .ref o), (1, .int x1), (5, .int x5), (6, .int x6), (7, .int x7), (8, .int x8), (9, .int x9), (10, .int x10)] → W p l e (rmL 3) s m args below meth c H locs 0 0 (MQ below (MPost D o q d dz (some (.int res)) Sr) args s 0 0 (AM o q)) (F0 m 51 ls [])) : ∀ (S : sM) (x1 : Int32) (x5 : Int32) (x6 : Int32) (x7 : Int32) (x9 : Int32) (x10 : Int32) (t0 : Int32) (H : Heap) (locs : List Loc) (ls : Array Slot), fX3_samples_145 N k51 S x1 x5 x6 x7 x9 x10 t0 = some (res, Sr) → MW D o q d dz S s H locs → lv_has ls 11 [(0, .ref o), (1, .int x1), (5, .int x5), (6, .int x6), (7, .int x7), (9, .int x9), (10, .int x10)] → W p l e (rmL 3) s m args below meth c H locs 0 0 (MQ below (MPost D o q d dz (some (.int res)) Sr) args s 0 0 (AM o q)) (F0 m 145 ls [.int t0]) := by
  have hx := X.1
  have hb := X.2.1
  intro S x1 x5 x6 x7 x9 x10 t0 H locs ls hf hM hl
  unfold fX3_samples_145 at hf
  refine lv_iconst (v := 0) hx hb dX3_samples_145 (by decide) ?_
  exact bX3_samples_146 X hr hlk hG Hk51 S x1 x5 x6 x7 x9 x10 (0 : Int32) t0 _ _ _ hf hM hl
noncomputable def fX3_samples_113 (N : Nat) (k51 : sM → Int32 → Int32 → Int32 → Int32 → Int32 → Int32 → Int32 → Option (Int32 × sM)) (S : sM) (x1 : Int32) (x5 : Int32) (x6 : Int32) (x8 : Int32) (x9 : Int32) (x10 : Int32) (t0 : Int32) (t1 : Int32) : Option (Int32 × sM) :=
  ec_lt (t1 ||| t0) fun x7_7 =>
  (ec_ag (S.2.2 47) 16 x10).bind fun v_8 =>
  if v_8 ≤ 0 then (
    fX3_samples_145 N k51 S x1 x5 x6 x7_7 x9 x10 x8)
  else (
    (fX3_made S x10 x1).bind fun v_14 =>
    if ¬ v_14 = 0 then (
      fX3_samples_145 N k51 S x1 x5 x6 x7_7 x9 x10 x8)
    else (
      fX3_samples_146 N k51 S x1 x5 x6 x7_7 x9 x10 ((1 : Int32) <<< (x10 &&& 31)) x8))
theorem bX3_samples_113 {N : Nat} (X : CallFix p m c cX3_samples 11 s args lw_all RX3) (hr : meth.sig.returnType = (some .int)) (hlk : meth.locks = false) (hG : MG o q) {res : Int32} {Sr : sM} {k51 : sM → Int32 → Int32 → Int32 → Int32 → Int32 → Int32 → Int32 → Option (Int32 × sM)} (Hk51 : ∀ (S : sM) (x1 : Int32) (x5 : Int32) (x6 : Int32) (x7 : Int32) (x8 : Int32) (x9 : Int32) (x10 : Int32) (H : Heap) (locs : List Loc) (ls : Array Slot), k51 S x1 x5 x6 x7 x8 x9 x10 = some (res, Sr) → MW D o q d dz S s H locs → lv_has ls 11 [(0, .ref o), (1, .int x1), (5, .int x5), (6, .int x6), (7, .int x7), (8, .int x8), (9, .int x9), (10, .int x10)] → W p l e (rmL 3) s m args below meth c H locs 0 0 (MQ below (MPost D o q d dz (some (.int res)) Sr) args s 0 0 (AM o q)) (F0 m 51 ls [])) : ∀ (S : sM) (x1 : Int32) (x5 : Int32) (x6 : Int32) (x8 : Int32) (x9 : Int32) (x10 : Int32) (t0 : Int32) (t1 : Int32) (H : Heap) (locs : List Loc) (ls : Array Slot), fX3_samples_113 N k51 S x1 x5 x6 x8 x9 x10 t0 t1 = some (res, Sr) → MW D o q d dz S s H locs → lv_has ls 11 [(0, .ref o), (1, .int x1), (5, .int x5), (6, .int x6), (8, .int x8), (9, .int x9), (10, .int x10)] → W p l e (rmL 3) s m args below meth c H locs 0 0 (MQ below (MPost D o q d dz (some (.int res)) Sr) args s 0 0 (AM o q)) (F0 m 113 ls [.int t0, .int t1]) := by
  have hx := X.1
  have hb := X.2.1
  intro S x1 x5 x6 x8 x9 x10 t0 t1 H locs ls hf hM hl
  unfold fX3_samples_113 at hf
  refine lv_ior hx hb dX3_samples_113 ?_
  refine lv_topi (fun x7_7 ex => ?_)
  have hf := ec_lt_i ex hf
  refine lv_istore (lv' := [(7, .int x7_7), (0, .ref o), (1, .int x1), (5, .int x5), (6, .int x6), (8, .int x8), (9, .int x9), (10, .int x10)]) hx hb dX3_samples_114 hl (by decide) rfl (fun ls hl => ?_)
  refine lv_iload hx hb dX3_samples_116 (lv_at hl 5 rfl) ?_
  refine lv_aload_n hx hb dX3_samples_118 rfl (lv_at hl 1 rfl) ?_
  refine m_get (v := .ref (q 47)) X hM 47 (by decide) q1021 rfl rfl dX3_samples_119 ?_
  refine lv_iload hx hb dX3_samples_122 (lv_at hl 7 rfl) ?_
  obtain ⟨v_8, h, hf⟩ := ec_bi hf
  refine m_iald X hM wma47 h dX3_samples_124 ?_
  refine lv_if_le (tgt := 145) hx hb dX3_samples_125 rfl (fun cnd => ?_) (fun cnd => ?_)
  · have hf := ec_t cnd hf
    exact bX3_samples_145 X hr hlk hG Hk51 S x1 x5 x6 x7_7 x9 x10 x8 _ _ _ hf hM (lv_sub hl [1, 2, 3, 4, 0, 6, 7] rfl)
  · have hf := ec_f cnd hf
    refine lv_aload_n hx hb dX3_samples_128 rfl (lv_at hl 1 rfl) ?_
    refine lv_iload hx hb dX3_samples_129 (lv_at hl 7 rfl) ?_
    refine lv_iload_n hx hb dX3_samples_131 rfl (lv_at hl 2 rfl) ?_
    obtain ⟨v_14, h, hf⟩ := ec_bi hf
    refine m_cR (v := .int v_14) (As := [.int x10, .int x1]) (rest := [.int x8]) X hM (metX3_made l D o q d dz S x10 x1 _ h) (cwV 2 X.2.2.2.2 gX3_251 rfl rfl rfl hX3_made ⟨Nat.le_of_ble_eq_true rfl, Nat.le_of_ble_eq_true rfl⟩) rfl hl.1 rfl (Nat.le_of_ble_eq_true rfl) ⟨Nat.zero_le _, Nat.zero_le _⟩ dX3_samples_132 ?_
    refine lv_if_ne (tgt := 145) hx hb dX3_samples_135 rfl (fun cnd => ?_) (fun cnd => ?_)
    · have hf := ec_t cnd hf
      exact bX3_samples_145 X hr hlk hG Hk51 S x1 x5 x6 x7_7 x9 x10 x8 _ _ _ hf hM (lv_sub hl [1, 2, 3, 4, 0, 6, 7] rfl)
    · have hf := ec_f (not_not_intro cnd) hf
      refine lv_iconst (v := 1) hx hb dX3_samples_138 (by decide) ?_
      refine lv_iload hx hb dX3_samples_139 (lv_at hl 7 rfl) ?_
      refine lv_ishl hx hb dX3_samples_141 ?_
      refine lv_goto (tgt := 146) hx hb dX3_samples_142 rfl ?_
      exact bX3_samples_146 X hr hlk hG Hk51 S x1 x5 x6 x7_7 x9 x10 ((1 : Int32) <<< (x10 &&& 31)) x8 _ _ _ hf hM (lv_sub hl [1, 2, 3, 4, 0, 6, 7] rfl)
noncomputable def fX3_samples_112 (N : Nat) (k51 : sM → Int32 → Int32 → Int32 → Int32 → Int32 → Int32 → Int32 → Option (Int32 × sM)) (S : sM) (x1 : Int32) (x5 : Int32) (x6 : Int32) (x8 : Int32) (x9 : Int32) (x10 : Int32) (t0 : Int32) : Option (Int32 × sM) :=
  fX3_samples_113 N k51 S x1 x5 x6 x8 x9 x10 (0 : Int32) t0
theorem bX3_samples_112 {N : Nat} (X : CallFix p m c cX3_samples 11 s args lw_all RX3) (hr : meth.sig.returnType = (some .int)) (hlk : meth.locks = false) (hG : MG o q) {res : Int32} {Sr : sM} {k51 : sM → Int32 → Int32 → Int32 → Int32 → Int32 → Int32 → Int32 → Option (Int32 × sM)} (Hk51 : ∀ (S : sM) (x1 : Int32) (x5 : Int32) (x6 : Int32) (x7 : Int32) (x8 : Int32) (x9 : Int32) (x10 : Int32) (H : Heap) (locs : List Loc) (ls : Array Slot), k51 S x1 x5 x6 x7 x8 x9 x10 = some (res, Sr) → MW D o q d dz S s H locs → lv_has ls 11 [(0, .ref o), (1, .int x1), (5, .int x5), (6, .int x6), (7, .int x7), (8, .int x8), (9, .int x9), (10, .int x10)] → W p l e (rmL 3) s m args below meth c H locs 0 0 (MQ below (MPost D o q d dz (some (.int res)) Sr) args s 0 0 (AM o q)) (F0 m 51 ls [])) : ∀ (S : sM) (x1 : Int32) (x5 : Int32) (x6 : Int32) (x8 : Int32) (x9 : Int32) (x10 : Int32) (t0 : Int32) (H : Heap) (locs : List Loc) (ls : Array Slot), fX3_samples_112 N k51 S x1 x5 x6 x8 x9 x10 t0 = some (res, Sr) → MW D o q d dz S s H locs → lv_has ls 11 [(0, .ref o), (1, .int x1), (5, .int x5), (6, .int x6), (8, .int x8), (9, .int x9), (10, .int x10)] → W p l e (rmL 3) s m args below meth c H locs 0 0 (MQ below (MPost D o q d dz (some (.int res)) Sr) args s 0 0 (AM o q)) (F0 m 112 ls [.int t0]) := by
  have hx := X.1
  have hb := X.2.1
  intro S x1 x5 x6 x8 x9 x10 t0 H locs ls hf hM hl
  unfold fX3_samples_112 at hf
  refine lv_iconst (v := 0) hx hb dX3_samples_112 (by decide) ?_
  exact bX3_samples_113 X hr hlk hG Hk51 S x1 x5 x6 x8 x9 x10 (0 : Int32) t0 _ _ _ hf hM hl
noncomputable def fX3_samples_80 (N : Nat) (k51 : sM → Int32 → Int32 → Int32 → Int32 → Int32 → Int32 → Int32 → Option (Int32 × sM)) (S : sM) (x1 : Int32) (x5 : Int32) (x7 : Int32) (x8 : Int32) (x9 : Int32) (x10 : Int32) (t0 : Int32) (t1 : Int32) : Option (Int32 × sM) :=
  ec_lt (t1 ||| t0) fun x6_5 =>
  (ec_ag (S.2.2 47) 16 x10).bind fun v_6 =>
  if ¬ v_6 = 0 then (
    fX3_samples_112 N k51 S x1 x5 x6_5 x8 x9 x10 x7)
  else (
    (fX3_made S x10 x1).bind fun v_15 =>
    if v_15 ≤ 0 then (
      fX3_samples_112 N k51 S x1 x5 x6_5 x8 x9 x10 x7)
    else (
      fX3_samples_113 N k51 S x1 x5 x6_5 x8 x9 x10 ((1 : Int32) <<< (x10 &&& 31)) x7))
theorem bX3_samples_80 {N : Nat} (X : CallFix p m c cX3_samples 11 s args lw_all RX3) (hr : meth.sig.returnType = (some .int)) (hlk : meth.locks = false) (hG : MG o q) {res : Int32} {Sr : sM} {k51 : sM → Int32 → Int32 → Int32 → Int32 → Int32 → Int32 → Int32 → Option (Int32 × sM)} (Hk51 : ∀ (S : sM) (x1 : Int32) (x5 : Int32) (x6 : Int32) (x7 : Int32) (x8 : Int32) (x9 : Int32) (x10 : Int32) (H : Heap) (locs : List Loc) (ls : Array Slot), k51 S x1 x5 x6 x7 x8 x9 x10 = some (res, Sr) → MW D o q d dz S s H locs → lv_has ls 11 [(0, .ref o), (1, .int x1), (5, .int x5), (6, .int x6), (7, .int x7), (8, .int x8), (9, .int x9), (10, .int x10)] → W p l e (rmL 3) s m args below meth c H locs 0 0 (MQ below (MPost D o q d dz (some (.int res)) Sr) args s 0 0 (AM o q)) (F0 m 51 ls [])) : ∀ (S : sM) (x1 : Int32) (x5 : Int32) (x7 : Int32) (x8 : Int32) (x9 : Int32) (x10 : Int32) (t0 : Int32) (t1 : Int32) (H : Heap) (locs : List Loc) (ls : Array Slot), fX3_samples_80 N k51 S x1 x5 x7 x8 x9 x10 t0 t1 = some (res, Sr) → MW D o q d dz S s H locs → lv_has ls 11 [(0, .ref o), (1, .int x1), (5, .int x5), (7, .int x7), (8, .int x8), (9, .int x9), (10, .int x10)] → W p l e (rmL 3) s m args below meth c H locs 0 0 (MQ below (MPost D o q d dz (some (.int res)) Sr) args s 0 0 (AM o q)) (F0 m 80 ls [.int t0, .int t1]) := by
  have hx := X.1
  have hb := X.2.1
  intro S x1 x5 x7 x8 x9 x10 t0 t1 H locs ls hf hM hl
  unfold fX3_samples_80 at hf
  refine lv_ior hx hb dX3_samples_80 ?_
  refine lv_topi (fun x6_5 ex => ?_)
  have hf := ec_lt_i ex hf
  refine lv_istore (lv' := [(6, .int x6_5), (0, .ref o), (1, .int x1), (5, .int x5), (7, .int x7), (8, .int x8), (9, .int x9), (10, .int x10)]) hx hb dX3_samples_81 hl (by decide) rfl (fun ls hl => ?_)
  refine lv_iload hx hb dX3_samples_83 (lv_at hl 4 rfl) ?_
  refine lv_aload_n hx hb dX3_samples_85 rfl (lv_at hl 1 rfl) ?_
  refine m_get (v := .ref (q 47)) X hM 47 (by decide) q1021 rfl rfl dX3_samples_86 ?_
  refine lv_iload hx hb dX3_samples_89 (lv_at hl 7 rfl) ?_
  obtain ⟨v_6, h, hf⟩ := ec_bi hf
  refine m_iald X hM wma47 h dX3_samples_91 ?_
  refine lv_if_ne (tgt := 112) hx hb dX3_samples_92 rfl (fun cnd => ?_) (fun cnd => ?_)
  · have hf := ec_t cnd hf
    exact bX3_samples_112 X hr hlk hG Hk51 S x1 x5 x6_5 x8 x9 x10 x7 _ _ _ hf hM (lv_sub hl [1, 2, 3, 0, 5, 6, 7] rfl)
  · have hf := ec_f (not_not_intro cnd) hf
    refine lv_aload_n hx hb dX3_samples_95 rfl (lv_at hl 1 rfl) ?_
    refine lv_iload hx hb dX3_samples_96 (lv_at hl 7 rfl) ?_
    refine lv_iload_n hx hb dX3_samples_98 rfl (lv_at hl 2 rfl) ?_
    obtain ⟨v_15, h, hf⟩ := ec_bi hf
    refine m_cR (v := .int v_15) (As := [.int x10, .int x1]) (rest := [.int x7]) X hM (metX3_made l D o q d dz S x10 x1 _ h) (cwV 2 X.2.2.2.2 gX3_251 rfl rfl rfl hX3_made ⟨Nat.le_of_ble_eq_true rfl, Nat.le_of_ble_eq_true rfl⟩) rfl hl.1 rfl (Nat.le_of_ble_eq_true rfl) ⟨Nat.zero_le _, Nat.zero_le _⟩ dX3_samples_99 ?_
    refine lv_if_le (tgt := 112) hx hb dX3_samples_102 rfl (fun cnd => ?_) (fun cnd => ?_)
    · have hf := ec_t cnd hf
      exact bX3_samples_112 X hr hlk hG Hk51 S x1 x5 x6_5 x8 x9 x10 x7 _ _ _ hf hM (lv_sub hl [1, 2, 3, 0, 5, 6, 7] rfl)
    · have hf := ec_f cnd hf
      refine lv_iconst (v := 1) hx hb dX3_samples_105 (by decide) ?_
      refine lv_iload hx hb dX3_samples_106 (lv_at hl 7 rfl) ?_
      refine lv_ishl hx hb dX3_samples_108 ?_
      refine lv_goto (tgt := 113) hx hb dX3_samples_109 rfl ?_
      exact bX3_samples_113 X hr hlk hG Hk51 S x1 x5 x6_5 x8 x9 x10 ((1 : Int32) <<< (x10 &&& 31)) x7 _ _ _ hf hM (lv_sub hl [1, 2, 3, 0, 5, 6, 7] rfl)
noncomputable def fX3_samples_51 (N : Nat) (kx198 : sM → Int32 → Int32 → Int32 → Int32 → Int32 → Option (Int32 × sM)) : Nat → sM → Int32 → Int32 → Int32 → Int32 → Int32 → Int32 → Int32 → Option (Int32 × sM)
  | 0, _, _, _, _, _, _, _, _ => none
  | n + 1, S, x1, x5, x6, x7, x8, x9, x10 =>
    if (S.1 0) ≤ x10 then (
      kx198 S x5 x6 x7 x8 x9)
    else (
      (ec_ag (S.2.2 47) 16 x10).bind fun v_4 =>
      if v_4 ≤ 0 then (
        fX3_samples_80 N (fX3_samples_51 N kx198 n) S x1 x5 x7 x8 x9 x10 (0 : Int32) x6)
      else (
        fX3_samples_80 N (fX3_samples_51 N kx198 n) S x1 x5 x7 x8 x9 x10 ((1 : Int32) <<< (x10 &&& 31)) x6))
theorem bX3_samples_51 {N : Nat} (X : CallFix p m c cX3_samples 11 s args lw_all RX3) (hr : meth.sig.returnType = (some .int)) (hlk : meth.locks = false) (hG : MG o q) {res : Int32} {Sr : sM} {kx198 : sM → Int32 → Int32 → Int32 → Int32 → Int32 → Option (Int32 × sM)} (Hkx198 : ∀ (S : sM) (x5 : Int32) (x6 : Int32) (x7 : Int32) (x8 : Int32) (x9 : Int32) (H : Heap) (locs : List Loc) (ls : Array Slot), kx198 S x5 x6 x7 x8 x9 = some (res, Sr) → MW D o q d dz S s H locs → lv_has ls 11 [(0, .ref o), (5, .int x5), (6, .int x6), (7, .int x7), (8, .int x8), (9, .int x9)] → W p l e (rmL 3) s m args below meth c H locs 0 0 (MQ below (MPost D o q d dz (some (.int res)) Sr) args s 0 0 (AM o q)) (F0 m 198 ls [])) : ∀ (n : Nat) (S : sM) (x1 : Int32) (x5 : Int32) (x6 : Int32) (x7 : Int32) (x8 : Int32) (x9 : Int32) (x10 : Int32) (H : Heap) (locs : List Loc) (ls : Array Slot), fX3_samples_51 N kx198 n S x1 x5 x6 x7 x8 x9 x10 = some (res, Sr) → MW D o q d dz S s H locs → lv_has ls 11 [(0, .ref o), (1, .int x1), (5, .int x5), (6, .int x6), (7, .int x7), (8, .int x8), (9, .int x9), (10, .int x10)] → W p l e (rmL 3) s m args below meth c H locs 0 0 (MQ below (MPost D o q d dz (some (.int res)) Sr) args s 0 0 (AM o q)) (F0 m 51 ls []) := by
  have hx := X.1
  have hb := X.2.1
  intro n
  induction n with
  | zero =>
    intro S x1 x5 x6 x7 x8 x9 x10 H locs ls hf hM hl
    rw [fX3_samples_51] at hf
    cases hf
  | succ n ih =>
    intro S x1 x5 x6 x7 x8 x9 x10 H locs ls hf hM hl
    rw [fX3_samples_51] at hf
    refine lv_iload hx hb dX3_samples_51 (lv_at hl 7 rfl) ?_
    refine lv_aload_n hx hb dX3_samples_53 rfl (lv_at hl 0 rfl) ?_
    refine m_get (v := .int (S.1 0)) X hM 0 (by decide) q974 rfl rfl dX3_samples_54 ?_
    refine lv_icmp_ge (tgt := 198) hx hb dX3_samples_57 rfl (fun cnd => ?_) (fun cnd => ?_)
    · have hf := ec_t cnd hf
      exact Hkx198 S x5 x6 x7 x8 x9 _ _ _ hf hM (lv_sub hl [0, 2, 3, 4, 5, 6] rfl)
    · have hf := ec_f cnd hf
      refine lv_iload hx hb dX3_samples_60 (lv_at hl 3 rfl) ?_
      refine lv_aload_n hx hb dX3_samples_62 rfl (lv_at hl 0 rfl) ?_
      refine m_get (v := .ref (q 47)) X hM 47 (by decide) q1021 rfl rfl dX3_samples_63 ?_
      refine lv_iload hx hb dX3_samples_66 (lv_at hl 7 rfl) ?_
      obtain ⟨v_4, h, hf⟩ := ec_bi hf
      refine m_iald X hM wma47 h dX3_samples_68 ?_
      refine lv_if_le (tgt := 79) hx hb dX3_samples_69 rfl (fun cnd => ?_) (fun cnd => ?_)
      · have hf := ec_t cnd hf
        refine lv_iconst (v := 0) hx hb dX3_samples_79 (by decide) ?_
        exact bX3_samples_80 X hr hlk hG ih S x1 x5 x7 x8 x9 x10 (0 : Int32) x6 _ _ _ hf hM (lv_sub hl [0, 1, 2, 4, 5, 6, 7] rfl)
      · have hf := ec_f cnd hf
        refine lv_iconst (v := 1) hx hb dX3_samples_72 (by decide) ?_
        refine lv_iload hx hb dX3_samples_73 (lv_at hl 7 rfl) ?_
        refine lv_ishl hx hb dX3_samples_75 ?_
        refine lv_goto (tgt := 80) hx hb dX3_samples_76 rfl ?_
        exact bX3_samples_80 X hr hlk hG ih S x1 x5 x7 x8 x9 x10 ((1 : Int32) <<< (x10 &&& 31)) x6 _ _ _ hf hM (lv_sub hl [0, 1, 2, 4, 5, 6, 7] rfl)
noncomputable def fX3_samples (N : Nat) (S : sM) (x1 : Int32) (x2 : Int32) (x3 : Int32) (x4 : Int32) (x5 : Int32) : Option (Int32 × sM) :=
  (fX3_isSampling x1 x2 x3 x4).bind fun v_1 =>
  if v_1 = 0 then (
    fX3_samples_24 N S)
  else (
    (fX3_in (x5.toInt64) (0 : Int64) (5 : Int64)).bind fun v_2 =>
    if ¬ v_2 = 0 then (
      (fX3_findSamples N S x1 x2 x3 x4).bind fun S_3 =>
      fX3_samples_51 N (fun S_16 x5_17 x6_18 x7_19 x8_20 x9_21 =>
        if x5_17 = (0 : Int32) then (
          some ((S_16.1 45), S_16))
        else if x5_17 = (1 : Int32) then (
          some ((S_16.1 46), S_16))
        else if x5_17 = (2 : Int32) then (
          some (x6_18, S_16))
        else if x5_17 = (3 : Int32) then (
          some (x7_19, S_16))
        else if x5_17 = (4 : Int32) then (
          some (x8_20, S_16))
        else (
          some (x9_21, S_16))) N S_3 x1 x5 (0 : Int32) (0 : Int32) (0 : Int32) (-4 : Int32) (0 : Int32))
    else (
      fX3_samples_24 N S))
theorem metX3_samples (l : Launch) (D : va_G) (o : Nat) (q : Nat → Nat) (d dz : ClassId) (hG : MG o q) (N : Nat) (S : sM) (x1 : Int32) (x2 : Int32) (x3 : Int32) (x4 : Int32) (x5 : Int32) (res : Int32) (Sr : sM) (hf : fX3_samples N S x1 x2 x3 x4 x5 = some (res, Sr)) : Met l yX3_samples (ws_ yX3_samples cX3_samples 11 (some .int)) (rmL 3) (MPre D o q d dz S [.int x1, .int x2, .int x3, .int x4, .int x5]) (MPost D o q d dz (some (.int res)) Sr) 0 0 (AM o q) := by
  refine m_ofW rfl (Nat.le_of_ble_eq_true rfl) (fun p e s m args below meth c X hr hlk hM ls hl => ?_)
  have hl : lv_has ls 11 [(0, .ref o), (1, .int x1), (2, .int x2), (3, .int x3), (4, .int x4), (5, .int x5)] := hl
  have hx := X.1
  have hb := X.2.1
  unfold fX3_samples at hf
  refine lv_iload_n hx hb dX3_samples_0 rfl (lv_at hl 1 rfl) ?_
  refine lv_iload_n hx hb dX3_samples_1 rfl (lv_at hl 2 rfl) ?_
  refine lv_iload_n hx hb dX3_samples_2 rfl (lv_at hl 3 rfl) ?_
  refine lv_iload hx hb dX3_samples_3 (lv_at hl 4 rfl) ?_
  obtain ⟨v_1, h, hf⟩ := ec_bi hf
  refine e_cS (v := .int v_1) (As := [.int x1, .int x2, .int x3, .int x4]) (rest := []) X (metX3_isSampling l x1 x2 x3 x4 _ h) (va_cwS 4 X.2.2.2.2 gX3_335 rfl rfl rfl hX3_isSampling ⟨Nat.le_of_ble_eq_true rfl, Nat.le_of_ble_eq_true rfl⟩) rfl hl.1 rfl (Nat.le_of_ble_eq_true rfl) ⟨Nat.zero_le _, Nat.zero_le _⟩ dX3_samples_5 ?_
  refine lv_if_eq (tgt := 24) hx hb dX3_samples_8 rfl (fun cnd => ?_) (fun cnd => ?_)
  · have hf := ec_t cnd hf
    exact bX3_samples_24 X hr hlk hG S _ _ _ hf hM (lv_sub hl [0] rfl)
  · have hf := ec_f cnd hf
    refine lv_iload hx hb dX3_samples_11 (lv_at hl 5 rfl) ?_
    refine lv_i2l hx hb dX3_samples_13 rfl ?_
    refine lv_lconst (v := 0) hx hb dX3_samples_14 (by decide) ?_
    refine lv_ldc2 (own := RX3) (v := 5) hx hb X.2.2.2.1 (X.2.2.2.2 _ q1390) dX3_samples_15 ?_
    obtain ⟨v_2, h, hf⟩ := ec_bi hf
    refine e_cS (v := .int v_2) (As := [.long (x5.toInt64), .long (0 : Int64), .long (5 : Int64)]) (rest := []) X (metX3_in l (x5.toInt64) (0 : Int64) (5 : Int64) _ h) (va_cwS 3 X.2.2.2.2 gX3_124 rfl rfl rfl hX3_in ⟨Nat.le_of_ble_eq_true rfl, Nat.le_of_ble_eq_true rfl⟩) rfl hl.1 rfl (Nat.le_of_ble_eq_true rfl) ⟨Nat.zero_le _, Nat.zero_le _⟩ dX3_samples_18 ?_
    refine lv_if_ne (tgt := 26) hx hb dX3_samples_21 rfl (fun cnd => ?_) (fun cnd => ?_)
    · have hf := ec_t cnd hf
      refine lv_aload_n hx hb dX3_samples_26 rfl (lv_at hl 0 rfl) ?_
      refine lv_iload_n hx hb dX3_samples_27 rfl (lv_at hl 1 rfl) ?_
      refine lv_iload_n hx hb dX3_samples_28 rfl (lv_at hl 2 rfl) ?_
      refine lv_iload_n hx hb dX3_samples_29 rfl (lv_at hl 3 rfl) ?_
      refine lv_iload hx hb dX3_samples_30 (lv_at hl 4 rfl) ?_
      obtain ⟨S_3, h, hf⟩ := ec_bi hf
      refine m_cWv (As := [.int x1, .int x2, .int x3, .int x4]) (rest := []) X hM (metX3_findSamples l D o q d dz hG N S x1 x2 x3 x4 _ h) (cwV 4 X.2.2.2.2 gX3_339 rfl rfl rfl hX3_findSamples ⟨Nat.le_of_ble_eq_true rfl, Nat.le_of_ble_eq_true rfl⟩) rfl hl.1 rfl (Nat.le_of_ble_eq_true rfl) ⟨Nat.zero_le _, Nat.zero_le _⟩ dX3_samples_32 (fun H locs hM => ?_)
      refine lv_iconst (v := 0) hx hb dX3_samples_35 (by decide) ?_
      refine lv_istore (lv' := [(6, .int (0 : Int32)), (0, .ref o), (1, .int x1), (2, .int x2), (3, .int x3), (4, .int x4), (5, .int x5)]) hx hb dX3_samples_36 hl (by decide) rfl (fun ls hl => ?_)
      refine lv_iconst (v := 0) hx hb dX3_samples_38 (by decide) ?_
      refine lv_istore (lv' := [(7, .int (0 : Int32)), (6, .int (0 : Int32)), (0, .ref o), (1, .int x1), (2, .int x2), (3, .int x3), (4, .int x4), (5, .int x5)]) hx hb dX3_samples_39 hl (by decide) rfl (fun ls hl => ?_)
      refine lv_iconst (v := 0) hx hb dX3_samples_41 (by decide) ?_
      refine lv_istore (lv' := [(8, .int (0 : Int32)), (7, .int (0 : Int32)), (6, .int (0 : Int32)), (0, .ref o), (1, .int x1), (2, .int x2), (3, .int x3), (4, .int x4), (5, .int x5)]) hx hb dX3_samples_42 hl (by decide) rfl (fun ls hl => ?_)
      refine lv_bipush (v := -4) hx hb dX3_samples_44 (by decide) ?_
      refine lv_istore (lv' := [(9, .int (-4 : Int32)), (8, .int (0 : Int32)), (7, .int (0 : Int32)), (6, .int (0 : Int32)), (0, .ref o), (1, .int x1), (2, .int x2), (3, .int x3), (4, .int x4), (5, .int x5)]) hx hb dX3_samples_46 hl (by decide) rfl (fun ls hl => ?_)
      refine lv_iconst (v := 0) hx hb dX3_samples_48 (by decide) ?_
      refine lv_istore (lv' := [(10, .int (0 : Int32)), (9, .int (-4 : Int32)), (8, .int (0 : Int32)), (7, .int (0 : Int32)), (6, .int (0 : Int32)), (0, .ref o), (1, .int x1), (2, .int x2), (3, .int x3), (4, .int x4), (5, .int x5)]) hx hb dX3_samples_49 hl (by decide) rfl (fun ls hl => ?_)
      exact bX3_samples_51 X hr hlk hG (fun S_16 x5_17 x6_18 x7_19 x8_20 x9_21 H locs ls hf hM hl => by
        refine lv_iload hx hb dX3_samples_198 (lv_at hl 1 rfl) ?_
        by_cases c0 : x5_17 = (0 : Int32)
        · have hf := ec_t c0 hf
          refine lv_tableIn (off := 36) (tgt := 236) hx hb dX3_samples_200 (by rw [c0]; decide) (by rw [c0]; decide) (by rw [c0]; rfl) rfl ?_
          refine lv_aload_n hx hb dX3_samples_236 rfl (lv_at hl 0 rfl) ?_
          refine m_get (v := .int (S_16.1 45)) X hM 45 (by decide) q1019 rfl rfl dX3_samples_237 ?_
          obtain ⟨rfl, rfl⟩ := Prod.mk.inj (Option.some.inj hf)
          exact m_iret X hr hlk hM dX3_samples_240
        have hf := ec_f c0 hf
        by_cases c1 : x5_17 = (1 : Int32)
        · have hf := ec_t c1 hf
          refine lv_tableIn (off := 41) (tgt := 241) hx hb dX3_samples_200 (by rw [c1]; decide) (by rw [c1]; decide) (by rw [c1]; rfl) rfl ?_
          refine lv_aload_n hx hb dX3_samples_241 rfl (lv_at hl 0 rfl) ?_
          refine m_get (v := .int (S_16.1 46)) X hM 46 (by decide) q1020 rfl rfl dX3_samples_242 ?_
          obtain ⟨rfl, rfl⟩ := Prod.mk.inj (Option.some.inj hf)
          exact m_iret X hr hlk hM dX3_samples_245
        have hf := ec_f c1 hf
        by_cases c2 : x5_17 = (2 : Int32)
        · have hf := ec_t c2 hf
          refine lv_tableIn (off := 46) (tgt := 246) hx hb dX3_samples_200 (by rw [c2]; decide) (by rw [c2]; decide) (by rw [c2]; rfl) rfl ?_
          refine lv_iload hx hb dX3_samples_246 (lv_at hl 2 rfl) ?_
          obtain ⟨rfl, rfl⟩ := Prod.mk.inj (Option.some.inj hf)
          exact m_iret X hr hlk hM dX3_samples_248
        have hf := ec_f c2 hf
        by_cases c3 : x5_17 = (3 : Int32)
        · have hf := ec_t c3 hf
          refine lv_tableIn (off := 49) (tgt := 249) hx hb dX3_samples_200 (by rw [c3]; decide) (by rw [c3]; decide) (by rw [c3]; rfl) rfl ?_
          refine lv_iload hx hb dX3_samples_249 (lv_at hl 3 rfl) ?_
          obtain ⟨rfl, rfl⟩ := Prod.mk.inj (Option.some.inj hf)
          exact m_iret X hr hlk hM dX3_samples_251
        have hf := ec_f c3 hf
        by_cases c4 : x5_17 = (4 : Int32)
        · have hf := ec_t c4 hf
          refine lv_tableIn (off := 52) (tgt := 252) hx hb dX3_samples_200 (by rw [c4]; decide) (by rw [c4]; decide) (by rw [c4]; rfl) rfl ?_
          refine lv_iload hx hb dX3_samples_252 (lv_at hl 4 rfl) ?_
          obtain ⟨rfl, rfl⟩ := Prod.mk.inj (Option.some.inj hf)
          exact m_iret X hr hlk hM dX3_samples_254
        have hf := ec_f c4 hf
        refine lv_tableOut (tgt := 255) hx hb dX3_samples_200 (by
          have a0 := ec_ne (z := 0) (by decide) c0
          have a1 := ec_ne (z := 1) (by decide) c1
          have a2 := ec_ne (z := 2) (by decide) c2
          have a3 := ec_ne (z := 3) (by decide) c3
          have a4 := ec_ne (z := 4) (by decide) c4
          omega) rfl ?_
        refine lv_iload hx hb dX3_samples_255 (lv_at hl 5 rfl) ?_
        obtain ⟨rfl, rfl⟩ := Prod.mk.inj (Option.some.inj hf)
        exact m_iret X hr hlk hM dX3_samples_257) N S_3 x1 x5 (0 : Int32) (0 : Int32) (0 : Int32) (-4 : Int32) (0 : Int32) _ _ _ hf hM (lv_sub hl [5, 6, 10, 4, 3, 2, 1, 0] rfl)
    · have hf := ec_f (not_not_intro cnd) hf
      exact bX3_samples_24 X hr hlk hG S _ _ _ hf hM (lv_sub hl [0] rfl)
theorem hX3_samples : yX3_samples.cls = RX3 ∧ yX3_samples.cls ≠ "java/lang/invoke/MethodHandle" ∧ yX3_samples.cls ≠ "java/lang/invoke/VarHandle" ∧ (parseMethodDescriptor yX3_samples.desc).map (fun d => d.parameters.length) = some 5 := by decide +kernel

noncomputable def fX3_farNow_13 (N : Nat) (S : sM) (kx75 : Int64 → Option Int64) : Nat → Int32 → Int64 → Int64 → Int32 → Option Int64
  | 0, _, _, _, _ => none
  | n + 1, x1, x2, x4, x6 =>
    if (S.1 0) ≤ x6 then (
      kx75 x4)
    else (
      (ec_ag (S.2.2 47) 16 x6).bind fun v_3 =>
      (ec_ag (S.2.2 9) 16 x6).bind fun v_4 =>
      (fX3_made S x6 x1).bind fun v_5 =>
      (fX3_size (((v_3.toInt64) * x2) - (((v_4.toInt64) * (v_5.toInt64)) * (((S.1 45) - (S.1 46)).toInt64)))).bind fun v_6 =>
      ec_lt (x4 + v_6) fun x4_7 =>
      ec_lt (x6 + (1 : Int32)) fun x6_8 =>
      (fX3_farNow_13 N S kx75 n) x1 x2 x4_7 x6_8)
theorem bX3_farNow_13 {N : Nat} (X : CallFix p m c cX3_farNow 7 s args lw_all RX3) (hr : meth.sig.returnType = (some .long)) (hlk : meth.locks = false) {S : sM} (hM : MW D o q d dz S s s.heap []) {res : Int64} {kx75 : Int64 → Option Int64} (Hkx75 : ∀ (x4 : Int64) (ls : Array Slot), kx75 x4 = some res → lv_has ls 7 [(0, .ref o), (4, .long x4)] → W p l e (rmL 2) s m args below meth c s.heap [] 0 0 (MQ below (k2_QcV (.long res)) args s 0 0 (fun _ => False)) (F0 m 75 ls [])) : ∀ (n : Nat) (x1 : Int32) (x2 : Int64) (x4 : Int64) (x6 : Int32) (ls : Array Slot), fX3_farNow_13 N S kx75 n x1 x2 x4 x6 = some res → lv_has ls 7 [(0, .ref o), (1, .int x1), (2, .long x2), (4, .long x4), (6, .int x6)] → W p l e (rmL 2) s m args below meth c s.heap [] 0 0 (MQ below (k2_QcV (.long res)) args s 0 0 (fun _ => False)) (F0 m 13 ls []) := by
  have hx := X.1
  have hb := X.2.1
  intro n
  induction n with
  | zero =>
    intro x1 x2 x4 x6 ls hf hl
    rw [fX3_farNow_13] at hf
    cases hf
  | succ n ih =>
    intro x1 x2 x4 x6 ls hf hl
    rw [fX3_farNow_13] at hf
    refine lv_iload hx hb dX3_farNow_13 (lv_at hl 4 rfl) ?_
    refine lv_aload_n hx hb dX3_farNow_15 rfl (lv_at hl 0 rfl) ?_
    refine m_get (v := .int (S.1 0)) X hM 0 (by decide) q974 rfl rfl dX3_farNow_16 ?_
    refine lv_icmp_ge (tgt := 75) hx hb dX3_farNow_19 rfl (fun cnd => ?_) (fun cnd => ?_)
    · have hf := ec_t cnd hf
      exact Hkx75 x4 _ hf (lv_sub hl [0, 3] rfl)
    · have hf := ec_f cnd hf
      refine lv_lload hx hb dX3_farNow_22 (lv_at hl 3 rfl) ?_
      refine lv_aload_n hx hb dX3_farNow_24 rfl (lv_at hl 0 rfl) ?_
      refine m_get (v := .ref (q 47)) X hM 47 (by decide) q1021 rfl rfl dX3_farNow_25 ?_
      refine lv_iload hx hb dX3_farNow_28 (lv_at hl 4 rfl) ?_
      obtain ⟨v_3, h, hf⟩ := ec_bi hf
      refine m_iald X hM wma47 h dX3_farNow_30 ?_
      refine lv_i2l hx hb dX3_farNow_31 rfl ?_
      refine lv_lload_n hx hb dX3_farNow_32 rfl (lv_at hl 2 rfl) ?_
      refine lv_lmul hx hb dX3_farNow_33 ?_
      refine lv_aload_n hx hb dX3_farNow_34 rfl (lv_at hl 0 rfl) ?_
      refine m_get (v := .ref (q 9)) X hM 9 (by decide) q983 rfl rfl dX3_farNow_35 ?_
      refine lv_iload hx hb dX3_farNow_38 (lv_at hl 4 rfl) ?_
      obtain ⟨v_4, h, hf⟩ := ec_bi hf
      refine m_iald X hM wma9 h dX3_farNow_40 ?_
      refine lv_i2l hx hb dX3_farNow_41 rfl ?_
      refine lv_aload_n hx hb dX3_farNow_42 rfl (lv_at hl 0 rfl) ?_
      refine lv_iload hx hb dX3_farNow_43 (lv_at hl 4 rfl) ?_
      refine lv_iload_n hx hb dX3_farNow_45 rfl (lv_at hl 1 rfl) ?_
      obtain ⟨v_5, h, hf⟩ := ec_bi hf
      refine m_cR (v := .int v_5) (As := [.int x6, .int x1]) (rest := [.long (v_4.toInt64), .long ((v_3.toInt64) * x2), .long x4]) X hM (metX3_made l D o q d dz S x6 x1 _ h) (cwV 2 X.2.2.2.2 gX3_251 rfl rfl rfl hX3_made ⟨Nat.le_of_ble_eq_true rfl, Nat.le_of_ble_eq_true rfl⟩) rfl hl.1 rfl (Nat.le_of_ble_eq_true rfl) ⟨Nat.zero_le _, Nat.zero_le _⟩ dX3_farNow_46 ?_
      refine lv_i2l hx hb dX3_farNow_49 rfl ?_
      refine lv_lmul hx hb dX3_farNow_50 ?_
      refine lv_aload_n hx hb dX3_farNow_51 rfl (lv_at hl 0 rfl) ?_
      refine m_get (v := .int (S.1 45)) X hM 45 (by decide) q1019 rfl rfl dX3_farNow_52 ?_
      refine lv_aload_n hx hb dX3_farNow_55 rfl (lv_at hl 0 rfl) ?_
      refine m_get (v := .int (S.1 46)) X hM 46 (by decide) q1020 rfl rfl dX3_farNow_56 ?_
      refine lv_isub hx hb dX3_farNow_59 ?_
      refine lv_i2l hx hb dX3_farNow_60 rfl ?_
      refine lv_lmul hx hb dX3_farNow_61 ?_
      refine lv_lsub hx hb dX3_farNow_62 ?_
      obtain ⟨v_6, h, hf⟩ := ec_bi hf
      refine e_cS (v := .long v_6) (As := [.long (((v_3.toInt64) * x2) - (((v_4.toInt64) * (v_5.toInt64)) * (((S.1 45) - (S.1 46)).toInt64)))]) (rest := [.long x4]) X (metX3_size l (((v_3.toInt64) * x2) - (((v_4.toInt64) * (v_5.toInt64)) * (((S.1 45) - (S.1 46)).toInt64))) _ h) (va_cwS 1 X.2.2.2.2 gX3_111 rfl rfl rfl hX3_size ⟨Nat.le_of_ble_eq_true rfl, Nat.le_of_ble_eq_true rfl⟩) rfl hl.1 rfl (Nat.le_of_ble_eq_true rfl) ⟨Nat.zero_le _, Nat.zero_le _⟩ dX3_farNow_63 ?_
      refine lv_ladd hx hb dX3_farNow_66 ?_
      refine lv_topl (fun x4_7 ex => ?_)
      have hf := ec_lt_i ex hf
      refine lv_lstore (lv' := [(4, .long x4_7), (0, .ref o), (1, .int x1), (2, .long x2), (6, .int x6)]) hx hb dX3_farNow_67 hl (by decide) rfl (fun ls hl => ?_)
      refine e_inc (w := 1) (f := fun v => [(6, .int v), (4, .long x4_7), (0, .ref o), (1, .int x1), (2, .long x2)]) hx hb dX3_farNow_69 hl (k := 4) rfl (by decide) (by decide) (fun _ => rfl) (fun x6_8 ex ls hl => ?_)
      have hf := ec_lt_i ex hf
      refine lv_goto (tgt := 13) hx hb dX3_farNow_72 rfl ?_
      exact ih x1 x2 x4_7 x6_8 _ hf (lv_sub hl [2, 3, 4, 1, 0] rfl)
noncomputable def fX3_farNow (N : Nat) (S : sM) (x1 : Int32) : Option Int64 :=
  (fX3_total N S x1).bind fun v_1 =>
  ec_lt (v_1.toInt64) fun x2_2 =>
  fX3_farNow_13 N S (fun x4_9 =>
    some x4_9) N x1 x2_2 (0 : Int64) (0 : Int32)
theorem metX3_farNow (l : Launch) (D : va_G) (o : Nat) (q : Nat → Nat) (d dz : ClassId) (N : Nat) (S : sM) (x1 : Int32) (res : Int64) (hf : fX3_farNow N S x1 = some res) : Met l yX3_farNow (ws_ yX3_farNow cX3_farNow 7 (some .long)) (rmL 2) (MPre D o q d dz S [.int x1]) (k2_QcV (.long res)) 0 0 (fun _ => False) := by
  refine m_ofR rfl (Nat.le_of_ble_eq_true rfl) (fun p e s m args below meth c X hr hlk hM ls hl => ?_)
  have hl : lv_has ls 7 [(0, .ref o), (1, .int x1)] := hl
  have hx := X.1
  have hb := X.2.1
  unfold fX3_farNow at hf
  refine lv_aload_n hx hb dX3_farNow_0 rfl (lv_at hl 0 rfl) ?_
  refine lv_iload_n hx hb dX3_farNow_1 rfl (lv_at hl 1 rfl) ?_
  obtain ⟨v_1, h, hf⟩ := ec_bi hf
  refine m_cR (v := .int v_1) (As := [.int x1]) (rest := []) X hM (metX3_total l D o q d dz N S x1 _ h) (cwV 1 X.2.2.2.2 gX3_257 rfl rfl rfl hX3_total ⟨Nat.le_of_ble_eq_true rfl, Nat.le_of_ble_eq_true rfl⟩) rfl hl.1 rfl (Nat.le_of_ble_eq_true rfl) ⟨Nat.zero_le _, Nat.zero_le _⟩ dX3_farNow_2 ?_
  refine lv_i2l hx hb dX3_farNow_5 rfl ?_
  refine lv_topl (fun x2_2 ex => ?_)
  have hf := ec_lt_i ex hf
  refine lv_lstore_n (lv' := [(2, .long x2_2), (0, .ref o), (1, .int x1)]) hx hb dX3_farNow_6 rfl hl (by decide) rfl (fun ls hl => ?_)
  refine lv_lconst (v := 0) hx hb dX3_farNow_7 (by decide) ?_
  refine lv_lstore (lv' := [(4, .long (0 : Int64)), (2, .long x2_2), (0, .ref o), (1, .int x1)]) hx hb dX3_farNow_8 hl (by decide) rfl (fun ls hl => ?_)
  refine lv_iconst (v := 0) hx hb dX3_farNow_10 (by decide) ?_
  refine lv_istore (lv' := [(6, .int (0 : Int32)), (4, .long (0 : Int64)), (2, .long x2_2), (0, .ref o), (1, .int x1)]) hx hb dX3_farNow_11 hl (by decide) rfl (fun ls hl => ?_)
  exact bX3_farNow_13 X hr hlk hM (fun x4_9 ls hf hl => by
    refine lv_lload hx hb dX3_farNow_75 (lv_at hl 1 rfl) ?_
    obtain rfl := Option.some.inj hf
    exact e_lretR hx hb hr hlk dX3_farNow_77) N x1 x2_2 (0 : Int64) (0 : Int32) _ hf (lv_sub hl [3, 4, 2, 1, 0] rfl)
theorem hX3_farNow : yX3_farNow.cls = RX3 ∧ yX3_farNow.cls ≠ "java/lang/invoke/MethodHandle" ∧ yX3_farNow.cls ≠ "java/lang/invoke/VarHandle" ∧ (parseMethodDescriptor yX3_farNow.desc).map (fun d => d.parameters.length) = some 1 := by decide +kernel

theorem gX3_349 : GoodIn lw_all (wsV RX3 349 RX3 yX3_farNow (ws_ yX3_farNow cX3_farNow 7 (some .long))) := lw_V q1397 q1399 qs54 q63 q1400
noncomputable def fX3_far_22 (N : Nat) (S : sM) : Option (Int64 × sM) :=
  some ((-1 : Int64), S)
theorem bX3_far_22 {N : Nat} (X : CallFix p m c cX3_far 6 s args lw_all RX3) (hr : meth.sig.returnType = (some .long)) (hlk : meth.locks = false) (hG : MG o q) {res : Int64} {Sr : sM} : ∀ (S : sM) (H : Heap) (locs : List Loc) (ls : Array Slot), fX3_far_22 N S = some (res, Sr) → MW D o q d dz S s H locs → lv_has ls 6 [(0, .ref o)] → W p l e (rmL 3) s m args below meth c H locs 0 0 (MQ below (MPost D o q d dz (some (.long res)) Sr) args s 0 0 (AM o q)) (F0 m 22 ls []) := by
  have hx := X.1
  have hb := X.2.1
  intro S H locs ls hf hM hl
  unfold fX3_far_22 at hf
  refine lv_ldc2 (own := RX3) (v := -1) hx hb X.2.2.2.1 (X.2.2.2.2 _ q1395) dX3_far_22 ?_
  obtain ⟨rfl, rfl⟩ := Prod.mk.inj (Option.some.inj hf)
  exact m_lret X hr hlk hM dX3_far_25
noncomputable def fX3_far (N : Nat) (S : sM) (x1 : Int32) (x2 : Int32) (x3 : Int32) (x4 : Int32) (x5 : Int32) : Option (Int64 × sM) :=
  (fX3_isSampling x1 x2 x3 x4).bind fun v_1 =>
  if v_1 = 0 then (
    fX3_far_22 N S)
  else (
    (fX3_in (x5.toInt64) (0 : Int64) (1 : Int64)).bind fun v_2 =>
    if ¬ v_2 = 0 then (
      (fX3_findSamples N S x1 x2 x3 x4).bind fun S_3 =>
      if ¬ (S_3.1 45) = (S_3.1 46) then (
        (fX3_farNow N S_3 x1).bind fun v_4 =>
        (fX3_total N S_3 x1).bind fun v_5 =>
        (fX3_told N v_4 ((((S_3.1 45) - (S_3.1 46)).toInt64) * (v_5.toInt64)) x5).bind fun v_6 =>
        some (v_6, S_3))
      else (
        some ((-4 : Int64), S_3)))
    else (
      fX3_far_22 N S))
theorem metX3_far (l : Launch) (D : va_G) (o : Nat) (q : Nat → Nat) (d dz : ClassId) (hG : MG o q) (N : Nat) (S : sM) (x1 : Int32) (x2 : Int32) (x3 : Int32) (x4 : Int32) (x5 : Int32) (res : Int64) (Sr : sM) (hf : fX3_far N S x1 x2 x3 x4 x5 = some (res, Sr)) : Met l yX3_far (ws_ yX3_far cX3_far 6 (some .long)) (rmL 3) (MPre D o q d dz S [.int x1, .int x2, .int x3, .int x4, .int x5]) (MPost D o q d dz (some (.long res)) Sr) 0 0 (AM o q) := by
  refine m_ofW rfl (Nat.le_of_ble_eq_true rfl) (fun p e s m args below meth c X hr hlk hM ls hl => ?_)
  have hl : lv_has ls 6 [(0, .ref o), (1, .int x1), (2, .int x2), (3, .int x3), (4, .int x4), (5, .int x5)] := hl
  have hx := X.1
  have hb := X.2.1
  unfold fX3_far at hf
  refine lv_iload_n hx hb dX3_far_0 rfl (lv_at hl 1 rfl) ?_
  refine lv_iload_n hx hb dX3_far_1 rfl (lv_at hl 2 rfl) ?_
  refine lv_iload_n hx hb dX3_far_2 rfl (lv_at hl 3 rfl) ?_
  refine lv_iload hx hb dX3_far_3 (lv_at hl 4 rfl) ?_
  obtain ⟨v_1, h, hf⟩ := ec_bi hf
  refine e_cS (v := .int v_1) (As := [.int x1, .int x2, .int x3, .int x4]) (rest := []) X (metX3_isSampling l x1 x2 x3 x4 _ h) (va_cwS 4 X.2.2.2.2 gX3_335 rfl rfl rfl hX3_isSampling ⟨Nat.le_of_ble_eq_true rfl, Nat.le_of_ble_eq_true rfl⟩) rfl hl.1 rfl (Nat.le_of_ble_eq_true rfl) ⟨Nat.zero_le _, Nat.zero_le _⟩ dX3_far_5 ?_
  refine lv_if_eq (tgt := 22) hx hb dX3_far_8 rfl (fun cnd => ?_) (fun cnd => ?_)
  · have hf := ec_t cnd hf
    exact bX3_far_22 X hr hlk hG S _ _ _ hf hM (lv_sub hl [0] rfl)
  · have hf := ec_f cnd hf
    refine lv_iload hx hb dX3_far_11 (lv_at hl 5 rfl) ?_
    refine lv_i2l hx hb dX3_far_13 rfl ?_
    refine lv_lconst (v := 0) hx hb dX3_far_14 (by decide) ?_
    refine lv_lconst (v := 1) hx hb dX3_far_15 (by decide) ?_
    obtain ⟨v_2, h, hf⟩ := ec_bi hf
    refine e_cS (v := .int v_2) (As := [.long (x5.toInt64), .long (0 : Int64), .long (1 : Int64)]) (rest := []) X (metX3_in l (x5.toInt64) (0 : Int64) (1 : Int64) _ h) (va_cwS 3 X.2.2.2.2 gX3_124 rfl rfl rfl hX3_in ⟨Nat.le_of_ble_eq_true rfl, Nat.le_of_ble_eq_true rfl⟩) rfl hl.1 rfl (Nat.le_of_ble_eq_true rfl) ⟨Nat.zero_le _, Nat.zero_le _⟩ dX3_far_16 ?_
    refine lv_if_ne (tgt := 26) hx hb dX3_far_19 rfl (fun cnd => ?_) (fun cnd => ?_)
    · have hf := ec_t cnd hf
      refine lv_aload_n hx hb dX3_far_26 rfl (lv_at hl 0 rfl) ?_
      refine lv_iload_n hx hb dX3_far_27 rfl (lv_at hl 1 rfl) ?_
      refine lv_iload_n hx hb dX3_far_28 rfl (lv_at hl 2 rfl) ?_
      refine lv_iload_n hx hb dX3_far_29 rfl (lv_at hl 3 rfl) ?_
      refine lv_iload hx hb dX3_far_30 (lv_at hl 4 rfl) ?_
      obtain ⟨S_3, h, hf⟩ := ec_bi hf
      refine m_cWv (As := [.int x1, .int x2, .int x3, .int x4]) (rest := []) X hM (metX3_findSamples l D o q d dz hG N S x1 x2 x3 x4 _ h) (cwV 4 X.2.2.2.2 gX3_339 rfl rfl rfl hX3_findSamples ⟨Nat.le_of_ble_eq_true rfl, Nat.le_of_ble_eq_true rfl⟩) rfl hl.1 rfl (Nat.le_of_ble_eq_true rfl) ⟨Nat.zero_le _, Nat.zero_le _⟩ dX3_far_32 (fun H locs hM => ?_)
      refine lv_aload_n hx hb dX3_far_35 rfl (lv_at hl 0 rfl) ?_
      refine m_get (v := .int (S_3.1 45)) X hM 45 (by decide) q1019 rfl rfl dX3_far_36 ?_
      refine lv_aload_n hx hb dX3_far_39 rfl (lv_at hl 0 rfl) ?_
      refine m_get (v := .int (S_3.1 46)) X hM 46 (by decide) q1020 rfl rfl dX3_far_40 ?_
      refine lv_icmp_ne (tgt := 52) hx hb dX3_far_43 rfl (fun cnd => ?_) (fun cnd => ?_)
      · have hf := ec_t cnd hf
        refine lv_aload_n hx hb dX3_far_52 rfl (lv_at hl 0 rfl) ?_
        refine lv_iload_n hx hb dX3_far_53 rfl (lv_at hl 1 rfl) ?_
        obtain ⟨v_4, h, hf⟩ := ec_bi hf
        refine m_cR (v := .long v_4) (As := [.int x1]) (rest := []) X hM (metX3_farNow l D o q d dz N S_3 x1 _ h) (cwV 1 X.2.2.2.2 gX3_349 rfl rfl rfl hX3_farNow ⟨Nat.le_of_ble_eq_true rfl, Nat.le_of_ble_eq_true rfl⟩) rfl hl.1 rfl (Nat.le_of_ble_eq_true rfl) ⟨Nat.zero_le _, Nat.zero_le _⟩ dX3_far_54 ?_
        refine lv_aload_n hx hb dX3_far_57 rfl (lv_at hl 0 rfl) ?_
        refine m_get (v := .int (S_3.1 45)) X hM 45 (by decide) q1019 rfl rfl dX3_far_58 ?_
        refine lv_aload_n hx hb dX3_far_61 rfl (lv_at hl 0 rfl) ?_
        refine m_get (v := .int (S_3.1 46)) X hM 46 (by decide) q1020 rfl rfl dX3_far_62 ?_
        refine lv_isub hx hb dX3_far_65 ?_
        refine lv_i2l hx hb dX3_far_66 rfl ?_
        refine lv_aload_n hx hb dX3_far_67 rfl (lv_at hl 0 rfl) ?_
        refine lv_iload_n hx hb dX3_far_68 rfl (lv_at hl 1 rfl) ?_
        obtain ⟨v_5, h, hf⟩ := ec_bi hf
        refine m_cR (v := .int v_5) (As := [.int x1]) (rest := [.long (((S_3.1 45) - (S_3.1 46)).toInt64), .long v_4]) X hM (metX3_total l D o q d dz N S_3 x1 _ h) (cwV 1 X.2.2.2.2 gX3_257 rfl rfl rfl hX3_total ⟨Nat.le_of_ble_eq_true rfl, Nat.le_of_ble_eq_true rfl⟩) rfl hl.1 rfl (Nat.le_of_ble_eq_true rfl) ⟨Nat.zero_le _, Nat.zero_le _⟩ dX3_far_69 ?_
        refine lv_i2l hx hb dX3_far_72 rfl ?_
        refine lv_lmul hx hb dX3_far_73 ?_
        refine lv_iload hx hb dX3_far_74 (lv_at hl 5 rfl) ?_
        obtain ⟨v_6, h, hf⟩ := ec_bi hf
        refine e_cS (v := .long v_6) (As := [.long v_4, .long ((((S_3.1 45) - (S_3.1 46)).toInt64) * (v_5.toInt64)), .int x5]) (rest := []) X (metX3_told l N v_4 ((((S_3.1 45) - (S_3.1 46)).toInt64) * (v_5.toInt64)) x5 _ h) (va_cwS 3 X.2.2.2.2 gX3_263 rfl rfl rfl hX3_told ⟨Nat.le_of_ble_eq_true rfl, Nat.le_of_ble_eq_true rfl⟩) rfl hl.1 rfl (Nat.le_of_ble_eq_true rfl) ⟨Nat.zero_le _, Nat.zero_le _⟩ dX3_far_76 ?_
        obtain ⟨rfl, rfl⟩ := Prod.mk.inj (Option.some.inj hf)
        exact m_lret X hr hlk hM dX3_far_79
      · have hf := ec_f (not_not_intro cnd) hf
        refine lv_ldc2 (own := RX3) (v := -4) hx hb X.2.2.2.1 (X.2.2.2.2 _ q1396) dX3_far_46 ?_
        refine lv_goto (tgt := 79) hx hb dX3_far_49 rfl ?_
        obtain ⟨rfl, rfl⟩ := Prod.mk.inj (Option.some.inj hf)
        exact m_lret X hr hlk hM dX3_far_79
    · have hf := ec_f (not_not_intro cnd) hf
      exact bX3_far_22 X hr hlk hG S _ _ _ hf hM (lv_sub hl [0] rfl)
theorem hX3_far : yX3_far.cls = RX3 ∧ yX3_far.cls ≠ "java/lang/invoke/MethodHandle" ∧ yX3_far.cls ≠ "java/lang/invoke/VarHandle" ∧ (parseMethodDescriptor yX3_far.desc).map (fun d => d.parameters.length) = some 5 := by decide +kernel

noncomputable def fX3_truest_33 (N : Nat) (S : sM) : Option (Int32 × sM) :=
  some ((-1 : Int32), S)
theorem bX3_truest_33 {N : Nat} (X : CallFix p m c cX3_truest 14 s args lw_all RX3) (hr : meth.sig.returnType = (some .int)) (hlk : meth.locks = false) (hG : MG o q) {res : Int32} {Sr : sM} : ∀ (S : sM) (H : Heap) (locs : List Loc) (ls : Array Slot), fX3_truest_33 N S = some (res, Sr) → MW D o q d dz S s H locs → lv_has ls 14 [(0, .ref o)] → W p l e (rmL 3) s m args below meth c H locs 0 0 (MQ below (MPost D o q d dz (some (.int res)) Sr) args s 0 0 (AM o q)) (F0 m 33 ls []) := by
  have hx := X.1
  have hb := X.2.1
  intro S H locs ls hf hM hl
  unfold fX3_truest_33 at hf
  refine lv_iconst (v := -1) hx hb dX3_truest_33 (by decide) ?_
  obtain ⟨rfl, rfl⟩ := Prod.mk.inj (Option.some.inj hf)
  exact m_iret X hr hlk hM dX3_truest_34
noncomputable def fX3_truest_166 (N : Nat) (k48 : sM → Int32 → Int32 → Int32 → Int32 → Int64 → Int64 → Int32 → Option (Int32 × sM)) (S : sM) (x1 : Int32) (x3 : Int32) (x4 : Int32) (x5 : Int32) (x6 : Int64) (x10 : Int32) (t0 : Int64) : Option (Int32 × sM) :=
  ec_lt (x10 + (1 : Int32)) fun x10_5 =>
  k48 S x1 x3 x4 x5 x6 t0 x10_5
theorem bX3_truest_166 {N : Nat} (X : CallFix p m c cX3_truest 14 s args lw_all RX3) (hr : meth.sig.returnType = (some .int)) (hlk : meth.locks = false) (hG : MG o q) {res : Int32} {Sr : sM} {k48 : sM → Int32 → Int32 → Int32 → Int32 → Int64 → Int64 → Int32 → Option (Int32 × sM)} (Hk48 : ∀ (S : sM) (x1 : Int32) (x3 : Int32) (x4 : Int32) (x5 : Int32) (x6 : Int64) (x8 : Int64) (x10 : Int32) (H : Heap) (locs : List Loc) (ls : Array Slot), k48 S x1 x3 x4 x5 x6 x8 x10 = some (res, Sr) → MW D o q d dz S s H locs → lv_has ls 14 [(0, .ref o), (1, .int x1), (3, .int x3), (4, .int x4), (5, .int x5), (6, .long x6), (8, .long x8), (10, .int x10)] → W p l e (rmL 3) s m args below meth c H locs 0 0 (MQ below (MPost D o q d dz (some (.int res)) Sr) args s 0 0 (AM o q)) (F0 m 48 ls [])) : ∀ (S : sM) (x1 : Int32) (x3 : Int32) (x4 : Int32) (x5 : Int32) (x6 : Int64) (x10 : Int32) (t0 : Int64) (H : Heap) (locs : List Loc) (ls : Array Slot), fX3_truest_166 N k48 S x1 x3 x4 x5 x6 x10 t0 = some (res, Sr) → MW D o q d dz S s H locs → lv_has ls 14 [(0, .ref o), (1, .int x1), (3, .int x3), (4, .int x4), (5, .int x5), (6, .long x6), (10, .int x10)] → W p l e (rmL 3) s m args below meth c H locs 0 0 (MQ below (MPost D o q d dz (some (.int res)) Sr) args s 0 0 (AM o q)) (F0 m 166 ls [.long t0]) := by
  have hx := X.1
  have hb := X.2.1
  intro S x1 x3 x4 x5 x6 x10 t0 H locs ls hf hM hl
  unfold fX3_truest_166 at hf
  refine lv_lstore (lv' := [(8, .long t0), (0, .ref o), (1, .int x1), (3, .int x3), (4, .int x4), (5, .int x5), (6, .long x6), (10, .int x10)]) hx hb dX3_truest_166 hl (by decide) rfl (fun ls hl => ?_)
  refine e_inc (w := 1) (f := fun v => [(10, .int v), (8, .long t0), (0, .ref o), (1, .int x1), (3, .int x3), (4, .int x4), (5, .int x5), (6, .long x6)]) hx hb dX3_truest_168 hl (k := 7) rfl (by decide) (by decide) (fun _ => rfl) (fun x10_5 ex ls hl => ?_)
  have hf := ec_lt_i ex hf
  refine lv_goto (tgt := 48) hx hb dX3_truest_171 rfl ?_
  exact Hk48 S x1 x3 x4 x5 x6 t0 x10_5 _ _ _ hf hM (lv_sub hl [2, 3, 4, 5, 6, 7, 1, 0] rfl)
noncomputable def fX3_truest_144 (N : Nat) (k48 : sM → Int32 → Int32 → Int32 → Int32 → Int64 → Int64 → Int32 → Option (Int32 × sM)) (S : sM) (x1 : Int32) (x3 : Int32) (x4 : Int32) (x5 : Int32) (x8 : Int64) (x10 : Int32) (x13 : Int32) (t0 : Int64) : Option (Int32 × sM) :=
  if x13 = 0 then (
    fX3_truest_166 N k48 S x1 x3 x4 x5 t0 x10 x8)
  else (
    fX3_truest_166 N k48 S x1 x3 x4 x5 t0 x10 (((S.1 45) - (S.1 46)).toInt64))
theorem bX3_truest_144 {N : Nat} (X : CallFix p m c cX3_truest 14 s args lw_all RX3) (hr : meth.sig.returnType = (some .int)) (hlk : meth.locks = false) (hG : MG o q) {res : Int32} {Sr : sM} {k48 : sM → Int32 → Int32 → Int32 → Int32 → Int64 → Int64 → Int32 → Option (Int32 × sM)} (Hk48 : ∀ (S : sM) (x1 : Int32) (x3 : Int32) (x4 : Int32) (x5 : Int32) (x6 : Int64) (x8 : Int64) (x10 : Int32) (H : Heap) (locs : List Loc) (ls : Array Slot), k48 S x1 x3 x4 x5 x6 x8 x10 = some (res, Sr) → MW D o q d dz S s H locs → lv_has ls 14 [(0, .ref o), (1, .int x1), (3, .int x3), (4, .int x4), (5, .int x5), (6, .long x6), (8, .long x8), (10, .int x10)] → W p l e (rmL 3) s m args below meth c H locs 0 0 (MQ below (MPost D o q d dz (some (.int res)) Sr) args s 0 0 (AM o q)) (F0 m 48 ls [])) : ∀ (S : sM) (x1 : Int32) (x3 : Int32) (x4 : Int32) (x5 : Int32) (x8 : Int64) (x10 : Int32) (x13 : Int32) (t0 : Int64) (H : Heap) (locs : List Loc) (ls : Array Slot), fX3_truest_144 N k48 S x1 x3 x4 x5 x8 x10 x13 t0 = some (res, Sr) → MW D o q d dz S s H locs → lv_has ls 14 [(0, .ref o), (1, .int x1), (3, .int x3), (4, .int x4), (5, .int x5), (8, .long x8), (10, .int x10), (13, .int x13)] → W p l e (rmL 3) s m args below meth c H locs 0 0 (MQ below (MPost D o q d dz (some (.int res)) Sr) args s 0 0 (AM o q)) (F0 m 144 ls [.long t0]) := by
  have hx := X.1
  have hb := X.2.1
  intro S x1 x3 x4 x5 x8 x10 x13 t0 H locs ls hf hM hl
  unfold fX3_truest_144 at hf
  refine lv_lstore (lv' := [(6, .long t0), (0, .ref o), (1, .int x1), (3, .int x3), (4, .int x4), (5, .int x5), (8, .long x8), (10, .int x10), (13, .int x13)]) hx hb dX3_truest_144 hl (by decide) rfl (fun ls hl => ?_)
  refine lv_iload hx hb dX3_truest_146 (lv_at hl 8 rfl) ?_
  refine lv_if_eq (tgt := 164) hx hb dX3_truest_148 rfl (fun cnd => ?_) (fun cnd => ?_)
  · have hf := ec_t cnd hf
    refine lv_lload hx hb dX3_truest_164 (lv_at hl 6 rfl) ?_
    exact bX3_truest_166 X hr hlk hG Hk48 S x1 x3 x4 x5 t0 x10 x8 _ _ _ hf hM (lv_sub hl [1, 2, 3, 4, 5, 0, 7] rfl)
  · have hf := ec_f cnd hf
    refine lv_aload_n hx hb dX3_truest_151 rfl (lv_at hl 1 rfl) ?_
    refine m_get (v := .int (S.1 45)) X hM 45 (by decide) q1019 rfl rfl dX3_truest_152 ?_
    refine lv_aload_n hx hb dX3_truest_155 rfl (lv_at hl 1 rfl) ?_
    refine m_get (v := .int (S.1 46)) X hM 46 (by decide) q1020 rfl rfl dX3_truest_156 ?_
    refine lv_isub hx hb dX3_truest_159 ?_
    refine lv_i2l hx hb dX3_truest_160 rfl ?_
    refine lv_goto (tgt := 166) hx hb dX3_truest_161 rfl ?_
    exact bX3_truest_166 X hr hlk hG Hk48 S x1 x3 x4 x5 t0 x10 (((S.1 45) - (S.1 46)).toInt64) _ _ _ hf hM (lv_sub hl [1, 2, 3, 4, 5, 0, 7] rfl)
noncomputable def fX3_truest_130 (N : Nat) (k48 : sM → Int32 → Int32 → Int32 → Int32 → Int64 → Int64 → Int32 → Option (Int32 × sM)) (S : sM) (x1 : Int32) (x3 : Int32) (x4 : Int32) (x6 : Int64) (x8 : Int64) (x10 : Int32) (x11 : Int64) (x13 : Int32) (t0 : Int32) : Option (Int32 × sM) :=
  if x13 = 0 then (
    fX3_truest_144 N k48 S x1 x3 x4 t0 x8 x10 x13 x6)
  else (
    fX3_truest_144 N k48 S x1 x3 x4 t0 x8 x10 x13 x11)
theorem bX3_truest_130 {N : Nat} (X : CallFix p m c cX3_truest 14 s args lw_all RX3) (hr : meth.sig.returnType = (some .int)) (hlk : meth.locks = false) (hG : MG o q) {res : Int32} {Sr : sM} {k48 : sM → Int32 → Int32 → Int32 → Int32 → Int64 → Int64 → Int32 → Option (Int32 × sM)} (Hk48 : ∀ (S : sM) (x1 : Int32) (x3 : Int32) (x4 : Int32) (x5 : Int32) (x6 : Int64) (x8 : Int64) (x10 : Int32) (H : Heap) (locs : List Loc) (ls : Array Slot), k48 S x1 x3 x4 x5 x6 x8 x10 = some (res, Sr) → MW D o q d dz S s H locs → lv_has ls 14 [(0, .ref o), (1, .int x1), (3, .int x3), (4, .int x4), (5, .int x5), (6, .long x6), (8, .long x8), (10, .int x10)] → W p l e (rmL 3) s m args below meth c H locs 0 0 (MQ below (MPost D o q d dz (some (.int res)) Sr) args s 0 0 (AM o q)) (F0 m 48 ls [])) : ∀ (S : sM) (x1 : Int32) (x3 : Int32) (x4 : Int32) (x6 : Int64) (x8 : Int64) (x10 : Int32) (x11 : Int64) (x13 : Int32) (t0 : Int32) (H : Heap) (locs : List Loc) (ls : Array Slot), fX3_truest_130 N k48 S x1 x3 x4 x6 x8 x10 x11 x13 t0 = some (res, Sr) → MW D o q d dz S s H locs → lv_has ls 14 [(0, .ref o), (1, .int x1), (3, .int x3), (4, .int x4), (6, .long x6), (8, .long x8), (10, .int x10), (11, .long x11), (13, .int x13)] → W p l e (rmL 3) s m args below meth c H locs 0 0 (MQ below (MPost D o q d dz (some (.int res)) Sr) args s 0 0 (AM o q)) (F0 m 130 ls [.int t0]) := by
  have hx := X.1
  have hb := X.2.1
  intro S x1 x3 x4 x6 x8 x10 x11 x13 t0 H locs ls hf hM hl
  unfold fX3_truest_130 at hf
  refine lv_istore (lv' := [(5, .int t0), (0, .ref o), (1, .int x1), (3, .int x3), (4, .int x4), (6, .long x6), (8, .long x8), (10, .int x10), (11, .long x11), (13, .int x13)]) hx hb dX3_truest_130 hl (by decide) rfl (fun ls hl => ?_)
  refine lv_iload hx hb dX3_truest_132 (lv_at hl 9 rfl) ?_
  refine lv_if_eq (tgt := 142) hx hb dX3_truest_134 rfl (fun cnd => ?_) (fun cnd => ?_)
  · have hf := ec_t cnd hf
    refine lv_lload hx hb dX3_truest_142 (lv_at hl 5 rfl) ?_
    exact bX3_truest_144 X hr hlk hG Hk48 S x1 x3 x4 t0 x8 x10 x13 x6 _ _ _ hf hM (lv_sub hl [1, 2, 3, 4, 0, 6, 7, 9] rfl)
  · have hf := ec_f cnd hf
    refine lv_lload hx hb dX3_truest_137 (lv_at hl 8 rfl) ?_
    refine lv_goto (tgt := 144) hx hb dX3_truest_139 rfl ?_
    exact bX3_truest_144 X hr hlk hG Hk48 S x1 x3 x4 t0 x8 x10 x13 x11 _ _ _ hf hM (lv_sub hl [1, 2, 3, 4, 0, 6, 7, 9] rfl)
noncomputable def fX3_truest_116 (N : Nat) (k48 : sM → Int32 → Int32 → Int32 → Int32 → Int64 → Int64 → Int32 → Option (Int32 × sM)) (S : sM) (x1 : Int32) (x3 : Int32) (x4 : Int32) (x5 : Int32) (x6 : Int64) (x8 : Int64) (x10 : Int32) (x11 : Int64) (t0 : Int32) : Option (Int32 × sM) :=
  if t0 = 0 then (
    fX3_truest_130 N k48 S x1 x3 x4 x6 x8 x10 x11 t0 x5)
  else (
    fX3_truest_130 N k48 S x1 x3 x4 x6 x8 x10 x11 t0 x10)
theorem bX3_truest_116 {N : Nat} (X : CallFix p m c cX3_truest 14 s args lw_all RX3) (hr : meth.sig.returnType = (some .int)) (hlk : meth.locks = false) (hG : MG o q) {res : Int32} {Sr : sM} {k48 : sM → Int32 → Int32 → Int32 → Int32 → Int64 → Int64 → Int32 → Option (Int32 × sM)} (Hk48 : ∀ (S : sM) (x1 : Int32) (x3 : Int32) (x4 : Int32) (x5 : Int32) (x6 : Int64) (x8 : Int64) (x10 : Int32) (H : Heap) (locs : List Loc) (ls : Array Slot), k48 S x1 x3 x4 x5 x6 x8 x10 = some (res, Sr) → MW D o q d dz S s H locs → lv_has ls 14 [(0, .ref o), (1, .int x1), (3, .int x3), (4, .int x4), (5, .int x5), (6, .long x6), (8, .long x8), (10, .int x10)] → W p l e (rmL 3) s m args below meth c H locs 0 0 (MQ below (MPost D o q d dz (some (.int res)) Sr) args s 0 0 (AM o q)) (F0 m 48 ls [])) : ∀ (S : sM) (x1 : Int32) (x3 : Int32) (x4 : Int32) (x5 : Int32) (x6 : Int64) (x8 : Int64) (x10 : Int32) (x11 : Int64) (t0 : Int32) (H : Heap) (locs : List Loc) (ls : Array Slot), fX3_truest_116 N k48 S x1 x3 x4 x5 x6 x8 x10 x11 t0 = some (res, Sr) → MW D o q d dz S s H locs → lv_has ls 14 [(0, .ref o), (1, .int x1), (3, .int x3), (4, .int x4), (5, .int x5), (6, .long x6), (8, .long x8), (10, .int x10), (11, .long x11)] → W p l e (rmL 3) s m args below meth c H locs 0 0 (MQ below (MPost D o q d dz (some (.int res)) Sr) args s 0 0 (AM o q)) (F0 m 116 ls [.int t0]) := by
  have hx := X.1
  have hb := X.2.1
  intro S x1 x3 x4 x5 x6 x8 x10 x11 t0 H locs ls hf hM hl
  unfold fX3_truest_116 at hf
  refine lv_istore (lv' := [(13, .int t0), (0, .ref o), (1, .int x1), (3, .int x3), (4, .int x4), (5, .int x5), (6, .long x6), (8, .long x8), (10, .int x10), (11, .long x11)]) hx hb dX3_truest_116 hl (by decide) rfl (fun ls hl => ?_)
  refine lv_iload hx hb dX3_truest_118 (lv_at hl 0 rfl) ?_
  refine lv_if_eq (tgt := 128) hx hb dX3_truest_120 rfl (fun cnd => ?_) (fun cnd => ?_)
  · have hf := ec_t cnd hf
    refine lv_iload hx hb dX3_truest_128 (lv_at hl 5 rfl) ?_
    exact bX3_truest_130 X hr hlk hG Hk48 S x1 x3 x4 x6 x8 x10 x11 t0 x5 _ _ _ hf hM (lv_sub hl [1, 2, 3, 4, 6, 7, 8, 9, 0] rfl)
  · have hf := ec_f cnd hf
    refine lv_iload hx hb dX3_truest_123 (lv_at hl 8 rfl) ?_
    refine lv_goto (tgt := 130) hx hb dX3_truest_125 rfl ?_
    exact bX3_truest_130 X hr hlk hG Hk48 S x1 x3 x4 x6 x8 x10 x11 t0 x10 _ _ _ hf hM (lv_sub hl [1, 2, 3, 4, 6, 7, 8, 9, 0] rfl)
noncomputable def fX3_truest_115 (N : Nat) (k48 : sM → Int32 → Int32 → Int32 → Int32 → Int64 → Int64 → Int32 → Option (Int32 × sM)) (S : sM) (x1 : Int32) (x3 : Int32) (x4 : Int32) (x5 : Int32) (x6 : Int64) (x8 : Int64) (x10 : Int32) (x11 : Int64) : Option (Int32 × sM) :=
  fX3_truest_116 N k48 S x1 x3 x4 x5 x6 x8 x10 x11 (0 : Int32)
theorem bX3_truest_115 {N : Nat} (X : CallFix p m c cX3_truest 14 s args lw_all RX3) (hr : meth.sig.returnType = (some .int)) (hlk : meth.locks = false) (hG : MG o q) {res : Int32} {Sr : sM} {k48 : sM → Int32 → Int32 → Int32 → Int32 → Int64 → Int64 → Int32 → Option (Int32 × sM)} (Hk48 : ∀ (S : sM) (x1 : Int32) (x3 : Int32) (x4 : Int32) (x5 : Int32) (x6 : Int64) (x8 : Int64) (x10 : Int32) (H : Heap) (locs : List Loc) (ls : Array Slot), k48 S x1 x3 x4 x5 x6 x8 x10 = some (res, Sr) → MW D o q d dz S s H locs → lv_has ls 14 [(0, .ref o), (1, .int x1), (3, .int x3), (4, .int x4), (5, .int x5), (6, .long x6), (8, .long x8), (10, .int x10)] → W p l e (rmL 3) s m args below meth c H locs 0 0 (MQ below (MPost D o q d dz (some (.int res)) Sr) args s 0 0 (AM o q)) (F0 m 48 ls [])) : ∀ (S : sM) (x1 : Int32) (x3 : Int32) (x4 : Int32) (x5 : Int32) (x6 : Int64) (x8 : Int64) (x10 : Int32) (x11 : Int64) (H : Heap) (locs : List Loc) (ls : Array Slot), fX3_truest_115 N k48 S x1 x3 x4 x5 x6 x8 x10 x11 = some (res, Sr) → MW D o q d dz S s H locs → lv_has ls 14 [(0, .ref o), (1, .int x1), (3, .int x3), (4, .int x4), (5, .int x5), (6, .long x6), (8, .long x8), (10, .int x10), (11, .long x11)] → W p l e (rmL 3) s m args below meth c H locs 0 0 (MQ below (MPost D o q d dz (some (.int res)) Sr) args s 0 0 (AM o q)) (F0 m 115 ls []) := by
  have hx := X.1
  have hb := X.2.1
  intro S x1 x3 x4 x5 x6 x8 x10 x11 H locs ls hf hM hl
  unfold fX3_truest_115 at hf
  refine lv_iconst (v := 0) hx hb dX3_truest_115 (by decide) ?_
  exact bX3_truest_116 X hr hlk hG Hk48 S x1 x3 x4 x5 x6 x8 x10 x11 (0 : Int32) _ _ _ hf hM hl
noncomputable def fX3_truest_111 (N : Nat) (k48 : sM → Int32 → Int32 → Int32 → Int32 → Int64 → Int64 → Int32 → Option (Int32 × sM)) (S : sM) (x1 : Int32) (x3 : Int32) (x4 : Int32) (x5 : Int32) (x6 : Int64) (x8 : Int64) (x10 : Int32) (x11 : Int64) : Option (Int32 × sM) :=
  fX3_truest_116 N k48 S x1 x3 x4 x5 x6 x8 x10 x11 (1 : Int32)
theorem bX3_truest_111 {N : Nat} (X : CallFix p m c cX3_truest 14 s args lw_all RX3) (hr : meth.sig.returnType = (some .int)) (hlk : meth.locks = false) (hG : MG o q) {res : Int32} {Sr : sM} {k48 : sM → Int32 → Int32 → Int32 → Int32 → Int64 → Int64 → Int32 → Option (Int32 × sM)} (Hk48 : ∀ (S : sM) (x1 : Int32) (x3 : Int32) (x4 : Int32) (x5 : Int32) (x6 : Int64) (x8 : Int64) (x10 : Int32) (H : Heap) (locs : List Loc) (ls : Array Slot), k48 S x1 x3 x4 x5 x6 x8 x10 = some (res, Sr) → MW D o q d dz S s H locs → lv_has ls 14 [(0, .ref o), (1, .int x1), (3, .int x3), (4, .int x4), (5, .int x5), (6, .long x6), (8, .long x8), (10, .int x10)] → W p l e (rmL 3) s m args below meth c H locs 0 0 (MQ below (MPost D o q d dz (some (.int res)) Sr) args s 0 0 (AM o q)) (F0 m 48 ls [])) : ∀ (S : sM) (x1 : Int32) (x3 : Int32) (x4 : Int32) (x5 : Int32) (x6 : Int64) (x8 : Int64) (x10 : Int32) (x11 : Int64) (H : Heap) (locs : List Loc) (ls : Array Slot), fX3_truest_111 N k48 S x1 x3 x4 x5 x6 x8 x10 x11 = some (res, Sr) → MW D o q d dz S s H locs → lv_has ls 14 [(0, .ref o), (1, .int x1), (3, .int x3), (4, .int x4), (5, .int x5), (6, .long x6), (8, .long x8), (10, .int x10), (11, .long x11)] → W p l e (rmL 3) s m args below meth c H locs 0 0 (MQ below (MPost D o q d dz (some (.int res)) Sr) args s 0 0 (AM o q)) (F0 m 111 ls []) := by
  have hx := X.1
  have hb := X.2.1
  intro S x1 x3 x4 x5 x6 x8 x10 x11 H locs ls hf hM hl
  unfold fX3_truest_111 at hf
  refine lv_iconst (v := 1) hx hb dX3_truest_111 (by decide) ?_
  refine lv_goto (tgt := 116) hx hb dX3_truest_112 rfl ?_
  exact bX3_truest_116 X hr hlk hG Hk48 S x1 x3 x4 x5 x6 x8 x10 x11 (1 : Int32) _ _ _ hf hM hl
noncomputable def fX3_truest_48 (N : Nat) (kx174 : sM → Int32 → Option (Int32 × sM)) : Nat → sM → Int32 → Int32 → Int32 → Int32 → Int64 → Int64 → Int32 → Option (Int32 × sM)
  | 0, _, _, _, _, _, _, _, _ => none
  | n + 1, S, x1, x3, x4, x5, x6, x8, x10 =>
    if x3 < x10 then (
      kx174 S x5)
    else (
      (fX3_findSamples N S x1 x10 (0 : Int32) x4).bind fun S_3 =>
      (fX3_farNow N S_3 x1).bind fun v_4 =>
      if (S_3.1 45) ≤ (S_3.1 46) then (
        fX3_truest_115 N (fX3_truest_48 N kx174 n) S_3 x1 x3 x4 x5 x6 x8 x10 v_4)
      else (
        if x5 = (-4 : Int32) then (
          fX3_truest_111 N (fX3_truest_48 N kx174 n) S_3 x1 x3 x4 x5 x6 x8 x10 v_4)
        else (
          if 0 ≤ (lg_cmp (v_4 * x8) (x6 * (((S_3.1 45) - (S_3.1 46)).toInt64))) then (
            fX3_truest_115 N (fX3_truest_48 N kx174 n) S_3 x1 x3 x4 x5 x6 x8 x10 v_4)
          else (
            fX3_truest_111 N (fX3_truest_48 N kx174 n) S_3 x1 x3 x4 x5 x6 x8 x10 v_4))))
theorem bX3_truest_48 {N : Nat} (X : CallFix p m c cX3_truest 14 s args lw_all RX3) (hr : meth.sig.returnType = (some .int)) (hlk : meth.locks = false) (hG : MG o q) {res : Int32} {Sr : sM} {kx174 : sM → Int32 → Option (Int32 × sM)} (Hkx174 : ∀ (S : sM) (x5 : Int32) (H : Heap) (locs : List Loc) (ls : Array Slot), kx174 S x5 = some (res, Sr) → MW D o q d dz S s H locs → lv_has ls 14 [(0, .ref o), (5, .int x5)] → W p l e (rmL 3) s m args below meth c H locs 0 0 (MQ below (MPost D o q d dz (some (.int res)) Sr) args s 0 0 (AM o q)) (F0 m 174 ls [])) : ∀ (n : Nat) (S : sM) (x1 : Int32) (x3 : Int32) (x4 : Int32) (x5 : Int32) (x6 : Int64) (x8 : Int64) (x10 : Int32) (H : Heap) (locs : List Loc) (ls : Array Slot), fX3_truest_48 N kx174 n S x1 x3 x4 x5 x6 x8 x10 = some (res, Sr) → MW D o q d dz S s H locs → lv_has ls 14 [(0, .ref o), (1, .int x1), (3, .int x3), (4, .int x4), (5, .int x5), (6, .long x6), (8, .long x8), (10, .int x10)] → W p l e (rmL 3) s m args below meth c H locs 0 0 (MQ below (MPost D o q d dz (some (.int res)) Sr) args s 0 0 (AM o q)) (F0 m 48 ls []) := by
  have hx := X.1
  have hb := X.2.1
  intro n
  induction n with
  | zero =>
    intro S x1 x3 x4 x5 x6 x8 x10 H locs ls hf hM hl
    rw [fX3_truest_48] at hf
    cases hf
  | succ n ih =>
    intro S x1 x3 x4 x5 x6 x8 x10 H locs ls hf hM hl
    rw [fX3_truest_48] at hf
    refine lv_iload hx hb dX3_truest_48 (lv_at hl 7 rfl) ?_
    refine lv_iload_n hx hb dX3_truest_50 rfl (lv_at hl 2 rfl) ?_
    refine lv_icmp_gt (tgt := 174) hx hb dX3_truest_51 rfl (fun cnd => ?_) (fun cnd => ?_)
    · have hf := ec_t cnd hf
      exact Hkx174 S x5 _ _ _ hf hM (lv_sub hl [0, 4] rfl)
    · have hf := ec_f cnd hf
      refine lv_aload_n hx hb dX3_truest_54 rfl (lv_at hl 0 rfl) ?_
      refine lv_iload_n hx hb dX3_truest_55 rfl (lv_at hl 1 rfl) ?_
      refine lv_iload hx hb dX3_truest_56 (lv_at hl 7 rfl) ?_
      refine lv_iconst (v := 0) hx hb dX3_truest_58 (by decide) ?_
      refine lv_iload hx hb dX3_truest_59 (lv_at hl 3 rfl) ?_
      obtain ⟨S_3, h, hf⟩ := ec_bi hf
      refine m_cWv (As := [.int x1, .int x10, .int (0 : Int32), .int x4]) (rest := []) X hM (metX3_findSamples l D o q d dz hG N S x1 x10 (0 : Int32) x4 _ h) (cwV 4 X.2.2.2.2 gX3_339 rfl rfl rfl hX3_findSamples ⟨Nat.le_of_ble_eq_true rfl, Nat.le_of_ble_eq_true rfl⟩) rfl hl.1 rfl (Nat.le_of_ble_eq_true rfl) ⟨Nat.zero_le _, Nat.zero_le _⟩ dX3_truest_61 (fun H locs hM => ?_)
      refine lv_aload_n hx hb dX3_truest_64 rfl (lv_at hl 0 rfl) ?_
      refine lv_iload_n hx hb dX3_truest_65 rfl (lv_at hl 1 rfl) ?_
      obtain ⟨v_4, h, hf⟩ := ec_bi hf
      refine m_cR (v := .long v_4) (As := [.int x1]) (rest := []) X hM (metX3_farNow l D o q d dz N S_3 x1 _ h) (cwV 1 X.2.2.2.2 gX3_349 rfl rfl rfl hX3_farNow ⟨Nat.le_of_ble_eq_true rfl, Nat.le_of_ble_eq_true rfl⟩) rfl hl.1 rfl (Nat.le_of_ble_eq_true rfl) ⟨Nat.zero_le _, Nat.zero_le _⟩ dX3_truest_66 ?_
      refine lv_lstore (lv' := [(11, .long v_4), (0, .ref o), (1, .int x1), (3, .int x3), (4, .int x4), (5, .int x5), (6, .long x6), (8, .long x8), (10, .int x10)]) hx hb dX3_truest_69 hl (by decide) rfl (fun ls hl => ?_)
      refine lv_aload_n hx hb dX3_truest_71 rfl (lv_at hl 1 rfl) ?_
      refine m_get (v := .int (S_3.1 45)) X hM 45 (by decide) q1019 rfl rfl dX3_truest_72 ?_
      refine lv_aload_n hx hb dX3_truest_75 rfl (lv_at hl 1 rfl) ?_
      refine m_get (v := .int (S_3.1 46)) X hM 46 (by decide) q1020 rfl rfl dX3_truest_76 ?_
      refine lv_icmp_le (tgt := 115) hx hb dX3_truest_79 rfl (fun cnd => ?_) (fun cnd => ?_)
      · have hf := ec_t cnd hf
        exact bX3_truest_115 X hr hlk hG ih S_3 x1 x3 x4 x5 x6 x8 x10 v_4 _ _ _ hf hM (lv_sub hl [1, 2, 3, 4, 5, 6, 7, 8, 0] rfl)
      · have hf := ec_f cnd hf
        refine lv_iload hx hb dX3_truest_82 (lv_at hl 5 rfl) ?_
        refine lv_bipush (v := -4) hx hb dX3_truest_84 (by decide) ?_
        refine lv_icmp_eq (tgt := 111) hx hb dX3_truest_86 rfl (fun cnd => ?_) (fun cnd => ?_)
        · have hf := ec_t cnd hf
          exact bX3_truest_111 X hr hlk hG ih S_3 x1 x3 x4 x5 x6 x8 x10 v_4 _ _ _ hf hM (lv_sub hl [1, 2, 3, 4, 5, 6, 7, 8, 0] rfl)
        · have hf := ec_f cnd hf
          refine lv_lload hx hb dX3_truest_89 (lv_at hl 0 rfl) ?_
          refine lv_lload hx hb dX3_truest_91 (lv_at hl 7 rfl) ?_
          refine lv_lmul hx hb dX3_truest_93 ?_
          refine lv_lload hx hb dX3_truest_94 (lv_at hl 6 rfl) ?_
          refine lv_aload_n hx hb dX3_truest_96 rfl (lv_at hl 1 rfl) ?_
          refine m_get (v := .int (S_3.1 45)) X hM 45 (by decide) q1019 rfl rfl dX3_truest_97 ?_
          refine lv_aload_n hx hb dX3_truest_100 rfl (lv_at hl 1 rfl) ?_
          refine m_get (v := .int (S_3.1 46)) X hM 46 (by decide) q1020 rfl rfl dX3_truest_101 ?_
          refine lv_isub hx hb dX3_truest_104 ?_
          refine lv_i2l hx hb dX3_truest_105 rfl ?_
          refine lv_lmul hx hb dX3_truest_106 ?_
          refine W.lcmp hx hb dX3_truest_107 ?_
          refine lv_if_ge (tgt := 115) hx hb dX3_truest_108 rfl (fun cnd => ?_) (fun cnd => ?_)
          · have hf := ec_t cnd hf
            exact bX3_truest_115 X hr hlk hG ih S_3 x1 x3 x4 x5 x6 x8 x10 v_4 _ _ _ hf hM (lv_sub hl [1, 2, 3, 4, 5, 6, 7, 8, 0] rfl)
          · have hf := ec_f cnd hf
            exact bX3_truest_111 X hr hlk hG ih S_3 x1 x3 x4 x5 x6 x8 x10 v_4 _ _ _ hf hM (lv_sub hl [1, 2, 3, 4, 5, 6, 7, 8, 0] rfl)
noncomputable def fX3_truest (N : Nat) (S : sM) (x1 : Int32) (x2 : Int32) (x3 : Int32) (x4 : Int32) : Option (Int32 × sM) :=
  (fX3_isSampling x1 x2 (0 : Int32) x4).bind fun v_1 =>
  if v_1 = 0 then (
    fX3_truest_33 N S)
  else (
    (fX3_in (x3.toInt64) (x2.toInt64) (9999 : Int64)).bind fun v_2 =>
    if v_2 = 0 then (
      fX3_truest_33 N S)
    else (
      if (x3 - x2) ≤ (199 : Int32) then (
        fX3_truest_48 N (fun S_6 x5_7 =>
          some (x5_7, S_6)) N S x1 x3 x4 (-4 : Int32) (0 : Int64) (1 : Int64) x2)
      else (
        fX3_truest_33 N S)))
theorem metX3_truest (l : Launch) (D : va_G) (o : Nat) (q : Nat → Nat) (d dz : ClassId) (hG : MG o q) (N : Nat) (S : sM) (x1 : Int32) (x2 : Int32) (x3 : Int32) (x4 : Int32) (res : Int32) (Sr : sM) (hf : fX3_truest N S x1 x2 x3 x4 = some (res, Sr)) : Met l yX3_truest (ws_ yX3_truest cX3_truest 14 (some .int)) (rmL 3) (MPre D o q d dz S [.int x1, .int x2, .int x3, .int x4]) (MPost D o q d dz (some (.int res)) Sr) 0 0 (AM o q) := by
  refine m_ofW rfl (Nat.le_of_ble_eq_true rfl) (fun p e s m args below meth c X hr hlk hM ls hl => ?_)
  have hl : lv_has ls 14 [(0, .ref o), (1, .int x1), (2, .int x2), (3, .int x3), (4, .int x4)] := hl
  have hx := X.1
  have hb := X.2.1
  unfold fX3_truest at hf
  refine lv_iload_n hx hb dX3_truest_0 rfl (lv_at hl 1 rfl) ?_
  refine lv_iload_n hx hb dX3_truest_1 rfl (lv_at hl 2 rfl) ?_
  refine lv_iconst (v := 0) hx hb dX3_truest_2 (by decide) ?_
  refine lv_iload hx hb dX3_truest_3 (lv_at hl 4 rfl) ?_
  obtain ⟨v_1, h, hf⟩ := ec_bi hf
  refine e_cS (v := .int v_1) (As := [.int x1, .int x2, .int (0 : Int32), .int x4]) (rest := []) X (metX3_isSampling l x1 x2 (0 : Int32) x4 _ h) (va_cwS 4 X.2.2.2.2 gX3_335 rfl rfl rfl hX3_isSampling ⟨Nat.le_of_ble_eq_true rfl, Nat.le_of_ble_eq_true rfl⟩) rfl hl.1 rfl (Nat.le_of_ble_eq_true rfl) ⟨Nat.zero_le _, Nat.zero_le _⟩ dX3_truest_5 ?_
  refine lv_if_eq (tgt := 33) hx hb dX3_truest_8 rfl (fun cnd => ?_) (fun cnd => ?_)
  · have hf := ec_t cnd hf
    exact bX3_truest_33 X hr hlk hG S _ _ _ hf hM (lv_sub hl [0] rfl)
  · have hf := ec_f cnd hf
    refine lv_iload_n hx hb dX3_truest_11 rfl (lv_at hl 3 rfl) ?_
    refine lv_i2l hx hb dX3_truest_12 rfl ?_
    refine lv_iload_n hx hb dX3_truest_13 rfl (lv_at hl 2 rfl) ?_
    refine lv_i2l hx hb dX3_truest_14 rfl ?_
    refine lv_ldc2 (own := RX3) (v := 9999) hx hb X.2.2.2.1 (X.2.2.2.2 _ q1380) dX3_truest_15 ?_
    obtain ⟨v_2, h, hf⟩ := ec_bi hf
    refine e_cS (v := .int v_2) (As := [.long (x3.toInt64), .long (x2.toInt64), .long (9999 : Int64)]) (rest := []) X (metX3_in l (x3.toInt64) (x2.toInt64) (9999 : Int64) _ h) (va_cwS 3 X.2.2.2.2 gX3_124 rfl rfl rfl hX3_in ⟨Nat.le_of_ble_eq_true rfl, Nat.le_of_ble_eq_true rfl⟩) rfl hl.1 rfl (Nat.le_of_ble_eq_true rfl) ⟨Nat.zero_le _, Nat.zero_le _⟩ dX3_truest_18 ?_
    refine lv_if_eq (tgt := 33) hx hb dX3_truest_21 rfl (fun cnd => ?_) (fun cnd => ?_)
    · have hf := ec_t cnd hf
      exact bX3_truest_33 X hr hlk hG S _ _ _ hf hM (lv_sub hl [0] rfl)
    · have hf := ec_f cnd hf
      refine lv_iload_n hx hb dX3_truest_24 rfl (lv_at hl 3 rfl) ?_
      refine lv_iload_n hx hb dX3_truest_25 rfl (lv_at hl 2 rfl) ?_
      refine lv_isub hx hb dX3_truest_26 ?_
      refine lv_sipush (v := 199) hx hb dX3_truest_27 (by decide) ?_
      refine lv_icmp_le (tgt := 35) hx hb dX3_truest_30 rfl (fun cnd => ?_) (fun cnd => ?_)
      · have hf := ec_t cnd hf
        refine lv_bipush (v := -4) hx hb dX3_truest_35 (by decide) ?_
        refine lv_istore (lv' := [(5, .int (-4 : Int32)), (0, .ref o), (1, .int x1), (2, .int x2), (3, .int x3), (4, .int x4)]) hx hb dX3_truest_37 hl (by decide) rfl (fun ls hl => ?_)
        refine lv_lconst (v := 0) hx hb dX3_truest_39 (by decide) ?_
        refine lv_lstore (lv' := [(6, .long (0 : Int64)), (5, .int (-4 : Int32)), (0, .ref o), (1, .int x1), (2, .int x2), (3, .int x3), (4, .int x4)]) hx hb dX3_truest_40 hl (by decide) rfl (fun ls hl => ?_)
        refine lv_lconst (v := 1) hx hb dX3_truest_42 (by decide) ?_
        refine lv_lstore (lv' := [(8, .long (1 : Int64)), (6, .long (0 : Int64)), (5, .int (-4 : Int32)), (0, .ref o), (1, .int x1), (2, .int x2), (3, .int x3), (4, .int x4)]) hx hb dX3_truest_43 hl (by decide) rfl (fun ls hl => ?_)
        refine lv_iload_n hx hb dX3_truest_45 rfl (lv_at hl 5 rfl) ?_
        refine lv_istore (lv' := [(10, .int x2), (8, .long (1 : Int64)), (6, .long (0 : Int64)), (5, .int (-4 : Int32)), (0, .ref o), (1, .int x1), (2, .int x2), (3, .int x3), (4, .int x4)]) hx hb dX3_truest_46 hl (by decide) rfl (fun ls hl => ?_)
        exact bX3_truest_48 X hr hlk hG (fun S_6 x5_7 H locs ls hf hM hl => by
          refine lv_iload hx hb dX3_truest_174 (lv_at hl 1 rfl) ?_
          obtain ⟨rfl, rfl⟩ := Prod.mk.inj (Option.some.inj hf)
          exact m_iret X hr hlk hM dX3_truest_176) N S x1 x3 x4 (-4 : Int32) (0 : Int64) (1 : Int64) x2 _ _ _ hf hM (lv_sub hl [4, 5, 7, 8, 3, 2, 1, 0] rfl)
      · have hf := ec_f cnd hf
        exact bX3_truest_33 X hr hlk hG S _ _ _ hf hM (lv_sub hl [0] rfl)
theorem hX3_truest : yX3_truest.cls = RX3 ∧ yX3_truest.cls ≠ "java/lang/invoke/MethodHandle" ∧ yX3_truest.cls ≠ "java/lang/invoke/VarHandle" ∧ (parseMethodDescriptor yX3_truest.desc).map (fun d => d.parameters.length) = some 4 := by decide +kernel
end
