set_option maxRecDepth 100000
set_option maxHeartbeats 2000000
set_option linter.unusedVariables false
section
variable {p : Program} {l : Launch} {e : Env} {s : State} {m : MethodId} {args : Array Value} {below : List Frame} {meth : Method} {c : Code}
variable {D : va_G} {o : Nat} {q : Nat → Nat} {d dz : ClassId}
noncomputable def fX3_isWithin_27 (N : Nat) (S : sM) (k5 : Int32 → Int32 → Int32 → Option Int32) (x2 : Int32) (x4 : Int32) (t0 : Int32) : Option Int32 :=
  (ec_ag (S.2.2 6) 40 x4).bind fun v_1 =>
  k5 x2 t0 v_1
theorem bX3_isWithin_27 {N : Nat} (X : CallFix p m c cX3_isWithin 5 s args lw_all RX3) (hr : meth.sig.returnType = (some .boolean)) (hlk : meth.locks = false) {S : sM} (hM : MW D o q d dz S s s.heap []) {res : Int32} {k5 : Int32 → Int32 → Int32 → Option Int32} (Hk5 : ∀ (x2 : Int32) (x3 : Int32) (x4 : Int32) (ls : Array Slot), k5 x2 x3 x4 = some res → lv_has ls 5 [(0, .ref o), (2, .int x2), (3, .int x3), (4, .int x4)] → W p l e (rmL 0) s m args below meth c s.heap [] 0 0 (MQ below (k2_QcV (.int res)) args s 0 0 (fun _ => False)) (F0 m 5 ls [])) : ∀ (x2 : Int32) (x4 : Int32) (t0 : Int32) (ls : Array Slot), fX3_isWithin_27 N S k5 x2 x4 t0 = some res → lv_has ls 5 [(0, .ref o), (2, .int x2), (4, .int x4)] → W p l e (rmL 0) s m args below meth c s.heap [] 0 0 (MQ below (k2_QcV (.int res)) args s 0 0 (fun _ => False)) (F0 m 27 ls [.int t0]) := by
  have hx := X.1
  have hb := X.2.1
  intro x2 x4 t0 ls hf hl
  unfold fX3_isWithin_27 at hf
  refine lv_istore_n (lv' := [(3, .int t0), (0, .ref o), (2, .int x2), (4, .int x4)]) hx hb dX3_isWithin_27 rfl hl (by decide) rfl (fun ls hl => ?_)
  refine lv_aload_n hx hb dX3_isWithin_28 rfl (lv_at hl 1 rfl) ?_
  refine m_get (v := .ref (q 6)) X hM 6 (by decide) q980 rfl rfl dX3_isWithin_29 ?_
  refine lv_iload hx hb dX3_isWithin_32 (lv_at hl 3 rfl) ?_
  obtain ⟨v_1, h, hf⟩ := ec_bi hf
  refine m_iald X hM wma6 h dX3_isWithin_34 ?_
  refine lv_istore (lv' := [(4, .int v_1), (3, .int t0), (0, .ref o), (2, .int x2)]) hx hb dX3_isWithin_35 hl (by decide) rfl (fun ls hl => ?_)
  refine lv_goto (tgt := 5) hx hb dX3_isWithin_37 rfl ?_
  exact Hk5 x2 t0 v_1 _ hf (lv_sub hl [2, 3, 1, 0] rfl)
noncomputable def fX3_isWithin_22 (N : Nat) (S : sM) (k5 : Int32 → Int32 → Int32 → Option Int32) (x2 : Int32) (x4 : Int32) : Option Int32 :=
  fX3_isWithin_27 N S k5 x2 x4 (1 : Int32)
theorem bX3_isWithin_22 {N : Nat} (X : CallFix p m c cX3_isWithin 5 s args lw_all RX3) (hr : meth.sig.returnType = (some .boolean)) (hlk : meth.locks = false) {S : sM} (hM : MW D o q d dz S s s.heap []) {res : Int32} {k5 : Int32 → Int32 → Int32 → Option Int32} (Hk5 : ∀ (x2 : Int32) (x3 : Int32) (x4 : Int32) (ls : Array Slot), k5 x2 x3 x4 = some res → lv_has ls 5 [(0, .ref o), (2, .int x2), (3, .int x3), (4, .int x4)] → W p l e (rmL 0) s m args below meth c s.heap [] 0 0 (MQ below (k2_QcV (.int res)) args s 0 0 (fun _ => False)) (F0 m 5 ls [])) : ∀ (x2 : Int32) (x4 : Int32) (ls : Array Slot), fX3_isWithin_22 N S k5 x2 x4 = some res → lv_has ls 5 [(0, .ref o), (2, .int x2), (4, .int x4)] → W p l e (rmL 0) s m args below meth c s.heap [] 0 0 (MQ below (k2_QcV (.int res)) args s 0 0 (fun _ => False)) (F0 m 22 ls []) := by
  have hx := X.1
  have hb := X.2.1
  intro x2 x4 ls hf hl
  unfold fX3_isWithin_22 at hf
  refine lv_iconst (v := 1) hx hb dX3_isWithin_22 (by decide) ?_
  refine lv_goto (tgt := 27) hx hb dX3_isWithin_23 rfl ?_
  exact bX3_isWithin_27 X hr hlk hM Hk5 x2 x4 (1 : Int32) _ hf hl
noncomputable def fX3_isWithin_5 (N : Nat) (S : sM) (kx40 : Int32 → Option Int32) : Nat → Int32 → Int32 → Int32 → Option Int32
  | 0, _, _, _ => none
  | n + 1, x2, x3, x4 =>
    if x4 = (-4 : Int32) then (
      kx40 x3)
    else (
      if ¬ x3 = 0 then (
        fX3_isWithin_22 N S (fX3_isWithin_5 N S kx40 n) x2 x4)
      else (
        if ¬ x4 = x2 then (
          fX3_isWithin_27 N S (fX3_isWithin_5 N S kx40 n) x2 x4 (0 : Int32))
        else (
          fX3_isWithin_22 N S (fX3_isWithin_5 N S kx40 n) x2 x4)))
theorem bX3_isWithin_5 {N : Nat} (X : CallFix p m c cX3_isWithin 5 s args lw_all RX3) (hr : meth.sig.returnType = (some .boolean)) (hlk : meth.locks = false) {S : sM} (hM : MW D o q d dz S s s.heap []) {res : Int32} {kx40 : Int32 → Option Int32} (Hkx40 : ∀ (x3 : Int32) (ls : Array Slot), kx40 x3 = some res → lv_has ls 5 [(0, .ref o), (3, .int x3)] → W p l e (rmL 0) s m args below meth c s.heap [] 0 0 (MQ below (k2_QcV (.int res)) args s 0 0 (fun _ => False)) (F0 m 40 ls [])) : ∀ (n : Nat) (x2 : Int32) (x3 : Int32) (x4 : Int32) (ls : Array Slot), fX3_isWithin_5 N S kx40 n x2 x3 x4 = some res → lv_has ls 5 [(0, .ref o), (2, .int x2), (3, .int x3), (4, .int x4)] → W p l e (rmL 0) s m args below meth c s.heap [] 0 0 (MQ below (k2_QcV (.int res)) args s 0 0 (fun _ => False)) (F0 m 5 ls []) := by
  have hx := X.1
  have hb := X.2.1
  intro n
  induction n with
  | zero =>
    intro x2 x3 x4 ls hf hl
    rw [fX3_isWithin_5] at hf
    cases hf
  | succ n ih =>
    intro x2 x3 x4 ls hf hl
    rw [fX3_isWithin_5] at hf
    refine lv_iload hx hb dX3_isWithin_5 (lv_at hl 3 rfl) ?_
    refine lv_bipush (v := -4) hx hb dX3_isWithin_7 (by decide) ?_
    refine lv_icmp_eq (tgt := 40) hx hb dX3_isWithin_9 rfl (fun cnd => ?_) (fun cnd => ?_)
    · have hf := ec_t cnd hf
      exact Hkx40 x3 _ hf (lv_sub hl [0, 2] rfl)
    · have hf := ec_f cnd hf
      refine lv_iload_n hx hb dX3_isWithin_12 rfl (lv_at hl 2 rfl) ?_
      refine lv_if_ne (tgt := 22) hx hb dX3_isWithin_13 rfl (fun cnd => ?_) (fun cnd => ?_)
      · have hf := ec_t cnd hf
        exact bX3_isWithin_22 X hr hlk hM ih x2 x4 _ hf (lv_sub hl [0, 1, 3] rfl)
      · have hf := ec_f (not_not_intro cnd) hf
        refine lv_iload hx hb dX3_isWithin_16 (lv_at hl 3 rfl) ?_
        refine lv_iload_n hx hb dX3_isWithin_18 rfl (lv_at hl 1 rfl) ?_
        refine lv_icmp_ne (tgt := 26) hx hb dX3_isWithin_19 rfl (fun cnd => ?_) (fun cnd => ?_)
        · have hf := ec_t cnd hf
          refine lv_iconst (v := 0) hx hb dX3_isWithin_26 (by decide) ?_
          exact bX3_isWithin_27 X hr hlk hM ih x2 x4 (0 : Int32) _ hf (lv_sub hl [0, 1, 3] rfl)
        · have hf := ec_f (not_not_intro cnd) hf
          exact bX3_isWithin_22 X hr hlk hM ih x2 x4 _ hf (lv_sub hl [0, 1, 3] rfl)
noncomputable def fX3_isWithin (N : Nat) (S : sM) (x1 : Int32) (x2 : Int32) : Option Int32 :=
  fX3_isWithin_5 N S (fun x3_2 =>
    ec_rz x3_2) N x2 (0 : Int32) x1
theorem metX3_isWithin (l : Launch) (D : va_G) (o : Nat) (q : Nat → Nat) (d dz : ClassId) (N : Nat) (S : sM) (x1 : Int32) (x2 : Int32) (res : Int32) (hf : fX3_isWithin N S x1 x2 = some res) : Met l yX3_isWithin (ws_ yX3_isWithin cX3_isWithin 5 (some .boolean)) (rmL 0) (MPre D o q d dz S [.int x1, .int x2]) (k2_QcV (.int res)) 0 0 (fun _ => False) := by
  refine m_ofR rfl (Nat.le_of_ble_eq_true rfl) (fun p e s m args below meth c X hr hlk hM ls hl => ?_)
  have hl : lv_has ls 5 [(0, .ref o), (1, .int x1), (2, .int x2)] := hl
  have hx := X.1
  have hb := X.2.1
  unfold fX3_isWithin at hf
  refine lv_iconst (v := 0) hx hb dX3_isWithin_0 (by decide) ?_
  refine lv_istore_n (lv' := [(3, .int (0 : Int32)), (0, .ref o), (1, .int x1), (2, .int x2)]) hx hb dX3_isWithin_1 rfl hl (by decide) rfl (fun ls hl => ?_)
  refine lv_iload_n hx hb dX3_isWithin_2 rfl (lv_at hl 2 rfl) ?_
  refine lv_istore (lv' := [(4, .int x1), (3, .int (0 : Int32)), (0, .ref o), (1, .int x1), (2, .int x2)]) hx hb dX3_isWithin_3 hl (by decide) rfl (fun ls hl => ?_)
  exact bX3_isWithin_5 X hr hlk hM (fun x3_2 ls hf hl => by
    refine lv_iload_n hx hb dX3_isWithin_40 rfl (lv_at hl 1 rfl) ?_
    obtain ⟨hn, h2⟩ := ec_rz_i hf
    subst h2
    exact e_zretR hx hb hr hlk hn dX3_isWithin_41) N x2 (0 : Int32) x1 _ hf (lv_sub hl [2, 4, 1, 0] rfl)
theorem hX3_isWithin : yX3_isWithin.cls = RX3 ∧ yX3_isWithin.cls ≠ "java/lang/invoke/MethodHandle" ∧ yX3_isWithin.cls ≠ "java/lang/invoke/VarHandle" ∧ (parseMethodDescriptor yX3_isWithin.desc).map (fun d => d.parameters.length) = some 2 := by decide +kernel

theorem gX3_231 : GoodIn lw_all (wsV RX3 231 RX3 yX3_isWithin (ws_ yX3_isWithin cX3_isWithin 5 (some .boolean))) := lw_V q1225 q1227 qs43 q63 q1228
noncomputable def fX3_linesIn_34 (N : Nat) (S : sM) (k4 : Int32 → Int32 → Int32 → Option Int32) (x1 : Int32) (x3 : Int32) (t0 : Int32) (t1 : Int32) : Option Int32 :=
  ec_lt (t1 ||| t0) fun x2_3 =>
  ec_lt (x3 + (1 : Int32)) fun x3_4 =>
  k4 x1 x2_3 x3_4
theorem bX3_linesIn_34 {N : Nat} (X : CallFix p m c cX3_linesIn 4 s args lw_all RX3) (hr : meth.sig.returnType = (some .int)) (hlk : meth.locks = false) {S : sM} (hM : MW D o q d dz S s s.heap []) {res : Int32} {k4 : Int32 → Int32 → Int32 → Option Int32} (Hk4 : ∀ (x1 : Int32) (x2 : Int32) (x3 : Int32) (ls : Array Slot), k4 x1 x2 x3 = some res → lv_has ls 4 [(0, .ref o), (1, .int x1), (2, .int x2), (3, .int x3)] → W p l e (rmL 1) s m args below meth c s.heap [] 0 0 (MQ below (k2_QcV (.int res)) args s 0 0 (fun _ => False)) (F0 m 4 ls [])) : ∀ (x1 : Int32) (x3 : Int32) (t0 : Int32) (t1 : Int32) (ls : Array Slot), fX3_linesIn_34 N S k4 x1 x3 t0 t1 = some res → lv_has ls 4 [(0, .ref o), (1, .int x1), (3, .int x3)] → W p l e (rmL 1) s m args below meth c s.heap [] 0 0 (MQ below (k2_QcV (.int res)) args s 0 0 (fun _ => False)) (F0 m 34 ls [.int t0, .int t1]) := by
  have hx := X.1
  have hb := X.2.1
  intro x1 x3 t0 t1 ls hf hl
  unfold fX3_linesIn_34 at hf
  refine lv_ior hx hb dX3_linesIn_34 ?_
  refine lv_topi (fun x2_3 ex => ?_)
  have hf := ec_lt_i ex hf
  refine lv_istore_n (lv' := [(2, .int x2_3), (0, .ref o), (1, .int x1), (3, .int x3)]) hx hb dX3_linesIn_35 rfl hl (by decide) rfl (fun ls hl => ?_)
  refine e_inc (w := 1) (f := fun v => [(3, .int v), (2, .int x2_3), (0, .ref o), (1, .int x1)]) hx hb dX3_linesIn_36 hl (k := 3) rfl (by decide) (by decide) (fun _ => rfl) (fun x3_4 ex ls hl => ?_)
  have hf := ec_lt_i ex hf
  refine lv_goto (tgt := 4) hx hb dX3_linesIn_39 rfl ?_
  exact Hk4 x1 x2_3 x3_4 _ hf (lv_sub hl [2, 3, 1, 0] rfl)
noncomputable def fX3_linesIn_4 (N : Nat) (S : sM) (kx42 : Int32 → Option Int32) : Nat → Int32 → Int32 → Int32 → Option Int32
  | 0, _, _, _ => none
  | n + 1, x1, x2, x3 =>
    if (S.1 0) ≤ x3 then (
      kx42 x2)
    else (
      (ec_ag (S.2.2 3) 16 x3).bind fun v_1 =>
      (fX3_isWithin N S v_1 x1).bind fun v_2 =>
      if v_2 = 0 then (
        fX3_linesIn_34 N S (fX3_linesIn_4 N S kx42 n) x1 x3 (0 : Int32) x2)
      else (
        fX3_linesIn_34 N S (fX3_linesIn_4 N S kx42 n) x1 x3 ((1 : Int32) <<< (x3 &&& 31)) x2))
theorem bX3_linesIn_4 {N : Nat} (X : CallFix p m c cX3_linesIn 4 s args lw_all RX3) (hr : meth.sig.returnType = (some .int)) (hlk : meth.locks = false) {S : sM} (hM : MW D o q d dz S s s.heap []) {res : Int32} {kx42 : Int32 → Option Int32} (Hkx42 : ∀ (x2 : Int32) (ls : Array Slot), kx42 x2 = some res → lv_has ls 4 [(0, .ref o), (2, .int x2)] → W p l e (rmL 1) s m args below meth c s.heap [] 0 0 (MQ below (k2_QcV (.int res)) args s 0 0 (fun _ => False)) (F0 m 42 ls [])) : ∀ (n : Nat) (x1 : Int32) (x2 : Int32) (x3 : Int32) (ls : Array Slot), fX3_linesIn_4 N S kx42 n x1 x2 x3 = some res → lv_has ls 4 [(0, .ref o), (1, .int x1), (2, .int x2), (3, .int x3)] → W p l e (rmL 1) s m args below meth c s.heap [] 0 0 (MQ below (k2_QcV (.int res)) args s 0 0 (fun _ => False)) (F0 m 4 ls []) := by
  have hx := X.1
  have hb := X.2.1
  intro n
  induction n with
  | zero =>
    intro x1 x2 x3 ls hf hl
    rw [fX3_linesIn_4] at hf
    cases hf
  | succ n ih =>
    intro x1 x2 x3 ls hf hl
    rw [fX3_linesIn_4] at hf
    refine lv_iload_n hx hb dX3_linesIn_4 rfl (lv_at hl 3 rfl) ?_
    refine lv_aload_n hx hb dX3_linesIn_5 rfl (lv_at hl 0 rfl) ?_
    refine m_get (v := .int (S.1 0)) X hM 0 (by decide) q974 rfl rfl dX3_linesIn_6 ?_
    refine lv_icmp_ge (tgt := 42) hx hb dX3_linesIn_9 rfl (fun cnd => ?_) (fun cnd => ?_)
    · have hf := ec_t cnd hf
      exact Hkx42 x2 _ hf (lv_sub hl [0, 2] rfl)
    · have hf := ec_f cnd hf
      refine lv_iload_n hx hb dX3_linesIn_12 rfl (lv_at hl 2 rfl) ?_
      refine lv_aload_n hx hb dX3_linesIn_13 rfl (lv_at hl 0 rfl) ?_
      refine lv_aload_n hx hb dX3_linesIn_14 rfl (lv_at hl 0 rfl) ?_
      refine m_get (v := .ref (q 3)) X hM 3 (by decide) q977 rfl rfl dX3_linesIn_15 ?_
      refine lv_iload_n hx hb dX3_linesIn_18 rfl (lv_at hl 3 rfl) ?_
      obtain ⟨v_1, h, hf⟩ := ec_bi hf
      refine m_iald X hM wma3 h dX3_linesIn_19 ?_
      refine lv_iload_n hx hb dX3_linesIn_20 rfl (lv_at hl 1 rfl) ?_
      obtain ⟨v_2, h, hf⟩ := ec_bi hf
      refine m_cR (v := .int v_2) (As := [.int v_1, .int x1]) (rest := [.int x2]) X hM (metX3_isWithin l D o q d dz N S v_1 x1 _ h) (cwV 2 X.2.2.2.2 gX3_231 rfl rfl rfl hX3_isWithin ⟨Nat.le_of_ble_eq_true rfl, Nat.le_of_ble_eq_true rfl⟩) rfl hl.1 rfl (Nat.le_of_ble_eq_true rfl) ⟨Nat.zero_le _, Nat.zero_le _⟩ dX3_linesIn_21 ?_
      refine lv_if_eq (tgt := 33) hx hb dX3_linesIn_24 rfl (fun cnd => ?_) (fun cnd => ?_)
      · have hf := ec_t cnd hf
        refine lv_iconst (v := 0) hx hb dX3_linesIn_33 (by decide) ?_
        exact bX3_linesIn_34 X hr hlk hM ih x1 x3 (0 : Int32) x2 _ hf (lv_sub hl [0, 1, 3] rfl)
      · have hf := ec_f cnd hf
        refine lv_iconst (v := 1) hx hb dX3_linesIn_27 (by decide) ?_
        refine lv_iload_n hx hb dX3_linesIn_28 rfl (lv_at hl 3 rfl) ?_
        refine lv_ishl hx hb dX3_linesIn_29 ?_
        refine lv_goto (tgt := 34) hx hb dX3_linesIn_30 rfl ?_
        exact bX3_linesIn_34 X hr hlk hM ih x1 x3 ((1 : Int32) <<< (x3 &&& 31)) x2 _ hf (lv_sub hl [0, 1, 3] rfl)
noncomputable def fX3_linesIn (N : Nat) (S : sM) (x1 : Int32) : Option Int32 :=
  fX3_linesIn_4 N S (fun x2_5 =>
    some x2_5) N x1 (0 : Int32) (0 : Int32)
theorem metX3_linesIn (l : Launch) (D : va_G) (o : Nat) (q : Nat → Nat) (d dz : ClassId) (N : Nat) (S : sM) (x1 : Int32) (res : Int32) (hf : fX3_linesIn N S x1 = some res) : Met l yX3_linesIn (ws_ yX3_linesIn cX3_linesIn 4 (some .int)) (rmL 1) (MPre D o q d dz S [.int x1]) (k2_QcV (.int res)) 0 0 (fun _ => False) := by
  refine m_ofR rfl (Nat.le_of_ble_eq_true rfl) (fun p e s m args below meth c X hr hlk hM ls hl => ?_)
  have hl : lv_has ls 4 [(0, .ref o), (1, .int x1)] := hl
  have hx := X.1
  have hb := X.2.1
  unfold fX3_linesIn at hf
  refine lv_iconst (v := 0) hx hb dX3_linesIn_0 (by decide) ?_
  refine lv_istore_n (lv' := [(2, .int (0 : Int32)), (0, .ref o), (1, .int x1)]) hx hb dX3_linesIn_1 rfl hl (by decide) rfl (fun ls hl => ?_)
  refine lv_iconst (v := 0) hx hb dX3_linesIn_2 (by decide) ?_
  refine lv_istore_n (lv' := [(3, .int (0 : Int32)), (2, .int (0 : Int32)), (0, .ref o), (1, .int x1)]) hx hb dX3_linesIn_3 rfl hl (by decide) rfl (fun ls hl => ?_)
  exact bX3_linesIn_4 X hr hlk hM (fun x2_5 ls hf hl => by
    refine lv_iload_n hx hb dX3_linesIn_42 rfl (lv_at hl 1 rfl) ?_
    obtain rfl := Option.some.inj hf
    exact e_iretR hx hb hr hlk dX3_linesIn_43) N x1 (0 : Int32) (0 : Int32) _ hf (lv_sub hl [2, 3, 1, 0] rfl)
theorem hX3_linesIn : yX3_linesIn.cls = RX3 ∧ yX3_linesIn.cls ≠ "java/lang/invoke/MethodHandle" ∧ yX3_linesIn.cls ≠ "java/lang/invoke/VarHandle" ∧ (parseMethodDescriptor yX3_linesIn.desc).map (fun d => d.parameters.length) = some 1 := by decide +kernel

theorem gX3_228 : GoodIn lw_all (wsV RX3 228 RX3 yX3_linesIn (ws_ yX3_linesIn cX3_linesIn 4 (some .int))) := lw_V q1221 q1223 qs42 q63 q1224
noncomputable def fX3_walk_146 (N : Nat) (k7 : sM → Int32 → Option sM) (S : sM) (x1 : Int32) : Option sM :=
  ec_lt (x1 + (1 : Int32)) fun x1_6 =>
  k7 S x1_6
theorem bX3_walk_146 {N : Nat} (X : CallFix p m c cX3_walk 3 s args lw_all RX3) (hr : meth.sig.returnType = none) (hlk : meth.locks = false) (hG : MG o q) {Sr : sM} {k7 : sM → Int32 → Option sM} (Hk7 : ∀ (S : sM) (x1 : Int32) (H : Heap) (locs : List Loc) (ls : Array Slot), k7 S x1 = some Sr → MW D o q d dz S s H locs → lv_has ls 3 [(0, .ref o), (1, .int x1)] → W p l e (rmL 2) s m args below meth c H locs 0 0 (MQ below (MPost D o q d dz none Sr) args s 0 0 (AM o q)) (F0 m 7 ls [])) : ∀ (S : sM) (x1 : Int32) (H : Heap) (locs : List Loc) (ls : Array Slot), fX3_walk_146 N k7 S x1 = some Sr → MW D o q d dz S s H locs → lv_has ls 3 [(0, .ref o), (1, .int x1)] → W p l e (rmL 2) s m args below meth c H locs 0 0 (MQ below (MPost D o q d dz none Sr) args s 0 0 (AM o q)) (F0 m 146 ls []) := by
  have hx := X.1
  have hb := X.2.1
  intro S x1 H locs ls hf hM hl
  unfold fX3_walk_146 at hf
  refine e_inc (w := 1) (f := fun v => [(1, .int v), (0, .ref o)]) hx hb dX3_walk_146 hl (k := 1) rfl (by decide) (by decide) (fun _ => rfl) (fun x1_6 ex ls hl => ?_)
  have hf := ec_lt_i ex hf
  refine lv_goto (tgt := 7) hx hb dX3_walk_149 rfl ?_
  exact Hk7 S x1_6 _ _ _ hf hM (lv_sub hl [1, 0] rfl)
noncomputable def fX3_walk_145 (N : Nat) (k7 : sM → Int32 → Option sM) (S : sM) (t0 : Int32) : Option sM :=
  fX3_walk_146 N k7 S t0
theorem bX3_walk_145 {N : Nat} (X : CallFix p m c cX3_walk 3 s args lw_all RX3) (hr : meth.sig.returnType = none) (hlk : meth.locks = false) (hG : MG o q) {Sr : sM} {k7 : sM → Int32 → Option sM} (Hk7 : ∀ (S : sM) (x1 : Int32) (H : Heap) (locs : List Loc) (ls : Array Slot), k7 S x1 = some Sr → MW D o q d dz S s H locs → lv_has ls 3 [(0, .ref o), (1, .int x1)] → W p l e (rmL 2) s m args below meth c H locs 0 0 (MQ below (MPost D o q d dz none Sr) args s 0 0 (AM o q)) (F0 m 7 ls [])) : ∀ (S : sM) (t0 : Int32) (H : Heap) (locs : List Loc) (ls : Array Slot), fX3_walk_145 N k7 S t0 = some Sr → MW D o q d dz S s H locs → lv_has ls 3 [(0, .ref o)] → W p l e (rmL 2) s m args below meth c H locs 0 0 (MQ below (MPost D o q d dz none Sr) args s 0 0 (AM o q)) (F0 m 145 ls [.int t0]) := by
  have hx := X.1
  have hb := X.2.1
  intro S t0 H locs ls hf hM hl
  unfold fX3_walk_145 at hf
  refine lv_istore_n (lv' := [(1, .int t0), (0, .ref o)]) hx hb dX3_walk_145 rfl hl (by decide) rfl (fun ls hl => ?_)
  exact bX3_walk_146 X hr hlk hG Hk7 S t0 _ _ _ hf hM (lv_sub hl [1, 0] rfl)
noncomputable def fX3_walk_90 (N : Nat) (k7 : sM → Int32 → Option sM) (S : sM) (x1 : Int32) (x2 : Int32) (t0 : Int32) (t1 : Int32) : Option sM :=
  (ec_as S 32 40 t1 t0).bind fun S_10 =>
  (ec_as S_10 33 40 (x2 - (100 : Int32)) x1).bind fun S_11 =>
  fX3_walk_146 N k7 S_11 x1
theorem bX3_walk_90 {N : Nat} (X : CallFix p m c cX3_walk 3 s args lw_all RX3) (hr : meth.sig.returnType = none) (hlk : meth.locks = false) (hG : MG o q) {Sr : sM} {k7 : sM → Int32 → Option sM} (Hk7 : ∀ (S : sM) (x1 : Int32) (H : Heap) (locs : List Loc) (ls : Array Slot), k7 S x1 = some Sr → MW D o q d dz S s H locs → lv_has ls 3 [(0, .ref o), (1, .int x1)] → W p l e (rmL 2) s m args below meth c H locs 0 0 (MQ below (MPost D o q d dz none Sr) args s 0 0 (AM o q)) (F0 m 7 ls [])) : ∀ (S : sM) (x1 : Int32) (x2 : Int32) (t0 : Int32) (t1 : Int32) (H : Heap) (locs : List Loc) (ls : Array Slot), fX3_walk_90 N k7 S x1 x2 t0 t1 = some Sr → MW D o q d dz S s H locs → lv_has ls 3 [(0, .ref o), (1, .int x1), (2, .int x2)] → W p l e (rmL 2) s m args below meth c H locs 0 0 (MQ below (MPost D o q d dz none Sr) args s 0 0 (AM o q)) (F0 m 90 ls [.int t0, .int t1, .ref (q 32)]) := by
  have hx := X.1
  have hb := X.2.1
  intro S x1 x2 t0 t1 H locs ls hf hM hl
  unfold fX3_walk_90 at hf
  obtain ⟨S_10, h, hf⟩ := ec_bi hf
  refine m_iast X hG hM wma32 wms32 h dX3_walk_90 (fun H locs hM => ?_)
  refine lv_aload_n hx hb dX3_walk_91 rfl (lv_at hl 0 rfl) ?_
  refine m_get (v := .ref (q 33)) X hM 33 (by decide) q1007 rfl rfl dX3_walk_92 ?_
  refine lv_iload_n hx hb dX3_walk_95 rfl (lv_at hl 2 rfl) ?_
  refine lv_bipush (v := 100) hx hb dX3_walk_96 (by decide) ?_
  refine lv_isub hx hb dX3_walk_98 ?_
  refine lv_iload_n hx hb dX3_walk_99 rfl (lv_at hl 1 rfl) ?_
  obtain ⟨S_11, h, hf⟩ := ec_bi hf
  refine m_iast X hG hM wma33 wms33 h dX3_walk_100 (fun H locs hM => ?_)
  refine lv_goto (tgt := 146) hx hb dX3_walk_101 rfl ?_
  exact bX3_walk_146 X hr hlk hG Hk7 S_11 x1 _ _ _ hf hM (lv_sub hl [0, 1] rfl)
noncomputable def fX3_walk_7 (N : Nat) : Nat → sM → Int32 → Option sM
  | 0, _, _ => none
  | n + 1, S, x1 =>
    if (S.1 22) ≤ x1 then (
      some S)
    else (
      (ec_ag (S.2.2 20) 100 x1).bind fun v_2 =>
      if (100 : Int32) ≤ v_2 then (
        if (200 : Int32) ≤ v_2 then (
          (ec_ag (S.2.2 32) 40 (v_2 - (200 : Int32))).bind fun v_3 =>
          (ec_as S 32 40 (v_2 - (200 : Int32)) (v_3 - (1 : Int32))).bind fun S_4 =>
          (ec_ag (S_4.2.2 32) 40 (v_2 - (200 : Int32))).bind fun v_5 =>
          if v_5 ≤ 0 then (
            fX3_walk_145 N (fX3_walk_7 N n) S_4 x1)
          else (
            (ec_ag (S_4.2.2 33) 40 (v_2 - (200 : Int32))).bind fun v_7 =>
            fX3_walk_145 N (fX3_walk_7 N n) S_4 v_7))
        else (
          (fX3_linesIn N S (v_2 - (100 : Int32))).bind fun v_8 =>
          if ¬ v_8 = 0 then (
            (ec_ag (S.2.2 5) 40 (v_2 - (100 : Int32))).bind fun v_9 =>
            fX3_walk_90 N (fX3_walk_7 N n) S x1 v_2 v_9 (v_2 - (100 : Int32)))
          else (
            fX3_walk_90 N (fX3_walk_7 N n) S x1 v_2 (1 : Int32) (v_2 - (100 : Int32)))))
      else (
        (ec_as S 8 6000 (S.1 7) v_2).bind fun S_12 =>
        ec_lt (mI S_12 7 ((S_12.1 7) + (1 : Int32))) fun S_13 =>
        fX3_walk_146 N (fX3_walk_7 N n) S_13 x1))
theorem bX3_walk_7 {N : Nat} (X : CallFix p m c cX3_walk 3 s args lw_all RX3) (hr : meth.sig.returnType = none) (hlk : meth.locks = false) (hG : MG o q) {Sr : sM} : ∀ (n : Nat) (S : sM) (x1 : Int32) (H : Heap) (locs : List Loc) (ls : Array Slot), fX3_walk_7 N n S x1 = some Sr → MW D o q d dz S s H locs → lv_has ls 3 [(0, .ref o), (1, .int x1)] → W p l e (rmL 2) s m args below meth c H locs 0 0 (MQ below (MPost D o q d dz none Sr) args s 0 0 (AM o q)) (F0 m 7 ls []) := by
  have hx := X.1
  have hb := X.2.1
  intro n
  induction n with
  | zero =>
    intro S x1 H locs ls hf hM hl
    rw [fX3_walk_7] at hf
    cases hf
  | succ n ih =>
    intro S x1 H locs ls hf hM hl
    rw [fX3_walk_7] at hf
    refine lv_iload_n hx hb dX3_walk_7 rfl (lv_at hl 1 rfl) ?_
    refine lv_aload_n hx hb dX3_walk_8 rfl (lv_at hl 0 rfl) ?_
    refine m_get (v := .int (S.1 22)) X hM 22 (by decide) q996 rfl rfl dX3_walk_9 ?_
    refine lv_icmp_ge (tgt := 152) hx hb dX3_walk_12 rfl (fun cnd => ?_) (fun cnd => ?_)
    · have hf := ec_t cnd hf
      obtain rfl := Option.some.inj hf
      exact m_vret X hr hlk hM dX3_walk_152
    · have hf := ec_f cnd hf
      refine lv_aload_n hx hb dX3_walk_15 rfl (lv_at hl 0 rfl) ?_
      refine m_get (v := .ref (q 20)) X hM 20 (by decide) q994 rfl rfl dX3_walk_16 ?_
      refine lv_iload_n hx hb dX3_walk_19 rfl (lv_at hl 1 rfl) ?_
      obtain ⟨v_2, h, hf⟩ := ec_bi hf
      refine m_iald X hM wma20 h dX3_walk_20 ?_
      refine lv_istore_n (lv' := [(2, .int v_2), (0, .ref o), (1, .int x1)]) hx hb dX3_walk_21 rfl hl (by decide) rfl (fun ls hl => ?_)
      refine lv_iload_n hx hb dX3_walk_22 rfl (lv_at hl 0 rfl) ?_
      refine lv_bipush (v := 100) hx hb dX3_walk_23 (by decide) ?_
      refine lv_icmp_ge (tgt := 51) hx hb dX3_walk_25 rfl (fun cnd => ?_) (fun cnd => ?_)
      · have hf := ec_t cnd hf
        refine lv_iload_n hx hb dX3_walk_51 rfl (lv_at hl 0 rfl) ?_
        refine lv_sipush (v := 200) hx hb dX3_walk_52 (by decide) ?_
        refine lv_icmp_ge (tgt := 104) hx hb dX3_walk_55 rfl (fun cnd => ?_) (fun cnd => ?_)
        · have hf := ec_t cnd hf
          refine lv_aload_n hx hb dX3_walk_104 rfl (lv_at hl 1 rfl) ?_
          refine m_get (v := .ref (q 32)) X hM 32 (by decide) q1006 rfl rfl dX3_walk_105 ?_
          refine lv_iload_n hx hb dX3_walk_108 rfl (lv_at hl 0 rfl) ?_
          refine lv_sipush (v := 200) hx hb dX3_walk_109 (by decide) ?_
          refine lv_isub hx hb dX3_walk_112 ?_
          refine lv_dup2_11 hx hb dX3_walk_113 rfl rfl ?_
          obtain ⟨v_3, h, hf⟩ := ec_bi hf
          refine m_iald X hM wma32 h dX3_walk_114 ?_
          refine lv_iconst (v := 1) hx hb dX3_walk_115 (by decide) ?_
          refine lv_isub hx hb dX3_walk_116 ?_
          obtain ⟨S_4, h, hf⟩ := ec_bi hf
          refine m_iast X hG hM wma32 wms32 h dX3_walk_117 (fun H locs hM => ?_)
          refine lv_aload_n hx hb dX3_walk_118 rfl (lv_at hl 1 rfl) ?_
          refine m_get (v := .ref (q 32)) X hM 32 (by decide) q1006 rfl rfl dX3_walk_119 ?_
          refine lv_iload_n hx hb dX3_walk_122 rfl (lv_at hl 0 rfl) ?_
          refine lv_sipush (v := 200) hx hb dX3_walk_123 (by decide) ?_
          refine lv_isub hx hb dX3_walk_126 ?_
          obtain ⟨v_5, h, hf⟩ := ec_bi hf
          refine m_iald X hM wma32 h dX3_walk_127 ?_
          refine lv_if_le (tgt := 144) hx hb dX3_walk_128 rfl (fun cnd => ?_) (fun cnd => ?_)
          · have hf := ec_t cnd hf
            refine lv_iload_n hx hb dX3_walk_144 rfl (lv_at hl 2 rfl) ?_
            exact bX3_walk_145 X hr hlk hG ih S_4 x1 _ _ _ hf hM (lv_sub hl [1] rfl)
          · have hf := ec_f cnd hf
            refine lv_aload_n hx hb dX3_walk_131 rfl (lv_at hl 1 rfl) ?_
            refine m_get (v := .ref (q 33)) X hM 33 (by decide) q1007 rfl rfl dX3_walk_132 ?_
            refine lv_iload_n hx hb dX3_walk_135 rfl (lv_at hl 0 rfl) ?_
            refine lv_sipush (v := 200) hx hb dX3_walk_136 (by decide) ?_
            refine lv_isub hx hb dX3_walk_139 ?_
            obtain ⟨v_7, h, hf⟩ := ec_bi hf
            refine m_iald X hM wma33 h dX3_walk_140 ?_
            refine lv_goto (tgt := 145) hx hb dX3_walk_141 rfl ?_
            exact bX3_walk_145 X hr hlk hG ih S_4 v_7 _ _ _ hf hM (lv_sub hl [1] rfl)
        · have hf := ec_f cnd hf
          refine lv_aload_n hx hb dX3_walk_58 rfl (lv_at hl 1 rfl) ?_
          refine m_get (v := .ref (q 32)) X hM 32 (by decide) q1006 rfl rfl dX3_walk_59 ?_
          refine lv_iload_n hx hb dX3_walk_62 rfl (lv_at hl 0 rfl) ?_
          refine lv_bipush (v := 100) hx hb dX3_walk_63 (by decide) ?_
          refine lv_isub hx hb dX3_walk_65 ?_
          refine lv_aload_n hx hb dX3_walk_66 rfl (lv_at hl 1 rfl) ?_
          refine lv_iload_n hx hb dX3_walk_67 rfl (lv_at hl 0 rfl) ?_
          refine lv_bipush (v := 100) hx hb dX3_walk_68 (by decide) ?_
          refine lv_isub hx hb dX3_walk_70 ?_
          obtain ⟨v_8, h, hf⟩ := ec_bi hf
          refine m_cR (v := .int v_8) (As := [.int (v_2 - (100 : Int32))]) (rest := [.int (v_2 - (100 : Int32)), .ref (q 32)]) X hM (metX3_linesIn l D o q d dz N S (v_2 - (100 : Int32)) _ h) (cwV 1 X.2.2.2.2 gX3_228 rfl rfl rfl hX3_linesIn ⟨Nat.le_of_ble_eq_true rfl, Nat.le_of_ble_eq_true rfl⟩) rfl hl.1 rfl (Nat.le_of_ble_eq_true rfl) ⟨Nat.zero_le _, Nat.zero_le _⟩ dX3_walk_71 ?_
          refine lv_if_ne (tgt := 81) hx hb dX3_walk_74 rfl (fun cnd => ?_) (fun cnd => ?_)
          · have hf := ec_t cnd hf
            refine lv_aload_n hx hb dX3_walk_81 rfl (lv_at hl 1 rfl) ?_
            refine m_get (v := .ref (q 5)) X hM 5 (by decide) q979 rfl rfl dX3_walk_82 ?_
            refine lv_iload_n hx hb dX3_walk_85 rfl (lv_at hl 0 rfl) ?_
            refine lv_bipush (v := 100) hx hb dX3_walk_86 (by decide) ?_
            refine lv_isub hx hb dX3_walk_88 ?_
            obtain ⟨v_9, h, hf⟩ := ec_bi hf
            refine m_iald X hM wma5 h dX3_walk_89 ?_
            exact bX3_walk_90 X hr hlk hG ih S x1 v_2 v_9 (v_2 - (100 : Int32)) _ _ _ hf hM (lv_sub hl [1, 2, 0] rfl)
          · have hf := ec_f (not_not_intro cnd) hf
            refine lv_iconst (v := 1) hx hb dX3_walk_77 (by decide) ?_
            refine lv_goto (tgt := 90) hx hb dX3_walk_78 rfl ?_
            exact bX3_walk_90 X hr hlk hG ih S x1 v_2 (1 : Int32) (v_2 - (100 : Int32)) _ _ _ hf hM (lv_sub hl [1, 2, 0] rfl)
      · have hf := ec_f cnd hf
        refine lv_aload_n hx hb dX3_walk_28 rfl (lv_at hl 1 rfl) ?_
        refine m_get (v := .ref (q 8)) X hM 8 (by decide) q982 rfl rfl dX3_walk_29 ?_
        refine lv_aload_n hx hb dX3_walk_32 rfl (lv_at hl 1 rfl) ?_
        refine m_get (v := .int (S.1 7)) X hM 7 (by decide) q981 rfl rfl dX3_walk_33 ?_
        refine lv_iload_n hx hb dX3_walk_36 rfl (lv_at hl 0 rfl) ?_
        obtain ⟨S_12, h, hf⟩ := ec_bi hf
        refine m_iast X hG hM wma8 wms8 h dX3_walk_37 (fun H locs hM => ?_)
        refine lv_aload_n hx hb dX3_walk_38 rfl (lv_at hl 1 rfl) ?_
        refine lv_dup hx hb dX3_walk_39 rfl ?_
        refine m_get (v := .int (S_12.1 7)) X hM 7 (by decide) q981 rfl rfl dX3_walk_40 ?_
        refine lv_iconst (v := 1) hx hb dX3_walk_43 (by decide) ?_
        refine lv_iadd hx hb dX3_walk_44 ?_
        refine m_puti X hG hM 7 (by decide) q981 rfl rfl mfd7 (wmi7 _) dX3_walk_45 (fun S_13 H locs eS hM => ?_)
        have hf := ec_lt_i eS hf
        refine lv_goto (tgt := 146) hx hb dX3_walk_48 rfl ?_
        exact bX3_walk_146 X hr hlk hG ih S_13 x1 _ _ _ hf hM (lv_sub hl [1, 2] rfl)
noncomputable def fX3_walk (N : Nat) (S : sM) : Option sM :=
  ec_lt (mI S 7 (0 : Int32)) fun S_1 =>
  fX3_walk_7 N N S_1 (0 : Int32)
theorem metX3_walk (l : Launch) (D : va_G) (o : Nat) (q : Nat → Nat) (d dz : ClassId) (hG : MG o q) (N : Nat) (S : sM) (Sr : sM) (hf : fX3_walk N S = some Sr) : Met l yX3_walk (ws_ yX3_walk cX3_walk 3 none) (rmL 2) (MPre D o q d dz S []) (MPost D o q d dz none Sr) 0 0 (AM o q) := by
  refine m_ofW rfl (Nat.le_of_ble_eq_true rfl) (fun p e s m args below meth c X hr hlk hM ls hl => ?_)
  have hl : lv_has ls 3 [(0, .ref o)] := hl
  have hx := X.1
  have hb := X.2.1
  unfold fX3_walk at hf
  refine lv_aload_n hx hb dX3_walk_0 rfl (lv_at hl 0 rfl) ?_
  refine lv_iconst (v := 0) hx hb dX3_walk_1 (by decide) ?_
  refine m_puti X hG hM 7 (by decide) q981 rfl rfl mfd7 (wmi7 _) dX3_walk_2 (fun S_1 H locs eS hM => ?_)
  have hf := ec_lt_i eS hf
  refine lv_iconst (v := 0) hx hb dX3_walk_5 (by decide) ?_
  refine lv_istore_n (lv' := [(1, .int (0 : Int32)), (0, .ref o)]) hx hb dX3_walk_6 rfl hl (by decide) rfl (fun ls hl => ?_)
  exact bX3_walk_7 X hr hlk hG N S_1 (0 : Int32) _ _ _ hf hM (lv_sub hl [1, 0] rfl)
theorem hX3_walk : yX3_walk.cls = RX3 ∧ yX3_walk.cls ≠ "java/lang/invoke/MethodHandle" ∧ yX3_walk.cls ≠ "java/lang/invoke/VarHandle" ∧ (parseMethodDescriptor yX3_walk.desc).map (fun d => d.parameters.length) = some 0 := by decide +kernel

theorem gX3_215 : GoodIn lw_all (wsV RX3 215 RX3 yX3_dTimes (ws_ yX3_dTimes cX3_dTimes 5 (some .long))) := lw_V q1208 q1210 qs39 q63 q1211
theorem gX3_219 : GoodIn lw_all (wsV RX3 219 RX3 yX3_walk (ws_ yX3_walk cX3_walk 3 none)) := lw_V q1217 q1219 qs41 q63 q1220
noncomputable def fX3_keepProgram_31 (N : Nat) (kx103 : sM → Option sM) : Nat → sM → Int32 → Option sM
  | 0, _, _ => none
  | n + 1, S, x1 =>
    if (S.1 0) ≤ x1 then (
      kx103 S)
    else (
      (ec_ag (S.2.2 12) 16 x1).bind fun v_5 =>
      (ec_as S 1 16 x1 v_5).bind fun S_6 =>
      (ec_ag (S_6.2.2 14) 16 x1).bind fun v_7 =>
      (ec_as S_6 3 16 x1 v_7).bind fun S_8 =>
      (fX3_dTimes N S_8 x1).bind fun v_9 =>
      (ec_as S_8 9 16 x1 (v_9.toInt32)).bind fun S_10 =>
      (ec_ag (S_10.2.2 1) 16 x1).bind fun v_11 =>
      (ec_ag (S_10.2.2 9) 16 x1).bind fun v_12 =>
      ec_lt (mI S_10 10 ((S_10.1 10) + (v_11 * v_12))) fun S_13 =>
      ec_lt (x1 + (1 : Int32)) fun x1_14 =>
      (fX3_keepProgram_31 N kx103 n) S_13 x1_14)
theorem bX3_keepProgram_31 {N : Nat} (X : CallFix p m c cX3_keepProgram 2 s args lw_all RX3) (hr : meth.sig.returnType = none) (hlk : meth.locks = false) (hG : MG o q) {Sr : sM} {kx103 : sM → Option sM} (Hkx103 : ∀ (S : sM) (H : Heap) (locs : List Loc) (ls : Array Slot), kx103 S = some Sr → MW D o q d dz S s H locs → lv_has ls 2 [(0, .ref o)] → W p l e (rmL 3) s m args below meth c H locs 0 0 (MQ below (MPost D o q d dz none Sr) args s 0 0 (AM o q)) (F0 m 103 ls [])) : ∀ (n : Nat) (S : sM) (x1 : Int32) (H : Heap) (locs : List Loc) (ls : Array Slot), fX3_keepProgram_31 N kx103 n S x1 = some Sr → MW D o q d dz S s H locs → lv_has ls 2 [(0, .ref o), (1, .int x1)] → W p l e (rmL 3) s m args below meth c H locs 0 0 (MQ below (MPost D o q d dz none Sr) args s 0 0 (AM o q)) (F0 m 31 ls []) := by
  have hx := X.1
  have hb := X.2.1
  intro n
  induction n with
  | zero =>
    intro S x1 H locs ls hf hM hl
    rw [fX3_keepProgram_31] at hf
    cases hf
  | succ n ih =>
    intro S x1 H locs ls hf hM hl
    rw [fX3_keepProgram_31] at hf
    refine lv_iload_n hx hb dX3_keepProgram_31 rfl (lv_at hl 1 rfl) ?_
    refine lv_aload_n hx hb dX3_keepProgram_32 rfl (lv_at hl 0 rfl) ?_
    refine m_get (v := .int (S.1 0)) X hM 0 (by decide) q974 rfl rfl dX3_keepProgram_33 ?_
    refine lv_icmp_ge (tgt := 103) hx hb dX3_keepProgram_36 rfl (fun cnd => ?_) (fun cnd => ?_)
    · have hf := ec_t cnd hf
      exact Hkx103 S _ _ _ hf hM (lv_sub hl [0] rfl)
    · have hf := ec_f cnd hf
      refine lv_aload_n hx hb dX3_keepProgram_39 rfl (lv_at hl 0 rfl) ?_
      refine m_get (v := .ref (q 1)) X hM 1 (by decide) q975 rfl rfl dX3_keepProgram_40 ?_
      refine lv_iload_n hx hb dX3_keepProgram_43 rfl (lv_at hl 1 rfl) ?_
      refine lv_aload_n hx hb dX3_keepProgram_44 rfl (lv_at hl 0 rfl) ?_
      refine m_get (v := .ref (q 12)) X hM 12 (by decide) q986 rfl rfl dX3_keepProgram_45 ?_
      refine lv_iload_n hx hb dX3_keepProgram_48 rfl (lv_at hl 1 rfl) ?_
      obtain ⟨v_5, h, hf⟩ := ec_bi hf
      refine m_iald X hM wma12 h dX3_keepProgram_49 ?_
      obtain ⟨S_6, h, hf⟩ := ec_bi hf
      refine m_iast X hG hM wma1 wms1 h dX3_keepProgram_50 (fun H locs hM => ?_)
      refine lv_aload_n hx hb dX3_keepProgram_51 rfl (lv_at hl 0 rfl) ?_
      refine m_get (v := .ref (q 3)) X hM 3 (by decide) q977 rfl rfl dX3_keepProgram_52 ?_
      refine lv_iload_n hx hb dX3_keepProgram_55 rfl (lv_at hl 1 rfl) ?_
      refine lv_aload_n hx hb dX3_keepProgram_56 rfl (lv_at hl 0 rfl) ?_
      refine m_get (v := .ref (q 14)) X hM 14 (by decide) q988 rfl rfl dX3_keepProgram_57 ?_
      refine lv_iload_n hx hb dX3_keepProgram_60 rfl (lv_at hl 1 rfl) ?_
      obtain ⟨v_7, h, hf⟩ := ec_bi hf
      refine m_iald X hM wma14 h dX3_keepProgram_61 ?_
      obtain ⟨S_8, h, hf⟩ := ec_bi hf
      refine m_iast X hG hM wma3 wms3 h dX3_keepProgram_62 (fun H locs hM => ?_)
      refine lv_aload_n hx hb dX3_keepProgram_63 rfl (lv_at hl 0 rfl) ?_
      refine m_get (v := .ref (q 9)) X hM 9 (by decide) q983 rfl rfl dX3_keepProgram_64 ?_
      refine lv_iload_n hx hb dX3_keepProgram_67 rfl (lv_at hl 1 rfl) ?_
      refine lv_aload_n hx hb dX3_keepProgram_68 rfl (lv_at hl 0 rfl) ?_
      refine lv_iload_n hx hb dX3_keepProgram_69 rfl (lv_at hl 1 rfl) ?_
      obtain ⟨v_9, h, hf⟩ := ec_bi hf
      refine m_cR (v := .long v_9) (As := [.int x1]) (rest := [.int x1, .ref (q 9)]) X hM (metX3_dTimes l D o q d dz N S_8 x1 _ h) (cwV 1 X.2.2.2.2 gX3_215 rfl rfl rfl hX3_dTimes ⟨Nat.le_of_ble_eq_true rfl, Nat.le_of_ble_eq_true rfl⟩) rfl hl.1 rfl (Nat.le_of_ble_eq_true rfl) ⟨Nat.zero_le _, Nat.zero_le _⟩ dX3_keepProgram_70 ?_
      refine lv_l2i hx hb dX3_keepProgram_73 rfl ?_
      obtain ⟨S_10, h, hf⟩ := ec_bi hf
      refine m_iast X hG hM wma9 wms9 h dX3_keepProgram_74 (fun H locs hM => ?_)
      refine lv_aload_n hx hb dX3_keepProgram_75 rfl (lv_at hl 0 rfl) ?_
      refine lv_dup hx hb dX3_keepProgram_76 rfl ?_
      refine m_get (v := .int (S_10.1 10)) X hM 10 (by decide) q984 rfl rfl dX3_keepProgram_77 ?_
      refine lv_aload_n hx hb dX3_keepProgram_80 rfl (lv_at hl 0 rfl) ?_
      refine m_get (v := .ref (q 1)) X hM 1 (by decide) q975 rfl rfl dX3_keepProgram_81 ?_
      refine lv_iload_n hx hb dX3_keepProgram_84 rfl (lv_at hl 1 rfl) ?_
      obtain ⟨v_11, h, hf⟩ := ec_bi hf
      refine m_iald X hM wma1 h dX3_keepProgram_85 ?_
      refine lv_aload_n hx hb dX3_keepProgram_86 rfl (lv_at hl 0 rfl) ?_
      refine m_get (v := .ref (q 9)) X hM 9 (by decide) q983 rfl rfl dX3_keepProgram_87 ?_
      refine lv_iload_n hx hb dX3_keepProgram_90 rfl (lv_at hl 1 rfl) ?_
      obtain ⟨v_12, h, hf⟩ := ec_bi hf
      refine m_iald X hM wma9 h dX3_keepProgram_91 ?_
      refine lv_imul hx hb dX3_keepProgram_92 ?_
      refine lv_iadd hx hb dX3_keepProgram_93 ?_
      refine m_puti X hG hM 10 (by decide) q984 rfl rfl mfd10 (wmi10 _) dX3_keepProgram_94 (fun S_13 H locs eS hM => ?_)
      have hf := ec_lt_i eS hf
      refine e_inc (w := 1) (f := fun v => [(1, .int v), (0, .ref o)]) hx hb dX3_keepProgram_97 hl (k := 1) rfl (by decide) (by decide) (fun _ => rfl) (fun x1_14 ex ls hl => ?_)
      have hf := ec_lt_i ex hf
      refine lv_goto (tgt := 31) hx hb dX3_keepProgram_100 rfl ?_
      exact ih S_13 x1_14 _ _ _ hf hM (lv_sub hl [1, 0] rfl)
noncomputable def fX3_keepProgram_105 (N : Nat) (kx130 : sM → Option sM) : Nat → sM → Int32 → Option sM
  | 0, _, _ => none
  | n + 1, S, x1 =>
    if (128 : Int32) ≤ x1 then (
      kx130 S)
    else (
      (ec_ag (S.2.2 13) 128 x1).bind fun v_16 =>
      (ec_as S 2 128 x1 v_16).bind fun S_17 =>
      ec_lt (x1 + (1 : Int32)) fun x1_18 =>
      (fX3_keepProgram_105 N kx130 n) S_17 x1_18)
theorem bX3_keepProgram_105 {N : Nat} (X : CallFix p m c cX3_keepProgram 2 s args lw_all RX3) (hr : meth.sig.returnType = none) (hlk : meth.locks = false) (hG : MG o q) {Sr : sM} {kx130 : sM → Option sM} (Hkx130 : ∀ (S : sM) (H : Heap) (locs : List Loc) (ls : Array Slot), kx130 S = some Sr → MW D o q d dz S s H locs → lv_has ls 2 [(0, .ref o)] → W p l e (rmL 3) s m args below meth c H locs 0 0 (MQ below (MPost D o q d dz none Sr) args s 0 0 (AM o q)) (F0 m 130 ls [])) : ∀ (n : Nat) (S : sM) (x1 : Int32) (H : Heap) (locs : List Loc) (ls : Array Slot), fX3_keepProgram_105 N kx130 n S x1 = some Sr → MW D o q d dz S s H locs → lv_has ls 2 [(0, .ref o), (1, .int x1)] → W p l e (rmL 3) s m args below meth c H locs 0 0 (MQ below (MPost D o q d dz none Sr) args s 0 0 (AM o q)) (F0 m 105 ls []) := by
  have hx := X.1
  have hb := X.2.1
  intro n
  induction n with
  | zero =>
    intro S x1 H locs ls hf hM hl
    rw [fX3_keepProgram_105] at hf
    cases hf
  | succ n ih =>
    intro S x1 H locs ls hf hM hl
    rw [fX3_keepProgram_105] at hf
    refine lv_iload_n hx hb dX3_keepProgram_105 rfl (lv_at hl 1 rfl) ?_
    refine lv_sipush (v := 128) hx hb dX3_keepProgram_106 (by decide) ?_
    refine lv_icmp_ge (tgt := 130) hx hb dX3_keepProgram_109 rfl (fun cnd => ?_) (fun cnd => ?_)
    · have hf := ec_t cnd hf
      exact Hkx130 S _ _ _ hf hM (lv_sub hl [0] rfl)
    · have hf := ec_f cnd hf
      refine lv_aload_n hx hb dX3_keepProgram_112 rfl (lv_at hl 0 rfl) ?_
      refine m_get (v := .ref (q 2)) X hM 2 (by decide) q976 rfl rfl dX3_keepProgram_113 ?_
      refine lv_iload_n hx hb dX3_keepProgram_116 rfl (lv_at hl 1 rfl) ?_
      refine lv_aload_n hx hb dX3_keepProgram_117 rfl (lv_at hl 0 rfl) ?_
      refine m_get (v := .ref (q 13)) X hM 13 (by decide) q987 rfl rfl dX3_keepProgram_118 ?_
      refine lv_iload_n hx hb dX3_keepProgram_121 rfl (lv_at hl 1 rfl) ?_
      obtain ⟨v_16, h, hf⟩ := ec_bi hf
      refine m_iald X hM wma13 h dX3_keepProgram_122 ?_
      obtain ⟨S_17, h, hf⟩ := ec_bi hf
      refine m_iast X hG hM wma2 wms2 h dX3_keepProgram_123 (fun H locs hM => ?_)
      refine e_inc (w := 1) (f := fun v => [(1, .int v), (0, .ref o)]) hx hb dX3_keepProgram_124 hl (k := 1) rfl (by decide) (by decide) (fun _ => rfl) (fun x1_18 ex ls hl => ?_)
      have hf := ec_lt_i ex hf
      refine lv_goto (tgt := 105) hx hb dX3_keepProgram_127 rfl ?_
      exact ih S_17 x1_18 _ _ _ hf hM (lv_sub hl [1, 0] rfl)
noncomputable def fX3_keepProgram_132 (N : Nat) (kx170 : sM → Option sM) : Nat → sM → Int32 → Option sM
  | 0, _, _ => none
  | n + 1, S, x1 =>
    if (S.1 4) ≤ x1 then (
      kx170 S)
    else (
      (ec_ag (S.2.2 16) 40 x1).bind fun v_20 =>
      (ec_as S 5 40 x1 v_20).bind fun S_21 =>
      (ec_ag (S_21.2.2 17) 40 x1).bind fun v_22 =>
      (ec_as S_21 6 40 x1 v_22).bind fun S_23 =>
      ec_lt (x1 + (1 : Int32)) fun x1_24 =>
      (fX3_keepProgram_132 N kx170 n) S_23 x1_24)
theorem bX3_keepProgram_132 {N : Nat} (X : CallFix p m c cX3_keepProgram 2 s args lw_all RX3) (hr : meth.sig.returnType = none) (hlk : meth.locks = false) (hG : MG o q) {Sr : sM} {kx170 : sM → Option sM} (Hkx170 : ∀ (S : sM) (H : Heap) (locs : List Loc) (ls : Array Slot), kx170 S = some Sr → MW D o q d dz S s H locs → lv_has ls 2 [(0, .ref o)] → W p l e (rmL 3) s m args below meth c H locs 0 0 (MQ below (MPost D o q d dz none Sr) args s 0 0 (AM o q)) (F0 m 170 ls [])) : ∀ (n : Nat) (S : sM) (x1 : Int32) (H : Heap) (locs : List Loc) (ls : Array Slot), fX3_keepProgram_132 N kx170 n S x1 = some Sr → MW D o q d dz S s H locs → lv_has ls 2 [(0, .ref o), (1, .int x1)] → W p l e (rmL 3) s m args below meth c H locs 0 0 (MQ below (MPost D o q d dz none Sr) args s 0 0 (AM o q)) (F0 m 132 ls []) := by
  have hx := X.1
  have hb := X.2.1
  intro n
  induction n with
  | zero =>
    intro S x1 H locs ls hf hM hl
    rw [fX3_keepProgram_132] at hf
    cases hf
  | succ n ih =>
    intro S x1 H locs ls hf hM hl
    rw [fX3_keepProgram_132] at hf
    refine lv_iload_n hx hb dX3_keepProgram_132 rfl (lv_at hl 1 rfl) ?_
    refine lv_aload_n hx hb dX3_keepProgram_133 rfl (lv_at hl 0 rfl) ?_
    refine m_get (v := .int (S.1 4)) X hM 4 (by decide) q978 rfl rfl dX3_keepProgram_134 ?_
    refine lv_icmp_ge (tgt := 170) hx hb dX3_keepProgram_137 rfl (fun cnd => ?_) (fun cnd => ?_)
    · have hf := ec_t cnd hf
      exact Hkx170 S _ _ _ hf hM (lv_sub hl [0] rfl)
    · have hf := ec_f cnd hf
      refine lv_aload_n hx hb dX3_keepProgram_140 rfl (lv_at hl 0 rfl) ?_
      refine m_get (v := .ref (q 5)) X hM 5 (by decide) q979 rfl rfl dX3_keepProgram_141 ?_
      refine lv_iload_n hx hb dX3_keepProgram_144 rfl (lv_at hl 1 rfl) ?_
      refine lv_aload_n hx hb dX3_keepProgram_145 rfl (lv_at hl 0 rfl) ?_
      refine m_get (v := .ref (q 16)) X hM 16 (by decide) q990 rfl rfl dX3_keepProgram_146 ?_
      refine lv_iload_n hx hb dX3_keepProgram_149 rfl (lv_at hl 1 rfl) ?_
      obtain ⟨v_20, h, hf⟩ := ec_bi hf
      refine m_iald X hM wma16 h dX3_keepProgram_150 ?_
      obtain ⟨S_21, h, hf⟩ := ec_bi hf
      refine m_iast X hG hM wma5 wms5 h dX3_keepProgram_151 (fun H locs hM => ?_)
      refine lv_aload_n hx hb dX3_keepProgram_152 rfl (lv_at hl 0 rfl) ?_
      refine m_get (v := .ref (q 6)) X hM 6 (by decide) q980 rfl rfl dX3_keepProgram_153 ?_
      refine lv_iload_n hx hb dX3_keepProgram_156 rfl (lv_at hl 1 rfl) ?_
      refine lv_aload_n hx hb dX3_keepProgram_157 rfl (lv_at hl 0 rfl) ?_
      refine m_get (v := .ref (q 17)) X hM 17 (by decide) q991 rfl rfl dX3_keepProgram_158 ?_
      refine lv_iload_n hx hb dX3_keepProgram_161 rfl (lv_at hl 1 rfl) ?_
      obtain ⟨v_22, h, hf⟩ := ec_bi hf
      refine m_iald X hM wma17 h dX3_keepProgram_162 ?_
      obtain ⟨S_23, h, hf⟩ := ec_bi hf
      refine m_iast X hG hM wma6 wms6 h dX3_keepProgram_163 (fun H locs hM => ?_)
      refine e_inc (w := 1) (f := fun v => [(1, .int v), (0, .ref o)]) hx hb dX3_keepProgram_164 hl (k := 1) rfl (by decide) (by decide) (fun _ => rfl) (fun x1_24 ex ls hl => ?_)
      have hf := ec_lt_i ex hf
      refine lv_goto (tgt := 132) hx hb dX3_keepProgram_167 rfl ?_
      exact ih S_23 x1_24 _ _ _ hf hM (lv_sub hl [1, 0] rfl)
noncomputable def fX3_keepProgram_172 (N : Nat) (kx198 : sM → Option sM) : Nat → sM → Int32 → Option sM
  | 0, _, _ => none
  | n + 1, S, x1 =>
    if (S.1 22) ≤ x1 then (
      kx198 S)
    else (
      (ec_ag (S.2.2 21) 100 x1).bind fun v_26 =>
      (ec_as S 20 100 x1 v_26).bind fun S_27 =>
      ec_lt (x1 + (1 : Int32)) fun x1_28 =>
      (fX3_keepProgram_172 N kx198 n) S_27 x1_28)
theorem bX3_keepProgram_172 {N : Nat} (X : CallFix p m c cX3_keepProgram 2 s args lw_all RX3) (hr : meth.sig.returnType = none) (hlk : meth.locks = false) (hG : MG o q) {Sr : sM} {kx198 : sM → Option sM} (Hkx198 : ∀ (S : sM) (H : Heap) (locs : List Loc) (ls : Array Slot), kx198 S = some Sr → MW D o q d dz S s H locs → lv_has ls 2 [(0, .ref o)] → W p l e (rmL 3) s m args below meth c H locs 0 0 (MQ below (MPost D o q d dz none Sr) args s 0 0 (AM o q)) (F0 m 198 ls [])) : ∀ (n : Nat) (S : sM) (x1 : Int32) (H : Heap) (locs : List Loc) (ls : Array Slot), fX3_keepProgram_172 N kx198 n S x1 = some Sr → MW D o q d dz S s H locs → lv_has ls 2 [(0, .ref o), (1, .int x1)] → W p l e (rmL 3) s m args below meth c H locs 0 0 (MQ below (MPost D o q d dz none Sr) args s 0 0 (AM o q)) (F0 m 172 ls []) := by
  have hx := X.1
  have hb := X.2.1
  intro n
  induction n with
  | zero =>
    intro S x1 H locs ls hf hM hl
    rw [fX3_keepProgram_172] at hf
    cases hf
  | succ n ih =>
    intro S x1 H locs ls hf hM hl
    rw [fX3_keepProgram_172] at hf
    refine lv_iload_n hx hb dX3_keepProgram_172 rfl (lv_at hl 1 rfl) ?_
    refine lv_aload_n hx hb dX3_keepProgram_173 rfl (lv_at hl 0 rfl) ?_
    refine m_get (v := .int (S.1 22)) X hM 22 (by decide) q996 rfl rfl dX3_keepProgram_174 ?_
    refine lv_icmp_ge (tgt := 198) hx hb dX3_keepProgram_177 rfl (fun cnd => ?_) (fun cnd => ?_)
    · have hf := ec_t cnd hf
      exact Hkx198 S _ _ _ hf hM (lv_sub hl [0] rfl)
    · have hf := ec_f cnd hf
      refine lv_aload_n hx hb dX3_keepProgram_180 rfl (lv_at hl 0 rfl) ?_
      refine m_get (v := .ref (q 20)) X hM 20 (by decide) q994 rfl rfl dX3_keepProgram_181 ?_
      refine lv_iload_n hx hb dX3_keepProgram_184 rfl (lv_at hl 1 rfl) ?_
      refine lv_aload_n hx hb dX3_keepProgram_185 rfl (lv_at hl 0 rfl) ?_
      refine m_get (v := .ref (q 21)) X hM 21 (by decide) q995 rfl rfl dX3_keepProgram_186 ?_
      refine lv_iload_n hx hb dX3_keepProgram_189 rfl (lv_at hl 1 rfl) ?_
      obtain ⟨v_26, h, hf⟩ := ec_bi hf
      refine m_iald X hM wma21 h dX3_keepProgram_190 ?_
      obtain ⟨S_27, h, hf⟩ := ec_bi hf
      refine m_iast X hG hM wma20 wms20 h dX3_keepProgram_191 (fun H locs hM => ?_)
      refine e_inc (w := 1) (f := fun v => [(1, .int v), (0, .ref o)]) hx hb dX3_keepProgram_192 hl (k := 1) rfl (by decide) (by decide) (fun _ => rfl) (fun x1_28 ex ls hl => ?_)
      have hf := ec_lt_i ex hf
      refine lv_goto (tgt := 172) hx hb dX3_keepProgram_195 rfl ?_
      exact ih S_27 x1_28 _ _ _ hf hM (lv_sub hl [1, 0] rfl)
noncomputable def fX3_keepProgram (N : Nat) (S : sM) : Option sM :=
  ec_lt (mI S 0 (S.1 11)) fun S_1 =>
  ec_lt (mI S_1 4 (S_1.1 15)) fun S_2 =>
  ec_lt (mI S_2 22 (S_2.1 23)) fun S_3 =>
  ec_lt (mI S_3 10 (0 : Int32)) fun S_4 =>
  fX3_keepProgram_31 N (fun S_15 =>
    fX3_keepProgram_105 N (fun S_19 =>
      fX3_keepProgram_132 N (fun S_25 =>
        fX3_keepProgram_172 N (fun S_29 =>
          (fX3_walk N S_29).bind fun S_30 =>
          ec_lt (mI S_30 49 (0 : Int32)) fun S_31 =>
          some S_31) N S_25 (0 : Int32)) N S_19 (0 : Int32)) N S_15 (0 : Int32)) N S_4 (0 : Int32)
theorem metX3_keepProgram (l : Launch) (D : va_G) (o : Nat) (q : Nat → Nat) (d dz : ClassId) (hG : MG o q) (N : Nat) (S : sM) (Sr : sM) (hf : fX3_keepProgram N S = some Sr) : Met l yX3_keepProgram (ws_ yX3_keepProgram cX3_keepProgram 2 none) (rmL 3) (MPre D o q d dz S []) (MPost D o q d dz none Sr) 0 0 (AM o q) := by
  refine m_ofW rfl (Nat.le_of_ble_eq_true rfl) (fun p e s m args below meth c X hr hlk hM ls hl => ?_)
  have hl : lv_has ls 2 [(0, .ref o)] := hl
  have hx := X.1
  have hb := X.2.1
  unfold fX3_keepProgram at hf
  refine lv_aload_n hx hb dX3_keepProgram_0 rfl (lv_at hl 0 rfl) ?_
  refine lv_aload_n hx hb dX3_keepProgram_1 rfl (lv_at hl 0 rfl) ?_
  refine m_get (v := .int (S.1 11)) X hM 11 (by decide) q985 rfl rfl dX3_keepProgram_2 ?_
  refine m_puti X hG hM 0 (by decide) q974 rfl rfl mfd0 (wmi0 _) dX3_keepProgram_5 (fun S_1 H locs eS hM => ?_)
  have hf := ec_lt_i eS hf
  refine lv_aload_n hx hb dX3_keepProgram_8 rfl (lv_at hl 0 rfl) ?_
  refine lv_aload_n hx hb dX3_keepProgram_9 rfl (lv_at hl 0 rfl) ?_
  refine m_get (v := .int (S_1.1 15)) X hM 15 (by decide) q989 rfl rfl dX3_keepProgram_10 ?_
  refine m_puti X hG hM 4 (by decide) q978 rfl rfl mfd4 (wmi4 _) dX3_keepProgram_13 (fun S_2 H locs eS hM => ?_)
  have hf := ec_lt_i eS hf
  refine lv_aload_n hx hb dX3_keepProgram_16 rfl (lv_at hl 0 rfl) ?_
  refine lv_aload_n hx hb dX3_keepProgram_17 rfl (lv_at hl 0 rfl) ?_
  refine m_get (v := .int (S_2.1 23)) X hM 23 (by decide) q997 rfl rfl dX3_keepProgram_18 ?_
  refine m_puti X hG hM 22 (by decide) q996 rfl rfl mfd22 (wmi22 _) dX3_keepProgram_21 (fun S_3 H locs eS hM => ?_)
  have hf := ec_lt_i eS hf
  refine lv_aload_n hx hb dX3_keepProgram_24 rfl (lv_at hl 0 rfl) ?_
  refine lv_iconst (v := 0) hx hb dX3_keepProgram_25 (by decide) ?_
  refine m_puti X hG hM 10 (by decide) q984 rfl rfl mfd10 (wmi10 _) dX3_keepProgram_26 (fun S_4 H locs eS hM => ?_)
  have hf := ec_lt_i eS hf
  refine lv_iconst (v := 0) hx hb dX3_keepProgram_29 (by decide) ?_
  refine lv_istore_n (lv' := [(1, .int (0 : Int32)), (0, .ref o)]) hx hb dX3_keepProgram_30 rfl hl (by decide) rfl (fun ls hl => ?_)
  exact bX3_keepProgram_31 X hr hlk hG (fun S_15 H locs ls hf hM hl => by
    refine lv_iconst (v := 0) hx hb dX3_keepProgram_103 (by decide) ?_
    refine lv_istore_n (lv' := [(1, .int (0 : Int32)), (0, .ref o)]) hx hb dX3_keepProgram_104 rfl hl (by decide) rfl (fun ls hl => ?_)
    exact bX3_keepProgram_105 X hr hlk hG (fun S_19 H locs ls hf hM hl => by
      refine lv_iconst (v := 0) hx hb dX3_keepProgram_130 (by decide) ?_
      refine lv_istore_n (lv' := [(1, .int (0 : Int32)), (0, .ref o)]) hx hb dX3_keepProgram_131 rfl hl (by decide) rfl (fun ls hl => ?_)
      exact bX3_keepProgram_132 X hr hlk hG (fun S_25 H locs ls hf hM hl => by
        refine lv_iconst (v := 0) hx hb dX3_keepProgram_170 (by decide) ?_
        refine lv_istore_n (lv' := [(1, .int (0 : Int32)), (0, .ref o)]) hx hb dX3_keepProgram_171 rfl hl (by decide) rfl (fun ls hl => ?_)
        exact bX3_keepProgram_172 X hr hlk hG (fun S_29 H locs ls hf hM hl => by
          refine lv_aload_n hx hb dX3_keepProgram_198 rfl (lv_at hl 0 rfl) ?_
          obtain ⟨S_30, h, hf⟩ := ec_bi hf
          refine m_cWv (As := []) (rest := []) X hM (metX3_walk l D o q d dz hG N S_29 _ h) (cwV 0 X.2.2.2.2 gX3_219 rfl rfl rfl hX3_walk ⟨Nat.le_of_ble_eq_true rfl, Nat.le_of_ble_eq_true rfl⟩) rfl hl.1 rfl (Nat.le_of_ble_eq_true rfl) ⟨Nat.zero_le _, Nat.zero_le _⟩ dX3_keepProgram_199 (fun H locs hM => ?_)
          refine lv_aload_n hx hb dX3_keepProgram_202 rfl (lv_at hl 0 rfl) ?_
          refine lv_iconst (v := 0) hx hb dX3_keepProgram_203 (by decide) ?_
          refine m_puti X hG hM 49 (by decide) q1023 rfl rfl mfd49 (wmi49 _) dX3_keepProgram_204 (fun S_31 H locs eS hM => ?_)
          have hf := ec_lt_i eS hf
          obtain rfl := Option.some.inj hf
          exact m_vret X hr hlk hM dX3_keepProgram_207) N S_25 (0 : Int32) _ _ _ hf hM (lv_sub hl [1, 0] rfl)) N S_19 (0 : Int32) _ _ _ hf hM (lv_sub hl [1, 0] rfl)) N S_15 (0 : Int32) _ _ _ hf hM (lv_sub hl [1, 0] rfl)) N S_4 (0 : Int32) _ _ _ hf hM (lv_sub hl [1, 0] rfl)
theorem hX3_keepProgram : yX3_keepProgram.cls = RX3 ∧ yX3_keepProgram.cls ≠ "java/lang/invoke/MethodHandle" ∧ yX3_keepProgram.cls ≠ "java/lang/invoke/VarHandle" ∧ (parseMethodDescriptor yX3_keepProgram.desc).map (fun d => d.parameters.length) = some 0 := by decide +kernel

theorem gX3_235 : GoodIn lw_all (wsV RX3 235 RX3 yX3_readItem (ws_ yX3_readItem cX3_readItem 2 none)) := lw_V q1175 q1177 qs31 q63 q1178
theorem gX3_240 : GoodIn lw_all (wsV RX3 240 RX3 yX3_keepProgram (ws_ yX3_keepProgram cX3_keepProgram 2 none)) := lw_V q1213 q1215 qs40 q63 q1216
noncomputable def fX3_program_34 (N : Nat) (kx55 : sM → Option (Int32 × sM)) : Nat → sM → Option (Int32 × sM)
  | 0, _ => none
  | n + 1, S =>
    if ¬ (S.1 30) = 0 then (
      kx55 S)
    else (
      if (S.1 28) = 0 then (
        kx55 S)
      else (
        (fX3_readItem N S).bind fun S_8 =>
        (fX3_program_34 N kx55 n) S_8))
theorem bX3_program_34 {N : Nat} (X : CallFix p m c cX3_program 4 s args lw_all RX3) (hr : meth.sig.returnType = (some .int)) (hlk : meth.locks = false) (hG : MG o q) {res : Int32} {Sr : sM} {kx55 : sM → Option (Int32 × sM)} (Hkx55 : ∀ (S : sM) (H : Heap) (locs : List Loc) (ls : Array Slot), kx55 S = some (res, Sr) → MW D o q d dz S s H locs → lv_has ls 4 [(0, .ref o)] → W p l e (rmL 6) s m args below meth c H locs 0 0 (MQ below (MPost D o q d dz (some (.int res)) Sr) args s 0 0 (AM o q)) (F0 m 55 ls [])) : ∀ (n : Nat) (S : sM) (H : Heap) (locs : List Loc) (ls : Array Slot), fX3_program_34 N kx55 n S = some (res, Sr) → MW D o q d dz S s H locs → lv_has ls 4 [(0, .ref o)] → W p l e (rmL 6) s m args below meth c H locs 0 0 (MQ below (MPost D o q d dz (some (.int res)) Sr) args s 0 0 (AM o q)) (F0 m 34 ls []) := by
  have hx := X.1
  have hb := X.2.1
  intro n
  induction n with
  | zero =>
    intro S H locs ls hf hM hl
    rw [fX3_program_34] at hf
    cases hf
  | succ n ih =>
    intro S H locs ls hf hM hl
    rw [fX3_program_34] at hf
    refine lv_aload_n hx hb dX3_program_34 rfl (lv_at hl 0 rfl) ?_
    refine m_get (v := .int (S.1 30)) X hM 30 (by decide) q1004 rfl rfl dX3_program_35 ?_
    refine lv_if_ne (tgt := 55) hx hb dX3_program_38 rfl (fun cnd => ?_) (fun cnd => ?_)
    · have hf := ec_t cnd hf
      exact Hkx55 S _ _ _ hf hM hl
    · have hf := ec_f (not_not_intro cnd) hf
      refine lv_aload_n hx hb dX3_program_41 rfl (lv_at hl 0 rfl) ?_
      refine m_get (v := .int (S.1 28)) X hM 28 (by decide) q1002 rfl rfl dX3_program_42 ?_
      refine lv_if_eq (tgt := 55) hx hb dX3_program_45 rfl (fun cnd => ?_) (fun cnd => ?_)
      · have hf := ec_t cnd hf
        exact Hkx55 S _ _ _ hf hM hl
      · have hf := ec_f cnd hf
        refine lv_aload_n hx hb dX3_program_48 rfl (lv_at hl 0 rfl) ?_
        obtain ⟨S_8, h, hf⟩ := ec_bi hf
        refine m_cWv (As := []) (rest := []) X hM (metX3_readItem l D o q d dz hG N S _ h) (cwV 0 X.2.2.2.2 gX3_235 rfl rfl rfl hX3_readItem ⟨Nat.le_of_ble_eq_true rfl, Nat.le_of_ble_eq_true rfl⟩) rfl hl.1 rfl (Nat.le_of_ble_eq_true rfl) ⟨Nat.zero_le _, Nat.zero_le _⟩ dX3_program_49 (fun H locs hM => ?_)
        refine lv_goto (tgt := 34) hx hb dX3_program_52 rfl ?_
        exact ih S_8 _ _ _ hf hM hl
noncomputable def fX3_program_76 (N : Nat) (kx98 : sM → Int64 → Option (Int32 × sM)) : Nat → sM → Int64 → Int32 → Option (Int32 × sM)
  | 0, _, _, _ => none
  | n + 1, S, x1, x3 =>
    if (S.1 11) ≤ x3 then (
      kx98 S x1)
    else (
      (fX3_dTimes N S x3).bind fun v_11 =>
      ec_lt (x1 + v_11) fun x1_12 =>
      ec_lt (x3 + (1 : Int32)) fun x3_13 =>
      (fX3_program_76 N kx98 n) S x1_12 x3_13)
theorem bX3_program_76 {N : Nat} (X : CallFix p m c cX3_program 4 s args lw_all RX3) (hr : meth.sig.returnType = (some .int)) (hlk : meth.locks = false) (hG : MG o q) {res : Int32} {Sr : sM} {kx98 : sM → Int64 → Option (Int32 × sM)} (Hkx98 : ∀ (S : sM) (x1 : Int64) (H : Heap) (locs : List Loc) (ls : Array Slot), kx98 S x1 = some (res, Sr) → MW D o q d dz S s H locs → lv_has ls 4 [(0, .ref o), (1, .long x1)] → W p l e (rmL 6) s m args below meth c H locs 0 0 (MQ below (MPost D o q d dz (some (.int res)) Sr) args s 0 0 (AM o q)) (F0 m 98 ls [])) : ∀ (n : Nat) (S : sM) (x1 : Int64) (x3 : Int32) (H : Heap) (locs : List Loc) (ls : Array Slot), fX3_program_76 N kx98 n S x1 x3 = some (res, Sr) → MW D o q d dz S s H locs → lv_has ls 4 [(0, .ref o), (1, .long x1), (3, .int x3)] → W p l e (rmL 6) s m args below meth c H locs 0 0 (MQ below (MPost D o q d dz (some (.int res)) Sr) args s 0 0 (AM o q)) (F0 m 76 ls []) := by
  have hx := X.1
  have hb := X.2.1
  intro n
  induction n with
  | zero =>
    intro S x1 x3 H locs ls hf hM hl
    rw [fX3_program_76] at hf
    cases hf
  | succ n ih =>
    intro S x1 x3 H locs ls hf hM hl
    rw [fX3_program_76] at hf
    refine lv_iload_n hx hb dX3_program_76 rfl (lv_at hl 2 rfl) ?_
    refine lv_aload_n hx hb dX3_program_77 rfl (lv_at hl 0 rfl) ?_
    refine m_get (v := .int (S.1 11)) X hM 11 (by decide) q985 rfl rfl dX3_program_78 ?_
    refine lv_icmp_ge (tgt := 98) hx hb dX3_program_81 rfl (fun cnd => ?_) (fun cnd => ?_)
    · have hf := ec_t cnd hf
      exact Hkx98 S x1 _ _ _ hf hM (lv_sub hl [0, 1] rfl)
    · have hf := ec_f cnd hf
      refine lv_lload_n hx hb dX3_program_84 rfl (lv_at hl 1 rfl) ?_
      refine lv_aload_n hx hb dX3_program_85 rfl (lv_at hl 0 rfl) ?_
      refine lv_iload_n hx hb dX3_program_86 rfl (lv_at hl 2 rfl) ?_
      obtain ⟨v_11, h, hf⟩ := ec_bi hf
      refine m_cR (v := .long v_11) (As := [.int x3]) (rest := [.long x1]) X hM (metX3_dTimes l D o q d dz N S x3 _ h) (cwV 1 X.2.2.2.2 gX3_215 rfl rfl rfl hX3_dTimes ⟨Nat.le_of_ble_eq_true rfl, Nat.le_of_ble_eq_true rfl⟩) rfl hl.1 rfl (Nat.le_of_ble_eq_true rfl) ⟨Nat.zero_le _, Nat.zero_le _⟩ dX3_program_87 ?_
      refine lv_ladd hx hb dX3_program_90 ?_
      refine lv_topl (fun x1_12 ex => ?_)
      have hf := ec_lt_i ex hf
      refine lv_lstore_n (lv' := [(1, .long x1_12), (0, .ref o), (3, .int x3)]) hx hb dX3_program_91 rfl hl (by decide) rfl (fun ls hl => ?_)
      refine e_inc (w := 1) (f := fun v => [(3, .int v), (1, .long x1_12), (0, .ref o)]) hx hb dX3_program_92 hl (k := 2) rfl (by decide) (by decide) (fun _ => rfl) (fun x3_13 ex ls hl => ?_)
      have hf := ec_lt_i ex hf
      refine lv_goto (tgt := 76) hx hb dX3_program_95 rfl ?_
      exact ih S x1_12 x3_13 _ _ _ hf hM (lv_sub hl [2, 1, 0] rfl)
noncomputable def fX3_program_127 (N : Nat) (S : sM) : Option (Int32 × sM) :=
  ec_lt (mI S 25 (0 : Int32)) fun S_16 =>
  if (S_16.1 30) ≤ 0 then (
    (fX3_keepProgram N S_16).bind fun S_17 =>
    some ((S_17.1 0), S_17))
  else (
    some (((-10 : Int32) - (S_16.1 31)), S_16))
theorem bX3_program_127 {N : Nat} (X : CallFix p m c cX3_program 4 s args lw_all RX3) (hr : meth.sig.returnType = (some .int)) (hlk : meth.locks = false) (hG : MG o q) {res : Int32} {Sr : sM} : ∀ (S : sM) (H : Heap) (locs : List Loc) (ls : Array Slot), fX3_program_127 N S = some (res, Sr) → MW D o q d dz S s H locs → lv_has ls 4 [(0, .ref o)] → W p l e (rmL 6) s m args below meth c H locs 0 0 (MQ below (MPost D o q d dz (some (.int res)) Sr) args s 0 0 (AM o q)) (F0 m 127 ls []) := by
  have hx := X.1
  have hb := X.2.1
  intro S H locs ls hf hM hl
  unfold fX3_program_127 at hf
  refine lv_aload_n hx hb dX3_program_127 rfl (lv_at hl 0 rfl) ?_
  refine lv_iconst (v := 0) hx hb dX3_program_128 (by decide) ?_
  refine m_puti X hG hM 25 (by decide) q999 rfl rfl mfd25 (wmi25 _) dX3_program_129 (fun S_16 H locs eS hM => ?_)
  have hf := ec_lt_i eS hf
  refine lv_aload_n hx hb dX3_program_132 rfl (lv_at hl 0 rfl) ?_
  refine m_get (v := .int (S_16.1 30)) X hM 30 (by decide) q1004 rfl rfl dX3_program_133 ?_
  refine lv_if_le (tgt := 147) hx hb dX3_program_136 rfl (fun cnd => ?_) (fun cnd => ?_)
  · have hf := ec_t cnd hf
    refine lv_aload_n hx hb dX3_program_147 rfl (lv_at hl 0 rfl) ?_
    obtain ⟨S_17, h, hf⟩ := ec_bi hf
    refine m_cWv (As := []) (rest := []) X hM (metX3_keepProgram l D o q d dz hG N S_16 _ h) (cwV 0 X.2.2.2.2 gX3_240 rfl rfl rfl hX3_keepProgram ⟨Nat.le_of_ble_eq_true rfl, Nat.le_of_ble_eq_true rfl⟩) rfl hl.1 rfl (Nat.le_of_ble_eq_true rfl) ⟨Nat.zero_le _, Nat.zero_le _⟩ dX3_program_148 (fun H locs hM => ?_)
    refine lv_aload_n hx hb dX3_program_151 rfl (lv_at hl 0 rfl) ?_
    refine m_get (v := .int (S_17.1 0)) X hM 0 (by decide) q974 rfl rfl dX3_program_152 ?_
    obtain ⟨rfl, rfl⟩ := Prod.mk.inj (Option.some.inj hf)
    exact m_iret X hr hlk hM dX3_program_155
  · have hf := ec_f cnd hf
    refine lv_bipush (v := -10) hx hb dX3_program_139 (by decide) ?_
    refine lv_aload_n hx hb dX3_program_141 rfl (lv_at hl 0 rfl) ?_
    refine m_get (v := .int (S_16.1 31)) X hM 31 (by decide) q1005 rfl rfl dX3_program_142 ?_
    refine lv_isub hx hb dX3_program_145 ?_
    obtain ⟨rfl, rfl⟩ := Prod.mk.inj (Option.some.inj hf)
    exact m_iret X hr hlk hM dX3_program_146
noncomputable def fX3_program_68 (N : Nat) (S : sM) (t0 : Int32) : Option (Int32 × sM) :=
  (fX3_wants S t0 (2 : Int32)).bind fun S_10 =>
  fX3_program_76 N (fun S_14 x1_15 =>
    if ¬ (S_14.1 30) = 0 then (
      fX3_program_127 N S_14)
    else (
      if (lg_cmp x1_15 (6000 : Int64)) ≤ 0 then (
        fX3_program_127 N S_14)
      else (
        ec_lt (mI S_14 30 (6 : Int32)) fun S_18 =>
        ec_lt (mI S_18 31 (S_18.1 25)) fun S_19 =>
        fX3_program_127 N S_19))) N S_10 (0 : Int64) (0 : Int32)
theorem bX3_program_68 {N : Nat} (X : CallFix p m c cX3_program 4 s args lw_all RX3) (hr : meth.sig.returnType = (some .int)) (hlk : meth.locks = false) (hG : MG o q) {res : Int32} {Sr : sM} : ∀ (S : sM) (t0 : Int32) (H : Heap) (locs : List Loc) (ls : Array Slot), fX3_program_68 N S t0 = some (res, Sr) → MW D o q d dz S s H locs → lv_has ls 4 [(0, .ref o)] → W p l e (rmL 6) s m args below meth c H locs 0 0 (MQ below (MPost D o q d dz (some (.int res)) Sr) args s 0 0 (AM o q)) (F0 m 68 ls [.int t0, .ref o]) := by
  have hx := X.1
  have hb := X.2.1
  intro S t0 H locs ls hf hM hl
  unfold fX3_program_68 at hf
  refine lv_iconst (v := 2) hx hb dX3_program_68 (by decide) ?_
  obtain ⟨S_10, h, hf⟩ := ec_bi hf
  refine m_cWv (As := [.int t0, .int (2 : Int32)]) (rest := []) X hM (metX3_wants l D o q d dz hG S t0 (2 : Int32) _ h) (cwV 2 X.2.2.2.2 gX3_162 rfl rfl rfl hX3_wants ⟨Nat.le_of_ble_eq_true rfl, Nat.le_of_ble_eq_true rfl⟩) rfl hl.1 rfl (Nat.le_of_ble_eq_true rfl) ⟨Nat.zero_le _, Nat.zero_le _⟩ dX3_program_69 (fun H locs hM => ?_)
  refine lv_lconst (v := 0) hx hb dX3_program_72 (by decide) ?_
  refine lv_lstore_n (lv' := [(1, .long (0 : Int64)), (0, .ref o)]) hx hb dX3_program_73 rfl hl (by decide) rfl (fun ls hl => ?_)
  refine lv_iconst (v := 0) hx hb dX3_program_74 (by decide) ?_
  refine lv_istore_n (lv' := [(3, .int (0 : Int32)), (1, .long (0 : Int64)), (0, .ref o)]) hx hb dX3_program_75 rfl hl (by decide) rfl (fun ls hl => ?_)
  exact bX3_program_76 X hr hlk hG (fun S_14 x1_15 H locs ls hf hM hl => by
    refine lv_aload_n hx hb dX3_program_98 rfl (lv_at hl 0 rfl) ?_
    refine m_get (v := .int (S_14.1 30)) X hM 30 (by decide) q1004 rfl rfl dX3_program_99 ?_
    refine lv_if_ne (tgt := 127) hx hb dX3_program_102 rfl (fun cnd => ?_) (fun cnd => ?_)
    · have hf := ec_t cnd hf
      exact bX3_program_127 X hr hlk hG S_14 _ _ _ hf hM (lv_sub hl [0] rfl)
    · have hf := ec_f (not_not_intro cnd) hf
      refine lv_lload_n hx hb dX3_program_105 rfl (lv_at hl 1 rfl) ?_
      refine lv_ldc2 (own := RX3) (v := 6000) hx hb X.2.2.2.1 (X.2.2.2.2 _ q1212) dX3_program_106 ?_
      refine W.lcmp hx hb dX3_program_109 ?_
      refine lv_if_le (tgt := 127) hx hb dX3_program_110 rfl (fun cnd => ?_) (fun cnd => ?_)
      · have hf := ec_t cnd hf
        exact bX3_program_127 X hr hlk hG S_14 _ _ _ hf hM (lv_sub hl [0] rfl)
      · have hf := ec_f cnd hf
        refine lv_aload_n hx hb dX3_program_113 rfl (lv_at hl 0 rfl) ?_
        refine lv_bipush (v := 6) hx hb dX3_program_114 (by decide) ?_
        refine m_puti X hG hM 30 (by decide) q1004 rfl rfl mfd30 (wmi30 _) dX3_program_116 (fun S_18 H locs eS hM => ?_)
        have hf := ec_lt_i eS hf
        refine lv_aload_n hx hb dX3_program_119 rfl (lv_at hl 0 rfl) ?_
        refine lv_aload_n hx hb dX3_program_120 rfl (lv_at hl 0 rfl) ?_
        refine m_get (v := .int (S_18.1 25)) X hM 25 (by decide) q999 rfl rfl dX3_program_121 ?_
        refine m_puti X hG hM 31 (by decide) q1005 rfl rfl mfd31 (wmi31 _) dX3_program_124 (fun S_19 H locs eS hM => ?_)
        have hf := ec_lt_i eS hf
        exact bX3_program_127 X hr hlk hG S_19 _ _ _ hf hM (lv_sub hl [0] rfl)) N S_10 (0 : Int64) (0 : Int32) _ _ _ hf hM (lv_sub hl [2, 1, 0] rfl)
noncomputable def fX3_program_55 (N : Nat) (S : sM) : Option (Int32 × sM) :=
  if ¬ (S.1 19) = 0 then (
    fX3_program_68 N S (0 : Int32))
  else (
    fX3_program_68 N S (1 : Int32))
theorem bX3_program_55 {N : Nat} (X : CallFix p m c cX3_program 4 s args lw_all RX3) (hr : meth.sig.returnType = (some .int)) (hlk : meth.locks = false) (hG : MG o q) {res : Int32} {Sr : sM} : ∀ (S : sM) (H : Heap) (locs : List Loc) (ls : Array Slot), fX3_program_55 N S = some (res, Sr) → MW D o q d dz S s H locs → lv_has ls 4 [(0, .ref o)] → W p l e (rmL 6) s m args below meth c H locs 0 0 (MQ below (MPost D o q d dz (some (.int res)) Sr) args s 0 0 (AM o q)) (F0 m 55 ls []) := by
  have hx := X.1
  have hb := X.2.1
  intro S H locs ls hf hM hl
  unfold fX3_program_55 at hf
  refine lv_aload_n hx hb dX3_program_55 rfl (lv_at hl 0 rfl) ?_
  refine lv_aload_n hx hb dX3_program_56 rfl (lv_at hl 0 rfl) ?_
  refine m_get (v := .int (S.1 19)) X hM 19 (by decide) q993 rfl rfl dX3_program_57 ?_
  refine lv_if_ne (tgt := 67) hx hb dX3_program_60 rfl (fun cnd => ?_) (fun cnd => ?_)
  · have hf := ec_t cnd hf
    refine lv_iconst (v := 0) hx hb dX3_program_67 (by decide) ?_
    exact bX3_program_68 X hr hlk hG S (0 : Int32) _ _ _ hf hM hl
  · have hf := ec_f (not_not_intro cnd) hf
    refine lv_iconst (v := 1) hx hb dX3_program_63 (by decide) ?_
    refine lv_goto (tgt := 68) hx hb dX3_program_64 rfl ?_
    exact bX3_program_68 X hr hlk hG S (1 : Int32) _ _ _ hf hM hl
noncomputable def fX3_program (N : Nat) (S : sM) : Option (Int32 × sM) :=
  ec_lt (mI S 30 (0 : Int32)) fun S_1 =>
  ec_lt (mI S_1 26 (0 : Int32)) fun S_2 =>
  ec_lt (mI S_2 11 (0 : Int32)) fun S_3 =>
  ec_lt (mI S_3 15 (0 : Int32)) fun S_4 =>
  ec_lt (mI S_4 23 (0 : Int32)) fun S_5 =>
  ec_lt (mI S_5 19 (0 : Int32)) fun S_6 =>
  (fX3_next N S_6).bind fun S_7 =>
  fX3_program_34 N (fun S_9 =>
    fX3_program_55 N S_9) N S_7
theorem metX3_program (l : Launch) (D : va_G) (o : Nat) (q : Nat → Nat) (d dz : ClassId) (hG : MG o q) (N : Nat) (S : sM) (res : Int32) (Sr : sM) (hf : fX3_program N S = some (res, Sr)) : Met l yX3_program (ws_ yX3_program cX3_program 4 (some .int)) (rmL 6) (MPre D o q d dz S []) (MPost D o q d dz (some (.int res)) Sr) 0 0 (AM o q) := by
  refine m_ofW rfl (Nat.le_of_ble_eq_true rfl) (fun p e s m args below meth c X hr hlk hM ls hl => ?_)
  have hl : lv_has ls 4 [(0, .ref o)] := hl
  have hx := X.1
  have hb := X.2.1
  unfold fX3_program at hf
  refine lv_aload_n hx hb dX3_program_0 rfl (lv_at hl 0 rfl) ?_
  refine lv_iconst (v := 0) hx hb dX3_program_1 (by decide) ?_
  refine m_puti X hG hM 30 (by decide) q1004 rfl rfl mfd30 (wmi30 _) dX3_program_2 (fun S_1 H locs eS hM => ?_)
  have hf := ec_lt_i eS hf
  refine lv_aload_n hx hb dX3_program_5 rfl (lv_at hl 0 rfl) ?_
  refine lv_iconst (v := 0) hx hb dX3_program_6 (by decide) ?_
  refine m_puti X hG hM 26 (by decide) q1000 rfl rfl mfd26 (wmi26 _) dX3_program_7 (fun S_2 H locs eS hM => ?_)
  have hf := ec_lt_i eS hf
  refine lv_aload_n hx hb dX3_program_10 rfl (lv_at hl 0 rfl) ?_
  refine lv_iconst (v := 0) hx hb dX3_program_11 (by decide) ?_
  refine m_puti X hG hM 11 (by decide) q985 rfl rfl mfd11 (wmi11 _) dX3_program_12 (fun S_3 H locs eS hM => ?_)
  have hf := ec_lt_i eS hf
  refine lv_aload_n hx hb dX3_program_15 rfl (lv_at hl 0 rfl) ?_
  refine lv_iconst (v := 0) hx hb dX3_program_16 (by decide) ?_
  refine m_puti X hG hM 15 (by decide) q989 rfl rfl mfd15 (wmi15 _) dX3_program_17 (fun S_4 H locs eS hM => ?_)
  have hf := ec_lt_i eS hf
  refine lv_aload_n hx hb dX3_program_20 rfl (lv_at hl 0 rfl) ?_
  refine lv_iconst (v := 0) hx hb dX3_program_21 (by decide) ?_
  refine m_puti X hG hM 23 (by decide) q997 rfl rfl mfd23 (wmi23 _) dX3_program_22 (fun S_5 H locs eS hM => ?_)
  have hf := ec_lt_i eS hf
  refine lv_aload_n hx hb dX3_program_25 rfl (lv_at hl 0 rfl) ?_
  refine lv_iconst (v := 0) hx hb dX3_program_26 (by decide) ?_
  refine m_puti X hG hM 19 (by decide) q993 rfl rfl mfd19 (wmi19 _) dX3_program_27 (fun S_6 H locs eS hM => ?_)
  have hf := ec_lt_i eS hf
  refine lv_aload_n hx hb dX3_program_30 rfl (lv_at hl 0 rfl) ?_
  obtain ⟨S_7, h, hf⟩ := ec_bi hf
  refine m_cWv (As := []) (rest := []) X hM (metX3_next l D o q d dz hG N S_6 _ h) (cwV 0 X.2.2.2.2 gX3_166 rfl rfl rfl hX3_next ⟨Nat.le_of_ble_eq_true rfl, Nat.le_of_ble_eq_true rfl⟩) rfl hl.1 rfl (Nat.le_of_ble_eq_true rfl) ⟨Nat.zero_le _, Nat.zero_le _⟩ dX3_program_31 (fun H locs hM => ?_)
  exact bX3_program_34 X hr hlk hG (fun S_9 H locs ls hf hM hl => by
    exact bX3_program_55 X hr hlk hG S_9 _ _ _ hf hM hl) N S_7 _ _ _ hf hM hl
theorem hX3_program : yX3_program.cls = RX3 ∧ yX3_program.cls ≠ "java/lang/invoke/MethodHandle" ∧ yX3_program.cls ≠ "java/lang/invoke/VarHandle" ∧ (parseMethodDescriptor yX3_program.desc).map (fun d => d.parameters.length) = some 0 := by decide +kernel

noncomputable def fX3_fault (S : sM) : Option Int32 :=
  some (S.1 30)
theorem metX3_fault (l : Launch) (D : va_G) (o : Nat) (q : Nat → Nat) (d dz : ClassId) (S : sM) (res : Int32) (hf : fX3_fault S = some res) : Met l yX3_fault (ws_ yX3_fault cX3_fault 1 (some .int)) (rmL 0) (MPre D o q d dz S []) (k2_QcV (.int res)) 0 0 (fun _ => False) := by
  refine m_ofR rfl (Nat.le_of_ble_eq_true rfl) (fun p e s m args below meth c X hr hlk hM ls hl => ?_)
  have hl : lv_has ls 1 [(0, .ref o)] := hl
  have hx := X.1
  have hb := X.2.1
  unfold fX3_fault at hf
  refine lv_aload_n hx hb dX3_fault_0 rfl (lv_at hl 0 rfl) ?_
  refine m_get (v := .int (S.1 30)) X hM 30 (by decide) q1004 rfl rfl dX3_fault_1 ?_
  obtain rfl := Option.some.inj hf
  exact e_iretR hx hb hr hlk dX3_fault_4
theorem hX3_fault : yX3_fault.cls = RX3 ∧ yX3_fault.cls ≠ "java/lang/invoke/MethodHandle" ∧ yX3_fault.cls ≠ "java/lang/invoke/VarHandle" ∧ (parseMethodDescriptor yX3_fault.desc).map (fun d => d.parameters.length) = some 0 := by decide +kernel

noncomputable def fX3_isLine (S : sM) (x1 : Int32) : Option Int32 :=
  (fX3_in (x1.toInt64) (0 : Int64) (((S.1 0) - (1 : Int32)).toInt64)).bind fun v_1 =>
  ec_rz v_1
theorem metX3_isLine (l : Launch) (D : va_G) (o : Nat) (q : Nat → Nat) (d dz : ClassId) (S : sM) (x1 : Int32) (res : Int32) (hf : fX3_isLine S x1 = some res) : Met l yX3_isLine (ws_ yX3_isLine cX3_isLine 2 (some .boolean)) (rmL 1) (MPre D o q d dz S [.int x1]) (k2_QcV (.int res)) 0 0 (fun _ => False) := by
  refine m_ofR rfl (Nat.le_of_ble_eq_true rfl) (fun p e s m args below meth c X hr hlk hM ls hl => ?_)
  have hl : lv_has ls 2 [(0, .ref o), (1, .int x1)] := hl
  have hx := X.1
  have hb := X.2.1
  unfold fX3_isLine at hf
  refine lv_iload_n hx hb dX3_isLine_0 rfl (lv_at hl 1 rfl) ?_
  refine lv_i2l hx hb dX3_isLine_1 rfl ?_
  refine lv_lconst (v := 0) hx hb dX3_isLine_2 (by decide) ?_
  refine lv_aload_n hx hb dX3_isLine_3 rfl (lv_at hl 0 rfl) ?_
  refine m_get (v := .int (S.1 0)) X hM 0 (by decide) q974 rfl rfl dX3_isLine_4 ?_
  refine lv_iconst (v := 1) hx hb dX3_isLine_7 (by decide) ?_
  refine lv_isub hx hb dX3_isLine_8 ?_
  refine lv_i2l hx hb dX3_isLine_9 rfl ?_
  obtain ⟨v_1, h, hf⟩ := ec_bi hf
  refine e_cS (v := .int v_1) (As := [.long (x1.toInt64), .long (0 : Int64), .long (((S.1 0) - (1 : Int32)).toInt64)]) (rest := []) X (metX3_in l (x1.toInt64) (0 : Int64) (((S.1 0) - (1 : Int32)).toInt64) _ h) (va_cwS 3 X.2.2.2.2 gX3_124 rfl rfl rfl hX3_in ⟨Nat.le_of_ble_eq_true rfl, Nat.le_of_ble_eq_true rfl⟩) rfl hl.1 rfl (Nat.le_of_ble_eq_true rfl) ⟨Nat.zero_le _, Nat.zero_le _⟩ dX3_isLine_10 ?_
  obtain ⟨hn, h2⟩ := ec_rz_i hf
  subst h2
  exact e_zretR hx hb hr hlk hn dX3_isLine_13
theorem hX3_isLine : yX3_isLine.cls = RX3 ∧ yX3_isLine.cls ≠ "java/lang/invoke/MethodHandle" ∧ yX3_isLine.cls ≠ "java/lang/invoke/VarHandle" ∧ (parseMethodDescriptor yX3_isLine.desc).map (fun d => d.parameters.length) = some 1 := by decide +kernel

noncomputable def fX3_made (S : sM) (x1 : Int32) (x2 : Int32) : Option Int32 :=
  (ec_ag (S.2.2 2) 128 (((8 : Int32) * x1) + x2)).bind fun v_1 =>
  some v_1
theorem metX3_made (l : Launch) (D : va_G) (o : Nat) (q : Nat → Nat) (d dz : ClassId) (S : sM) (x1 : Int32) (x2 : Int32) (res : Int32) (hf : fX3_made S x1 x2 = some res) : Met l yX3_made (ws_ yX3_made cX3_made 3 (some .int)) (rmL 0) (MPre D o q d dz S [.int x1, .int x2]) (k2_QcV (.int res)) 0 0 (fun _ => False) := by
  refine m_ofR rfl (Nat.le_of_ble_eq_true rfl) (fun p e s m args below meth c X hr hlk hM ls hl => ?_)
  have hl : lv_has ls 3 [(0, .ref o), (1, .int x1), (2, .int x2)] := hl
  have hx := X.1
  have hb := X.2.1
  unfold fX3_made at hf
  refine lv_aload_n hx hb dX3_made_0 rfl (lv_at hl 0 rfl) ?_
  refine m_get (v := .ref (q 2)) X hM 2 (by decide) q976 rfl rfl dX3_made_1 ?_
  refine lv_bipush (v := 8) hx hb dX3_made_4 (by decide) ?_
  refine lv_iload_n hx hb dX3_made_6 rfl (lv_at hl 1 rfl) ?_
  refine lv_imul hx hb dX3_made_7 ?_
  refine lv_iload_n hx hb dX3_made_8 rfl (lv_at hl 2 rfl) ?_
  refine lv_iadd hx hb dX3_made_9 ?_
  obtain ⟨v_1, h, hf⟩ := ec_bi hf
  refine m_iald X hM wma2 h dX3_made_10 ?_
  obtain rfl := Option.some.inj hf
  exact e_iretR hx hb hr hlk dX3_made_11
theorem hX3_made : yX3_made.cls = RX3 ∧ yX3_made.cls ≠ "java/lang/invoke/MethodHandle" ∧ yX3_made.cls ≠ "java/lang/invoke/VarHandle" ∧ (parseMethodDescriptor yX3_made.desc).map (fun d => d.parameters.length) = some 2 := by decide +kernel

noncomputable def fX3_depthOf_4 (N : Nat) (S : sM) (kx23 : Int32 → Option Int32) : Nat → Int32 → Int32 → Option Int32
  | 0, _, _ => none
  | n + 1, x2, x3 =>
    if x3 = (-4 : Int32) then (
      kx23 x2)
    else (
      ec_lt (x2 + (1 : Int32)) fun x2_1 =>
      (ec_ag (S.2.2 6) 40 x3).bind fun v_2 =>
      (fX3_depthOf_4 N S kx23 n) x2_1 v_2)
theorem bX3_depthOf_4 {N : Nat} (X : CallFix p m c cX3_depthOf 4 s args lw_all RX3) (hr : meth.sig.returnType = (some .int)) (hlk : meth.locks = false) {S : sM} (hM : MW D o q d dz S s s.heap []) {res : Int32} {kx23 : Int32 → Option Int32} (Hkx23 : ∀ (x2 : Int32) (ls : Array Slot), kx23 x2 = some res → lv_has ls 4 [(0, .ref o), (2, .int x2)] → W p l e (rmL 0) s m args below meth c s.heap [] 0 0 (MQ below (k2_QcV (.int res)) args s 0 0 (fun _ => False)) (F0 m 23 ls [])) : ∀ (n : Nat) (x2 : Int32) (x3 : Int32) (ls : Array Slot), fX3_depthOf_4 N S kx23 n x2 x3 = some res → lv_has ls 4 [(0, .ref o), (2, .int x2), (3, .int x3)] → W p l e (rmL 0) s m args below meth c s.heap [] 0 0 (MQ below (k2_QcV (.int res)) args s 0 0 (fun _ => False)) (F0 m 4 ls []) := by
  have hx := X.1
  have hb := X.2.1
  intro n
  induction n with
  | zero =>
    intro x2 x3 ls hf hl
    rw [fX3_depthOf_4] at hf
    cases hf
  | succ n ih =>
    intro x2 x3 ls hf hl
    rw [fX3_depthOf_4] at hf
    refine lv_iload_n hx hb dX3_depthOf_4 rfl (lv_at hl 2 rfl) ?_
    refine lv_bipush (v := -4) hx hb dX3_depthOf_5 (by decide) ?_
    refine lv_icmp_eq (tgt := 23) hx hb dX3_depthOf_7 rfl (fun cnd => ?_) (fun cnd => ?_)
    · have hf := ec_t cnd hf
      exact Hkx23 x2 _ hf (lv_sub hl [0, 1] rfl)
    · have hf := ec_f cnd hf
      refine e_inc (w := 1) (f := fun v => [(2, .int v), (0, .ref o), (3, .int x3)]) hx hb dX3_depthOf_10 hl (k := 1) rfl (by decide) (by decide) (fun _ => rfl) (fun x2_1 ex ls hl => ?_)
      have hf := ec_lt_i ex hf
      refine lv_aload_n hx hb dX3_depthOf_13 rfl (lv_at hl 1 rfl) ?_
      refine m_get (v := .ref (q 6)) X hM 6 (by decide) q980 rfl rfl dX3_depthOf_14 ?_
      refine lv_iload_n hx hb dX3_depthOf_17 rfl (lv_at hl 2 rfl) ?_
      obtain ⟨v_2, h, hf⟩ := ec_bi hf
      refine m_iald X hM wma6 h dX3_depthOf_18 ?_
      refine lv_istore_n (lv' := [(3, .int v_2), (2, .int x2_1), (0, .ref o)]) hx hb dX3_depthOf_19 rfl hl (by decide) rfl (fun ls hl => ?_)
      refine lv_goto (tgt := 4) hx hb dX3_depthOf_20 rfl ?_
      exact ih x2_1 v_2 _ hf (lv_sub hl [2, 1, 0] rfl)
noncomputable def fX3_depthOf (N : Nat) (S : sM) (x1 : Int32) : Option Int32 :=
  fX3_depthOf_4 N S (fun x2_3 =>
    some x2_3) N (0 : Int32) x1
theorem metX3_depthOf (l : Launch) (D : va_G) (o : Nat) (q : Nat → Nat) (d dz : ClassId) (N : Nat) (S : sM) (x1 : Int32) (res : Int32) (hf : fX3_depthOf N S x1 = some res) : Met l yX3_depthOf (ws_ yX3_depthOf cX3_depthOf 4 (some .int)) (rmL 0) (MPre D o q d dz S [.int x1]) (k2_QcV (.int res)) 0 0 (fun _ => False) := by
  refine m_ofR rfl (Nat.le_of_ble_eq_true rfl) (fun p e s m args below meth c X hr hlk hM ls hl => ?_)
  have hl : lv_has ls 4 [(0, .ref o), (1, .int x1)] := hl
  have hx := X.1
  have hb := X.2.1
  unfold fX3_depthOf at hf
  refine lv_iconst (v := 0) hx hb dX3_depthOf_0 (by decide) ?_
  refine lv_istore_n (lv' := [(2, .int (0 : Int32)), (0, .ref o), (1, .int x1)]) hx hb dX3_depthOf_1 rfl hl (by decide) rfl (fun ls hl => ?_)
  refine lv_iload_n hx hb dX3_depthOf_2 rfl (lv_at hl 2 rfl) ?_
  refine lv_istore_n (lv' := [(3, .int x1), (2, .int (0 : Int32)), (0, .ref o), (1, .int x1)]) hx hb dX3_depthOf_3 rfl hl (by decide) rfl (fun ls hl => ?_)
  exact bX3_depthOf_4 X hr hlk hM (fun x2_3 ls hf hl => by
    refine lv_iload_n hx hb dX3_depthOf_23 rfl (lv_at hl 1 rfl) ?_
    obtain rfl := Option.some.inj hf
    exact e_iretR hx hb hr hlk dX3_depthOf_24) N (0 : Int32) x1 _ hf (lv_sub hl [2, 1, 0] rfl)
theorem hX3_depthOf : yX3_depthOf.cls = RX3 ∧ yX3_depthOf.cls ≠ "java/lang/invoke/MethodHandle" ∧ yX3_depthOf.cls ≠ "java/lang/invoke/VarHandle" ∧ (parseMethodDescriptor yX3_depthOf.desc).map (fun d => d.parameters.length) = some 1 := by decide +kernel

theorem gX3_243 : GoodIn lw_all (wsV RX3 243 RX3 yX3_isLine (ws_ yX3_isLine cX3_isLine 2 (some .boolean))) := lw_V q1237 q1239 qs44 q63 q1240
theorem gX3_254 : GoodIn lw_all (wsV RX3 254 RX3 yX3_depthOf (ws_ yX3_depthOf cX3_depthOf 4 (some .int))) := lw_V q1247 q1249 qs46 q63 q1250
theorem gX3_251 : GoodIn lw_all (wsV RX3 251 RX3 yX3_made (ws_ yX3_made cX3_made 3 (some .int))) := lw_V q1243 q1245 qs45 q63 q1246
noncomputable def fX3_line (N : Nat) (S : sM) (x1 : Int32) (x2 : Int32) : Option Int32 :=
  (fX3_isLine S x1).bind fun v_1 =>
  if ¬ v_1 = 0 then (
    (fX3_in (x2.toInt64) (10 : Int64) (17 : Int64)).bind fun v_2 =>
    if v_2 = 0 then (
      if ¬ x2 = 0 then (
        if ¬ x2 = (1 : Int32) then (
          if ¬ x2 = (2 : Int32) then (
            some (-1 : Int32))
          else (
            (ec_ag (S.2.2 3) 16 x1).bind fun v_3 =>
            (fX3_depthOf N S v_3).bind fun v_4 =>
            some v_4))
        else (
          (ec_ag (S.2.2 9) 16 x1).bind fun v_5 =>
          some v_5))
      else (
        (ec_ag (S.2.2 1) 16 x1).bind fun v_6 =>
        some v_6))
    else (
      (fX3_made S x1 (x2 - (10 : Int32))).bind fun v_7 =>
      some v_7))
  else (
    some (-1 : Int32))
theorem metX3_line (l : Launch) (D : va_G) (o : Nat) (q : Nat → Nat) (d dz : ClassId) (N : Nat) (S : sM) (x1 : Int32) (x2 : Int32) (res : Int32) (hf : fX3_line N S x1 x2 = some res) : Met l yX3_line (ws_ yX3_line cX3_line 3 (some .int)) (rmL 2) (MPre D o q d dz S [.int x1, .int x2]) (k2_QcV (.int res)) 0 0 (fun _ => False) := by
  refine m_ofR rfl (Nat.le_of_ble_eq_true rfl) (fun p e s m args below meth c X hr hlk hM ls hl => ?_)
  have hl : lv_has ls 3 [(0, .ref o), (1, .int x1), (2, .int x2)] := hl
  have hx := X.1
  have hb := X.2.1
  unfold fX3_line at hf
  refine lv_aload_n hx hb dX3_line_0 rfl (lv_at hl 0 rfl) ?_
  refine lv_iload_n hx hb dX3_line_1 rfl (lv_at hl 1 rfl) ?_
  obtain ⟨v_1, h, hf⟩ := ec_bi hf
  refine m_cR (v := .int v_1) (As := [.int x1]) (rest := []) X hM (metX3_isLine l D o q d dz S x1 _ h) (cwV 1 X.2.2.2.2 gX3_243 rfl rfl rfl hX3_isLine ⟨Nat.le_of_ble_eq_true rfl, Nat.le_of_ble_eq_true rfl⟩) rfl hl.1 rfl (Nat.le_of_ble_eq_true rfl) ⟨Nat.zero_le _, Nat.zero_le _⟩ dX3_line_2 ?_
  refine lv_if_ne (tgt := 10) hx hb dX3_line_5 rfl (fun cnd => ?_) (fun cnd => ?_)
  · have hf := ec_t cnd hf
    refine lv_iload_n hx hb dX3_line_10 rfl (lv_at hl 2 rfl) ?_
    refine lv_i2l hx hb dX3_line_11 rfl ?_
    refine lv_ldc2 (own := RX3) (v := 10) hx hb X.2.2.2.1 (X.2.2.2.2 _ q1241) dX3_line_12 ?_
    refine lv_ldc2 (own := RX3) (v := 17) hx hb X.2.2.2.1 (X.2.2.2.2 _ q1242) dX3_line_15 ?_
    obtain ⟨v_2, h, hf⟩ := ec_bi hf
    refine e_cS (v := .int v_2) (As := [.long (x2.toInt64), .long (10 : Int64), .long (17 : Int64)]) (rest := []) X (metX3_in l (x2.toInt64) (10 : Int64) (17 : Int64) _ h) (va_cwS 3 X.2.2.2.2 gX3_124 rfl rfl rfl hX3_in ⟨Nat.le_of_ble_eq_true rfl, Nat.le_of_ble_eq_true rfl⟩) rfl hl.1 rfl (Nat.le_of_ble_eq_true rfl) ⟨Nat.zero_le _, Nat.zero_le _⟩ dX3_line_18 ?_
    refine lv_if_eq (tgt := 34) hx hb dX3_line_21 rfl (fun cnd => ?_) (fun cnd => ?_)
    · have hf := ec_t cnd hf
      refine lv_iload_n hx hb dX3_line_34 rfl (lv_at hl 2 rfl) ?_
      refine lv_if_ne (tgt := 47) hx hb dX3_line_35 rfl (fun cnd => ?_) (fun cnd => ?_)
      · have hf := ec_t cnd hf
        refine lv_iload_n hx hb dX3_line_47 rfl (lv_at hl 2 rfl) ?_
        refine lv_iconst (v := 1) hx hb dX3_line_48 (by decide) ?_
        refine lv_icmp_ne (tgt := 61) hx hb dX3_line_49 rfl (fun cnd => ?_) (fun cnd => ?_)
        · have hf := ec_t cnd hf
          refine lv_iload_n hx hb dX3_line_61 rfl (lv_at hl 2 rfl) ?_
          refine lv_iconst (v := 2) hx hb dX3_line_62 (by decide) ?_
          refine lv_icmp_ne (tgt := 79) hx hb dX3_line_63 rfl (fun cnd => ?_) (fun cnd => ?_)
          · have hf := ec_t cnd hf
            refine lv_iconst (v := -1) hx hb dX3_line_79 (by decide) ?_
            obtain rfl := Option.some.inj hf
            exact e_iretR hx hb hr hlk dX3_line_80
          · have hf := ec_f (not_not_intro cnd) hf
            refine lv_aload_n hx hb dX3_line_66 rfl (lv_at hl 0 rfl) ?_
            refine lv_aload_n hx hb dX3_line_67 rfl (lv_at hl 0 rfl) ?_
            refine m_get (v := .ref (q 3)) X hM 3 (by decide) q977 rfl rfl dX3_line_68 ?_
            refine lv_iload_n hx hb dX3_line_71 rfl (lv_at hl 1 rfl) ?_
            obtain ⟨v_3, h, hf⟩ := ec_bi hf
            refine m_iald X hM wma3 h dX3_line_72 ?_
            obtain ⟨v_4, h, hf⟩ := ec_bi hf
            refine m_cR (v := .int v_4) (As := [.int v_3]) (rest := []) X hM (metX3_depthOf l D o q d dz N S v_3 _ h) (cwV 1 X.2.2.2.2 gX3_254 rfl rfl rfl hX3_depthOf ⟨Nat.le_of_ble_eq_true rfl, Nat.le_of_ble_eq_true rfl⟩) rfl hl.1 rfl (Nat.le_of_ble_eq_true rfl) ⟨Nat.zero_le _, Nat.zero_le _⟩ dX3_line_73 ?_
            refine lv_goto (tgt := 80) hx hb dX3_line_76 rfl ?_
            obtain rfl := Option.some.inj hf
            exact e_iretR hx hb hr hlk dX3_line_80
        · have hf := ec_f (not_not_intro cnd) hf
          refine lv_aload_n hx hb dX3_line_52 rfl (lv_at hl 0 rfl) ?_
          refine m_get (v := .ref (q 9)) X hM 9 (by decide) q983 rfl rfl dX3_line_53 ?_
          refine lv_iload_n hx hb dX3_line_56 rfl (lv_at hl 1 rfl) ?_
          obtain ⟨v_5, h, hf⟩ := ec_bi hf
          refine m_iald X hM wma9 h dX3_line_57 ?_
          refine lv_goto (tgt := 80) hx hb dX3_line_58 rfl ?_
          obtain rfl := Option.some.inj hf
          exact e_iretR hx hb hr hlk dX3_line_80
      · have hf := ec_f (not_not_intro cnd) hf
        refine lv_aload_n hx hb dX3_line_38 rfl (lv_at hl 0 rfl) ?_
        refine m_get (v := .ref (q 1)) X hM 1 (by decide) q975 rfl rfl dX3_line_39 ?_
        refine lv_iload_n hx hb dX3_line_42 rfl (lv_at hl 1 rfl) ?_
        obtain ⟨v_6, h, hf⟩ := ec_bi hf
        refine m_iald X hM wma1 h dX3_line_43 ?_
        refine lv_goto (tgt := 80) hx hb dX3_line_44 rfl ?_
        obtain rfl := Option.some.inj hf
        exact e_iretR hx hb hr hlk dX3_line_80
    · have hf := ec_f cnd hf
      refine lv_aload_n hx hb dX3_line_24 rfl (lv_at hl 0 rfl) ?_
      refine lv_iload_n hx hb dX3_line_25 rfl (lv_at hl 1 rfl) ?_
      refine lv_iload_n hx hb dX3_line_26 rfl (lv_at hl 2 rfl) ?_
      refine lv_bipush (v := 10) hx hb dX3_line_27 (by decide) ?_
      refine lv_isub hx hb dX3_line_29 ?_
      obtain ⟨v_7, h, hf⟩ := ec_bi hf
      refine m_cR (v := .int v_7) (As := [.int x1, .int (x2 - (10 : Int32))]) (rest := []) X hM (metX3_made l D o q d dz S x1 (x2 - (10 : Int32)) _ h) (cwV 2 X.2.2.2.2 gX3_251 rfl rfl rfl hX3_made ⟨Nat.le_of_ble_eq_true rfl, Nat.le_of_ble_eq_true rfl⟩) rfl hl.1 rfl (Nat.le_of_ble_eq_true rfl) ⟨Nat.zero_le _, Nat.zero_le _⟩ dX3_line_30 ?_
      obtain rfl := Option.some.inj hf
      exact e_iretR hx hb hr hlk dX3_line_33
  · have hf := ec_f (not_not_intro cnd) hf
    refine lv_iconst (v := -1) hx hb dX3_line_8 (by decide) ?_
    obtain rfl := Option.some.inj hf
    exact e_iretR hx hb hr hlk dX3_line_9
theorem hX3_line : yX3_line.cls = RX3 ∧ yX3_line.cls ≠ "java/lang/invoke/MethodHandle" ∧ yX3_line.cls ≠ "java/lang/invoke/VarHandle" ∧ (parseMethodDescriptor yX3_line.desc).map (fun d => d.parameters.length) = some 2 := by decide +kernel

noncomputable def fX3_step (S : sM) (x1 : Int32) : Option Int32 :=
  (fX3_in (x1.toInt64) (0 : Int64) (((S.1 7) - (1 : Int32)).toInt64)).bind fun v_1 =>
  if v_1 = 0 then (
    some (-1 : Int32))
  else (
    (ec_ag (S.2.2 8) 6000 x1).bind fun v_2 =>
    some v_2)
theorem metX3_step (l : Launch) (D : va_G) (o : Nat) (q : Nat → Nat) (d dz : ClassId) (S : sM) (x1 : Int32) (res : Int32) (hf : fX3_step S x1 = some res) : Met l yX3_step (ws_ yX3_step cX3_step 2 (some .int)) (rmL 1) (MPre D o q d dz S [.int x1]) (k2_QcV (.int res)) 0 0 (fun _ => False) := by
  refine m_ofR rfl (Nat.le_of_ble_eq_true rfl) (fun p e s m args below meth c X hr hlk hM ls hl => ?_)
  have hl : lv_has ls 2 [(0, .ref o), (1, .int x1)] := hl
  have hx := X.1
  have hb := X.2.1
  unfold fX3_step at hf
  refine lv_iload_n hx hb dX3_step_0 rfl (lv_at hl 1 rfl) ?_
  refine lv_i2l hx hb dX3_step_1 rfl ?_
  refine lv_lconst (v := 0) hx hb dX3_step_2 (by decide) ?_
  refine lv_aload_n hx hb dX3_step_3 rfl (lv_at hl 0 rfl) ?_
  refine m_get (v := .int (S.1 7)) X hM 7 (by decide) q981 rfl rfl dX3_step_4 ?_
  refine lv_iconst (v := 1) hx hb dX3_step_7 (by decide) ?_
  refine lv_isub hx hb dX3_step_8 ?_
  refine lv_i2l hx hb dX3_step_9 rfl ?_
  obtain ⟨v_1, h, hf⟩ := ec_bi hf
  refine e_cS (v := .int v_1) (As := [.long (x1.toInt64), .long (0 : Int64), .long (((S.1 7) - (1 : Int32)).toInt64)]) (rest := []) X (metX3_in l (x1.toInt64) (0 : Int64) (((S.1 7) - (1 : Int32)).toInt64) _ h) (va_cwS 3 X.2.2.2.2 gX3_124 rfl rfl rfl hX3_in ⟨Nat.le_of_ble_eq_true rfl, Nat.le_of_ble_eq_true rfl⟩) rfl hl.1 rfl (Nat.le_of_ble_eq_true rfl) ⟨Nat.zero_le _, Nat.zero_le _⟩ dX3_step_10 ?_
  refine lv_if_eq (tgt := 25) hx hb dX3_step_13 rfl (fun cnd => ?_) (fun cnd => ?_)
  · have hf := ec_t cnd hf
    refine lv_iconst (v := -1) hx hb dX3_step_25 (by decide) ?_
    obtain rfl := Option.some.inj hf
    exact e_iretR hx hb hr hlk dX3_step_26
  · have hf := ec_f cnd hf
    refine lv_aload_n hx hb dX3_step_16 rfl (lv_at hl 0 rfl) ?_
    refine m_get (v := .ref (q 8)) X hM 8 (by decide) q982 rfl rfl dX3_step_17 ?_
    refine lv_iload_n hx hb dX3_step_20 rfl (lv_at hl 1 rfl) ?_
    obtain ⟨v_2, h, hf⟩ := ec_bi hf
    refine m_iald X hM wma8 h dX3_step_21 ?_
    refine lv_goto (tgt := 26) hx hb dX3_step_22 rfl ?_
    obtain rfl := Option.some.inj hf
    exact e_iretR hx hb hr hlk dX3_step_26
theorem hX3_step : yX3_step.cls = RX3 ∧ yX3_step.cls ≠ "java/lang/invoke/MethodHandle" ∧ yX3_step.cls ≠ "java/lang/invoke/VarHandle" ∧ (parseMethodDescriptor yX3_step.desc).map (fun d => d.parameters.length) = some 1 := by decide +kernel

noncomputable def fX3_total_4 (N : Nat) (S : sM) (kx34 : Int32 → Option Int32) : Nat → Int32 → Int32 → Int32 → Option Int32
  | 0, _, _, _ => none
  | n + 1, x1, x2, x3 =>
    if (S.1 0) ≤ x3 then (
      kx34 x2)
    else (
      (ec_ag (S.2.2 9) 16 x3).bind fun v_1 =>
      (fX3_made S x3 x1).bind fun v_2 =>
      ec_lt (x2 + (v_1 * v_2)) fun x2_3 =>
      ec_lt (x3 + (1 : Int32)) fun x3_4 =>
      (fX3_total_4 N S kx34 n) x1 x2_3 x3_4)
theorem bX3_total_4 {N : Nat} (X : CallFix p m c cX3_total 4 s args lw_all RX3) (hr : meth.sig.returnType = (some .int)) (hlk : meth.locks = false) {S : sM} (hM : MW D o q d dz S s s.heap []) {res : Int32} {kx34 : Int32 → Option Int32} (Hkx34 : ∀ (x2 : Int32) (ls : Array Slot), kx34 x2 = some res → lv_has ls 4 [(0, .ref o), (2, .int x2)] → W p l e (rmL 1) s m args below meth c s.heap [] 0 0 (MQ below (k2_QcV (.int res)) args s 0 0 (fun _ => False)) (F0 m 34 ls [])) : ∀ (n : Nat) (x1 : Int32) (x2 : Int32) (x3 : Int32) (ls : Array Slot), fX3_total_4 N S kx34 n x1 x2 x3 = some res → lv_has ls 4 [(0, .ref o), (1, .int x1), (2, .int x2), (3, .int x3)] → W p l e (rmL 1) s m args below meth c s.heap [] 0 0 (MQ below (k2_QcV (.int res)) args s 0 0 (fun _ => False)) (F0 m 4 ls []) := by
  have hx := X.1
  have hb := X.2.1
  intro n
  induction n with
  | zero =>
    intro x1 x2 x3 ls hf hl
    rw [fX3_total_4] at hf
    cases hf
  | succ n ih =>
    intro x1 x2 x3 ls hf hl
    rw [fX3_total_4] at hf
    refine lv_iload_n hx hb dX3_total_4 rfl (lv_at hl 3 rfl) ?_
    refine lv_aload_n hx hb dX3_total_5 rfl (lv_at hl 0 rfl) ?_
    refine m_get (v := .int (S.1 0)) X hM 0 (by decide) q974 rfl rfl dX3_total_6 ?_
    refine lv_icmp_ge (tgt := 34) hx hb dX3_total_9 rfl (fun cnd => ?_) (fun cnd => ?_)
    · have hf := ec_t cnd hf
      exact Hkx34 x2 _ hf (lv_sub hl [0, 2] rfl)
    · have hf := ec_f cnd hf
      refine lv_iload_n hx hb dX3_total_12 rfl (lv_at hl 2 rfl) ?_
      refine lv_aload_n hx hb dX3_total_13 rfl (lv_at hl 0 rfl) ?_
      refine m_get (v := .ref (q 9)) X hM 9 (by decide) q983 rfl rfl dX3_total_14 ?_
      refine lv_iload_n hx hb dX3_total_17 rfl (lv_at hl 3 rfl) ?_
      obtain ⟨v_1, h, hf⟩ := ec_bi hf
      refine m_iald X hM wma9 h dX3_total_18 ?_
      refine lv_aload_n hx hb dX3_total_19 rfl (lv_at hl 0 rfl) ?_
      refine lv_iload_n hx hb dX3_total_20 rfl (lv_at hl 3 rfl) ?_
      refine lv_iload_n hx hb dX3_total_21 rfl (lv_at hl 1 rfl) ?_
      obtain ⟨v_2, h, hf⟩ := ec_bi hf
      refine m_cR (v := .int v_2) (As := [.int x3, .int x1]) (rest := [.int v_1, .int x2]) X hM (metX3_made l D o q d dz S x3 x1 _ h) (cwV 2 X.2.2.2.2 gX3_251 rfl rfl rfl hX3_made ⟨Nat.le_of_ble_eq_true rfl, Nat.le_of_ble_eq_true rfl⟩) rfl hl.1 rfl (Nat.le_of_ble_eq_true rfl) ⟨Nat.zero_le _, Nat.zero_le _⟩ dX3_total_22 ?_
      refine lv_imul hx hb dX3_total_25 ?_
      refine lv_iadd hx hb dX3_total_26 ?_
      refine lv_topi (fun x2_3 ex => ?_)
      have hf := ec_lt_i ex hf
      refine lv_istore_n (lv' := [(2, .int x2_3), (0, .ref o), (1, .int x1), (3, .int x3)]) hx hb dX3_total_27 rfl hl (by decide) rfl (fun ls hl => ?_)
      refine e_inc (w := 1) (f := fun v => [(3, .int v), (2, .int x2_3), (0, .ref o), (1, .int x1)]) hx hb dX3_total_28 hl (k := 3) rfl (by decide) (by decide) (fun _ => rfl) (fun x3_4 ex ls hl => ?_)
      have hf := ec_lt_i ex hf
      refine lv_goto (tgt := 4) hx hb dX3_total_31 rfl ?_
      exact ih x1 x2_3 x3_4 _ hf (lv_sub hl [2, 3, 1, 0] rfl)
noncomputable def fX3_total (N : Nat) (S : sM) (x1 : Int32) : Option Int32 :=
  fX3_total_4 N S (fun x2_5 =>
    some x2_5) N x1 (0 : Int32) (0 : Int32)
theorem metX3_total (l : Launch) (D : va_G) (o : Nat) (q : Nat → Nat) (d dz : ClassId) (N : Nat) (S : sM) (x1 : Int32) (res : Int32) (hf : fX3_total N S x1 = some res) : Met l yX3_total (ws_ yX3_total cX3_total 4 (some .int)) (rmL 1) (MPre D o q d dz S [.int x1]) (k2_QcV (.int res)) 0 0 (fun _ => False) := by
  refine m_ofR rfl (Nat.le_of_ble_eq_true rfl) (fun p e s m args below meth c X hr hlk hM ls hl => ?_)
  have hl : lv_has ls 4 [(0, .ref o), (1, .int x1)] := hl
  have hx := X.1
  have hb := X.2.1
  unfold fX3_total at hf
  refine lv_iconst (v := 0) hx hb dX3_total_0 (by decide) ?_
  refine lv_istore_n (lv' := [(2, .int (0 : Int32)), (0, .ref o), (1, .int x1)]) hx hb dX3_total_1 rfl hl (by decide) rfl (fun ls hl => ?_)
  refine lv_iconst (v := 0) hx hb dX3_total_2 (by decide) ?_
  refine lv_istore_n (lv' := [(3, .int (0 : Int32)), (2, .int (0 : Int32)), (0, .ref o), (1, .int x1)]) hx hb dX3_total_3 rfl hl (by decide) rfl (fun ls hl => ?_)
  exact bX3_total_4 X hr hlk hM (fun x2_5 ls hf hl => by
    refine lv_iload_n hx hb dX3_total_34 rfl (lv_at hl 1 rfl) ?_
    obtain rfl := Option.some.inj hf
    exact e_iretR hx hb hr hlk dX3_total_35) N x1 (0 : Int32) (0 : Int32) _ hf (lv_sub hl [2, 3, 1, 0] rfl)
theorem hX3_total : yX3_total.cls = RX3 ∧ yX3_total.cls ≠ "java/lang/invoke/MethodHandle" ∧ yX3_total.cls ≠ "java/lang/invoke/VarHandle" ∧ (parseMethodDescriptor yX3_total.desc).map (fun d => d.parameters.length) = some 1 := by decide +kernel

theorem gX3_257 : GoodIn lw_all (wsV RX3 257 RX3 yX3_total (ws_ yX3_total cX3_total 4 (some .int))) := lw_V q1259 q1261 qs47 q63 q1262
noncomputable def fX3_whole (N : Nat) (S : sM) (x1 : Int32) : Option Int32 :=
  if ¬ x1 = 0 then (
    if ¬ x1 = (1 : Int32) then (
      (fX3_in (x1.toInt64) (10 : Int64) (17 : Int64)).bind fun v_1 =>
      if v_1 = 0 then (
        some (-1 : Int32))
      else (
        (fX3_total N S (x1 - (10 : Int32))).bind fun v_2 =>
        some v_2))
    else (
      some (S.1 10)))
  else (
    some (S.1 7))
theorem metX3_whole (l : Launch) (D : va_G) (o : Nat) (q : Nat → Nat) (d dz : ClassId) (N : Nat) (S : sM) (x1 : Int32) (res : Int32) (hf : fX3_whole N S x1 = some res) : Met l yX3_whole (ws_ yX3_whole cX3_whole 2 (some .int)) (rmL 2) (MPre D o q d dz S [.int x1]) (k2_QcV (.int res)) 0 0 (fun _ => False) := by
  refine m_ofR rfl (Nat.le_of_ble_eq_true rfl) (fun p e s m args below meth c X hr hlk hM ls hl => ?_)
  have hl : lv_has ls 2 [(0, .ref o), (1, .int x1)] := hl
  have hx := X.1
  have hb := X.2.1
  unfold fX3_whole at hf
  refine lv_iload_n hx hb dX3_whole_0 rfl (lv_at hl 1 rfl) ?_
  refine lv_if_ne (tgt := 11) hx hb dX3_whole_1 rfl (fun cnd => ?_) (fun cnd => ?_)
  · have hf := ec_t cnd hf
    refine lv_iload_n hx hb dX3_whole_11 rfl (lv_at hl 1 rfl) ?_
    refine lv_iconst (v := 1) hx hb dX3_whole_12 (by decide) ?_
    refine lv_icmp_ne (tgt := 23) hx hb dX3_whole_13 rfl (fun cnd => ?_) (fun cnd => ?_)
    · have hf := ec_t cnd hf
      refine lv_iload_n hx hb dX3_whole_23 rfl (lv_at hl 1 rfl) ?_
      refine lv_i2l hx hb dX3_whole_24 rfl ?_
      refine lv_ldc2 (own := RX3) (v := 10) hx hb X.2.2.2.1 (X.2.2.2.2 _ q1241) dX3_whole_25 ?_
      refine lv_ldc2 (own := RX3) (v := 17) hx hb X.2.2.2.1 (X.2.2.2.2 _ q1242) dX3_whole_28 ?_
      obtain ⟨v_1, h, hf⟩ := ec_bi hf
      refine e_cS (v := .int v_1) (As := [.long (x1.toInt64), .long (10 : Int64), .long (17 : Int64)]) (rest := []) X (metX3_in l (x1.toInt64) (10 : Int64) (17 : Int64) _ h) (va_cwS 3 X.2.2.2.2 gX3_124 rfl rfl rfl hX3_in ⟨Nat.le_of_ble_eq_true rfl, Nat.le_of_ble_eq_true rfl⟩) rfl hl.1 rfl (Nat.le_of_ble_eq_true rfl) ⟨Nat.zero_le _, Nat.zero_le _⟩ dX3_whole_31 ?_
      refine lv_if_eq (tgt := 48) hx hb dX3_whole_34 rfl (fun cnd => ?_) (fun cnd => ?_)
      · have hf := ec_t cnd hf
        refine lv_iconst (v := -1) hx hb dX3_whole_48 (by decide) ?_
        obtain rfl := Option.some.inj hf
        exact e_iretR hx hb hr hlk dX3_whole_49
      · have hf := ec_f cnd hf
        refine lv_aload_n hx hb dX3_whole_37 rfl (lv_at hl 0 rfl) ?_
        refine lv_iload_n hx hb dX3_whole_38 rfl (lv_at hl 1 rfl) ?_
        refine lv_bipush (v := 10) hx hb dX3_whole_39 (by decide) ?_
        refine lv_isub hx hb dX3_whole_41 ?_
        obtain ⟨v_2, h, hf⟩ := ec_bi hf
        refine m_cR (v := .int v_2) (As := [.int (x1 - (10 : Int32))]) (rest := []) X hM (metX3_total l D o q d dz N S (x1 - (10 : Int32)) _ h) (cwV 1 X.2.2.2.2 gX3_257 rfl rfl rfl hX3_total ⟨Nat.le_of_ble_eq_true rfl, Nat.le_of_ble_eq_true rfl⟩) rfl hl.1 rfl (Nat.le_of_ble_eq_true rfl) ⟨Nat.zero_le _, Nat.zero_le _⟩ dX3_whole_42 ?_
        refine lv_goto (tgt := 49) hx hb dX3_whole_45 rfl ?_
        obtain rfl := Option.some.inj hf
        exact e_iretR hx hb hr hlk dX3_whole_49
    · have hf := ec_f (not_not_intro cnd) hf
      refine lv_aload_n hx hb dX3_whole_16 rfl (lv_at hl 0 rfl) ?_
      refine m_get (v := .int (S.1 10)) X hM 10 (by decide) q984 rfl rfl dX3_whole_17 ?_
      refine lv_goto (tgt := 49) hx hb dX3_whole_20 rfl ?_
      obtain rfl := Option.some.inj hf
      exact e_iretR hx hb hr hlk dX3_whole_49
  · have hf := ec_f (not_not_intro cnd) hf
    refine lv_aload_n hx hb dX3_whole_4 rfl (lv_at hl 0 rfl) ?_
    refine m_get (v := .int (S.1 7)) X hM 7 (by decide) q981 rfl rfl dX3_whole_5 ?_
    refine lv_goto (tgt := 49) hx hb dX3_whole_8 rfl ?_
    obtain rfl := Option.some.inj hf
    exact e_iretR hx hb hr hlk dX3_whole_49
theorem hX3_whole : yX3_whole.cls = RX3 ∧ yX3_whole.cls ≠ "java/lang/invoke/MethodHandle" ∧ yX3_whole.cls ≠ "java/lang/invoke/VarHandle" ∧ (parseMethodDescriptor yX3_whole.desc).map (fun d => d.parameters.length) = some 1 := by decide +kernel

noncomputable def fX3_isEvent (x0 : Int32) : Option Int32 :=
  (fX3_in (x0.toInt64) (0 : Int64) (7 : Int64)).bind fun v_1 =>
  ec_rz v_1
theorem metX3_isEvent (l : Launch) (x0 : Int32) (res : Int32) (hf : fX3_isEvent x0 = some res) : Met l yX3_isEvent (ws_ yX3_isEvent cX3_isEvent 1 (some .boolean)) (rmL 1) (PA [.int x0]) (k2_QcV (.int res)) 0 0 (fun _ => False) := by
  refine e_ofS (by decide) (Nat.le_of_ble_eq_true rfl) (fun p e s m args below meth c X hr hlk ls hl => ?_)
  have hl : lv_has ls 1 [(0, .int x0)] := hl
  have hx := X.1
  have hb := X.2.1
  unfold fX3_isEvent at hf
  refine lv_iload_n hx hb dX3_isEvent_0 rfl (lv_at hl 0 rfl) ?_
  refine lv_i2l hx hb dX3_isEvent_1 rfl ?_
  refine lv_lconst (v := 0) hx hb dX3_isEvent_2 (by decide) ?_
  refine lv_ldc2 (own := RX3) (v := 7) hx hb X.2.2.2.1 (X.2.2.2.2 _ q1199) dX3_isEvent_3 ?_
  obtain ⟨v_1, h, hf⟩ := ec_bi hf
  refine e_cS (v := .int v_1) (As := [.long (x0.toInt64), .long (0 : Int64), .long (7 : Int64)]) (rest := []) X (metX3_in l (x0.toInt64) (0 : Int64) (7 : Int64) _ h) (va_cwS 3 X.2.2.2.2 gX3_124 rfl rfl rfl hX3_in ⟨Nat.le_of_ble_eq_true rfl, Nat.le_of_ble_eq_true rfl⟩) rfl hl.1 rfl (Nat.le_of_ble_eq_true rfl) ⟨Nat.zero_le _, Nat.zero_le _⟩ dX3_isEvent_6 ?_
  obtain ⟨hn, h2⟩ := ec_rz_i hf
  subst h2
  exact e_zretR hx hb hr hlk hn dX3_isEvent_9
theorem hX3_isEvent : yX3_isEvent.cls ≠ "java/lang/invoke/MethodHandle" ∧ yX3_isEvent.cls ≠ "java/lang/invoke/VarHandle" ∧ (parseMethodDescriptor yX3_isEvent.desc).map (fun d => d.parameters.length) = some 1 := by decide +kernel

noncomputable def fX3_size (x0 : Int64) : Option Int64 :=
  if 0 ≤ (lg_cmp x0 (0 : Int64)) then (
    some x0)
  else (
    some (-x0))
theorem metX3_size (l : Launch) (x0 : Int64) (res : Int64) (hf : fX3_size x0 = some res) : Met l yX3_size (ws_ yX3_size cX3_size 2 (some .long)) (rmL 0) (PA [.long x0]) (k2_QcV (.long res)) 0 0 (fun _ => False) := by
  refine e_ofS (by decide) (Nat.le_of_ble_eq_true rfl) (fun p e s m args below meth c X hr hlk ls hl => ?_)
  have hl : lv_has ls 2 [(0, .long x0)] := hl
  have hx := X.1
  have hb := X.2.1
  unfold fX3_size at hf
  refine lv_lload_n hx hb dX3_size_0 rfl (lv_at hl 0 rfl) ?_
  refine lv_lconst (v := 0) hx hb dX3_size_1 (by decide) ?_
  refine W.lcmp hx hb dX3_size_2 ?_
  refine lv_if_ge (tgt := 11) hx hb dX3_size_3 rfl (fun cnd => ?_) (fun cnd => ?_)
  · have hf := ec_t cnd hf
    refine lv_lload_n hx hb dX3_size_11 rfl (lv_at hl 0 rfl) ?_
    obtain rfl := Option.some.inj hf
    exact e_lretR hx hb hr hlk dX3_size_12
  · have hf := ec_f cnd hf
    refine lv_lload_n hx hb dX3_size_6 rfl (lv_at hl 0 rfl) ?_
    refine lv_lneg hx hb dX3_size_7 ?_
    refine lv_goto (tgt := 12) hx hb dX3_size_8 rfl ?_
    obtain rfl := Option.some.inj hf
    exact e_lretR hx hb hr hlk dX3_size_12
theorem hX3_size : yX3_size.cls ≠ "java/lang/invoke/MethodHandle" ∧ yX3_size.cls ≠ "java/lang/invoke/VarHandle" ∧ (parseMethodDescriptor yX3_size.desc).map (fun d => d.parameters.length) = some 1 := by decide +kernel

theorem gX3_111 : GoodIn lw_all (va_wsS RX3 111 yX3_size (ws_ yX3_size cX3_size 2 (some .long))) := lw_S q1273 q1274 q63 q1275
noncomputable def fX3_common_6 (N : Nat) (kx31 : Int64 → Option Int64) : Nat → Int64 → Int64 → Option Int64
  | 0, _, _ => none
  | n + 1, x4, x6 =>
    if (lg_cmp x6 (0 : Int64)) = 0 then (
      kx31 x4)
    else (
      (ec_lrm x4 x6).bind fun v_1 =>
      (fX3_common_6 N kx31 n) x6 v_1)
theorem bX3_common_6 {N : Nat} (X : CallFix p m c cX3_common 10 s args lw_all RX3) (hr : meth.sig.returnType = (some .long)) (hlk : meth.locks = false) {res : Int64} {kx31 : Int64 → Option Int64} (Hkx31 : ∀ (x4 : Int64) (ls : Array Slot), kx31 x4 = some res → lv_has ls 10 [(4, .long x4)] → W p l e (rmL 1) s m args below meth c s.heap [] 0 0 (MQ below (k2_QcV (.long res)) args s 0 0 (fun _ => False)) (F0 m 31 ls [])) : ∀ (n : Nat) (x4 : Int64) (x6 : Int64) (ls : Array Slot), fX3_common_6 N kx31 n x4 x6 = some res → lv_has ls 10 [(4, .long x4), (6, .long x6)] → W p l e (rmL 1) s m args below meth c s.heap [] 0 0 (MQ below (k2_QcV (.long res)) args s 0 0 (fun _ => False)) (F0 m 6 ls []) := by
  have hx := X.1
  have hb := X.2.1
  intro n
  induction n with
  | zero =>
    intro x4 x6 ls hf hl
    rw [fX3_common_6] at hf
    cases hf
  | succ n ih =>
    intro x4 x6 ls hf hl
    rw [fX3_common_6] at hf
    refine lv_lload hx hb dX3_common_6 (lv_at hl 1 rfl) ?_
    refine lv_lconst (v := 0) hx hb dX3_common_8 (by decide) ?_
    refine W.lcmp hx hb dX3_common_9 ?_
    refine lv_if_eq (tgt := 31) hx hb dX3_common_10 rfl (fun cnd => ?_) (fun cnd => ?_)
    · have hf := ec_t cnd hf
      exact Hkx31 x4 _ hf (lv_sub hl [0] rfl)
    · have hf := ec_f cnd hf
      refine lv_lload hx hb dX3_common_13 (lv_at hl 0 rfl) ?_
      refine lv_lload hx hb dX3_common_15 (lv_at hl 1 rfl) ?_
      obtain ⟨v_1, h, hf⟩ := ec_bi hf
      refine e_lrm hx hb h dX3_common_17 ?_
      refine lv_lstore (lv' := [(8, .long v_1), (4, .long x4), (6, .long x6)]) hx hb dX3_common_18 hl (by decide) rfl (fun ls hl => ?_)
      refine lv_lload hx hb dX3_common_20 (lv_at hl 2 rfl) ?_
      refine lv_lstore (lv' := [(4, .long x6), (8, .long v_1), (6, .long x6)]) hx hb dX3_common_22 hl (by decide) rfl (fun ls hl => ?_)
      refine lv_lload hx hb dX3_common_24 (lv_at hl 1 rfl) ?_
      refine lv_lstore (lv' := [(6, .long v_1), (4, .long x6), (8, .long v_1)]) hx hb dX3_common_26 hl (by decide) rfl (fun ls hl => ?_)
      refine lv_goto (tgt := 6) hx hb dX3_common_28 rfl ?_
      exact ih x6 v_1 _ hf (lv_sub hl [1, 0] rfl)
noncomputable def fX3_common (N : Nat) (x0 : Int64) (x2 : Int64) : Option Int64 :=
  fX3_common_6 N (fun x4_2 =>
    (fX3_size x4_2).bind fun v_3 =>
    some v_3) N x0 x2
theorem metX3_common (l : Launch) (N : Nat) (x0 : Int64) (x2 : Int64) (res : Int64) (hf : fX3_common N x0 x2 = some res) : Met l yX3_common (ws_ yX3_common cX3_common 10 (some .long)) (rmL 1) (PA [.long x0, .long x2]) (k2_QcV (.long res)) 0 0 (fun _ => False) := by
  refine e_ofS (by decide) (Nat.le_of_ble_eq_true rfl) (fun p e s m args below meth c X hr hlk ls hl => ?_)
  have hl : lv_has ls 10 [(0, .long x0), (2, .long x2)] := hl
  have hx := X.1
  have hb := X.2.1
  unfold fX3_common at hf
  refine lv_lload_n hx hb dX3_common_0 rfl (lv_at hl 0 rfl) ?_
  refine lv_lstore (lv' := [(4, .long x0), (0, .long x0), (2, .long x2)]) hx hb dX3_common_1 hl (by decide) rfl (fun ls hl => ?_)
  refine lv_lload_n hx hb dX3_common_3 rfl (lv_at hl 2 rfl) ?_
  refine lv_lstore (lv' := [(6, .long x2), (4, .long x0), (0, .long x0), (2, .long x2)]) hx hb dX3_common_4 hl (by decide) rfl (fun ls hl => ?_)
  exact bX3_common_6 X hr hlk (fun x4_2 ls hf hl => by
    refine lv_lload hx hb dX3_common_31 (lv_at hl 0 rfl) ?_
    obtain ⟨v_3, h, hf⟩ := ec_bi hf
    refine e_cS (v := .long v_3) (As := [.long x4_2]) (rest := []) X (metX3_size l x4_2 _ h) (va_cwS 1 X.2.2.2.2 gX3_111 rfl rfl rfl hX3_size ⟨Nat.le_of_ble_eq_true rfl, Nat.le_of_ble_eq_true rfl⟩) rfl hl.1 rfl (Nat.le_of_ble_eq_true rfl) ⟨Nat.zero_le _, Nat.zero_le _⟩ dX3_common_33 ?_
    obtain rfl := Option.some.inj hf
    exact e_lretR hx hb hr hlk dX3_common_36) N x0 x2 _ hf (lv_sub hl [1, 0] rfl)
theorem hX3_common : yX3_common.cls ≠ "java/lang/invoke/MethodHandle" ∧ yX3_common.cls ≠ "java/lang/invoke/VarHandle" ∧ (parseMethodDescriptor yX3_common.desc).map (fun d => d.parameters.length) = some 2 := by decide +kernel

theorem gX3_115 : GoodIn lw_all (va_wsS RX3 115 yX3_common (ws_ yX3_common cX3_common 10 (some .long))) := lw_S q1276 q1277 q63 q1278
noncomputable def fX3_told (N : Nat) (x0 : Int64) (x2 : Int64) (x4 : Int32) : Option Int64 :=
  (fX3_size x0).bind fun v_1 =>
  (fX3_common N x2 v_1).bind fun v_2 =>
  if ¬ x4 = 0 then (
    (ec_ldv x2 v_2).bind fun v_3 =>
    some v_3)
  else (
    (ec_ldv x0 v_2).bind fun v_4 =>
    some v_4)
theorem metX3_told (l : Launch) (N : Nat) (x0 : Int64) (x2 : Int64) (x4 : Int32) (res : Int64) (hf : fX3_told N x0 x2 x4 = some res) : Met l yX3_told (ws_ yX3_told cX3_told 7 (some .long)) (rmL 2) (PA [.long x0, .long x2, .int x4]) (k2_QcV (.long res)) 0 0 (fun _ => False) := by
  refine e_ofS (by decide) (Nat.le_of_ble_eq_true rfl) (fun p e s m args below meth c X hr hlk ls hl => ?_)
  have hl : lv_has ls 7 [(0, .long x0), (2, .long x2), (4, .int x4)] := hl
  have hx := X.1
  have hb := X.2.1
  unfold fX3_told at hf
  refine lv_lload_n hx hb dX3_told_0 rfl (lv_at hl 1 rfl) ?_
  refine lv_lload_n hx hb dX3_told_1 rfl (lv_at hl 0 rfl) ?_
  obtain ⟨v_1, h, hf⟩ := ec_bi hf
  refine e_cS (v := .long v_1) (As := [.long x0]) (rest := [.long x2]) X (metX3_size l x0 _ h) (va_cwS 1 X.2.2.2.2 gX3_111 rfl rfl rfl hX3_size ⟨Nat.le_of_ble_eq_true rfl, Nat.le_of_ble_eq_true rfl⟩) rfl hl.1 rfl (Nat.le_of_ble_eq_true rfl) ⟨Nat.zero_le _, Nat.zero_le _⟩ dX3_told_2 ?_
  obtain ⟨v_2, h, hf⟩ := ec_bi hf
  refine e_cS (v := .long v_2) (As := [.long x2, .long v_1]) (rest := []) X (metX3_common l N x2 v_1 _ h) (va_cwS 2 X.2.2.2.2 gX3_115 rfl rfl rfl hX3_common ⟨Nat.le_of_ble_eq_true rfl, Nat.le_of_ble_eq_true rfl⟩) rfl hl.1 rfl (Nat.le_of_ble_eq_true rfl) ⟨Nat.zero_le _, Nat.zero_le _⟩ dX3_told_5 ?_
  refine lv_lstore (lv' := [(5, .long v_2), (0, .long x0), (2, .long x2), (4, .int x4)]) hx hb dX3_told_8 hl (by decide) rfl (fun ls hl => ?_)
  refine lv_iload hx hb dX3_told_10 (lv_at hl 3 rfl) ?_
  refine lv_if_ne (tgt := 22) hx hb dX3_told_12 rfl (fun cnd => ?_) (fun cnd => ?_)
  · have hf := ec_t cnd hf
    refine lv_lload_n hx hb dX3_told_22 rfl (lv_at hl 2 rfl) ?_
    refine lv_lload hx hb dX3_told_23 (lv_at hl 0 rfl) ?_
    obtain ⟨v_3, h, hf⟩ := ec_bi hf
    refine e_ldv hx hb h dX3_told_25 ?_
    obtain rfl := Option.some.inj hf
    exact e_lretR hx hb hr hlk dX3_told_26
  · have hf := ec_f (not_not_intro cnd) hf
    refine lv_lload_n hx hb dX3_told_15 rfl (lv_at hl 1 rfl) ?_
    refine lv_lload hx hb dX3_told_16 (lv_at hl 0 rfl) ?_
    obtain ⟨v_4, h, hf⟩ := ec_bi hf
    refine e_ldv hx hb h dX3_told_18 ?_
    refine lv_goto (tgt := 26) hx hb dX3_told_19 rfl ?_
    obtain rfl := Option.some.inj hf
    exact e_lretR hx hb hr hlk dX3_told_26
theorem hX3_told : yX3_told.cls ≠ "java/lang/invoke/MethodHandle" ∧ yX3_told.cls ≠ "java/lang/invoke/VarHandle" ∧ (parseMethodDescriptor yX3_told.desc).map (fun d => d.parameters.length) = some 3 := by decide +kernel

theorem gX3_260 : GoodIn lw_all (va_wsS RX3 260 yX3_isEvent (ws_ yX3_isEvent cX3_isEvent 1 (some .boolean))) := lw_S q1267 q1268 q63 q1269
theorem gX3_263 : GoodIn lw_all (va_wsS RX3 263 yX3_told (ws_ yX3_told cX3_told 7 (some .long))) := lw_S q1270 q1271 q63 q1272
noncomputable def fX3_ratio_39 (N : Nat) (S : sM) : Option Int32 :=
  some (-1 : Int32)
theorem bX3_ratio_39 {N : Nat} (X : CallFix p m c cX3_ratio 7 s args lw_all RX3) (hr : meth.sig.returnType = (some .int)) (hlk : meth.locks = false) {S : sM} (hM : MW D o q d dz S s s.heap []) {res : Int32} : ∀ (ls : Array Slot), fX3_ratio_39 N S = some res → lv_has ls 7 [(0, .ref o)] → W p l e (rmL 3) s m args below meth c s.heap [] 0 0 (MQ below (k2_QcV (.int res)) args s 0 0 (fun _ => False)) (F0 m 39 ls []) := by
  have hx := X.1
  have hb := X.2.1
  intro ls hf hl
  unfold fX3_ratio_39 at hf
  refine lv_iconst (v := -1) hx hb dX3_ratio_39 (by decide) ?_
  obtain rfl := Option.some.inj hf
  exact e_iretR hx hb hr hlk dX3_ratio_40
noncomputable def fX3_ratio_83 (N : Nat) (S : sM) (x4 : Int32) (x5 : Int32) (t0 : Int32) : Option Int32 :=
  if ¬ t0 = 0 then (
    (fX3_told N (x5.toInt64) (t0.toInt64) x4).bind fun v_6 =>
    some (v_6.toInt32))
  else (
    some (-4 : Int32))
theorem bX3_ratio_83 {N : Nat} (X : CallFix p m c cX3_ratio 7 s args lw_all RX3) (hr : meth.sig.returnType = (some .int)) (hlk : meth.locks = false) {S : sM} (hM : MW D o q d dz S s s.heap []) {res : Int32} : ∀ (x4 : Int32) (x5 : Int32) (t0 : Int32) (ls : Array Slot), fX3_ratio_83 N S x4 x5 t0 = some res → lv_has ls 7 [(0, .ref o), (4, .int x4), (5, .int x5)] → W p l e (rmL 3) s m args below meth c s.heap [] 0 0 (MQ below (k2_QcV (.int res)) args s 0 0 (fun _ => False)) (F0 m 83 ls [.int t0]) := by
  have hx := X.1
  have hb := X.2.1
  intro x4 x5 t0 ls hf hl
  unfold fX3_ratio_83 at hf
  refine lv_istore (lv' := [(6, .int t0), (0, .ref o), (4, .int x4), (5, .int x5)]) hx hb dX3_ratio_83 hl (by decide) rfl (fun ls hl => ?_)
  refine lv_iload hx hb dX3_ratio_85 (lv_at hl 0 rfl) ?_
  refine lv_if_ne (tgt := 95) hx hb dX3_ratio_87 rfl (fun cnd => ?_) (fun cnd => ?_)
  · have hf := ec_t cnd hf
    refine lv_iload hx hb dX3_ratio_95 (lv_at hl 3 rfl) ?_
    refine lv_i2l hx hb dX3_ratio_97 rfl ?_
    refine lv_iload hx hb dX3_ratio_98 (lv_at hl 0 rfl) ?_
    refine lv_i2l hx hb dX3_ratio_100 rfl ?_
    refine lv_iload hx hb dX3_ratio_101 (lv_at hl 2 rfl) ?_
    obtain ⟨v_6, h, hf⟩ := ec_bi hf
    refine e_cS (v := .long v_6) (As := [.long (x5.toInt64), .long (t0.toInt64), .int x4]) (rest := []) X (metX3_told l N (x5.toInt64) (t0.toInt64) x4 _ h) (va_cwS 3 X.2.2.2.2 gX3_263 rfl rfl rfl hX3_told ⟨Nat.le_of_ble_eq_true rfl, Nat.le_of_ble_eq_true rfl⟩) rfl hl.1 rfl (Nat.le_of_ble_eq_true rfl) ⟨Nat.zero_le _, Nat.zero_le _⟩ dX3_ratio_103 ?_
    refine lv_l2i hx hb dX3_ratio_106 rfl ?_
    obtain rfl := Option.some.inj hf
    exact e_iretR hx hb hr hlk dX3_ratio_107
  · have hf := ec_f (not_not_intro cnd) hf
    refine lv_bipush (v := -4) hx hb dX3_ratio_90 (by decide) ?_
    refine lv_goto (tgt := 107) hx hb dX3_ratio_92 rfl ?_
    obtain rfl := Option.some.inj hf
    exact e_iretR hx hb hr hlk dX3_ratio_107
noncomputable def fX3_ratio_61 (N : Nat) (S : sM) (x1 : Int32) (x3 : Int32) (x4 : Int32) (t0 : Int32) : Option Int32 :=
  if ¬ x1 = (-4 : Int32) then (
    (fX3_made S x1 x3).bind fun v_5 =>
    fX3_ratio_83 N S x4 t0 v_5)
  else (
    (fX3_total N S x3).bind fun v_7 =>
    fX3_ratio_83 N S x4 t0 v_7)
theorem bX3_ratio_61 {N : Nat} (X : CallFix p m c cX3_ratio 7 s args lw_all RX3) (hr : meth.sig.returnType = (some .int)) (hlk : meth.locks = false) {S : sM} (hM : MW D o q d dz S s s.heap []) {res : Int32} : ∀ (x1 : Int32) (x3 : Int32) (x4 : Int32) (t0 : Int32) (ls : Array Slot), fX3_ratio_61 N S x1 x3 x4 t0 = some res → lv_has ls 7 [(0, .ref o), (1, .int x1), (3, .int x3), (4, .int x4)] → W p l e (rmL 3) s m args below meth c s.heap [] 0 0 (MQ below (k2_QcV (.int res)) args s 0 0 (fun _ => False)) (F0 m 61 ls [.int t0]) := by
  have hx := X.1
  have hb := X.2.1
  intro x1 x3 x4 t0 ls hf hl
  unfold fX3_ratio_61 at hf
  refine lv_istore (lv' := [(5, .int t0), (0, .ref o), (1, .int x1), (3, .int x3), (4, .int x4)]) hx hb dX3_ratio_61 hl (by decide) rfl (fun ls hl => ?_)
  refine lv_iload_n hx hb dX3_ratio_63 rfl (lv_at hl 2 rfl) ?_
  refine lv_bipush (v := -4) hx hb dX3_ratio_64 (by decide) ?_
  refine lv_icmp_ne (tgt := 77) hx hb dX3_ratio_66 rfl (fun cnd => ?_) (fun cnd => ?_)
  · have hf := ec_t cnd hf
    refine lv_aload_n hx hb dX3_ratio_77 rfl (lv_at hl 1 rfl) ?_
    refine lv_iload_n hx hb dX3_ratio_78 rfl (lv_at hl 2 rfl) ?_
    refine lv_iload_n hx hb dX3_ratio_79 rfl (lv_at hl 3 rfl) ?_
    obtain ⟨v_5, h, hf⟩ := ec_bi hf
    refine m_cR (v := .int v_5) (As := [.int x1, .int x3]) (rest := []) X hM (metX3_made l D o q d dz S x1 x3 _ h) (cwV 2 X.2.2.2.2 gX3_251 rfl rfl rfl hX3_made ⟨Nat.le_of_ble_eq_true rfl, Nat.le_of_ble_eq_true rfl⟩) rfl hl.1 rfl (Nat.le_of_ble_eq_true rfl) ⟨Nat.zero_le _, Nat.zero_le _⟩ dX3_ratio_80 ?_
    exact bX3_ratio_83 X hr hlk hM x4 t0 v_5 _ hf (lv_sub hl [1, 4, 0] rfl)
  · have hf := ec_f (not_not_intro cnd) hf
    refine lv_aload_n hx hb dX3_ratio_69 rfl (lv_at hl 1 rfl) ?_
    refine lv_iload_n hx hb dX3_ratio_70 rfl (lv_at hl 3 rfl) ?_
    obtain ⟨v_7, h, hf⟩ := ec_bi hf
    refine m_cR (v := .int v_7) (As := [.int x3]) (rest := []) X hM (metX3_total l D o q d dz N S x3 _ h) (cwV 1 X.2.2.2.2 gX3_257 rfl rfl rfl hX3_total ⟨Nat.le_of_ble_eq_true rfl, Nat.le_of_ble_eq_true rfl⟩) rfl hl.1 rfl (Nat.le_of_ble_eq_true rfl) ⟨Nat.zero_le _, Nat.zero_le _⟩ dX3_ratio_71 ?_
    refine lv_goto (tgt := 83) hx hb dX3_ratio_74 rfl ?_
    exact bX3_ratio_83 X hr hlk hM x4 t0 v_7 _ hf (lv_sub hl [1, 4, 0] rfl)
noncomputable def fX3_ratio_14 (N : Nat) (S : sM) (x1 : Int32) (x2 : Int32) (x3 : Int32) (x4 : Int32) : Option Int32 :=
  (fX3_isEvent x2).bind fun v_1 =>
  if v_1 = 0 then (
    fX3_ratio_39 N S)
  else (
    (fX3_isEvent x3).bind fun v_2 =>
    if v_2 = 0 then (
      fX3_ratio_39 N S)
    else (
      (fX3_in (x4.toInt64) (0 : Int64) (1 : Int64)).bind fun v_3 =>
      if ¬ v_3 = 0 then (
        if ¬ x1 = (-4 : Int32) then (
          (fX3_made S x1 x2).bind fun v_4 =>
          fX3_ratio_61 N S x1 x3 x4 v_4)
        else (
          (fX3_total N S x2).bind fun v_8 =>
          fX3_ratio_61 N S x1 x3 x4 v_8))
      else (
        fX3_ratio_39 N S)))
theorem bX3_ratio_14 {N : Nat} (X : CallFix p m c cX3_ratio 7 s args lw_all RX3) (hr : meth.sig.returnType = (some .int)) (hlk : meth.locks = false) {S : sM} (hM : MW D o q d dz S s s.heap []) {res : Int32} : ∀ (x1 : Int32) (x2 : Int32) (x3 : Int32) (x4 : Int32) (ls : Array Slot), fX3_ratio_14 N S x1 x2 x3 x4 = some res → lv_has ls 7 [(0, .ref o), (1, .int x1), (2, .int x2), (3, .int x3), (4, .int x4)] → W p l e (rmL 3) s m args below meth c s.heap [] 0 0 (MQ below (k2_QcV (.int res)) args s 0 0 (fun _ => False)) (F0 m 14 ls []) := by
  have hx := X.1
  have hb := X.2.1
  intro x1 x2 x3 x4 ls hf hl
  unfold fX3_ratio_14 at hf
  refine lv_iload_n hx hb dX3_ratio_14 rfl (lv_at hl 2 rfl) ?_
  obtain ⟨v_1, h, hf⟩ := ec_bi hf
  refine e_cS (v := .int v_1) (As := [.int x2]) (rest := []) X (metX3_isEvent l x2 _ h) (va_cwS 1 X.2.2.2.2 gX3_260 rfl rfl rfl hX3_isEvent ⟨Nat.le_of_ble_eq_true rfl, Nat.le_of_ble_eq_true rfl⟩) rfl hl.1 rfl (Nat.le_of_ble_eq_true rfl) ⟨Nat.zero_le _, Nat.zero_le _⟩ dX3_ratio_15 ?_
  refine lv_if_eq (tgt := 39) hx hb dX3_ratio_18 rfl (fun cnd => ?_) (fun cnd => ?_)
  · have hf := ec_t cnd hf
    exact bX3_ratio_39 X hr hlk hM _ hf (lv_sub hl [0] rfl)
  · have hf := ec_f cnd hf
    refine lv_iload_n hx hb dX3_ratio_21 rfl (lv_at hl 3 rfl) ?_
    obtain ⟨v_2, h, hf⟩ := ec_bi hf
    refine e_cS (v := .int v_2) (As := [.int x3]) (rest := []) X (metX3_isEvent l x3 _ h) (va_cwS 1 X.2.2.2.2 gX3_260 rfl rfl rfl hX3_isEvent ⟨Nat.le_of_ble_eq_true rfl, Nat.le_of_ble_eq_true rfl⟩) rfl hl.1 rfl (Nat.le_of_ble_eq_true rfl) ⟨Nat.zero_le _, Nat.zero_le _⟩ dX3_ratio_22 ?_
    refine lv_if_eq (tgt := 39) hx hb dX3_ratio_25 rfl (fun cnd => ?_) (fun cnd => ?_)
    · have hf := ec_t cnd hf
      exact bX3_ratio_39 X hr hlk hM _ hf (lv_sub hl [0] rfl)
    · have hf := ec_f cnd hf
      refine lv_iload hx hb dX3_ratio_28 (lv_at hl 4 rfl) ?_
      refine lv_i2l hx hb dX3_ratio_30 rfl ?_
      refine lv_lconst (v := 0) hx hb dX3_ratio_31 (by decide) ?_
      refine lv_lconst (v := 1) hx hb dX3_ratio_32 (by decide) ?_
      obtain ⟨v_3, h, hf⟩ := ec_bi hf
      refine e_cS (v := .int v_3) (As := [.long (x4.toInt64), .long (0 : Int64), .long (1 : Int64)]) (rest := []) X (metX3_in l (x4.toInt64) (0 : Int64) (1 : Int64) _ h) (va_cwS 3 X.2.2.2.2 gX3_124 rfl rfl rfl hX3_in ⟨Nat.le_of_ble_eq_true rfl, Nat.le_of_ble_eq_true rfl⟩) rfl hl.1 rfl (Nat.le_of_ble_eq_true rfl) ⟨Nat.zero_le _, Nat.zero_le _⟩ dX3_ratio_33 ?_
      refine lv_if_ne (tgt := 41) hx hb dX3_ratio_36 rfl (fun cnd => ?_) (fun cnd => ?_)
      · have hf := ec_t cnd hf
        refine lv_iload_n hx hb dX3_ratio_41 rfl (lv_at hl 1 rfl) ?_
        refine lv_bipush (v := -4) hx hb dX3_ratio_42 (by decide) ?_
        refine lv_icmp_ne (tgt := 55) hx hb dX3_ratio_44 rfl (fun cnd => ?_) (fun cnd => ?_)
        · have hf := ec_t cnd hf
          refine lv_aload_n hx hb dX3_ratio_55 rfl (lv_at hl 0 rfl) ?_
          refine lv_iload_n hx hb dX3_ratio_56 rfl (lv_at hl 1 rfl) ?_
          refine lv_iload_n hx hb dX3_ratio_57 rfl (lv_at hl 2 rfl) ?_
          obtain ⟨v_4, h, hf⟩ := ec_bi hf
          refine m_cR (v := .int v_4) (As := [.int x1, .int x2]) (rest := []) X hM (metX3_made l D o q d dz S x1 x2 _ h) (cwV 2 X.2.2.2.2 gX3_251 rfl rfl rfl hX3_made ⟨Nat.le_of_ble_eq_true rfl, Nat.le_of_ble_eq_true rfl⟩) rfl hl.1 rfl (Nat.le_of_ble_eq_true rfl) ⟨Nat.zero_le _, Nat.zero_le _⟩ dX3_ratio_58 ?_
          exact bX3_ratio_61 X hr hlk hM x1 x3 x4 v_4 _ hf (lv_sub hl [0, 1, 3, 4] rfl)
        · have hf := ec_f (not_not_intro cnd) hf
          refine lv_aload_n hx hb dX3_ratio_47 rfl (lv_at hl 0 rfl) ?_
          refine lv_iload_n hx hb dX3_ratio_48 rfl (lv_at hl 2 rfl) ?_
          obtain ⟨v_8, h, hf⟩ := ec_bi hf
          refine m_cR (v := .int v_8) (As := [.int x2]) (rest := []) X hM (metX3_total l D o q d dz N S x2 _ h) (cwV 1 X.2.2.2.2 gX3_257 rfl rfl rfl hX3_total ⟨Nat.le_of_ble_eq_true rfl, Nat.le_of_ble_eq_true rfl⟩) rfl hl.1 rfl (Nat.le_of_ble_eq_true rfl) ⟨Nat.zero_le _, Nat.zero_le _⟩ dX3_ratio_49 ?_
          refine lv_goto (tgt := 61) hx hb dX3_ratio_52 rfl ?_
          exact bX3_ratio_61 X hr hlk hM x1 x3 x4 v_8 _ hf (lv_sub hl [0, 1, 3, 4] rfl)
      · have hf := ec_f (not_not_intro cnd) hf
        exact bX3_ratio_39 X hr hlk hM _ hf (lv_sub hl [0] rfl)
noncomputable def fX3_ratio (N : Nat) (S : sM) (x1 : Int32) (x2 : Int32) (x3 : Int32) (x4 : Int32) : Option Int32 :=
  if x1 = (-4 : Int32) then (
    fX3_ratio_14 N S x1 x2 x3 x4)
  else (
    (fX3_isLine S x1).bind fun v_9 =>
    if v_9 = 0 then (
      fX3_ratio_39 N S)
    else (
      fX3_ratio_14 N S x1 x2 x3 x4))
theorem metX3_ratio (l : Launch) (D : va_G) (o : Nat) (q : Nat → Nat) (d dz : ClassId) (N : Nat) (S : sM) (x1 : Int32) (x2 : Int32) (x3 : Int32) (x4 : Int32) (res : Int32) (hf : fX3_ratio N S x1 x2 x3 x4 = some res) : Met l yX3_ratio (ws_ yX3_ratio cX3_ratio 7 (some .int)) (rmL 3) (MPre D o q d dz S [.int x1, .int x2, .int x3, .int x4]) (k2_QcV (.int res)) 0 0 (fun _ => False) := by
  refine m_ofR rfl (Nat.le_of_ble_eq_true rfl) (fun p e s m args below meth c X hr hlk hM ls hl => ?_)
  have hl : lv_has ls 7 [(0, .ref o), (1, .int x1), (2, .int x2), (3, .int x3), (4, .int x4)] := hl
  have hx := X.1
  have hb := X.2.1
  unfold fX3_ratio at hf
  refine lv_iload_n hx hb dX3_ratio_0 rfl (lv_at hl 1 rfl) ?_
  refine lv_bipush (v := -4) hx hb dX3_ratio_1 (by decide) ?_
  refine lv_icmp_eq (tgt := 14) hx hb dX3_ratio_3 rfl (fun cnd => ?_) (fun cnd => ?_)
  · have hf := ec_t cnd hf
    exact bX3_ratio_14 X hr hlk hM x1 x2 x3 x4 _ hf hl
  · have hf := ec_f cnd hf
    refine lv_aload_n hx hb dX3_ratio_6 rfl (lv_at hl 0 rfl) ?_
    refine lv_iload_n hx hb dX3_ratio_7 rfl (lv_at hl 1 rfl) ?_
    obtain ⟨v_9, h, hf⟩ := ec_bi hf
    refine m_cR (v := .int v_9) (As := [.int x1]) (rest := []) X hM (metX3_isLine l D o q d dz S x1 _ h) (cwV 1 X.2.2.2.2 gX3_243 rfl rfl rfl hX3_isLine ⟨Nat.le_of_ble_eq_true rfl, Nat.le_of_ble_eq_true rfl⟩) rfl hl.1 rfl (Nat.le_of_ble_eq_true rfl) ⟨Nat.zero_le _, Nat.zero_le _⟩ dX3_ratio_8 ?_
    refine lv_if_eq (tgt := 39) hx hb dX3_ratio_11 rfl (fun cnd => ?_) (fun cnd => ?_)
    · have hf := ec_t cnd hf
      exact bX3_ratio_39 X hr hlk hM _ hf (lv_sub hl [0] rfl)
    · have hf := ec_f cnd hf
      exact bX3_ratio_14 X hr hlk hM x1 x2 x3 x4 _ hf hl
theorem hX3_ratio : yX3_ratio.cls = RX3 ∧ yX3_ratio.cls ≠ "java/lang/invoke/MethodHandle" ∧ yX3_ratio.cls ≠ "java/lang/invoke/VarHandle" ∧ (parseMethodDescriptor yX3_ratio.desc).map (fun d => d.parameters.length) = some 4 := by decide +kernel

noncomputable def fX3_loop_28 (N : Nat) (S : sM) : Option Int32 :=
  some (-1 : Int32)
theorem bX3_loop_28 {N : Nat} (X : CallFix p m c cX3_loop 7 s args lw_all RX3) (hr : meth.sig.returnType = (some .int)) (hlk : meth.locks = false) {S : sM} (hM : MW D o q d dz S s s.heap []) {res : Int32} : ∀ (ls : Array Slot), fX3_loop_28 N S = some res → lv_has ls 7 [(0, .ref o)] → W p l e (rmL 2) s m args below meth c s.heap [] 0 0 (MQ below (k2_QcV (.int res)) args s 0 0 (fun _ => False)) (F0 m 28 ls []) := by
  have hx := X.1
  have hb := X.2.1
  intro ls hf hl
  unfold fX3_loop_28 at hf
  refine lv_iconst (v := -1) hx hb dX3_loop_28 (by decide) ?_
  obtain rfl := Option.some.inj hf
  exact e_iretR hx hb hr hlk dX3_loop_29
noncomputable def fX3_loop_40 (N : Nat) (S : sM) (kx69 : Int32 → Int32 → Int32 → Option Int32) : Nat → Int32 → Int32 → Int32 → Int32 → Option Int32
  | 0, _, _, _, _ => none
  | n + 1, x1, x2, x3, x4 =>
    if x4 = (-4 : Int32) then (
      kx69 x1 x2 x3)
    else (
      (ec_ag (S.2.2 5) 40 x4).bind fun v_4 =>
      ec_lt (x3 * v_4) fun x3_5 =>
      (ec_ag (S.2.2 6) 40 x4).bind fun v_6 =>
      (fX3_loop_40 N S kx69 n) x1 x2 x3_5 v_6)
theorem bX3_loop_40 {N : Nat} (X : CallFix p m c cX3_loop 7 s args lw_all RX3) (hr : meth.sig.returnType = (some .int)) (hlk : meth.locks = false) {S : sM} (hM : MW D o q d dz S s s.heap []) {res : Int32} {kx69 : Int32 → Int32 → Int32 → Option Int32} (Hkx69 : ∀ (x1 : Int32) (x2 : Int32) (x3 : Int32) (ls : Array Slot), kx69 x1 x2 x3 = some res → lv_has ls 7 [(0, .ref o), (1, .int x1), (2, .int x2), (3, .int x3)] → W p l e (rmL 2) s m args below meth c s.heap [] 0 0 (MQ below (k2_QcV (.int res)) args s 0 0 (fun _ => False)) (F0 m 69 ls [])) : ∀ (n : Nat) (x1 : Int32) (x2 : Int32) (x3 : Int32) (x4 : Int32) (ls : Array Slot), fX3_loop_40 N S kx69 n x1 x2 x3 x4 = some res → lv_has ls 7 [(0, .ref o), (1, .int x1), (2, .int x2), (3, .int x3), (4, .int x4)] → W p l e (rmL 2) s m args below meth c s.heap [] 0 0 (MQ below (k2_QcV (.int res)) args s 0 0 (fun _ => False)) (F0 m 40 ls []) := by
  have hx := X.1
  have hb := X.2.1
  intro n
  induction n with
  | zero =>
    intro x1 x2 x3 x4 ls hf hl
    rw [fX3_loop_40] at hf
    cases hf
  | succ n ih =>
    intro x1 x2 x3 x4 ls hf hl
    rw [fX3_loop_40] at hf
    refine lv_iload hx hb dX3_loop_40 (lv_at hl 4 rfl) ?_
    refine lv_bipush (v := -4) hx hb dX3_loop_42 (by decide) ?_
    refine lv_icmp_eq (tgt := 69) hx hb dX3_loop_44 rfl (fun cnd => ?_) (fun cnd => ?_)
    · have hf := ec_t cnd hf
      exact Hkx69 x1 x2 x3 _ hf (lv_sub hl [0, 1, 2, 3] rfl)
    · have hf := ec_f cnd hf
      refine lv_iload_n hx hb dX3_loop_47 rfl (lv_at hl 3 rfl) ?_
      refine lv_aload_n hx hb dX3_loop_48 rfl (lv_at hl 0 rfl) ?_
      refine m_get (v := .ref (q 5)) X hM 5 (by decide) q979 rfl rfl dX3_loop_49 ?_
      refine lv_iload hx hb dX3_loop_52 (lv_at hl 4 rfl) ?_
      obtain ⟨v_4, h, hf⟩ := ec_bi hf
      refine m_iald X hM wma5 h dX3_loop_54 ?_
      refine lv_imul hx hb dX3_loop_55 ?_
      refine lv_topi (fun x3_5 ex => ?_)
      have hf := ec_lt_i ex hf
      refine lv_istore_n (lv' := [(3, .int x3_5), (0, .ref o), (1, .int x1), (2, .int x2), (4, .int x4)]) hx hb dX3_loop_56 rfl hl (by decide) rfl (fun ls hl => ?_)
      refine lv_aload_n hx hb dX3_loop_57 rfl (lv_at hl 1 rfl) ?_
      refine m_get (v := .ref (q 6)) X hM 6 (by decide) q980 rfl rfl dX3_loop_58 ?_
      refine lv_iload hx hb dX3_loop_61 (lv_at hl 4 rfl) ?_
      obtain ⟨v_6, h, hf⟩ := ec_bi hf
      refine m_iald X hM wma6 h dX3_loop_63 ?_
      refine lv_istore (lv' := [(4, .int v_6), (3, .int x3_5), (0, .ref o), (1, .int x1), (2, .int x2)]) hx hb dX3_loop_64 hl (by decide) rfl (fun ls hl => ?_)
      refine lv_goto (tgt := 40) hx hb dX3_loop_66 rfl ?_
      exact ih x1 x2 x3_5 v_6 _ hf (lv_sub hl [2, 3, 4, 1, 0] rfl)
noncomputable def fX3_loop_115 (N : Nat) (S : sM) (k82 : Int32 → Int32 → Int32 → Int32 → Int32 → Int32 → Option Int32) (x1 : Int32) (x2 : Int32) (x3 : Int32) (x4 : Int32) (x6 : Int32) (t0 : Int32) (t1 : Int32) : Option Int32 :=
  ec_lt (t1 + t0) fun x5_11 =>
  ec_lt (x6 + (1 : Int32)) fun x6_12 =>
  k82 x1 x2 x3 x4 x5_11 x6_12
theorem bX3_loop_115 {N : Nat} (X : CallFix p m c cX3_loop 7 s args lw_all RX3) (hr : meth.sig.returnType = (some .int)) (hlk : meth.locks = false) {S : sM} (hM : MW D o q d dz S s s.heap []) {res : Int32} {k82 : Int32 → Int32 → Int32 → Int32 → Int32 → Int32 → Option Int32} (Hk82 : ∀ (x1 : Int32) (x2 : Int32) (x3 : Int32) (x4 : Int32) (x5 : Int32) (x6 : Int32) (ls : Array Slot), k82 x1 x2 x3 x4 x5 x6 = some res → lv_has ls 7 [(0, .ref o), (1, .int x1), (2, .int x2), (3, .int x3), (4, .int x4), (5, .int x5), (6, .int x6)] → W p l e (rmL 2) s m args below meth c s.heap [] 0 0 (MQ below (k2_QcV (.int res)) args s 0 0 (fun _ => False)) (F0 m 82 ls [])) : ∀ (x1 : Int32) (x2 : Int32) (x3 : Int32) (x4 : Int32) (x6 : Int32) (t0 : Int32) (t1 : Int32) (ls : Array Slot), fX3_loop_115 N S k82 x1 x2 x3 x4 x6 t0 t1 = some res → lv_has ls 7 [(0, .ref o), (1, .int x1), (2, .int x2), (3, .int x3), (4, .int x4), (6, .int x6)] → W p l e (rmL 2) s m args below meth c s.heap [] 0 0 (MQ below (k2_QcV (.int res)) args s 0 0 (fun _ => False)) (F0 m 115 ls [.int t0, .int t1]) := by
  have hx := X.1
  have hb := X.2.1
  intro x1 x2 x3 x4 x6 t0 t1 ls hf hl
  unfold fX3_loop_115 at hf
  refine lv_iadd hx hb dX3_loop_115 ?_
  refine lv_topi (fun x5_11 ex => ?_)
  have hf := ec_lt_i ex hf
  refine lv_istore (lv' := [(5, .int x5_11), (0, .ref o), (1, .int x1), (2, .int x2), (3, .int x3), (4, .int x4), (6, .int x6)]) hx hb dX3_loop_116 hl (by decide) rfl (fun ls hl => ?_)
  refine e_inc (w := 1) (f := fun v => [(6, .int v), (5, .int x5_11), (0, .ref o), (1, .int x1), (2, .int x2), (3, .int x3), (4, .int x4)]) hx hb dX3_loop_118 hl (k := 6) rfl (by decide) (by decide) (fun _ => rfl) (fun x6_12 ex ls hl => ?_)
  have hf := ec_lt_i ex hf
  refine lv_goto (tgt := 82) hx hb dX3_loop_121 rfl ?_
  exact Hk82 x1 x2 x3 x4 x5_11 x6_12 _ hf (lv_sub hl [2, 3, 4, 5, 6, 1, 0] rfl)
noncomputable def fX3_loop_82 (N : Nat) (S : sM) (kx124 : Int32 → Int32 → Int32 → Int32 → Int32 → Option Int32) : Nat → Int32 → Int32 → Int32 → Int32 → Int32 → Int32 → Option Int32
  | 0, _, _, _, _, _, _ => none
  | n + 1, x1, x2, x3, x4, x5, x6 =>
    if (S.1 0) ≤ x6 then (
      kx124 x1 x2 x3 x4 x5)
    else (
      if ¬ ((x4 >>> (x6 &&& 31)) &&& (1 : Int32)) = (1 : Int32) then (
        fX3_loop_115 N S (fX3_loop_82 N S kx124 n) x1 x2 x3 x4 x6 (0 : Int32) x5)
      else (
        (ec_ag (S.2.2 9) 16 x6).bind fun v_13 =>
        fX3_loop_115 N S (fX3_loop_82 N S kx124 n) x1 x2 x3 x4 x6 v_13 x5))
theorem bX3_loop_82 {N : Nat} (X : CallFix p m c cX3_loop 7 s args lw_all RX3) (hr : meth.sig.returnType = (some .int)) (hlk : meth.locks = false) {S : sM} (hM : MW D o q d dz S s s.heap []) {res : Int32} {kx124 : Int32 → Int32 → Int32 → Int32 → Int32 → Option Int32} (Hkx124 : ∀ (x1 : Int32) (x2 : Int32) (x3 : Int32) (x4 : Int32) (x5 : Int32) (ls : Array Slot), kx124 x1 x2 x3 x4 x5 = some res → lv_has ls 7 [(0, .ref o), (1, .int x1), (2, .int x2), (3, .int x3), (4, .int x4), (5, .int x5)] → W p l e (rmL 2) s m args below meth c s.heap [] 0 0 (MQ below (k2_QcV (.int res)) args s 0 0 (fun _ => False)) (F0 m 124 ls [])) : ∀ (n : Nat) (x1 : Int32) (x2 : Int32) (x3 : Int32) (x4 : Int32) (x5 : Int32) (x6 : Int32) (ls : Array Slot), fX3_loop_82 N S kx124 n x1 x2 x3 x4 x5 x6 = some res → lv_has ls 7 [(0, .ref o), (1, .int x1), (2, .int x2), (3, .int x3), (4, .int x4), (5, .int x5), (6, .int x6)] → W p l e (rmL 2) s m args below meth c s.heap [] 0 0 (MQ below (k2_QcV (.int res)) args s 0 0 (fun _ => False)) (F0 m 82 ls []) := by
  have hx := X.1
  have hb := X.2.1
  intro n
  induction n with
  | zero =>
    intro x1 x2 x3 x4 x5 x6 ls hf hl
    rw [fX3_loop_82] at hf
    cases hf
  | succ n ih =>
    intro x1 x2 x3 x4 x5 x6 ls hf hl
    rw [fX3_loop_82] at hf
    refine lv_iload hx hb dX3_loop_82 (lv_at hl 6 rfl) ?_
    refine lv_aload_n hx hb dX3_loop_84 rfl (lv_at hl 0 rfl) ?_
    refine m_get (v := .int (S.1 0)) X hM 0 (by decide) q974 rfl rfl dX3_loop_85 ?_
    refine lv_icmp_ge (tgt := 124) hx hb dX3_loop_88 rfl (fun cnd => ?_) (fun cnd => ?_)
    · have hf := ec_t cnd hf
      exact Hkx124 x1 x2 x3 x4 x5 _ hf (lv_sub hl [0, 1, 2, 3, 4, 5] rfl)
    · have hf := ec_f cnd hf
      refine lv_iload hx hb dX3_loop_91 (lv_at hl 5 rfl) ?_
      refine lv_iload hx hb dX3_loop_93 (lv_at hl 4 rfl) ?_
      refine lv_iload hx hb dX3_loop_95 (lv_at hl 6 rfl) ?_
      refine lv_ishr hx hb dX3_loop_97 ?_
      refine lv_iconst (v := 1) hx hb dX3_loop_98 (by decide) ?_
      refine lv_iand hx hb dX3_loop_99 ?_
      refine lv_iconst (v := 1) hx hb dX3_loop_100 (by decide) ?_
      refine lv_icmp_ne (tgt := 114) hx hb dX3_loop_101 rfl (fun cnd => ?_) (fun cnd => ?_)
      · have hf := ec_t cnd hf
        refine lv_iconst (v := 0) hx hb dX3_loop_114 (by decide) ?_
        exact bX3_loop_115 X hr hlk hM ih x1 x2 x3 x4 x6 (0 : Int32) x5 _ hf (lv_sub hl [0, 1, 2, 3, 4, 6] rfl)
      · have hf := ec_f (not_not_intro cnd) hf
        refine lv_aload_n hx hb dX3_loop_104 rfl (lv_at hl 0 rfl) ?_
        refine m_get (v := .ref (q 9)) X hM 9 (by decide) q983 rfl rfl dX3_loop_105 ?_
        refine lv_iload hx hb dX3_loop_108 (lv_at hl 6 rfl) ?_
        obtain ⟨v_13, h, hf⟩ := ec_bi hf
        refine m_iald X hM wma9 h dX3_loop_110 ?_
        refine lv_goto (tgt := 115) hx hb dX3_loop_111 rfl ?_
        exact bX3_loop_115 X hr hlk hM ih x1 x2 x3 x4 x6 v_13 x5 _ hf (lv_sub hl [0, 1, 2, 3, 4, 6] rfl)
noncomputable def fX3_loop (N : Nat) (S : sM) (x1 : Int32) (x2 : Int32) : Option Int32 :=
  (fX3_in (x1.toInt64) (0 : Int64) (((S.1 4) - (1 : Int32)).toInt64)).bind fun v_1 =>
  if v_1 = 0 then (
    fX3_loop_28 N S)
  else (
    (fX3_in (x2.toInt64) (0 : Int64) (4 : Int64)).bind fun v_2 =>
    if ¬ v_2 = 0 then (
      (ec_ag (S.2.2 6) 40 x1).bind fun v_3 =>
      fX3_loop_40 N S (fun x1_7 x2_8 x3_9 =>
        (fX3_linesIn N S x1_7).bind fun v_10 =>
        fX3_loop_82 N S (fun x1_14 x2_15 x3_16 x4_17 x5_18 =>
          if ¬ x2_15 = 0 then (
            if ¬ x2_15 = (1 : Int32) then (
              if ¬ x2_15 = (2 : Int32) then (
                if ¬ x2_15 = (3 : Int32) then (
                  some x5_18)
                else (
                  some x3_16))
              else (
                some x4_17))
            else (
              (ec_ag (S.2.2 6) 40 x1_14).bind fun v_19 =>
              (fX3_depthOf N S v_19).bind fun v_20 =>
              some v_20))
          else (
            (ec_ag (S.2.2 5) 40 x1_14).bind fun v_21 =>
            some v_21)) N x1_7 x2_8 x3_9 v_10 (0 : Int32) (0 : Int32)) N x1 x2 (1 : Int32) v_3)
    else (
      fX3_loop_28 N S))
theorem metX3_loop (l : Launch) (D : va_G) (o : Nat) (q : Nat → Nat) (d dz : ClassId) (N : Nat) (S : sM) (x1 : Int32) (x2 : Int32) (res : Int32) (hf : fX3_loop N S x1 x2 = some res) : Met l yX3_loop (ws_ yX3_loop cX3_loop 7 (some .int)) (rmL 2) (MPre D o q d dz S [.int x1, .int x2]) (k2_QcV (.int res)) 0 0 (fun _ => False) := by
  refine m_ofR rfl (Nat.le_of_ble_eq_true rfl) (fun p e s m args below meth c X hr hlk hM ls hl => ?_)
  have hl : lv_has ls 7 [(0, .ref o), (1, .int x1), (2, .int x2)] := hl
  have hx := X.1
  have hb := X.2.1
  unfold fX3_loop at hf
  refine lv_iload_n hx hb dX3_loop_0 rfl (lv_at hl 1 rfl) ?_
  refine lv_i2l hx hb dX3_loop_1 rfl ?_
  refine lv_lconst (v := 0) hx hb dX3_loop_2 (by decide) ?_
  refine lv_aload_n hx hb dX3_loop_3 rfl (lv_at hl 0 rfl) ?_
  refine m_get (v := .int (S.1 4)) X hM 4 (by decide) q978 rfl rfl dX3_loop_4 ?_
  refine lv_iconst (v := 1) hx hb dX3_loop_7 (by decide) ?_
  refine lv_isub hx hb dX3_loop_8 ?_
  refine lv_i2l hx hb dX3_loop_9 rfl ?_
  obtain ⟨v_1, h, hf⟩ := ec_bi hf
  refine e_cS (v := .int v_1) (As := [.long (x1.toInt64), .long (0 : Int64), .long (((S.1 4) - (1 : Int32)).toInt64)]) (rest := []) X (metX3_in l (x1.toInt64) (0 : Int64) (((S.1 4) - (1 : Int32)).toInt64) _ h) (va_cwS 3 X.2.2.2.2 gX3_124 rfl rfl rfl hX3_in ⟨Nat.le_of_ble_eq_true rfl, Nat.le_of_ble_eq_true rfl⟩) rfl hl.1 rfl (Nat.le_of_ble_eq_true rfl) ⟨Nat.zero_le _, Nat.zero_le _⟩ dX3_loop_10 ?_
  refine lv_if_eq (tgt := 28) hx hb dX3_loop_13 rfl (fun cnd => ?_) (fun cnd => ?_)
  · have hf := ec_t cnd hf
    exact bX3_loop_28 X hr hlk hM _ hf (lv_sub hl [0] rfl)
  · have hf := ec_f cnd hf
    refine lv_iload_n hx hb dX3_loop_16 rfl (lv_at hl 2 rfl) ?_
    refine lv_i2l hx hb dX3_loop_17 rfl ?_
    refine lv_lconst (v := 0) hx hb dX3_loop_18 (by decide) ?_
    refine lv_ldc2 (own := RX3) (v := 4) hx hb X.2.2.2.1 (X.2.2.2.2 _ q1283) dX3_loop_19 ?_
    obtain ⟨v_2, h, hf⟩ := ec_bi hf
    refine e_cS (v := .int v_2) (As := [.long (x2.toInt64), .long (0 : Int64), .long (4 : Int64)]) (rest := []) X (metX3_in l (x2.toInt64) (0 : Int64) (4 : Int64) _ h) (va_cwS 3 X.2.2.2.2 gX3_124 rfl rfl rfl hX3_in ⟨Nat.le_of_ble_eq_true rfl, Nat.le_of_ble_eq_true rfl⟩) rfl hl.1 rfl (Nat.le_of_ble_eq_true rfl) ⟨Nat.zero_le _, Nat.zero_le _⟩ dX3_loop_22 ?_
    refine lv_if_ne (tgt := 30) hx hb dX3_loop_25 rfl (fun cnd => ?_) (fun cnd => ?_)
    · have hf := ec_t cnd hf
      refine lv_iconst (v := 1) hx hb dX3_loop_30 (by decide) ?_
      refine lv_istore_n (lv' := [(3, .int (1 : Int32)), (0, .ref o), (1, .int x1), (2, .int x2)]) hx hb dX3_loop_31 rfl hl (by decide) rfl (fun ls hl => ?_)
      refine lv_aload_n hx hb dX3_loop_32 rfl (lv_at hl 1 rfl) ?_
      refine m_get (v := .ref (q 6)) X hM 6 (by decide) q980 rfl rfl dX3_loop_33 ?_
      refine lv_iload_n hx hb dX3_loop_36 rfl (lv_at hl 2 rfl) ?_
      obtain ⟨v_3, h, hf⟩ := ec_bi hf
      refine m_iald X hM wma6 h dX3_loop_37 ?_
      refine lv_istore (lv' := [(4, .int v_3), (3, .int (1 : Int32)), (0, .ref o), (1, .int x1), (2, .int x2)]) hx hb dX3_loop_38 hl (by decide) rfl (fun ls hl => ?_)
      exact bX3_loop_40 X hr hlk hM (fun x1_7 x2_8 x3_9 ls hf hl => by
        refine lv_aload_n hx hb dX3_loop_69 rfl (lv_at hl 0 rfl) ?_
        refine lv_iload_n hx hb dX3_loop_70 rfl (lv_at hl 1 rfl) ?_
        obtain ⟨v_10, h, hf⟩ := ec_bi hf
        refine m_cR (v := .int v_10) (As := [.int x1_7]) (rest := []) X hM (metX3_linesIn l D o q d dz N S x1_7 _ h) (cwV 1 X.2.2.2.2 gX3_228 rfl rfl rfl hX3_linesIn ⟨Nat.le_of_ble_eq_true rfl, Nat.le_of_ble_eq_true rfl⟩) rfl hl.1 rfl (Nat.le_of_ble_eq_true rfl) ⟨Nat.zero_le _, Nat.zero_le _⟩ dX3_loop_71 ?_
        refine lv_istore (lv' := [(4, .int v_10), (0, .ref o), (1, .int x1_7), (2, .int x2_8), (3, .int x3_9)]) hx hb dX3_loop_74 hl (by decide) rfl (fun ls hl => ?_)
        refine lv_iconst (v := 0) hx hb dX3_loop_76 (by decide) ?_
        refine lv_istore (lv' := [(5, .int (0 : Int32)), (4, .int v_10), (0, .ref o), (1, .int x1_7), (2, .int x2_8), (3, .int x3_9)]) hx hb dX3_loop_77 hl (by decide) rfl (fun ls hl => ?_)
        refine lv_iconst (v := 0) hx hb dX3_loop_79 (by decide) ?_
        refine lv_istore (lv' := [(6, .int (0 : Int32)), (5, .int (0 : Int32)), (4, .int v_10), (0, .ref o), (1, .int x1_7), (2, .int x2_8), (3, .int x3_9)]) hx hb dX3_loop_80 hl (by decide) rfl (fun ls hl => ?_)
        exact bX3_loop_82 X hr hlk hM (fun x1_14 x2_15 x3_16 x4_17 x5_18 ls hf hl => by
          refine lv_iload_n hx hb dX3_loop_124 rfl (lv_at hl 2 rfl) ?_
          refine lv_if_ne (tgt := 137) hx hb dX3_loop_125 rfl (fun cnd => ?_) (fun cnd => ?_)
          · have hf := ec_t cnd hf
            refine lv_iload_n hx hb dX3_loop_137 rfl (lv_at hl 2 rfl) ?_
            refine lv_iconst (v := 1) hx hb dX3_loop_138 (by decide) ?_
            refine lv_icmp_ne (tgt := 155) hx hb dX3_loop_139 rfl (fun cnd => ?_) (fun cnd => ?_)
            · have hf := ec_t cnd hf
              refine lv_iload_n hx hb dX3_loop_155 rfl (lv_at hl 2 rfl) ?_
              refine lv_iconst (v := 2) hx hb dX3_loop_156 (by decide) ?_
              refine lv_icmp_ne (tgt := 165) hx hb dX3_loop_157 rfl (fun cnd => ?_) (fun cnd => ?_)
              · have hf := ec_t cnd hf
                refine lv_iload_n hx hb dX3_loop_165 rfl (lv_at hl 2 rfl) ?_
                refine lv_iconst (v := 3) hx hb dX3_loop_166 (by decide) ?_
                refine lv_icmp_ne (tgt := 174) hx hb dX3_loop_167 rfl (fun cnd => ?_) (fun cnd => ?_)
                · have hf := ec_t cnd hf
                  refine lv_iload hx hb dX3_loop_174 (lv_at hl 5 rfl) ?_
                  obtain rfl := Option.some.inj hf
                  exact e_iretR hx hb hr hlk dX3_loop_176
                · have hf := ec_f (not_not_intro cnd) hf
                  refine lv_iload_n hx hb dX3_loop_170 rfl (lv_at hl 3 rfl) ?_
                  refine lv_goto (tgt := 176) hx hb dX3_loop_171 rfl ?_
                  obtain rfl := Option.some.inj hf
                  exact e_iretR hx hb hr hlk dX3_loop_176
              · have hf := ec_f (not_not_intro cnd) hf
                refine lv_iload hx hb dX3_loop_160 (lv_at hl 4 rfl) ?_
                refine lv_goto (tgt := 176) hx hb dX3_loop_162 rfl ?_
                obtain rfl := Option.some.inj hf
                exact e_iretR hx hb hr hlk dX3_loop_176
            · have hf := ec_f (not_not_intro cnd) hf
              refine lv_aload_n hx hb dX3_loop_142 rfl (lv_at hl 0 rfl) ?_
              refine lv_aload_n hx hb dX3_loop_143 rfl (lv_at hl 0 rfl) ?_
              refine m_get (v := .ref (q 6)) X hM 6 (by decide) q980 rfl rfl dX3_loop_144 ?_
              refine lv_iload_n hx hb dX3_loop_147 rfl (lv_at hl 1 rfl) ?_
              obtain ⟨v_19, h, hf⟩ := ec_bi hf
              refine m_iald X hM wma6 h dX3_loop_148 ?_
              obtain ⟨v_20, h, hf⟩ := ec_bi hf
              refine m_cR (v := .int v_20) (As := [.int v_19]) (rest := []) X hM (metX3_depthOf l D o q d dz N S v_19 _ h) (cwV 1 X.2.2.2.2 gX3_254 rfl rfl rfl hX3_depthOf ⟨Nat.le_of_ble_eq_true rfl, Nat.le_of_ble_eq_true rfl⟩) rfl hl.1 rfl (Nat.le_of_ble_eq_true rfl) ⟨Nat.zero_le _, Nat.zero_le _⟩ dX3_loop_149 ?_
              refine lv_goto (tgt := 176) hx hb dX3_loop_152 rfl ?_
              obtain rfl := Option.some.inj hf
              exact e_iretR hx hb hr hlk dX3_loop_176
          · have hf := ec_f (not_not_intro cnd) hf
            refine lv_aload_n hx hb dX3_loop_128 rfl (lv_at hl 0 rfl) ?_
            refine m_get (v := .ref (q 5)) X hM 5 (by decide) q979 rfl rfl dX3_loop_129 ?_
            refine lv_iload_n hx hb dX3_loop_132 rfl (lv_at hl 1 rfl) ?_
            obtain ⟨v_21, h, hf⟩ := ec_bi hf
            refine m_iald X hM wma5 h dX3_loop_133 ?_
            refine lv_goto (tgt := 176) hx hb dX3_loop_134 rfl ?_
            obtain rfl := Option.some.inj hf
            exact e_iretR hx hb hr hlk dX3_loop_176) N x1_7 x2_8 x3_9 v_10 (0 : Int32) (0 : Int32) _ hf (lv_sub hl [3, 4, 5, 6, 2, 1, 0] rfl)) N x1 x2 (1 : Int32) v_3 _ hf (lv_sub hl [2, 3, 4, 1, 0] rfl)
    · have hf := ec_f (not_not_intro cnd) hf
      exact bX3_loop_28 X hr hlk hM _ hf (lv_sub hl [0] rfl)
theorem hX3_loop : yX3_loop.cls = RX3 ∧ yX3_loop.cls ≠ "java/lang/invoke/MethodHandle" ∧ yX3_loop.cls ≠ "java/lang/invoke/VarHandle" ∧ (parseMethodDescriptor yX3_loop.desc).map (fun d => d.parameters.length) = some 2 := by decide +kernel
end
