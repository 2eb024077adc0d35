set_option maxRecDepth 100000
set_option maxHeartbeats 2000000
set_option linter.unusedVariables false
section
variable {p : Program} {l : Launch} {e : Env} {s : State} {m : MethodId} {args : Array Value} {below : List Frame} {meth : Method} {c : Code}
variable {D : va_G} {dA : Nat → ClassId} {o : Nat} {q : Nat → Nat} {A : Nat → Prop}
noncomputable def fJ9_bitCount (x0 : Int32) : Option Int32 :=
  ec_lt (x0 - (((x0.toUInt32 >>> ((1 : Int32).toUInt32 &&& Int32.toUInt32 31)).toInt32) &&& (1431655765 : Int32))) fun x0_1 =>
  ec_lt ((x0_1 &&& (858993459 : Int32)) + (((x0_1.toUInt32 >>> ((2 : Int32).toUInt32 &&& Int32.toUInt32 31)).toInt32) &&& (858993459 : Int32))) fun x0_2 =>
  ec_lt ((x0_2 + ((x0_2.toUInt32 >>> ((4 : Int32).toUInt32 &&& Int32.toUInt32 31)).toInt32)) &&& (252645135 : Int32)) fun x0_3 =>
  ec_lt (x0_3 + ((x0_3.toUInt32 >>> ((8 : Int32).toUInt32 &&& Int32.toUInt32 31)).toInt32)) fun x0_4 =>
  ec_lt (x0_4 + ((x0_4.toUInt32 >>> ((16 : Int32).toUInt32 &&& Int32.toUInt32 31)).toInt32)) fun x0_5 =>
  some (x0_5 &&& (63 : Int32))
theorem metJ9_bitCount (l : Launch) (x0 : Int32) (res : Int32) (hf : fJ9_bitCount x0 = some res) : Met l yJ9_bitCount (ws_ yJ9_bitCount cJ9_bitCount 1 (some .int)) (rmL 0) (PA [.int x0]) (k2_QcV (.int res)) 0 0 (fun _ => False) := by
  refine e_ofS (by decide) (Nat.le_of_ble_eq_true rfl) (fun p e s m args below meth c X hr hlk ls hl => ?_)
  have hl : lv_has ls 1 [(0, .int x0)] := hl
  have hx := X.1
  have hb := X.2.1
  unfold fJ9_bitCount at hf
  refine lv_iload_n hx hb dJ9_bitCount_0 rfl (lv_at hl 0 rfl) ?_
  refine lv_iload_n hx hb dJ9_bitCount_1 rfl (lv_at hl 0 rfl) ?_
  refine lv_iconst (v := 1) hx hb dJ9_bitCount_2 (by decide) ?_
  refine lv_iushr hx hb dJ9_bitCount_3 rfl ?_
  refine lv_ldcw (own := RJ9) (v := 1431655765) hx hb X.2.2.2.1 (X.2.2.2.2 _ q550) dJ9_bitCount_4 ?_
  refine lv_iand hx hb dJ9_bitCount_7 ?_
  refine lv_isub hx hb dJ9_bitCount_8 ?_
  refine lv_topi (fun x0_1 ex => ?_)
  have hf := ec_lt_i ex hf
  refine lv_istore_n (lv' := [(0, .int x0_1)]) hx hb dJ9_bitCount_9 rfl hl (by decide) rfl (fun ls hl => ?_)
  refine lv_iload_n hx hb dJ9_bitCount_10 rfl (lv_at hl 0 rfl) ?_
  refine lv_ldcw (own := RJ9) (v := 858993459) hx hb X.2.2.2.1 (X.2.2.2.2 _ q551) dJ9_bitCount_11 ?_
  refine lv_iand hx hb dJ9_bitCount_14 ?_
  refine lv_iload_n hx hb dJ9_bitCount_15 rfl (lv_at hl 0 rfl) ?_
  refine lv_iconst (v := 2) hx hb dJ9_bitCount_16 (by decide) ?_
  refine lv_iushr hx hb dJ9_bitCount_17 rfl ?_
  refine lv_ldcw (own := RJ9) (v := 858993459) hx hb X.2.2.2.1 (X.2.2.2.2 _ q551) dJ9_bitCount_18 ?_
  refine lv_iand hx hb dJ9_bitCount_21 ?_
  refine lv_iadd hx hb dJ9_bitCount_22 ?_
  refine lv_topi (fun x0_2 ex => ?_)
  have hf := ec_lt_i ex hf
  refine lv_istore_n (lv' := [(0, .int x0_2)]) hx hb dJ9_bitCount_23 rfl hl (by decide) rfl (fun ls hl => ?_)
  refine lv_iload_n hx hb dJ9_bitCount_24 rfl (lv_at hl 0 rfl) ?_
  refine lv_iload_n hx hb dJ9_bitCount_25 rfl (lv_at hl 0 rfl) ?_
  refine lv_iconst (v := 4) hx hb dJ9_bitCount_26 (by decide) ?_
  refine lv_iushr hx hb dJ9_bitCount_27 rfl ?_
  refine lv_iadd hx hb dJ9_bitCount_28 ?_
  refine lv_ldcw (own := RJ9) (v := 252645135) hx hb X.2.2.2.1 (X.2.2.2.2 _ q552) dJ9_bitCount_29 ?_
  refine lv_iand hx hb dJ9_bitCount_32 ?_
  refine lv_topi (fun x0_3 ex => ?_)
  have hf := ec_lt_i ex hf
  refine lv_istore_n (lv' := [(0, .int x0_3)]) hx hb dJ9_bitCount_33 rfl hl (by decide) rfl (fun ls hl => ?_)
  refine lv_iload_n hx hb dJ9_bitCount_34 rfl (lv_at hl 0 rfl) ?_
  refine lv_iload_n hx hb dJ9_bitCount_35 rfl (lv_at hl 0 rfl) ?_
  refine lv_bipush (v := 8) hx hb dJ9_bitCount_36 (by decide) ?_
  refine lv_iushr hx hb dJ9_bitCount_38 rfl ?_
  refine lv_iadd hx hb dJ9_bitCount_39 ?_
  refine lv_topi (fun x0_4 ex => ?_)
  have hf := ec_lt_i ex hf
  refine lv_istore_n (lv' := [(0, .int x0_4)]) hx hb dJ9_bitCount_40 rfl hl (by decide) rfl (fun ls hl => ?_)
  refine lv_iload_n hx hb dJ9_bitCount_41 rfl (lv_at hl 0 rfl) ?_
  refine lv_iload_n hx hb dJ9_bitCount_42 rfl (lv_at hl 0 rfl) ?_
  refine lv_bipush (v := 16) hx hb dJ9_bitCount_43 (by decide) ?_
  refine lv_iushr hx hb dJ9_bitCount_45 rfl ?_
  refine lv_iadd hx hb dJ9_bitCount_46 ?_
  refine lv_topi (fun x0_5 ex => ?_)
  have hf := ec_lt_i ex hf
  refine lv_istore_n (lv' := [(0, .int x0_5)]) hx hb dJ9_bitCount_47 rfl hl (by decide) rfl (fun ls hl => ?_)
  refine lv_iload_n hx hb dJ9_bitCount_48 rfl (lv_at hl 0 rfl) ?_
  refine lv_bipush (v := 63) hx hb dJ9_bitCount_49 (by decide) ?_
  refine lv_iand hx hb dJ9_bitCount_51 ?_
  obtain rfl := Option.some.inj hf
  exact e_iretR hx hb hr hlk dJ9_bitCount_52
theorem hJ9_bitCount : yJ9_bitCount.cls ≠ "java/lang/invoke/MethodHandle" ∧ yJ9_bitCount.cls ≠ "java/lang/invoke/VarHandle" ∧ (parseMethodDescriptor yJ9_bitCount.desc).map (fun d => d.parameters.length) = some 1 := by decide +kernel

noncomputable def fJ9_numberOfTrailingZeros_74 (x0 : Int32) (x1 : Int32) : Option Int32 :=
  some (x1 + ((x0.toUInt32 >>> ((1 : Int32).toUInt32 &&& Int32.toUInt32 31)).toInt32))
theorem bJ9_numberOfTrailingZeros_74 (X : CallFix p m c cJ9_numberOfTrailingZeros 2 s args lw_all RJ9) (hr : meth.sig.returnType = (some .int)) (hlk : meth.locks = false) {res : Int32} : ∀ (x0 : Int32) (x1 : Int32) (ls : Array Slot), fJ9_numberOfTrailingZeros_74 x0 x1 = some res → lv_has ls 2 [(0, .int x0), (1, .int x1)] → W p l e (rmL 0) s m args below meth c s.heap [] 0 0 (MQ below (k2_QcV (.int res)) args s 0 0 (fun _ => False)) (F0 m 74 ls []) := by
  have hx := X.1
  have hb := X.2.1
  intro x0 x1 ls hf hl
  unfold fJ9_numberOfTrailingZeros_74 at hf
  refine lv_iload_n hx hb dJ9_numberOfTrailingZeros_74 rfl (lv_at hl 1 rfl) ?_
  refine lv_iload_n hx hb dJ9_numberOfTrailingZeros_75 rfl (lv_at hl 0 rfl) ?_
  refine lv_iconst (v := 1) hx hb dJ9_numberOfTrailingZeros_76 (by decide) ?_
  refine lv_iushr hx hb dJ9_numberOfTrailingZeros_77 rfl ?_
  refine lv_iadd hx hb dJ9_numberOfTrailingZeros_78 ?_
  obtain rfl := Option.some.inj hf
  exact e_iretR hx hb hr hlk dJ9_numberOfTrailingZeros_79
noncomputable def fJ9_numberOfTrailingZeros_62 (x0 : Int32) (x1 : Int32) : Option Int32 :=
  if x0 ≤ (4 : Int32) then (
    fJ9_numberOfTrailingZeros_74 x0 x1)
  else (
    ec_lt (x1 + (2 : Int32)) fun x1_2 =>
    ec_lt ((x0.toUInt32 >>> ((2 : Int32).toUInt32 &&& Int32.toUInt32 31)).toInt32) fun x0_3 =>
    fJ9_numberOfTrailingZeros_74 x0_3 x1_2)
theorem bJ9_numberOfTrailingZeros_62 (X : CallFix p m c cJ9_numberOfTrailingZeros 2 s args lw_all RJ9) (hr : meth.sig.returnType = (some .int)) (hlk : meth.locks = false) {res : Int32} : ∀ (x0 : Int32) (x1 : Int32) (ls : Array Slot), fJ9_numberOfTrailingZeros_62 x0 x1 = some res → lv_has ls 2 [(0, .int x0), (1, .int x1)] → W p l e (rmL 0) s m args below meth c s.heap [] 0 0 (MQ below (k2_QcV (.int res)) args s 0 0 (fun _ => False)) (F0 m 62 ls []) := by
  have hx := X.1
  have hb := X.2.1
  intro x0 x1 ls hf hl
  unfold fJ9_numberOfTrailingZeros_62 at hf
  refine lv_iload_n hx hb dJ9_numberOfTrailingZeros_62 rfl (lv_at hl 0 rfl) ?_
  refine lv_iconst (v := 4) hx hb dJ9_numberOfTrailingZeros_63 (by decide) ?_
  refine lv_icmp_le (tgt := 74) hx hb dJ9_numberOfTrailingZeros_64 rfl (fun cnd => ?_) (fun cnd => ?_)
  · have hf := ec_t cnd hf
    exact bJ9_numberOfTrailingZeros_74 X hr hlk  x0 x1 _ hf hl
  · have hf := ec_f cnd hf
    refine e_inc (w := 2) (f := fun v => [(1, .int v), (0, .int x0)]) hx hb dJ9_numberOfTrailingZeros_67 hl (k := 1) rfl (by decide) (by decide) (fun _ => rfl) (fun x1_2 ex ls hl => ?_)
    have hf := ec_lt_i ex hf
    refine lv_iload_n hx hb dJ9_numberOfTrailingZeros_70 rfl (lv_at hl 1 rfl) ?_
    refine lv_iconst (v := 2) hx hb dJ9_numberOfTrailingZeros_71 (by decide) ?_
    refine lv_iushr hx hb dJ9_numberOfTrailingZeros_72 rfl ?_
    refine lv_topi (fun x0_3 ex => ?_)
    have hf := ec_lt_i ex hf
    refine lv_istore_n (lv' := [(0, .int x0_3), (1, .int x1_2)]) hx hb dJ9_numberOfTrailingZeros_73 rfl hl (by decide) rfl (fun ls hl => ?_)
    exact bJ9_numberOfTrailingZeros_74 X hr hlk  x0_3 x1_2 _ hf hl
noncomputable def fJ9_numberOfTrailingZeros_49 (x0 : Int32) (x1 : Int32) : Option Int32 :=
  if x0 ≤ (16 : Int32) then (
    fJ9_numberOfTrailingZeros_62 x0 x1)
  else (
    ec_lt (x1 + (4 : Int32)) fun x1_4 =>
    ec_lt ((x0.toUInt32 >>> ((4 : Int32).toUInt32 &&& Int32.toUInt32 31)).toInt32) fun x0_5 =>
    fJ9_numberOfTrailingZeros_62 x0_5 x1_4)
theorem bJ9_numberOfTrailingZeros_49 (X : CallFix p m c cJ9_numberOfTrailingZeros 2 s args lw_all RJ9) (hr : meth.sig.returnType = (some .int)) (hlk : meth.locks = false) {res : Int32} : ∀ (x0 : Int32) (x1 : Int32) (ls : Array Slot), fJ9_numberOfTrailingZeros_49 x0 x1 = some res → lv_has ls 2 [(0, .int x0), (1, .int x1)] → W p l e (rmL 0) s m args below meth c s.heap [] 0 0 (MQ below (k2_QcV (.int res)) args s 0 0 (fun _ => False)) (F0 m 49 ls []) := by
  have hx := X.1
  have hb := X.2.1
  intro x0 x1 ls hf hl
  unfold fJ9_numberOfTrailingZeros_49 at hf
  refine lv_iload_n hx hb dJ9_numberOfTrailingZeros_49 rfl (lv_at hl 0 rfl) ?_
  refine lv_bipush (v := 16) hx hb dJ9_numberOfTrailingZeros_50 (by decide) ?_
  refine lv_icmp_le (tgt := 62) hx hb dJ9_numberOfTrailingZeros_52 rfl (fun cnd => ?_) (fun cnd => ?_)
  · have hf := ec_t cnd hf
    exact bJ9_numberOfTrailingZeros_62 X hr hlk  x0 x1 _ hf hl
  · have hf := ec_f cnd hf
    refine e_inc (w := 4) (f := fun v => [(1, .int v), (0, .int x0)]) hx hb dJ9_numberOfTrailingZeros_55 hl (k := 1) rfl (by decide) (by decide) (fun _ => rfl) (fun x1_4 ex ls hl => ?_)
    have hf := ec_lt_i ex hf
    refine lv_iload_n hx hb dJ9_numberOfTrailingZeros_58 rfl (lv_at hl 1 rfl) ?_
    refine lv_iconst (v := 4) hx hb dJ9_numberOfTrailingZeros_59 (by decide) ?_
    refine lv_iushr hx hb dJ9_numberOfTrailingZeros_60 rfl ?_
    refine lv_topi (fun x0_5 ex => ?_)
    have hf := ec_lt_i ex hf
    refine lv_istore_n (lv' := [(0, .int x0_5), (1, .int x1_4)]) hx hb dJ9_numberOfTrailingZeros_61 rfl hl (by decide) rfl (fun ls hl => ?_)
    exact bJ9_numberOfTrailingZeros_62 X hr hlk  x0_5 x1_4 _ hf hl
noncomputable def fJ9_numberOfTrailingZeros_34 (x0 : Int32) (x1 : Int32) : Option Int32 :=
  if x0 ≤ (256 : Int32) then (
    fJ9_numberOfTrailingZeros_49 x0 x1)
  else (
    ec_lt (x1 + (8 : Int32)) fun x1_6 =>
    ec_lt ((x0.toUInt32 >>> ((8 : Int32).toUInt32 &&& Int32.toUInt32 31)).toInt32) fun x0_7 =>
    fJ9_numberOfTrailingZeros_49 x0_7 x1_6)
theorem bJ9_numberOfTrailingZeros_34 (X : CallFix p m c cJ9_numberOfTrailingZeros 2 s args lw_all RJ9) (hr : meth.sig.returnType = (some .int)) (hlk : meth.locks = false) {res : Int32} : ∀ (x0 : Int32) (x1 : Int32) (ls : Array Slot), fJ9_numberOfTrailingZeros_34 x0 x1 = some res → lv_has ls 2 [(0, .int x0), (1, .int x1)] → W p l e (rmL 0) s m args below meth c s.heap [] 0 0 (MQ below (k2_QcV (.int res)) args s 0 0 (fun _ => False)) (F0 m 34 ls []) := by
  have hx := X.1
  have hb := X.2.1
  intro x0 x1 ls hf hl
  unfold fJ9_numberOfTrailingZeros_34 at hf
  refine lv_iload_n hx hb dJ9_numberOfTrailingZeros_34 rfl (lv_at hl 0 rfl) ?_
  refine lv_sipush (v := 256) hx hb dJ9_numberOfTrailingZeros_35 (by decide) ?_
  refine lv_icmp_le (tgt := 49) hx hb dJ9_numberOfTrailingZeros_38 rfl (fun cnd => ?_) (fun cnd => ?_)
  · have hf := ec_t cnd hf
    exact bJ9_numberOfTrailingZeros_49 X hr hlk  x0 x1 _ hf hl
  · have hf := ec_f cnd hf
    refine e_inc (w := 8) (f := fun v => [(1, .int v), (0, .int x0)]) hx hb dJ9_numberOfTrailingZeros_41 hl (k := 1) rfl (by decide) (by decide) (fun _ => rfl) (fun x1_6 ex ls hl => ?_)
    have hf := ec_lt_i ex hf
    refine lv_iload_n hx hb dJ9_numberOfTrailingZeros_44 rfl (lv_at hl 1 rfl) ?_
    refine lv_bipush (v := 8) hx hb dJ9_numberOfTrailingZeros_45 (by decide) ?_
    refine lv_iushr hx hb dJ9_numberOfTrailingZeros_47 rfl ?_
    refine lv_topi (fun x0_7 ex => ?_)
    have hf := ec_lt_i ex hf
    refine lv_istore_n (lv' := [(0, .int x0_7), (1, .int x1_6)]) hx hb dJ9_numberOfTrailingZeros_48 rfl hl (by decide) rfl (fun ls hl => ?_)
    exact bJ9_numberOfTrailingZeros_49 X hr hlk  x0_7 x1_6 _ hf hl
noncomputable def fJ9_numberOfTrailingZeros (x0 : Int32) : Option Int32 :=
  ec_lt ((x0 ^^^ (-1 : Int32)) &&& (x0 - (1 : Int32))) fun x0_1 =>
  if 0 < x0_1 then (
    if x0_1 ≤ (65536 : Int32) then (
      fJ9_numberOfTrailingZeros_34 x0_1 (1 : Int32))
    else (
      ec_lt ((1 : Int32) + (16 : Int32)) fun x1_8 =>
      ec_lt ((x0_1.toUInt32 >>> ((16 : Int32).toUInt32 &&& Int32.toUInt32 31)).toInt32) fun x0_9 =>
      fJ9_numberOfTrailingZeros_34 x0_9 x1_8))
  else (
    some (x0_1 &&& (32 : Int32)))
theorem metJ9_numberOfTrailingZeros (l : Launch) (x0 : Int32) (res : Int32) (hf : fJ9_numberOfTrailingZeros x0 = some res) : Met l yJ9_numberOfTrailingZeros (ws_ yJ9_numberOfTrailingZeros cJ9_numberOfTrailingZeros 2 (some .int)) (rmL 0) (PA [.int x0]) (k2_QcV (.int res)) 0 0 (fun _ => False) := by
  refine e_ofS (by decide) (Nat.le_of_ble_eq_true rfl) (fun p e s m args below meth c X hr hlk ls hl => ?_)
  have hl : lv_has ls 2 [(0, .int x0)] := hl
  have hx := X.1
  have hb := X.2.1
  unfold fJ9_numberOfTrailingZeros at hf
  refine lv_iload_n hx hb dJ9_numberOfTrailingZeros_0 rfl (lv_at hl 0 rfl) ?_
  refine lv_iconst (v := -1) hx hb dJ9_numberOfTrailingZeros_1 (by decide) ?_
  refine lv_ixor hx hb dJ9_numberOfTrailingZeros_2 ?_
  refine lv_iload_n hx hb dJ9_numberOfTrailingZeros_3 rfl (lv_at hl 0 rfl) ?_
  refine lv_iconst (v := 1) hx hb dJ9_numberOfTrailingZeros_4 (by decide) ?_
  refine lv_isub hx hb dJ9_numberOfTrailingZeros_5 ?_
  refine lv_iand hx hb dJ9_numberOfTrailingZeros_6 ?_
  refine lv_topi (fun x0_1 ex => ?_)
  have hf := ec_lt_i ex hf
  refine lv_istore_n (lv' := [(0, .int x0_1)]) hx hb dJ9_numberOfTrailingZeros_7 rfl hl (by decide) rfl (fun ls hl => ?_)
  refine lv_iload_n hx hb dJ9_numberOfTrailingZeros_8 rfl (lv_at hl 0 rfl) ?_
  refine lv_if_gt (tgt := 17) hx hb dJ9_numberOfTrailingZeros_9 rfl (fun cnd => ?_) (fun cnd => ?_)
  · have hf := ec_t cnd hf
    refine lv_iconst (v := 1) hx hb dJ9_numberOfTrailingZeros_17 (by decide) ?_
    refine lv_istore_n (lv' := [(1, .int (1 : Int32)), (0, .int x0_1)]) hx hb dJ9_numberOfTrailingZeros_18 rfl hl (by decide) rfl (fun ls hl => ?_)
    refine lv_iload_n hx hb dJ9_numberOfTrailingZeros_19 rfl (lv_at hl 1 rfl) ?_
    refine lv_ldcw (own := RJ9) (v := 65536) hx hb X.2.2.2.1 (X.2.2.2.2 _ q609) dJ9_numberOfTrailingZeros_20 ?_
    refine lv_icmp_le (tgt := 34) hx hb dJ9_numberOfTrailingZeros_23 rfl (fun cnd => ?_) (fun cnd => ?_)
    · have hf := ec_t cnd hf
      exact bJ9_numberOfTrailingZeros_34 X hr hlk  x0_1 (1 : Int32) _ hf (lv_sub hl [1, 0] rfl)
    · have hf := ec_f cnd hf
      refine e_inc (w := 16) (f := fun v => [(1, .int v), (0, .int x0_1)]) hx hb dJ9_numberOfTrailingZeros_26 hl (k := 0) rfl (by decide) (by decide) (fun _ => rfl) (fun x1_8 ex ls hl => ?_)
      have hf := ec_lt_i ex hf
      refine lv_iload_n hx hb dJ9_numberOfTrailingZeros_29 rfl (lv_at hl 1 rfl) ?_
      refine lv_bipush (v := 16) hx hb dJ9_numberOfTrailingZeros_30 (by decide) ?_
      refine lv_iushr hx hb dJ9_numberOfTrailingZeros_32 rfl ?_
      refine lv_topi (fun x0_9 ex => ?_)
      have hf := ec_lt_i ex hf
      refine lv_istore_n (lv' := [(0, .int x0_9), (1, .int x1_8)]) hx hb dJ9_numberOfTrailingZeros_33 rfl hl (by decide) rfl (fun ls hl => ?_)
      exact bJ9_numberOfTrailingZeros_34 X hr hlk  x0_9 x1_8 _ hf hl
  · have hf := ec_f cnd hf
    refine lv_iload_n hx hb dJ9_numberOfTrailingZeros_12 rfl (lv_at hl 0 rfl) ?_
    refine lv_bipush (v := 32) hx hb dJ9_numberOfTrailingZeros_13 (by decide) ?_
    refine lv_iand hx hb dJ9_numberOfTrailingZeros_15 ?_
    obtain rfl := Option.some.inj hf
    exact e_iretR hx hb hr hlk dJ9_numberOfTrailingZeros_16
theorem hJ9_numberOfTrailingZeros : yJ9_numberOfTrailingZeros.cls ≠ "java/lang/invoke/MethodHandle" ∧ yJ9_numberOfTrailingZeros.cls ≠ "java/lang/invoke/VarHandle" ∧ (parseMethodDescriptor yJ9_numberOfTrailingZeros.desc).map (fun d => d.parameters.length) = some 1 := by decide +kernel

noncomputable def fX0_isIn_17 : Option Int32 :=
  some (0 : Int32)
theorem bX0_isIn_17 (X : CallFix p m c cX0_isIn 6 s args lw_all RX0) (hr : meth.sig.returnType = (some .boolean)) (hlk : meth.locks = false) {res : Int32} : ∀ (ls : Array Slot), fX0_isIn_17 = some res → lv_has ls 6 [] → W p l e (rmL 0) s m args below meth c s.heap [] 0 0 (MQ below (k2_QcV (.int res)) args s 0 0 (fun _ => False)) (F0 m 17 ls []) := by
  have hx := X.1
  have hb := X.2.1
  intro ls hf hl
  unfold fX0_isIn_17 at hf
  refine lv_iconst (v := 0) hx hb dX0_isIn_17 (by decide) ?_
  obtain rfl := Option.some.inj hf
  exact e_zretR hx hb hr hlk rfl dX0_isIn_18
noncomputable def fX0_isIn (x0 : Int64) (x2 : Int64) (x4 : Int64) : Option Int32 :=
  if (lg_cmp x0 x2) < 0 then (
    fX0_isIn_17)
  else (
    if 0 < (lg_cmp x0 x4) then (
      fX0_isIn_17)
    else (
      some (1 : Int32)))
theorem metX0_isIn (l : Launch) (x0 : Int64) (x2 : Int64) (x4 : Int64) (res : Int32) (hf : fX0_isIn x0 x2 x4 = some res) : Met l yX0_isIn (ws_ yX0_isIn cX0_isIn 6 (some .boolean)) (rmL 0) (PA [.long x0, .long x2, .long x4]) (k2_QcV (.int res)) 0 0 (fun _ => False) := by
  refine e_ofS (by decide) (Nat.le_of_ble_eq_true rfl) (fun p e s m args below meth c X hr hlk ls hl => ?_)
  have hl : lv_has ls 6 [(0, .long x0), (2, .long x2), (4, .long x4)] := hl
  have hx := X.1
  have hb := X.2.1
  unfold fX0_isIn at hf
  refine lv_lload_n hx hb dX0_isIn_0 rfl (lv_at hl 0 rfl) ?_
  refine lv_lload_n hx hb dX0_isIn_1 rfl (lv_at hl 1 rfl) ?_
  refine W.lcmp hx hb dX0_isIn_2 ?_
  refine lv_if_lt (tgt := 17) hx hb dX0_isIn_3 rfl (fun cnd => ?_) (fun cnd => ?_)
  · have hf := ec_t cnd hf
    exact bX0_isIn_17 X hr hlk  _ hf (lv_sub hl [] rfl)
  · have hf := ec_f cnd hf
    refine lv_lload_n hx hb dX0_isIn_6 rfl (lv_at hl 0 rfl) ?_
    refine lv_lload hx hb dX0_isIn_7 (lv_at hl 2 rfl) ?_
    refine W.lcmp hx hb dX0_isIn_9 ?_
    refine lv_if_gt (tgt := 17) hx hb dX0_isIn_10 rfl (fun cnd => ?_) (fun cnd => ?_)
    · have hf := ec_t cnd hf
      exact bX0_isIn_17 X hr hlk  _ hf (lv_sub hl [] rfl)
    · have hf := ec_f cnd hf
      refine lv_iconst (v := 1) hx hb dX0_isIn_13 (by decide) ?_
      refine lv_goto (tgt := 18) hx hb dX0_isIn_14 rfl ?_
      obtain rfl := Option.some.inj hf
      exact e_zretR hx hb hr hlk rfl dX0_isIn_18
theorem hX0_isIn : yX0_isIn.cls ≠ "java/lang/invoke/MethodHandle" ∧ yX0_isIn.cls ≠ "java/lang/invoke/VarHandle" ∧ (parseMethodDescriptor yX0_isIn.desc).map (fun d => d.parameters.length) = some 3 := by decide +kernel

theorem gX0_21 : GoodIn lw_all (va_wsS RX0 21 yX0_isIn (ws_ yX0_isIn cX0_isIn 6 (some .boolean))) := lw_S q94 q95 q60 q96
noncomputable def fX0_isEvent (x0 : Int32) : Option Int32 :=
  (fX0_isIn (x0.toInt64) (0 : Int64) (7 : Int64)).bind fun v_1 =>
  ec_rz v_1
theorem metX0_isEvent (l : Launch) (x0 : Int32) (res : Int32) (hf : fX0_isEvent x0 = some res) : Met l yX0_isEvent (ws_ yX0_isEvent cX0_isEvent 1 (some .boolean)) (rmL 1) (PA [.int x0]) (k2_QcV (.int res)) 0 0 (fun _ => False) := by
  refine e_ofS (by decide) (Nat.le_of_ble_eq_true rfl) (fun p e s m args below meth c X hr hlk ls hl => ?_)
  have hl : lv_has ls 1 [(0, .int x0)] := hl
  have hx := X.1
  have hb := X.2.1
  unfold fX0_isEvent at hf
  refine lv_iload_n hx hb dX0_isEvent_0 rfl (lv_at hl 0 rfl) ?_
  refine lv_i2l hx hb dX0_isEvent_1 rfl ?_
  refine lv_lconst (v := 0) hx hb dX0_isEvent_2 (by decide) ?_
  refine lv_ldc2 (own := RX0) (v := 7) hx hb X.2.2.2.1 (X.2.2.2.2 _ q486) dX0_isEvent_3 ?_
  obtain ⟨v_1, h, hf⟩ := ec_bi hf
  refine e_cS (v := .int v_1) (As := [.long (x0.toInt64), .long (0 : Int64), .long (7 : Int64)]) (rest := []) X (metX0_isIn l (x0.toInt64) (0 : Int64) (7 : Int64) _ h) (va_cwS 3 X.2.2.2.2 gX0_21 rfl rfl rfl hX0_isIn (rm_le (Nat.le_of_ble_eq_true rfl) (Nat.le_of_ble_eq_true rfl))) rfl hl.1 rfl (Nat.le_of_ble_eq_true rfl) ⟨Nat.zero_le _, Nat.zero_le _⟩ dX0_isEvent_6 ?_
  obtain ⟨hn, h2⟩ := ec_rz_i hf
  subst h2
  exact e_zretR hx hb hr hlk hn dX0_isEvent_9
theorem hX0_isEvent : yX0_isEvent.cls ≠ "java/lang/invoke/MethodHandle" ∧ yX0_isEvent.cls ≠ "java/lang/invoke/VarHandle" ∧ (parseMethodDescriptor yX0_isEvent.desc).map (fun d => d.parameters.length) = some 1 := by decide +kernel

noncomputable def fX0_common_9 (N : Nat) (kx34 : Int64 → Option Int64) : Nat → Int64 → Int64 → Option Int64
  | 0, _, _ => none
  | n + 1, x4, x6 =>
    if (lg_cmp x6 (0 : Int64)) = 0 then (
      kx34 x4)
    else (
      (ec_lrm x4 x6).bind fun v_2 =>
      (fX0_common_9 N kx34 n) x6 v_2)
theorem bX0_common_9 {N : Nat} (X : CallFix p m c cX0_common 10 s args lw_all RX0) (hr : meth.sig.returnType = (some .long)) (hlk : meth.locks = false) {res : Int64} {kx34 : Int64 → Option Int64} (Hkx34 : ∀ (x4 : Int64) (ls : Array Slot), kx34 x4 = some res → lv_has ls 10 [(4, .long x4)] → W p l e (rmL 1) s m args below meth c s.heap [] 0 0 (MQ below (k2_QcV (.long res)) args s 0 0 (fun _ => False)) (F0 m 34 ls [])) : ∀ (n : Nat) (x4 : Int64) (x6 : Int64) (ls : Array Slot), fX0_common_9 N kx34 n x4 x6 = some res → lv_has ls 10 [(4, .long x4), (6, .long x6)] → W p l e (rmL 1) s m args below meth c s.heap [] 0 0 (MQ below (k2_QcV (.long res)) args s 0 0 (fun _ => False)) (F0 m 9 ls []) := by
  have hx := X.1
  have hb := X.2.1
  intro n
  induction n with
  | zero =>
    intro x4 x6 ls hf hl
    rw [fX0_common_9] at hf
    cases hf
  | succ n ih =>
    intro x4 x6 ls hf hl
    rw [fX0_common_9] at hf
    refine lv_lload hx hb dX0_common_9 (lv_at hl 1 rfl) ?_
    refine lv_lconst (v := 0) hx hb dX0_common_11 (by decide) ?_
    refine W.lcmp hx hb dX0_common_12 ?_
    refine lv_if_eq (tgt := 34) hx hb dX0_common_13 rfl (fun cnd => ?_) (fun cnd => ?_)
    · have hf := ec_t cnd hf
      exact Hkx34 x4 _ hf (lv_sub hl [0] rfl)
    · have hf := ec_f cnd hf
      refine lv_lload hx hb dX0_common_16 (lv_at hl 0 rfl) ?_
      refine lv_lload hx hb dX0_common_18 (lv_at hl 1 rfl) ?_
      obtain ⟨v_2, h, hf⟩ := ec_bi hf
      refine e_lrm hx hb h dX0_common_20 ?_
      refine lv_lstore (lv' := [(8, .long v_2), (4, .long x4), (6, .long x6)]) hx hb dX0_common_21 hl (by decide) rfl (fun ls hl => ?_)
      refine lv_lload hx hb dX0_common_23 (lv_at hl 2 rfl) ?_
      refine lv_lstore (lv' := [(4, .long x6), (8, .long v_2), (6, .long x6)]) hx hb dX0_common_25 hl (by decide) rfl (fun ls hl => ?_)
      refine lv_lload hx hb dX0_common_27 (lv_at hl 1 rfl) ?_
      refine lv_lstore (lv' := [(6, .long v_2), (4, .long x6), (8, .long v_2)]) hx hb dX0_common_29 hl (by decide) rfl (fun ls hl => ?_)
      refine lv_goto (tgt := 9) hx hb dX0_common_31 rfl ?_
      exact ih x6 v_2 _ hf (lv_sub hl [1, 0] rfl)
noncomputable def fX0_common (N : Nat) (x0 : Int64) (x2 : Int64) : Option Int64 :=
  ec_lt (if 0 < x0 then x0 else -x0) fun x4_1 =>
  fX0_common_9 N (fun x4_3 =>
    some x4_3) N x4_1 x2
theorem metX0_common (l : Launch) (N : Nat) (x0 : Int64) (x2 : Int64) (res : Int64) (hf : fX0_common N x0 x2 = some res) : Met l yX0_common (ws_ yX0_common cX0_common 10 (some .long)) (rmL 1) (PA [.long x0, .long x2]) (k2_QcV (.long res)) 0 0 (fun _ => False) := by
  refine e_ofS (by decide) (Nat.le_of_ble_eq_true rfl) (fun p e s m args below meth c X hr hlk ls hl => ?_)
  have hl : lv_has ls 10 [(0, .long x0), (2, .long x2)] := hl
  have hx := X.1
  have hb := X.2.1
  unfold fX0_common at hf
  refine lv_lload_n hx hb dX0_common_0 rfl (lv_at hl 0 rfl) ?_
  refine va_mabs_long (own := RX0) hx hb (X.2.2.1.trans hl.1.symm) X.2.2.2.1 (X.2.2.2.2 _ q493) (X.2.2.2.2 _ q494) (X.2.2.2.2 _ q79) (X.2.2.2.2 _ q495) (Nat.le_of_ble_eq_true rfl) (Nat.le_of_ble_eq_true rfl) (Nat.zero_le _) (Nat.zero_le _) dX0_common_1 ?_
  refine lv_topl (fun x4_1 ex => ?_)
  have hf := ec_lt_i ex hf
  refine lv_lstore (lv' := [(4, .long x4_1), (0, .long x0), (2, .long x2)]) hx hb dX0_common_4 hl (by decide) rfl (fun ls hl => ?_)
  refine lv_lload_n hx hb dX0_common_6 rfl (lv_at hl 2 rfl) ?_
  refine lv_lstore (lv' := [(6, .long x2), (4, .long x4_1), (0, .long x0), (2, .long x2)]) hx hb dX0_common_7 hl (by decide) rfl (fun ls hl => ?_)
  exact bX0_common_9 X hr hlk (fun x4_3 ls hf hl => by
    refine lv_lload hx hb dX0_common_34 (lv_at hl 0 rfl) ?_
    obtain rfl := Option.some.inj hf
    exact e_lretR hx hb hr hlk dX0_common_36) N x4_1 x2 _ hf (lv_sub hl [1, 0] rfl)
theorem hX0_common : yX0_common.cls ≠ "java/lang/invoke/MethodHandle" ∧ yX0_common.cls ≠ "java/lang/invoke/VarHandle" ∧ (parseMethodDescriptor yX0_common.desc).map (fun d => d.parameters.length) = some 2 := by decide +kernel

theorem gX0_7 : GoodIn lw_all (va_wsS RX0 7 yX0_common (ws_ yX0_common cX0_common 10 (some .long))) := lw_S q490 q491 q60 q492
noncomputable def fX0_lowest_12 (N : Nat) (x0 : Int64) (x2 : Int64) (t0 : Int64) : Option Int64 :=
  (fX0_common N x0 x2).bind fun v_2 =>
  (ec_ldv t0 v_2).bind fun v_3 =>
  some v_3
theorem bX0_lowest_12 {N : Nat} (X : CallFix p m c cX0_lowest 5 s args lw_all RX0) (hr : meth.sig.returnType = (some .long)) (hlk : meth.locks = false) {res : Int64} : ∀ (x0 : Int64) (x2 : Int64) (t0 : Int64) (ls : Array Slot), fX0_lowest_12 N x0 x2 t0 = some res → lv_has ls 5 [(0, .long x0), (2, .long x2)] → W p l e (rmL 2) s m args below meth c s.heap [] 0 0 (MQ below (k2_QcV (.long res)) args s 0 0 (fun _ => False)) (F0 m 12 ls [.long t0]) := by
  have hx := X.1
  have hb := X.2.1
  intro x0 x2 t0 ls hf hl
  unfold fX0_lowest_12 at hf
  refine lv_lload_n hx hb dX0_lowest_12 rfl (lv_at hl 0 rfl) ?_
  refine lv_lload_n hx hb dX0_lowest_13 rfl (lv_at hl 1 rfl) ?_
  obtain ⟨v_2, h, hf⟩ := ec_bi hf
  refine e_cS (v := .long v_2) (As := [.long x0, .long x2]) (rest := [.long t0]) X (metX0_common l N x0 x2 _ h) (va_cwS 2 X.2.2.2.2 gX0_7 rfl rfl rfl hX0_common (rm_le (Nat.le_of_ble_eq_true rfl) (Nat.le_of_ble_eq_true rfl))) rfl hl.1 rfl (Nat.le_of_ble_eq_true rfl) ⟨Nat.zero_le _, Nat.zero_le _⟩ dX0_lowest_14 ?_
  obtain ⟨v_3, h, hf⟩ := ec_bi hf
  refine e_ldv hx hb h dX0_lowest_17 ?_
  obtain rfl := Option.some.inj hf
  exact e_lretR hx hb hr hlk dX0_lowest_18
noncomputable def fX0_lowest (N : Nat) (x0 : Int64) (x2 : Int64) (x4 : Int32) : Option Int64 :=
  (ec_rm x4 (2 : Int32)).bind fun v_1 =>
  if ¬ v_1 = 0 then (
    fX0_lowest_12 N x0 x2 x2)
  else (
    fX0_lowest_12 N x0 x2 x0)
theorem metX0_lowest (l : Launch) (N : Nat) (x0 : Int64) (x2 : Int64) (x4 : Int32) (res : Int64) (hf : fX0_lowest N x0 x2 x4 = some res) : Met l yX0_lowest (ws_ yX0_lowest cX0_lowest 5 (some .long)) (rmL 2) (PA [.long x0, .long x2, .int x4]) (k2_QcV (.long res)) 0 0 (fun _ => False) := by
  refine e_ofS (by decide) (Nat.le_of_ble_eq_true rfl) (fun p e s m args below meth c X hr hlk ls hl => ?_)
  have hl : lv_has ls 5 [(0, .long x0), (2, .long x2), (4, .int x4)] := hl
  have hx := X.1
  have hb := X.2.1
  unfold fX0_lowest at hf
  refine lv_iload hx hb dX0_lowest_0 (lv_at hl 2 rfl) ?_
  refine lv_iconst (v := 2) hx hb dX0_lowest_2 (by decide) ?_
  obtain ⟨v_1, h, hf⟩ := ec_bi hf
  refine e_rm hx hb h dX0_lowest_3 ?_
  refine lv_if_ne (tgt := 11) hx hb dX0_lowest_4 rfl (fun cnd => ?_) (fun cnd => ?_)
  · have hf := ec_t cnd hf
    refine lv_lload_n hx hb dX0_lowest_11 rfl (lv_at hl 1 rfl) ?_
    exact bX0_lowest_12 X hr hlk  x0 x2 x2 _ hf (lv_sub hl [0, 1] rfl)
  · have hf := ec_f (not_not_intro cnd) hf
    refine lv_lload_n hx hb dX0_lowest_7 rfl (lv_at hl 0 rfl) ?_
    refine lv_goto (tgt := 12) hx hb dX0_lowest_8 rfl ?_
    exact bX0_lowest_12 X hr hlk  x0 x2 x0 _ hf (lv_sub hl [0, 1] rfl)
theorem hX0_lowest : yX0_lowest.cls ≠ "java/lang/invoke/MethodHandle" ∧ yX0_lowest.cls ≠ "java/lang/invoke/VarHandle" ∧ (parseMethodDescriptor yX0_lowest.desc).map (fun d => d.parameters.length) = some 3 := by decide +kernel

noncomputable def fX0_isSet (x0 : Int32) : Option Int32 :=
  (fX0_isIn (x0.toInt64) (0 : Int64) (255 : Int64)).bind fun v_1 =>
  ec_rz v_1
theorem metX0_isSet (l : Launch) (x0 : Int32) (res : Int32) (hf : fX0_isSet x0 = some res) : Met l yX0_isSet (ws_ yX0_isSet cX0_isSet 1 (some .boolean)) (rmL 1) (PA [.int x0]) (k2_QcV (.int res)) 0 0 (fun _ => False) := by
  refine e_ofS (by decide) (Nat.le_of_ble_eq_true rfl) (fun p e s m args below meth c X hr hlk ls hl => ?_)
  have hl : lv_has ls 1 [(0, .int x0)] := hl
  have hx := X.1
  have hb := X.2.1
  unfold fX0_isSet at hf
  refine lv_iload_n hx hb dX0_isSet_0 rfl (lv_at hl 0 rfl) ?_
  refine lv_i2l hx hb dX0_isSet_1 rfl ?_
  refine lv_lconst (v := 0) hx hb dX0_isSet_2 (by decide) ?_
  refine lv_ldc2 (own := RX0) (v := 255) hx hb X.2.2.2.1 (X.2.2.2.2 _ q587) dX0_isSet_3 ?_
  obtain ⟨v_1, h, hf⟩ := ec_bi hf
  refine e_cS (v := .int v_1) (As := [.long (x0.toInt64), .long (0 : Int64), .long (255 : Int64)]) (rest := []) X (metX0_isIn l (x0.toInt64) (0 : Int64) (255 : Int64) _ h) (va_cwS 3 X.2.2.2.2 gX0_21 rfl rfl rfl hX0_isIn (rm_le (Nat.le_of_ble_eq_true rfl) (Nat.le_of_ble_eq_true rfl))) rfl hl.1 rfl (Nat.le_of_ble_eq_true rfl) ⟨Nat.zero_le _, Nat.zero_le _⟩ dX0_isSet_6 ?_
  obtain ⟨hn, h2⟩ := ec_rz_i hf
  subst h2
  exact e_zretR hx hb hr hlk hn dX0_isSet_9
theorem hX0_isSet : yX0_isSet.cls ≠ "java/lang/invoke/MethodHandle" ∧ yX0_isSet.cls ≠ "java/lang/invoke/VarHandle" ∧ (parseMethodDescriptor yX0_isSet.desc).map (fun d => d.parameters.length) = some 1 := by decide +kernel

theorem gX0_198 : GoodIn lw_all (va_wsS RX0 198 yX0_isSet (ws_ yX0_isSet cX0_isSet 1 (some .boolean))) := lw_S q584 q585 q60 q586
theorem gX0_125 : GoodIn lw_all (va_wsS RX0 125 yX0_isEvent (ws_ yX0_isEvent cX0_isEvent 1 (some .boolean))) := lw_S q483 q484 q60 q485
noncomputable def fX0_isSlice_39 : Option Int32 :=
  some (0 : Int32)
theorem bX0_isSlice_39 (X : CallFix p m c cX0_isSlice 3 s args lw_all RX0) (hr : meth.sig.returnType = (some .boolean)) (hlk : meth.locks = false) {res : Int32} : ∀ (ls : Array Slot), fX0_isSlice_39 = some res → lv_has ls 3 [] → W p l e (rmL 2) s m args below meth c s.heap [] 0 0 (MQ below (k2_QcV (.int res)) args s 0 0 (fun _ => False)) (F0 m 39 ls []) := by
  have hx := X.1
  have hb := X.2.1
  intro ls hf hl
  unfold fX0_isSlice_39 at hf
  refine lv_iconst (v := 0) hx hb dX0_isSlice_39 (by decide) ?_
  obtain rfl := Option.some.inj hf
  exact e_zretR hx hb hr hlk rfl dX0_isSlice_40
noncomputable def fX0_isSlice (x0 : Int32) (x1 : Int32) (x2 : Int32) : Option Int32 :=
  (fX0_isSet x0).bind fun v_1 =>
  if v_1 = 0 then (
    fX0_isSlice_39)
  else (
    (fX0_isIn (x1.toInt64) (1 : Int64) (999 : Int64)).bind fun v_2 =>
    if v_2 = 0 then (
      fX0_isSlice_39)
    else (
      (fX0_isEvent x2).bind fun v_3 =>
      if v_3 = 0 then (
        fX0_isSlice_39)
      else (
        if ¬ ((x0 >>> (x2 &&& 31)) &&& (1 : Int32)) = (1 : Int32) then (
          fX0_isSlice_39)
        else (
          some (1 : Int32)))))
theorem metX0_isSlice (l : Launch) (x0 : Int32) (x1 : Int32) (x2 : Int32) (res : Int32) (hf : fX0_isSlice x0 x1 x2 = some res) : Met l yX0_isSlice (ws_ yX0_isSlice cX0_isSlice 3 (some .boolean)) (rmL 2) (PA [.int x0, .int x1, .int x2]) (k2_QcV (.int res)) 0 0 (fun _ => False) := by
  refine e_ofS (by decide) (Nat.le_of_ble_eq_true rfl) (fun p e s m args below meth c X hr hlk ls hl => ?_)
  have hl : lv_has ls 3 [(0, .int x0), (1, .int x1), (2, .int x2)] := hl
  have hx := X.1
  have hb := X.2.1
  unfold fX0_isSlice at hf
  refine lv_iload_n hx hb dX0_isSlice_0 rfl (lv_at hl 0 rfl) ?_
  obtain ⟨v_1, h, hf⟩ := ec_bi hf
  refine e_cS (v := .int v_1) (As := [.int x0]) (rest := []) X (metX0_isSet l x0 _ h) (va_cwS 1 X.2.2.2.2 gX0_198 rfl rfl rfl hX0_isSet (rm_le (Nat.le_of_ble_eq_true rfl) (Nat.le_of_ble_eq_true rfl))) rfl hl.1 rfl (Nat.le_of_ble_eq_true rfl) ⟨Nat.zero_le _, Nat.zero_le _⟩ dX0_isSlice_1 ?_
  refine lv_if_eq (tgt := 39) hx hb dX0_isSlice_4 rfl (fun cnd => ?_) (fun cnd => ?_)
  · have hf := ec_t cnd hf
    exact bX0_isSlice_39 X hr hlk  _ hf (lv_sub hl [] rfl)
  · have hf := ec_f cnd hf
    refine lv_iload_n hx hb dX0_isSlice_7 rfl (lv_at hl 1 rfl) ?_
    refine lv_i2l hx hb dX0_isSlice_8 rfl ?_
    refine lv_lconst (v := 1) hx hb dX0_isSlice_9 (by decide) ?_
    refine lv_ldc2 (own := RX0) (v := 999) hx hb X.2.2.2.1 (X.2.2.2.2 _ q636) dX0_isSlice_10 ?_
    obtain ⟨v_2, h, hf⟩ := ec_bi hf
    refine e_cS (v := .int v_2) (As := [.long (x1.toInt64), .long (1 : Int64), .long (999 : Int64)]) (rest := []) X (metX0_isIn l (x1.toInt64) (1 : Int64) (999 : Int64) _ h) (va_cwS 3 X.2.2.2.2 gX0_21 rfl rfl rfl hX0_isIn (rm_le (Nat.le_of_ble_eq_true rfl) (Nat.le_of_ble_eq_true rfl))) rfl hl.1 rfl (Nat.le_of_ble_eq_true rfl) ⟨Nat.zero_le _, Nat.zero_le _⟩ dX0_isSlice_13 ?_
    refine lv_if_eq (tgt := 39) hx hb dX0_isSlice_16 rfl (fun cnd => ?_) (fun cnd => ?_)
    · have hf := ec_t cnd hf
      exact bX0_isSlice_39 X hr hlk  _ hf (lv_sub hl [] rfl)
    · have hf := ec_f cnd hf
      refine lv_iload_n hx hb dX0_isSlice_19 rfl (lv_at hl 2 rfl) ?_
      obtain ⟨v_3, h, hf⟩ := ec_bi hf
      refine e_cS (v := .int v_3) (As := [.int x2]) (rest := []) X (metX0_isEvent l x2 _ h) (va_cwS 1 X.2.2.2.2 gX0_125 rfl rfl rfl hX0_isEvent (rm_le (Nat.le_of_ble_eq_true rfl) (Nat.le_of_ble_eq_true rfl))) rfl hl.1 rfl (Nat.le_of_ble_eq_true rfl) ⟨Nat.zero_le _, Nat.zero_le _⟩ dX0_isSlice_20 ?_
      refine lv_if_eq (tgt := 39) hx hb dX0_isSlice_23 rfl (fun cnd => ?_) (fun cnd => ?_)
      · have hf := ec_t cnd hf
        exact bX0_isSlice_39 X hr hlk  _ hf (lv_sub hl [] rfl)
      · have hf := ec_f cnd hf
        refine lv_iload_n hx hb dX0_isSlice_26 rfl (lv_at hl 0 rfl) ?_
        refine lv_iload_n hx hb dX0_isSlice_27 rfl (lv_at hl 2 rfl) ?_
        refine lv_ishr hx hb dX0_isSlice_28 ?_
        refine lv_iconst (v := 1) hx hb dX0_isSlice_29 (by decide) ?_
        refine lv_iand hx hb dX0_isSlice_30 ?_
        refine lv_iconst (v := 1) hx hb dX0_isSlice_31 (by decide) ?_
        refine lv_icmp_ne (tgt := 39) hx hb dX0_isSlice_32 rfl (fun cnd => ?_) (fun cnd => ?_)
        · have hf := ec_t cnd hf
          exact bX0_isSlice_39 X hr hlk  _ hf (lv_sub hl [] rfl)
        · have hf := ec_f (not_not_intro cnd) hf
          refine lv_iconst (v := 1) hx hb dX0_isSlice_35 (by decide) ?_
          refine lv_goto (tgt := 40) hx hb dX0_isSlice_36 rfl ?_
          obtain rfl := Option.some.inj hf
          exact e_zretR hx hb hr hlk rfl dX0_isSlice_40
theorem hX0_isSlice : yX0_isSlice.cls ≠ "java/lang/invoke/MethodHandle" ∧ yX0_isSlice.cls ≠ "java/lang/invoke/VarHandle" ∧ (parseMethodDescriptor yX0_isSlice.desc).map (fun d => d.parameters.length) = some 3 := by decide +kernel

noncomputable def fX0_isSample_48 : Option Int32 :=
  some (0 : Int32)
theorem bX0_isSample_48 (X : CallFix p m c cX0_isSample 4 s args lw_all RX0) (hr : meth.sig.returnType = (some .boolean)) (hlk : meth.locks = false) {res : Int32} : ∀ (ls : Array Slot), fX0_isSample_48 = some res → lv_has ls 4 [] → W p l e (rmL 2) s m args below meth c s.heap [] 0 0 (MQ below (k2_QcV (.int res)) args s 0 0 (fun _ => False)) (F0 m 48 ls []) := by
  have hx := X.1
  have hb := X.2.1
  intro ls hf hl
  unfold fX0_isSample_48 at hf
  refine lv_iconst (v := 0) hx hb dX0_isSample_48 (by decide) ?_
  obtain rfl := Option.some.inj hf
  exact e_zretR hx hb hr hlk rfl dX0_isSample_49
noncomputable def fX0_isSample (x0 : Int32) (x1 : Int32) (x2 : Int32) (x3 : Int32) : Option Int32 :=
  (fX0_isEvent x0).bind fun v_1 =>
  if v_1 = 0 then (
    fX0_isSample_48)
  else (
    (fX0_isIn (x1.toInt64) (1 : Int64) (9999 : Int64)).bind fun v_2 =>
    if v_2 = 0 then (
      fX0_isSample_48)
    else (
      (fX0_isIn (x2.toInt64) (0 : Int64) ((x1 - (1 : Int32)).toInt64)).bind fun v_3 =>
      if v_3 = 0 then (
        fX0_isSample_48)
      else (
        (fX0_isIn (x3.toInt64) (0 : Int64) (9 : Int64)).bind fun v_4 =>
        if v_4 = 0 then (
          fX0_isSample_48)
        else (
          some (1 : Int32)))))
theorem metX0_isSample (l : Launch) (x0 : Int32) (x1 : Int32) (x2 : Int32) (x3 : Int32) (res : Int32) (hf : fX0_isSample x0 x1 x2 x3 = some res) : Met l yX0_isSample (ws_ yX0_isSample cX0_isSample 4 (some .boolean)) (rmL 2) (PA [.int x0, .int x1, .int x2, .int x3]) (k2_QcV (.int res)) 0 0 (fun _ => False) := by
  refine e_ofS (by decide) (Nat.le_of_ble_eq_true rfl) (fun p e s m args below meth c X hr hlk ls hl => ?_)
  have hl : lv_has ls 4 [(0, .int x0), (1, .int x1), (2, .int x2), (3, .int x3)] := hl
  have hx := X.1
  have hb := X.2.1
  unfold fX0_isSample at hf
  refine lv_iload_n hx hb dX0_isSample_0 rfl (lv_at hl 0 rfl) ?_
  obtain ⟨v_1, h, hf⟩ := ec_bi hf
  refine e_cS (v := .int v_1) (As := [.int x0]) (rest := []) X (metX0_isEvent l x0 _ h) (va_cwS 1 X.2.2.2.2 gX0_125 rfl rfl rfl hX0_isEvent (rm_le (Nat.le_of_ble_eq_true rfl) (Nat.le_of_ble_eq_true rfl))) rfl hl.1 rfl (Nat.le_of_ble_eq_true rfl) ⟨Nat.zero_le _, Nat.zero_le _⟩ dX0_isSample_1 ?_
  refine lv_if_eq (tgt := 48) hx hb dX0_isSample_4 rfl (fun cnd => ?_) (fun cnd => ?_)
  · have hf := ec_t cnd hf
    exact bX0_isSample_48 X hr hlk  _ hf (lv_sub hl [] rfl)
  · have hf := ec_f cnd hf
    refine lv_iload_n hx hb dX0_isSample_7 rfl (lv_at hl 1 rfl) ?_
    refine lv_i2l hx hb dX0_isSample_8 rfl ?_
    refine lv_lconst (v := 1) hx hb dX0_isSample_9 (by decide) ?_
    refine lv_ldc2 (own := RX0) (v := 9999) hx hb X.2.2.2.1 (X.2.2.2.2 _ q541) dX0_isSample_10 ?_
    obtain ⟨v_2, h, hf⟩ := ec_bi hf
    refine e_cS (v := .int v_2) (As := [.long (x1.toInt64), .long (1 : Int64), .long (9999 : Int64)]) (rest := []) X (metX0_isIn l (x1.toInt64) (1 : Int64) (9999 : Int64) _ h) (va_cwS 3 X.2.2.2.2 gX0_21 rfl rfl rfl hX0_isIn (rm_le (Nat.le_of_ble_eq_true rfl) (Nat.le_of_ble_eq_true rfl))) rfl hl.1 rfl (Nat.le_of_ble_eq_true rfl) ⟨Nat.zero_le _, Nat.zero_le _⟩ dX0_isSample_13 ?_
    refine lv_if_eq (tgt := 48) hx hb dX0_isSample_16 rfl (fun cnd => ?_) (fun cnd => ?_)
    · have hf := ec_t cnd hf
      exact bX0_isSample_48 X hr hlk  _ hf (lv_sub hl [] rfl)
    · have hf := ec_f cnd hf
      refine lv_iload_n hx hb dX0_isSample_19 rfl (lv_at hl 2 rfl) ?_
      refine lv_i2l hx hb dX0_isSample_20 rfl ?_
      refine lv_lconst (v := 0) hx hb dX0_isSample_21 (by decide) ?_
      refine lv_iload_n hx hb dX0_isSample_22 rfl (lv_at hl 1 rfl) ?_
      refine lv_iconst (v := 1) hx hb dX0_isSample_23 (by decide) ?_
      refine lv_isub hx hb dX0_isSample_24 ?_
      refine lv_i2l hx hb dX0_isSample_25 rfl ?_
      obtain ⟨v_3, h, hf⟩ := ec_bi hf
      refine e_cS (v := .int v_3) (As := [.long (x2.toInt64), .long (0 : Int64), .long ((x1 - (1 : Int32)).toInt64)]) (rest := []) X (metX0_isIn l (x2.toInt64) (0 : Int64) ((x1 - (1 : Int32)).toInt64) _ h) (va_cwS 3 X.2.2.2.2 gX0_21 rfl rfl rfl hX0_isIn (rm_le (Nat.le_of_ble_eq_true rfl) (Nat.le_of_ble_eq_true rfl))) rfl hl.1 rfl (Nat.le_of_ble_eq_true rfl) ⟨Nat.zero_le _, Nat.zero_le _⟩ dX0_isSample_26 ?_
      refine lv_if_eq (tgt := 48) hx hb dX0_isSample_29 rfl (fun cnd => ?_) (fun cnd => ?_)
      · have hf := ec_t cnd hf
        exact bX0_isSample_48 X hr hlk  _ hf (lv_sub hl [] rfl)
      · have hf := ec_f cnd hf
        refine lv_iload_n hx hb dX0_isSample_32 rfl (lv_at hl 3 rfl) ?_
        refine lv_i2l hx hb dX0_isSample_33 rfl ?_
        refine lv_lconst (v := 0) hx hb dX0_isSample_34 (by decide) ?_
        refine lv_ldc2 (own := RX0) (v := 9) hx hb X.2.2.2.1 (X.2.2.2.2 _ q663) dX0_isSample_35 ?_
        obtain ⟨v_4, h, hf⟩ := ec_bi hf
        refine e_cS (v := .int v_4) (As := [.long (x3.toInt64), .long (0 : Int64), .long (9 : Int64)]) (rest := []) X (metX0_isIn l (x3.toInt64) (0 : Int64) (9 : Int64) _ h) (va_cwS 3 X.2.2.2.2 gX0_21 rfl rfl rfl hX0_isIn (rm_le (Nat.le_of_ble_eq_true rfl) (Nat.le_of_ble_eq_true rfl))) rfl hl.1 rfl (Nat.le_of_ble_eq_true rfl) ⟨Nat.zero_le _, Nat.zero_le _⟩ dX0_isSample_38 ?_
        refine lv_if_eq (tgt := 48) hx hb dX0_isSample_41 rfl (fun cnd => ?_) (fun cnd => ?_)
        · have hf := ec_t cnd hf
          exact bX0_isSample_48 X hr hlk  _ hf (lv_sub hl [] rfl)
        · have hf := ec_f cnd hf
          refine lv_iconst (v := 1) hx hb dX0_isSample_44 (by decide) ?_
          refine lv_goto (tgt := 49) hx hb dX0_isSample_45 rfl ?_
          obtain rfl := Option.some.inj hf
          exact e_zretR hx hb hr hlk rfl dX0_isSample_49
theorem hX0_isSample : yX0_isSample.cls ≠ "java/lang/invoke/MethodHandle" ∧ yX0_isSample.cls ≠ "java/lang/invoke/VarHandle" ∧ (parseMethodDescriptor yX0_isSample.desc).map (fun d => d.parameters.length) = some 4 := by decide +kernel

noncomputable def fX1_canCount (S : hH) (x0 : Nat) (x1 : Int32) : Option Int32 :=
  (hI 1 S x0 0).bind fun v_1 =>
  if ¬ ((v_1 >>> (x1 &&& 31)) &&& (1 : Int32)) = (1 : Int32) then (
    some (0 : Int32))
  else (
    some (1 : Int32))
theorem metX1_canCount (l : Launch) (D : va_G) (dA : Nat → ClassId) (S : hH) (x0 : Nat) (x1 : Int32) (res : Int32) (hf : fX1_canCount S x0 x1 = some res) : Met l yX1_canCount (ws_ yX1_canCount cX1_canCount 2 (some .boolean)) (rmL 0) (HPre D dA S [.ref x0, .int x1]) (k2_QcV (.int res)) 0 0 (fun _ => False) := by
  refine h_ofR rfl (by decide) (Nat.le_of_ble_eq_true rfl) (fun p e s m args below meth c X hr hlk hM ls hl => ?_)
  have hl : lv_has ls 2 [(0, .ref x0), (1, .int x1)] := hl
  have hx := X.1
  have hb := X.2.1
  unfold fX1_canCount at hf
  refine lv_aload_n hx hb dX1_canCount_0 rfl (lv_at hl 0 rfl) ?_
  obtain ⟨v_1, h, hf⟩ := ec_bi hf
  refine h_getv (v := .int v_1) (C := RX1) (T := TX1) (N := 2) (ci := 1) (k := 0) X hM in_X1 rfl (by decide) q744 rfl (hI_i h) dX1_canCount_1 ?_
  refine lv_iload_n hx hb dX1_canCount_4 rfl (lv_at hl 1 rfl) ?_
  refine lv_ishr hx hb dX1_canCount_5 ?_
  refine lv_iconst (v := 1) hx hb dX1_canCount_6 (by decide) ?_
  refine lv_iand hx hb dX1_canCount_7 ?_
  refine lv_iconst (v := 1) hx hb dX1_canCount_8 (by decide) ?_
  refine lv_icmp_ne (tgt := 16) hx hb dX1_canCount_9 rfl (fun cnd => ?_) (fun cnd => ?_)
  · have hf := ec_t cnd hf
    refine lv_iconst (v := 0) hx hb dX1_canCount_16 (by decide) ?_
    obtain rfl := Option.some.inj hf
    exact e_zretR hx hb hr hlk rfl dX1_canCount_17
  · have hf := ec_f (not_not_intro cnd) hf
    refine lv_iconst (v := 1) hx hb dX1_canCount_12 (by decide) ?_
    refine lv_goto (tgt := 17) hx hb dX1_canCount_13 rfl ?_
    obtain rfl := Option.some.inj hf
    exact e_zretR hx hb hr hlk rfl dX1_canCount_17
theorem hX1_canCount : yX1_canCount.cls = RX1 ∧ yX1_canCount.cls ≠ "java/lang/invoke/MethodHandle" ∧ yX1_canCount.cls ≠ "java/lang/invoke/VarHandle" ∧ (parseMethodDescriptor yX1_canCount.desc).map (fun d => d.parameters.length) = some 1 := by decide +kernel

noncomputable def fX0_feed_19 (N : Nat) (kx53 : sX → Option (Int32 × sX)) : Nat → sX → Int64 → Int32 → Option (Int32 × sX)
  | 0, _, _, _ => none
  | n + 1, S, x1, x3 =>
    if x3 < 0 then (
      kx53 S)
    else (
      (ex_as S 0 320 (S.1 1) (vp_nar .byte (((x1 >>> (x3.toInt64 &&& 63)).toInt32).toInt8.toInt32))).bind fun S_1 =>
      ec_lt (xI S_1 1 ((S_1.1 1) + (1 : Int32))) fun S_2 =>
      ec_lt (x3 + (-8 : Int32)) fun x3_3 =>
      (fX0_feed_19 N kx53 n) S_2 x1 x3_3)
theorem bX0_feed_19 {N : Nat} (X : CallFix p m c cX0_feed 4 s args lw_all RX0) (hr : meth.sig.returnType = (some .int)) (hlk : meth.locks = false) {res : Int32} {Sr : sX} {kx53 : sX → Option (Int32 × sX)} (Hkx53 : ∀ (S : sX) (H : Heap) (locs : List Loc) (ls : Array Slot), kx53 S = some (res, Sr) → XW D dA o q S A s H locs → lv_has ls 4 [(0, .ref o)] → W p l e (rmL 0) s m args below meth c H locs 0 0 (MQ below (XPost D dA o q A (some (.int res)) Sr) args s 0 0 A) (F0 m 53 ls [])) : ∀ (n : Nat) (S : sX) (x1 : Int64) (x3 : Int32) (H : Heap) (locs : List Loc) (ls : Array Slot), fX0_feed_19 N kx53 n S x1 x3 = some (res, Sr) → XW D dA o q S A s H locs → lv_has ls 4 [(0, .ref o), (1, .long x1), (3, .int x3)] → W p l e (rmL 0) s m args below meth c H locs 0 0 (MQ below (XPost D dA o q A (some (.int res)) Sr) args s 0 0 A) (F0 m 19 ls []) := by
  have hx := X.1
  have hb := X.2.1
  intro n
  induction n with
  | zero =>
    intro S x1 x3 H locs ls hf hM hl
    rw [fX0_feed_19] at hf
    cases hf
  | succ n ih =>
    intro S x1 x3 H locs ls hf hM hl
    rw [fX0_feed_19] at hf
    refine lv_iload_n hx hb dX0_feed_19 rfl (lv_at hl 2 rfl) ?_
    refine lv_if_lt (tgt := 53) hx hb dX0_feed_20 rfl (fun cnd => ?_) (fun cnd => ?_)
    · have hf := ec_t cnd hf
      exact Hkx53 S _ _ _ hf hM (lv_sub hl [0] rfl)
    · have hf := ec_f cnd hf
      refine lv_aload_n hx hb dX0_feed_23 rfl (lv_at hl 0 rfl) ?_
      refine x_get (v := .ref (q 0)) X hM 0 (by decide) q768 rfl rfl dX0_feed_24 ?_
      refine lv_aload_n hx hb dX0_feed_27 rfl (lv_at hl 0 rfl) ?_
      refine x_get (v := .int (S.1 1)) X hM 1 (by decide) q769 rfl rfl dX0_feed_28 ?_
      refine lv_lload_n hx hb dX0_feed_31 rfl (lv_at hl 1 rfl) ?_
      refine lv_iload_n hx hb dX0_feed_32 rfl (lv_at hl 2 rfl) ?_
      refine lv_lshr hx hb dX0_feed_33 rfl ?_
      refine lv_l2i hx hb dX0_feed_34 rfl ?_
      refine lv_i2b hx hb dX0_feed_35 rfl ?_
      obtain ⟨S_1, h, hf⟩ := ec_bi hf
      refine x_bast X hM wxa0 wxs0 h dX0_feed_36 (fun H locs hM => ?_)
      refine lv_aload_n hx hb dX0_feed_37 rfl (lv_at hl 0 rfl) ?_
      refine lv_dup hx hb dX0_feed_38 rfl ?_
      refine x_get (v := .int (S_1.1 1)) X hM 1 (by decide) q769 rfl rfl dX0_feed_39 ?_
      refine lv_iconst (v := 1) hx hb dX0_feed_42 (by decide) ?_
      refine lv_iadd hx hb dX0_feed_43 ?_
      refine x_puti X hM 1 (by decide) q769 rfl rfl xfd1 (wxi1 _) dX0_feed_44 (fun S_2 H locs eS hM => ?_)
      have hf := ec_lt_i eS hf
      refine e_inc (w := -8) (f := fun v => [(3, .int v), (0, .ref o), (1, .long x1)]) hx hb dX0_feed_47 hl (k := 2) rfl (by decide) (by decide) (fun _ => rfl) (fun x3_3 ex ls hl => ?_)
      have hf := ec_lt_i ex hf
      refine lv_goto (tgt := 19) hx hb dX0_feed_50 rfl ?_
      exact ih S_2 x1 x3_3 _ _ _ hf hM (lv_sub hl [1, 2, 0] rfl)
noncomputable def fX0_feed (N : Nat) (S : sX) (x1 : Int64) : Option (Int32 × sX) :=
  if ((S.1 1) + (8 : Int32)) ≤ (320 : Int32) then (
    fX0_feed_19 N (fun S_4 =>
      some ((S_4.1 1), S_4)) N S x1 (56 : Int32))
  else (
    some ((-3 : Int32), S))
theorem metX0_feed (l : Launch) (D : va_G) (dA : Nat → ClassId) (o : Nat) (q : Nat → Nat) (N : Nat) (S : sX) (x1 : Int64) (res : Int32) (Sr : sX) (hf : fX0_feed N S x1 = some (res, Sr)) : Met l yX0_feed (ws_ yX0_feed cX0_feed 4 (some .int)) (rmL 0) (XPre D dA o q S [.long x1]) (XPost D dA o q (XA o q S.2.2.2) (some (.int res)) Sr) 0 0 (XA o q S.2.2.2) := by
  refine x_ofW rfl (Nat.le_of_ble_eq_true rfl) (fun A p e s m args below meth c X hr hlk hM ls hl => ?_)
  have hl : lv_has ls 4 [(0, .ref o), (1, .long x1)] := hl
  have hx := X.1
  have hb := X.2.1
  unfold fX0_feed at hf
  refine lv_aload_n hx hb dX0_feed_0 rfl (lv_at hl 0 rfl) ?_
  refine x_get (v := .int (S.1 1)) X hM 1 (by decide) q769 rfl rfl dX0_feed_1 ?_
  refine lv_bipush (v := 8) hx hb dX0_feed_4 (by decide) ?_
  refine lv_iadd hx hb dX0_feed_6 ?_
  refine lv_sipush (v := 320) hx hb dX0_feed_7 (by decide) ?_
  refine lv_icmp_le (tgt := 16) hx hb dX0_feed_10 rfl (fun cnd => ?_) (fun cnd => ?_)
  · have hf := ec_t cnd hf
    refine lv_bipush (v := 56) hx hb dX0_feed_16 (by decide) ?_
    refine lv_istore_n (lv' := [(3, .int (56 : Int32)), (0, .ref o), (1, .long x1)]) hx hb dX0_feed_18 rfl hl (by decide) rfl (fun ls hl => ?_)
    exact bX0_feed_19 X hr hlk (fun S_4 H locs ls hf hM hl => by
      refine lv_aload_n hx hb dX0_feed_53 rfl (lv_at hl 0 rfl) ?_
      refine x_get (v := .int (S_4.1 1)) X hM 1 (by decide) q769 rfl rfl dX0_feed_54 ?_
      obtain ⟨rfl, rfl⟩ := Prod.mk.inj (Option.some.inj hf)
      exact x_iret X hr hlk hM dX0_feed_57) N S x1 (56 : Int32) _ _ _ hf hM (lv_sub hl [1, 2, 0] rfl)
  · have hf := ec_f cnd hf
    refine lv_bipush (v := -3) hx hb dX0_feed_13 (by decide) ?_
    obtain ⟨rfl, rfl⟩ := Prod.mk.inj (Option.some.inj hf)
    exact x_iret X hr hlk hM dX0_feed_15
theorem hX0_feed : yX0_feed.cls = RX0 ∧ yX0_feed.cls ≠ "java/lang/invoke/MethodHandle" ∧ yX0_feed.cls ≠ "java/lang/invoke/VarHandle" ∧ (parseMethodDescriptor yX0_feed.desc).map (fun d => d.parameters.length) = some 1 := by decide +kernel

noncomputable def fX0_end (S : sX) (x1 : Int32) : Option (Int32 × sX) :=
  (fX0_isIn (x1.toInt64) (0 : Int64) ((S.1 1).toInt64)).bind fun v_1 =>
  if ¬ v_1 = 0 then (
    ec_lt (S.1 1) fun x2_2 =>
    ec_lt (xI S 1 x1) fun S_3 =>
    some (x2_2, S_3))
  else (
    some ((-1 : Int32), S))
theorem metX0_end (l : Launch) (D : va_G) (dA : Nat → ClassId) (o : Nat) (q : Nat → Nat) (S : sX) (x1 : Int32) (res : Int32) (Sr : sX) (hf : fX0_end S x1 = some (res, Sr)) : Met l yX0_end (ws_ yX0_end cX0_end 3 (some .int)) (rmL 1) (XPre D dA o q S [.int x1]) (XPost D dA o q (XA o q S.2.2.2) (some (.int res)) Sr) 0 0 (XA o q S.2.2.2) := by
  refine x_ofW rfl (Nat.le_of_ble_eq_true rfl) (fun A p e s m args below meth c X hr hlk hM ls hl => ?_)
  have hl : lv_has ls 3 [(0, .ref o), (1, .int x1)] := hl
  have hx := X.1
  have hb := X.2.1
  unfold fX0_end at hf
  refine lv_iload_n hx hb dX0_end_0 rfl (lv_at hl 1 rfl) ?_
  refine lv_i2l hx hb dX0_end_1 rfl ?_
  refine lv_lconst (v := 0) hx hb dX0_end_2 (by decide) ?_
  refine lv_aload_n hx hb dX0_end_3 rfl (lv_at hl 0 rfl) ?_
  refine x_get (v := .int (S.1 1)) X hM 1 (by decide) q769 rfl rfl dX0_end_4 ?_
  refine lv_i2l hx hb dX0_end_7 rfl ?_
  obtain ⟨v_1, h, hf⟩ := ec_bi hf
  refine e_cS (v := .int v_1) (As := [.long (x1.toInt64), .long (0 : Int64), .long ((S.1 1).toInt64)]) (rest := []) X (metX0_isIn l (x1.toInt64) (0 : Int64) ((S.1 1).toInt64) _ h) (va_cwS 3 X.2.2.2.2 gX0_21 rfl rfl rfl hX0_isIn (rm_le (Nat.le_of_ble_eq_true rfl) (Nat.le_of_ble_eq_true rfl))) rfl hl.1 rfl (Nat.le_of_ble_eq_true rfl) ⟨Nat.zero_le _, Nat.zero_le _⟩ dX0_end_8 ?_
  refine lv_if_ne (tgt := 16) hx hb dX0_end_11 rfl (fun cnd => ?_) (fun cnd => ?_)
  · have hf := ec_t cnd hf
    refine lv_aload_n hx hb dX0_end_16 rfl (lv_at hl 0 rfl) ?_
    refine x_get (v := .int (S.1 1)) X hM 1 (by decide) q769 rfl rfl dX0_end_17 ?_
    refine lv_topi (fun x2_2 ex => ?_)
    have hf := ec_lt_i ex hf
    refine lv_istore_n (lv' := [(2, .int x2_2), (0, .ref o), (1, .int x1)]) hx hb dX0_end_20 rfl hl (by decide) rfl (fun ls hl => ?_)
    refine lv_aload_n hx hb dX0_end_21 rfl (lv_at hl 1 rfl) ?_
    refine lv_iload_n hx hb dX0_end_22 rfl (lv_at hl 2 rfl) ?_
    refine x_puti X hM 1 (by decide) q769 rfl rfl xfd1 (wxi1 _) dX0_end_23 (fun S_3 H locs eS hM => ?_)
    have hf := ec_lt_i eS hf
    refine lv_iload_n hx hb dX0_end_26 rfl (lv_at hl 0 rfl) ?_
    obtain ⟨rfl, rfl⟩ := Prod.mk.inj (Option.some.inj hf)
    exact x_iret X hr hlk hM dX0_end_27
  · have hf := ec_f (not_not_intro cnd) hf
    refine lv_iconst (v := -1) hx hb dX0_end_14 (by decide) ?_
    obtain ⟨rfl, rfl⟩ := Prod.mk.inj (Option.some.inj hf)
    exact x_iret X hr hlk hM dX0_end_15
theorem hX0_end : yX0_end.cls = RX0 ∧ yX0_end.cls ≠ "java/lang/invoke/MethodHandle" ∧ yX0_end.cls ≠ "java/lang/invoke/VarHandle" ∧ (parseMethodDescriptor yX0_end.desc).map (fun d => d.parameters.length) = some 1 := by decide +kernel

noncomputable def fX0_fault (S : sX) : Option Int32 :=
  some (S.1 2)
theorem metX0_fault (l : Launch) (D : va_G) (dA : Nat → ClassId) (o : Nat) (q : Nat → Nat) (S : sX) (res : Int32) (hf : fX0_fault S = some res) : Met l yX0_fault (ws_ yX0_fault cX0_fault 1 (some .int)) (rmL 0) (XPre D dA o q S []) (k2_QcV (.int res)) 0 0 (fun _ => False) := by
  refine x_ofR rfl (Nat.le_of_ble_eq_true rfl) (fun p e s m args below meth c X hr hlk hM ls hl => ?_)
  have hl : lv_has ls 1 [(0, .ref o)] := hl
  have hx := X.1
  have hb := X.2.1
  unfold fX0_fault at hf
  refine lv_aload_n hx hb dX0_fault_0 rfl (lv_at hl 0 rfl) ?_
  refine x_get (v := .int (S.1 2)) X hM 2 (by decide) q770 rfl rfl dX0_fault_1 ?_
  obtain rfl := Option.some.inj hf
  exact e_iretR hx hb hr hlk dX0_fault_4
theorem hX0_fault : yX0_fault.cls = RX0 ∧ yX0_fault.cls ≠ "java/lang/invoke/MethodHandle" ∧ yX0_fault.cls ≠ "java/lang/invoke/VarHandle" ∧ (parseMethodDescriptor yX0_fault.desc).map (fun d => d.parameters.length) = some 0 := by decide +kernel

noncomputable def fX0_isLine (S : sX) (x1 : Int32) : Option Int32 :=
  (fX0_isIn (x1.toInt64) (0 : Int64) (((S.1 4) - (1 : Int32)).toInt64)).bind fun v_1 =>
  ec_rz v_1
theorem metX0_isLine (l : Launch) (D : va_G) (dA : Nat → ClassId) (o : Nat) (q : Nat → Nat) (S : sX) (x1 : Int32) (res : Int32) (hf : fX0_isLine S x1 = some res) : Met l yX0_isLine (ws_ yX0_isLine cX0_isLine 2 (some .boolean)) (rmL 1) (XPre D dA o q S [.int x1]) (k2_QcV (.int res)) 0 0 (fun _ => False) := by
  refine x_ofR rfl (Nat.le_of_ble_eq_true rfl) (fun p e s m args below meth c X hr hlk hM ls hl => ?_)
  have hl : lv_has ls 2 [(0, .ref o), (1, .int x1)] := hl
  have hx := X.1
  have hb := X.2.1
  unfold fX0_isLine at hf
  refine lv_iload_n hx hb dX0_isLine_0 rfl (lv_at hl 1 rfl) ?_
  refine lv_i2l hx hb dX0_isLine_1 rfl ?_
  refine lv_lconst (v := 0) hx hb dX0_isLine_2 (by decide) ?_
  refine lv_aload_n hx hb dX0_isLine_3 rfl (lv_at hl 0 rfl) ?_
  refine x_get (v := .int (S.1 4)) X hM 4 (by decide) q772 rfl rfl dX0_isLine_4 ?_
  refine lv_iconst (v := 1) hx hb dX0_isLine_7 (by decide) ?_
  refine lv_isub hx hb dX0_isLine_8 ?_
  refine lv_i2l hx hb dX0_isLine_9 rfl ?_
  obtain ⟨v_1, h, hf⟩ := ec_bi hf
  refine e_cS (v := .int v_1) (As := [.long (x1.toInt64), .long (0 : Int64), .long (((S.1 4) - (1 : Int32)).toInt64)]) (rest := []) X (metX0_isIn l (x1.toInt64) (0 : Int64) (((S.1 4) - (1 : Int32)).toInt64) _ h) (va_cwS 3 X.2.2.2.2 gX0_21 rfl rfl rfl hX0_isIn (rm_le (Nat.le_of_ble_eq_true rfl) (Nat.le_of_ble_eq_true rfl))) rfl hl.1 rfl (Nat.le_of_ble_eq_true rfl) ⟨Nat.zero_le _, Nat.zero_le _⟩ dX0_isLine_10 ?_
  obtain ⟨hn, h2⟩ := ec_rz_i hf
  subst h2
  exact e_zretR hx hb hr hlk hn dX0_isLine_13
theorem hX0_isLine : yX0_isLine.cls = RX0 ∧ yX0_isLine.cls ≠ "java/lang/invoke/MethodHandle" ∧ yX0_isLine.cls ≠ "java/lang/invoke/VarHandle" ∧ (parseMethodDescriptor yX0_isLine.desc).map (fun d => d.parameters.length) = some 1 := by decide +kernel

theorem gX0_114 : GoodIn lw_all (wsV RX0 114 RX0 yX0_isLine (ws_ yX0_isLine cX0_isLine 2 (some .boolean))) := lw_V q465 q467 qs13 q60 q468
noncomputable def fX0_line (S : sX) (x1 : Int32) (x2 : Int32) : Option Int32 :=
  (fX0_isLine S x1).bind fun v_1 =>
  if ¬ v_1 = 0 then (
    (hAr 4 S.2.2.2 (S.2.2.1 3) x1).bind fun v_2 =>
    (fX0_isIn (x2.toInt64) (10 : Int64) (17 : Int64)).bind fun v_3 =>
    if v_3 = 0 then (
      if ¬ x2 = 0 then (
        if ¬ x2 = (1 : Int32) then (
          if ¬ x2 = (2 : Int32) then (
            some (-1 : Int32))
          else (
            (hI 7 S.2.2.2 v_2 1).bind fun v_4 =>
            some v_4))
        else (
          (hI 7 S.2.2.2 v_2 4).bind fun v_5 =>
          some v_5))
      else (
        (hI 7 S.2.2.2 v_2 2).bind fun v_6 =>
        some v_6))
    else (
      (hR 7 S.2.2.2 v_2 3).bind fun v_7 =>
      (hAi 0 S.2.2.2 v_7 (x2 - (10 : Int32))).bind fun v_8 =>
      some v_8))
  else (
    some (-1 : Int32))
theorem metX0_line (l : Launch) (D : va_G) (dA : Nat → ClassId) (o : Nat) (q : Nat → Nat) (S : sX) (x1 : Int32) (x2 : Int32) (res : Int32) (hf : fX0_line S x1 x2 = some res) : Met l yX0_line (ws_ yX0_line cX0_line 4 (some .int)) (rmL 2) (XPre D dA o q S [.int x1, .int x2]) (k2_QcV (.int res)) 0 0 (fun _ => False) := by
  refine x_ofR rfl (Nat.le_of_ble_eq_true rfl) (fun p e s m args below meth c X hr hlk hM ls hl => ?_)
  have hl : lv_has ls 4 [(0, .ref o), (1, .int x1), (2, .int x2)] := hl
  have hx := X.1
  have hb := X.2.1
  unfold fX0_line at hf
  refine lv_aload_n hx hb dX0_line_0 rfl (lv_at hl 0 rfl) ?_
  refine lv_iload_n hx hb dX0_line_1 rfl (lv_at hl 1 rfl) ?_
  obtain ⟨v_1, h, hf⟩ := ec_bi hf
  refine x_cR (v := .int v_1) (As := [.int x1]) (rest := []) X hM (metX0_isLine l D dA o q S x1 _ h) (cwV 1 X.2.2.2.2 gX0_114 rfl rfl rfl hX0_isLine (rm_le (Nat.le_of_ble_eq_true rfl) (Nat.le_of_ble_eq_true rfl))) rfl hl.1 rfl (Nat.le_of_ble_eq_true rfl) ⟨Nat.zero_le _, Nat.zero_le _⟩ dX0_line_2 ?_
  refine lv_if_ne (tgt := 10) hx hb dX0_line_5 rfl (fun cnd => ?_) (fun cnd => ?_)
  · have hf := ec_t cnd hf
    refine lv_aload_n hx hb dX0_line_10 rfl (lv_at hl 0 rfl) ?_
    refine x_get (v := .ref (S.2.2.1 3)) X hM 3 (by decide) q771 rfl rfl dX0_line_11 ?_
    refine lv_iload_n hx hb dX0_line_14 rfl (lv_at hl 1 rfl) ?_
    obtain ⟨v_2, h, hf⟩ := ec_bi hf
    refine h_aald (t := 4) X hM rfl rfl h dX0_line_15 ?_
    refine lv_astore_n (lv' := [(3, .ref v_2), (0, .ref o), (1, .int x1), (2, .int x2)]) hx hb dX0_line_16 rfl hl (by decide) rfl (fun ls hl => ?_)
    refine lv_iload_n hx hb dX0_line_17 rfl (lv_at hl 3 rfl) ?_
    refine lv_i2l hx hb dX0_line_18 rfl ?_
    refine lv_ldc2 (own := RX0) (v := 10) hx hb X.2.2.2.1 (X.2.2.2.2 _ q469) dX0_line_19 ?_
    refine lv_ldc2 (own := RX0) (v := 17) hx hb X.2.2.2.1 (X.2.2.2.2 _ q470) dX0_line_22 ?_
    obtain ⟨v_3, h, hf⟩ := ec_bi hf
    refine e_cS (v := .int v_3) (As := [.long (x2.toInt64), .long (10 : Int64), .long (17 : Int64)]) (rest := []) X (metX0_isIn l (x2.toInt64) (10 : Int64) (17 : Int64) _ h) (va_cwS 3 X.2.2.2.2 gX0_21 rfl rfl rfl hX0_isIn (rm_le (Nat.le_of_ble_eq_true rfl) (Nat.le_of_ble_eq_true rfl))) rfl hl.1 rfl (Nat.le_of_ble_eq_true rfl) ⟨Nat.zero_le _, Nat.zero_le _⟩ dX0_line_25 ?_
    refine lv_if_eq (tgt := 41) hx hb dX0_line_28 rfl (fun cnd => ?_) (fun cnd => ?_)
    · have hf := ec_t cnd hf
      refine lv_iload_n hx hb dX0_line_41 rfl (lv_at hl 3 rfl) ?_
      refine lv_if_ne (tgt := 52) hx hb dX0_line_42 rfl (fun cnd => ?_) (fun cnd => ?_)
      · have hf := ec_t cnd hf
        refine lv_iload_n hx hb dX0_line_52 rfl (lv_at hl 3 rfl) ?_
        refine lv_iconst (v := 1) hx hb dX0_line_53 (by decide) ?_
        refine lv_icmp_ne (tgt := 64) hx hb dX0_line_54 rfl (fun cnd => ?_) (fun cnd => ?_)
        · have hf := ec_t cnd hf
          refine lv_iload_n hx hb dX0_line_64 rfl (lv_at hl 3 rfl) ?_
          refine lv_iconst (v := 2) hx hb dX0_line_65 (by decide) ?_
          refine lv_icmp_ne (tgt := 76) hx hb dX0_line_66 rfl (fun cnd => ?_) (fun cnd => ?_)
          · have hf := ec_t cnd hf
            refine lv_iconst (v := -1) hx hb dX0_line_76 (by decide) ?_
            obtain rfl := Option.some.inj hf
            exact e_iretR hx hb hr hlk dX0_line_77
          · have hf := ec_f (not_not_intro cnd) hf
            refine lv_aload_n hx hb dX0_line_69 rfl (lv_at hl 0 rfl) ?_
            obtain ⟨v_4, h, hf⟩ := ec_bi hf
            refine h_getvN (v := .int v_4) (C := RX8) (T := TX8) (N := 5) (ci := 7) (k := 1) (host := "EventCounters") X hM in_X8 rfl (by decide) (xn_at hM.2.1 18 rfl) rfl (hI_i h) dX0_line_70 ?_
            refine lv_goto (tgt := 77) hx hb dX0_line_73 rfl ?_
            obtain rfl := Option.some.inj hf
            exact e_iretR hx hb hr hlk dX0_line_77
        · have hf := ec_f (not_not_intro cnd) hf
          refine lv_aload_n hx hb dX0_line_57 rfl (lv_at hl 0 rfl) ?_
          obtain ⟨v_5, h, hf⟩ := ec_bi hf
          refine h_getvN (v := .int v_5) (C := RX8) (T := TX8) (N := 5) (ci := 7) (k := 4) (host := "EventCounters") X hM in_X8 rfl (by decide) (xn_at hM.2.1 22 rfl) rfl (hI_i h) dX0_line_58 ?_
          refine lv_goto (tgt := 77) hx hb dX0_line_61 rfl ?_
          obtain rfl := Option.some.inj hf
          exact e_iretR hx hb hr hlk dX0_line_77
      · have hf := ec_f (not_not_intro cnd) hf
        refine lv_aload_n hx hb dX0_line_45 rfl (lv_at hl 0 rfl) ?_
        obtain ⟨v_6, h, hf⟩ := ec_bi hf
        refine h_getvN (v := .int v_6) (C := RX8) (T := TX8) (N := 5) (ci := 7) (k := 2) (host := "EventCounters") X hM in_X8 rfl (by decide) (xn_at hM.2.1 19 rfl) rfl (hI_i h) dX0_line_46 ?_
        refine lv_goto (tgt := 77) hx hb dX0_line_49 rfl ?_
        obtain rfl := Option.some.inj hf
        exact e_iretR hx hb hr hlk dX0_line_77
    · have hf := ec_f cnd hf
      refine lv_aload_n hx hb dX0_line_31 rfl (lv_at hl 0 rfl) ?_
      obtain ⟨v_7, h, hf⟩ := ec_bi hf
      refine h_getvN (v := .ref v_7) (C := RX8) (T := TX8) (N := 5) (ci := 7) (k := 3) (host := "EventCounters") X hM in_X8 rfl (by decide) (xn_at hM.2.1 20 rfl) rfl (hR_i h) dX0_line_32 ?_
      refine lv_iload_n hx hb dX0_line_35 rfl (lv_at hl 3 rfl) ?_
      refine lv_bipush (v := 10) hx hb dX0_line_36 (by decide) ?_
      refine lv_isub hx hb dX0_line_38 ?_
      obtain ⟨v_8, h, hf⟩ := ec_bi hf
      refine h_iald X hM h dX0_line_39 ?_
      obtain rfl := Option.some.inj hf
      exact e_iretR hx hb hr hlk dX0_line_40
  · have hf := ec_f (not_not_intro cnd) hf
    refine lv_iconst (v := -1) hx hb dX0_line_8 (by decide) ?_
    obtain rfl := Option.some.inj hf
    exact e_iretR hx hb hr hlk dX0_line_9
theorem hX0_line : yX0_line.cls = RX0 ∧ yX0_line.cls ≠ "java/lang/invoke/MethodHandle" ∧ yX0_line.cls ≠ "java/lang/invoke/VarHandle" ∧ (parseMethodDescriptor yX0_line.desc).map (fun d => d.parameters.length) = some 2 := by decide +kernel

noncomputable def fX0_step (S : sX) (x1 : Int32) : Option Int32 :=
  (fX0_isIn (x1.toInt64) (0 : Int64) (((S.1 8) - (1 : Int32)).toInt64)).bind fun v_1 =>
  if v_1 = 0 then (
    some (-1 : Int32))
  else (
    (hAi 0 S.2.2.2 (S.2.2.1 7) x1).bind fun v_2 =>
    some v_2)
theorem metX0_step (l : Launch) (D : va_G) (dA : Nat → ClassId) (o : Nat) (q : Nat → Nat) (S : sX) (x1 : Int32) (res : Int32) (hf : fX0_step S x1 = some res) : Met l yX0_step (ws_ yX0_step cX0_step 2 (some .int)) (rmL 1) (XPre D dA o q S [.int x1]) (k2_QcV (.int res)) 0 0 (fun _ => False) := by
  refine x_ofR rfl (Nat.le_of_ble_eq_true rfl) (fun p e s m args below meth c X hr hlk hM ls hl => ?_)
  have hl : lv_has ls 2 [(0, .ref o), (1, .int x1)] := hl
  have hx := X.1
  have hb := X.2.1
  unfold fX0_step at hf
  refine lv_iload_n hx hb dX0_step_0 rfl (lv_at hl 1 rfl) ?_
  refine lv_i2l hx hb dX0_step_1 rfl ?_
  refine lv_lconst (v := 0) hx hb dX0_step_2 (by decide) ?_
  refine lv_aload_n hx hb dX0_step_3 rfl (lv_at hl 0 rfl) ?_
  refine x_get (v := .int (S.1 8)) X hM 8 (by decide) q776 rfl rfl dX0_step_4 ?_
  refine lv_iconst (v := 1) hx hb dX0_step_7 (by decide) ?_
  refine lv_isub hx hb dX0_step_8 ?_
  refine lv_i2l hx hb dX0_step_9 rfl ?_
  obtain ⟨v_1, h, hf⟩ := ec_bi hf
  refine e_cS (v := .int v_1) (As := [.long (x1.toInt64), .long (0 : Int64), .long (((S.1 8) - (1 : Int32)).toInt64)]) (rest := []) X (metX0_isIn l (x1.toInt64) (0 : Int64) (((S.1 8) - (1 : Int32)).toInt64) _ h) (va_cwS 3 X.2.2.2.2 gX0_21 rfl rfl rfl hX0_isIn (rm_le (Nat.le_of_ble_eq_true rfl) (Nat.le_of_ble_eq_true rfl))) rfl hl.1 rfl (Nat.le_of_ble_eq_true rfl) ⟨Nat.zero_le _, Nat.zero_le _⟩ dX0_step_10 ?_
  refine lv_if_eq (tgt := 25) hx hb dX0_step_13 rfl (fun cnd => ?_) (fun cnd => ?_)
  · have hf := ec_t cnd hf
    refine lv_iconst (v := -1) hx hb dX0_step_25 (by decide) ?_
    obtain rfl := Option.some.inj hf
    exact e_iretR hx hb hr hlk dX0_step_26
  · have hf := ec_f cnd hf
    refine lv_aload_n hx hb dX0_step_16 rfl (lv_at hl 0 rfl) ?_
    refine x_get (v := .ref (S.2.2.1 7)) X hM 7 (by decide) q775 rfl rfl dX0_step_17 ?_
    refine lv_iload_n hx hb dX0_step_20 rfl (lv_at hl 1 rfl) ?_
    obtain ⟨v_2, h, hf⟩ := ec_bi hf
    refine h_iald X hM h dX0_step_21 ?_
    refine lv_goto (tgt := 26) hx hb dX0_step_22 rfl ?_
    obtain rfl := Option.some.inj hf
    exact e_iretR hx hb hr hlk dX0_step_26
theorem hX0_step : yX0_step.cls = RX0 ∧ yX0_step.cls ≠ "java/lang/invoke/MethodHandle" ∧ yX0_step.cls ≠ "java/lang/invoke/VarHandle" ∧ (parseMethodDescriptor yX0_step.desc).map (fun d => d.parameters.length) = some 1 := by decide +kernel

noncomputable def fX0_whole (S : sX) (x1 : Int32) : Option Int32 :=
  (fX0_isIn (x1.toInt64) (10 : Int64) (17 : Int64)).bind fun v_1 =>
  if v_1 = 0 then (
    if ¬ x1 = 0 then (
      if ¬ x1 = (1 : Int32) then (
        some (-1 : Int32))
      else (
        some (S.1 9)))
    else (
      some (S.1 8)))
  else (
    (ec_ag (S.2.1 10) 8 (x1 - (10 : Int32))).bind fun v_2 =>
    some v_2)
theorem metX0_whole (l : Launch) (D : va_G) (dA : Nat → ClassId) (o : Nat) (q : Nat → Nat) (S : sX) (x1 : Int32) (res : Int32) (hf : fX0_whole S x1 = some res) : Met l yX0_whole (ws_ yX0_whole cX0_whole 2 (some .int)) (rmL 1) (XPre D dA o q S [.int x1]) (k2_QcV (.int res)) 0 0 (fun _ => False) := by
  refine x_ofR rfl (Nat.le_of_ble_eq_true rfl) (fun p e s m args below meth c X hr hlk hM ls hl => ?_)
  have hl : lv_has ls 2 [(0, .ref o), (1, .int x1)] := hl
  have hx := X.1
  have hb := X.2.1
  unfold fX0_whole at hf
  refine lv_iload_n hx hb dX0_whole_0 rfl (lv_at hl 1 rfl) ?_
  refine lv_i2l hx hb dX0_whole_1 rfl ?_
  refine lv_ldc2 (own := RX0) (v := 10) hx hb X.2.2.2.1 (X.2.2.2.2 _ q469) dX0_whole_2 ?_
  refine lv_ldc2 (own := RX0) (v := 17) hx hb X.2.2.2.1 (X.2.2.2.2 _ q470) dX0_whole_5 ?_
  obtain ⟨v_1, h, hf⟩ := ec_bi hf
  refine e_cS (v := .int v_1) (As := [.long (x1.toInt64), .long (10 : Int64), .long (17 : Int64)]) (rest := []) X (metX0_isIn l (x1.toInt64) (10 : Int64) (17 : Int64) _ h) (va_cwS 3 X.2.2.2.2 gX0_21 rfl rfl rfl hX0_isIn (rm_le (Nat.le_of_ble_eq_true rfl) (Nat.le_of_ble_eq_true rfl))) rfl hl.1 rfl (Nat.le_of_ble_eq_true rfl) ⟨Nat.zero_le _, Nat.zero_le _⟩ dX0_whole_8 ?_
  refine lv_if_eq (tgt := 24) hx hb dX0_whole_11 rfl (fun cnd => ?_) (fun cnd => ?_)
  · have hf := ec_t cnd hf
    refine lv_iload_n hx hb dX0_whole_24 rfl (lv_at hl 1 rfl) ?_
    refine lv_if_ne (tgt := 35) hx hb dX0_whole_25 rfl (fun cnd => ?_) (fun cnd => ?_)
    · have hf := ec_t cnd hf
      refine lv_iload_n hx hb dX0_whole_35 rfl (lv_at hl 1 rfl) ?_
      refine lv_iconst (v := 1) hx hb dX0_whole_36 (by decide) ?_
      refine lv_icmp_ne (tgt := 47) hx hb dX0_whole_37 rfl (fun cnd => ?_) (fun cnd => ?_)
      · have hf := ec_t cnd hf
        refine lv_iconst (v := -1) hx hb dX0_whole_47 (by decide) ?_
        obtain rfl := Option.some.inj hf
        exact e_iretR hx hb hr hlk dX0_whole_48
      · have hf := ec_f (not_not_intro cnd) hf
        refine lv_aload_n hx hb dX0_whole_40 rfl (lv_at hl 0 rfl) ?_
        refine x_get (v := .int (S.1 9)) X hM 9 (by decide) q777 rfl rfl dX0_whole_41 ?_
        refine lv_goto (tgt := 48) hx hb dX0_whole_44 rfl ?_
        obtain rfl := Option.some.inj hf
        exact e_iretR hx hb hr hlk dX0_whole_48
    · have hf := ec_f (not_not_intro cnd) hf
      refine lv_aload_n hx hb dX0_whole_28 rfl (lv_at hl 0 rfl) ?_
      refine x_get (v := .int (S.1 8)) X hM 8 (by decide) q776 rfl rfl dX0_whole_29 ?_
      refine lv_goto (tgt := 48) hx hb dX0_whole_32 rfl ?_
      obtain rfl := Option.some.inj hf
      exact e_iretR hx hb hr hlk dX0_whole_48
  · have hf := ec_f cnd hf
    refine lv_aload_n hx hb dX0_whole_14 rfl (lv_at hl 0 rfl) ?_
    refine x_get (v := .ref (q 10)) X hM 10 (by decide) q778 rfl rfl dX0_whole_15 ?_
    refine lv_iload_n hx hb dX0_whole_18 rfl (lv_at hl 1 rfl) ?_
    refine lv_bipush (v := 10) hx hb dX0_whole_19 (by decide) ?_
    refine lv_isub hx hb dX0_whole_21 ?_
    obtain ⟨v_2, h, hf⟩ := ec_bi hf
    refine x_iald X hM wxa10 h dX0_whole_22 ?_
    obtain rfl := Option.some.inj hf
    exact e_iretR hx hb hr hlk dX0_whole_23
theorem hX0_whole : yX0_whole.cls = RX0 ∧ yX0_whole.cls ≠ "java/lang/invoke/MethodHandle" ∧ yX0_whole.cls ≠ "java/lang/invoke/VarHandle" ∧ (parseMethodDescriptor yX0_whole.desc).map (fun d => d.parameters.length) = some 1 := by decide +kernel

theorem gX0_128 : GoodIn lw_all (va_wsS RX0 128 yX0_lowest (ws_ yX0_lowest cX0_lowest 5 (some .long))) := lw_S q487 q488 q60 q489
noncomputable def fX0_ratio_39 (N : Nat) (S : sX) : Option Int32 :=
  some (-1 : Int32)
theorem bX0_ratio_39 {N : Nat} (X : CallFix p m c cX0_ratio 7 s args lw_all RX0) (hr : meth.sig.returnType = (some .int)) (hlk : meth.locks = false) {S : sX} (hM : XW D dA o q S A s s.heap []) {res : Int32} : ∀ (ls : Array Slot), fX0_ratio_39 N S = some res → lv_has ls 7 [(0, .ref o)] → W p l e (rmL 3) s m args below meth c s.heap [] 0 0 (MQ below (k2_QcV (.int res)) args s 0 0 (fun _ => False)) (F0 m 39 ls []) := by
  have hx := X.1
  have hb := X.2.1
  intro ls hf hl
  unfold fX0_ratio_39 at hf
  refine lv_iconst (v := -1) hx hb dX0_ratio_39 (by decide) ?_
  obtain rfl := Option.some.inj hf
  exact e_iretR hx hb hr hlk dX0_ratio_40
noncomputable def fX0_ratio_95 (N : Nat) (S : sX) (x4 : Int32) (x5 : Int32) (t0 : Int32) : Option Int32 :=
  if ¬ t0 = 0 then (
    (fX0_lowest N (x5.toInt64) (t0.toInt64) x4).bind fun v_11 =>
    some (v_11.toInt32))
  else (
    some (-4 : Int32))
theorem bX0_ratio_95 {N : Nat} (X : CallFix p m c cX0_ratio 7 s args lw_all RX0) (hr : meth.sig.returnType = (some .int)) (hlk : meth.locks = false) {S : sX} (hM : XW D dA o q S A s s.heap []) {res : Int32} : ∀ (x4 : Int32) (x5 : Int32) (t0 : Int32) (ls : Array Slot), fX0_ratio_95 N S x4 x5 t0 = some res → lv_has ls 7 [(0, .ref o), (4, .int x4), (5, .int x5)] → W p l e (rmL 3) s m args below meth c s.heap [] 0 0 (MQ below (k2_QcV (.int res)) args s 0 0 (fun _ => False)) (F0 m 95 ls [.int t0]) := by
  have hx := X.1
  have hb := X.2.1
  intro x4 x5 t0 ls hf hl
  unfold fX0_ratio_95 at hf
  refine lv_istore (lv' := [(6, .int t0), (0, .ref o), (4, .int x4), (5, .int x5)]) hx hb dX0_ratio_95 hl (by decide) rfl (fun ls hl => ?_)
  refine lv_iload hx hb dX0_ratio_97 (lv_at hl 0 rfl) ?_
  refine lv_if_ne (tgt := 107) hx hb dX0_ratio_99 rfl (fun cnd => ?_) (fun cnd => ?_)
  · have hf := ec_t cnd hf
    refine lv_iload hx hb dX0_ratio_107 (lv_at hl 3 rfl) ?_
    refine lv_i2l hx hb dX0_ratio_109 rfl ?_
    refine lv_iload hx hb dX0_ratio_110 (lv_at hl 0 rfl) ?_
    refine lv_i2l hx hb dX0_ratio_112 rfl ?_
    refine lv_iload hx hb dX0_ratio_113 (lv_at hl 2 rfl) ?_
    obtain ⟨v_11, h, hf⟩ := ec_bi hf
    refine e_cS (v := .long v_11) (As := [.long (x5.toInt64), .long (t0.toInt64), .int x4]) (rest := []) X (metX0_lowest l N (x5.toInt64) (t0.toInt64) x4 _ h) (va_cwS 3 X.2.2.2.2 gX0_128 rfl rfl rfl hX0_lowest (rm_le (Nat.le_of_ble_eq_true rfl) (Nat.le_of_ble_eq_true rfl))) rfl hl.1 rfl (Nat.le_of_ble_eq_true rfl) ⟨Nat.zero_le _, Nat.zero_le _⟩ dX0_ratio_115 ?_
    refine lv_l2i hx hb dX0_ratio_118 rfl ?_
    obtain rfl := Option.some.inj hf
    exact e_iretR hx hb hr hlk dX0_ratio_119
  · have hf := ec_f (not_not_intro cnd) hf
    refine lv_bipush (v := -4) hx hb dX0_ratio_102 (by decide) ?_
    refine lv_goto (tgt := 119) hx hb dX0_ratio_104 rfl ?_
    obtain rfl := Option.some.inj hf
    exact e_iretR hx hb hr hlk dX0_ratio_119
noncomputable def fX0_ratio_67 (N : Nat) (S : sX) (x1 : Int32) (x3 : Int32) (x4 : Int32) (t0 : Int32) : Option Int32 :=
  if ¬ x1 = (-4 : Int32) then (
    (hAr 4 S.2.2.2 (S.2.2.1 3) x1).bind fun v_8 =>
    (hR 7 S.2.2.2 v_8 3).bind fun v_9 =>
    (hAi 0 S.2.2.2 v_9 x3).bind fun v_10 =>
    fX0_ratio_95 N S x4 t0 v_10)
  else (
    (ec_ag (S.2.1 10) 8 x3).bind fun v_12 =>
    fX0_ratio_95 N S x4 t0 v_12)
theorem bX0_ratio_67 {N : Nat} (X : CallFix p m c cX0_ratio 7 s args lw_all RX0) (hr : meth.sig.returnType = (some .int)) (hlk : meth.locks = false) {S : sX} (hM : XW D dA o q S A s s.heap []) {res : Int32} : ∀ (x1 : Int32) (x3 : Int32) (x4 : Int32) (t0 : Int32) (ls : Array Slot), fX0_ratio_67 N S x1 x3 x4 t0 = some res → lv_has ls 7 [(0, .ref o), (1, .int x1), (3, .int x3), (4, .int x4)] → W p l e (rmL 3) s m args below meth c s.heap [] 0 0 (MQ below (k2_QcV (.int res)) args s 0 0 (fun _ => False)) (F0 m 67 ls [.int t0]) := by
  have hx := X.1
  have hb := X.2.1
  intro x1 x3 x4 t0 ls hf hl
  unfold fX0_ratio_67 at hf
  refine lv_istore (lv' := [(5, .int t0), (0, .ref o), (1, .int x1), (3, .int x3), (4, .int x4)]) hx hb dX0_ratio_67 hl (by decide) rfl (fun ls hl => ?_)
  refine lv_iload_n hx hb dX0_ratio_69 rfl (lv_at hl 2 rfl) ?_
  refine lv_bipush (v := -4) hx hb dX0_ratio_70 (by decide) ?_
  refine lv_icmp_ne (tgt := 84) hx hb dX0_ratio_72 rfl (fun cnd => ?_) (fun cnd => ?_)
  · have hf := ec_t cnd hf
    refine lv_aload_n hx hb dX0_ratio_84 rfl (lv_at hl 1 rfl) ?_
    refine x_get (v := .ref (S.2.2.1 3)) X hM 3 (by decide) q771 rfl rfl dX0_ratio_85 ?_
    refine lv_iload_n hx hb dX0_ratio_88 rfl (lv_at hl 2 rfl) ?_
    obtain ⟨v_8, h, hf⟩ := ec_bi hf
    refine h_aald (t := 4) X hM rfl rfl h dX0_ratio_89 ?_
    obtain ⟨v_9, h, hf⟩ := ec_bi hf
    refine h_getvN (v := .ref v_9) (C := RX8) (T := TX8) (N := 5) (ci := 7) (k := 3) (host := "EventCounters") X hM in_X8 rfl (by decide) (xn_at hM.2.1 20 rfl) rfl (hR_i h) dX0_ratio_90 ?_
    refine lv_iload_n hx hb dX0_ratio_93 rfl (lv_at hl 3 rfl) ?_
    obtain ⟨v_10, h, hf⟩ := ec_bi hf
    refine h_iald X hM h dX0_ratio_94 ?_
    exact bX0_ratio_95 X hr hlk hM x4 t0 v_10 _ hf (lv_sub hl [1, 4, 0] rfl)
  · have hf := ec_f (not_not_intro cnd) hf
    refine lv_aload_n hx hb dX0_ratio_75 rfl (lv_at hl 1 rfl) ?_
    refine x_get (v := .ref (q 10)) X hM 10 (by decide) q778 rfl rfl dX0_ratio_76 ?_
    refine lv_iload_n hx hb dX0_ratio_79 rfl (lv_at hl 3 rfl) ?_
    obtain ⟨v_12, h, hf⟩ := ec_bi hf
    refine x_iald X hM wxa10 h dX0_ratio_80 ?_
    refine lv_goto (tgt := 95) hx hb dX0_ratio_81 rfl ?_
    exact bX0_ratio_95 X hr hlk hM x4 t0 v_12 _ hf (lv_sub hl [1, 4, 0] rfl)
noncomputable def fX0_ratio_14 (N : Nat) (S : sX) (x1 : Int32) (x2 : Int32) (x3 : Int32) (x4 : Int32) : Option Int32 :=
  (fX0_isEvent x2).bind fun v_2 =>
  if v_2 = 0 then (
    fX0_ratio_39 N S)
  else (
    (fX0_isEvent x3).bind fun v_3 =>
    if v_3 = 0 then (
      fX0_ratio_39 N S)
    else (
      (fX0_isIn (x4.toInt64) (0 : Int64) (1 : Int64)).bind fun v_4 =>
      if ¬ v_4 = 0 then (
        if ¬ x1 = (-4 : Int32) then (
          (hAr 4 S.2.2.2 (S.2.2.1 3) x1).bind fun v_5 =>
          (hR 7 S.2.2.2 v_5 3).bind fun v_6 =>
          (hAi 0 S.2.2.2 v_6 x2).bind fun v_7 =>
          fX0_ratio_67 N S x1 x3 x4 v_7)
        else (
          (ec_ag (S.2.1 10) 8 x2).bind fun v_13 =>
          fX0_ratio_67 N S x1 x3 x4 v_13))
      else (
        fX0_ratio_39 N S)))
theorem bX0_ratio_14 {N : Nat} (X : CallFix p m c cX0_ratio 7 s args lw_all RX0) (hr : meth.sig.returnType = (some .int)) (hlk : meth.locks = false) {S : sX} (hM : XW D dA o q S A s s.heap []) {res : Int32} : ∀ (x1 : Int32) (x2 : Int32) (x3 : Int32) (x4 : Int32) (ls : Array Slot), fX0_ratio_14 N S x1 x2 x3 x4 = some res → lv_has ls 7 [(0, .ref o), (1, .int x1), (2, .int x2), (3, .int x3), (4, .int x4)] → W p l e (rmL 3) s m args below meth c s.heap [] 0 0 (MQ below (k2_QcV (.int res)) args s 0 0 (fun _ => False)) (F0 m 14 ls []) := by
  have hx := X.1
  have hb := X.2.1
  intro x1 x2 x3 x4 ls hf hl
  unfold fX0_ratio_14 at hf
  refine lv_iload_n hx hb dX0_ratio_14 rfl (lv_at hl 2 rfl) ?_
  obtain ⟨v_2, h, hf⟩ := ec_bi hf
  refine e_cS (v := .int v_2) (As := [.int x2]) (rest := []) X (metX0_isEvent l x2 _ h) (va_cwS 1 X.2.2.2.2 gX0_125 rfl rfl rfl hX0_isEvent (rm_le (Nat.le_of_ble_eq_true rfl) (Nat.le_of_ble_eq_true rfl))) rfl hl.1 rfl (Nat.le_of_ble_eq_true rfl) ⟨Nat.zero_le _, Nat.zero_le _⟩ dX0_ratio_15 ?_
  refine lv_if_eq (tgt := 39) hx hb dX0_ratio_18 rfl (fun cnd => ?_) (fun cnd => ?_)
  · have hf := ec_t cnd hf
    exact bX0_ratio_39 X hr hlk hM _ hf (lv_sub hl [0] rfl)
  · have hf := ec_f cnd hf
    refine lv_iload_n hx hb dX0_ratio_21 rfl (lv_at hl 3 rfl) ?_
    obtain ⟨v_3, h, hf⟩ := ec_bi hf
    refine e_cS (v := .int v_3) (As := [.int x3]) (rest := []) X (metX0_isEvent l x3 _ h) (va_cwS 1 X.2.2.2.2 gX0_125 rfl rfl rfl hX0_isEvent (rm_le (Nat.le_of_ble_eq_true rfl) (Nat.le_of_ble_eq_true rfl))) rfl hl.1 rfl (Nat.le_of_ble_eq_true rfl) ⟨Nat.zero_le _, Nat.zero_le _⟩ dX0_ratio_22 ?_
    refine lv_if_eq (tgt := 39) hx hb dX0_ratio_25 rfl (fun cnd => ?_) (fun cnd => ?_)
    · have hf := ec_t cnd hf
      exact bX0_ratio_39 X hr hlk hM _ hf (lv_sub hl [0] rfl)
    · have hf := ec_f cnd hf
      refine lv_iload hx hb dX0_ratio_28 (lv_at hl 4 rfl) ?_
      refine lv_i2l hx hb dX0_ratio_30 rfl ?_
      refine lv_lconst (v := 0) hx hb dX0_ratio_31 (by decide) ?_
      refine lv_lconst (v := 1) hx hb dX0_ratio_32 (by decide) ?_
      obtain ⟨v_4, h, hf⟩ := ec_bi hf
      refine e_cS (v := .int v_4) (As := [.long (x4.toInt64), .long (0 : Int64), .long (1 : Int64)]) (rest := []) X (metX0_isIn l (x4.toInt64) (0 : Int64) (1 : Int64) _ h) (va_cwS 3 X.2.2.2.2 gX0_21 rfl rfl rfl hX0_isIn (rm_le (Nat.le_of_ble_eq_true rfl) (Nat.le_of_ble_eq_true rfl))) rfl hl.1 rfl (Nat.le_of_ble_eq_true rfl) ⟨Nat.zero_le _, Nat.zero_le _⟩ dX0_ratio_33 ?_
      refine lv_if_ne (tgt := 41) hx hb dX0_ratio_36 rfl (fun cnd => ?_) (fun cnd => ?_)
      · have hf := ec_t cnd hf
        refine lv_iload_n hx hb dX0_ratio_41 rfl (lv_at hl 1 rfl) ?_
        refine lv_bipush (v := -4) hx hb dX0_ratio_42 (by decide) ?_
        refine lv_icmp_ne (tgt := 56) hx hb dX0_ratio_44 rfl (fun cnd => ?_) (fun cnd => ?_)
        · have hf := ec_t cnd hf
          refine lv_aload_n hx hb dX0_ratio_56 rfl (lv_at hl 0 rfl) ?_
          refine x_get (v := .ref (S.2.2.1 3)) X hM 3 (by decide) q771 rfl rfl dX0_ratio_57 ?_
          refine lv_iload_n hx hb dX0_ratio_60 rfl (lv_at hl 1 rfl) ?_
          obtain ⟨v_5, h, hf⟩ := ec_bi hf
          refine h_aald (t := 4) X hM rfl rfl h dX0_ratio_61 ?_
          obtain ⟨v_6, h, hf⟩ := ec_bi hf
          refine h_getvN (v := .ref v_6) (C := RX8) (T := TX8) (N := 5) (ci := 7) (k := 3) (host := "EventCounters") X hM in_X8 rfl (by decide) (xn_at hM.2.1 20 rfl) rfl (hR_i h) dX0_ratio_62 ?_
          refine lv_iload_n hx hb dX0_ratio_65 rfl (lv_at hl 2 rfl) ?_
          obtain ⟨v_7, h, hf⟩ := ec_bi hf
          refine h_iald X hM h dX0_ratio_66 ?_
          exact bX0_ratio_67 X hr hlk hM x1 x3 x4 v_7 _ hf (lv_sub hl [0, 1, 3, 4] rfl)
        · have hf := ec_f (not_not_intro cnd) hf
          refine lv_aload_n hx hb dX0_ratio_47 rfl (lv_at hl 0 rfl) ?_
          refine x_get (v := .ref (q 10)) X hM 10 (by decide) q778 rfl rfl dX0_ratio_48 ?_
          refine lv_iload_n hx hb dX0_ratio_51 rfl (lv_at hl 2 rfl) ?_
          obtain ⟨v_13, h, hf⟩ := ec_bi hf
          refine x_iald X hM wxa10 h dX0_ratio_52 ?_
          refine lv_goto (tgt := 67) hx hb dX0_ratio_53 rfl ?_
          exact bX0_ratio_67 X hr hlk hM x1 x3 x4 v_13 _ hf (lv_sub hl [0, 1, 3, 4] rfl)
      · have hf := ec_f (not_not_intro cnd) hf
        exact bX0_ratio_39 X hr hlk hM _ hf (lv_sub hl [0] rfl)
noncomputable def fX0_ratio (N : Nat) (S : sX) (x1 : Int32) (x2 : Int32) (x3 : Int32) (x4 : Int32) : Option Int32 :=
  (fX0_isLine S x1).bind fun v_1 =>
  if ¬ v_1 = 0 then (
    fX0_ratio_14 N S x1 x2 x3 x4)
  else (
    if ¬ x1 = (-4 : Int32) then (
      fX0_ratio_39 N S)
    else (
      fX0_ratio_14 N S x1 x2 x3 x4))
theorem metX0_ratio (l : Launch) (D : va_G) (dA : Nat → ClassId) (o : Nat) (q : Nat → Nat) (N : Nat) (S : sX) (x1 : Int32) (x2 : Int32) (x3 : Int32) (x4 : Int32) (res : Int32) (hf : fX0_ratio N S x1 x2 x3 x4 = some res) : Met l yX0_ratio (ws_ yX0_ratio cX0_ratio 7 (some .int)) (rmL 3) (XPre D dA o q S [.int x1, .int x2, .int x3, .int x4]) (k2_QcV (.int res)) 0 0 (fun _ => False) := by
  refine x_ofR rfl (Nat.le_of_ble_eq_true rfl) (fun p e s m args below meth c X hr hlk hM ls hl => ?_)
  have hl : lv_has ls 7 [(0, .ref o), (1, .int x1), (2, .int x2), (3, .int x3), (4, .int x4)] := hl
  have hx := X.1
  have hb := X.2.1
  unfold fX0_ratio at hf
  refine lv_aload_n hx hb dX0_ratio_0 rfl (lv_at hl 0 rfl) ?_
  refine lv_iload_n hx hb dX0_ratio_1 rfl (lv_at hl 1 rfl) ?_
  obtain ⟨v_1, h, hf⟩ := ec_bi hf
  refine x_cR (v := .int v_1) (As := [.int x1]) (rest := []) X hM (metX0_isLine l D dA o q S x1 _ h) (cwV 1 X.2.2.2.2 gX0_114 rfl rfl rfl hX0_isLine (rm_le (Nat.le_of_ble_eq_true rfl) (Nat.le_of_ble_eq_true rfl))) rfl hl.1 rfl (Nat.le_of_ble_eq_true rfl) ⟨Nat.zero_le _, Nat.zero_le _⟩ dX0_ratio_2 ?_
  refine lv_if_ne (tgt := 14) hx hb dX0_ratio_5 rfl (fun cnd => ?_) (fun cnd => ?_)
  · have hf := ec_t cnd hf
    exact bX0_ratio_14 X hr hlk hM x1 x2 x3 x4 _ hf hl
  · have hf := ec_f (not_not_intro cnd) hf
    refine lv_iload_n hx hb dX0_ratio_8 rfl (lv_at hl 1 rfl) ?_
    refine lv_bipush (v := -4) hx hb dX0_ratio_9 (by decide) ?_
    refine lv_icmp_ne (tgt := 39) hx hb dX0_ratio_11 rfl (fun cnd => ?_) (fun cnd => ?_)
    · have hf := ec_t cnd hf
      exact bX0_ratio_39 X hr hlk hM _ hf (lv_sub hl [0] rfl)
    · have hf := ec_f (not_not_intro cnd) hf
      exact bX0_ratio_14 X hr hlk hM x1 x2 x3 x4 _ hf hl
theorem hX0_ratio : yX0_ratio.cls = RX0 ∧ yX0_ratio.cls ≠ "java/lang/invoke/MethodHandle" ∧ yX0_ratio.cls ≠ "java/lang/invoke/VarHandle" ∧ (parseMethodDescriptor yX0_ratio.desc).map (fun d => d.parameters.length) = some 4 := by decide +kernel

noncomputable def fX0_isLoop (S : sX) (x1 : Int32) : Option Int32 :=
  (fX0_isIn (x1.toInt64) (0 : Int64) (((S.1 6) - (1 : Int32)).toInt64)).bind fun v_1 =>
  ec_rz v_1
theorem metX0_isLoop (l : Launch) (D : va_G) (dA : Nat → ClassId) (o : Nat) (q : Nat → Nat) (S : sX) (x1 : Int32) (res : Int32) (hf : fX0_isLoop S x1 = some res) : Met l yX0_isLoop (ws_ yX0_isLoop cX0_isLoop 2 (some .boolean)) (rmL 1) (XPre D dA o q S [.int x1]) (k2_QcV (.int res)) 0 0 (fun _ => False) := by
  refine x_ofR rfl (Nat.le_of_ble_eq_true rfl) (fun p e s m args below meth c X hr hlk hM ls hl => ?_)
  have hl : lv_has ls 2 [(0, .ref o), (1, .int x1)] := hl
  have hx := X.1
  have hb := X.2.1
  unfold fX0_isLoop at hf
  refine lv_iload_n hx hb dX0_isLoop_0 rfl (lv_at hl 1 rfl) ?_
  refine lv_i2l hx hb dX0_isLoop_1 rfl ?_
  refine lv_lconst (v := 0) hx hb dX0_isLoop_2 (by decide) ?_
  refine lv_aload_n hx hb dX0_isLoop_3 rfl (lv_at hl 0 rfl) ?_
  refine x_get (v := .int (S.1 6)) X hM 6 (by decide) q774 rfl rfl dX0_isLoop_4 ?_
  refine lv_iconst (v := 1) hx hb dX0_isLoop_7 (by decide) ?_
  refine lv_isub hx hb dX0_isLoop_8 ?_
  refine lv_i2l hx hb dX0_isLoop_9 rfl ?_
  obtain ⟨v_1, h, hf⟩ := ec_bi hf
  refine e_cS (v := .int v_1) (As := [.long (x1.toInt64), .long (0 : Int64), .long (((S.1 6) - (1 : Int32)).toInt64)]) (rest := []) X (metX0_isIn l (x1.toInt64) (0 : Int64) (((S.1 6) - (1 : Int32)).toInt64) _ h) (va_cwS 3 X.2.2.2.2 gX0_21 rfl rfl rfl hX0_isIn (rm_le (Nat.le_of_ble_eq_true rfl) (Nat.le_of_ble_eq_true rfl))) rfl hl.1 rfl (Nat.le_of_ble_eq_true rfl) ⟨Nat.zero_le _, Nat.zero_le _⟩ dX0_isLoop_10 ?_
  obtain ⟨hn, h2⟩ := ec_rz_i hf
  subst h2
  exact e_zretR hx hb hr hlk hn dX0_isLoop_13
theorem hX0_isLoop : yX0_isLoop.cls = RX0 ∧ yX0_isLoop.cls ≠ "java/lang/invoke/MethodHandle" ∧ yX0_isLoop.cls ≠ "java/lang/invoke/VarHandle" ∧ (parseMethodDescriptor yX0_isLoop.desc).map (fun d => d.parameters.length) = some 1 := by decide +kernel

noncomputable def fX0_made (S : sX) (x1 : Int32) (x2 : Int32) : Option Int32 :=
  (hAr 4 S.2.2.2 (S.2.2.1 3) x1).bind fun v_1 =>
  (hI 7 S.2.2.2 v_1 4).bind fun v_2 =>
  (hAr 4 S.2.2.2 (S.2.2.1 3) x1).bind fun v_3 =>
  (hR 7 S.2.2.2 v_3 3).bind fun v_4 =>
  (hAi 0 S.2.2.2 v_4 x2).bind fun v_5 =>
  some (v_2 * v_5)
theorem metX0_made (l : Launch) (D : va_G) (dA : Nat → ClassId) (o : Nat) (q : Nat → Nat) (S : sX) (x1 : Int32) (x2 : Int32) (res : Int32) (hf : fX0_made S x1 x2 = some res) : Met l yX0_made (ws_ yX0_made cX0_made 3 (some .int)) (rmL 0) (XPre D dA o q S [.int x1, .int x2]) (k2_QcV (.int res)) 0 0 (fun _ => False) := by
  refine x_ofR rfl (Nat.le_of_ble_eq_true rfl) (fun p e s m args below meth c X hr hlk hM ls hl => ?_)
  have hl : lv_has ls 3 [(0, .ref o), (1, .int x1), (2, .int x2)] := hl
  have hx := X.1
  have hb := X.2.1
  unfold fX0_made at hf
  refine lv_aload_n hx hb dX0_made_0 rfl (lv_at hl 0 rfl) ?_
  refine x_get (v := .ref (S.2.2.1 3)) X hM 3 (by decide) q771 rfl rfl dX0_made_1 ?_
  refine lv_iload_n hx hb dX0_made_4 rfl (lv_at hl 1 rfl) ?_
  obtain ⟨v_1, h, hf⟩ := ec_bi hf
  refine h_aald (t := 4) X hM rfl rfl h dX0_made_5 ?_
  obtain ⟨v_2, h, hf⟩ := ec_bi hf
  refine h_getvN (v := .int v_2) (C := RX8) (T := TX8) (N := 5) (ci := 7) (k := 4) (host := "EventCounters") X hM in_X8 rfl (by decide) (xn_at hM.2.1 22 rfl) rfl (hI_i h) dX0_made_6 ?_
  refine lv_aload_n hx hb dX0_made_9 rfl (lv_at hl 0 rfl) ?_
  refine x_get (v := .ref (S.2.2.1 3)) X hM 3 (by decide) q771 rfl rfl dX0_made_10 ?_
  refine lv_iload_n hx hb dX0_made_13 rfl (lv_at hl 1 rfl) ?_
  obtain ⟨v_3, h, hf⟩ := ec_bi hf
  refine h_aald (t := 4) X hM rfl rfl h dX0_made_14 ?_
  obtain ⟨v_4, h, hf⟩ := ec_bi hf
  refine h_getvN (v := .ref v_4) (C := RX8) (T := TX8) (N := 5) (ci := 7) (k := 3) (host := "EventCounters") X hM in_X8 rfl (by decide) (xn_at hM.2.1 20 rfl) rfl (hR_i h) dX0_made_15 ?_
  refine lv_iload_n hx hb dX0_made_18 rfl (lv_at hl 2 rfl) ?_
  obtain ⟨v_5, h, hf⟩ := ec_bi hf
  refine h_iald X hM h dX0_made_19 ?_
  refine lv_imul hx hb dX0_made_20 ?_
  obtain rfl := Option.some.inj hf
  exact e_iretR hx hb hr hlk dX0_made_21
theorem hX0_made : yX0_made.cls = RX0 ∧ yX0_made.cls ≠ "java/lang/invoke/MethodHandle" ∧ yX0_made.cls ≠ "java/lang/invoke/VarHandle" ∧ (parseMethodDescriptor yX0_made.desc).map (fun d => d.parameters.length) = some 2 := by decide +kernel

theorem gX0_163 : GoodIn lw_all (wsV RX0 163 RX0 yX0_made (ws_ yX0_made cX0_made 3 (some .int))) := lw_V q553 q555 qs15 q60 q556
theorem gX0_158 : GoodIn lw_all (va_wsS RX0 158 yJ9_bitCount (ws_ yJ9_bitCount cJ9_bitCount 1 (some .int))) := lw_S q547 q548 q80 q549
noncomputable def fX0_hot_29 (N : Nat) (S : sX) : Option Int32 :=
  some (-1 : Int32)
theorem bX0_hot_29 {N : Nat} (X : CallFix p m c cX0_hot 9 s args lw_all RX0) (hr : meth.sig.returnType = (some .int)) (hlk : meth.locks = false) {S : sX} (hM : XW D dA o q S A s s.heap []) {res : Int32} : ∀ (ls : Array Slot), fX0_hot_29 N S = some res → lv_has ls 9 [(0, .ref o)] → W p l e (rmL 2) s m args below meth c s.heap [] 0 0 (MQ below (k2_QcV (.int res)) args s 0 0 (fun _ => False)) (F0 m 29 ls []) := by
  have hx := X.1
  have hb := X.2.1
  intro ls hf hl
  unfold fX0_hot_29 at hf
  refine lv_iconst (v := -1) hx hb dX0_hot_29 (by decide) ?_
  obtain rfl := Option.some.inj hf
  exact e_iretR hx hb hr hlk dX0_hot_30
noncomputable def fX0_hot_121 (N : Nat) (S : sX) (k87 : Int32 → Int32 → Int32 → Int32 → Int32 → Int64 → Int32 → Option Int32) (x1 : Int32) (x2 : Int32) (x3 : Int32) (x4 : Int32) (x5 : Int32) (x8 : Int32) (t0 : Int64) (t1 : Int64) : Option Int32 :=
  ec_lt (t1 + t0) fun x6_5 =>
  ec_lt (x8 + (1 : Int32)) fun x8_6 =>
  k87 x1 x2 x3 x4 x5 x6_5 x8_6
theorem bX0_hot_121 {N : Nat} (X : CallFix p m c cX0_hot 9 s args lw_all RX0) (hr : meth.sig.returnType = (some .int)) (hlk : meth.locks = false) {S : sX} (hM : XW D dA o q S A s s.heap []) {res : Int32} {k87 : Int32 → Int32 → Int32 → Int32 → Int32 → Int64 → Int32 → Option Int32} (Hk87 : ∀ (x1 : Int32) (x2 : Int32) (x3 : Int32) (x4 : Int32) (x5 : Int32) (x6 : Int64) (x8 : Int32) (ls : Array Slot), k87 x1 x2 x3 x4 x5 x6 x8 = some res → lv_has ls 9 [(0, .ref o), (1, .int x1), (2, .int x2), (3, .int x3), (4, .int x4), (5, .int x5), (6, .long x6), (8, .int x8)] → W p l e (rmL 2) s m args below meth c s.heap [] 0 0 (MQ below (k2_QcV (.int res)) args s 0 0 (fun _ => False)) (F0 m 87 ls [])) : ∀ (x1 : Int32) (x2 : Int32) (x3 : Int32) (x4 : Int32) (x5 : Int32) (x8 : Int32) (t0 : Int64) (t1 : Int64) (ls : Array Slot), fX0_hot_121 N S k87 x1 x2 x3 x4 x5 x8 t0 t1 = some res → lv_has ls 9 [(0, .ref o), (1, .int x1), (2, .int x2), (3, .int x3), (4, .int x4), (5, .int x5), (8, .int x8)] → W p l e (rmL 2) s m args below meth c s.heap [] 0 0 (MQ below (k2_QcV (.int res)) args s 0 0 (fun _ => False)) (F0 m 121 ls [.long t0, .long t1]) := by
  have hx := X.1
  have hb := X.2.1
  intro x1 x2 x3 x4 x5 x8 t0 t1 ls hf hl
  unfold fX0_hot_121 at hf
  refine lv_ladd hx hb dX0_hot_121 ?_
  refine lv_topl (fun x6_5 ex => ?_)
  have hf := ec_lt_i ex hf
  refine lv_lstore (lv' := [(6, .long x6_5), (0, .ref o), (1, .int x1), (2, .int x2), (3, .int x3), (4, .int x4), (5, .int x5), (8, .int x8)]) hx hb dX0_hot_122 hl (by decide) rfl (fun ls hl => ?_)
  refine e_inc (w := 1) (f := fun v => [(8, .int v), (6, .long x6_5), (0, .ref o), (1, .int x1), (2, .int x2), (3, .int x3), (4, .int x4), (5, .int x5)]) hx hb dX0_hot_124 hl (k := 7) rfl (by decide) (by decide) (fun _ => rfl) (fun x8_6 ex ls hl => ?_)
  have hf := ec_lt_i ex hf
  refine lv_goto (tgt := 87) hx hb dX0_hot_127 rfl ?_
  exact Hk87 x1 x2 x3 x4 x5 x6_5 x8_6 _ hf (lv_sub hl [2, 3, 4, 5, 6, 7, 1, 0] rfl)
noncomputable def fX0_hot_87 (N : Nat) (S : sX) (kx130 : Int32 → Int32 → Int32 → Int32 → Int32 → Int64 → Option Int32) : Nat → Int32 → Int32 → Int32 → Int32 → Int32 → Int64 → Int32 → Option Int32
  | 0, _, _, _, _, _, _, _ => none
  | n + 1, x1, x2, x3, x4, x5, x6, x8 =>
    if (S.1 4) ≤ x8 then (
      kx130 x1 x2 x3 x4 x5 x6)
    else (
      if ¬ ((x5 >>> (x8 &&& 31)) &&& (1 : Int32)) = (1 : Int32) then (
        fX0_hot_121 N S (fX0_hot_87 N S kx130 n) x1 x2 x3 x4 x5 x8 (0 : Int64) x6)
      else (
        (fX0_made S x8 x1).bind fun v_7 =>
        fX0_hot_121 N S (fX0_hot_87 N S kx130 n) x1 x2 x3 x4 x5 x8 (v_7.toInt64) x6))
theorem bX0_hot_87 {N : Nat} (X : CallFix p m c cX0_hot 9 s args lw_all RX0) (hr : meth.sig.returnType = (some .int)) (hlk : meth.locks = false) {S : sX} (hM : XW D dA o q S A s s.heap []) {res : Int32} {kx130 : Int32 → Int32 → Int32 → Int32 → Int32 → Int64 → Option Int32} (Hkx130 : ∀ (x1 : Int32) (x2 : Int32) (x3 : Int32) (x4 : Int32) (x5 : Int32) (x6 : Int64) (ls : Array Slot), kx130 x1 x2 x3 x4 x5 x6 = some res → lv_has ls 9 [(0, .ref o), (1, .int x1), (2, .int x2), (3, .int x3), (4, .int x4), (5, .int x5), (6, .long x6)] → W p l e (rmL 2) s m args below meth c s.heap [] 0 0 (MQ below (k2_QcV (.int res)) args s 0 0 (fun _ => False)) (F0 m 130 ls [])) : ∀ (n : Nat) (x1 : Int32) (x2 : Int32) (x3 : Int32) (x4 : Int32) (x5 : Int32) (x6 : Int64) (x8 : Int32) (ls : Array Slot), fX0_hot_87 N S kx130 n x1 x2 x3 x4 x5 x6 x8 = some res → lv_has ls 9 [(0, .ref o), (1, .int x1), (2, .int x2), (3, .int x3), (4, .int x4), (5, .int x5), (6, .long x6), (8, .int x8)] → W p l e (rmL 2) s m args below meth c s.heap [] 0 0 (MQ below (k2_QcV (.int res)) args s 0 0 (fun _ => False)) (F0 m 87 ls []) := by
  have hx := X.1
  have hb := X.2.1
  intro n
  induction n with
  | zero =>
    intro x1 x2 x3 x4 x5 x6 x8 ls hf hl
    rw [fX0_hot_87] at hf
    cases hf
  | succ n ih =>
    intro x1 x2 x3 x4 x5 x6 x8 ls hf hl
    rw [fX0_hot_87] at hf
    refine lv_iload hx hb dX0_hot_87 (lv_at hl 7 rfl) ?_
    refine lv_aload_n hx hb dX0_hot_89 rfl (lv_at hl 0 rfl) ?_
    refine x_get (v := .int (S.1 4)) X hM 4 (by decide) q772 rfl rfl dX0_hot_90 ?_
    refine lv_icmp_ge (tgt := 130) hx hb dX0_hot_93 rfl (fun cnd => ?_) (fun cnd => ?_)
    · have hf := ec_t cnd hf
      exact Hkx130 x1 x2 x3 x4 x5 x6 _ hf (lv_sub hl [0, 1, 2, 3, 4, 5, 6] rfl)
    · have hf := ec_f cnd hf
      refine lv_lload hx hb dX0_hot_96 (lv_at hl 6 rfl) ?_
      refine lv_iload hx hb dX0_hot_98 (lv_at hl 5 rfl) ?_
      refine lv_iload hx hb dX0_hot_100 (lv_at hl 7 rfl) ?_
      refine lv_ishr hx hb dX0_hot_102 ?_
      refine lv_iconst (v := 1) hx hb dX0_hot_103 (by decide) ?_
      refine lv_iand hx hb dX0_hot_104 ?_
      refine lv_iconst (v := 1) hx hb dX0_hot_105 (by decide) ?_
      refine lv_icmp_ne (tgt := 120) hx hb dX0_hot_106 rfl (fun cnd => ?_) (fun cnd => ?_)
      · have hf := ec_t cnd hf
        refine lv_lconst (v := 0) hx hb dX0_hot_120 (by decide) ?_
        exact bX0_hot_121 X hr hlk hM ih x1 x2 x3 x4 x5 x8 (0 : Int64) x6 _ hf (lv_sub hl [0, 1, 2, 3, 4, 5, 7] rfl)
      · have hf := ec_f (not_not_intro cnd) hf
        refine lv_aload_n hx hb dX0_hot_109 rfl (lv_at hl 0 rfl) ?_
        refine lv_iload hx hb dX0_hot_110 (lv_at hl 7 rfl) ?_
        refine lv_iload_n hx hb dX0_hot_112 rfl (lv_at hl 1 rfl) ?_
        obtain ⟨v_7, h, hf⟩ := ec_bi hf
        refine x_cR (v := .int v_7) (As := [.int x8, .int x1]) (rest := [.long x6]) X hM (metX0_made l D dA o q S x8 x1 _ h) (cwV 2 X.2.2.2.2 gX0_163 rfl rfl rfl hX0_made (rm_le (Nat.le_of_ble_eq_true rfl) (Nat.le_of_ble_eq_true rfl))) rfl hl.1 rfl (Nat.le_of_ble_eq_true rfl) ⟨Nat.zero_le _, Nat.zero_le _⟩ dX0_hot_113 ?_
        refine lv_i2l hx hb dX0_hot_116 rfl ?_
        refine lv_goto (tgt := 121) hx hb dX0_hot_117 rfl ?_
        exact bX0_hot_121 X hr hlk hM ih x1 x2 x3 x4 x5 x8 (v_7.toInt64) x6 _ hf (lv_sub hl [0, 1, 2, 3, 4, 5, 7] rfl)
noncomputable def fX0_hot_159 (N : Nat) (S : sX) (k50 : Int32 → Int32 → Int32 → Int32 → Int32 → Option Int32) (x1 : Int32) (x2 : Int32) (x3 : Int32) (x4 : Int32) (x5 : Int32) : Option Int32 :=
  ec_lt (x5 + (1 : Int32)) fun x5_15 =>
  k50 x1 x2 x3 x4 x5_15
theorem bX0_hot_159 {N : Nat} (X : CallFix p m c cX0_hot 9 s args lw_all RX0) (hr : meth.sig.returnType = (some .int)) (hlk : meth.locks = false) {S : sX} (hM : XW D dA o q S A s s.heap []) {res : Int32} {k50 : Int32 → Int32 → Int32 → Int32 → Int32 → Option Int32} (Hk50 : ∀ (x1 : Int32) (x2 : Int32) (x3 : Int32) (x4 : Int32) (x5 : Int32) (ls : Array Slot), k50 x1 x2 x3 x4 x5 = some res → lv_has ls 9 [(0, .ref o), (1, .int x1), (2, .int x2), (3, .int x3), (4, .int x4), (5, .int x5)] → W p l e (rmL 2) s m args below meth c s.heap [] 0 0 (MQ below (k2_QcV (.int res)) args s 0 0 (fun _ => False)) (F0 m 50 ls [])) : ∀ (x1 : Int32) (x2 : Int32) (x3 : Int32) (x4 : Int32) (x5 : Int32) (ls : Array Slot), fX0_hot_159 N S k50 x1 x2 x3 x4 x5 = some res → lv_has ls 9 [(0, .ref o), (1, .int x1), (2, .int x2), (3, .int x3), (4, .int x4), (5, .int x5)] → W p l e (rmL 2) s m args below meth c s.heap [] 0 0 (MQ below (k2_QcV (.int res)) args s 0 0 (fun _ => False)) (F0 m 159 ls []) := by
  have hx := X.1
  have hb := X.2.1
  intro x1 x2 x3 x4 x5 ls hf hl
  unfold fX0_hot_159 at hf
  refine e_inc (w := 1) (f := fun v => [(5, .int v), (0, .ref o), (1, .int x1), (2, .int x2), (3, .int x3), (4, .int x4)]) hx hb dX0_hot_159 hl (k := 5) rfl (by decide) (by decide) (fun _ => rfl) (fun x5_15 ex ls hl => ?_)
  have hf := ec_lt_i ex hf
  refine lv_goto (tgt := 50) hx hb dX0_hot_162 rfl ?_
  exact Hk50 x1 x2 x3 x4 x5_15 _ hf (lv_sub hl [1, 2, 3, 4, 5, 0] rfl)
noncomputable def fX0_hot_157 (N : Nat) (S : sX) (k50 : Int32 → Int32 → Int32 → Int32 → Int32 → Option Int32) (x1 : Int32) (x2 : Int32) (x3 : Int32) (x5 : Int32) (t0 : Int32) : Option Int32 :=
  fX0_hot_159 N S k50 x1 x2 x3 t0 x5
theorem bX0_hot_157 {N : Nat} (X : CallFix p m c cX0_hot 9 s args lw_all RX0) (hr : meth.sig.returnType = (some .int)) (hlk : meth.locks = false) {S : sX} (hM : XW D dA o q S A s s.heap []) {res : Int32} {k50 : Int32 → Int32 → Int32 → Int32 → Int32 → Option Int32} (Hk50 : ∀ (x1 : Int32) (x2 : Int32) (x3 : Int32) (x4 : Int32) (x5 : Int32) (ls : Array Slot), k50 x1 x2 x3 x4 x5 = some res → lv_has ls 9 [(0, .ref o), (1, .int x1), (2, .int x2), (3, .int x3), (4, .int x4), (5, .int x5)] → W p l e (rmL 2) s m args below meth c s.heap [] 0 0 (MQ below (k2_QcV (.int res)) args s 0 0 (fun _ => False)) (F0 m 50 ls [])) : ∀ (x1 : Int32) (x2 : Int32) (x3 : Int32) (x5 : Int32) (t0 : Int32) (ls : Array Slot), fX0_hot_157 N S k50 x1 x2 x3 x5 t0 = some res → lv_has ls 9 [(0, .ref o), (1, .int x1), (2, .int x2), (3, .int x3), (5, .int x5)] → W p l e (rmL 2) s m args below meth c s.heap [] 0 0 (MQ below (k2_QcV (.int res)) args s 0 0 (fun _ => False)) (F0 m 157 ls [.int t0]) := by
  have hx := X.1
  have hb := X.2.1
  intro x1 x2 x3 x5 t0 ls hf hl
  unfold fX0_hot_157 at hf
  refine lv_istore (lv' := [(4, .int t0), (0, .ref o), (1, .int x1), (2, .int x2), (3, .int x3), (5, .int x5)]) hx hb dX0_hot_157 hl (by decide) rfl (fun ls hl => ?_)
  exact bX0_hot_159 X hr hlk hM Hk50 x1 x2 x3 t0 x5 _ hf (lv_sub hl [1, 2, 3, 4, 0, 5] rfl)
noncomputable def fX0_hot_81 (N : Nat) (S : sX) (k50 : Int32 → Int32 → Int32 → Int32 → Int32 → Option Int32) (x1 : Int32) (x2 : Int32) (x3 : Int32) (x4 : Int32) (x5 : Int32) : Option Int32 :=
  fX0_hot_87 N S (fun x1_8 x2_9 x3_10 x4_11 x5_12 x6_13 =>
    (ec_ag (S.2.1 10) 8 x1_8).bind fun v_14 =>
    if (lg_cmp ((100 : Int64) * x6_13) ((x2_9.toInt64) * (v_14.toInt64))) < 0 then (
      fX0_hot_157 N S k50 x1_8 x2_9 x3_10 x5_12 x4_11)
    else (
      fX0_hot_157 N S k50 x1_8 x2_9 x3_10 x5_12 x5_12)) N x1 x2 x3 x4 x5 (0 : Int64) (0 : Int32)
theorem bX0_hot_81 {N : Nat} (X : CallFix p m c cX0_hot 9 s args lw_all RX0) (hr : meth.sig.returnType = (some .int)) (hlk : meth.locks = false) {S : sX} (hM : XW D dA o q S A s s.heap []) {res : Int32} {k50 : Int32 → Int32 → Int32 → Int32 → Int32 → Option Int32} (Hk50 : ∀ (x1 : Int32) (x2 : Int32) (x3 : Int32) (x4 : Int32) (x5 : Int32) (ls : Array Slot), k50 x1 x2 x3 x4 x5 = some res → lv_has ls 9 [(0, .ref o), (1, .int x1), (2, .int x2), (3, .int x3), (4, .int x4), (5, .int x5)] → W p l e (rmL 2) s m args below meth c s.heap [] 0 0 (MQ below (k2_QcV (.int res)) args s 0 0 (fun _ => False)) (F0 m 50 ls [])) : ∀ (x1 : Int32) (x2 : Int32) (x3 : Int32) (x4 : Int32) (x5 : Int32) (ls : Array Slot), fX0_hot_81 N S k50 x1 x2 x3 x4 x5 = some res → lv_has ls 9 [(0, .ref o), (1, .int x1), (2, .int x2), (3, .int x3), (4, .int x4), (5, .int x5)] → W p l e (rmL 2) s m args below meth c s.heap [] 0 0 (MQ below (k2_QcV (.int res)) args s 0 0 (fun _ => False)) (F0 m 81 ls []) := by
  have hx := X.1
  have hb := X.2.1
  intro x1 x2 x3 x4 x5 ls hf hl
  unfold fX0_hot_81 at hf
  refine lv_lconst (v := 0) hx hb dX0_hot_81 (by decide) ?_
  refine lv_lstore (lv' := [(6, .long (0 : Int64)), (0, .ref o), (1, .int x1), (2, .int x2), (3, .int x3), (4, .int x4), (5, .int x5)]) hx hb dX0_hot_82 hl (by decide) rfl (fun ls hl => ?_)
  refine lv_iconst (v := 0) hx hb dX0_hot_84 (by decide) ?_
  refine lv_istore (lv' := [(8, .int (0 : Int32)), (6, .long (0 : Int64)), (0, .ref o), (1, .int x1), (2, .int x2), (3, .int x3), (4, .int x4), (5, .int x5)]) hx hb dX0_hot_85 hl (by decide) rfl (fun ls hl => ?_)
  exact bX0_hot_87 X hr hlk hM (fun x1_8 x2_9 x3_10 x4_11 x5_12 x6_13 ls hf hl => by
    refine lv_ldc2 (own := RX0) (v := 100) hx hb X.2.2.2.1 (X.2.2.2.2 _ q546) dX0_hot_130 ?_
    refine lv_lload hx hb dX0_hot_133 (lv_at hl 6 rfl) ?_
    refine lv_lmul hx hb dX0_hot_135 ?_
    refine lv_iload_n hx hb dX0_hot_136 rfl (lv_at hl 2 rfl) ?_
    refine lv_i2l hx hb dX0_hot_137 rfl ?_
    refine lv_aload_n hx hb dX0_hot_138 rfl (lv_at hl 0 rfl) ?_
    refine x_get (v := .ref (q 10)) X hM 10 (by decide) q778 rfl rfl dX0_hot_139 ?_
    refine lv_iload_n hx hb dX0_hot_142 rfl (lv_at hl 1 rfl) ?_
    obtain ⟨v_14, h, hf⟩ := ec_bi hf
    refine x_iald X hM wxa10 h dX0_hot_143 ?_
    refine lv_i2l hx hb dX0_hot_144 rfl ?_
    refine lv_lmul hx hb dX0_hot_145 ?_
    refine W.lcmp hx hb dX0_hot_146 ?_
    refine lv_if_lt (tgt := 155) hx hb dX0_hot_147 rfl (fun cnd => ?_) (fun cnd => ?_)
    · have hf := ec_t cnd hf
      refine lv_iload hx hb dX0_hot_155 (lv_at hl 4 rfl) ?_
      exact bX0_hot_157 X hr hlk hM Hk50 x1_8 x2_9 x3_10 x5_12 x4_11 _ hf (lv_sub hl [0, 1, 2, 3, 5] rfl)
    · have hf := ec_f cnd hf
      refine lv_iload hx hb dX0_hot_150 (lv_at hl 5 rfl) ?_
      refine lv_goto (tgt := 157) hx hb dX0_hot_152 rfl ?_
      exact bX0_hot_157 X hr hlk hM Hk50 x1_8 x2_9 x3_10 x5_12 x5_12 _ hf (lv_sub hl [0, 1, 2, 3, 5] rfl)) N x1 x2 x3 x4 x5 (0 : Int64) (0 : Int32) _ hf (lv_sub hl [2, 3, 4, 5, 6, 7, 1, 0] rfl)
noncomputable def fX0_hot_50 (N : Nat) (S : sX) (kx165 : Int32 → Int32 → Option Int32) : Nat → Int32 → Int32 → Int32 → Int32 → Int32 → Option Int32
  | 0, _, _, _, _, _ => none
  | n + 1, x1, x2, x3, x4, x5 =>
    if ((1 : Int32) <<< ((S.1 4) &&& 31)) ≤ x5 then (
      kx165 x3 x4)
    else (
      if x4 = (-4 : Int32) then (
        fX0_hot_81 N S (fX0_hot_50 N S kx165 n) x1 x2 x3 x4 x5)
      else (
        (fJ9_bitCount x5).bind fun v_16 =>
        (fJ9_bitCount x4).bind fun v_17 =>
        if v_17 ≤ v_16 then (
          fX0_hot_159 N S (fX0_hot_50 N S kx165 n) x1 x2 x3 x4 x5)
        else (
          fX0_hot_81 N S (fX0_hot_50 N S kx165 n) x1 x2 x3 x4 x5)))
theorem bX0_hot_50 {N : Nat} (X : CallFix p m c cX0_hot 9 s args lw_all RX0) (hr : meth.sig.returnType = (some .int)) (hlk : meth.locks = false) {S : sX} (hM : XW D dA o q S A s s.heap []) {res : Int32} {kx165 : Int32 → Int32 → Option Int32} (Hkx165 : ∀ (x3 : Int32) (x4 : Int32) (ls : Array Slot), kx165 x3 x4 = some res → lv_has ls 9 [(0, .ref o), (3, .int x3), (4, .int x4)] → W p l e (rmL 2) s m args below meth c s.heap [] 0 0 (MQ below (k2_QcV (.int res)) args s 0 0 (fun _ => False)) (F0 m 165 ls [])) : ∀ (n : Nat) (x1 : Int32) (x2 : Int32) (x3 : Int32) (x4 : Int32) (x5 : Int32) (ls : Array Slot), fX0_hot_50 N S kx165 n x1 x2 x3 x4 x5 = some res → lv_has ls 9 [(0, .ref o), (1, .int x1), (2, .int x2), (3, .int x3), (4, .int x4), (5, .int x5)] → W p l e (rmL 2) s m args below meth c s.heap [] 0 0 (MQ below (k2_QcV (.int res)) args s 0 0 (fun _ => False)) (F0 m 50 ls []) := by
  have hx := X.1
  have hb := X.2.1
  intro n
  induction n with
  | zero =>
    intro x1 x2 x3 x4 x5 ls hf hl
    rw [fX0_hot_50] at hf
    cases hf
  | succ n ih =>
    intro x1 x2 x3 x4 x5 ls hf hl
    rw [fX0_hot_50] at hf
    refine lv_iload hx hb dX0_hot_50 (lv_at hl 5 rfl) ?_
    refine lv_iconst (v := 1) hx hb dX0_hot_52 (by decide) ?_
    refine lv_aload_n hx hb dX0_hot_53 rfl (lv_at hl 0 rfl) ?_
    refine x_get (v := .int (S.1 4)) X hM 4 (by decide) q772 rfl rfl dX0_hot_54 ?_
    refine lv_ishl hx hb dX0_hot_57 ?_
    refine lv_icmp_ge (tgt := 165) hx hb dX0_hot_58 rfl (fun cnd => ?_) (fun cnd => ?_)
    · have hf := ec_t cnd hf
      exact Hkx165 x3 x4 _ hf (lv_sub hl [0, 3, 4] rfl)
    · have hf := ec_f cnd hf
      refine lv_iload hx hb dX0_hot_61 (lv_at hl 4 rfl) ?_
      refine lv_bipush (v := -4) hx hb dX0_hot_63 (by decide) ?_
      refine lv_icmp_eq (tgt := 81) hx hb dX0_hot_65 rfl (fun cnd => ?_) (fun cnd => ?_)
      · have hf := ec_t cnd hf
        exact bX0_hot_81 X hr hlk hM ih x1 x2 x3 x4 x5 _ hf hl
      · have hf := ec_f cnd hf
        refine lv_iload hx hb dX0_hot_68 (lv_at hl 5 rfl) ?_
        obtain ⟨v_16, h, hf⟩ := ec_bi hf
        refine e_cS (v := .int v_16) (As := [.int x5]) (rest := []) X (metJ9_bitCount l x5 _ h) (va_cwS 1 X.2.2.2.2 gX0_158 rfl rfl rfl hJ9_bitCount (rm_le (Nat.le_of_ble_eq_true rfl) (Nat.le_of_ble_eq_true rfl))) rfl hl.1 rfl (Nat.le_of_ble_eq_true rfl) ⟨Nat.zero_le _, Nat.zero_le _⟩ dX0_hot_70 ?_
        refine lv_iload hx hb dX0_hot_73 (lv_at hl 4 rfl) ?_
        obtain ⟨v_17, h, hf⟩ := ec_bi hf
        refine e_cS (v := .int v_17) (As := [.int x4]) (rest := [.int v_16]) X (metJ9_bitCount l x4 _ h) (va_cwS 1 X.2.2.2.2 gX0_158 rfl rfl rfl hJ9_bitCount (rm_le (Nat.le_of_ble_eq_true rfl) (Nat.le_of_ble_eq_true rfl))) rfl hl.1 rfl (Nat.le_of_ble_eq_true rfl) ⟨Nat.zero_le _, Nat.zero_le _⟩ dX0_hot_75 ?_
        refine lv_icmp_ge (tgt := 159) hx hb dX0_hot_78 rfl (fun cnd => ?_) (fun cnd => ?_)
        · have hf := ec_t cnd hf
          exact bX0_hot_159 X hr hlk hM ih x1 x2 x3 x4 x5 _ hf hl
        · have hf := ec_f cnd hf
          exact bX0_hot_81 X hr hlk hM ih x1 x2 x3 x4 x5 _ hf hl
noncomputable def fX0_hot (N : Nat) (S : sX) (x1 : Int32) (x2 : Int32) (x3 : Int32) : Option Int32 :=
  (fX0_isEvent x1).bind fun v_1 =>
  if v_1 = 0 then (
    fX0_hot_29 N S)
  else (
    (fX0_isIn (x2.toInt64) (1 : Int64) (100 : Int64)).bind fun v_2 =>
    if v_2 = 0 then (
      fX0_hot_29 N S)
    else (
      (fX0_isIn (x3.toInt64) (0 : Int64) (1 : Int64)).bind fun v_3 =>
      if ¬ v_3 = 0 then (
        (ec_ag (S.2.1 10) 8 x1).bind fun v_4 =>
        if ¬ v_4 = 0 then (
          fX0_hot_50 N S (fun x3_18 x4_19 =>
            if ¬ x3_18 = 0 then (
              some x4_19)
            else (
              (fJ9_bitCount x4_19).bind fun v_20 =>
              some v_20)) N x1 x2 x3 (-4 : Int32) (0 : Int32))
        else (
          some (-4 : Int32)))
      else (
        fX0_hot_29 N S)))
theorem metX0_hot (l : Launch) (D : va_G) (dA : Nat → ClassId) (o : Nat) (q : Nat → Nat) (N : Nat) (S : sX) (x1 : Int32) (x2 : Int32) (x3 : Int32) (res : Int32) (hf : fX0_hot N S x1 x2 x3 = some res) : Met l yX0_hot (ws_ yX0_hot cX0_hot 9 (some .int)) (rmL 2) (XPre D dA o q S [.int x1, .int x2, .int x3]) (k2_QcV (.int res)) 0 0 (fun _ => False) := by
  refine x_ofR rfl (Nat.le_of_ble_eq_true rfl) (fun p e s m args below meth c X hr hlk hM ls hl => ?_)
  have hl : lv_has ls 9 [(0, .ref o), (1, .int x1), (2, .int x2), (3, .int x3)] := hl
  have hx := X.1
  have hb := X.2.1
  unfold fX0_hot at hf
  refine lv_iload_n hx hb dX0_hot_0 rfl (lv_at hl 1 rfl) ?_
  obtain ⟨v_1, h, hf⟩ := ec_bi hf
  refine e_cS (v := .int v_1) (As := [.int x1]) (rest := []) X (metX0_isEvent l x1 _ h) (va_cwS 1 X.2.2.2.2 gX0_125 rfl rfl rfl hX0_isEvent (rm_le (Nat.le_of_ble_eq_true rfl) (Nat.le_of_ble_eq_true rfl))) rfl hl.1 rfl (Nat.le_of_ble_eq_true rfl) ⟨Nat.zero_le _, Nat.zero_le _⟩ dX0_hot_1 ?_
  refine lv_if_eq (tgt := 29) hx hb dX0_hot_4 rfl (fun cnd => ?_) (fun cnd => ?_)
  · have hf := ec_t cnd hf
    exact bX0_hot_29 X hr hlk hM _ hf (lv_sub hl [0] rfl)
  · have hf := ec_f cnd hf
    refine lv_iload_n hx hb dX0_hot_7 rfl (lv_at hl 2 rfl) ?_
    refine lv_i2l hx hb dX0_hot_8 rfl ?_
    refine lv_lconst (v := 1) hx hb dX0_hot_9 (by decide) ?_
    refine lv_ldc2 (own := RX0) (v := 100) hx hb X.2.2.2.1 (X.2.2.2.2 _ q546) dX0_hot_10 ?_
    obtain ⟨v_2, h, hf⟩ := ec_bi hf
    refine e_cS (v := .int v_2) (As := [.long (x2.toInt64), .long (1 : Int64), .long (100 : Int64)]) (rest := []) X (metX0_isIn l (x2.toInt64) (1 : Int64) (100 : Int64) _ h) (va_cwS 3 X.2.2.2.2 gX0_21 rfl rfl rfl hX0_isIn (rm_le (Nat.le_of_ble_eq_true rfl) (Nat.le_of_ble_eq_true rfl))) rfl hl.1 rfl (Nat.le_of_ble_eq_true rfl) ⟨Nat.zero_le _, Nat.zero_le _⟩ dX0_hot_13 ?_
    refine lv_if_eq (tgt := 29) hx hb dX0_hot_16 rfl (fun cnd => ?_) (fun cnd => ?_)
    · have hf := ec_t cnd hf
      exact bX0_hot_29 X hr hlk hM _ hf (lv_sub hl [0] rfl)
    · have hf := ec_f cnd hf
      refine lv_iload_n hx hb dX0_hot_19 rfl (lv_at hl 3 rfl) ?_
      refine lv_i2l hx hb dX0_hot_20 rfl ?_
      refine lv_lconst (v := 0) hx hb dX0_hot_21 (by decide) ?_
      refine lv_lconst (v := 1) hx hb dX0_hot_22 (by decide) ?_
      obtain ⟨v_3, h, hf⟩ := ec_bi hf
      refine e_cS (v := .int v_3) (As := [.long (x3.toInt64), .long (0 : Int64), .long (1 : Int64)]) (rest := []) X (metX0_isIn l (x3.toInt64) (0 : Int64) (1 : Int64) _ h) (va_cwS 3 X.2.2.2.2 gX0_21 rfl rfl rfl hX0_isIn (rm_le (Nat.le_of_ble_eq_true rfl) (Nat.le_of_ble_eq_true rfl))) rfl hl.1 rfl (Nat.le_of_ble_eq_true rfl) ⟨Nat.zero_le _, Nat.zero_le _⟩ dX0_hot_23 ?_
      refine lv_if_ne (tgt := 31) hx hb dX0_hot_26 rfl (fun cnd => ?_) (fun cnd => ?_)
      · have hf := ec_t cnd hf
        refine lv_aload_n hx hb dX0_hot_31 rfl (lv_at hl 0 rfl) ?_
        refine x_get (v := .ref (q 10)) X hM 10 (by decide) q778 rfl rfl dX0_hot_32 ?_
        refine lv_iload_n hx hb dX0_hot_35 rfl (lv_at hl 1 rfl) ?_
        obtain ⟨v_4, h, hf⟩ := ec_bi hf
        refine x_iald X hM wxa10 h dX0_hot_36 ?_
        refine lv_if_ne (tgt := 43) hx hb dX0_hot_37 rfl (fun cnd => ?_) (fun cnd => ?_)
        · have hf := ec_t cnd hf
          refine lv_bipush (v := -4) hx hb dX0_hot_43 (by decide) ?_
          refine lv_istore (lv' := [(4, .int (-4 : Int32)), (0, .ref o), (1, .int x1), (2, .int x2), (3, .int x3)]) hx hb dX0_hot_45 hl (by decide) rfl (fun ls hl => ?_)
          refine lv_iconst (v := 0) hx hb dX0_hot_47 (by decide) ?_
          refine lv_istore (lv' := [(5, .int (0 : Int32)), (4, .int (-4 : Int32)), (0, .ref o), (1, .int x1), (2, .int x2), (3, .int x3)]) hx hb dX0_hot_48 hl (by decide) rfl (fun ls hl => ?_)
          exact bX0_hot_50 X hr hlk hM (fun x3_18 x4_19 ls hf hl => by
            refine lv_iload_n hx hb dX0_hot_165 rfl (lv_at hl 1 rfl) ?_
            refine lv_if_ne (tgt := 177) hx hb dX0_hot_166 rfl (fun cnd => ?_) (fun cnd => ?_)
            · have hf := ec_t cnd hf
              refine lv_iload hx hb dX0_hot_177 (lv_at hl 2 rfl) ?_
              obtain rfl := Option.some.inj hf
              exact e_iretR hx hb hr hlk dX0_hot_179
            · have hf := ec_f (not_not_intro cnd) hf
              refine lv_iload hx hb dX0_hot_169 (lv_at hl 2 rfl) ?_
              obtain ⟨v_20, h, hf⟩ := ec_bi hf
              refine e_cS (v := .int v_20) (As := [.int x4_19]) (rest := []) X (metJ9_bitCount l x4_19 _ h) (va_cwS 1 X.2.2.2.2 gX0_158 rfl rfl rfl hJ9_bitCount (rm_le (Nat.le_of_ble_eq_true rfl) (Nat.le_of_ble_eq_true rfl))) rfl hl.1 rfl (Nat.le_of_ble_eq_true rfl) ⟨Nat.zero_le _, Nat.zero_le _⟩ dX0_hot_171 ?_
              refine lv_goto (tgt := 179) hx hb dX0_hot_174 rfl ?_
              obtain rfl := Option.some.inj hf
              exact e_iretR hx hb hr hlk dX0_hot_179) N x1 x2 x3 (-4 : Int32) (0 : Int32) _ hf (lv_sub hl [2, 3, 4, 5, 1, 0] rfl)
        · have hf := ec_f (not_not_intro cnd) hf
          refine lv_bipush (v := -4) hx hb dX0_hot_40 (by decide) ?_
          obtain rfl := Option.some.inj hf
          exact e_iretR hx hb hr hlk dX0_hot_42
      · have hf := ec_f (not_not_intro cnd) hf
        exact bX0_hot_29 X hr hlk hM _ hf (lv_sub hl [0] rfl)
theorem hX0_hot : yX0_hot.cls = RX0 ∧ yX0_hot.cls ≠ "java/lang/invoke/MethodHandle" ∧ yX0_hot.cls ≠ "java/lang/invoke/VarHandle" ∧ (parseMethodDescriptor yX0_hot.desc).map (fun d => d.parameters.length) = some 3 := by decide +kernel

noncomputable def fX0_keep_41 (N : Nat) (k10 : sX → Int32 → Int32 → Option (Int32 × sX)) (S : sX) (x1 : Int32) (x2 : Int32) (t0 : Int32) (t1 : Int32) (t2 : Nat) : Option (Int32 × sX) :=
  (hAsI 0 S.2.2.2 t2 t1 t0).bind fun h_3 =>
  ec_lt (xH S h_3) fun S_4 =>
  ec_lt (x2 + (1 : Int32)) fun x2_5 =>
  k10 S_4 x1 x2_5
theorem bX0_keep_41 {N : Nat} (X : CallFix p m c cX0_keep 3 s args lw_all RX0) (hr : meth.sig.returnType = (some .int)) (hlk : meth.locks = false) {res : Int32} {Sr : sX} {k10 : sX → Int32 → Int32 → Option (Int32 × sX)} (Hk10 : ∀ (S : sX) (x1 : Int32) (x2 : Int32) (H : Heap) (locs : List Loc) (ls : Array Slot), k10 S x1 x2 = some (res, Sr) → XW D dA o q S A s H locs → lv_has ls 3 [(0, .ref o), (1, .int x1), (2, .int x2)] → W p l e (rmL 2) s m args below meth c H locs 0 0 (MQ below (XPost D dA o q A (some (.int res)) Sr) args s 0 0 A) (F0 m 10 ls [])) : ∀ (S : sX) (x1 : Int32) (x2 : Int32) (t0 : Int32) (t1 : Int32) (t2 : Nat) (H : Heap) (locs : List Loc) (ls : Array Slot), fX0_keep_41 N k10 S x1 x2 t0 t1 t2 = some (res, Sr) → XW D dA o q S A s H locs → lv_has ls 3 [(0, .ref o), (1, .int x1), (2, .int x2)] → W p l e (rmL 2) s m args below meth c H locs 0 0 (MQ below (XPost D dA o q A (some (.int res)) Sr) args s 0 0 A) (F0 m 41 ls [.int t0, .int t1, .ref t2]) := by
  have hx := X.1
  have hb := X.2.1
  intro S x1 x2 t0 t1 t2 H locs ls hf hM hl
  unfold fX0_keep_41 at hf
  obtain ⟨h_3, h, hf⟩ := ec_bi hf
  refine h_iast X hM h dX0_keep_41 (fun H locs hM => ?_)
  obtain ⟨S_4, eS, hM⟩ := x_nm hM
  have hf := ec_lt_i eS hf
  refine e_inc (w := 1) (f := fun v => [(2, .int v), (0, .ref o), (1, .int x1)]) hx hb dX0_keep_42 hl (k := 2) rfl (by decide) (by decide) (fun _ => rfl) (fun x2_5 ex ls hl => ?_)
  have hf := ec_lt_i ex hf
  refine lv_goto (tgt := 10) hx hb dX0_keep_45 rfl ?_
  exact Hk10 S_4 x1 x2_5 _ _ _ hf hM (lv_sub hl [1, 2, 0] rfl)
noncomputable def fX0_keep_10 (N : Nat) (kx48 : sX → Int32 → Option (Int32 × sX)) : Nat → sX → Int32 → Int32 → Option (Int32 × sX)
  | 0, _, _, _ => none
  | n + 1, S, x1, x2 =>
    if (8 : Int32) ≤ x2 then (
      kx48 S x1)
    else (
      (hAr 9 S.2.2.2 (S.2.2.1 11) x1).bind fun v_1 =>
      (fX0_isLine S x1).bind fun v_2 =>
      if v_2 = 0 then (
        fX0_keep_41 N (fX0_keep_10 N kx48 n) S x1 x2 (0 : Int32) x2 v_1)
      else (
        (fX0_made S x1 x2).bind fun v_6 =>
        fX0_keep_41 N (fX0_keep_10 N kx48 n) S x1 x2 v_6 x2 v_1))
theorem bX0_keep_10 {N : Nat} (X : CallFix p m c cX0_keep 3 s args lw_all RX0) (hr : meth.sig.returnType = (some .int)) (hlk : meth.locks = false) {res : Int32} {Sr : sX} {kx48 : sX → Int32 → Option (Int32 × sX)} (Hkx48 : ∀ (S : sX) (x1 : Int32) (H : Heap) (locs : List Loc) (ls : Array Slot), kx48 S x1 = some (res, Sr) → XW D dA o q S A s H locs → lv_has ls 3 [(0, .ref o), (1, .int x1)] → W p l e (rmL 2) s m args below meth c H locs 0 0 (MQ below (XPost D dA o q A (some (.int res)) Sr) args s 0 0 A) (F0 m 48 ls [])) : ∀ (n : Nat) (S : sX) (x1 : Int32) (x2 : Int32) (H : Heap) (locs : List Loc) (ls : Array Slot), fX0_keep_10 N kx48 n S x1 x2 = some (res, Sr) → XW D dA o q S A s H locs → lv_has ls 3 [(0, .ref o), (1, .int x1), (2, .int x2)] → W p l e (rmL 2) s m args below meth c H locs 0 0 (MQ below (XPost D dA o q A (some (.int res)) Sr) args s 0 0 A) (F0 m 10 ls []) := by
  have hx := X.1
  have hb := X.2.1
  intro n
  induction n with
  | zero =>
    intro S x1 x2 H locs ls hf hM hl
    rw [fX0_keep_10] at hf
    cases hf
  | succ n ih =>
    intro S x1 x2 H locs ls hf hM hl
    rw [fX0_keep_10] at hf
    refine lv_iload_n hx hb dX0_keep_10 rfl (lv_at hl 2 rfl) ?_
    refine lv_bipush (v := 8) hx hb dX0_keep_11 (by decide) ?_
    refine lv_icmp_ge (tgt := 48) hx hb dX0_keep_13 rfl (fun cnd => ?_) (fun cnd => ?_)
    · have hf := ec_t cnd hf
      exact Hkx48 S x1 _ _ _ hf hM (lv_sub hl [0, 1] rfl)
    · have hf := ec_f cnd hf
      refine lv_aload_n hx hb dX0_keep_16 rfl (lv_at hl 0 rfl) ?_
      refine x_get (v := .ref (S.2.2.1 11)) X hM 11 (by decide) q779 rfl rfl dX0_keep_17 ?_
      refine lv_iload_n hx hb dX0_keep_20 rfl (lv_at hl 1 rfl) ?_
      obtain ⟨v_1, h, hf⟩ := ec_bi hf
      refine h_aald (t := 9) X hM rfl rfl h dX0_keep_21 ?_
      refine lv_iload_n hx hb dX0_keep_22 rfl (lv_at hl 2 rfl) ?_
      refine lv_aload_n hx hb dX0_keep_23 rfl (lv_at hl 0 rfl) ?_
      refine lv_iload_n hx hb dX0_keep_24 rfl (lv_at hl 1 rfl) ?_
      obtain ⟨v_2, h, hf⟩ := ec_bi hf
      refine x_cR (v := .int v_2) (As := [.int x1]) (rest := [.int x2, .ref v_1]) X hM (metX0_isLine l D dA o q S x1 _ h) (cwV 1 X.2.2.2.2 gX0_114 rfl rfl rfl hX0_isLine (rm_le (Nat.le_of_ble_eq_true rfl) (Nat.le_of_ble_eq_true rfl))) rfl hl.1 rfl (Nat.le_of_ble_eq_true rfl) ⟨Nat.zero_le _, Nat.zero_le _⟩ dX0_keep_25 ?_
      refine lv_if_eq (tgt := 40) hx hb dX0_keep_28 rfl (fun cnd => ?_) (fun cnd => ?_)
      · have hf := ec_t cnd hf
        refine lv_iconst (v := 0) hx hb dX0_keep_40 (by decide) ?_
        exact bX0_keep_41 X hr hlk ih S x1 x2 (0 : Int32) x2 v_1 _ _ _ hf hM hl
      · have hf := ec_f cnd hf
        refine lv_aload_n hx hb dX0_keep_31 rfl (lv_at hl 0 rfl) ?_
        refine lv_iload_n hx hb dX0_keep_32 rfl (lv_at hl 1 rfl) ?_
        refine lv_iload_n hx hb dX0_keep_33 rfl (lv_at hl 2 rfl) ?_
        obtain ⟨v_6, h, hf⟩ := ec_bi hf
        refine x_cR (v := .int v_6) (As := [.int x1, .int x2]) (rest := [.int x2, .ref v_1]) X hM (metX0_made l D dA o q S x1 x2 _ h) (cwV 2 X.2.2.2.2 gX0_163 rfl rfl rfl hX0_made (rm_le (Nat.le_of_ble_eq_true rfl) (Nat.le_of_ble_eq_true rfl))) rfl hl.1 rfl (Nat.le_of_ble_eq_true rfl) ⟨Nat.zero_le _, Nat.zero_le _⟩ dX0_keep_34 ?_
        refine lv_goto (tgt := 41) hx hb dX0_keep_37 rfl ?_
        exact bX0_keep_41 X hr hlk ih S x1 x2 v_6 x2 v_1 _ _ _ hf hM hl
noncomputable def fX0_keep_2 (N : Nat) (kx54 : sX → Option (Int32 × sX)) : Nat → sX → Int32 → Option (Int32 × sX)
  | 0, _, _ => none
  | n + 1, S, x1 =>
    if (16 : Int32) ≤ x1 then (
      kx54 S)
    else (
      fX0_keep_10 N (fun S_7 x1_8 =>
        ec_lt (x1_8 + (1 : Int32)) fun x1_9 =>
        (fX0_keep_2 N kx54 n) S_7 x1_9) N S x1 (0 : Int32))
theorem bX0_keep_2 {N : Nat} (X : CallFix p m c cX0_keep 3 s args lw_all RX0) (hr : meth.sig.returnType = (some .int)) (hlk : meth.locks = false) {res : Int32} {Sr : sX} {kx54 : sX → Option (Int32 × sX)} (Hkx54 : ∀ (S : sX) (H : Heap) (locs : List Loc) (ls : Array Slot), kx54 S = some (res, Sr) → XW D dA o q S A s H locs → lv_has ls 3 [(0, .ref o)] → W p l e (rmL 2) s m args below meth c H locs 0 0 (MQ below (XPost D dA o q A (some (.int res)) Sr) args s 0 0 A) (F0 m 54 ls [])) : ∀ (n : Nat) (S : sX) (x1 : Int32) (H : Heap) (locs : List Loc) (ls : Array Slot), fX0_keep_2 N kx54 n S x1 = some (res, Sr) → XW D dA o q S A s H locs → lv_has ls 3 [(0, .ref o), (1, .int x1)] → W p l e (rmL 2) s m args below meth c H locs 0 0 (MQ below (XPost D dA o q A (some (.int res)) Sr) args s 0 0 A) (F0 m 2 ls []) := by
  have hx := X.1
  have hb := X.2.1
  intro n
  induction n with
  | zero =>
    intro S x1 H locs ls hf hM hl
    rw [fX0_keep_2] at hf
    cases hf
  | succ n ih =>
    intro S x1 H locs ls hf hM hl
    rw [fX0_keep_2] at hf
    refine lv_iload_n hx hb dX0_keep_2 rfl (lv_at hl 1 rfl) ?_
    refine lv_bipush (v := 16) hx hb dX0_keep_3 (by decide) ?_
    refine lv_icmp_ge (tgt := 54) hx hb dX0_keep_5 rfl (fun cnd => ?_) (fun cnd => ?_)
    · have hf := ec_t cnd hf
      exact Hkx54 S _ _ _ hf hM (lv_sub hl [0] rfl)
    · have hf := ec_f cnd hf
      refine lv_iconst (v := 0) hx hb dX0_keep_8 (by decide) ?_
      refine lv_istore_n (lv' := [(2, .int (0 : Int32)), (0, .ref o), (1, .int x1)]) hx hb dX0_keep_9 rfl hl (by decide) rfl (fun ls hl => ?_)
      exact bX0_keep_10 X hr hlk (fun S_7 x1_8 H locs ls hf hM hl => by
        refine e_inc (w := 1) (f := fun v => [(1, .int v), (0, .ref o)]) hx hb dX0_keep_48 hl (k := 1) rfl (by decide) (by decide) (fun _ => rfl) (fun x1_9 ex ls hl => ?_)
        have hf := ec_lt_i ex hf
        refine lv_goto (tgt := 2) hx hb dX0_keep_51 rfl ?_
        exact ih S_7 x1_9 _ _ _ hf hM (lv_sub hl [1, 0] rfl)) N S x1 (0 : Int32) _ _ _ hf hM (lv_sub hl [1, 2, 0] rfl)
noncomputable def fX0_keep (N : Nat) (S : sX) : Option (Int32 × sX) :=
  fX0_keep_2 N (fun S_10 =>
    some ((S_10.1 4), S_10)) N S (0 : Int32)
theorem metX0_keep (l : Launch) (D : va_G) (dA : Nat → ClassId) (o : Nat) (q : Nat → Nat) (N : Nat) (S : sX) (res : Int32) (Sr : sX) (hf : fX0_keep N S = some (res, Sr)) : Met l yX0_keep (ws_ yX0_keep cX0_keep 3 (some .int)) (rmL 2) (XPre D dA o q S []) (XPost D dA o q (XA o q S.2.2.2) (some (.int res)) Sr) 0 0 (XA o q S.2.2.2) := by
  refine x_ofW rfl (Nat.le_of_ble_eq_true rfl) (fun A p e s m args below meth c X hr hlk hM ls hl => ?_)
  have hl : lv_has ls 3 [(0, .ref o)] := hl
  have hx := X.1
  have hb := X.2.1
  unfold fX0_keep at hf
  refine lv_iconst (v := 0) hx hb dX0_keep_0 (by decide) ?_
  refine lv_istore_n (lv' := [(1, .int (0 : Int32)), (0, .ref o)]) hx hb dX0_keep_1 rfl hl (by decide) rfl (fun ls hl => ?_)
  exact bX0_keep_2 X hr hlk (fun S_10 H locs ls hf hM hl => by
    refine lv_aload_n hx hb dX0_keep_54 rfl (lv_at hl 0 rfl) ?_
    refine x_get (v := .int (S_10.1 4)) X hM 4 (by decide) q772 rfl rfl dX0_keep_55 ?_
    obtain ⟨rfl, rfl⟩ := Prod.mk.inj (Option.some.inj hf)
    exact x_iret X hr hlk hM dX0_keep_58) N S (0 : Int32) _ _ _ hf hM (lv_sub hl [1, 0] rfl)
theorem hX0_keep : yX0_keep.cls = RX0 ∧ yX0_keep.cls ≠ "java/lang/invoke/MethodHandle" ∧ yX0_keep.cls ≠ "java/lang/invoke/VarHandle" ∧ (parseMethodDescriptor yX0_keep.desc).map (fun d => d.parameters.length) = some 0 := by decide +kernel

noncomputable def fX0_beside_19 (N : Nat) (S : sX) : Option Int32 :=
  some (-1 : Int32)
theorem bX0_beside_19 {N : Nat} (X : CallFix p m c cX0_beside 10 s args lw_all RX0) (hr : meth.sig.returnType = (some .int)) (hlk : meth.locks = false) {S : sX} (hM : XW D dA o q S A s s.heap []) {res : Int32} : ∀ (ls : Array Slot), fX0_beside_19 N S = some res → lv_has ls 10 [(0, .ref o)] → W p l e (rmL 2) s m args below meth c s.heap [] 0 0 (MQ below (k2_QcV (.int res)) args s 0 0 (fun _ => False)) (F0 m 19 ls []) := by
  have hx := X.1
  have hb := X.2.1
  intro ls hf hl
  unfold fX0_beside_19 at hf
  refine lv_iconst (v := -1) hx hb dX0_beside_19 (by decide) ?_
  obtain rfl := Option.some.inj hf
  exact e_iretR hx hb hr hlk dX0_beside_20
noncomputable def fX0_beside_143 (N : Nat) (S : sX) (k39 : Int32 → Int32 → Int32 → Int32 → Int32 → Int32 → Int32 → Int32 → Option Int32) (x1 : Int32) (x2 : Int32) (x3 : Int32) (x4 : Int32) (x5 : Int32) (x7 : Int32) (x8 : Int32) (x9 : Int32) (t0 : Int32) : Option Int32 :=
  ec_lt (if x7 < (if 0 ≤ x9 then x9 else 0 - x9) then (if 0 ≤ x9 then x9 else 0 - x9) else x7) fun x7_12 =>
  ec_lt (x8 + (1 : Int32)) fun x8_13 =>
  k39 x1 x2 x3 x4 x5 t0 x7_12 x8_13
theorem bX0_beside_143 {N : Nat} (X : CallFix p m c cX0_beside 10 s args lw_all RX0) (hr : meth.sig.returnType = (some .int)) (hlk : meth.locks = false) {S : sX} (hM : XW D dA o q S A s s.heap []) {res : Int32} {k39 : Int32 → Int32 → Int32 → Int32 → Int32 → Int32 → Int32 → Int32 → Option Int32} (Hk39 : ∀ (x1 : Int32) (x2 : Int32) (x3 : Int32) (x4 : Int32) (x5 : Int32) (x6 : Int32) (x7 : Int32) (x8 : Int32) (ls : Array Slot), k39 x1 x2 x3 x4 x5 x6 x7 x8 = some res → lv_has ls 10 [(0, .ref o), (1, .int x1), (2, .int x2), (3, .int x3), (4, .int x4), (5, .int x5), (6, .int x6), (7, .int x7), (8, .int x8)] → W p l e (rmL 2) s m args below meth c s.heap [] 0 0 (MQ below (k2_QcV (.int res)) args s 0 0 (fun _ => False)) (F0 m 39 ls [])) : ∀ (x1 : Int32) (x2 : Int32) (x3 : Int32) (x4 : Int32) (x5 : Int32) (x7 : Int32) (x8 : Int32) (x9 : Int32) (t0 : Int32) (ls : Array Slot), fX0_beside_143 N S k39 x1 x2 x3 x4 x5 x7 x8 x9 t0 = some res → lv_has ls 10 [(0, .ref o), (1, .int x1), (2, .int x2), (3, .int x3), (4, .int x4), (5, .int x5), (7, .int x7), (8, .int x8), (9, .int x9)] → W p l e (rmL 2) s m args below meth c s.heap [] 0 0 (MQ below (k2_QcV (.int res)) args s 0 0 (fun _ => False)) (F0 m 143 ls [.int t0]) := by
  have hx := X.1
  have hb := X.2.1
  intro x1 x2 x3 x4 x5 x7 x8 x9 t0 ls hf hl
  unfold fX0_beside_143 at hf
  refine lv_istore (lv' := [(6, .int t0), (0, .ref o), (1, .int x1), (2, .int x2), (3, .int x3), (4, .int x4), (5, .int x5), (7, .int x7), (8, .int x8), (9, .int x9)]) hx hb dX0_beside_143 hl (by decide) rfl (fun ls hl => ?_)
  refine lv_iload hx hb dX0_beside_145 (lv_at hl 7 rfl) ?_
  refine lv_iload hx hb dX0_beside_147 (lv_at hl 9 rfl) ?_
  refine va_mabs (own := RX0) hx hb (X.2.2.1.trans hl.1.symm) X.2.2.2.1 (X.2.2.2.2 _ q566) (X.2.2.2.2 _ q567) (X.2.2.2.2 _ q79) (X.2.2.2.2 _ q568) (Nat.le_of_ble_eq_true rfl) (Nat.le_of_ble_eq_true rfl) (Nat.zero_le _) (Nat.zero_le _) dX0_beside_149 ?_
  refine va_mmax (own := RX0) hx hb (X.2.2.1.trans hl.1.symm) X.2.2.2.1 (X.2.2.2.2 _ q569) (X.2.2.2.2 _ q570) (X.2.2.2.2 _ q79) (X.2.2.2.2 _ q571) (Nat.le_of_ble_eq_true rfl) (Nat.le_of_ble_eq_true rfl) (Nat.zero_le _) (Nat.zero_le _) dX0_beside_152 ?_
  refine lv_topi (fun x7_12 ex => ?_)
  have hf := ec_lt_i ex hf
  refine lv_istore (lv' := [(7, .int x7_12), (6, .int t0), (0, .ref o), (1, .int x1), (2, .int x2), (3, .int x3), (4, .int x4), (5, .int x5), (8, .int x8), (9, .int x9)]) hx hb dX0_beside_155 hl (by decide) rfl (fun ls hl => ?_)
  refine e_inc (w := 1) (f := fun v => [(8, .int v), (7, .int x7_12), (6, .int t0), (0, .ref o), (1, .int x1), (2, .int x2), (3, .int x3), (4, .int x4), (5, .int x5), (9, .int x9)]) hx hb dX0_beside_157 hl (k := 8) rfl (by decide) (by decide) (fun _ => rfl) (fun x8_13 ex ls hl => ?_)
  have hf := ec_lt_i ex hf
  refine lv_goto (tgt := 39) hx hb dX0_beside_160 rfl ?_
  exact Hk39 x1 x2 x3 x4 x5 t0 x7_12 x8_13 _ hf (lv_sub hl [3, 4, 5, 6, 7, 8, 2, 1, 0] rfl)
noncomputable def fX0_beside_123 (N : Nat) (S : sX) (k39 : Int32 → Int32 → Int32 → Int32 → Int32 → Int32 → Int32 → Int32 → Option Int32) (x1 : Int32) (x2 : Int32) (x3 : Int32) (x4 : Int32) (x6 : Int32) (x7 : Int32) (x8 : Int32) (x9 : Int32) (t0 : Int32) (t1 : Int32) : Option Int32 :=
  ec_lt (t1 ||| t0) fun x5_11 =>
  if (if 0 ≤ x9 then x9 else 0 - x9) ≤ x7 then (
    fX0_beside_143 N S k39 x1 x2 x3 x4 x5_11 x7 x8 x9 x6)
  else (
    fX0_beside_143 N S k39 x1 x2 x3 x4 x5_11 x7 x8 x9 x8)
theorem bX0_beside_123 {N : Nat} (X : CallFix p m c cX0_beside 10 s args lw_all RX0) (hr : meth.sig.returnType = (some .int)) (hlk : meth.locks = false) {S : sX} (hM : XW D dA o q S A s s.heap []) {res : Int32} {k39 : Int32 → Int32 → Int32 → Int32 → Int32 → Int32 → Int32 → Int32 → Option Int32} (Hk39 : ∀ (x1 : Int32) (x2 : Int32) (x3 : Int32) (x4 : Int32) (x5 : Int32) (x6 : Int32) (x7 : Int32) (x8 : Int32) (ls : Array Slot), k39 x1 x2 x3 x4 x5 x6 x7 x8 = some res → lv_has ls 10 [(0, .ref o), (1, .int x1), (2, .int x2), (3, .int x3), (4, .int x4), (5, .int x5), (6, .int x6), (7, .int x7), (8, .int x8)] → W p l e (rmL 2) s m args below meth c s.heap [] 0 0 (MQ below (k2_QcV (.int res)) args s 0 0 (fun _ => False)) (F0 m 39 ls [])) : ∀ (x1 : Int32) (x2 : Int32) (x3 : Int32) (x4 : Int32) (x6 : Int32) (x7 : Int32) (x8 : Int32) (x9 : Int32) (t0 : Int32) (t1 : Int32) (ls : Array Slot), fX0_beside_123 N S k39 x1 x2 x3 x4 x6 x7 x8 x9 t0 t1 = some res → lv_has ls 10 [(0, .ref o), (1, .int x1), (2, .int x2), (3, .int x3), (4, .int x4), (6, .int x6), (7, .int x7), (8, .int x8), (9, .int x9)] → W p l e (rmL 2) s m args below meth c s.heap [] 0 0 (MQ below (k2_QcV (.int res)) args s 0 0 (fun _ => False)) (F0 m 123 ls [.int t0, .int t1]) := by
  have hx := X.1
  have hb := X.2.1
  intro x1 x2 x3 x4 x6 x7 x8 x9 t0 t1 ls hf hl
  unfold fX0_beside_123 at hf
  refine lv_ior hx hb dX0_beside_123 ?_
  refine lv_topi (fun x5_11 ex => ?_)
  have hf := ec_lt_i ex hf
  refine lv_istore (lv' := [(5, .int x5_11), (0, .ref o), (1, .int x1), (2, .int x2), (3, .int x3), (4, .int x4), (6, .int x6), (7, .int x7), (8, .int x8), (9, .int x9)]) hx hb dX0_beside_124 hl (by decide) rfl (fun ls hl => ?_)
  refine lv_iload hx hb dX0_beside_126 (lv_at hl 9 rfl) ?_
  refine va_mabs (own := RX0) hx hb (X.2.2.1.trans hl.1.symm) X.2.2.2.1 (X.2.2.2.2 _ q566) (X.2.2.2.2 _ q567) (X.2.2.2.2 _ q79) (X.2.2.2.2 _ q568) (Nat.le_of_ble_eq_true rfl) (Nat.le_of_ble_eq_true rfl) (Nat.zero_le _) (Nat.zero_le _) dX0_beside_128 ?_
  refine lv_iload hx hb dX0_beside_131 (lv_at hl 7 rfl) ?_
  refine lv_icmp_le (tgt := 141) hx hb dX0_beside_133 rfl (fun cnd => ?_) (fun cnd => ?_)
  · have hf := ec_t cnd hf
    refine lv_iload hx hb dX0_beside_141 (lv_at hl 6 rfl) ?_
    exact bX0_beside_143 X hr hlk hM Hk39 x1 x2 x3 x4 x5_11 x7 x8 x9 x6 _ hf (lv_sub hl [1, 2, 3, 4, 5, 0, 7, 8, 9] rfl)
  · have hf := ec_f cnd hf
    refine lv_iload hx hb dX0_beside_136 (lv_at hl 8 rfl) ?_
    refine lv_goto (tgt := 143) hx hb dX0_beside_138 rfl ?_
    exact bX0_beside_143 X hr hlk hM Hk39 x1 x2 x3 x4 x5_11 x7 x8 x9 x8 _ hf (lv_sub hl [1, 2, 3, 4, 5, 0, 7, 8, 9] rfl)
noncomputable def fX0_beside_105 (N : Nat) (S : sX) (k39 : Int32 → Int32 → Int32 → Int32 → Int32 → Int32 → Int32 → Int32 → Option Int32) (x1 : Int32) (x2 : Int32) (x3 : Int32) (x5 : Int32) (x6 : Int32) (x7 : Int32) (x8 : Int32) (x9 : Int32) (t0 : Int32) (t1 : Int32) : Option Int32 :=
  ec_lt (t1 ||| t0) fun x4_10 =>
  if 0 ≤ x9 then (
    fX0_beside_123 N S k39 x1 x2 x3 x4_10 x6 x7 x8 x9 (0 : Int32) x5)
  else (
    fX0_beside_123 N S k39 x1 x2 x3 x4_10 x6 x7 x8 x9 ((1 : Int32) <<< (x8 &&& 31)) x5)
theorem bX0_beside_105 {N : Nat} (X : CallFix p m c cX0_beside 10 s args lw_all RX0) (hr : meth.sig.returnType = (some .int)) (hlk : meth.locks = false) {S : sX} (hM : XW D dA o q S A s s.heap []) {res : Int32} {k39 : Int32 → Int32 → Int32 → Int32 → Int32 → Int32 → Int32 → Int32 → Option Int32} (Hk39 : ∀ (x1 : Int32) (x2 : Int32) (x3 : Int32) (x4 : Int32) (x5 : Int32) (x6 : Int32) (x7 : Int32) (x8 : Int32) (ls : Array Slot), k39 x1 x2 x3 x4 x5 x6 x7 x8 = some res → lv_has ls 10 [(0, .ref o), (1, .int x1), (2, .int x2), (3, .int x3), (4, .int x4), (5, .int x5), (6, .int x6), (7, .int x7), (8, .int x8)] → W p l e (rmL 2) s m args below meth c s.heap [] 0 0 (MQ below (k2_QcV (.int res)) args s 0 0 (fun _ => False)) (F0 m 39 ls [])) : ∀ (x1 : Int32) (x2 : Int32) (x3 : Int32) (x5 : Int32) (x6 : Int32) (x7 : Int32) (x8 : Int32) (x9 : Int32) (t0 : Int32) (t1 : Int32) (ls : Array Slot), fX0_beside_105 N S k39 x1 x2 x3 x5 x6 x7 x8 x9 t0 t1 = some res → lv_has ls 10 [(0, .ref o), (1, .int x1), (2, .int x2), (3, .int x3), (5, .int x5), (6, .int x6), (7, .int x7), (8, .int x8), (9, .int x9)] → W p l e (rmL 2) s m args below meth c s.heap [] 0 0 (MQ below (k2_QcV (.int res)) args s 0 0 (fun _ => False)) (F0 m 105 ls [.int t0, .int t1]) := by
  have hx := X.1
  have hb := X.2.1
  intro x1 x2 x3 x5 x6 x7 x8 x9 t0 t1 ls hf hl
  unfold fX0_beside_105 at hf
  refine lv_ior hx hb dX0_beside_105 ?_
  refine lv_topi (fun x4_10 ex => ?_)
  have hf := ec_lt_i ex hf
  refine lv_istore (lv' := [(4, .int x4_10), (0, .ref o), (1, .int x1), (2, .int x2), (3, .int x3), (5, .int x5), (6, .int x6), (7, .int x7), (8, .int x8), (9, .int x9)]) hx hb dX0_beside_106 hl (by decide) rfl (fun ls hl => ?_)
  refine lv_iload hx hb dX0_beside_108 (lv_at hl 5 rfl) ?_
  refine lv_iload hx hb dX0_beside_110 (lv_at hl 9 rfl) ?_
  refine lv_if_ge (tgt := 122) hx hb dX0_beside_112 rfl (fun cnd => ?_) (fun cnd => ?_)
  · have hf := ec_t cnd hf
    refine lv_iconst (v := 0) hx hb dX0_beside_122 (by decide) ?_
    exact bX0_beside_123 X hr hlk hM Hk39 x1 x2 x3 x4_10 x6 x7 x8 x9 (0 : Int32) x5 _ hf (lv_sub hl [1, 2, 3, 4, 0, 6, 7, 8, 9] rfl)
  · have hf := ec_f cnd hf
    refine lv_iconst (v := 1) hx hb dX0_beside_115 (by decide) ?_
    refine lv_iload hx hb dX0_beside_116 (lv_at hl 8 rfl) ?_
    refine lv_ishl hx hb dX0_beside_118 ?_
    refine lv_goto (tgt := 123) hx hb dX0_beside_119 rfl ?_
    exact bX0_beside_123 X hr hlk hM Hk39 x1 x2 x3 x4_10 x6 x7 x8 x9 ((1 : Int32) <<< (x8 &&& 31)) x5 _ hf (lv_sub hl [1, 2, 3, 4, 0, 6, 7, 8, 9] rfl)
noncomputable def fX0_beside_66 (N : Nat) (S : sX) (k39 : Int32 → Int32 → Int32 → Int32 → Int32 → Int32 → Int32 → Int32 → Option Int32) (x1 : Int32) (x2 : Int32) (x3 : Int32) (x4 : Int32) (x5 : Int32) (x6 : Int32) (x7 : Int32) (x8 : Int32) (t0 : Int32) : Option Int32 :=
  (hAr 9 S.2.2.2 (S.2.2.1 11) x8).bind fun v_4 =>
  (hAi 0 S.2.2.2 v_4 x1).bind fun v_5 =>
  ec_lt (t0 - v_5) fun x9_6 =>
  (hAr 9 S.2.2.2 (S.2.2.1 11) x8).bind fun v_7 =>
  (hAi 0 S.2.2.2 v_7 x1).bind fun v_8 =>
  ec_lt (x3 + v_8) fun x3_9 =>
  if x9_6 ≤ 0 then (
    fX0_beside_105 N S k39 x1 x2 x3_9 x5 x6 x7 x8 x9_6 (0 : Int32) x4)
  else (
    fX0_beside_105 N S k39 x1 x2 x3_9 x5 x6 x7 x8 x9_6 ((1 : Int32) <<< (x8 &&& 31)) x4)
theorem bX0_beside_66 {N : Nat} (X : CallFix p m c cX0_beside 10 s args lw_all RX0) (hr : meth.sig.returnType = (some .int)) (hlk : meth.locks = false) {S : sX} (hM : XW D dA o q S A s s.heap []) {res : Int32} {k39 : Int32 → Int32 → Int32 → Int32 → Int32 → Int32 → Int32 → Int32 → Option Int32} (Hk39 : ∀ (x1 : Int32) (x2 : Int32) (x3 : Int32) (x4 : Int32) (x5 : Int32) (x6 : Int32) (x7 : Int32) (x8 : Int32) (ls : Array Slot), k39 x1 x2 x3 x4 x5 x6 x7 x8 = some res → lv_has ls 10 [(0, .ref o), (1, .int x1), (2, .int x2), (3, .int x3), (4, .int x4), (5, .int x5), (6, .int x6), (7, .int x7), (8, .int x8)] → W p l e (rmL 2) s m args below meth c s.heap [] 0 0 (MQ below (k2_QcV (.int res)) args s 0 0 (fun _ => False)) (F0 m 39 ls [])) : ∀ (x1 : Int32) (x2 : Int32) (x3 : Int32) (x4 : Int32) (x5 : Int32) (x6 : Int32) (x7 : Int32) (x8 : Int32) (t0 : Int32) (ls : Array Slot), fX0_beside_66 N S k39 x1 x2 x3 x4 x5 x6 x7 x8 t0 = some res → lv_has ls 10 [(0, .ref o), (1, .int x1), (2, .int x2), (3, .int x3), (4, .int x4), (5, .int x5), (6, .int x6), (7, .int x7), (8, .int x8)] → W p l e (rmL 2) s m args below meth c s.heap [] 0 0 (MQ below (k2_QcV (.int res)) args s 0 0 (fun _ => False)) (F0 m 66 ls [.int t0]) := by
  have hx := X.1
  have hb := X.2.1
  intro x1 x2 x3 x4 x5 x6 x7 x8 t0 ls hf hl
  unfold fX0_beside_66 at hf
  refine lv_aload_n hx hb dX0_beside_66 rfl (lv_at hl 0 rfl) ?_
  refine x_get (v := .ref (S.2.2.1 11)) X hM 11 (by decide) q779 rfl rfl dX0_beside_67 ?_
  refine lv_iload hx hb dX0_beside_70 (lv_at hl 8 rfl) ?_
  obtain ⟨v_4, h, hf⟩ := ec_bi hf
  refine h_aald (t := 9) X hM rfl rfl h dX0_beside_72 ?_
  refine lv_iload_n hx hb dX0_beside_73 rfl (lv_at hl 1 rfl) ?_
  obtain ⟨v_5, h, hf⟩ := ec_bi hf
  refine h_iald X hM h dX0_beside_74 ?_
  refine lv_isub hx hb dX0_beside_75 ?_
  refine lv_topi (fun x9_6 ex => ?_)
  have hf := ec_lt_i ex hf
  refine lv_istore (lv' := [(9, .int x9_6), (0, .ref o), (1, .int x1), (2, .int x2), (3, .int x3), (4, .int x4), (5, .int x5), (6, .int x6), (7, .int x7), (8, .int x8)]) hx hb dX0_beside_76 hl (by decide) rfl (fun ls hl => ?_)
  refine lv_iload_n hx hb dX0_beside_78 rfl (lv_at hl 4 rfl) ?_
  refine lv_aload_n hx hb dX0_beside_79 rfl (lv_at hl 1 rfl) ?_
  refine x_get (v := .ref (S.2.2.1 11)) X hM 11 (by decide) q779 rfl rfl dX0_beside_80 ?_
  refine lv_iload hx hb dX0_beside_83 (lv_at hl 9 rfl) ?_
  obtain ⟨v_7, h, hf⟩ := ec_bi hf
  refine h_aald (t := 9) X hM rfl rfl h dX0_beside_85 ?_
  refine lv_iload_n hx hb dX0_beside_86 rfl (lv_at hl 2 rfl) ?_
  obtain ⟨v_8, h, hf⟩ := ec_bi hf
  refine h_iald X hM h dX0_beside_87 ?_
  refine lv_iadd hx hb dX0_beside_88 ?_
  refine lv_topi (fun x3_9 ex => ?_)
  have hf := ec_lt_i ex hf
  refine lv_istore_n (lv' := [(3, .int x3_9), (9, .int x9_6), (0, .ref o), (1, .int x1), (2, .int x2), (4, .int x4), (5, .int x5), (6, .int x6), (7, .int x7), (8, .int x8)]) hx hb dX0_beside_89 rfl hl (by decide) rfl (fun ls hl => ?_)
  refine lv_iload hx hb dX0_beside_90 (lv_at hl 5 rfl) ?_
  refine lv_iload hx hb dX0_beside_92 (lv_at hl 1 rfl) ?_
  refine lv_if_le (tgt := 104) hx hb dX0_beside_94 rfl (fun cnd => ?_) (fun cnd => ?_)
  · have hf := ec_t cnd hf
    refine lv_iconst (v := 0) hx hb dX0_beside_104 (by decide) ?_
    exact bX0_beside_105 X hr hlk hM Hk39 x1 x2 x3_9 x5 x6 x7 x8 x9_6 (0 : Int32) x4 _ hf (lv_sub hl [2, 3, 4, 0, 6, 7, 8, 9, 1] rfl)
  · have hf := ec_f cnd hf
    refine lv_iconst (v := 1) hx hb dX0_beside_97 (by decide) ?_
    refine lv_iload hx hb dX0_beside_98 (lv_at hl 9 rfl) ?_
    refine lv_ishl hx hb dX0_beside_100 ?_
    refine lv_goto (tgt := 105) hx hb dX0_beside_101 rfl ?_
    exact bX0_beside_105 X hr hlk hM Hk39 x1 x2 x3_9 x5 x6 x7 x8 x9_6 ((1 : Int32) <<< (x8 &&& 31)) x4 _ hf (lv_sub hl [2, 3, 4, 0, 6, 7, 8, 9, 1] rfl)
noncomputable def fX0_beside_39 (N : Nat) (S : sX) (kx163 : Int32 → Int32 → Int32 → Int32 → Int32 → Int32 → Option Int32) : Nat → Int32 → Int32 → Int32 → Int32 → Int32 → Int32 → Int32 → Int32 → Option Int32
  | 0, _, _, _, _, _, _, _, _ => none
  | n + 1, x1, x2, x3, x4, x5, x6, x7, x8 =>
    if (16 : Int32) ≤ x8 then (
      kx163 x1 x2 x3 x4 x5 x6)
    else (
      (fX0_isLine S x8).bind fun v_3 =>
      if v_3 = 0 then (
        fX0_beside_66 N S (fX0_beside_39 N S kx163 n) x1 x2 x3 x4 x5 x6 x7 x8 (0 : Int32))
      else (
        (fX0_made S x8 x1).bind fun v_14 =>
        fX0_beside_66 N S (fX0_beside_39 N S kx163 n) x1 x2 x3 x4 x5 x6 x7 x8 v_14))
theorem bX0_beside_39 {N : Nat} (X : CallFix p m c cX0_beside 10 s args lw_all RX0) (hr : meth.sig.returnType = (some .int)) (hlk : meth.locks = false) {S : sX} (hM : XW D dA o q S A s s.heap []) {res : Int32} {kx163 : Int32 → Int32 → Int32 → Int32 → Int32 → Int32 → Option Int32} (Hkx163 : ∀ (x1 : Int32) (x2 : Int32) (x3 : Int32) (x4 : Int32) (x5 : Int32) (x6 : Int32) (ls : Array Slot), kx163 x1 x2 x3 x4 x5 x6 = some res → lv_has ls 10 [(0, .ref o), (1, .int x1), (2, .int x2), (3, .int x3), (4, .int x4), (5, .int x5), (6, .int x6)] → W p l e (rmL 2) s m args below meth c s.heap [] 0 0 (MQ below (k2_QcV (.int res)) args s 0 0 (fun _ => False)) (F0 m 163 ls [])) : ∀ (n : Nat) (x1 : Int32) (x2 : Int32) (x3 : Int32) (x4 : Int32) (x5 : Int32) (x6 : Int32) (x7 : Int32) (x8 : Int32) (ls : Array Slot), fX0_beside_39 N S kx163 n x1 x2 x3 x4 x5 x6 x7 x8 = some res → lv_has ls 10 [(0, .ref o), (1, .int x1), (2, .int x2), (3, .int x3), (4, .int x4), (5, .int x5), (6, .int x6), (7, .int x7), (8, .int x8)] → W p l e (rmL 2) s m args below meth c s.heap [] 0 0 (MQ below (k2_QcV (.int res)) args s 0 0 (fun _ => False)) (F0 m 39 ls []) := by
  have hx := X.1
  have hb := X.2.1
  intro n
  induction n with
  | zero =>
    intro x1 x2 x3 x4 x5 x6 x7 x8 ls hf hl
    rw [fX0_beside_39] at hf
    cases hf
  | succ n ih =>
    intro x1 x2 x3 x4 x5 x6 x7 x8 ls hf hl
    rw [fX0_beside_39] at hf
    refine lv_iload hx hb dX0_beside_39 (lv_at hl 8 rfl) ?_
    refine lv_bipush (v := 16) hx hb dX0_beside_41 (by decide) ?_
    refine lv_icmp_ge (tgt := 163) hx hb dX0_beside_43 rfl (fun cnd => ?_) (fun cnd => ?_)
    · have hf := ec_t cnd hf
      exact Hkx163 x1 x2 x3 x4 x5 x6 _ hf (lv_sub hl [0, 1, 2, 3, 4, 5, 6] rfl)
    · have hf := ec_f cnd hf
      refine lv_aload_n hx hb dX0_beside_46 rfl (lv_at hl 0 rfl) ?_
      refine lv_iload hx hb dX0_beside_47 (lv_at hl 8 rfl) ?_
      obtain ⟨v_3, h, hf⟩ := ec_bi hf
      refine x_cR (v := .int v_3) (As := [.int x8]) (rest := []) X hM (metX0_isLine l D dA o q S x8 _ h) (cwV 1 X.2.2.2.2 gX0_114 rfl rfl rfl hX0_isLine (rm_le (Nat.le_of_ble_eq_true rfl) (Nat.le_of_ble_eq_true rfl))) rfl hl.1 rfl (Nat.le_of_ble_eq_true rfl) ⟨Nat.zero_le _, Nat.zero_le _⟩ dX0_beside_49 ?_
      refine lv_if_eq (tgt := 65) hx hb dX0_beside_52 rfl (fun cnd => ?_) (fun cnd => ?_)
      · have hf := ec_t cnd hf
        refine lv_iconst (v := 0) hx hb dX0_beside_65 (by decide) ?_
        exact bX0_beside_66 X hr hlk hM ih x1 x2 x3 x4 x5 x6 x7 x8 (0 : Int32) _ hf hl
      · have hf := ec_f cnd hf
        refine lv_aload_n hx hb dX0_beside_55 rfl (lv_at hl 0 rfl) ?_
        refine lv_iload hx hb dX0_beside_56 (lv_at hl 8 rfl) ?_
        refine lv_iload_n hx hb dX0_beside_58 rfl (lv_at hl 1 rfl) ?_
        obtain ⟨v_14, h, hf⟩ := ec_bi hf
        refine x_cR (v := .int v_14) (As := [.int x8, .int x1]) (rest := []) X hM (metX0_made l D dA o q S x8 x1 _ h) (cwV 2 X.2.2.2.2 gX0_163 rfl rfl rfl hX0_made (rm_le (Nat.le_of_ble_eq_true rfl) (Nat.le_of_ble_eq_true rfl))) rfl hl.1 rfl (Nat.le_of_ble_eq_true rfl) ⟨Nat.zero_le _, Nat.zero_le _⟩ dX0_beside_59 ?_
        refine lv_goto (tgt := 66) hx hb dX0_beside_62 rfl ?_
        exact bX0_beside_66 X hr hlk hM ih x1 x2 x3 x4 x5 x6 x7 x8 v_14 _ hf hl
noncomputable def fX0_beside (N : Nat) (S : sX) (x1 : Int32) (x2 : Int32) : Option Int32 :=
  (fX0_isEvent x1).bind fun v_1 =>
  if v_1 = 0 then (
    fX0_beside_19 N S)
  else (
    (fX0_isIn (x2.toInt64) (0 : Int64) (4 : Int64)).bind fun v_2 =>
    if ¬ v_2 = 0 then (
      fX0_beside_39 N S (fun x1_15 x2_16 x3_17 x4_18 x5_19 x6_20 =>
        if ¬ x2_16 = 0 then (
          if ¬ x2_16 = (1 : Int32) then (
            if ¬ x2_16 = (2 : Int32) then (
              if ¬ x2_16 = (3 : Int32) then (
                some x6_20)
              else (
                some x5_19))
            else (
              some x4_18))
          else (
            some x3_17))
        else (
          (ec_ag (S.2.1 10) 8 x1_15).bind fun v_21 =>
          some v_21)) N x1 x2 (0 : Int32) (0 : Int32) (0 : Int32) (-4 : Int32) (0 : Int32) (0 : Int32))
    else (
      fX0_beside_19 N S))
theorem metX0_beside (l : Launch) (D : va_G) (dA : Nat → ClassId) (o : Nat) (q : Nat → Nat) (N : Nat) (S : sX) (x1 : Int32) (x2 : Int32) (res : Int32) (hf : fX0_beside N S x1 x2 = some res) : Met l yX0_beside (ws_ yX0_beside cX0_beside 10 (some .int)) (rmL 2) (XPre D dA o q S [.int x1, .int x2]) (k2_QcV (.int res)) 0 0 (fun _ => False) := by
  refine x_ofR rfl (Nat.le_of_ble_eq_true rfl) (fun p e s m args below meth c X hr hlk hM ls hl => ?_)
  have hl : lv_has ls 10 [(0, .ref o), (1, .int x1), (2, .int x2)] := hl
  have hx := X.1
  have hb := X.2.1
  unfold fX0_beside at hf
  refine lv_iload_n hx hb dX0_beside_0 rfl (lv_at hl 1 rfl) ?_
  obtain ⟨v_1, h, hf⟩ := ec_bi hf
  refine e_cS (v := .int v_1) (As := [.int x1]) (rest := []) X (metX0_isEvent l x1 _ h) (va_cwS 1 X.2.2.2.2 gX0_125 rfl rfl rfl hX0_isEvent (rm_le (Nat.le_of_ble_eq_true rfl) (Nat.le_of_ble_eq_true rfl))) rfl hl.1 rfl (Nat.le_of_ble_eq_true rfl) ⟨Nat.zero_le _, Nat.zero_le _⟩ dX0_beside_1 ?_
  refine lv_if_eq (tgt := 19) hx hb dX0_beside_4 rfl (fun cnd => ?_) (fun cnd => ?_)
  · have hf := ec_t cnd hf
    exact bX0_beside_19 X hr hlk hM _ hf (lv_sub hl [0] rfl)
  · have hf := ec_f cnd hf
    refine lv_iload_n hx hb dX0_beside_7 rfl (lv_at hl 2 rfl) ?_
    refine lv_i2l hx hb dX0_beside_8 rfl ?_
    refine lv_lconst (v := 0) hx hb dX0_beside_9 (by decide) ?_
    refine lv_ldc2 (own := RX0) (v := 4) hx hb X.2.2.2.1 (X.2.2.2.2 _ q565) dX0_beside_10 ?_
    obtain ⟨v_2, h, hf⟩ := ec_bi hf
    refine e_cS (v := .int v_2) (As := [.long (x2.toInt64), .long (0 : Int64), .long (4 : Int64)]) (rest := []) X (metX0_isIn l (x2.toInt64) (0 : Int64) (4 : Int64) _ h) (va_cwS 3 X.2.2.2.2 gX0_21 rfl rfl rfl hX0_isIn (rm_le (Nat.le_of_ble_eq_true rfl) (Nat.le_of_ble_eq_true rfl))) rfl hl.1 rfl (Nat.le_of_ble_eq_true rfl) ⟨Nat.zero_le _, Nat.zero_le _⟩ dX0_beside_13 ?_
    refine lv_if_ne (tgt := 21) hx hb dX0_beside_16 rfl (fun cnd => ?_) (fun cnd => ?_)
    · have hf := ec_t cnd hf
      refine lv_iconst (v := 0) hx hb dX0_beside_21 (by decide) ?_
      refine lv_istore_n (lv' := [(3, .int (0 : Int32)), (0, .ref o), (1, .int x1), (2, .int x2)]) hx hb dX0_beside_22 rfl hl (by decide) rfl (fun ls hl => ?_)
      refine lv_iconst (v := 0) hx hb dX0_beside_23 (by decide) ?_
      refine lv_istore (lv' := [(4, .int (0 : Int32)), (3, .int (0 : Int32)), (0, .ref o), (1, .int x1), (2, .int x2)]) hx hb dX0_beside_24 hl (by decide) rfl (fun ls hl => ?_)
      refine lv_iconst (v := 0) hx hb dX0_beside_26 (by decide) ?_
      refine lv_istore (lv' := [(5, .int (0 : Int32)), (4, .int (0 : Int32)), (3, .int (0 : Int32)), (0, .ref o), (1, .int x1), (2, .int x2)]) hx hb dX0_beside_27 hl (by decide) rfl (fun ls hl => ?_)
      refine lv_bipush (v := -4) hx hb dX0_beside_29 (by decide) ?_
      refine lv_istore (lv' := [(6, .int (-4 : Int32)), (5, .int (0 : Int32)), (4, .int (0 : Int32)), (3, .int (0 : Int32)), (0, .ref o), (1, .int x1), (2, .int x2)]) hx hb dX0_beside_31 hl (by decide) rfl (fun ls hl => ?_)
      refine lv_iconst (v := 0) hx hb dX0_beside_33 (by decide) ?_
      refine lv_istore (lv' := [(7, .int (0 : Int32)), (6, .int (-4 : Int32)), (5, .int (0 : Int32)), (4, .int (0 : Int32)), (3, .int (0 : Int32)), (0, .ref o), (1, .int x1), (2, .int x2)]) hx hb dX0_beside_34 hl (by decide) rfl (fun ls hl => ?_)
      refine lv_iconst (v := 0) hx hb dX0_beside_36 (by decide) ?_
      refine lv_istore (lv' := [(8, .int (0 : Int32)), (7, .int (0 : Int32)), (6, .int (-4 : Int32)), (5, .int (0 : Int32)), (4, .int (0 : Int32)), (3, .int (0 : Int32)), (0, .ref o), (1, .int x1), (2, .int x2)]) hx hb dX0_beside_37 hl (by decide) rfl (fun ls hl => ?_)
      exact bX0_beside_39 X hr hlk hM (fun x1_15 x2_16 x3_17 x4_18 x5_19 x6_20 ls hf hl => by
        refine lv_iload_n hx hb dX0_beside_163 rfl (lv_at hl 2 rfl) ?_
        refine lv_if_ne (tgt := 176) hx hb dX0_beside_164 rfl (fun cnd => ?_) (fun cnd => ?_)
        · have hf := ec_t cnd hf
          refine lv_iload_n hx hb dX0_beside_176 rfl (lv_at hl 2 rfl) ?_
          refine lv_iconst (v := 1) hx hb dX0_beside_177 (by decide) ?_
          refine lv_icmp_ne (tgt := 185) hx hb dX0_beside_178 rfl (fun cnd => ?_) (fun cnd => ?_)
          · have hf := ec_t cnd hf
            refine lv_iload_n hx hb dX0_beside_185 rfl (lv_at hl 2 rfl) ?_
            refine lv_iconst (v := 2) hx hb dX0_beside_186 (by decide) ?_
            refine lv_icmp_ne (tgt := 195) hx hb dX0_beside_187 rfl (fun cnd => ?_) (fun cnd => ?_)
            · have hf := ec_t cnd hf
              refine lv_iload_n hx hb dX0_beside_195 rfl (lv_at hl 2 rfl) ?_
              refine lv_iconst (v := 3) hx hb dX0_beside_196 (by decide) ?_
              refine lv_icmp_ne (tgt := 205) hx hb dX0_beside_197 rfl (fun cnd => ?_) (fun cnd => ?_)
              · have hf := ec_t cnd hf
                refine lv_iload hx hb dX0_beside_205 (lv_at hl 6 rfl) ?_
                obtain rfl := Option.some.inj hf
                exact e_iretR hx hb hr hlk dX0_beside_207
              · have hf := ec_f (not_not_intro cnd) hf
                refine lv_iload hx hb dX0_beside_200 (lv_at hl 5 rfl) ?_
                refine lv_goto (tgt := 207) hx hb dX0_beside_202 rfl ?_
                obtain rfl := Option.some.inj hf
                exact e_iretR hx hb hr hlk dX0_beside_207
            · have hf := ec_f (not_not_intro cnd) hf
              refine lv_iload hx hb dX0_beside_190 (lv_at hl 4 rfl) ?_
              refine lv_goto (tgt := 207) hx hb dX0_beside_192 rfl ?_
              obtain rfl := Option.some.inj hf
              exact e_iretR hx hb hr hlk dX0_beside_207
          · have hf := ec_f (not_not_intro cnd) hf
            refine lv_iload_n hx hb dX0_beside_181 rfl (lv_at hl 3 rfl) ?_
            refine lv_goto (tgt := 207) hx hb dX0_beside_182 rfl ?_
            obtain rfl := Option.some.inj hf
            exact e_iretR hx hb hr hlk dX0_beside_207
        · have hf := ec_f (not_not_intro cnd) hf
          refine lv_aload_n hx hb dX0_beside_167 rfl (lv_at hl 0 rfl) ?_
          refine x_get (v := .ref (q 10)) X hM 10 (by decide) q778 rfl rfl dX0_beside_168 ?_
          refine lv_iload_n hx hb dX0_beside_171 rfl (lv_at hl 1 rfl) ?_
          obtain ⟨v_21, h, hf⟩ := ec_bi hf
          refine x_iald X hM wxa10 h dX0_beside_172 ?_
          refine lv_goto (tgt := 207) hx hb dX0_beside_173 rfl ?_
          obtain rfl := Option.some.inj hf
          exact e_iretR hx hb hr hlk dX0_beside_207) N x1 x2 (0 : Int32) (0 : Int32) (0 : Int32) (-4 : Int32) (0 : Int32) (0 : Int32) _ hf (lv_sub hl [6, 7, 8, 5, 4, 3, 2, 1, 0] rfl)
    · have hf := ec_f (not_not_intro cnd) hf
      exact bX0_beside_19 X hr hlk hM _ hf (lv_sub hl [0] rfl)
theorem hX0_beside : yX0_beside.cls = RX0 ∧ yX0_beside.cls ≠ "java/lang/invoke/MethodHandle" ∧ yX0_beside.cls ≠ "java/lang/invoke/VarHandle" ∧ (parseMethodDescriptor yX0_beside.desc).map (fun d => d.parameters.length) = some 2 := by decide +kernel

noncomputable def fX0_counters_36 (N : Nat) (kx70 : sX → Int32 → Option (Int32 × sX)) : Nat → sX → Int32 → Nat → Int32 → Int32 → Option (Int32 × sX)
  | 0, _, _, _, _, _ => none
  | n + 1, S, x2, x3, x4, x5 =>
    if x4 ≤ x5 then (
      kx70 S x2)
    else (
      (hAr 7 S.2.2.2 x3 x5).bind fun v_5 =>
      (hPut 1 S.2.2.2 v_5 0 (.int (255 : Int32))).bind fun h_6 =>
      ec_lt (xH S h_6) fun S_7 =>
      (hPut 1 S_7.2.2.2 v_5 1 (.int (8 : Int32))).bind fun h_8 =>
      ec_lt (xH S_7 h_8) fun S_9 =>
      ec_lt (x5 + (1 : Int32)) fun x5_10 =>
      (fX0_counters_36 N kx70 n) S_9 x2 x3 x4 x5_10)
theorem bX0_counters_36 {N : Nat} (X : CallFix p m c cX0_counters 7 s args lw_all RX0) (hr : meth.sig.returnType = (some .int)) (hlk : meth.locks = false) {res : Int32} {Sr : sX} {kx70 : sX → Int32 → Option (Int32 × sX)} (Hkx70 : ∀ (S : sX) (x2 : Int32) (H : Heap) (locs : List Loc) (ls : Array Slot), kx70 S x2 = some (res, Sr) → XW D dA o q S A s H locs → lv_has ls 7 [(0, .ref o), (2, .int x2)] → W p l e (rmL 1) s m args below meth c H locs 0 0 (MQ below (XPost D dA o q A (some (.int res)) Sr) args s 0 0 A) (F0 m 70 ls [])) : ∀ (n : Nat) (S : sX) (x2 : Int32) (x3 : Nat) (x4 : Int32) (x5 : Int32) (H : Heap) (locs : List Loc) (ls : Array Slot), fX0_counters_36 N kx70 n S x2 x3 x4 x5 = some (res, Sr) → XW D dA o q S A s H locs → lv_has ls 7 [(0, .ref o), (2, .int x2), (3, .ref x3), (4, .int x4), (5, .int x5)] → W p l e (rmL 1) s m args below meth c H locs 0 0 (MQ below (XPost D dA o q A (some (.int res)) Sr) args s 0 0 A) (F0 m 36 ls []) := by
  have hx := X.1
  have hb := X.2.1
  intro n
  induction n with
  | zero =>
    intro S x2 x3 x4 x5 H locs ls hf hM hl
    rw [fX0_counters_36] at hf
    cases hf
  | succ n ih =>
    intro S x2 x3 x4 x5 H locs ls hf hM hl
    rw [fX0_counters_36] at hf
    refine lv_iload hx hb dX0_counters_36 (lv_at hl 4 rfl) ?_
    refine lv_iload hx hb dX0_counters_38 (lv_at hl 3 rfl) ?_
    refine lv_icmp_ge (tgt := 70) hx hb dX0_counters_40 rfl (fun cnd => ?_) (fun cnd => ?_)
    · have hf := ec_t cnd hf
      exact Hkx70 S x2 _ _ _ hf hM (lv_sub hl [0, 1] rfl)
    · have hf := ec_f cnd hf
      refine lv_aload_n hx hb dX0_counters_43 rfl (lv_at hl 2 rfl) ?_
      refine lv_iload hx hb dX0_counters_44 (lv_at hl 4 rfl) ?_
      obtain ⟨v_5, h, hf⟩ := ec_bi hf
      refine h_aald (t := 7) X hM rfl rfl h dX0_counters_46 ?_
      refine lv_astore (lv' := [(6, .ref v_5), (0, .ref o), (2, .int x2), (3, .ref x3), (4, .int x4), (5, .int x5)]) hx hb dX0_counters_47 hl (by decide) rfl (fun ls hl => ?_)
      refine lv_aload hx hb dX0_counters_49 (lv_at hl 0 rfl) ?_
      refine lv_sipush (v := 255) hx hb dX0_counters_51 (by decide) ?_
      obtain ⟨h_6, h, hf⟩ := ec_bi hf
      refine h_putN (C := RX1) (T := TX1) (N := 2) (ci := 1) (k := 0) (ty := .int) (host := "EventCounters") tyX1 tyX1_ok nmX1 X hM in_X1 rfl (by decide) (xn_at hM.2.1 34 rfl) rfl rfl (by decide +kernel) rfl rfl h dX0_counters_54 (fun H locs hM => ?_)
      obtain ⟨S_7, eS, hM⟩ := x_nm hM
      have hf := ec_lt_i eS hf
      refine lv_aload hx hb dX0_counters_57 (lv_at hl 0 rfl) ?_
      refine lv_bipush (v := 8) hx hb dX0_counters_59 (by decide) ?_
      obtain ⟨h_8, h, hf⟩ := ec_bi hf
      refine h_putN (C := RX1) (T := TX1) (N := 2) (ci := 1) (k := 1) (ty := .int) (host := "EventCounters") tyX1 tyX1_ok nmX1 X hM in_X1 rfl (by decide) (xn_at hM.2.1 35 rfl) rfl rfl (by decide +kernel) rfl rfl h dX0_counters_61 (fun H locs hM => ?_)
      obtain ⟨S_9, eS, hM⟩ := x_nm hM
      have hf := ec_lt_i eS hf
      refine e_inc (w := 1) (f := fun v => [(5, .int v), (6, .ref v_5), (0, .ref o), (2, .int x2), (3, .ref x3), (4, .int x4)]) hx hb dX0_counters_64 hl (k := 5) rfl (by decide) (by decide) (fun _ => rfl) (fun x5_10 ex ls hl => ?_)
      have hf := ec_lt_i ex hf
      refine lv_goto (tgt := 36) hx hb dX0_counters_67 rfl ?_
      exact ih S_9 x2 x3 x4 x5_10 _ _ _ hf hM (lv_sub hl [2, 3, 4, 5, 0] rfl)
noncomputable def fX0_counters (N : Nat) (S : sX) (x1 : Int32) : Option (Int32 × sX) :=
  (fX0_isIn (x1.toInt64) (1 : Int64) (4 : Int64)).bind fun v_1 =>
  if ¬ v_1 = 0 then (
    ec_lt (S.1 12) fun x2_2 =>
    ec_lt (xI S 12 x1) fun S_3 =>
    (hLen 7 S_3.2.2.2 (S_3.2.2.1 13)).bind fun v_4 =>
    fX0_counters_36 N (fun S_11 x2_12 =>
      ec_lt (xI S_11 26 (0 : Int32)) fun S_13 =>
      some (x2_12, S_13)) N S_3 x2_2 (S_3.2.2.1 13) v_4 (0 : Int32))
  else (
    some ((-1 : Int32), S))
theorem metX0_counters (l : Launch) (D : va_G) (dA : Nat → ClassId) (o : Nat) (q : Nat → Nat) (N : Nat) (S : sX) (x1 : Int32) (res : Int32) (Sr : sX) (hf : fX0_counters N S x1 = some (res, Sr)) : Met l yX0_counters (ws_ yX0_counters cX0_counters 7 (some .int)) (rmL 1) (XPre D dA o q S [.int x1]) (XPost D dA o q (XA o q S.2.2.2) (some (.int res)) Sr) 0 0 (XA o q S.2.2.2) := by
  refine x_ofW rfl (Nat.le_of_ble_eq_true rfl) (fun A p e s m args below meth c X hr hlk hM ls hl => ?_)
  have hl : lv_has ls 7 [(0, .ref o), (1, .int x1)] := hl
  have hx := X.1
  have hb := X.2.1
  unfold fX0_counters at hf
  refine lv_iload_n hx hb dX0_counters_0 rfl (lv_at hl 1 rfl) ?_
  refine lv_i2l hx hb dX0_counters_1 rfl ?_
  refine lv_lconst (v := 1) hx hb dX0_counters_2 (by decide) ?_
  refine lv_ldc2 (own := RX0) (v := 4) hx hb X.2.2.2.1 (X.2.2.2.2 _ q565) dX0_counters_3 ?_
  obtain ⟨v_1, h, hf⟩ := ec_bi hf
  refine e_cS (v := .int v_1) (As := [.long (x1.toInt64), .long (1 : Int64), .long (4 : Int64)]) (rest := []) X (metX0_isIn l (x1.toInt64) (1 : Int64) (4 : Int64) _ h) (va_cwS 3 X.2.2.2.2 gX0_21 rfl rfl rfl hX0_isIn (rm_le (Nat.le_of_ble_eq_true rfl) (Nat.le_of_ble_eq_true rfl))) rfl hl.1 rfl (Nat.le_of_ble_eq_true rfl) ⟨Nat.zero_le _, Nat.zero_le _⟩ dX0_counters_6 ?_
  refine lv_if_ne (tgt := 14) hx hb dX0_counters_9 rfl (fun cnd => ?_) (fun cnd => ?_)
  · have hf := ec_t cnd hf
    refine lv_aload_n hx hb dX0_counters_14 rfl (lv_at hl 0 rfl) ?_
    refine x_get (v := .int (S.1 12)) X hM 12 (by decide) q780 rfl rfl dX0_counters_15 ?_
    refine lv_topi (fun x2_2 ex => ?_)
    have hf := ec_lt_i ex hf
    refine lv_istore_n (lv' := [(2, .int x2_2), (0, .ref o), (1, .int x1)]) hx hb dX0_counters_18 rfl hl (by decide) rfl (fun ls hl => ?_)
    refine lv_aload_n hx hb dX0_counters_19 rfl (lv_at hl 1 rfl) ?_
    refine lv_iload_n hx hb dX0_counters_20 rfl (lv_at hl 2 rfl) ?_
    refine x_puti X hM 12 (by decide) q780 rfl rfl xfd12 (wxi12 _) dX0_counters_21 (fun S_3 H locs eS hM => ?_)
    have hf := ec_lt_i eS hf
    refine lv_aload_n hx hb dX0_counters_24 rfl (lv_at hl 1 rfl) ?_
    refine x_get (v := .ref (S_3.2.2.1 13)) X hM 13 (by decide) q781 rfl rfl dX0_counters_25 ?_
    refine lv_astore_n (lv' := [(3, .ref (S_3.2.2.1 13)), (2, .int x2_2), (0, .ref o), (1, .int x1)]) hx hb dX0_counters_28 rfl hl (by decide) rfl (fun ls hl => ?_)
    refine lv_aload_n hx hb dX0_counters_29 rfl (lv_at hl 0 rfl) ?_
    obtain ⟨v_4, h, hf⟩ := ec_bi hf
    refine h_alen (t := 7) X hM rfl h dX0_counters_30 ?_
    refine lv_istore (lv' := [(4, .int v_4), (3, .ref (S_3.2.2.1 13)), (2, .int x2_2), (0, .ref o), (1, .int x1)]) hx hb dX0_counters_31 hl (by decide) rfl (fun ls hl => ?_)
    refine lv_iconst (v := 0) hx hb dX0_counters_33 (by decide) ?_
    refine lv_istore (lv' := [(5, .int (0 : Int32)), (4, .int v_4), (3, .ref (S_3.2.2.1 13)), (2, .int x2_2), (0, .ref o), (1, .int x1)]) hx hb dX0_counters_34 hl (by decide) rfl (fun ls hl => ?_)
    exact bX0_counters_36 X hr hlk (fun S_11 x2_12 H locs ls hf hM hl => by
      refine lv_aload_n hx hb dX0_counters_70 rfl (lv_at hl 0 rfl) ?_
      refine lv_iconst (v := 0) hx hb dX0_counters_71 (by decide) ?_
      refine x_puti X hM 26 (by decide) q794 rfl rfl xfd26 (wxi26 _) dX0_counters_72 (fun S_13 H locs eS hM => ?_)
      have hf := ec_lt_i eS hf
      refine lv_iload_n hx hb dX0_counters_75 rfl (lv_at hl 1 rfl) ?_
      obtain ⟨rfl, rfl⟩ := Prod.mk.inj (Option.some.inj hf)
      exact x_iret X hr hlk hM dX0_counters_76) N S_3 x2_2 (S_3.2.2.1 13) v_4 (0 : Int32) _ _ _ hf hM (lv_sub hl [4, 3, 2, 1, 0] rfl)
  · have hf := ec_f (not_not_intro cnd) hf
    refine lv_iconst (v := -1) hx hb dX0_counters_12 (by decide) ?_
    obtain ⟨rfl, rfl⟩ := Prod.mk.inj (Option.some.inj hf)
    exact x_iret X hr hlk hM dX0_counters_13
theorem hX0_counters : yX0_counters.cls = RX0 ∧ yX0_counters.cls ≠ "java/lang/invoke/MethodHandle" ∧ yX0_counters.cls ≠ "java/lang/invoke/VarHandle" ∧ (parseMethodDescriptor yX0_counters.desc).map (fun d => d.parameters.length) = some 1 := by decide +kernel
end
