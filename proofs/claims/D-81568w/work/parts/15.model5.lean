set_option maxRecDepth 100000
set_option maxHeartbeats 2000000
set_option linter.unusedVariables false
section
variable {p : Program} {l : Launch} {e : Env} {s : State} {m : MethodId} {args : Array Value} {below : List Frame} {meth : Method} {c : Code}
variable {D : va_G} {o : Nat} {q : Nat → Nat} {d dz : ClassId}
noncomputable def fX3_count (S : sM) (x1 : Int32) : Option Int32 :=
  (fX3_in (x1.toInt64) (10 : Int64) (((9 : Int32) + (S.1 36)).toInt64)).bind fun v_1 =>
  if v_1 = 0 then (
    (fX3_in (x1.toInt64) (20 : Int64) (((19 : Int32) + (S.1 36)).toInt64)).bind fun v_2 =>
    if v_2 = 0 then (
      if x1 = (0 : Int32) then (
        some (S.1 0))
      else if x1 = (1 : Int32) then (
        some (S.1 36))
      else if x1 = (2 : Int32) then (
        some (S.1 49))
      else if x1 = (3 : Int32) then (
        some (S.1 25))
      else if x1 = (4 : Int32) then (
        (ec_ag (S.2.2 53) 4 (0 : Int32)).bind fun v_3 =>
        if ¬ v_3 = (-4 : Int32) then (
          (ec_ag (S.2.2 54) 4 (0 : Int32)).bind fun v_4 =>
          some v_4)
        else (
          some (-4 : Int32)))
      else if x1 = (5 : Int32) then (
        some (S.1 4))
      else (
        some (-1 : Int32)))
    else (
      (ec_ag (S.2.2 38) 4 (x1 - (20 : Int32))).bind fun v_5 =>
      some v_5))
  else (
    (ec_ag (S.2.2 37) 4 (x1 - (10 : Int32))).bind fun v_6 =>
    some v_6)
theorem metX3_count (l : Launch) (D : va_G) (o : Nat) (q : Nat → Nat) (d dz : ClassId) (S : sM) (x1 : Int32) (res : Int32) (hf : fX3_count S x1 = some res) : Met l yX3_count (ws_ yX3_count cX3_count 2 (some .int)) (rmL 1) (MPre D o q d dz S [.int x1]) (k2_QcV (.int res)) 0 0 (fun _ => False) := by
  refine m_ofR rfl (Nat.le_of_ble_eq_true rfl) (fun p e s m args below meth c X hr hlk hM ls hl => ?_)
  have hl : lv_has ls 2 [(0, .ref o), (1, .int x1)] := hl
  have hx := X.1
  have hb := X.2.1
  unfold fX3_count at hf
  refine lv_iload_n hx hb dX3_count_0 rfl (lv_at hl 1 rfl) ?_
  refine lv_i2l hx hb dX3_count_1 rfl ?_
  refine lv_ldc2 (own := RX3) (v := 10) hx hb X.2.2.2.1 (X.2.2.2.2 _ q1241) dX3_count_2 ?_
  refine lv_bipush (v := 9) hx hb dX3_count_5 (by decide) ?_
  refine lv_aload_n hx hb dX3_count_7 rfl (lv_at hl 0 rfl) ?_
  refine m_get (v := .int (S.1 36)) X hM 36 (by decide) q1010 rfl rfl dX3_count_8 ?_
  refine lv_iadd hx hb dX3_count_11 ?_
  refine lv_i2l hx hb dX3_count_12 rfl ?_
  obtain ⟨v_1, h, hf⟩ := ec_bi hf
  refine e_cS (v := .int v_1) (As := [.long (x1.toInt64), .long (10 : Int64), .long (((9 : Int32) + (S.1 36)).toInt64)]) (rest := []) X (metX3_in l (x1.toInt64) (10 : Int64) (((9 : Int32) + (S.1 36)).toInt64) _ h) (va_cwS 3 X.2.2.2.2 gX3_124 rfl rfl rfl hX3_in ⟨Nat.le_of_ble_eq_true rfl, Nat.le_of_ble_eq_true rfl⟩) rfl hl.1 rfl (Nat.le_of_ble_eq_true rfl) ⟨Nat.zero_le _, Nat.zero_le _⟩ dX3_count_13 ?_
  refine lv_if_eq (tgt := 29) hx hb dX3_count_16 rfl (fun cnd => ?_) (fun cnd => ?_)
  · have hf := ec_t cnd hf
    refine lv_iload_n hx hb dX3_count_29 rfl (lv_at hl 1 rfl) ?_
    refine lv_i2l hx hb dX3_count_30 rfl ?_
    refine lv_ldc2 (own := RX3) (v := 20) hx hb X.2.2.2.1 (X.2.2.2.2 _ q1468) dX3_count_31 ?_
    refine lv_bipush (v := 19) hx hb dX3_count_34 (by decide) ?_
    refine lv_aload_n hx hb dX3_count_36 rfl (lv_at hl 0 rfl) ?_
    refine m_get (v := .int (S.1 36)) X hM 36 (by decide) q1010 rfl rfl dX3_count_37 ?_
    refine lv_iadd hx hb dX3_count_40 ?_
    refine lv_i2l hx hb dX3_count_41 rfl ?_
    obtain ⟨v_2, h, hf⟩ := ec_bi hf
    refine e_cS (v := .int v_2) (As := [.long (x1.toInt64), .long (20 : Int64), .long (((19 : Int32) + (S.1 36)).toInt64)]) (rest := []) X (metX3_in l (x1.toInt64) (20 : Int64) (((19 : Int32) + (S.1 36)).toInt64) _ h) (va_cwS 3 X.2.2.2.2 gX3_124 rfl rfl rfl hX3_in ⟨Nat.le_of_ble_eq_true rfl, Nat.le_of_ble_eq_true rfl⟩) rfl hl.1 rfl (Nat.le_of_ble_eq_true rfl) ⟨Nat.zero_le _, Nat.zero_le _⟩ dX3_count_42 ?_
    refine lv_if_eq (tgt := 58) hx hb dX3_count_45 rfl (fun cnd => ?_) (fun cnd => ?_)
    · have hf := ec_t cnd hf
      refine lv_iload_n hx hb dX3_count_58 rfl (lv_at hl 1 rfl) ?_
      by_cases c0 : x1 = (0 : Int32)
      · have hf := ec_t c0 hf
        refine lv_tableIn (off := 37) (tgt := 96) hx hb dX3_count_59 (by rw [c0]; decide) (by rw [c0]; decide) (by rw [c0]; rfl) rfl ?_
        refine lv_aload_n hx hb dX3_count_96 rfl (lv_at hl 0 rfl) ?_
        refine m_get (v := .int (S.1 0)) X hM 0 (by decide) q974 rfl rfl dX3_count_97 ?_
        obtain rfl := Option.some.inj hf
        exact e_iretR hx hb hr hlk dX3_count_100
      have hf := ec_f c0 hf
      by_cases c1 : x1 = (1 : Int32)
      · have hf := ec_t c1 hf
        refine lv_tableIn (off := 42) (tgt := 101) hx hb dX3_count_59 (by rw [c1]; decide) (by rw [c1]; decide) (by rw [c1]; rfl) rfl ?_
        refine lv_aload_n hx hb dX3_count_101 rfl (lv_at hl 0 rfl) ?_
        refine m_get (v := .int (S.1 36)) X hM 36 (by decide) q1010 rfl rfl dX3_count_102 ?_
        obtain rfl := Option.some.inj hf
        exact e_iretR hx hb hr hlk dX3_count_105
      have hf := ec_f c1 hf
      by_cases c2 : x1 = (2 : Int32)
      · have hf := ec_t c2 hf
        refine lv_tableIn (off := 47) (tgt := 106) hx hb dX3_count_59 (by rw [c2]; decide) (by rw [c2]; decide) (by rw [c2]; rfl) rfl ?_
        refine lv_aload_n hx hb dX3_count_106 rfl (lv_at hl 0 rfl) ?_
        refine m_get (v := .int (S.1 49)) X hM 49 (by decide) q1023 rfl rfl dX3_count_107 ?_
        obtain rfl := Option.some.inj hf
        exact e_iretR hx hb hr hlk dX3_count_110
      have hf := ec_f c2 hf
      by_cases c3 : x1 = (3 : Int32)
      · have hf := ec_t c3 hf
        refine lv_tableIn (off := 52) (tgt := 111) hx hb dX3_count_59 (by rw [c3]; decide) (by rw [c3]; decide) (by rw [c3]; rfl) rfl ?_
        refine lv_aload_n hx hb dX3_count_111 rfl (lv_at hl 0 rfl) ?_
        refine m_get (v := .int (S.1 25)) X hM 25 (by decide) q999 rfl rfl dX3_count_112 ?_
        obtain rfl := Option.some.inj hf
        exact e_iretR hx hb hr hlk dX3_count_115
      have hf := ec_f c3 hf
      by_cases c4 : x1 = (4 : Int32)
      · have hf := ec_t c4 hf
        refine lv_tableIn (off := 57) (tgt := 116) hx hb dX3_count_59 (by rw [c4]; decide) (by rw [c4]; decide) (by rw [c4]; rfl) rfl ?_
        refine lv_aload_n hx hb dX3_count_116 rfl (lv_at hl 0 rfl) ?_
        refine m_get (v := .ref (q 53)) X hM 53 (by decide) q1027 rfl rfl dX3_count_117 ?_
        refine lv_iconst (v := 0) hx hb dX3_count_120 (by decide) ?_
        obtain ⟨v_3, h, hf⟩ := ec_bi hf
        refine m_iald X hM wma53 h dX3_count_121 ?_
        refine lv_bipush (v := -4) hx hb dX3_count_122 (by decide) ?_
        refine lv_icmp_ne (tgt := 132) hx hb dX3_count_124 rfl (fun cnd => ?_) (fun cnd => ?_)
        · have hf := ec_t cnd hf
          refine lv_aload_n hx hb dX3_count_132 rfl (lv_at hl 0 rfl) ?_
          refine m_get (v := .ref (q 54)) X hM 54 (by decide) q1028 rfl rfl dX3_count_133 ?_
          refine lv_iconst (v := 0) hx hb dX3_count_136 (by decide) ?_
          obtain ⟨v_4, h, hf⟩ := ec_bi hf
          refine m_iald X hM wma54 h dX3_count_137 ?_
          obtain rfl := Option.some.inj hf
          exact e_iretR hx hb hr hlk dX3_count_138
        · have hf := ec_f (not_not_intro cnd) hf
          refine lv_bipush (v := -4) hx hb dX3_count_127 (by decide) ?_
          refine lv_goto (tgt := 138) hx hb dX3_count_129 rfl ?_
          obtain rfl := Option.some.inj hf
          exact e_iretR hx hb hr hlk dX3_count_138
      have hf := ec_f c4 hf
      by_cases c5 : x1 = (5 : Int32)
      · have hf := ec_t c5 hf
        refine lv_tableIn (off := 80) (tgt := 139) hx hb dX3_count_59 (by rw [c5]; decide) (by rw [c5]; decide) (by rw [c5]; rfl) rfl ?_
        refine lv_aload_n hx hb dX3_count_139 rfl (lv_at hl 0 rfl) ?_
        refine m_get (v := .int (S.1 4)) X hM 4 (by decide) q978 rfl rfl dX3_count_140 ?_
        obtain rfl := Option.some.inj hf
        exact e_iretR hx hb hr hlk dX3_count_143
      have hf := ec_f c5 hf
      refine lv_tableOut (tgt := 144) hx hb dX3_count_59 (by
        have a0 := ec_ne (z := 0) (by decide) c0
        have a1 := ec_ne (z := 1) (by decide) c1
        have a2 := ec_ne (z := 2) (by decide) c2
        have a3 := ec_ne (z := 3) (by decide) c3
        have a4 := ec_ne (z := 4) (by decide) c4
        have a5 := ec_ne (z := 5) (by decide) c5
        omega) rfl ?_
      refine lv_iconst (v := -1) hx hb dX3_count_144 (by decide) ?_
      obtain rfl := Option.some.inj hf
      exact e_iretR hx hb hr hlk dX3_count_145
    · have hf := ec_f cnd hf
      refine lv_aload_n hx hb dX3_count_48 rfl (lv_at hl 0 rfl) ?_
      refine m_get (v := .ref (q 38)) X hM 38 (by decide) q1012 rfl rfl dX3_count_49 ?_
      refine lv_iload_n hx hb dX3_count_52 rfl (lv_at hl 1 rfl) ?_
      refine lv_bipush (v := 20) hx hb dX3_count_53 (by decide) ?_
      refine lv_isub hx hb dX3_count_55 ?_
      obtain ⟨v_5, h, hf⟩ := ec_bi hf
      refine m_iald X hM wma38 h dX3_count_56 ?_
      obtain rfl := Option.some.inj hf
      exact e_iretR hx hb hr hlk dX3_count_57
  · have hf := ec_f cnd hf
    refine lv_aload_n hx hb dX3_count_19 rfl (lv_at hl 0 rfl) ?_
    refine m_get (v := .ref (q 37)) X hM 37 (by decide) q1011 rfl rfl dX3_count_20 ?_
    refine lv_iload_n hx hb dX3_count_23 rfl (lv_at hl 1 rfl) ?_
    refine lv_bipush (v := 10) hx hb dX3_count_24 (by decide) ?_
    refine lv_isub hx hb dX3_count_26 ?_
    obtain ⟨v_6, h, hf⟩ := ec_bi hf
    refine m_iald X hM wma37 h dX3_count_27 ?_
    obtain rfl := Option.some.inj hf
    exact e_iretR hx hb hr hlk dX3_count_28
theorem hX3_count : yX3_count.cls = RX3 ∧ yX3_count.cls ≠ "java/lang/invoke/MethodHandle" ∧ yX3_count.cls ≠ "java/lang/invoke/VarHandle" ∧ (parseMethodDescriptor yX3_count.desc).map (fun d => d.parameters.length) = some 1 := by decide +kernel
end
