set_option maxRecDepth 100000
set_option maxHeartbeats 2000000
set_option linter.unusedVariables false
section
variable {p : Program} {l : Launch} {e : Env} {s : State} {m : MethodId} {args : Array Value} {below : List Frame} {meth : Method} {c : Code}
variable {D : va_G} {o : Nat} {q : Nat → Nat} {d dz : ClassId}
noncomputable def fX3_went_35 (N : Nat) (S : sM) : Option Int32 :=
  some (-1 : Int32)
theorem bX3_went_35 {N : Nat} (X : CallFix p m c cX3_went 9 s args lw_all RX3) (hr : meth.sig.returnType = (some .int)) (hlk : meth.locks = false) {S : sM} (hM : MW D o q d dz S s s.heap []) {res : Int32} : ∀ (ls : Array Slot), fX3_went_35 N S = some res → lv_has ls 9 [(0, .ref o)] → W p l e (rmL 2) s m args below meth c s.heap [] 0 0 (MQ below (k2_QcV (.int res)) args s 0 0 (fun _ => False)) (F0 m 35 ls []) := by
  have hx := X.1
  have hb := X.2.1
  intro ls hf hl
  unfold fX3_went_35 at hf
  refine lv_iconst (v := -1) hx hb dX3_went_35 (by decide) ?_
  obtain rfl := Option.some.inj hf
  exact e_iretR hx hb hr hlk dX3_went_36
noncomputable def fX3_went_142 (N : Nat) (S : sM) (k53 : Int32 → Int32 → Int32 → Int32 → Int32 → Int32 → Int32 → Option Int32) (x1 : Int32) (x2 : Int32) (x3 : Int32) (x4 : Int32) (x5 : Int32) (x7 : Int32) (t0 : Int32) (t1 : Int32) : Option Int32 :=
  ec_lt (t1 + t0) fun x6_8 =>
  ec_lt (x7 + (1 : Int32)) fun x7_9 =>
  k53 x1 x2 x3 x4 x5 x6_8 x7_9
theorem bX3_went_142 {N : Nat} (X : CallFix p m c cX3_went 9 s args lw_all RX3) (hr : meth.sig.returnType = (some .int)) (hlk : meth.locks = false) {S : sM} (hM : MW D o q d dz S s s.heap []) {res : Int32} {k53 : Int32 → Int32 → Int32 → Int32 → Int32 → Int32 → Int32 → Option Int32} (Hk53 : ∀ (x1 : Int32) (x2 : Int32) (x3 : Int32) (x4 : Int32) (x5 : Int32) (x6 : Int32) (x7 : Int32) (ls : Array Slot), k53 x1 x2 x3 x4 x5 x6 x7 = some res → lv_has ls 9 [(0, .ref o), (1, .int x1), (2, .int x2), (3, .int x3), (4, .int x4), (5, .int x5), (6, .int x6), (7, .int x7)] → W p l e (rmL 2) s m args below meth c s.heap [] 0 0 (MQ below (k2_QcV (.int res)) args s 0 0 (fun _ => False)) (F0 m 53 ls [])) : ∀ (x1 : Int32) (x2 : Int32) (x3 : Int32) (x4 : Int32) (x5 : Int32) (x7 : Int32) (t0 : Int32) (t1 : Int32) (ls : Array Slot), fX3_went_142 N S k53 x1 x2 x3 x4 x5 x7 t0 t1 = some res → lv_has ls 9 [(0, .ref o), (1, .int x1), (2, .int x2), (3, .int x3), (4, .int x4), (5, .int x5), (7, .int x7)] → W p l e (rmL 2) s m args below meth c s.heap [] 0 0 (MQ below (k2_QcV (.int res)) args s 0 0 (fun _ => False)) (F0 m 142 ls [.int t0, .int t1]) := by
  have hx := X.1
  have hb := X.2.1
  intro x1 x2 x3 x4 x5 x7 t0 t1 ls hf hl
  unfold fX3_went_142 at hf
  refine lv_iadd hx hb dX3_went_142 ?_
  refine lv_topi (fun x6_8 ex => ?_)
  have hf := ec_lt_i ex hf
  refine lv_istore (lv' := [(6, .int x6_8), (0, .ref o), (1, .int x1), (2, .int x2), (3, .int x3), (4, .int x4), (5, .int x5), (7, .int x7)]) hx hb dX3_went_143 hl (by decide) rfl (fun ls hl => ?_)
  refine e_inc (w := 1) (f := fun v => [(7, .int v), (6, .int x6_8), (0, .ref o), (1, .int x1), (2, .int x2), (3, .int x3), (4, .int x4), (5, .int x5)]) hx hb dX3_went_145 hl (k := 7) rfl (by decide) (by decide) (fun _ => rfl) (fun x7_9 ex ls hl => ?_)
  have hf := ec_lt_i ex hf
  refine lv_goto (tgt := 53) hx hb dX3_went_148 rfl ?_
  exact Hk53 x1 x2 x3 x4 x5 x6_8 x7_9 _ hf (lv_sub hl [2, 3, 4, 5, 6, 7, 1, 0] rfl)
noncomputable def fX3_went_106 (N : Nat) (S : sM) (k53 : Int32 → Int32 → Int32 → Int32 → Int32 → Int32 → Int32 → Option Int32) (x1 : Int32) (x2 : Int32) (x3 : Int32) (x4 : Int32) (x6 : Int32) (x7 : Int32) (x8 : Int32) (t0 : Int32) (t1 : Int32) : Option Int32 :=
  ec_lt (t1 + t0) fun x5_7 =>
  if x8 = 0 then (
    fX3_went_142 N S k53 x1 x2 x3 x4 x5_7 x7 (0 : Int32) x6)
  else (
    (ec_ag (S.2.2 9) 16 x7).bind fun v_10 =>
    (ec_ag (S.2.2 5) 40 x1).bind fun v_11 =>
    (ec_dv v_10 v_11).bind fun v_12 =>
    (fX3_made S x7 x2).bind fun v_13 =>
    fX3_went_142 N S k53 x1 x2 x3 x4 x5_7 x7 (v_12 * v_13) x6)
theorem bX3_went_106 {N : Nat} (X : CallFix p m c cX3_went 9 s args lw_all RX3) (hr : meth.sig.returnType = (some .int)) (hlk : meth.locks = false) {S : sM} (hM : MW D o q d dz S s s.heap []) {res : Int32} {k53 : Int32 → Int32 → Int32 → Int32 → Int32 → Int32 → Int32 → Option Int32} (Hk53 : ∀ (x1 : Int32) (x2 : Int32) (x3 : Int32) (x4 : Int32) (x5 : Int32) (x6 : Int32) (x7 : Int32) (ls : Array Slot), k53 x1 x2 x3 x4 x5 x6 x7 = some res → lv_has ls 9 [(0, .ref o), (1, .int x1), (2, .int x2), (3, .int x3), (4, .int x4), (5, .int x5), (6, .int x6), (7, .int x7)] → W p l e (rmL 2) s m args below meth c s.heap [] 0 0 (MQ below (k2_QcV (.int res)) args s 0 0 (fun _ => False)) (F0 m 53 ls [])) : ∀ (x1 : Int32) (x2 : Int32) (x3 : Int32) (x4 : Int32) (x6 : Int32) (x7 : Int32) (x8 : Int32) (t0 : Int32) (t1 : Int32) (ls : Array Slot), fX3_went_106 N S k53 x1 x2 x3 x4 x6 x7 x8 t0 t1 = some res → lv_has ls 9 [(0, .ref o), (1, .int x1), (2, .int x2), (3, .int x3), (4, .int x4), (6, .int x6), (7, .int x7), (8, .int x8)] → W p l e (rmL 2) s m args below meth c s.heap [] 0 0 (MQ below (k2_QcV (.int res)) args s 0 0 (fun _ => False)) (F0 m 106 ls [.int t0, .int t1]) := by
  have hx := X.1
  have hb := X.2.1
  intro x1 x2 x3 x4 x6 x7 x8 t0 t1 ls hf hl
  unfold fX3_went_106 at hf
  refine lv_iadd hx hb dX3_went_106 ?_
  refine lv_topi (fun x5_7 ex => ?_)
  have hf := ec_lt_i ex hf
  refine lv_istore (lv' := [(5, .int x5_7), (0, .ref o), (1, .int x1), (2, .int x2), (3, .int x3), (4, .int x4), (6, .int x6), (7, .int x7), (8, .int x8)]) hx hb dX3_went_107 hl (by decide) rfl (fun ls hl => ?_)
  refine lv_iload hx hb dX3_went_109 (lv_at hl 6 rfl) ?_
  refine lv_iload hx hb dX3_went_111 (lv_at hl 8 rfl) ?_
  refine lv_if_eq (tgt := 141) hx hb dX3_went_113 rfl (fun cnd => ?_) (fun cnd => ?_)
  · have hf := ec_t cnd hf
    refine lv_iconst (v := 0) hx hb dX3_went_141 (by decide) ?_
    exact bX3_went_142 X hr hlk hM Hk53 x1 x2 x3 x4 x5_7 x7 (0 : Int32) x6 _ hf (lv_sub hl [1, 2, 3, 4, 5, 0, 7] rfl)
  · have hf := ec_f cnd hf
    refine lv_aload_n hx hb dX3_went_116 rfl (lv_at hl 1 rfl) ?_
    refine m_get (v := .ref (q 9)) X hM 9 (by decide) q983 rfl rfl dX3_went_117 ?_
    refine lv_iload hx hb dX3_went_120 (lv_at hl 7 rfl) ?_
    obtain ⟨v_10, h, hf⟩ := ec_bi hf
    refine m_iald X hM wma9 h dX3_went_122 ?_
    refine lv_aload_n hx hb dX3_went_123 rfl (lv_at hl 1 rfl) ?_
    refine m_get (v := .ref (q 5)) X hM 5 (by decide) q979 rfl rfl dX3_went_124 ?_
    refine lv_iload_n hx hb dX3_went_127 rfl (lv_at hl 2 rfl) ?_
    obtain ⟨v_11, h, hf⟩ := ec_bi hf
    refine m_iald X hM wma5 h dX3_went_128 ?_
    obtain ⟨v_12, h, hf⟩ := ec_bi hf
    refine e_dv hx hb h dX3_went_129 ?_
    refine lv_aload_n hx hb dX3_went_130 rfl (lv_at hl 1 rfl) ?_
    refine lv_iload hx hb dX3_went_131 (lv_at hl 7 rfl) ?_
    refine lv_iload_n hx hb dX3_went_133 rfl (lv_at hl 3 rfl) ?_
    obtain ⟨v_13, h, hf⟩ := ec_bi hf
    refine m_cR (v := .int v_13) (As := [.int x7, .int x2]) (rest := [.int v_12, .int x6]) X hM (metX3_made l D o q d dz S x7 x2 _ h) (cwV 2 X.2.2.2.2 gX3_251 rfl rfl rfl hX3_made ⟨Nat.le_of_ble_eq_true rfl, Nat.le_of_ble_eq_true rfl⟩) rfl hl.1 rfl (Nat.le_of_ble_eq_true rfl) ⟨Nat.zero_le _, Nat.zero_le _⟩ dX3_went_134 ?_
    refine lv_imul hx hb dX3_went_137 ?_
    refine lv_goto (tgt := 142) hx hb dX3_went_138 rfl ?_
    exact bX3_went_142 X hr hlk hM Hk53 x1 x2 x3 x4 x5_7 x7 (v_12 * v_13) x6 _ hf (lv_sub hl [1, 2, 3, 4, 5, 0, 7] rfl)
noncomputable def fX3_went_78 (N : Nat) (S : sM) (k53 : Int32 → Int32 → Int32 → Int32 → Int32 → Int32 → Int32 → Option Int32) (x1 : Int32) (x2 : Int32) (x3 : Int32) (x4 : Int32) (x5 : Int32) (x6 : Int32) (x7 : Int32) (t0 : Int32) : Option Int32 :=
  if t0 = 0 then (
    (ec_ag (S.2.2 9) 16 x7).bind fun v_5 =>
    (fX3_made S x7 x2).bind fun v_6 =>
    fX3_went_106 N S k53 x1 x2 x3 x4 x6 x7 t0 (v_5 * v_6) x5)
  else (
    fX3_went_106 N S k53 x1 x2 x3 x4 x6 x7 t0 (0 : Int32) x5)
theorem bX3_went_78 {N : Nat} (X : CallFix p m c cX3_went 9 s args lw_all RX3) (hr : meth.sig.returnType = (some .int)) (hlk : meth.locks = false) {S : sM} (hM : MW D o q d dz S s s.heap []) {res : Int32} {k53 : Int32 → Int32 → Int32 → Int32 → Int32 → Int32 → Int32 → Option Int32} (Hk53 : ∀ (x1 : Int32) (x2 : Int32) (x3 : Int32) (x4 : Int32) (x5 : Int32) (x6 : Int32) (x7 : Int32) (ls : Array Slot), k53 x1 x2 x3 x4 x5 x6 x7 = some res → lv_has ls 9 [(0, .ref o), (1, .int x1), (2, .int x2), (3, .int x3), (4, .int x4), (5, .int x5), (6, .int x6), (7, .int x7)] → W p l e (rmL 2) s m args below meth c s.heap [] 0 0 (MQ below (k2_QcV (.int res)) args s 0 0 (fun _ => False)) (F0 m 53 ls [])) : ∀ (x1 : Int32) (x2 : Int32) (x3 : Int32) (x4 : Int32) (x5 : Int32) (x6 : Int32) (x7 : Int32) (t0 : Int32) (ls : Array Slot), fX3_went_78 N S k53 x1 x2 x3 x4 x5 x6 x7 t0 = some res → lv_has ls 9 [(0, .ref o), (1, .int x1), (2, .int x2), (3, .int x3), (4, .int x4), (5, .int x5), (6, .int x6), (7, .int x7)] → W p l e (rmL 2) s m args below meth c s.heap [] 0 0 (MQ below (k2_QcV (.int res)) args s 0 0 (fun _ => False)) (F0 m 78 ls [.int t0]) := by
  have hx := X.1
  have hb := X.2.1
  intro x1 x2 x3 x4 x5 x6 x7 t0 ls hf hl
  unfold fX3_went_78 at hf
  refine lv_istore (lv' := [(8, .int t0), (0, .ref o), (1, .int x1), (2, .int x2), (3, .int x3), (4, .int x4), (5, .int x5), (6, .int x6), (7, .int x7)]) hx hb dX3_went_78 hl (by decide) rfl (fun ls hl => ?_)
  refine lv_iload hx hb dX3_went_80 (lv_at hl 6 rfl) ?_
  refine lv_iload hx hb dX3_went_82 (lv_at hl 0 rfl) ?_
  refine lv_if_eq (tgt := 91) hx hb dX3_went_84 rfl (fun cnd => ?_) (fun cnd => ?_)
  · have hf := ec_t cnd hf
    refine lv_aload_n hx hb dX3_went_91 rfl (lv_at hl 1 rfl) ?_
    refine m_get (v := .ref (q 9)) X hM 9 (by decide) q983 rfl rfl dX3_went_92 ?_
    refine lv_iload hx hb dX3_went_95 (lv_at hl 8 rfl) ?_
    obtain ⟨v_5, h, hf⟩ := ec_bi hf
    refine m_iald X hM wma9 h dX3_went_97 ?_
    refine lv_aload_n hx hb dX3_went_98 rfl (lv_at hl 1 rfl) ?_
    refine lv_iload hx hb dX3_went_99 (lv_at hl 8 rfl) ?_
    refine lv_iload_n hx hb dX3_went_101 rfl (lv_at hl 3 rfl) ?_
    obtain ⟨v_6, h, hf⟩ := ec_bi hf
    refine m_cR (v := .int v_6) (As := [.int x7, .int x2]) (rest := [.int v_5, .int x5]) X hM (metX3_made l D o q d dz S x7 x2 _ h) (cwV 2 X.2.2.2.2 gX3_251 rfl rfl rfl hX3_made ⟨Nat.le_of_ble_eq_true rfl, Nat.le_of_ble_eq_true rfl⟩) rfl hl.1 rfl (Nat.le_of_ble_eq_true rfl) ⟨Nat.zero_le _, Nat.zero_le _⟩ dX3_went_102 ?_
    refine lv_imul hx hb dX3_went_105 ?_
    exact bX3_went_106 X hr hlk hM Hk53 x1 x2 x3 x4 x6 x7 t0 (v_5 * v_6) x5 _ hf (lv_sub hl [1, 2, 3, 4, 5, 7, 8, 0] rfl)
  · have hf := ec_f cnd hf
    refine lv_iconst (v := 0) hx hb dX3_went_87 (by decide) ?_
    refine lv_goto (tgt := 106) hx hb dX3_went_88 rfl ?_
    exact bX3_went_106 X hr hlk hM Hk53 x1 x2 x3 x4 x6 x7 t0 (0 : Int32) x5 _ hf (lv_sub hl [1, 2, 3, 4, 5, 7, 8, 0] rfl)
noncomputable def fX3_went_53 (N : Nat) (S : sM) (kx151 : Int32 → Int32 → Int32 → Option Int32) : Nat → Int32 → Int32 → Int32 → Int32 → Int32 → Int32 → Int32 → Option Int32
  | 0, _, _, _, _, _, _, _ => none
  | n + 1, x1, x2, x3, x4, x5, x6, x7 =>
    if (S.1 0) ≤ x7 then (
      kx151 x3 x5 x6)
    else (
      if ¬ ((x4 >>> (x7 &&& 31)) &&& (1 : Int32)) = (1 : Int32) then (
        fX3_went_78 N S (fX3_went_53 N S kx151 n) x1 x2 x3 x4 x5 x6 x7 (0 : Int32))
      else (
        fX3_went_78 N S (fX3_went_53 N S kx151 n) x1 x2 x3 x4 x5 x6 x7 (1 : Int32)))
theorem bX3_went_53 {N : Nat} (X : CallFix p m c cX3_went 9 s args lw_all RX3) (hr : meth.sig.returnType = (some .int)) (hlk : meth.locks = false) {S : sM} (hM : MW D o q d dz S s s.heap []) {res : Int32} {kx151 : Int32 → Int32 → Int32 → Option Int32} (Hkx151 : ∀ (x3 : Int32) (x5 : Int32) (x6 : Int32) (ls : Array Slot), kx151 x3 x5 x6 = some res → lv_has ls 9 [(0, .ref o), (3, .int x3), (5, .int x5), (6, .int x6)] → W p l e (rmL 2) s m args below meth c s.heap [] 0 0 (MQ below (k2_QcV (.int res)) args s 0 0 (fun _ => False)) (F0 m 151 ls [])) : ∀ (n : Nat) (x1 : Int32) (x2 : Int32) (x3 : Int32) (x4 : Int32) (x5 : Int32) (x6 : Int32) (x7 : Int32) (ls : Array Slot), fX3_went_53 N S kx151 n x1 x2 x3 x4 x5 x6 x7 = some res → lv_has ls 9 [(0, .ref o), (1, .int x1), (2, .int x2), (3, .int x3), (4, .int x4), (5, .int x5), (6, .int x6), (7, .int x7)] → W p l e (rmL 2) s m args below meth c s.heap [] 0 0 (MQ below (k2_QcV (.int res)) args s 0 0 (fun _ => False)) (F0 m 53 ls []) := by
  have hx := X.1
  have hb := X.2.1
  intro n
  induction n with
  | zero =>
    intro x1 x2 x3 x4 x5 x6 x7 ls hf hl
    rw [fX3_went_53] at hf
    cases hf
  | succ n ih =>
    intro x1 x2 x3 x4 x5 x6 x7 ls hf hl
    rw [fX3_went_53] at hf
    refine lv_iload hx hb dX3_went_53 (lv_at hl 7 rfl) ?_
    refine lv_aload_n hx hb dX3_went_55 rfl (lv_at hl 0 rfl) ?_
    refine m_get (v := .int (S.1 0)) X hM 0 (by decide) q974 rfl rfl dX3_went_56 ?_
    refine lv_icmp_ge (tgt := 151) hx hb dX3_went_59 rfl (fun cnd => ?_) (fun cnd => ?_)
    · have hf := ec_t cnd hf
      exact Hkx151 x3 x5 x6 _ hf (lv_sub hl [0, 3, 5, 6] rfl)
    · have hf := ec_f cnd hf
      refine lv_iload hx hb dX3_went_62 (lv_at hl 4 rfl) ?_
      refine lv_iload hx hb dX3_went_64 (lv_at hl 7 rfl) ?_
      refine lv_ishr hx hb dX3_went_66 ?_
      refine lv_iconst (v := 1) hx hb dX3_went_67 (by decide) ?_
      refine lv_iand hx hb dX3_went_68 ?_
      refine lv_iconst (v := 1) hx hb dX3_went_69 (by decide) ?_
      refine lv_icmp_ne (tgt := 77) hx hb dX3_went_70 rfl (fun cnd => ?_) (fun cnd => ?_)
      · have hf := ec_t cnd hf
        refine lv_iconst (v := 0) hx hb dX3_went_77 (by decide) ?_
        exact bX3_went_78 X hr hlk hM ih x1 x2 x3 x4 x5 x6 x7 (0 : Int32) _ hf hl
      · have hf := ec_f (not_not_intro cnd) hf
        refine lv_iconst (v := 1) hx hb dX3_went_73 (by decide) ?_
        refine lv_goto (tgt := 78) hx hb dX3_went_74 rfl ?_
        exact bX3_went_78 X hr hlk hM ih x1 x2 x3 x4 x5 x6 x7 (1 : Int32) _ hf hl
noncomputable def fX3_went_206 (N : Nat) (S : sM) : Option Int32 :=
  some (-4 : Int32)
theorem bX3_went_206 {N : Nat} (X : CallFix p m c cX3_went 9 s args lw_all RX3) (hr : meth.sig.returnType = (some .int)) (hlk : meth.locks = false) {S : sM} (hM : MW D o q d dz S s s.heap []) {res : Int32} : ∀ (ls : Array Slot), fX3_went_206 N S = some res → lv_has ls 9 [(0, .ref o)] → W p l e (rmL 2) s m args below meth c s.heap [] 0 0 (MQ below (k2_QcV (.int res)) args s 0 0 (fun _ => False)) (F0 m 206 ls []) := by
  have hx := X.1
  have hb := X.2.1
  intro ls hf hl
  unfold fX3_went_206 at hf
  refine lv_bipush (v := -4) hx hb dX3_went_206 (by decide) ?_
  obtain rfl := Option.some.inj hf
  exact e_iretR hx hb hr hlk dX3_went_208
noncomputable def fX3_went (N : Nat) (S : sM) (x1 : Int32) (x2 : Int32) (x3 : Int32) : Option Int32 :=
  (fX3_in (x1.toInt64) (0 : Int64) (((S.1 4) - (1 : Int32)).toInt64)).bind fun v_1 =>
  if v_1 = 0 then (
    fX3_went_35 N S)
  else (
    (fX3_isEvent x2).bind fun v_2 =>
    if v_2 = 0 then (
      fX3_went_35 N S)
    else (
      (fX3_in (x3.toInt64) (0 : Int64) (999999 : Int64)).bind fun v_3 =>
      if ¬ v_3 = 0 then (
        (fX3_linesIn N S x1).bind fun v_4 =>
        fX3_went_53 N S (fun x3_14 x5_15 x6_16 =>
          ec_lt (x3_14 - x5_15) fun x7_17 =>
          if ¬ x6_16 = 0 then (
            if x7_17 < 0 then (
              fX3_went_206 N S)
            else (
              (ec_rm x7_17 x6_16).bind fun v_18 =>
              if ¬ v_18 = 0 then (
                fX3_went_206 N S)
              else (
                (ec_dv x7_17 x6_16).bind fun v_19 =>
                if (9999 : Int32) < v_19 then (
                  fX3_went_206 N S)
                else (
                  (ec_dv x7_17 x6_16).bind fun v_20 =>
                  some v_20))))
          else (
            if ¬ x7_17 = 0 then (
              some (-4 : Int32))
            else (
              some (0 : Int32)))) N x1 x2 x3 v_4 (0 : Int32) (0 : Int32) (0 : Int32))
      else (
        fX3_went_35 N S)))
theorem metX3_went (l : Launch) (D : va_G) (o : Nat) (q : Nat → Nat) (d dz : ClassId) (N : Nat) (S : sM) (x1 : Int32) (x2 : Int32) (x3 : Int32) (res : Int32) (hf : fX3_went N S x1 x2 x3 = some res) : Met l yX3_went (ws_ yX3_went cX3_went 9 (some .int)) (rmL 2) (MPre D o q d dz S [.int x1, .int x2, .int x3]) (k2_QcV (.int res)) 0 0 (fun _ => False) := by
  refine m_ofR rfl (Nat.le_of_ble_eq_true rfl) (fun p e s m args below meth c X hr hlk hM ls hl => ?_)
  have hl : lv_has ls 9 [(0, .ref o), (1, .int x1), (2, .int x2), (3, .int x3)] := hl
  have hx := X.1
  have hb := X.2.1
  unfold fX3_went at hf
  refine lv_iload_n hx hb dX3_went_0 rfl (lv_at hl 1 rfl) ?_
  refine lv_i2l hx hb dX3_went_1 rfl ?_
  refine lv_lconst (v := 0) hx hb dX3_went_2 (by decide) ?_
  refine lv_aload_n hx hb dX3_went_3 rfl (lv_at hl 0 rfl) ?_
  refine m_get (v := .int (S.1 4)) X hM 4 (by decide) q978 rfl rfl dX3_went_4 ?_
  refine lv_iconst (v := 1) hx hb dX3_went_7 (by decide) ?_
  refine lv_isub hx hb dX3_went_8 ?_
  refine lv_i2l hx hb dX3_went_9 rfl ?_
  obtain ⟨v_1, h, hf⟩ := ec_bi hf
  refine e_cS (v := .int v_1) (As := [.long (x1.toInt64), .long (0 : Int64), .long (((S.1 4) - (1 : Int32)).toInt64)]) (rest := []) X (metX3_in l (x1.toInt64) (0 : Int64) (((S.1 4) - (1 : Int32)).toInt64) _ h) (va_cwS 3 X.2.2.2.2 gX3_124 rfl rfl rfl hX3_in ⟨Nat.le_of_ble_eq_true rfl, Nat.le_of_ble_eq_true rfl⟩) rfl hl.1 rfl (Nat.le_of_ble_eq_true rfl) ⟨Nat.zero_le _, Nat.zero_le _⟩ dX3_went_10 ?_
  refine lv_if_eq (tgt := 35) hx hb dX3_went_13 rfl (fun cnd => ?_) (fun cnd => ?_)
  · have hf := ec_t cnd hf
    exact bX3_went_35 X hr hlk hM _ hf (lv_sub hl [0] rfl)
  · have hf := ec_f cnd hf
    refine lv_iload_n hx hb dX3_went_16 rfl (lv_at hl 2 rfl) ?_
    obtain ⟨v_2, h, hf⟩ := ec_bi hf
    refine e_cS (v := .int v_2) (As := [.int x2]) (rest := []) X (metX3_isEvent l x2 _ h) (va_cwS 1 X.2.2.2.2 gX3_260 rfl rfl rfl hX3_isEvent ⟨Nat.le_of_ble_eq_true rfl, Nat.le_of_ble_eq_true rfl⟩) rfl hl.1 rfl (Nat.le_of_ble_eq_true rfl) ⟨Nat.zero_le _, Nat.zero_le _⟩ dX3_went_17 ?_
    refine lv_if_eq (tgt := 35) hx hb dX3_went_20 rfl (fun cnd => ?_) (fun cnd => ?_)
    · have hf := ec_t cnd hf
      exact bX3_went_35 X hr hlk hM _ hf (lv_sub hl [0] rfl)
    · have hf := ec_f cnd hf
      refine lv_iload_n hx hb dX3_went_23 rfl (lv_at hl 3 rfl) ?_
      refine lv_i2l hx hb dX3_went_24 rfl ?_
      refine lv_lconst (v := 0) hx hb dX3_went_25 (by decide) ?_
      refine lv_ldc2 (own := RX3) (v := 999999) hx hb X.2.2.2.1 (X.2.2.2.2 _ q1288) dX3_went_26 ?_
      obtain ⟨v_3, h, hf⟩ := ec_bi hf
      refine e_cS (v := .int v_3) (As := [.long (x3.toInt64), .long (0 : Int64), .long (999999 : Int64)]) (rest := []) X (metX3_in l (x3.toInt64) (0 : Int64) (999999 : Int64) _ h) (va_cwS 3 X.2.2.2.2 gX3_124 rfl rfl rfl hX3_in ⟨Nat.le_of_ble_eq_true rfl, Nat.le_of_ble_eq_true rfl⟩) rfl hl.1 rfl (Nat.le_of_ble_eq_true rfl) ⟨Nat.zero_le _, Nat.zero_le _⟩ dX3_went_29 ?_
      refine lv_if_ne (tgt := 37) hx hb dX3_went_32 rfl (fun cnd => ?_) (fun cnd => ?_)
      · have hf := ec_t cnd hf
        refine lv_aload_n hx hb dX3_went_37 rfl (lv_at hl 0 rfl) ?_
        refine lv_iload_n hx hb dX3_went_38 rfl (lv_at hl 1 rfl) ?_
        obtain ⟨v_4, h, hf⟩ := ec_bi hf
        refine m_cR (v := .int v_4) (As := [.int x1]) (rest := []) X hM (metX3_linesIn l D o q d dz N S x1 _ h) (cwV 1 X.2.2.2.2 gX3_228 rfl rfl rfl hX3_linesIn ⟨Nat.le_of_ble_eq_true rfl, Nat.le_of_ble_eq_true rfl⟩) rfl hl.1 rfl (Nat.le_of_ble_eq_true rfl) ⟨Nat.zero_le _, Nat.zero_le _⟩ dX3_went_39 ?_
        refine lv_istore (lv' := [(4, .int v_4), (0, .ref o), (1, .int x1), (2, .int x2), (3, .int x3)]) hx hb dX3_went_42 hl (by decide) rfl (fun ls hl => ?_)
        refine lv_iconst (v := 0) hx hb dX3_went_44 (by decide) ?_
        refine lv_istore (lv' := [(5, .int (0 : Int32)), (4, .int v_4), (0, .ref o), (1, .int x1), (2, .int x2), (3, .int x3)]) hx hb dX3_went_45 hl (by decide) rfl (fun ls hl => ?_)
        refine lv_iconst (v := 0) hx hb dX3_went_47 (by decide) ?_
        refine lv_istore (lv' := [(6, .int (0 : Int32)), (5, .int (0 : Int32)), (4, .int v_4), (0, .ref o), (1, .int x1), (2, .int x2), (3, .int x3)]) hx hb dX3_went_48 hl (by decide) rfl (fun ls hl => ?_)
        refine lv_iconst (v := 0) hx hb dX3_went_50 (by decide) ?_
        refine lv_istore (lv' := [(7, .int (0 : Int32)), (6, .int (0 : Int32)), (5, .int (0 : Int32)), (4, .int v_4), (0, .ref o), (1, .int x1), (2, .int x2), (3, .int x3)]) hx hb dX3_went_51 hl (by decide) rfl (fun ls hl => ?_)
        exact bX3_went_53 X hr hlk hM (fun x3_14 x5_15 x6_16 ls hf hl => by
          refine lv_iload_n hx hb dX3_went_151 rfl (lv_at hl 1 rfl) ?_
          refine lv_iload hx hb dX3_went_152 (lv_at hl 2 rfl) ?_
          refine lv_isub hx hb dX3_went_154 ?_
          refine lv_topi (fun x7_17 ex => ?_)
          have hf := ec_lt_i ex hf
          refine lv_istore (lv' := [(7, .int x7_17), (0, .ref o), (3, .int x3_14), (5, .int x5_15), (6, .int x6_16)]) hx hb dX3_went_155 hl (by decide) rfl (fun ls hl => ?_)
          refine lv_iload hx hb dX3_went_157 (lv_at hl 4 rfl) ?_
          refine lv_if_ne (tgt := 174) hx hb dX3_went_159 rfl (fun cnd => ?_) (fun cnd => ?_)
          · have hf := ec_t cnd hf
            refine lv_iload hx hb dX3_went_174 (lv_at hl 0 rfl) ?_
            refine lv_if_lt (tgt := 206) hx hb dX3_went_176 rfl (fun cnd => ?_) (fun cnd => ?_)
            · have hf := ec_t cnd hf
              exact bX3_went_206 X hr hlk hM _ hf (lv_sub hl [1] rfl)
            · have hf := ec_f cnd hf
              refine lv_iload hx hb dX3_went_179 (lv_at hl 0 rfl) ?_
              refine lv_iload hx hb dX3_went_181 (lv_at hl 4 rfl) ?_
              obtain ⟨v_18, h, hf⟩ := ec_bi hf
              refine e_rm hx hb h dX3_went_183 ?_
              refine lv_if_ne (tgt := 206) hx hb dX3_went_184 rfl (fun cnd => ?_) (fun cnd => ?_)
              · have hf := ec_t cnd hf
                exact bX3_went_206 X hr hlk hM _ hf (lv_sub hl [1] rfl)
              · have hf := ec_f (not_not_intro cnd) hf
                refine lv_iload hx hb dX3_went_187 (lv_at hl 0 rfl) ?_
                refine lv_iload hx hb dX3_went_189 (lv_at hl 4 rfl) ?_
                obtain ⟨v_19, h, hf⟩ := ec_bi hf
                refine e_dv hx hb h dX3_went_191 ?_
                refine lv_sipush (v := 9999) hx hb dX3_went_192 (by decide) ?_
                refine lv_icmp_gt (tgt := 206) hx hb dX3_went_195 rfl (fun cnd => ?_) (fun cnd => ?_)
                · have hf := ec_t cnd hf
                  exact bX3_went_206 X hr hlk hM _ hf (lv_sub hl [1] rfl)
                · have hf := ec_f cnd hf
                  refine lv_iload hx hb dX3_went_198 (lv_at hl 0 rfl) ?_
                  refine lv_iload hx hb dX3_went_200 (lv_at hl 4 rfl) ?_
                  obtain ⟨v_20, h, hf⟩ := ec_bi hf
                  refine e_dv hx hb h dX3_went_202 ?_
                  refine lv_goto (tgt := 208) hx hb dX3_went_203 rfl ?_
                  obtain rfl := Option.some.inj hf
                  exact e_iretR hx hb hr hlk dX3_went_208
          · have hf := ec_f (not_not_intro cnd) hf
            refine lv_iload hx hb dX3_went_162 (lv_at hl 0 rfl) ?_
            refine lv_if_ne (tgt := 171) hx hb dX3_went_164 rfl (fun cnd => ?_) (fun cnd => ?_)
            · have hf := ec_t cnd hf
              refine lv_bipush (v := -4) hx hb dX3_went_171 (by decide) ?_
              obtain rfl := Option.some.inj hf
              exact e_iretR hx hb hr hlk dX3_went_173
            · have hf := ec_f (not_not_intro cnd) hf
              refine lv_iconst (v := 0) hx hb dX3_went_167 (by decide) ?_
              refine lv_goto (tgt := 173) hx hb dX3_went_168 rfl ?_
              obtain rfl := Option.some.inj hf
              exact e_iretR hx hb hr hlk dX3_went_173) N x1 x2 x3 v_4 (0 : Int32) (0 : Int32) (0 : Int32) _ hf (lv_sub hl [4, 5, 6, 7, 3, 2, 1, 0] rfl)
      · have hf := ec_f (not_not_intro cnd) hf
        exact bX3_went_35 X hr hlk hM _ hf (lv_sub hl [0] rfl)
theorem hX3_went : yX3_went.cls = RX3 ∧ yX3_went.cls ≠ "java/lang/invoke/MethodHandle" ∧ yX3_went.cls ≠ "java/lang/invoke/VarHandle" ∧ (parseMethodDescriptor yX3_went.desc).map (fun d => d.parameters.length) = some 3 := by decide +kernel

noncomputable def fX3_countOf_4 (N : Nat) (kx24 : Int32 → Option Int32) : Nat → Int32 → Int32 → Int32 → Option Int32
  | 0, _, _, _ => none
  | n + 1, x0, x1, x2 =>
    if (16 : Int32) ≤ x2 then (
      kx24 x1)
    else (
      ec_lt (x1 + ((x0 >>> (x2 &&& 31)) &&& (1 : Int32))) fun x1_1 =>
      ec_lt (x2 + (1 : Int32)) fun x2_2 =>
      (fX3_countOf_4 N kx24 n) x0 x1_1 x2_2)
theorem bX3_countOf_4 {N : Nat} (X : CallFix p m c cX3_countOf 3 s args lw_all RX3) (hr : meth.sig.returnType = (some .int)) (hlk : meth.locks = false) {res : Int32} {kx24 : Int32 → Option Int32} (Hkx24 : ∀ (x1 : Int32) (ls : Array Slot), kx24 x1 = some res → lv_has ls 3 [(1, .int x1)] → W p l e (rmL 0) s m args below meth c s.heap [] 0 0 (MQ below (k2_QcV (.int res)) args s 0 0 (fun _ => False)) (F0 m 24 ls [])) : ∀ (n : Nat) (x0 : Int32) (x1 : Int32) (x2 : Int32) (ls : Array Slot), fX3_countOf_4 N kx24 n x0 x1 x2 = some res → lv_has ls 3 [(0, .int x0), (1, .int x1), (2, .int x2)] → W p l e (rmL 0) s m args below meth c s.heap [] 0 0 (MQ below (k2_QcV (.int res)) args s 0 0 (fun _ => False)) (F0 m 4 ls []) := by
  have hx := X.1
  have hb := X.2.1
  intro n
  induction n with
  | zero =>
    intro x0 x1 x2 ls hf hl
    rw [fX3_countOf_4] at hf
    cases hf
  | succ n ih =>
    intro x0 x1 x2 ls hf hl
    rw [fX3_countOf_4] at hf
    refine lv_iload_n hx hb dX3_countOf_4 rfl (lv_at hl 2 rfl) ?_
    refine lv_bipush (v := 16) hx hb dX3_countOf_5 (by decide) ?_
    refine lv_icmp_ge (tgt := 24) hx hb dX3_countOf_7 rfl (fun cnd => ?_) (fun cnd => ?_)
    · have hf := ec_t cnd hf
      exact Hkx24 x1 _ hf (lv_sub hl [1] rfl)
    · have hf := ec_f cnd hf
      refine lv_iload_n hx hb dX3_countOf_10 rfl (lv_at hl 1 rfl) ?_
      refine lv_iload_n hx hb dX3_countOf_11 rfl (lv_at hl 0 rfl) ?_
      refine lv_iload_n hx hb dX3_countOf_12 rfl (lv_at hl 2 rfl) ?_
      refine lv_ishr hx hb dX3_countOf_13 ?_
      refine lv_iconst (v := 1) hx hb dX3_countOf_14 (by decide) ?_
      refine lv_iand hx hb dX3_countOf_15 ?_
      refine lv_iadd hx hb dX3_countOf_16 ?_
      refine lv_topi (fun x1_1 ex => ?_)
      have hf := ec_lt_i ex hf
      refine lv_istore_n (lv' := [(1, .int x1_1), (0, .int x0), (2, .int x2)]) hx hb dX3_countOf_17 rfl hl (by decide) rfl (fun ls hl => ?_)
      refine e_inc (w := 1) (f := fun v => [(2, .int v), (1, .int x1_1), (0, .int x0)]) hx hb dX3_countOf_18 hl (k := 2) rfl (by decide) (by decide) (fun _ => rfl) (fun x2_2 ex ls hl => ?_)
      have hf := ec_lt_i ex hf
      refine lv_goto (tgt := 4) hx hb dX3_countOf_21 rfl ?_
      exact ih x0 x1_1 x2_2 _ hf (lv_sub hl [2, 1, 0] rfl)
noncomputable def fX3_countOf (N : Nat) (x0 : Int32) : Option Int32 :=
  fX3_countOf_4 N (fun x1_3 =>
    some x1_3) N x0 (0 : Int32) (0 : Int32)
theorem metX3_countOf (l : Launch) (N : Nat) (x0 : Int32) (res : Int32) (hf : fX3_countOf N x0 = some res) : Met l yX3_countOf (ws_ yX3_countOf cX3_countOf 3 (some .int)) (rmL 0) (PA [.int x0]) (k2_QcV (.int res)) 0 0 (fun _ => False) := by
  refine e_ofS (by decide) (Nat.le_of_ble_eq_true rfl) (fun p e s m args below meth c X hr hlk ls hl => ?_)
  have hl : lv_has ls 3 [(0, .int x0)] := hl
  have hx := X.1
  have hb := X.2.1
  unfold fX3_countOf at hf
  refine lv_iconst (v := 0) hx hb dX3_countOf_0 (by decide) ?_
  refine lv_istore_n (lv' := [(1, .int (0 : Int32)), (0, .int x0)]) hx hb dX3_countOf_1 rfl hl (by decide) rfl (fun ls hl => ?_)
  refine lv_iconst (v := 0) hx hb dX3_countOf_2 (by decide) ?_
  refine lv_istore_n (lv' := [(2, .int (0 : Int32)), (1, .int (0 : Int32)), (0, .int x0)]) hx hb dX3_countOf_3 rfl hl (by decide) rfl (fun ls hl => ?_)
  exact bX3_countOf_4 X hr hlk (fun x1_3 ls hf hl => by
    refine lv_iload_n hx hb dX3_countOf_24 rfl (lv_at hl 0 rfl) ?_
    obtain rfl := Option.some.inj hf
    exact e_iretR hx hb hr hlk dX3_countOf_25) N x0 (0 : Int32) (0 : Int32) _ hf (lv_sub hl [2, 1, 0] rfl)
theorem hX3_countOf : yX3_countOf.cls ≠ "java/lang/invoke/MethodHandle" ∧ yX3_countOf.cls ≠ "java/lang/invoke/VarHandle" ∧ (parseMethodDescriptor yX3_countOf.desc).map (fun d => d.parameters.length) = some 1 := by decide +kernel

theorem gX3_273 : GoodIn lw_all (va_wsS RX3 273 yX3_countOf (ws_ yX3_countOf cX3_countOf 3 (some .int))) := lw_S q1294 q1295 q63 q1296
noncomputable def fX3_hot_29 (N : Nat) (S : sM) : Option Int32 :=
  some (-1 : Int32)
theorem bX3_hot_29 {N : Nat} (X : CallFix p m c cX3_hot 9 s args lw_all RX3) (hr : meth.sig.returnType = (some .int)) (hlk : meth.locks = false) {S : sM} (hM : MW D o q d dz S s s.heap []) {res : Int32} : ∀ (ls : Array Slot), fX3_hot_29 N S = some res → lv_has ls 9 [(0, .ref o)] → W p l e (rmL 2) s m args below meth c s.heap [] 0 0 (MQ below (k2_QcV (.int res)) args s 0 0 (fun _ => False)) (F0 m 29 ls []) := by
  have hx := X.1
  have hb := X.2.1
  intro ls hf hl
  unfold fX3_hot_29 at hf
  refine lv_iconst (v := -1) hx hb dX3_hot_29 (by decide) ?_
  obtain rfl := Option.some.inj hf
  exact e_iretR hx hb hr hlk dX3_hot_30
noncomputable def fX3_hot_128 (N : Nat) (S : sM) (k87 : Int32 → Int32 → Int32 → Int32 → Int32 → Int32 → Int32 → Int32 → Option Int32) (x1 : Int32) (x2 : Int32) (x3 : Int32) (x4 : Int32) (x5 : Int32) (x6 : Int32) (x8 : Int32) (t0 : Int32) (t1 : Int32) : Option Int32 :=
  ec_lt (t1 + t0) fun x7_5 =>
  ec_lt (x8 + (1 : Int32)) fun x8_6 =>
  k87 x1 x2 x3 x4 x5 x6 x7_5 x8_6
theorem bX3_hot_128 {N : Nat} (X : CallFix p m c cX3_hot 9 s args lw_all RX3) (hr : meth.sig.returnType = (some .int)) (hlk : meth.locks = false) {S : sM} (hM : MW D o q d dz S s s.heap []) {res : Int32} {k87 : Int32 → Int32 → Int32 → Int32 → Int32 → Int32 → Int32 → Int32 → Option Int32} (Hk87 : ∀ (x1 : Int32) (x2 : Int32) (x3 : Int32) (x4 : Int32) (x5 : Int32) (x6 : Int32) (x7 : Int32) (x8 : Int32) (ls : Array Slot), k87 x1 x2 x3 x4 x5 x6 x7 x8 = some res → lv_has ls 9 [(0, .ref o), (1, .int x1), (2, .int x2), (3, .int x3), (4, .int x4), (5, .int x5), (6, .int x6), (7, .int x7), (8, .int x8)] → W p l e (rmL 2) s m args below meth c s.heap [] 0 0 (MQ below (k2_QcV (.int res)) args s 0 0 (fun _ => False)) (F0 m 87 ls [])) : ∀ (x1 : Int32) (x2 : Int32) (x3 : Int32) (x4 : Int32) (x5 : Int32) (x6 : Int32) (x8 : Int32) (t0 : Int32) (t1 : Int32) (ls : Array Slot), fX3_hot_128 N S k87 x1 x2 x3 x4 x5 x6 x8 t0 t1 = some res → lv_has ls 9 [(0, .ref o), (1, .int x1), (2, .int x2), (3, .int x3), (4, .int x4), (5, .int x5), (6, .int x6), (8, .int x8)] → W p l e (rmL 2) s m args below meth c s.heap [] 0 0 (MQ below (k2_QcV (.int res)) args s 0 0 (fun _ => False)) (F0 m 128 ls [.int t0, .int t1]) := by
  have hx := X.1
  have hb := X.2.1
  intro x1 x2 x3 x4 x5 x6 x8 t0 t1 ls hf hl
  unfold fX3_hot_128 at hf
  refine lv_iadd hx hb dX3_hot_128 ?_
  refine lv_topi (fun x7_5 ex => ?_)
  have hf := ec_lt_i ex hf
  refine lv_istore (lv' := [(7, .int x7_5), (0, .ref o), (1, .int x1), (2, .int x2), (3, .int x3), (4, .int x4), (5, .int x5), (6, .int x6), (8, .int x8)]) hx hb dX3_hot_129 hl (by decide) rfl (fun ls hl => ?_)
  refine e_inc (w := 1) (f := fun v => [(8, .int v), (7, .int x7_5), (0, .ref o), (1, .int x1), (2, .int x2), (3, .int x3), (4, .int x4), (5, .int x5), (6, .int x6)]) hx hb dX3_hot_131 hl (k := 8) rfl (by decide) (by decide) (fun _ => rfl) (fun x8_6 ex ls hl => ?_)
  have hf := ec_lt_i ex hf
  refine lv_goto (tgt := 87) hx hb dX3_hot_134 rfl ?_
  exact Hk87 x1 x2 x3 x4 x5 x6 x7_5 x8_6 _ hf (lv_sub hl [2, 3, 4, 5, 6, 7, 8, 1, 0] rfl)
noncomputable def fX3_hot_87 (N : Nat) (S : sM) (kx137 : Int32 → Int32 → Int32 → Int32 → Int32 → Int32 → Int32 → Option Int32) : Nat → Int32 → Int32 → Int32 → Int32 → Int32 → Int32 → Int32 → Int32 → Option Int32
  | 0, _, _, _, _, _, _, _, _ => none
  | n + 1, x1, x2, x3, x4, x5, x6, x7, x8 =>
    if (S.1 0) ≤ x8 then (
      kx137 x1 x2 x3 x4 x5 x6 x7)
    else (
      if ¬ ((x6 >>> (x8 &&& 31)) &&& (1 : Int32)) = (1 : Int32) then (
        fX3_hot_128 N S (fX3_hot_87 N S kx137 n) x1 x2 x3 x4 x5 x6 x8 (0 : Int32) x7)
      else (
        (ec_ag (S.2.2 9) 16 x8).bind fun v_7 =>
        (fX3_made S x8 x1).bind fun v_8 =>
        fX3_hot_128 N S (fX3_hot_87 N S kx137 n) x1 x2 x3 x4 x5 x6 x8 (v_7 * v_8) x7))
theorem bX3_hot_87 {N : Nat} (X : CallFix p m c cX3_hot 9 s args lw_all RX3) (hr : meth.sig.returnType = (some .int)) (hlk : meth.locks = false) {S : sM} (hM : MW D o q d dz S s s.heap []) {res : Int32} {kx137 : Int32 → Int32 → Int32 → Int32 → Int32 → Int32 → Int32 → Option Int32} (Hkx137 : ∀ (x1 : Int32) (x2 : Int32) (x3 : Int32) (x4 : Int32) (x5 : Int32) (x6 : Int32) (x7 : Int32) (ls : Array Slot), kx137 x1 x2 x3 x4 x5 x6 x7 = some res → lv_has ls 9 [(0, .ref o), (1, .int x1), (2, .int x2), (3, .int x3), (4, .int x4), (5, .int x5), (6, .int x6), (7, .int x7)] → W p l e (rmL 2) s m args below meth c s.heap [] 0 0 (MQ below (k2_QcV (.int res)) args s 0 0 (fun _ => False)) (F0 m 137 ls [])) : ∀ (n : Nat) (x1 : Int32) (x2 : Int32) (x3 : Int32) (x4 : Int32) (x5 : Int32) (x6 : Int32) (x7 : Int32) (x8 : Int32) (ls : Array Slot), fX3_hot_87 N S kx137 n x1 x2 x3 x4 x5 x6 x7 x8 = some res → lv_has ls 9 [(0, .ref o), (1, .int x1), (2, .int x2), (3, .int x3), (4, .int x4), (5, .int x5), (6, .int x6), (7, .int x7), (8, .int x8)] → W p l e (rmL 2) s m args below meth c s.heap [] 0 0 (MQ below (k2_QcV (.int res)) args s 0 0 (fun _ => False)) (F0 m 87 ls []) := by
  have hx := X.1
  have hb := X.2.1
  intro n
  induction n with
  | zero =>
    intro x1 x2 x3 x4 x5 x6 x7 x8 ls hf hl
    rw [fX3_hot_87] at hf
    cases hf
  | succ n ih =>
    intro x1 x2 x3 x4 x5 x6 x7 x8 ls hf hl
    rw [fX3_hot_87] at hf
    refine lv_iload hx hb dX3_hot_87 (lv_at hl 8 rfl) ?_
    refine lv_aload_n hx hb dX3_hot_89 rfl (lv_at hl 0 rfl) ?_
    refine m_get (v := .int (S.1 0)) X hM 0 (by decide) q974 rfl rfl dX3_hot_90 ?_
    refine lv_icmp_ge (tgt := 137) hx hb dX3_hot_93 rfl (fun cnd => ?_) (fun cnd => ?_)
    · have hf := ec_t cnd hf
      exact Hkx137 x1 x2 x3 x4 x5 x6 x7 _ hf (lv_sub hl [0, 1, 2, 3, 4, 5, 6, 7] rfl)
    · have hf := ec_f cnd hf
      refine lv_iload hx hb dX3_hot_96 (lv_at hl 7 rfl) ?_
      refine lv_iload hx hb dX3_hot_98 (lv_at hl 6 rfl) ?_
      refine lv_iload hx hb dX3_hot_100 (lv_at hl 8 rfl) ?_
      refine lv_ishr hx hb dX3_hot_102 ?_
      refine lv_iconst (v := 1) hx hb dX3_hot_103 (by decide) ?_
      refine lv_iand hx hb dX3_hot_104 ?_
      refine lv_iconst (v := 1) hx hb dX3_hot_105 (by decide) ?_
      refine lv_icmp_ne (tgt := 127) hx hb dX3_hot_106 rfl (fun cnd => ?_) (fun cnd => ?_)
      · have hf := ec_t cnd hf
        refine lv_iconst (v := 0) hx hb dX3_hot_127 (by decide) ?_
        exact bX3_hot_128 X hr hlk hM ih x1 x2 x3 x4 x5 x6 x8 (0 : Int32) x7 _ hf (lv_sub hl [0, 1, 2, 3, 4, 5, 6, 8] rfl)
      · have hf := ec_f (not_not_intro cnd) hf
        refine lv_aload_n hx hb dX3_hot_109 rfl (lv_at hl 0 rfl) ?_
        refine m_get (v := .ref (q 9)) X hM 9 (by decide) q983 rfl rfl dX3_hot_110 ?_
        refine lv_iload hx hb dX3_hot_113 (lv_at hl 8 rfl) ?_
        obtain ⟨v_7, h, hf⟩ := ec_bi hf
        refine m_iald X hM wma9 h dX3_hot_115 ?_
        refine lv_aload_n hx hb dX3_hot_116 rfl (lv_at hl 0 rfl) ?_
        refine lv_iload hx hb dX3_hot_117 (lv_at hl 8 rfl) ?_
        refine lv_iload_n hx hb dX3_hot_119 rfl (lv_at hl 1 rfl) ?_
        obtain ⟨v_8, h, hf⟩ := ec_bi hf
        refine m_cR (v := .int v_8) (As := [.int x8, .int x1]) (rest := [.int v_7, .int x7]) X hM (metX3_made l D o q d dz S x8 x1 _ h) (cwV 2 X.2.2.2.2 gX3_251 rfl rfl rfl hX3_made ⟨Nat.le_of_ble_eq_true rfl, Nat.le_of_ble_eq_true rfl⟩) rfl hl.1 rfl (Nat.le_of_ble_eq_true rfl) ⟨Nat.zero_le _, Nat.zero_le _⟩ dX3_hot_120 ?_
        refine lv_imul hx hb dX3_hot_123 ?_
        refine lv_goto (tgt := 128) hx hb dX3_hot_124 rfl ?_
        exact bX3_hot_128 X hr hlk hM ih x1 x2 x3 x4 x5 x6 x8 (v_7 * v_8) x7 _ hf (lv_sub hl [0, 1, 2, 3, 4, 5, 6, 8] rfl)
noncomputable def fX3_hot_163 (N : Nat) (S : sM) (k45 : Int32 → Int32 → Int32 → Int32 → Int32 → Int32 → Option Int32) (x1 : Int32) (x2 : Int32) (x3 : Int32) (x4 : Int32) (x5 : Int32) (x6 : Int32) : Option Int32 :=
  ec_lt (x6 + (1 : Int32)) fun x6_16 =>
  k45 x1 x2 x3 x4 x5 x6_16
theorem bX3_hot_163 {N : Nat} (X : CallFix p m c cX3_hot 9 s args lw_all RX3) (hr : meth.sig.returnType = (some .int)) (hlk : meth.locks = false) {S : sM} (hM : MW D o q d dz S s s.heap []) {res : Int32} {k45 : Int32 → Int32 → Int32 → Int32 → Int32 → Int32 → Option Int32} (Hk45 : ∀ (x1 : Int32) (x2 : Int32) (x3 : Int32) (x4 : Int32) (x5 : Int32) (x6 : Int32) (ls : Array Slot), k45 x1 x2 x3 x4 x5 x6 = some res → lv_has ls 9 [(0, .ref o), (1, .int x1), (2, .int x2), (3, .int x3), (4, .int x4), (5, .int x5), (6, .int x6)] → W p l e (rmL 2) s m args below meth c s.heap [] 0 0 (MQ below (k2_QcV (.int res)) args s 0 0 (fun _ => False)) (F0 m 45 ls [])) : ∀ (x1 : Int32) (x2 : Int32) (x3 : Int32) (x4 : Int32) (x5 : Int32) (x6 : Int32) (ls : Array Slot), fX3_hot_163 N S k45 x1 x2 x3 x4 x5 x6 = some res → lv_has ls 9 [(0, .ref o), (1, .int x1), (2, .int x2), (3, .int x3), (4, .int x4), (5, .int x5), (6, .int x6)] → W p l e (rmL 2) s m args below meth c s.heap [] 0 0 (MQ below (k2_QcV (.int res)) args s 0 0 (fun _ => False)) (F0 m 163 ls []) := by
  have hx := X.1
  have hb := X.2.1
  intro x1 x2 x3 x4 x5 x6 ls hf hl
  unfold fX3_hot_163 at hf
  refine e_inc (w := 1) (f := fun v => [(6, .int v), (0, .ref o), (1, .int x1), (2, .int x2), (3, .int x3), (4, .int x4), (5, .int x5)]) hx hb dX3_hot_163 hl (k := 6) rfl (by decide) (by decide) (fun _ => rfl) (fun x6_16 ex ls hl => ?_)
  have hf := ec_lt_i ex hf
  refine lv_goto (tgt := 45) hx hb dX3_hot_166 rfl ?_
  exact Hk45 x1 x2 x3 x4 x5 x6_16 _ hf (lv_sub hl [1, 2, 3, 4, 5, 6, 0] rfl)
noncomputable def fX3_hot_161 (N : Nat) (S : sM) (k45 : Int32 → Int32 → Int32 → Int32 → Int32 → Int32 → Option Int32) (x1 : Int32) (x2 : Int32) (x3 : Int32) (x4 : Int32) (x6 : Int32) (t0 : Int32) : Option Int32 :=
  fX3_hot_163 N S k45 x1 x2 x3 x4 t0 x6
theorem bX3_hot_161 {N : Nat} (X : CallFix p m c cX3_hot 9 s args lw_all RX3) (hr : meth.sig.returnType = (some .int)) (hlk : meth.locks = false) {S : sM} (hM : MW D o q d dz S s s.heap []) {res : Int32} {k45 : Int32 → Int32 → Int32 → Int32 → Int32 → Int32 → Option Int32} (Hk45 : ∀ (x1 : Int32) (x2 : Int32) (x3 : Int32) (x4 : Int32) (x5 : Int32) (x6 : Int32) (ls : Array Slot), k45 x1 x2 x3 x4 x5 x6 = some res → lv_has ls 9 [(0, .ref o), (1, .int x1), (2, .int x2), (3, .int x3), (4, .int x4), (5, .int x5), (6, .int x6)] → W p l e (rmL 2) s m args below meth c s.heap [] 0 0 (MQ below (k2_QcV (.int res)) args s 0 0 (fun _ => False)) (F0 m 45 ls [])) : ∀ (x1 : Int32) (x2 : Int32) (x3 : Int32) (x4 : Int32) (x6 : Int32) (t0 : Int32) (ls : Array Slot), fX3_hot_161 N S k45 x1 x2 x3 x4 x6 t0 = some res → lv_has ls 9 [(0, .ref o), (1, .int x1), (2, .int x2), (3, .int x3), (4, .int x4), (6, .int x6)] → W p l e (rmL 2) s m args below meth c s.heap [] 0 0 (MQ below (k2_QcV (.int res)) args s 0 0 (fun _ => False)) (F0 m 161 ls [.int t0]) := by
  have hx := X.1
  have hb := X.2.1
  intro x1 x2 x3 x4 x6 t0 ls hf hl
  unfold fX3_hot_161 at hf
  refine lv_istore (lv' := [(5, .int t0), (0, .ref o), (1, .int x1), (2, .int x2), (3, .int x3), (4, .int x4), (6, .int x6)]) hx hb dX3_hot_161 hl (by decide) rfl (fun ls hl => ?_)
  exact bX3_hot_163 X hr hlk hM Hk45 x1 x2 x3 x4 t0 x6 _ hf (lv_sub hl [1, 2, 3, 4, 5, 0, 6] rfl)
noncomputable def fX3_hot_81 (N : Nat) (S : sM) (k45 : Int32 → Int32 → Int32 → Int32 → Int32 → Int32 → Option Int32) (x1 : Int32) (x2 : Int32) (x3 : Int32) (x4 : Int32) (x5 : Int32) (x6 : Int32) : Option Int32 :=
  fX3_hot_87 N S (fun x1_9 x2_10 x3_11 x4_12 x5_13 x6_14 x7_15 =>
    if (lg_cmp ((100 : Int64) * (x7_15.toInt64)) ((x2_10.toInt64) * (x4_12.toInt64))) < 0 then (
      fX3_hot_161 N S k45 x1_9 x2_10 x3_11 x4_12 x6_14 x5_13)
    else (
      fX3_hot_161 N S k45 x1_9 x2_10 x3_11 x4_12 x6_14 x6_14)) N x1 x2 x3 x4 x5 x6 (0 : Int32) (0 : Int32)
theorem bX3_hot_81 {N : Nat} (X : CallFix p m c cX3_hot 9 s args lw_all RX3) (hr : meth.sig.returnType = (some .int)) (hlk : meth.locks = false) {S : sM} (hM : MW D o q d dz S s s.heap []) {res : Int32} {k45 : Int32 → Int32 → Int32 → Int32 → Int32 → Int32 → Option Int32} (Hk45 : ∀ (x1 : Int32) (x2 : Int32) (x3 : Int32) (x4 : Int32) (x5 : Int32) (x6 : Int32) (ls : Array Slot), k45 x1 x2 x3 x4 x5 x6 = some res → lv_has ls 9 [(0, .ref o), (1, .int x1), (2, .int x2), (3, .int x3), (4, .int x4), (5, .int x5), (6, .int x6)] → W p l e (rmL 2) s m args below meth c s.heap [] 0 0 (MQ below (k2_QcV (.int res)) args s 0 0 (fun _ => False)) (F0 m 45 ls [])) : ∀ (x1 : Int32) (x2 : Int32) (x3 : Int32) (x4 : Int32) (x5 : Int32) (x6 : Int32) (ls : Array Slot), fX3_hot_81 N S k45 x1 x2 x3 x4 x5 x6 = some res → lv_has ls 9 [(0, .ref o), (1, .int x1), (2, .int x2), (3, .int x3), (4, .int x4), (5, .int x5), (6, .int x6)] → W p l e (rmL 2) s m args below meth c s.heap [] 0 0 (MQ below (k2_QcV (.int res)) args s 0 0 (fun _ => False)) (F0 m 81 ls []) := by
  have hx := X.1
  have hb := X.2.1
  intro x1 x2 x3 x4 x5 x6 ls hf hl
  unfold fX3_hot_81 at hf
  refine lv_iconst (v := 0) hx hb dX3_hot_81 (by decide) ?_
  refine lv_istore (lv' := [(7, .int (0 : Int32)), (0, .ref o), (1, .int x1), (2, .int x2), (3, .int x3), (4, .int x4), (5, .int x5), (6, .int x6)]) hx hb dX3_hot_82 hl (by decide) rfl (fun ls hl => ?_)
  refine lv_iconst (v := 0) hx hb dX3_hot_84 (by decide) ?_
  refine lv_istore (lv' := [(8, .int (0 : Int32)), (7, .int (0 : Int32)), (0, .ref o), (1, .int x1), (2, .int x2), (3, .int x3), (4, .int x4), (5, .int x5), (6, .int x6)]) hx hb dX3_hot_85 hl (by decide) rfl (fun ls hl => ?_)
  exact bX3_hot_87 X hr hlk hM (fun x1_9 x2_10 x3_11 x4_12 x5_13 x6_14 x7_15 ls hf hl => by
    refine lv_ldc2 (own := RX3) (v := 100) hx hb X.2.2.2.1 (X.2.2.2.2 _ q1293) dX3_hot_137 ?_
    refine lv_iload hx hb dX3_hot_140 (lv_at hl 7 rfl) ?_
    refine lv_i2l hx hb dX3_hot_142 rfl ?_
    refine lv_lmul hx hb dX3_hot_143 ?_
    refine lv_iload_n hx hb dX3_hot_144 rfl (lv_at hl 2 rfl) ?_
    refine lv_i2l hx hb dX3_hot_145 rfl ?_
    refine lv_iload hx hb dX3_hot_146 (lv_at hl 4 rfl) ?_
    refine lv_i2l hx hb dX3_hot_148 rfl ?_
    refine lv_lmul hx hb dX3_hot_149 ?_
    refine W.lcmp hx hb dX3_hot_150 ?_
    refine lv_if_lt (tgt := 159) hx hb dX3_hot_151 rfl (fun cnd => ?_) (fun cnd => ?_)
    · have hf := ec_t cnd hf
      refine lv_iload hx hb dX3_hot_159 (lv_at hl 5 rfl) ?_
      exact bX3_hot_161 X hr hlk hM Hk45 x1_9 x2_10 x3_11 x4_12 x6_14 x5_13 _ hf (lv_sub hl [0, 1, 2, 3, 4, 6] rfl)
    · have hf := ec_f cnd hf
      refine lv_iload hx hb dX3_hot_154 (lv_at hl 6 rfl) ?_
      refine lv_goto (tgt := 161) hx hb dX3_hot_156 rfl ?_
      exact bX3_hot_161 X hr hlk hM Hk45 x1_9 x2_10 x3_11 x4_12 x6_14 x6_14 _ hf (lv_sub hl [0, 1, 2, 3, 4, 6] rfl)) N x1 x2 x3 x4 x5 x6 (0 : Int32) (0 : Int32) _ hf (lv_sub hl [2, 3, 4, 5, 6, 7, 8, 1, 0] rfl)
noncomputable def fX3_hot_45 (N : Nat) (S : sM) (kx169 : Int32 → Int32 → Option Int32) : Nat → Int32 → Int32 → Int32 → Int32 → Int32 → Int32 → Option Int32
  | 0, _, _, _, _, _, _ => none
  | n + 1, x1, x2, x3, x4, x5, x6 =>
    if ((1 : Int32) <<< ((S.1 0) &&& 31)) ≤ x6 then (
      kx169 x3 x5)
    else (
      if x4 ≤ 0 then (
        kx169 x3 x5)
      else (
        if x5 = (-4 : Int32) then (
          fX3_hot_81 N S (fX3_hot_45 N S kx169 n) x1 x2 x3 x4 x5 x6)
        else (
          (fX3_countOf N x6).bind fun v_17 =>
          (fX3_countOf N x5).bind fun v_18 =>
          if v_18 ≤ v_17 then (
            fX3_hot_163 N S (fX3_hot_45 N S kx169 n) x1 x2 x3 x4 x5 x6)
          else (
            fX3_hot_81 N S (fX3_hot_45 N S kx169 n) x1 x2 x3 x4 x5 x6))))
theorem bX3_hot_45 {N : Nat} (X : CallFix p m c cX3_hot 9 s args lw_all RX3) (hr : meth.sig.returnType = (some .int)) (hlk : meth.locks = false) {S : sM} (hM : MW D o q d dz S s s.heap []) {res : Int32} {kx169 : Int32 → Int32 → Option Int32} (Hkx169 : ∀ (x3 : Int32) (x5 : Int32) (ls : Array Slot), kx169 x3 x5 = some res → lv_has ls 9 [(0, .ref o), (3, .int x3), (5, .int x5)] → W p l e (rmL 2) s m args below meth c s.heap [] 0 0 (MQ below (k2_QcV (.int res)) args s 0 0 (fun _ => False)) (F0 m 169 ls [])) : ∀ (n : Nat) (x1 : Int32) (x2 : Int32) (x3 : Int32) (x4 : Int32) (x5 : Int32) (x6 : Int32) (ls : Array Slot), fX3_hot_45 N S kx169 n x1 x2 x3 x4 x5 x6 = some res → lv_has ls 9 [(0, .ref o), (1, .int x1), (2, .int x2), (3, .int x3), (4, .int x4), (5, .int x5), (6, .int x6)] → W p l e (rmL 2) s m args below meth c s.heap [] 0 0 (MQ below (k2_QcV (.int res)) args s 0 0 (fun _ => False)) (F0 m 45 ls []) := by
  have hx := X.1
  have hb := X.2.1
  intro n
  induction n with
  | zero =>
    intro x1 x2 x3 x4 x5 x6 ls hf hl
    rw [fX3_hot_45] at hf
    cases hf
  | succ n ih =>
    intro x1 x2 x3 x4 x5 x6 ls hf hl
    rw [fX3_hot_45] at hf
    refine lv_iload hx hb dX3_hot_45 (lv_at hl 6 rfl) ?_
    refine lv_iconst (v := 1) hx hb dX3_hot_47 (by decide) ?_
    refine lv_aload_n hx hb dX3_hot_48 rfl (lv_at hl 0 rfl) ?_
    refine m_get (v := .int (S.1 0)) X hM 0 (by decide) q974 rfl rfl dX3_hot_49 ?_
    refine lv_ishl hx hb dX3_hot_52 ?_
    refine lv_icmp_ge (tgt := 169) hx hb dX3_hot_53 rfl (fun cnd => ?_) (fun cnd => ?_)
    · have hf := ec_t cnd hf
      exact Hkx169 x3 x5 _ hf (lv_sub hl [0, 3, 5] rfl)
    · have hf := ec_f cnd hf
      refine lv_iload hx hb dX3_hot_56 (lv_at hl 4 rfl) ?_
      refine lv_if_le (tgt := 169) hx hb dX3_hot_58 rfl (fun cnd => ?_) (fun cnd => ?_)
      · have hf := ec_t cnd hf
        exact Hkx169 x3 x5 _ hf (lv_sub hl [0, 3, 5] rfl)
      · have hf := ec_f cnd hf
        refine lv_iload hx hb dX3_hot_61 (lv_at hl 5 rfl) ?_
        refine lv_bipush (v := -4) hx hb dX3_hot_63 (by decide) ?_
        refine lv_icmp_eq (tgt := 81) hx hb dX3_hot_65 rfl (fun cnd => ?_) (fun cnd => ?_)
        · have hf := ec_t cnd hf
          exact bX3_hot_81 X hr hlk hM ih x1 x2 x3 x4 x5 x6 _ hf hl
        · have hf := ec_f cnd hf
          refine lv_iload hx hb dX3_hot_68 (lv_at hl 6 rfl) ?_
          obtain ⟨v_17, h, hf⟩ := ec_bi hf
          refine e_cS (v := .int v_17) (As := [.int x6]) (rest := []) X (metX3_countOf l N x6 _ h) (va_cwS 1 X.2.2.2.2 gX3_273 rfl rfl rfl hX3_countOf ⟨Nat.le_of_ble_eq_true rfl, Nat.le_of_ble_eq_true rfl⟩) rfl hl.1 rfl (Nat.le_of_ble_eq_true rfl) ⟨Nat.zero_le _, Nat.zero_le _⟩ dX3_hot_70 ?_
          refine lv_iload hx hb dX3_hot_73 (lv_at hl 5 rfl) ?_
          obtain ⟨v_18, h, hf⟩ := ec_bi hf
          refine e_cS (v := .int v_18) (As := [.int x5]) (rest := [.int v_17]) X (metX3_countOf l N x5 _ h) (va_cwS 1 X.2.2.2.2 gX3_273 rfl rfl rfl hX3_countOf ⟨Nat.le_of_ble_eq_true rfl, Nat.le_of_ble_eq_true rfl⟩) rfl hl.1 rfl (Nat.le_of_ble_eq_true rfl) ⟨Nat.zero_le _, Nat.zero_le _⟩ dX3_hot_75 ?_
          refine lv_icmp_ge (tgt := 163) hx hb dX3_hot_78 rfl (fun cnd => ?_) (fun cnd => ?_)
          · have hf := ec_t cnd hf
            exact bX3_hot_163 X hr hlk hM ih x1 x2 x3 x4 x5 x6 _ hf hl
          · have hf := ec_f cnd hf
            exact bX3_hot_81 X hr hlk hM ih x1 x2 x3 x4 x5 x6 _ hf hl
noncomputable def fX3_hot_169 (N : Nat) (S : sM) (x3 : Int32) (x5 : Int32) : Option Int32 :=
  if ¬ x5 = (-4 : Int32) then (
    if ¬ x3 = 0 then (
      some x5)
    else (
      (fX3_countOf N x5).bind fun v_21 =>
      some v_21))
  else (
    some (-4 : Int32))
theorem bX3_hot_169 {N : Nat} (X : CallFix p m c cX3_hot 9 s args lw_all RX3) (hr : meth.sig.returnType = (some .int)) (hlk : meth.locks = false) {S : sM} (hM : MW D o q d dz S s s.heap []) {res : Int32} : ∀ (x3 : Int32) (x5 : Int32) (ls : Array Slot), fX3_hot_169 N S x3 x5 = some res → lv_has ls 9 [(0, .ref o), (3, .int x3), (5, .int x5)] → W p l e (rmL 2) s m args below meth c s.heap [] 0 0 (MQ below (k2_QcV (.int res)) args s 0 0 (fun _ => False)) (F0 m 169 ls []) := by
  have hx := X.1
  have hb := X.2.1
  intro x3 x5 ls hf hl
  unfold fX3_hot_169 at hf
  refine lv_iload hx hb dX3_hot_169 (lv_at hl 2 rfl) ?_
  refine lv_bipush (v := -4) hx hb dX3_hot_171 (by decide) ?_
  refine lv_icmp_ne (tgt := 181) hx hb dX3_hot_173 rfl (fun cnd => ?_) (fun cnd => ?_)
  · have hf := ec_t cnd hf
    refine lv_iload_n hx hb dX3_hot_181 rfl (lv_at hl 1 rfl) ?_
    refine lv_if_ne (tgt := 193) hx hb dX3_hot_182 rfl (fun cnd => ?_) (fun cnd => ?_)
    · have hf := ec_t cnd hf
      refine lv_iload hx hb dX3_hot_193 (lv_at hl 2 rfl) ?_
      obtain rfl := Option.some.inj hf
      exact e_iretR hx hb hr hlk dX3_hot_195
    · have hf := ec_f (not_not_intro cnd) hf
      refine lv_iload hx hb dX3_hot_185 (lv_at hl 2 rfl) ?_
      obtain ⟨v_21, h, hf⟩ := ec_bi hf
      refine e_cS (v := .int v_21) (As := [.int x5]) (rest := []) X (metX3_countOf l N x5 _ h) (va_cwS 1 X.2.2.2.2 gX3_273 rfl rfl rfl hX3_countOf ⟨Nat.le_of_ble_eq_true rfl, Nat.le_of_ble_eq_true rfl⟩) rfl hl.1 rfl (Nat.le_of_ble_eq_true rfl) ⟨Nat.zero_le _, Nat.zero_le _⟩ dX3_hot_187 ?_
      refine lv_goto (tgt := 195) hx hb dX3_hot_190 rfl ?_
      obtain rfl := Option.some.inj hf
      exact e_iretR hx hb hr hlk dX3_hot_195
  · have hf := ec_f (not_not_intro cnd) hf
    refine lv_bipush (v := -4) hx hb dX3_hot_176 (by decide) ?_
    refine lv_goto (tgt := 195) hx hb dX3_hot_178 rfl ?_
    obtain rfl := Option.some.inj hf
    exact e_iretR hx hb hr hlk dX3_hot_195
noncomputable def fX3_hot (N : Nat) (S : sM) (x1 : Int32) (x2 : Int32) (x3 : Int32) : Option Int32 :=
  (fX3_isEvent x1).bind fun v_1 =>
  if v_1 = 0 then (
    fX3_hot_29 N S)
  else (
    (fX3_in (x2.toInt64) (1 : Int64) (100 : Int64)).bind fun v_2 =>
    if v_2 = 0 then (
      fX3_hot_29 N S)
    else (
      (fX3_in (x3.toInt64) (0 : Int64) (1 : Int64)).bind fun v_3 =>
      if ¬ v_3 = 0 then (
        (fX3_total N S x1).bind fun v_4 =>
        fX3_hot_45 N S (fun x3_19 x5_20 =>
          fX3_hot_169 N S x3_19 x5_20) N x1 x2 x3 v_4 (-4 : Int32) (1 : Int32))
      else (
        fX3_hot_29 N S)))
theorem metX3_hot (l : Launch) (D : va_G) (o : Nat) (q : Nat → Nat) (d dz : ClassId) (N : Nat) (S : sM) (x1 : Int32) (x2 : Int32) (x3 : Int32) (res : Int32) (hf : fX3_hot N S x1 x2 x3 = some res) : Met l yX3_hot (ws_ yX3_hot cX3_hot 9 (some .int)) (rmL 2) (MPre D o q d dz S [.int x1, .int x2, .int x3]) (k2_QcV (.int res)) 0 0 (fun _ => False) := by
  refine m_ofR rfl (Nat.le_of_ble_eq_true rfl) (fun p e s m args below meth c X hr hlk hM ls hl => ?_)
  have hl : lv_has ls 9 [(0, .ref o), (1, .int x1), (2, .int x2), (3, .int x3)] := hl
  have hx := X.1
  have hb := X.2.1
  unfold fX3_hot at hf
  refine lv_iload_n hx hb dX3_hot_0 rfl (lv_at hl 1 rfl) ?_
  obtain ⟨v_1, h, hf⟩ := ec_bi hf
  refine e_cS (v := .int v_1) (As := [.int x1]) (rest := []) X (metX3_isEvent l x1 _ h) (va_cwS 1 X.2.2.2.2 gX3_260 rfl rfl rfl hX3_isEvent ⟨Nat.le_of_ble_eq_true rfl, Nat.le_of_ble_eq_true rfl⟩) rfl hl.1 rfl (Nat.le_of_ble_eq_true rfl) ⟨Nat.zero_le _, Nat.zero_le _⟩ dX3_hot_1 ?_
  refine lv_if_eq (tgt := 29) hx hb dX3_hot_4 rfl (fun cnd => ?_) (fun cnd => ?_)
  · have hf := ec_t cnd hf
    exact bX3_hot_29 X hr hlk hM _ hf (lv_sub hl [0] rfl)
  · have hf := ec_f cnd hf
    refine lv_iload_n hx hb dX3_hot_7 rfl (lv_at hl 2 rfl) ?_
    refine lv_i2l hx hb dX3_hot_8 rfl ?_
    refine lv_lconst (v := 1) hx hb dX3_hot_9 (by decide) ?_
    refine lv_ldc2 (own := RX3) (v := 100) hx hb X.2.2.2.1 (X.2.2.2.2 _ q1293) dX3_hot_10 ?_
    obtain ⟨v_2, h, hf⟩ := ec_bi hf
    refine e_cS (v := .int v_2) (As := [.long (x2.toInt64), .long (1 : Int64), .long (100 : Int64)]) (rest := []) X (metX3_in l (x2.toInt64) (1 : Int64) (100 : Int64) _ h) (va_cwS 3 X.2.2.2.2 gX3_124 rfl rfl rfl hX3_in ⟨Nat.le_of_ble_eq_true rfl, Nat.le_of_ble_eq_true rfl⟩) rfl hl.1 rfl (Nat.le_of_ble_eq_true rfl) ⟨Nat.zero_le _, Nat.zero_le _⟩ dX3_hot_13 ?_
    refine lv_if_eq (tgt := 29) hx hb dX3_hot_16 rfl (fun cnd => ?_) (fun cnd => ?_)
    · have hf := ec_t cnd hf
      exact bX3_hot_29 X hr hlk hM _ hf (lv_sub hl [0] rfl)
    · have hf := ec_f cnd hf
      refine lv_iload_n hx hb dX3_hot_19 rfl (lv_at hl 3 rfl) ?_
      refine lv_i2l hx hb dX3_hot_20 rfl ?_
      refine lv_lconst (v := 0) hx hb dX3_hot_21 (by decide) ?_
      refine lv_lconst (v := 1) hx hb dX3_hot_22 (by decide) ?_
      obtain ⟨v_3, h, hf⟩ := ec_bi hf
      refine e_cS (v := .int v_3) (As := [.long (x3.toInt64), .long (0 : Int64), .long (1 : Int64)]) (rest := []) X (metX3_in l (x3.toInt64) (0 : Int64) (1 : Int64) _ h) (va_cwS 3 X.2.2.2.2 gX3_124 rfl rfl rfl hX3_in ⟨Nat.le_of_ble_eq_true rfl, Nat.le_of_ble_eq_true rfl⟩) rfl hl.1 rfl (Nat.le_of_ble_eq_true rfl) ⟨Nat.zero_le _, Nat.zero_le _⟩ dX3_hot_23 ?_
      refine lv_if_ne (tgt := 31) hx hb dX3_hot_26 rfl (fun cnd => ?_) (fun cnd => ?_)
      · have hf := ec_t cnd hf
        refine lv_aload_n hx hb dX3_hot_31 rfl (lv_at hl 0 rfl) ?_
        refine lv_iload_n hx hb dX3_hot_32 rfl (lv_at hl 1 rfl) ?_
        obtain ⟨v_4, h, hf⟩ := ec_bi hf
        refine m_cR (v := .int v_4) (As := [.int x1]) (rest := []) X hM (metX3_total l D o q d dz N S x1 _ h) (cwV 1 X.2.2.2.2 gX3_257 rfl rfl rfl hX3_total ⟨Nat.le_of_ble_eq_true rfl, Nat.le_of_ble_eq_true rfl⟩) rfl hl.1 rfl (Nat.le_of_ble_eq_true rfl) ⟨Nat.zero_le _, Nat.zero_le _⟩ dX3_hot_33 ?_
        refine lv_istore (lv' := [(4, .int v_4), (0, .ref o), (1, .int x1), (2, .int x2), (3, .int x3)]) hx hb dX3_hot_36 hl (by decide) rfl (fun ls hl => ?_)
        refine lv_bipush (v := -4) hx hb dX3_hot_38 (by decide) ?_
        refine lv_istore (lv' := [(5, .int (-4 : Int32)), (4, .int v_4), (0, .ref o), (1, .int x1), (2, .int x2), (3, .int x3)]) hx hb dX3_hot_40 hl (by decide) rfl (fun ls hl => ?_)
        refine lv_iconst (v := 1) hx hb dX3_hot_42 (by decide) ?_
        refine lv_istore (lv' := [(6, .int (1 : Int32)), (5, .int (-4 : Int32)), (4, .int v_4), (0, .ref o), (1, .int x1), (2, .int x2), (3, .int x3)]) hx hb dX3_hot_43 hl (by decide) rfl (fun ls hl => ?_)
        exact bX3_hot_45 X hr hlk hM (fun x3_19 x5_20 ls hf hl => by
          exact bX3_hot_169 X hr hlk hM x3_19 x5_20 _ hf hl) N x1 x2 x3 v_4 (-4 : Int32) (1 : Int32) _ hf (lv_sub hl [3, 4, 5, 6, 2, 1, 0] rfl)
      · have hf := ec_f (not_not_intro cnd) hf
        exact bX3_hot_29 X hr hlk hM _ hf (lv_sub hl [0] rfl)
theorem hX3_hot : yX3_hot.cls = RX3 ∧ yX3_hot.cls ≠ "java/lang/invoke/MethodHandle" ∧ yX3_hot.cls ≠ "java/lang/invoke/VarHandle" ∧ (parseMethodDescriptor yX3_hot.desc).map (fun d => d.parameters.length) = some 3 := by decide +kernel

noncomputable def fX3_keep_59 (N : Nat) (k18 : sM → Int32 → Int32 → Option (Int32 × sM)) (S : sM) (x1 : Int32) (x2 : Int32) (t0 : Int32) (t1 : Int32) : Option (Int32 × sM) :=
  (ec_as S 35 128 t1 t0).bind fun S_2 =>
  ec_lt (x2 + (1 : Int32)) fun x2_3 =>
  k18 S_2 x1 x2_3
theorem bX3_keep_59 {N : Nat} (X : CallFix p m c cX3_keep 3 s args lw_all RX3) (hr : meth.sig.returnType = (some .int)) (hlk : meth.locks = false) (hG : MG o q) {res : Int32} {Sr : sM} {k18 : sM → Int32 → Int32 → Option (Int32 × sM)} (Hk18 : ∀ (S : sM) (x1 : Int32) (x2 : Int32) (H : Heap) (locs : List Loc) (ls : Array Slot), k18 S x1 x2 = some (res, Sr) → MW D o q d dz S s H locs → lv_has ls 3 [(0, .ref o), (1, .int x1), (2, .int x2)] → W p l e (rmL 1) s m args below meth c H locs 0 0 (MQ below (MPost D o q d dz (some (.int res)) Sr) args s 0 0 (AM o q)) (F0 m 18 ls [])) : ∀ (S : sM) (x1 : Int32) (x2 : Int32) (t0 : Int32) (t1 : Int32) (H : Heap) (locs : List Loc) (ls : Array Slot), fX3_keep_59 N k18 S x1 x2 t0 t1 = some (res, Sr) → MW D o q d dz S s H locs → lv_has ls 3 [(0, .ref o), (1, .int x1), (2, .int x2)] → W p l e (rmL 1) s m args below meth c H locs 0 0 (MQ below (MPost D o q d dz (some (.int res)) Sr) args s 0 0 (AM o q)) (F0 m 59 ls [.int t0, .int t1, .ref (q 35)]) := by
  have hx := X.1
  have hb := X.2.1
  intro S x1 x2 t0 t1 H locs ls hf hM hl
  unfold fX3_keep_59 at hf
  obtain ⟨S_2, h, hf⟩ := ec_bi hf
  refine m_iast X hG hM wma35 wms35 h dX3_keep_59 (fun H locs hM => ?_)
  refine e_inc (w := 1) (f := fun v => [(2, .int v), (0, .ref o), (1, .int x1)]) hx hb dX3_keep_60 hl (k := 2) rfl (by decide) (by decide) (fun _ => rfl) (fun x2_3 ex ls hl => ?_)
  have hf := ec_lt_i ex hf
  refine lv_goto (tgt := 18) hx hb dX3_keep_63 rfl ?_
  exact Hk18 S_2 x1 x2_3 _ _ _ hf hM (lv_sub hl [1, 2, 0] rfl)
noncomputable def fX3_keep_18 (N : Nat) (kx66 : sM → Int32 → Option (Int32 × sM)) : Nat → sM → Int32 → Int32 → Option (Int32 × sM)
  | 0, _, _, _ => none
  | n + 1, S, x1, x2 =>
    if (8 : Int32) ≤ x2 then (
      kx66 S x1)
    else (
      if (S.1 0) ≤ x1 then (
        fX3_keep_59 N (fX3_keep_18 N kx66 n) S x1 x2 (0 : Int32) (((8 : Int32) * x1) + x2))
      else (
        (ec_ag (S.2.2 9) 16 x1).bind fun v_4 =>
        (fX3_made S x1 x2).bind fun v_5 =>
        fX3_keep_59 N (fX3_keep_18 N kx66 n) S x1 x2 (v_4 * v_5) (((8 : Int32) * x1) + x2)))
theorem bX3_keep_18 {N : Nat} (X : CallFix p m c cX3_keep 3 s args lw_all RX3) (hr : meth.sig.returnType = (some .int)) (hlk : meth.locks = false) (hG : MG o q) {res : Int32} {Sr : sM} {kx66 : sM → Int32 → Option (Int32 × sM)} (Hkx66 : ∀ (S : sM) (x1 : Int32) (H : Heap) (locs : List Loc) (ls : Array Slot), kx66 S x1 = some (res, Sr) → MW D o q d dz S s H locs → lv_has ls 3 [(0, .ref o), (1, .int x1)] → W p l e (rmL 1) s m args below meth c H locs 0 0 (MQ below (MPost D o q d dz (some (.int res)) Sr) args s 0 0 (AM o q)) (F0 m 66 ls [])) : ∀ (n : Nat) (S : sM) (x1 : Int32) (x2 : Int32) (H : Heap) (locs : List Loc) (ls : Array Slot), fX3_keep_18 N kx66 n S x1 x2 = some (res, Sr) → MW D o q d dz S s H locs → lv_has ls 3 [(0, .ref o), (1, .int x1), (2, .int x2)] → W p l e (rmL 1) s m args below meth c H locs 0 0 (MQ below (MPost D o q d dz (some (.int res)) Sr) args s 0 0 (AM o q)) (F0 m 18 ls []) := by
  have hx := X.1
  have hb := X.2.1
  intro n
  induction n with
  | zero =>
    intro S x1 x2 H locs ls hf hM hl
    rw [fX3_keep_18] at hf
    cases hf
  | succ n ih =>
    intro S x1 x2 H locs ls hf hM hl
    rw [fX3_keep_18] at hf
    refine lv_iload_n hx hb dX3_keep_18 rfl (lv_at hl 2 rfl) ?_
    refine lv_bipush (v := 8) hx hb dX3_keep_19 (by decide) ?_
    refine lv_icmp_ge (tgt := 66) hx hb dX3_keep_21 rfl (fun cnd => ?_) (fun cnd => ?_)
    · have hf := ec_t cnd hf
      exact Hkx66 S x1 _ _ _ hf hM (lv_sub hl [0, 1] rfl)
    · have hf := ec_f cnd hf
      refine lv_aload_n hx hb dX3_keep_24 rfl (lv_at hl 0 rfl) ?_
      refine m_get (v := .ref (q 35)) X hM 35 (by decide) q1009 rfl rfl dX3_keep_25 ?_
      refine lv_bipush (v := 8) hx hb dX3_keep_28 (by decide) ?_
      refine lv_iload_n hx hb dX3_keep_30 rfl (lv_at hl 1 rfl) ?_
      refine lv_imul hx hb dX3_keep_31 ?_
      refine lv_iload_n hx hb dX3_keep_32 rfl (lv_at hl 2 rfl) ?_
      refine lv_iadd hx hb dX3_keep_33 ?_
      refine lv_iload_n hx hb dX3_keep_34 rfl (lv_at hl 1 rfl) ?_
      refine lv_aload_n hx hb dX3_keep_35 rfl (lv_at hl 0 rfl) ?_
      refine m_get (v := .int (S.1 0)) X hM 0 (by decide) q974 rfl rfl dX3_keep_36 ?_
      refine lv_icmp_ge (tgt := 58) hx hb dX3_keep_39 rfl (fun cnd => ?_) (fun cnd => ?_)
      · have hf := ec_t cnd hf
        refine lv_iconst (v := 0) hx hb dX3_keep_58 (by decide) ?_
        exact bX3_keep_59 X hr hlk hG ih S x1 x2 (0 : Int32) (((8 : Int32) * x1) + x2) _ _ _ hf hM hl
      · have hf := ec_f cnd hf
        refine lv_aload_n hx hb dX3_keep_42 rfl (lv_at hl 0 rfl) ?_
        refine m_get (v := .ref (q 9)) X hM 9 (by decide) q983 rfl rfl dX3_keep_43 ?_
        refine lv_iload_n hx hb dX3_keep_46 rfl (lv_at hl 1 rfl) ?_
        obtain ⟨v_4, h, hf⟩ := ec_bi hf
        refine m_iald X hM wma9 h dX3_keep_47 ?_
        refine lv_aload_n hx hb dX3_keep_48 rfl (lv_at hl 0 rfl) ?_
        refine lv_iload_n hx hb dX3_keep_49 rfl (lv_at hl 1 rfl) ?_
        refine lv_iload_n hx hb dX3_keep_50 rfl (lv_at hl 2 rfl) ?_
        obtain ⟨v_5, h, hf⟩ := ec_bi hf
        refine m_cR (v := .int v_5) (As := [.int x1, .int x2]) (rest := [.int v_4, .int (((8 : Int32) * x1) + x2), .ref (q 35)]) X hM (metX3_made l D o q d dz S x1 x2 _ h) (cwV 2 X.2.2.2.2 gX3_251 rfl rfl rfl hX3_made ⟨Nat.le_of_ble_eq_true rfl, Nat.le_of_ble_eq_true rfl⟩) rfl hl.1 rfl (Nat.le_of_ble_eq_true rfl) ⟨Nat.zero_le _, Nat.zero_le _⟩ dX3_keep_51 ?_
        refine lv_imul hx hb dX3_keep_54 ?_
        refine lv_goto (tgt := 59) hx hb dX3_keep_55 rfl ?_
        exact bX3_keep_59 X hr hlk hG ih S x1 x2 (v_4 * v_5) (((8 : Int32) * x1) + x2) _ _ _ hf hM hl
noncomputable def fX3_keep_10 (N : Nat) (kx72 : sM → Option (Int32 × sM)) : Nat → sM → Int32 → Option (Int32 × sM)
  | 0, _, _ => none
  | n + 1, S, x1 =>
    if (16 : Int32) ≤ x1 then (
      kx72 S)
    else (
      fX3_keep_18 N (fun S_6 x1_7 =>
        ec_lt (x1_7 + (1 : Int32)) fun x1_8 =>
        (fX3_keep_10 N kx72 n) S_6 x1_8) N S x1 (0 : Int32))
theorem bX3_keep_10 {N : Nat} (X : CallFix p m c cX3_keep 3 s args lw_all RX3) (hr : meth.sig.returnType = (some .int)) (hlk : meth.locks = false) (hG : MG o q) {res : Int32} {Sr : sM} {kx72 : sM → Option (Int32 × sM)} (Hkx72 : ∀ (S : sM) (H : Heap) (locs : List Loc) (ls : Array Slot), kx72 S = some (res, Sr) → MW D o q d dz S s H locs → lv_has ls 3 [(0, .ref o)] → W p l e (rmL 1) s m args below meth c H locs 0 0 (MQ below (MPost D o q d dz (some (.int res)) Sr) args s 0 0 (AM o q)) (F0 m 72 ls [])) : ∀ (n : Nat) (S : sM) (x1 : Int32) (H : Heap) (locs : List Loc) (ls : Array Slot), fX3_keep_10 N kx72 n S x1 = some (res, Sr) → MW D o q d dz S s H locs → lv_has ls 3 [(0, .ref o), (1, .int x1)] → W p l e (rmL 1) s m args below meth c H locs 0 0 (MQ below (MPost D o q d dz (some (.int res)) Sr) args s 0 0 (AM o q)) (F0 m 10 ls []) := by
  have hx := X.1
  have hb := X.2.1
  intro n
  induction n with
  | zero =>
    intro S x1 H locs ls hf hM hl
    rw [fX3_keep_10] at hf
    cases hf
  | succ n ih =>
    intro S x1 H locs ls hf hM hl
    rw [fX3_keep_10] at hf
    refine lv_iload_n hx hb dX3_keep_10 rfl (lv_at hl 1 rfl) ?_
    refine lv_bipush (v := 16) hx hb dX3_keep_11 (by decide) ?_
    refine lv_icmp_ge (tgt := 72) hx hb dX3_keep_13 rfl (fun cnd => ?_) (fun cnd => ?_)
    · have hf := ec_t cnd hf
      exact Hkx72 S _ _ _ hf hM (lv_sub hl [0] rfl)
    · have hf := ec_f cnd hf
      refine lv_iconst (v := 0) hx hb dX3_keep_16 (by decide) ?_
      refine lv_istore_n (lv' := [(2, .int (0 : Int32)), (0, .ref o), (1, .int x1)]) hx hb dX3_keep_17 rfl hl (by decide) rfl (fun ls hl => ?_)
      exact bX3_keep_18 X hr hlk hG (fun S_6 x1_7 H locs ls hf hM hl => by
        refine e_inc (w := 1) (f := fun v => [(1, .int v), (0, .ref o)]) hx hb dX3_keep_66 hl (k := 1) rfl (by decide) (by decide) (fun _ => rfl) (fun x1_8 ex ls hl => ?_)
        have hf := ec_lt_i ex hf
        refine lv_goto (tgt := 10) hx hb dX3_keep_69 rfl ?_
        exact ih S_6 x1_8 _ _ _ hf hM (lv_sub hl [1, 0] rfl)) N S x1 (0 : Int32) _ _ _ hf hM (lv_sub hl [1, 2, 0] rfl)
noncomputable def fX3_keep (N : Nat) (S : sM) : Option (Int32 × sM) :=
  ec_lt (mI S 34 (S.1 0)) fun S_1 =>
  fX3_keep_10 N (fun S_9 =>
    some ((S_9.1 34), S_9)) N S_1 (0 : Int32)
theorem metX3_keep (l : Launch) (D : va_G) (o : Nat) (q : Nat → Nat) (d dz : ClassId) (hG : MG o q) (N : Nat) (S : sM) (res : Int32) (Sr : sM) (hf : fX3_keep N S = some (res, Sr)) : Met l yX3_keep (ws_ yX3_keep cX3_keep 3 (some .int)) (rmL 1) (MPre D o q d dz S []) (MPost D o q d dz (some (.int res)) Sr) 0 0 (AM o q) := by
  refine m_ofW rfl (Nat.le_of_ble_eq_true rfl) (fun p e s m args below meth c X hr hlk hM ls hl => ?_)
  have hl : lv_has ls 3 [(0, .ref o)] := hl
  have hx := X.1
  have hb := X.2.1
  unfold fX3_keep at hf
  refine lv_aload_n hx hb dX3_keep_0 rfl (lv_at hl 0 rfl) ?_
  refine lv_aload_n hx hb dX3_keep_1 rfl (lv_at hl 0 rfl) ?_
  refine m_get (v := .int (S.1 0)) X hM 0 (by decide) q974 rfl rfl dX3_keep_2 ?_
  refine m_puti X hG hM 34 (by decide) q1008 rfl rfl mfd34 (wmi34 _) dX3_keep_5 (fun S_1 H locs eS hM => ?_)
  have hf := ec_lt_i eS hf
  refine lv_iconst (v := 0) hx hb dX3_keep_8 (by decide) ?_
  refine lv_istore_n (lv' := [(1, .int (0 : Int32)), (0, .ref o)]) hx hb dX3_keep_9 rfl hl (by decide) rfl (fun ls hl => ?_)
  exact bX3_keep_10 X hr hlk hG (fun S_9 H locs ls hf hM hl => by
    refine lv_aload_n hx hb dX3_keep_72 rfl (lv_at hl 0 rfl) ?_
    refine m_get (v := .int (S_9.1 34)) X hM 34 (by decide) q1008 rfl rfl dX3_keep_73 ?_
    obtain ⟨rfl, rfl⟩ := Prod.mk.inj (Option.some.inj hf)
    exact m_iret X hr hlk hM dX3_keep_76) N S_1 (0 : Int32) _ _ _ hf hM (lv_sub hl [1, 0] rfl)
theorem hX3_keep : yX3_keep.cls = RX3 ∧ yX3_keep.cls ≠ "java/lang/invoke/MethodHandle" ∧ yX3_keep.cls ≠ "java/lang/invoke/VarHandle" ∧ (parseMethodDescriptor yX3_keep.desc).map (fun d => d.parameters.length) = some 0 := by decide +kernel

noncomputable def fX3_beside_19 (N : Nat) (S : sM) : Option Int32 :=
  some (-1 : Int32)
theorem bX3_beside_19 {N : Nat} (X : CallFix p m c cX3_beside 10 s args lw_all RX3) (hr : meth.sig.returnType = (some .int)) (hlk : meth.locks = false) {S : sM} (hM : MW D o q d dz S s s.heap []) {res : Int32} : ∀ (ls : Array Slot), fX3_beside_19 N S = some res → lv_has ls 10 [(0, .ref o)] → W p l e (rmL 2) s m args below meth c s.heap [] 0 0 (MQ below (k2_QcV (.int res)) args s 0 0 (fun _ => False)) (F0 m 19 ls []) := by
  have hx := X.1
  have hb := X.2.1
  intro ls hf hl
  unfold fX3_beside_19 at hf
  refine lv_iconst (v := -1) hx hb dX3_beside_19 (by decide) ?_
  obtain rfl := Option.some.inj hf
  exact e_iretR hx hb hr hlk dX3_beside_20
noncomputable def fX3_beside_187 (N : Nat) (S : sM) (k39 : Int32 → Int32 → Int32 → Int32 → Int32 → Int32 → Int32 → Int32 → Option Int32) (x1 : Int32) (x2 : Int32) (x3 : Int32) (x4 : Int32) (x5 : Int32) (x6 : Int32) (x8 : Int32) (t0 : Int32) : Option Int32 :=
  ec_lt (x8 + (1 : Int32)) fun x8_11 =>
  k39 x1 x2 x3 x4 x5 x6 t0 x8_11
theorem bX3_beside_187 {N : Nat} (X : CallFix p m c cX3_beside 10 s args lw_all RX3) (hr : meth.sig.returnType = (some .int)) (hlk : meth.locks = false) {S : sM} (hM : MW D o q d dz S s s.heap []) {res : Int32} {k39 : Int32 → Int32 → Int32 → Int32 → Int32 → Int32 → Int32 → Int32 → Option Int32} (Hk39 : ∀ (x1 : Int32) (x2 : Int32) (x3 : Int32) (x4 : Int32) (x5 : Int32) (x6 : Int32) (x7 : Int32) (x8 : Int32) (ls : Array Slot), k39 x1 x2 x3 x4 x5 x6 x7 x8 = some res → lv_has ls 10 [(0, .ref o), (1, .int x1), (2, .int x2), (3, .int x3), (4, .int x4), (5, .int x5), (6, .int x6), (7, .int x7), (8, .int x8)] → W p l e (rmL 2) s m args below meth c s.heap [] 0 0 (MQ below (k2_QcV (.int res)) args s 0 0 (fun _ => False)) (F0 m 39 ls [])) : ∀ (x1 : Int32) (x2 : Int32) (x3 : Int32) (x4 : Int32) (x5 : Int32) (x6 : Int32) (x8 : Int32) (t0 : Int32) (ls : Array Slot), fX3_beside_187 N S k39 x1 x2 x3 x4 x5 x6 x8 t0 = some res → lv_has ls 10 [(0, .ref o), (1, .int x1), (2, .int x2), (3, .int x3), (4, .int x4), (5, .int x5), (6, .int x6), (8, .int x8)] → W p l e (rmL 2) s m args below meth c s.heap [] 0 0 (MQ below (k2_QcV (.int res)) args s 0 0 (fun _ => False)) (F0 m 187 ls [.int t0]) := by
  have hx := X.1
  have hb := X.2.1
  intro x1 x2 x3 x4 x5 x6 x8 t0 ls hf hl
  unfold fX3_beside_187 at hf
  refine lv_istore (lv' := [(7, .int t0), (0, .ref o), (1, .int x1), (2, .int x2), (3, .int x3), (4, .int x4), (5, .int x5), (6, .int x6), (8, .int x8)]) hx hb dX3_beside_187 hl (by decide) rfl (fun ls hl => ?_)
  refine e_inc (w := 1) (f := fun v => [(8, .int v), (7, .int t0), (0, .ref o), (1, .int x1), (2, .int x2), (3, .int x3), (4, .int x4), (5, .int x5), (6, .int x6)]) hx hb dX3_beside_189 hl (k := 8) rfl (by decide) (by decide) (fun _ => rfl) (fun x8_11 ex ls hl => ?_)
  have hf := ec_lt_i ex hf
  refine lv_goto (tgt := 39) hx hb dX3_beside_192 rfl ?_
  exact Hk39 x1 x2 x3 x4 x5 x6 t0 x8_11 _ hf (lv_sub hl [2, 3, 4, 5, 6, 7, 8, 1, 0] rfl)
noncomputable def fX3_beside_160 (N : Nat) (S : sM) (k39 : Int32 → Int32 → Int32 → Int32 → Int32 → Int32 → Int32 → Int32 → Option Int32) (x1 : Int32) (x2 : Int32) (x3 : Int32) (x4 : Int32) (x5 : Int32) (x7 : Int32) (x8 : Int32) (x9 : Int32) (t0 : Int32) : Option Int32 :=
  (fX3_size (x9.toInt64)).bind fun v_10 =>
  if (lg_cmp v_10 (x7.toInt64)) ≤ 0 then (
    fX3_beside_187 N S k39 x1 x2 x3 x4 x5 t0 x8 x7)
  else (
    (fX3_size (x9.toInt64)).bind fun v_12 =>
    fX3_beside_187 N S k39 x1 x2 x3 x4 x5 t0 x8 (v_12.toInt32))
theorem bX3_beside_160 {N : Nat} (X : CallFix p m c cX3_beside 10 s args lw_all RX3) (hr : meth.sig.returnType = (some .int)) (hlk : meth.locks = false) {S : sM} (hM : MW D o q d dz S s s.heap []) {res : Int32} {k39 : Int32 → Int32 → Int32 → Int32 → Int32 → Int32 → Int32 → Int32 → Option Int32} (Hk39 : ∀ (x1 : Int32) (x2 : Int32) (x3 : Int32) (x4 : Int32) (x5 : Int32) (x6 : Int32) (x7 : Int32) (x8 : Int32) (ls : Array Slot), k39 x1 x2 x3 x4 x5 x6 x7 x8 = some res → lv_has ls 10 [(0, .ref o), (1, .int x1), (2, .int x2), (3, .int x3), (4, .int x4), (5, .int x5), (6, .int x6), (7, .int x7), (8, .int x8)] → W p l e (rmL 2) s m args below meth c s.heap [] 0 0 (MQ below (k2_QcV (.int res)) args s 0 0 (fun _ => False)) (F0 m 39 ls [])) : ∀ (x1 : Int32) (x2 : Int32) (x3 : Int32) (x4 : Int32) (x5 : Int32) (x7 : Int32) (x8 : Int32) (x9 : Int32) (t0 : Int32) (ls : Array Slot), fX3_beside_160 N S k39 x1 x2 x3 x4 x5 x7 x8 x9 t0 = some res → lv_has ls 10 [(0, .ref o), (1, .int x1), (2, .int x2), (3, .int x3), (4, .int x4), (5, .int x5), (7, .int x7), (8, .int x8), (9, .int x9)] → W p l e (rmL 2) s m args below meth c s.heap [] 0 0 (MQ below (k2_QcV (.int res)) args s 0 0 (fun _ => False)) (F0 m 160 ls [.int t0]) := by
  have hx := X.1
  have hb := X.2.1
  intro x1 x2 x3 x4 x5 x7 x8 x9 t0 ls hf hl
  unfold fX3_beside_160 at hf
  refine lv_istore (lv' := [(6, .int t0), (0, .ref o), (1, .int x1), (2, .int x2), (3, .int x3), (4, .int x4), (5, .int x5), (7, .int x7), (8, .int x8), (9, .int x9)]) hx hb dX3_beside_160 hl (by decide) rfl (fun ls hl => ?_)
  refine lv_iload hx hb dX3_beside_162 (lv_at hl 9 rfl) ?_
  refine lv_i2l hx hb dX3_beside_164 rfl ?_
  obtain ⟨v_10, h, hf⟩ := ec_bi hf
  refine e_cS (v := .long v_10) (As := [.long (x9.toInt64)]) (rest := []) X (metX3_size l (x9.toInt64) _ h) (va_cwS 1 X.2.2.2.2 gX3_111 rfl rfl rfl hX3_size ⟨Nat.le_of_ble_eq_true rfl, Nat.le_of_ble_eq_true rfl⟩) rfl hl.1 rfl (Nat.le_of_ble_eq_true rfl) ⟨Nat.zero_le _, Nat.zero_le _⟩ dX3_beside_165 ?_
  refine lv_iload hx hb dX3_beside_168 (lv_at hl 7 rfl) ?_
  refine lv_i2l hx hb dX3_beside_170 rfl ?_
  refine W.lcmp hx hb dX3_beside_171 ?_
  refine lv_if_le (tgt := 185) hx hb dX3_beside_172 rfl (fun cnd => ?_) (fun cnd => ?_)
  · have hf := ec_t cnd hf
    refine lv_iload hx hb dX3_beside_185 (lv_at hl 7 rfl) ?_
    exact bX3_beside_187 X hr hlk hM Hk39 x1 x2 x3 x4 x5 t0 x8 x7 _ hf (lv_sub hl [1, 2, 3, 4, 5, 6, 0, 8] rfl)
  · have hf := ec_f cnd hf
    refine lv_iload hx hb dX3_beside_175 (lv_at hl 9 rfl) ?_
    refine lv_i2l hx hb dX3_beside_177 rfl ?_
    obtain ⟨v_12, h, hf⟩ := ec_bi hf
    refine e_cS (v := .long v_12) (As := [.long (x9.toInt64)]) (rest := []) X (metX3_size l (x9.toInt64) _ h) (va_cwS 1 X.2.2.2.2 gX3_111 rfl rfl rfl hX3_size ⟨Nat.le_of_ble_eq_true rfl, Nat.le_of_ble_eq_true rfl⟩) rfl hl.1 rfl (Nat.le_of_ble_eq_true rfl) ⟨Nat.zero_le _, Nat.zero_le _⟩ dX3_beside_178 ?_
    refine lv_l2i hx hb dX3_beside_181 rfl ?_
    refine lv_goto (tgt := 187) hx hb dX3_beside_182 rfl ?_
    exact bX3_beside_187 X hr hlk hM Hk39 x1 x2 x3 x4 x5 t0 x8 (v_12.toInt32) _ hf (lv_sub hl [1, 2, 3, 4, 5, 6, 0, 8] rfl)
noncomputable def fX3_beside_137 (N : Nat) (S : sM) (k39 : Int32 → Int32 → Int32 → Int32 → Int32 → Int32 → Int32 → Int32 → Option Int32) (x1 : Int32) (x2 : Int32) (x3 : Int32) (x4 : Int32) (x6 : Int32) (x7 : Int32) (x8 : Int32) (x9 : Int32) (t0 : Int32) (t1 : Int32) : Option Int32 :=
  ec_lt (t1 ||| t0) fun x5_8 =>
  (fX3_size (x9.toInt64)).bind fun v_9 =>
  if (lg_cmp v_9 (x7.toInt64)) ≤ 0 then (
    fX3_beside_160 N S k39 x1 x2 x3 x4 x5_8 x7 x8 x9 x6)
  else (
    fX3_beside_160 N S k39 x1 x2 x3 x4 x5_8 x7 x8 x9 x8)
theorem bX3_beside_137 {N : Nat} (X : CallFix p m c cX3_beside 10 s args lw_all RX3) (hr : meth.sig.returnType = (some .int)) (hlk : meth.locks = false) {S : sM} (hM : MW D o q d dz S s s.heap []) {res : Int32} {k39 : Int32 → Int32 → Int32 → Int32 → Int32 → Int32 → Int32 → Int32 → Option Int32} (Hk39 : ∀ (x1 : Int32) (x2 : Int32) (x3 : Int32) (x4 : Int32) (x5 : Int32) (x6 : Int32) (x7 : Int32) (x8 : Int32) (ls : Array Slot), k39 x1 x2 x3 x4 x5 x6 x7 x8 = some res → lv_has ls 10 [(0, .ref o), (1, .int x1), (2, .int x2), (3, .int x3), (4, .int x4), (5, .int x5), (6, .int x6), (7, .int x7), (8, .int x8)] → W p l e (rmL 2) s m args below meth c s.heap [] 0 0 (MQ below (k2_QcV (.int res)) args s 0 0 (fun _ => False)) (F0 m 39 ls [])) : ∀ (x1 : Int32) (x2 : Int32) (x3 : Int32) (x4 : Int32) (x6 : Int32) (x7 : Int32) (x8 : Int32) (x9 : Int32) (t0 : Int32) (t1 : Int32) (ls : Array Slot), fX3_beside_137 N S k39 x1 x2 x3 x4 x6 x7 x8 x9 t0 t1 = some res → lv_has ls 10 [(0, .ref o), (1, .int x1), (2, .int x2), (3, .int x3), (4, .int x4), (6, .int x6), (7, .int x7), (8, .int x8), (9, .int x9)] → W p l e (rmL 2) s m args below meth c s.heap [] 0 0 (MQ below (k2_QcV (.int res)) args s 0 0 (fun _ => False)) (F0 m 137 ls [.int t0, .int t1]) := by
  have hx := X.1
  have hb := X.2.1
  intro x1 x2 x3 x4 x6 x7 x8 x9 t0 t1 ls hf hl
  unfold fX3_beside_137 at hf
  refine lv_ior hx hb dX3_beside_137 ?_
  refine lv_topi (fun x5_8 ex => ?_)
  have hf := ec_lt_i ex hf
  refine lv_istore (lv' := [(5, .int x5_8), (0, .ref o), (1, .int x1), (2, .int x2), (3, .int x3), (4, .int x4), (6, .int x6), (7, .int x7), (8, .int x8), (9, .int x9)]) hx hb dX3_beside_138 hl (by decide) rfl (fun ls hl => ?_)
  refine lv_iload hx hb dX3_beside_140 (lv_at hl 9 rfl) ?_
  refine lv_i2l hx hb dX3_beside_142 rfl ?_
  obtain ⟨v_9, h, hf⟩ := ec_bi hf
  refine e_cS (v := .long v_9) (As := [.long (x9.toInt64)]) (rest := []) X (metX3_size l (x9.toInt64) _ h) (va_cwS 1 X.2.2.2.2 gX3_111 rfl rfl rfl hX3_size ⟨Nat.le_of_ble_eq_true rfl, Nat.le_of_ble_eq_true rfl⟩) rfl hl.1 rfl (Nat.le_of_ble_eq_true rfl) ⟨Nat.zero_le _, Nat.zero_le _⟩ dX3_beside_143 ?_
  refine lv_iload hx hb dX3_beside_146 (lv_at hl 7 rfl) ?_
  refine lv_i2l hx hb dX3_beside_148 rfl ?_
  refine W.lcmp hx hb dX3_beside_149 ?_
  refine lv_if_le (tgt := 158) hx hb dX3_beside_150 rfl (fun cnd => ?_) (fun cnd => ?_)
  · have hf := ec_t cnd hf
    refine lv_iload hx hb dX3_beside_158 (lv_at hl 6 rfl) ?_
    exact bX3_beside_160 X hr hlk hM Hk39 x1 x2 x3 x4 x5_8 x7 x8 x9 x6 _ hf (lv_sub hl [1, 2, 3, 4, 5, 0, 7, 8, 9] rfl)
  · have hf := ec_f cnd hf
    refine lv_iload hx hb dX3_beside_153 (lv_at hl 8 rfl) ?_
    refine lv_goto (tgt := 160) hx hb dX3_beside_155 rfl ?_
    exact bX3_beside_160 X hr hlk hM Hk39 x1 x2 x3 x4 x5_8 x7 x8 x9 x8 _ hf (lv_sub hl [1, 2, 3, 4, 5, 0, 7, 8, 9] rfl)
noncomputable def fX3_beside_119 (N : Nat) (S : sM) (k39 : Int32 → Int32 → Int32 → Int32 → Int32 → Int32 → Int32 → Int32 → Option Int32) (x1 : Int32) (x2 : Int32) (x3 : Int32) (x5 : Int32) (x6 : Int32) (x7 : Int32) (x8 : Int32) (x9 : Int32) (t0 : Int32) (t1 : Int32) : Option Int32 :=
  ec_lt (t1 ||| t0) fun x4_7 =>
  if 0 ≤ x9 then (
    fX3_beside_137 N S k39 x1 x2 x3 x4_7 x6 x7 x8 x9 (0 : Int32) x5)
  else (
    fX3_beside_137 N S k39 x1 x2 x3 x4_7 x6 x7 x8 x9 ((1 : Int32) <<< (x8 &&& 31)) x5)
theorem bX3_beside_119 {N : Nat} (X : CallFix p m c cX3_beside 10 s args lw_all RX3) (hr : meth.sig.returnType = (some .int)) (hlk : meth.locks = false) {S : sM} (hM : MW D o q d dz S s s.heap []) {res : Int32} {k39 : Int32 → Int32 → Int32 → Int32 → Int32 → Int32 → Int32 → Int32 → Option Int32} (Hk39 : ∀ (x1 : Int32) (x2 : Int32) (x3 : Int32) (x4 : Int32) (x5 : Int32) (x6 : Int32) (x7 : Int32) (x8 : Int32) (ls : Array Slot), k39 x1 x2 x3 x4 x5 x6 x7 x8 = some res → lv_has ls 10 [(0, .ref o), (1, .int x1), (2, .int x2), (3, .int x3), (4, .int x4), (5, .int x5), (6, .int x6), (7, .int x7), (8, .int x8)] → W p l e (rmL 2) s m args below meth c s.heap [] 0 0 (MQ below (k2_QcV (.int res)) args s 0 0 (fun _ => False)) (F0 m 39 ls [])) : ∀ (x1 : Int32) (x2 : Int32) (x3 : Int32) (x5 : Int32) (x6 : Int32) (x7 : Int32) (x8 : Int32) (x9 : Int32) (t0 : Int32) (t1 : Int32) (ls : Array Slot), fX3_beside_119 N S k39 x1 x2 x3 x5 x6 x7 x8 x9 t0 t1 = some res → lv_has ls 10 [(0, .ref o), (1, .int x1), (2, .int x2), (3, .int x3), (5, .int x5), (6, .int x6), (7, .int x7), (8, .int x8), (9, .int x9)] → W p l e (rmL 2) s m args below meth c s.heap [] 0 0 (MQ below (k2_QcV (.int res)) args s 0 0 (fun _ => False)) (F0 m 119 ls [.int t0, .int t1]) := by
  have hx := X.1
  have hb := X.2.1
  intro x1 x2 x3 x5 x6 x7 x8 x9 t0 t1 ls hf hl
  unfold fX3_beside_119 at hf
  refine lv_ior hx hb dX3_beside_119 ?_
  refine lv_topi (fun x4_7 ex => ?_)
  have hf := ec_lt_i ex hf
  refine lv_istore (lv' := [(4, .int x4_7), (0, .ref o), (1, .int x1), (2, .int x2), (3, .int x3), (5, .int x5), (6, .int x6), (7, .int x7), (8, .int x8), (9, .int x9)]) hx hb dX3_beside_120 hl (by decide) rfl (fun ls hl => ?_)
  refine lv_iload hx hb dX3_beside_122 (lv_at hl 5 rfl) ?_
  refine lv_iload hx hb dX3_beside_124 (lv_at hl 9 rfl) ?_
  refine lv_if_ge (tgt := 136) hx hb dX3_beside_126 rfl (fun cnd => ?_) (fun cnd => ?_)
  · have hf := ec_t cnd hf
    refine lv_iconst (v := 0) hx hb dX3_beside_136 (by decide) ?_
    exact bX3_beside_137 X hr hlk hM Hk39 x1 x2 x3 x4_7 x6 x7 x8 x9 (0 : Int32) x5 _ hf (lv_sub hl [1, 2, 3, 4, 0, 6, 7, 8, 9] rfl)
  · have hf := ec_f cnd hf
    refine lv_iconst (v := 1) hx hb dX3_beside_129 (by decide) ?_
    refine lv_iload hx hb dX3_beside_130 (lv_at hl 8 rfl) ?_
    refine lv_ishl hx hb dX3_beside_132 ?_
    refine lv_goto (tgt := 137) hx hb dX3_beside_133 rfl ?_
    exact bX3_beside_137 X hr hlk hM Hk39 x1 x2 x3 x4_7 x6 x7 x8 x9 ((1 : Int32) <<< (x8 &&& 31)) x5 _ hf (lv_sub hl [1, 2, 3, 4, 0, 6, 7, 8, 9] rfl)
noncomputable def fX3_beside_74 (N : Nat) (S : sM) (k39 : Int32 → Int32 → Int32 → Int32 → Int32 → Int32 → Int32 → Int32 → Option Int32) (x1 : Int32) (x2 : Int32) (x3 : Int32) (x4 : Int32) (x5 : Int32) (x6 : Int32) (x7 : Int32) (x8 : Int32) (t0 : Int32) : Option Int32 :=
  (ec_ag (S.2.2 35) 128 (((8 : Int32) * x8) + x1)).bind fun v_3 =>
  ec_lt (t0 - v_3) fun x9_4 =>
  (ec_ag (S.2.2 35) 128 (((8 : Int32) * x8) + x1)).bind fun v_5 =>
  ec_lt (x3 + v_5) fun x3_6 =>
  if x9_4 ≤ 0 then (
    fX3_beside_119 N S k39 x1 x2 x3_6 x5 x6 x7 x8 x9_4 (0 : Int32) x4)
  else (
    fX3_beside_119 N S k39 x1 x2 x3_6 x5 x6 x7 x8 x9_4 ((1 : Int32) <<< (x8 &&& 31)) x4)
theorem bX3_beside_74 {N : Nat} (X : CallFix p m c cX3_beside 10 s args lw_all RX3) (hr : meth.sig.returnType = (some .int)) (hlk : meth.locks = false) {S : sM} (hM : MW D o q d dz S s s.heap []) {res : Int32} {k39 : Int32 → Int32 → Int32 → Int32 → Int32 → Int32 → Int32 → Int32 → Option Int32} (Hk39 : ∀ (x1 : Int32) (x2 : Int32) (x3 : Int32) (x4 : Int32) (x5 : Int32) (x6 : Int32) (x7 : Int32) (x8 : Int32) (ls : Array Slot), k39 x1 x2 x3 x4 x5 x6 x7 x8 = some res → lv_has ls 10 [(0, .ref o), (1, .int x1), (2, .int x2), (3, .int x3), (4, .int x4), (5, .int x5), (6, .int x6), (7, .int x7), (8, .int x8)] → W p l e (rmL 2) s m args below meth c s.heap [] 0 0 (MQ below (k2_QcV (.int res)) args s 0 0 (fun _ => False)) (F0 m 39 ls [])) : ∀ (x1 : Int32) (x2 : Int32) (x3 : Int32) (x4 : Int32) (x5 : Int32) (x6 : Int32) (x7 : Int32) (x8 : Int32) (t0 : Int32) (ls : Array Slot), fX3_beside_74 N S k39 x1 x2 x3 x4 x5 x6 x7 x8 t0 = some res → lv_has ls 10 [(0, .ref o), (1, .int x1), (2, .int x2), (3, .int x3), (4, .int x4), (5, .int x5), (6, .int x6), (7, .int x7), (8, .int x8)] → W p l e (rmL 2) s m args below meth c s.heap [] 0 0 (MQ below (k2_QcV (.int res)) args s 0 0 (fun _ => False)) (F0 m 74 ls [.int t0]) := by
  have hx := X.1
  have hb := X.2.1
  intro x1 x2 x3 x4 x5 x6 x7 x8 t0 ls hf hl
  unfold fX3_beside_74 at hf
  refine lv_aload_n hx hb dX3_beside_74 rfl (lv_at hl 0 rfl) ?_
  refine m_get (v := .ref (q 35)) X hM 35 (by decide) q1009 rfl rfl dX3_beside_75 ?_
  refine lv_bipush (v := 8) hx hb dX3_beside_78 (by decide) ?_
  refine lv_iload hx hb dX3_beside_80 (lv_at hl 8 rfl) ?_
  refine lv_imul hx hb dX3_beside_82 ?_
  refine lv_iload_n hx hb dX3_beside_83 rfl (lv_at hl 1 rfl) ?_
  refine lv_iadd hx hb dX3_beside_84 ?_
  obtain ⟨v_3, h, hf⟩ := ec_bi hf
  refine m_iald X hM wma35 h dX3_beside_85 ?_
  refine lv_isub hx hb dX3_beside_86 ?_
  refine lv_topi (fun x9_4 ex => ?_)
  have hf := ec_lt_i ex hf
  refine lv_istore (lv' := [(9, .int x9_4), (0, .ref o), (1, .int x1), (2, .int x2), (3, .int x3), (4, .int x4), (5, .int x5), (6, .int x6), (7, .int x7), (8, .int x8)]) hx hb dX3_beside_87 hl (by decide) rfl (fun ls hl => ?_)
  refine lv_iload_n hx hb dX3_beside_89 rfl (lv_at hl 4 rfl) ?_
  refine lv_aload_n hx hb dX3_beside_90 rfl (lv_at hl 1 rfl) ?_
  refine m_get (v := .ref (q 35)) X hM 35 (by decide) q1009 rfl rfl dX3_beside_91 ?_
  refine lv_bipush (v := 8) hx hb dX3_beside_94 (by decide) ?_
  refine lv_iload hx hb dX3_beside_96 (lv_at hl 9 rfl) ?_
  refine lv_imul hx hb dX3_beside_98 ?_
  refine lv_iload_n hx hb dX3_beside_99 rfl (lv_at hl 2 rfl) ?_
  refine lv_iadd hx hb dX3_beside_100 ?_
  obtain ⟨v_5, h, hf⟩ := ec_bi hf
  refine m_iald X hM wma35 h dX3_beside_101 ?_
  refine lv_iadd hx hb dX3_beside_102 ?_
  refine lv_topi (fun x3_6 ex => ?_)
  have hf := ec_lt_i ex hf
  refine lv_istore_n (lv' := [(3, .int x3_6), (9, .int x9_4), (0, .ref o), (1, .int x1), (2, .int x2), (4, .int x4), (5, .int x5), (6, .int x6), (7, .int x7), (8, .int x8)]) hx hb dX3_beside_103 rfl hl (by decide) rfl (fun ls hl => ?_)
  refine lv_iload hx hb dX3_beside_104 (lv_at hl 5 rfl) ?_
  refine lv_iload hx hb dX3_beside_106 (lv_at hl 1 rfl) ?_
  refine lv_if_le (tgt := 118) hx hb dX3_beside_108 rfl (fun cnd => ?_) (fun cnd => ?_)
  · have hf := ec_t cnd hf
    refine lv_iconst (v := 0) hx hb dX3_beside_118 (by decide) ?_
    exact bX3_beside_119 X hr hlk hM Hk39 x1 x2 x3_6 x5 x6 x7 x8 x9_4 (0 : Int32) x4 _ hf (lv_sub hl [2, 3, 4, 0, 6, 7, 8, 9, 1] rfl)
  · have hf := ec_f cnd hf
    refine lv_iconst (v := 1) hx hb dX3_beside_111 (by decide) ?_
    refine lv_iload hx hb dX3_beside_112 (lv_at hl 9 rfl) ?_
    refine lv_ishl hx hb dX3_beside_114 ?_
    refine lv_goto (tgt := 119) hx hb dX3_beside_115 rfl ?_
    exact bX3_beside_119 X hr hlk hM Hk39 x1 x2 x3_6 x5 x6 x7 x8 x9_4 ((1 : Int32) <<< (x8 &&& 31)) x4 _ hf (lv_sub hl [2, 3, 4, 0, 6, 7, 8, 9, 1] rfl)
noncomputable def fX3_beside_39 (N : Nat) (S : sM) (kx195 : Int32 → Int32 → Int32 → Int32 → Int32 → Int32 → Option Int32) : Nat → Int32 → Int32 → Int32 → Int32 → Int32 → Int32 → Int32 → Int32 → Option Int32
  | 0, _, _, _, _, _, _, _, _ => none
  | n + 1, x1, x2, x3, x4, x5, x6, x7, x8 =>
    if (16 : Int32) ≤ x8 then (
      kx195 x1 x2 x3 x4 x5 x6)
    else (
      if (S.1 0) ≤ x8 then (
        fX3_beside_74 N S (fX3_beside_39 N S kx195 n) x1 x2 x3 x4 x5 x6 x7 x8 (0 : Int32))
      else (
        (ec_ag (S.2.2 9) 16 x8).bind fun v_13 =>
        (fX3_made S x8 x1).bind fun v_14 =>
        fX3_beside_74 N S (fX3_beside_39 N S kx195 n) x1 x2 x3 x4 x5 x6 x7 x8 (v_13 * v_14)))
theorem bX3_beside_39 {N : Nat} (X : CallFix p m c cX3_beside 10 s args lw_all RX3) (hr : meth.sig.returnType = (some .int)) (hlk : meth.locks = false) {S : sM} (hM : MW D o q d dz S s s.heap []) {res : Int32} {kx195 : Int32 → Int32 → Int32 → Int32 → Int32 → Int32 → Option Int32} (Hkx195 : ∀ (x1 : Int32) (x2 : Int32) (x3 : Int32) (x4 : Int32) (x5 : Int32) (x6 : Int32) (ls : Array Slot), kx195 x1 x2 x3 x4 x5 x6 = some res → lv_has ls 10 [(0, .ref o), (1, .int x1), (2, .int x2), (3, .int x3), (4, .int x4), (5, .int x5), (6, .int x6)] → W p l e (rmL 2) s m args below meth c s.heap [] 0 0 (MQ below (k2_QcV (.int res)) args s 0 0 (fun _ => False)) (F0 m 195 ls [])) : ∀ (n : Nat) (x1 : Int32) (x2 : Int32) (x3 : Int32) (x4 : Int32) (x5 : Int32) (x6 : Int32) (x7 : Int32) (x8 : Int32) (ls : Array Slot), fX3_beside_39 N S kx195 n x1 x2 x3 x4 x5 x6 x7 x8 = some res → lv_has ls 10 [(0, .ref o), (1, .int x1), (2, .int x2), (3, .int x3), (4, .int x4), (5, .int x5), (6, .int x6), (7, .int x7), (8, .int x8)] → W p l e (rmL 2) s m args below meth c s.heap [] 0 0 (MQ below (k2_QcV (.int res)) args s 0 0 (fun _ => False)) (F0 m 39 ls []) := by
  have hx := X.1
  have hb := X.2.1
  intro n
  induction n with
  | zero =>
    intro x1 x2 x3 x4 x5 x6 x7 x8 ls hf hl
    rw [fX3_beside_39] at hf
    cases hf
  | succ n ih =>
    intro x1 x2 x3 x4 x5 x6 x7 x8 ls hf hl
    rw [fX3_beside_39] at hf
    refine lv_iload hx hb dX3_beside_39 (lv_at hl 8 rfl) ?_
    refine lv_bipush (v := 16) hx hb dX3_beside_41 (by decide) ?_
    refine lv_icmp_ge (tgt := 195) hx hb dX3_beside_43 rfl (fun cnd => ?_) (fun cnd => ?_)
    · have hf := ec_t cnd hf
      exact Hkx195 x1 x2 x3 x4 x5 x6 _ hf (lv_sub hl [0, 1, 2, 3, 4, 5, 6] rfl)
    · have hf := ec_f cnd hf
      refine lv_iload hx hb dX3_beside_46 (lv_at hl 8 rfl) ?_
      refine lv_aload_n hx hb dX3_beside_48 rfl (lv_at hl 0 rfl) ?_
      refine m_get (v := .int (S.1 0)) X hM 0 (by decide) q974 rfl rfl dX3_beside_49 ?_
      refine lv_icmp_ge (tgt := 73) hx hb dX3_beside_52 rfl (fun cnd => ?_) (fun cnd => ?_)
      · have hf := ec_t cnd hf
        refine lv_iconst (v := 0) hx hb dX3_beside_73 (by decide) ?_
        exact bX3_beside_74 X hr hlk hM ih x1 x2 x3 x4 x5 x6 x7 x8 (0 : Int32) _ hf hl
      · have hf := ec_f cnd hf
        refine lv_aload_n hx hb dX3_beside_55 rfl (lv_at hl 0 rfl) ?_
        refine m_get (v := .ref (q 9)) X hM 9 (by decide) q983 rfl rfl dX3_beside_56 ?_
        refine lv_iload hx hb dX3_beside_59 (lv_at hl 8 rfl) ?_
        obtain ⟨v_13, h, hf⟩ := ec_bi hf
        refine m_iald X hM wma9 h dX3_beside_61 ?_
        refine lv_aload_n hx hb dX3_beside_62 rfl (lv_at hl 0 rfl) ?_
        refine lv_iload hx hb dX3_beside_63 (lv_at hl 8 rfl) ?_
        refine lv_iload_n hx hb dX3_beside_65 rfl (lv_at hl 1 rfl) ?_
        obtain ⟨v_14, h, hf⟩ := ec_bi hf
        refine m_cR (v := .int v_14) (As := [.int x8, .int x1]) (rest := [.int v_13]) X hM (metX3_made l D o q d dz S x8 x1 _ h) (cwV 2 X.2.2.2.2 gX3_251 rfl rfl rfl hX3_made ⟨Nat.le_of_ble_eq_true rfl, Nat.le_of_ble_eq_true rfl⟩) rfl hl.1 rfl (Nat.le_of_ble_eq_true rfl) ⟨Nat.zero_le _, Nat.zero_le _⟩ dX3_beside_66 ?_
        refine lv_imul hx hb dX3_beside_69 ?_
        refine lv_goto (tgt := 74) hx hb dX3_beside_70 rfl ?_
        exact bX3_beside_74 X hr hlk hM ih x1 x2 x3 x4 x5 x6 x7 x8 (v_13 * v_14) _ hf hl
noncomputable def fX3_beside (N : Nat) (S : sM) (x1 : Int32) (x2 : Int32) : Option Int32 :=
  (fX3_isEvent x1).bind fun v_1 =>
  if v_1 = 0 then (
    fX3_beside_19 N S)
  else (
    (fX3_in (x2.toInt64) (0 : Int64) (4 : Int64)).bind fun v_2 =>
    if ¬ v_2 = 0 then (
      fX3_beside_39 N S (fun x1_15 x2_16 x3_17 x4_18 x5_19 x6_20 =>
        if ¬ x2_16 = 0 then (
          if ¬ x2_16 = (1 : Int32) then (
            if ¬ x2_16 = (2 : Int32) then (
              if ¬ x2_16 = (3 : Int32) then (
                some x6_20)
              else (
                some x5_19))
            else (
              some x4_18))
          else (
            some x3_17))
        else (
          (fX3_total N S x1_15).bind fun v_21 =>
          some v_21)) N x1 x2 (0 : Int32) (0 : Int32) (0 : Int32) (-4 : Int32) (0 : Int32) (0 : Int32))
    else (
      fX3_beside_19 N S))
theorem metX3_beside (l : Launch) (D : va_G) (o : Nat) (q : Nat → Nat) (d dz : ClassId) (N : Nat) (S : sM) (x1 : Int32) (x2 : Int32) (res : Int32) (hf : fX3_beside N S x1 x2 = some res) : Met l yX3_beside (ws_ yX3_beside cX3_beside 10 (some .int)) (rmL 2) (MPre D o q d dz S [.int x1, .int x2]) (k2_QcV (.int res)) 0 0 (fun _ => False) := by
  refine m_ofR rfl (Nat.le_of_ble_eq_true rfl) (fun p e s m args below meth c X hr hlk hM ls hl => ?_)
  have hl : lv_has ls 10 [(0, .ref o), (1, .int x1), (2, .int x2)] := hl
  have hx := X.1
  have hb := X.2.1
  unfold fX3_beside at hf
  refine lv_iload_n hx hb dX3_beside_0 rfl (lv_at hl 1 rfl) ?_
  obtain ⟨v_1, h, hf⟩ := ec_bi hf
  refine e_cS (v := .int v_1) (As := [.int x1]) (rest := []) X (metX3_isEvent l x1 _ h) (va_cwS 1 X.2.2.2.2 gX3_260 rfl rfl rfl hX3_isEvent ⟨Nat.le_of_ble_eq_true rfl, Nat.le_of_ble_eq_true rfl⟩) rfl hl.1 rfl (Nat.le_of_ble_eq_true rfl) ⟨Nat.zero_le _, Nat.zero_le _⟩ dX3_beside_1 ?_
  refine lv_if_eq (tgt := 19) hx hb dX3_beside_4 rfl (fun cnd => ?_) (fun cnd => ?_)
  · have hf := ec_t cnd hf
    exact bX3_beside_19 X hr hlk hM _ hf (lv_sub hl [0] rfl)
  · have hf := ec_f cnd hf
    refine lv_iload_n hx hb dX3_beside_7 rfl (lv_at hl 2 rfl) ?_
    refine lv_i2l hx hb dX3_beside_8 rfl ?_
    refine lv_lconst (v := 0) hx hb dX3_beside_9 (by decide) ?_
    refine lv_ldc2 (own := RX3) (v := 4) hx hb X.2.2.2.1 (X.2.2.2.2 _ q1283) dX3_beside_10 ?_
    obtain ⟨v_2, h, hf⟩ := ec_bi hf
    refine e_cS (v := .int v_2) (As := [.long (x2.toInt64), .long (0 : Int64), .long (4 : Int64)]) (rest := []) X (metX3_in l (x2.toInt64) (0 : Int64) (4 : Int64) _ h) (va_cwS 3 X.2.2.2.2 gX3_124 rfl rfl rfl hX3_in ⟨Nat.le_of_ble_eq_true rfl, Nat.le_of_ble_eq_true rfl⟩) rfl hl.1 rfl (Nat.le_of_ble_eq_true rfl) ⟨Nat.zero_le _, Nat.zero_le _⟩ dX3_beside_13 ?_
    refine lv_if_ne (tgt := 21) hx hb dX3_beside_16 rfl (fun cnd => ?_) (fun cnd => ?_)
    · have hf := ec_t cnd hf
      refine lv_iconst (v := 0) hx hb dX3_beside_21 (by decide) ?_
      refine lv_istore_n (lv' := [(3, .int (0 : Int32)), (0, .ref o), (1, .int x1), (2, .int x2)]) hx hb dX3_beside_22 rfl hl (by decide) rfl (fun ls hl => ?_)
      refine lv_iconst (v := 0) hx hb dX3_beside_23 (by decide) ?_
      refine lv_istore (lv' := [(4, .int (0 : Int32)), (3, .int (0 : Int32)), (0, .ref o), (1, .int x1), (2, .int x2)]) hx hb dX3_beside_24 hl (by decide) rfl (fun ls hl => ?_)
      refine lv_iconst (v := 0) hx hb dX3_beside_26 (by decide) ?_
      refine lv_istore (lv' := [(5, .int (0 : Int32)), (4, .int (0 : Int32)), (3, .int (0 : Int32)), (0, .ref o), (1, .int x1), (2, .int x2)]) hx hb dX3_beside_27 hl (by decide) rfl (fun ls hl => ?_)
      refine lv_bipush (v := -4) hx hb dX3_beside_29 (by decide) ?_
      refine lv_istore (lv' := [(6, .int (-4 : Int32)), (5, .int (0 : Int32)), (4, .int (0 : Int32)), (3, .int (0 : Int32)), (0, .ref o), (1, .int x1), (2, .int x2)]) hx hb dX3_beside_31 hl (by decide) rfl (fun ls hl => ?_)
      refine lv_iconst (v := 0) hx hb dX3_beside_33 (by decide) ?_
      refine lv_istore (lv' := [(7, .int (0 : Int32)), (6, .int (-4 : Int32)), (5, .int (0 : Int32)), (4, .int (0 : Int32)), (3, .int (0 : Int32)), (0, .ref o), (1, .int x1), (2, .int x2)]) hx hb dX3_beside_34 hl (by decide) rfl (fun ls hl => ?_)
      refine lv_iconst (v := 0) hx hb dX3_beside_36 (by decide) ?_
      refine lv_istore (lv' := [(8, .int (0 : Int32)), (7, .int (0 : Int32)), (6, .int (-4 : Int32)), (5, .int (0 : Int32)), (4, .int (0 : Int32)), (3, .int (0 : Int32)), (0, .ref o), (1, .int x1), (2, .int x2)]) hx hb dX3_beside_37 hl (by decide) rfl (fun ls hl => ?_)
      exact bX3_beside_39 X hr hlk hM (fun x1_15 x2_16 x3_17 x4_18 x5_19 x6_20 ls hf hl => by
        refine lv_iload_n hx hb dX3_beside_195 rfl (lv_at hl 2 rfl) ?_
        refine lv_if_ne (tgt := 207) hx hb dX3_beside_196 rfl (fun cnd => ?_) (fun cnd => ?_)
        · have hf := ec_t cnd hf
          refine lv_iload_n hx hb dX3_beside_207 rfl (lv_at hl 2 rfl) ?_
          refine lv_iconst (v := 1) hx hb dX3_beside_208 (by decide) ?_
          refine lv_icmp_ne (tgt := 216) hx hb dX3_beside_209 rfl (fun cnd => ?_) (fun cnd => ?_)
          · have hf := ec_t cnd hf
            refine lv_iload_n hx hb dX3_beside_216 rfl (lv_at hl 2 rfl) ?_
            refine lv_iconst (v := 2) hx hb dX3_beside_217 (by decide) ?_
            refine lv_icmp_ne (tgt := 226) hx hb dX3_beside_218 rfl (fun cnd => ?_) (fun cnd => ?_)
            · have hf := ec_t cnd hf
              refine lv_iload_n hx hb dX3_beside_226 rfl (lv_at hl 2 rfl) ?_
              refine lv_iconst (v := 3) hx hb dX3_beside_227 (by decide) ?_
              refine lv_icmp_ne (tgt := 236) hx hb dX3_beside_228 rfl (fun cnd => ?_) (fun cnd => ?_)
              · have hf := ec_t cnd hf
                refine lv_iload hx hb dX3_beside_236 (lv_at hl 6 rfl) ?_
                obtain rfl := Option.some.inj hf
                exact e_iretR hx hb hr hlk dX3_beside_238
              · have hf := ec_f (not_not_intro cnd) hf
                refine lv_iload hx hb dX3_beside_231 (lv_at hl 5 rfl) ?_
                refine lv_goto (tgt := 238) hx hb dX3_beside_233 rfl ?_
                obtain rfl := Option.some.inj hf
                exact e_iretR hx hb hr hlk dX3_beside_238
            · have hf := ec_f (not_not_intro cnd) hf
              refine lv_iload hx hb dX3_beside_221 (lv_at hl 4 rfl) ?_
              refine lv_goto (tgt := 238) hx hb dX3_beside_223 rfl ?_
              obtain rfl := Option.some.inj hf
              exact e_iretR hx hb hr hlk dX3_beside_238
          · have hf := ec_f (not_not_intro cnd) hf
            refine lv_iload_n hx hb dX3_beside_212 rfl (lv_at hl 3 rfl) ?_
            refine lv_goto (tgt := 238) hx hb dX3_beside_213 rfl ?_
            obtain rfl := Option.some.inj hf
            exact e_iretR hx hb hr hlk dX3_beside_238
        · have hf := ec_f (not_not_intro cnd) hf
          refine lv_aload_n hx hb dX3_beside_199 rfl (lv_at hl 0 rfl) ?_
          refine lv_iload_n hx hb dX3_beside_200 rfl (lv_at hl 1 rfl) ?_
          obtain ⟨v_21, h, hf⟩ := ec_bi hf
          refine m_cR (v := .int v_21) (As := [.int x1_15]) (rest := []) X hM (metX3_total l D o q d dz N S x1_15 _ h) (cwV 1 X.2.2.2.2 gX3_257 rfl rfl rfl hX3_total ⟨Nat.le_of_ble_eq_true rfl, Nat.le_of_ble_eq_true rfl⟩) rfl hl.1 rfl (Nat.le_of_ble_eq_true rfl) ⟨Nat.zero_le _, Nat.zero_le _⟩ dX3_beside_201 ?_
          refine lv_goto (tgt := 238) hx hb dX3_beside_204 rfl ?_
          obtain rfl := Option.some.inj hf
          exact e_iretR hx hb hr hlk dX3_beside_238) N x1 x2 (0 : Int32) (0 : Int32) (0 : Int32) (-4 : Int32) (0 : Int32) (0 : Int32) _ hf (lv_sub hl [6, 7, 8, 5, 4, 3, 2, 1, 0] rfl)
    · have hf := ec_f (not_not_intro cnd) hf
      exact bX3_beside_19 X hr hlk hM _ hf (lv_sub hl [0] rfl)
theorem hX3_beside : yX3_beside.cls = RX3 ∧ yX3_beside.cls ≠ "java/lang/invoke/MethodHandle" ∧ yX3_beside.cls ≠ "java/lang/invoke/VarHandle" ∧ (parseMethodDescriptor yX3_beside.desc).map (fun d => d.parameters.length) = some 2 := by decide +kernel

theorem gX3_108 : GoodIn lw_all (wsV RX3 108 RX3 yX3_freshCounters (ws_ yX3_freshCounters cX3_freshCounters 2 none)) := lw_V q970 q972 qs27 q63 q973
noncomputable def fX3_counters (N : Nat) (S : sM) (x1 : Int32) : Option (Int32 × sM) :=
  (fX3_in (x1.toInt64) (1 : Int64) (4 : Int64)).bind fun v_1 =>
  if ¬ v_1 = 0 then (
    ec_lt (S.1 36) fun x2_2 =>
    ec_lt (mI S 36 x1) fun S_3 =>
    (fX3_freshCounters N S_3).bind fun S_4 =>
    ec_lt (mI S_4 49 (0 : Int32)) fun S_5 =>
    some (x2_2, S_5))
  else (
    some ((-1 : Int32), S))
theorem metX3_counters (l : Launch) (D : va_G) (o : Nat) (q : Nat → Nat) (d dz : ClassId) (hG : MG o q) (N : Nat) (S : sM) (x1 : Int32) (res : Int32) (Sr : sM) (hf : fX3_counters N S x1 = some (res, Sr)) : Met l yX3_counters (ws_ yX3_counters cX3_counters 3 (some .int)) (rmL 1) (MPre D o q d dz S [.int x1]) (MPost D o q d dz (some (.int res)) Sr) 0 0 (AM o q) := by
  refine m_ofW rfl (Nat.le_of_ble_eq_true rfl) (fun p e s m args below meth c X hr hlk hM ls hl => ?_)
  have hl : lv_has ls 3 [(0, .ref o), (1, .int x1)] := hl
  have hx := X.1
  have hb := X.2.1
  unfold fX3_counters at hf
  refine lv_iload_n hx hb dX3_counters_0 rfl (lv_at hl 1 rfl) ?_
  refine lv_i2l hx hb dX3_counters_1 rfl ?_
  refine lv_lconst (v := 1) hx hb dX3_counters_2 (by decide) ?_
  refine lv_ldc2 (own := RX3) (v := 4) hx hb X.2.2.2.1 (X.2.2.2.2 _ q1283) dX3_counters_3 ?_
  obtain ⟨v_1, h, hf⟩ := ec_bi hf
  refine e_cS (v := .int v_1) (As := [.long (x1.toInt64), .long (1 : Int64), .long (4 : Int64)]) (rest := []) X (metX3_in l (x1.toInt64) (1 : Int64) (4 : Int64) _ h) (va_cwS 3 X.2.2.2.2 gX3_124 rfl rfl rfl hX3_in ⟨Nat.le_of_ble_eq_true rfl, Nat.le_of_ble_eq_true rfl⟩) rfl hl.1 rfl (Nat.le_of_ble_eq_true rfl) ⟨Nat.zero_le _, Nat.zero_le _⟩ dX3_counters_6 ?_
  refine lv_if_ne (tgt := 14) hx hb dX3_counters_9 rfl (fun cnd => ?_) (fun cnd => ?_)
  · have hf := ec_t cnd hf
    refine lv_aload_n hx hb dX3_counters_14 rfl (lv_at hl 0 rfl) ?_
    refine m_get (v := .int (S.1 36)) X hM 36 (by decide) q1010 rfl rfl dX3_counters_15 ?_
    refine lv_topi (fun x2_2 ex => ?_)
    have hf := ec_lt_i ex hf
    refine lv_istore_n (lv' := [(2, .int x2_2), (0, .ref o), (1, .int x1)]) hx hb dX3_counters_18 rfl hl (by decide) rfl (fun ls hl => ?_)
    refine lv_aload_n hx hb dX3_counters_19 rfl (lv_at hl 1 rfl) ?_
    refine lv_iload_n hx hb dX3_counters_20 rfl (lv_at hl 2 rfl) ?_
    refine m_puti X hG hM 36 (by decide) q1010 rfl rfl mfd36 (wmi36 _) dX3_counters_21 (fun S_3 H locs eS hM => ?_)
    have hf := ec_lt_i eS hf
    refine lv_aload_n hx hb dX3_counters_24 rfl (lv_at hl 1 rfl) ?_
    obtain ⟨S_4, h, hf⟩ := ec_bi hf
    refine m_cWv (As := []) (rest := []) X hM (metX3_freshCounters l D o q d dz hG N S_3 _ h) (cwV 0 X.2.2.2.2 gX3_108 rfl rfl rfl hX3_freshCounters ⟨Nat.le_of_ble_eq_true rfl, Nat.le_of_ble_eq_true rfl⟩) rfl hl.1 rfl (Nat.le_of_ble_eq_true rfl) ⟨Nat.zero_le _, Nat.zero_le _⟩ dX3_counters_25 (fun H locs hM => ?_)
    refine lv_aload_n hx hb dX3_counters_28 rfl (lv_at hl 1 rfl) ?_
    refine lv_iconst (v := 0) hx hb dX3_counters_29 (by decide) ?_
    refine m_puti X hG hM 49 (by decide) q1023 rfl rfl mfd49 (wmi49 _) dX3_counters_30 (fun S_5 H locs eS hM => ?_)
    have hf := ec_lt_i eS hf
    refine lv_iload_n hx hb dX3_counters_33 rfl (lv_at hl 0 rfl) ?_
    obtain ⟨rfl, rfl⟩ := Prod.mk.inj (Option.some.inj hf)
    exact m_iret X hr hlk hM dX3_counters_34
  · have hf := ec_f (not_not_intro cnd) hf
    refine lv_iconst (v := -1) hx hb dX3_counters_12 (by decide) ?_
    obtain ⟨rfl, rfl⟩ := Prod.mk.inj (Option.some.inj hf)
    exact m_iret X hr hlk hM dX3_counters_13
theorem hX3_counters : yX3_counters.cls = RX3 ∧ yX3_counters.cls ≠ "java/lang/invoke/MethodHandle" ∧ yX3_counters.cls ≠ "java/lang/invoke/VarHandle" ∧ (parseMethodDescriptor yX3_counters.desc).map (fun d => d.parameters.length) = some 1 := by decide +kernel

noncomputable def fX3_isCounter (S : sM) (x1 : Int32) : Option Int32 :=
  (fX3_in (x1.toInt64) (0 : Int64) (((S.1 36) - (1 : Int32)).toInt64)).bind fun v_1 =>
  ec_rz v_1
theorem metX3_isCounter (l : Launch) (D : va_G) (o : Nat) (q : Nat → Nat) (d dz : ClassId) (S : sM) (x1 : Int32) (res : Int32) (hf : fX3_isCounter S x1 = some res) : Met l yX3_isCounter (ws_ yX3_isCounter cX3_isCounter 2 (some .boolean)) (rmL 1) (MPre D o q d dz S [.int x1]) (k2_QcV (.int res)) 0 0 (fun _ => False) := by
  refine m_ofR rfl (Nat.le_of_ble_eq_true rfl) (fun p e s m args below meth c X hr hlk hM ls hl => ?_)
  have hl : lv_has ls 2 [(0, .ref o), (1, .int x1)] := hl
  have hx := X.1
  have hb := X.2.1
  unfold fX3_isCounter at hf
  refine lv_iload_n hx hb dX3_isCounter_0 rfl (lv_at hl 1 rfl) ?_
  refine lv_i2l hx hb dX3_isCounter_1 rfl ?_
  refine lv_lconst (v := 0) hx hb dX3_isCounter_2 (by decide) ?_
  refine lv_aload_n hx hb dX3_isCounter_3 rfl (lv_at hl 0 rfl) ?_
  refine m_get (v := .int (S.1 36)) X hM 36 (by decide) q1010 rfl rfl dX3_isCounter_4 ?_
  refine lv_iconst (v := 1) hx hb dX3_isCounter_7 (by decide) ?_
  refine lv_isub hx hb dX3_isCounter_8 ?_
  refine lv_i2l hx hb dX3_isCounter_9 rfl ?_
  obtain ⟨v_1, h, hf⟩ := ec_bi hf
  refine e_cS (v := .int v_1) (As := [.long (x1.toInt64), .long (0 : Int64), .long (((S.1 36) - (1 : Int32)).toInt64)]) (rest := []) X (metX3_in l (x1.toInt64) (0 : Int64) (((S.1 36) - (1 : Int32)).toInt64) _ h) (va_cwS 3 X.2.2.2.2 gX3_124 rfl rfl rfl hX3_in ⟨Nat.le_of_ble_eq_true rfl, Nat.le_of_ble_eq_true rfl⟩) rfl hl.1 rfl (Nat.le_of_ble_eq_true rfl) ⟨Nat.zero_le _, Nat.zero_le _⟩ dX3_isCounter_10 ?_
  obtain ⟨hn, h2⟩ := ec_rz_i hf
  subst h2
  exact e_zretR hx hb hr hlk hn dX3_isCounter_13
theorem hX3_isCounter : yX3_isCounter.cls = RX3 ∧ yX3_isCounter.cls ≠ "java/lang/invoke/MethodHandle" ∧ yX3_isCounter.cls ≠ "java/lang/invoke/VarHandle" ∧ (parseMethodDescriptor yX3_isCounter.desc).map (fun d => d.parameters.length) = some 1 := by decide +kernel

theorem gX3_279 : GoodIn lw_all (wsV RX3 279 RX3 yX3_isCounter (ws_ yX3_isCounter cX3_isCounter 2 (some .boolean))) := lw_V q1313 q1315 qs48 q63 q1316
noncomputable def fX3_mask_20 (S : sM) : Option (Int32 × sM) :=
  some ((-1 : Int32), S)
theorem bX3_mask_20 (X : CallFix p m c cX3_mask 4 s args lw_all RX3) (hr : meth.sig.returnType = (some .int)) (hlk : meth.locks = false) (hG : MG o q) {res : Int32} {Sr : sM} : ∀ (S : sM) (H : Heap) (locs : List Loc) (ls : Array Slot), fX3_mask_20 S = some (res, Sr) → MW D o q d dz S s H locs → lv_has ls 4 [(0, .ref o)] → W p l e (rmL 2) s m args below meth c H locs 0 0 (MQ below (MPost D o q d dz (some (.int res)) Sr) args s 0 0 (AM o q)) (F0 m 20 ls []) := by
  have hx := X.1
  have hb := X.2.1
  intro S H locs ls hf hM hl
  unfold fX3_mask_20 at hf
  refine lv_iconst (v := -1) hx hb dX3_mask_20 (by decide) ?_
  obtain ⟨rfl, rfl⟩ := Prod.mk.inj (Option.some.inj hf)
  exact m_iret X hr hlk hM dX3_mask_21
noncomputable def fX3_mask (S : sM) (x1 : Int32) (x2 : Int32) : Option (Int32 × sM) :=
  (fX3_isCounter S x1).bind fun v_1 =>
  if v_1 = 0 then (
    fX3_mask_20 S)
  else (
    (fX3_in (x2.toInt64) (0 : Int64) (255 : Int64)).bind fun v_2 =>
    if ¬ v_2 = 0 then (
      (ec_ag (S.2.2 37) 4 x1).bind fun v_3 =>
      (ec_as S 37 4 x1 x2).bind fun S_4 =>
      some (v_3, S_4))
    else (
      fX3_mask_20 S))
theorem metX3_mask (l : Launch) (D : va_G) (o : Nat) (q : Nat → Nat) (d dz : ClassId) (hG : MG o q) (S : sM) (x1 : Int32) (x2 : Int32) (res : Int32) (Sr : sM) (hf : fX3_mask S x1 x2 = some (res, Sr)) : Met l yX3_mask (ws_ yX3_mask cX3_mask 4 (some .int)) (rmL 2) (MPre D o q d dz S [.int x1, .int x2]) (MPost D o q d dz (some (.int res)) Sr) 0 0 (AM o q) := by
  refine m_ofW rfl (Nat.le_of_ble_eq_true rfl) (fun p e s m args below meth c X hr hlk hM ls hl => ?_)
  have hl : lv_has ls 4 [(0, .ref o), (1, .int x1), (2, .int x2)] := hl
  have hx := X.1
  have hb := X.2.1
  unfold fX3_mask at hf
  refine lv_aload_n hx hb dX3_mask_0 rfl (lv_at hl 0 rfl) ?_
  refine lv_iload_n hx hb dX3_mask_1 rfl (lv_at hl 1 rfl) ?_
  obtain ⟨v_1, h, hf⟩ := ec_bi hf
  refine m_cR (v := .int v_1) (As := [.int x1]) (rest := []) X hM (metX3_isCounter l D o q d dz S x1 _ h) (cwV 1 X.2.2.2.2 gX3_279 rfl rfl rfl hX3_isCounter ⟨Nat.le_of_ble_eq_true rfl, Nat.le_of_ble_eq_true rfl⟩) rfl hl.1 rfl (Nat.le_of_ble_eq_true rfl) ⟨Nat.zero_le _, Nat.zero_le _⟩ dX3_mask_2 ?_
  refine lv_if_eq (tgt := 20) hx hb dX3_mask_5 rfl (fun cnd => ?_) (fun cnd => ?_)
  · have hf := ec_t cnd hf
    exact bX3_mask_20 X hr hlk hG S _ _ _ hf hM (lv_sub hl [0] rfl)
  · have hf := ec_f cnd hf
    refine lv_iload_n hx hb dX3_mask_8 rfl (lv_at hl 2 rfl) ?_
    refine lv_i2l hx hb dX3_mask_9 rfl ?_
    refine lv_lconst (v := 0) hx hb dX3_mask_10 (by decide) ?_
    refine lv_ldc2 (own := RX3) (v := 255) hx hb X.2.2.2.1 (X.2.2.2.2 _ q1147) dX3_mask_11 ?_
    obtain ⟨v_2, h, hf⟩ := ec_bi hf
    refine e_cS (v := .int v_2) (As := [.long (x2.toInt64), .long (0 : Int64), .long (255 : Int64)]) (rest := []) X (metX3_in l (x2.toInt64) (0 : Int64) (255 : Int64) _ h) (va_cwS 3 X.2.2.2.2 gX3_124 rfl rfl rfl hX3_in ⟨Nat.le_of_ble_eq_true rfl, Nat.le_of_ble_eq_true rfl⟩) rfl hl.1 rfl (Nat.le_of_ble_eq_true rfl) ⟨Nat.zero_le _, Nat.zero_le _⟩ dX3_mask_14 ?_
    refine lv_if_ne (tgt := 22) hx hb dX3_mask_17 rfl (fun cnd => ?_) (fun cnd => ?_)
    · have hf := ec_t cnd hf
      refine lv_aload_n hx hb dX3_mask_22 rfl (lv_at hl 0 rfl) ?_
      refine m_get (v := .ref (q 37)) X hM 37 (by decide) q1011 rfl rfl dX3_mask_23 ?_
      refine lv_iload_n hx hb dX3_mask_26 rfl (lv_at hl 1 rfl) ?_
      obtain ⟨v_3, h, hf⟩ := ec_bi hf
      refine m_iald X hM wma37 h dX3_mask_27 ?_
      refine lv_istore_n (lv' := [(3, .int v_3), (0, .ref o), (1, .int x1), (2, .int x2)]) hx hb dX3_mask_28 rfl hl (by decide) rfl (fun ls hl => ?_)
      refine lv_aload_n hx hb dX3_mask_29 rfl (lv_at hl 1 rfl) ?_
      refine m_get (v := .ref (q 37)) X hM 37 (by decide) q1011 rfl rfl dX3_mask_30 ?_
      refine lv_iload_n hx hb dX3_mask_33 rfl (lv_at hl 2 rfl) ?_
      refine lv_iload_n hx hb dX3_mask_34 rfl (lv_at hl 3 rfl) ?_
      obtain ⟨S_4, h, hf⟩ := ec_bi hf
      refine m_iast X hG hM wma37 wms37 h dX3_mask_35 (fun H locs hM => ?_)
      refine lv_iload_n hx hb dX3_mask_36 rfl (lv_at hl 0 rfl) ?_
      obtain ⟨rfl, rfl⟩ := Prod.mk.inj (Option.some.inj hf)
      exact m_iret X hr hlk hM dX3_mask_37
    · have hf := ec_f (not_not_intro cnd) hf
      exact bX3_mask_20 X hr hlk hG S _ _ _ hf hM (lv_sub hl [0] rfl)
theorem hX3_mask : yX3_mask.cls = RX3 ∧ yX3_mask.cls ≠ "java/lang/invoke/MethodHandle" ∧ yX3_mask.cls ≠ "java/lang/invoke/VarHandle" ∧ (parseMethodDescriptor yX3_mask.desc).map (fun d => d.parameters.length) = some 2 := by decide +kernel

noncomputable def fX3_width_22 (S : sM) : Option (Int32 × sM) :=
  some ((-1 : Int32), S)
theorem bX3_width_22 (X : CallFix p m c cX3_width 4 s args lw_all RX3) (hr : meth.sig.returnType = (some .int)) (hlk : meth.locks = false) (hG : MG o q) {res : Int32} {Sr : sM} : ∀ (S : sM) (H : Heap) (locs : List Loc) (ls : Array Slot), fX3_width_22 S = some (res, Sr) → MW D o q d dz S s H locs → lv_has ls 4 [(0, .ref o)] → W p l e (rmL 2) s m args below meth c H locs 0 0 (MQ below (MPost D o q d dz (some (.int res)) Sr) args s 0 0 (AM o q)) (F0 m 22 ls []) := by
  have hx := X.1
  have hb := X.2.1
  intro S H locs ls hf hM hl
  unfold fX3_width_22 at hf
  refine lv_iconst (v := -1) hx hb dX3_width_22 (by decide) ?_
  obtain ⟨rfl, rfl⟩ := Prod.mk.inj (Option.some.inj hf)
  exact m_iret X hr hlk hM dX3_width_23
noncomputable def fX3_width (S : sM) (x1 : Int32) (x2 : Int32) : Option (Int32 × sM) :=
  (fX3_isCounter S x1).bind fun v_1 =>
  if v_1 = 0 then (
    fX3_width_22 S)
  else (
    (fX3_in (x2.toInt64) (2 : Int64) (16 : Int64)).bind fun v_2 =>
    if ¬ v_2 = 0 then (
      (ec_ag (S.2.2 38) 4 x1).bind fun v_3 =>
      (ec_as S 38 4 x1 x2).bind fun S_4 =>
      some (v_3, S_4))
    else (
      fX3_width_22 S))
theorem metX3_width (l : Launch) (D : va_G) (o : Nat) (q : Nat → Nat) (d dz : ClassId) (hG : MG o q) (S : sM) (x1 : Int32) (x2 : Int32) (res : Int32) (Sr : sM) (hf : fX3_width S x1 x2 = some (res, Sr)) : Met l yX3_width (ws_ yX3_width cX3_width 4 (some .int)) (rmL 2) (MPre D o q d dz S [.int x1, .int x2]) (MPost D o q d dz (some (.int res)) Sr) 0 0 (AM o q) := by
  refine m_ofW rfl (Nat.le_of_ble_eq_true rfl) (fun p e s m args below meth c X hr hlk hM ls hl => ?_)
  have hl : lv_has ls 4 [(0, .ref o), (1, .int x1), (2, .int x2)] := hl
  have hx := X.1
  have hb := X.2.1
  unfold fX3_width at hf
  refine lv_aload_n hx hb dX3_width_0 rfl (lv_at hl 0 rfl) ?_
  refine lv_iload_n hx hb dX3_width_1 rfl (lv_at hl 1 rfl) ?_
  obtain ⟨v_1, h, hf⟩ := ec_bi hf
  refine m_cR (v := .int v_1) (As := [.int x1]) (rest := []) X hM (metX3_isCounter l D o q d dz S x1 _ h) (cwV 1 X.2.2.2.2 gX3_279 rfl rfl rfl hX3_isCounter ⟨Nat.le_of_ble_eq_true rfl, Nat.le_of_ble_eq_true rfl⟩) rfl hl.1 rfl (Nat.le_of_ble_eq_true rfl) ⟨Nat.zero_le _, Nat.zero_le _⟩ dX3_width_2 ?_
  refine lv_if_eq (tgt := 22) hx hb dX3_width_5 rfl (fun cnd => ?_) (fun cnd => ?_)
  · have hf := ec_t cnd hf
    exact bX3_width_22 X hr hlk hG S _ _ _ hf hM (lv_sub hl [0] rfl)
  · have hf := ec_f cnd hf
    refine lv_iload_n hx hb dX3_width_8 rfl (lv_at hl 2 rfl) ?_
    refine lv_i2l hx hb dX3_width_9 rfl ?_
    refine lv_ldc2 (own := RX3) (v := 2) hx hb X.2.2.2.1 (X.2.2.2.2 _ q1321) dX3_width_10 ?_
    refine lv_ldc2 (own := RX3) (v := 16) hx hb X.2.2.2.1 (X.2.2.2.2 _ q1322) dX3_width_13 ?_
    obtain ⟨v_2, h, hf⟩ := ec_bi hf
    refine e_cS (v := .int v_2) (As := [.long (x2.toInt64), .long (2 : Int64), .long (16 : Int64)]) (rest := []) X (metX3_in l (x2.toInt64) (2 : Int64) (16 : Int64) _ h) (va_cwS 3 X.2.2.2.2 gX3_124 rfl rfl rfl hX3_in ⟨Nat.le_of_ble_eq_true rfl, Nat.le_of_ble_eq_true rfl⟩) rfl hl.1 rfl (Nat.le_of_ble_eq_true rfl) ⟨Nat.zero_le _, Nat.zero_le _⟩ dX3_width_16 ?_
    refine lv_if_ne (tgt := 24) hx hb dX3_width_19 rfl (fun cnd => ?_) (fun cnd => ?_)
    · have hf := ec_t cnd hf
      refine lv_aload_n hx hb dX3_width_24 rfl (lv_at hl 0 rfl) ?_
      refine m_get (v := .ref (q 38)) X hM 38 (by decide) q1012 rfl rfl dX3_width_25 ?_
      refine lv_iload_n hx hb dX3_width_28 rfl (lv_at hl 1 rfl) ?_
      obtain ⟨v_3, h, hf⟩ := ec_bi hf
      refine m_iald X hM wma38 h dX3_width_29 ?_
      refine lv_istore_n (lv' := [(3, .int v_3), (0, .ref o), (1, .int x1), (2, .int x2)]) hx hb dX3_width_30 rfl hl (by decide) rfl (fun ls hl => ?_)
      refine lv_aload_n hx hb dX3_width_31 rfl (lv_at hl 1 rfl) ?_
      refine m_get (v := .ref (q 38)) X hM 38 (by decide) q1012 rfl rfl dX3_width_32 ?_
      refine lv_iload_n hx hb dX3_width_35 rfl (lv_at hl 2 rfl) ?_
      refine lv_iload_n hx hb dX3_width_36 rfl (lv_at hl 3 rfl) ?_
      obtain ⟨S_4, h, hf⟩ := ec_bi hf
      refine m_iast X hG hM wma38 wms38 h dX3_width_37 (fun H locs hM => ?_)
      refine lv_iload_n hx hb dX3_width_38 rfl (lv_at hl 0 rfl) ?_
      obtain ⟨rfl, rfl⟩ := Prod.mk.inj (Option.some.inj hf)
      exact m_iret X hr hlk hM dX3_width_39
    · have hf := ec_f (not_not_intro cnd) hf
      exact bX3_width_22 X hr hlk hG S _ _ _ hf hM (lv_sub hl [0] rfl)
theorem hX3_width : yX3_width.cls = RX3 ∧ yX3_width.cls ≠ "java/lang/invoke/MethodHandle" ∧ yX3_width.cls ≠ "java/lang/invoke/VarHandle" ∧ (parseMethodDescriptor yX3_width.desc).map (fun d => d.parameters.length) = some 2 := by decide +kernel

noncomputable def fX3_areEvents (x0 : Int32) : Option Int32 :=
  (fX3_in (x0.toInt64) (0 : Int64) (255 : Int64)).bind fun v_1 =>
  ec_rz v_1
theorem metX3_areEvents (l : Launch) (x0 : Int32) (res : Int32) (hf : fX3_areEvents x0 = some res) : Met l yX3_areEvents (ws_ yX3_areEvents cX3_areEvents 1 (some .boolean)) (rmL 1) (PA [.int x0]) (k2_QcV (.int res)) 0 0 (fun _ => False) := by
  refine e_ofS (by decide) (Nat.le_of_ble_eq_true rfl) (fun p e s m args below meth c X hr hlk ls hl => ?_)
  have hl : lv_has ls 1 [(0, .int x0)] := hl
  have hx := X.1
  have hb := X.2.1
  unfold fX3_areEvents at hf
  refine lv_iload_n hx hb dX3_areEvents_0 rfl (lv_at hl 0 rfl) ?_
  refine lv_i2l hx hb dX3_areEvents_1 rfl ?_
  refine lv_lconst (v := 0) hx hb dX3_areEvents_2 (by decide) ?_
  refine lv_ldc2 (own := RX3) (v := 255) hx hb X.2.2.2.1 (X.2.2.2.2 _ q1147) dX3_areEvents_3 ?_
  obtain ⟨v_1, h, hf⟩ := ec_bi hf
  refine e_cS (v := .int v_1) (As := [.long (x0.toInt64), .long (0 : Int64), .long (255 : Int64)]) (rest := []) X (metX3_in l (x0.toInt64) (0 : Int64) (255 : Int64) _ h) (va_cwS 3 X.2.2.2.2 gX3_124 rfl rfl rfl hX3_in ⟨Nat.le_of_ble_eq_true rfl, Nat.le_of_ble_eq_true rfl⟩) rfl hl.1 rfl (Nat.le_of_ble_eq_true rfl) ⟨Nat.zero_le _, Nat.zero_le _⟩ dX3_areEvents_6 ?_
  obtain ⟨hn, h2⟩ := ec_rz_i hf
  subst h2
  exact e_zretR hx hb hr hlk hn dX3_areEvents_9
theorem hX3_areEvents : yX3_areEvents.cls ≠ "java/lang/invoke/MethodHandle" ∧ yX3_areEvents.cls ≠ "java/lang/invoke/VarHandle" ∧ (parseMethodDescriptor yX3_areEvents.desc).map (fun d => d.parameters.length) = some 1 := by decide +kernel

noncomputable def fX3_wayOf_125 (N : Nat) (S : sM) (k39 : Int32 → Int32 → Int32 → Int32 → Int32 → Int32 → Int32 → Option Int32) (x1 : Int32) (x2 : Int32) (x3 : Int32) (x4 : Int32) (x5 : Int32) (x6 : Int32) (x7 : Int32) : Option Int32 :=
  ec_lt (x7 + (1 : Int32)) fun x7_2 =>
  k39 x1 x2 x3 x4 x5 x6 x7_2
theorem bX3_wayOf_125 {N : Nat} (X : CallFix p m c cX3_wayOf 9 s args lw_all RX3) (hr : meth.sig.returnType = (some .int)) (hlk : meth.locks = false) {S : sM} (hM : MW D o q d dz S s s.heap []) {res : Int32} {k39 : Int32 → Int32 → Int32 → Int32 → Int32 → Int32 → Int32 → Option Int32} (Hk39 : ∀ (x1 : Int32) (x2 : Int32) (x3 : Int32) (x4 : Int32) (x5 : Int32) (x6 : Int32) (x7 : Int32) (ls : Array Slot), k39 x1 x2 x3 x4 x5 x6 x7 = some res → lv_has ls 9 [(0, .ref o), (1, .int x1), (2, .int x2), (3, .int x3), (4, .int x4), (5, .int x5), (6, .int x6), (7, .int x7)] → W p l e (rmL 1) s m args below meth c s.heap [] 0 0 (MQ below (k2_QcV (.int res)) args s 0 0 (fun _ => False)) (F0 m 39 ls [])) : ∀ (x1 : Int32) (x2 : Int32) (x3 : Int32) (x4 : Int32) (x5 : Int32) (x6 : Int32) (x7 : Int32) (ls : Array Slot), fX3_wayOf_125 N S k39 x1 x2 x3 x4 x5 x6 x7 = some res → lv_has ls 9 [(0, .ref o), (1, .int x1), (2, .int x2), (3, .int x3), (4, .int x4), (5, .int x5), (6, .int x6), (7, .int x7)] → W p l e (rmL 1) s m args below meth c s.heap [] 0 0 (MQ below (k2_QcV (.int res)) args s 0 0 (fun _ => False)) (F0 m 125 ls []) := by
  have hx := X.1
  have hb := X.2.1
  intro x1 x2 x3 x4 x5 x6 x7 ls hf hl
  unfold fX3_wayOf_125 at hf
  refine e_inc (w := 1) (f := fun v => [(7, .int v), (0, .ref o), (1, .int x1), (2, .int x2), (3, .int x3), (4, .int x4), (5, .int x5), (6, .int x6)]) hx hb dX3_wayOf_125 hl (k := 7) rfl (by decide) (by decide) (fun _ => rfl) (fun x7_2 ex ls hl => ?_)
  have hf := ec_lt_i ex hf
  refine lv_goto (tgt := 39) hx hb dX3_wayOf_128 rfl ?_
  exact Hk39 x1 x2 x3 x4 x5 x6 x7_2 _ hf (lv_sub hl [1, 2, 3, 4, 5, 6, 7, 0] rfl)
noncomputable def fX3_wayOf_114 (N : Nat) (S : sM) (k39 : Int32 → Int32 → Int32 → Int32 → Int32 → Int32 → Int32 → Option Int32) (x1 : Int32) (x2 : Int32) (x3 : Int32) (x4 : Int32) (x5 : Int32) (x7 : Int32) (x8 : Int32) (t0 : Int32) : Option Int32 :=
  ec_lt (x4 ||| ((1 : Int32) <<< (x8 &&& 31))) fun x4_5 =>
  fX3_wayOf_125 N S k39 x1 x2 x3 x4_5 x5 t0 x7
theorem bX3_wayOf_114 {N : Nat} (X : CallFix p m c cX3_wayOf 9 s args lw_all RX3) (hr : meth.sig.returnType = (some .int)) (hlk : meth.locks = false) {S : sM} (hM : MW D o q d dz S s s.heap []) {res : Int32} {k39 : Int32 → Int32 → Int32 → Int32 → Int32 → Int32 → Int32 → Option Int32} (Hk39 : ∀ (x1 : Int32) (x2 : Int32) (x3 : Int32) (x4 : Int32) (x5 : Int32) (x6 : Int32) (x7 : Int32) (ls : Array Slot), k39 x1 x2 x3 x4 x5 x6 x7 = some res → lv_has ls 9 [(0, .ref o), (1, .int x1), (2, .int x2), (3, .int x3), (4, .int x4), (5, .int x5), (6, .int x6), (7, .int x7)] → W p l e (rmL 1) s m args below meth c s.heap [] 0 0 (MQ below (k2_QcV (.int res)) args s 0 0 (fun _ => False)) (F0 m 39 ls [])) : ∀ (x1 : Int32) (x2 : Int32) (x3 : Int32) (x4 : Int32) (x5 : Int32) (x7 : Int32) (x8 : Int32) (t0 : Int32) (ls : Array Slot), fX3_wayOf_114 N S k39 x1 x2 x3 x4 x5 x7 x8 t0 = some res → lv_has ls 9 [(0, .ref o), (1, .int x1), (2, .int x2), (3, .int x3), (4, .int x4), (5, .int x5), (7, .int x7), (8, .int x8)] → W p l e (rmL 1) s m args below meth c s.heap [] 0 0 (MQ below (k2_QcV (.int res)) args s 0 0 (fun _ => False)) (F0 m 114 ls [.int t0]) := by
  have hx := X.1
  have hb := X.2.1
  intro x1 x2 x3 x4 x5 x7 x8 t0 ls hf hl
  unfold fX3_wayOf_114 at hf
  refine lv_istore (lv' := [(6, .int t0), (0, .ref o), (1, .int x1), (2, .int x2), (3, .int x3), (4, .int x4), (5, .int x5), (7, .int x7), (8, .int x8)]) hx hb dX3_wayOf_114 hl (by decide) rfl (fun ls hl => ?_)
  refine lv_iload hx hb dX3_wayOf_116 (lv_at hl 5 rfl) ?_
  refine lv_iconst (v := 1) hx hb dX3_wayOf_118 (by decide) ?_
  refine lv_iload hx hb dX3_wayOf_119 (lv_at hl 8 rfl) ?_
  refine lv_ishl hx hb dX3_wayOf_121 ?_
  refine lv_ior hx hb dX3_wayOf_122 ?_
  refine lv_topi (fun x4_5 ex => ?_)
  have hf := ec_lt_i ex hf
  refine lv_istore (lv' := [(4, .int x4_5), (6, .int t0), (0, .ref o), (1, .int x1), (2, .int x2), (3, .int x3), (5, .int x5), (7, .int x7), (8, .int x8)]) hx hb dX3_wayOf_123 hl (by decide) rfl (fun ls hl => ?_)
  exact bX3_wayOf_125 X hr hlk hM Hk39 x1 x2 x3 x4_5 x5 t0 x7 _ hf (lv_sub hl [2, 3, 4, 5, 0, 6, 1, 7] rfl)
noncomputable def fX3_wayOf_113 (N : Nat) (S : sM) (k39 : Int32 → Int32 → Int32 → Int32 → Int32 → Int32 → Int32 → Option Int32) (x1 : Int32) (x2 : Int32) (x3 : Int32) (x4 : Int32) (x5 : Int32) (x7 : Int32) (x8 : Int32) : Option Int32 :=
  fX3_wayOf_114 N S k39 x1 x2 x3 x4 x5 x7 x8 (0 : Int32)
theorem bX3_wayOf_113 {N : Nat} (X : CallFix p m c cX3_wayOf 9 s args lw_all RX3) (hr : meth.sig.returnType = (some .int)) (hlk : meth.locks = false) {S : sM} (hM : MW D o q d dz S s s.heap []) {res : Int32} {k39 : Int32 → Int32 → Int32 → Int32 → Int32 → Int32 → Int32 → Option Int32} (Hk39 : ∀ (x1 : Int32) (x2 : Int32) (x3 : Int32) (x4 : Int32) (x5 : Int32) (x6 : Int32) (x7 : Int32) (ls : Array Slot), k39 x1 x2 x3 x4 x5 x6 x7 = some res → lv_has ls 9 [(0, .ref o), (1, .int x1), (2, .int x2), (3, .int x3), (4, .int x4), (5, .int x5), (6, .int x6), (7, .int x7)] → W p l e (rmL 1) s m args below meth c s.heap [] 0 0 (MQ below (k2_QcV (.int res)) args s 0 0 (fun _ => False)) (F0 m 39 ls [])) : ∀ (x1 : Int32) (x2 : Int32) (x3 : Int32) (x4 : Int32) (x5 : Int32) (x7 : Int32) (x8 : Int32) (ls : Array Slot), fX3_wayOf_113 N S k39 x1 x2 x3 x4 x5 x7 x8 = some res → lv_has ls 9 [(0, .ref o), (1, .int x1), (2, .int x2), (3, .int x3), (4, .int x4), (5, .int x5), (7, .int x7), (8, .int x8)] → W p l e (rmL 1) s m args below meth c s.heap [] 0 0 (MQ below (k2_QcV (.int res)) args s 0 0 (fun _ => False)) (F0 m 113 ls []) := by
  have hx := X.1
  have hb := X.2.1
  intro x1 x2 x3 x4 x5 x7 x8 ls hf hl
  unfold fX3_wayOf_113 at hf
  refine lv_iconst (v := 0) hx hb dX3_wayOf_113 (by decide) ?_
  exact bX3_wayOf_114 X hr hlk hM Hk39 x1 x2 x3 x4 x5 x7 x8 (0 : Int32) _ hf hl
noncomputable def fX3_wayOf_39 (N : Nat) (S : sM) (kx131 : Int32 → Int32 → Int32 → Int32 → Option Int32) : Nat → Int32 → Int32 → Int32 → Int32 → Int32 → Int32 → Int32 → Option Int32
  | 0, _, _, _, _, _, _, _ => none
  | n + 1, x1, x2, x3, x4, x5, x6, x7 =>
    if (8 : Int32) ≤ x7 then (
      kx131 x1 x2 x3 x6)
    else (
      if ¬ ((x1 >>> (x7 &&& 31)) &&& (1 : Int32)) = (1 : Int32) then (
        fX3_wayOf_125 N S (fX3_wayOf_39 N S kx131 n) x1 x2 x3 x4 x5 x6 x7)
      else (
        ec_lt (x5 + (-1 : Int32)) fun x5_3 =>
        ec_lt ((x3 >>> (((2 : Int32) * x5_3) &&& 31)) &&& (3 : Int32)) fun x8_4 =>
        if x6 = 0 then (
          fX3_wayOf_113 N S (fX3_wayOf_39 N S kx131 n) x1 x2 x3 x4 x5_3 x7 x8_4)
        else (
          if (S.1 36) ≤ x8_4 then (
            fX3_wayOf_113 N S (fX3_wayOf_39 N S kx131 n) x1 x2 x3 x4 x5_3 x7 x8_4)
          else (
            if ¬ ((x4 >>> (x8_4 &&& 31)) &&& (1 : Int32)) = 0 then (
              fX3_wayOf_113 N S (fX3_wayOf_39 N S kx131 n) x1 x2 x3 x4 x5_3 x7 x8_4)
            else (
              (ec_ag (S.2.2 37) 4 x8_4).bind fun v_6 =>
              if ¬ ((v_6 >>> (x7 &&& 31)) &&& (1 : Int32)) = (1 : Int32) then (
                fX3_wayOf_113 N S (fX3_wayOf_39 N S kx131 n) x1 x2 x3 x4 x5_3 x7 x8_4)
              else (
                fX3_wayOf_114 N S (fX3_wayOf_39 N S kx131 n) x1 x2 x3 x4 x5_3 x7 x8_4 (1 : Int32)))))))
theorem bX3_wayOf_39 {N : Nat} (X : CallFix p m c cX3_wayOf 9 s args lw_all RX3) (hr : meth.sig.returnType = (some .int)) (hlk : meth.locks = false) {S : sM} (hM : MW D o q d dz S s s.heap []) {res : Int32} {kx131 : Int32 → Int32 → Int32 → Int32 → Option Int32} (Hkx131 : ∀ (x1 : Int32) (x2 : Int32) (x3 : Int32) (x6 : Int32) (ls : Array Slot), kx131 x1 x2 x3 x6 = some res → lv_has ls 9 [(0, .ref o), (1, .int x1), (2, .int x2), (3, .int x3), (6, .int x6)] → W p l e (rmL 1) s m args below meth c s.heap [] 0 0 (MQ below (k2_QcV (.int res)) args s 0 0 (fun _ => False)) (F0 m 131 ls [])) : ∀ (n : Nat) (x1 : Int32) (x2 : Int32) (x3 : Int32) (x4 : Int32) (x5 : Int32) (x6 : Int32) (x7 : Int32) (ls : Array Slot), fX3_wayOf_39 N S kx131 n x1 x2 x3 x4 x5 x6 x7 = some res → lv_has ls 9 [(0, .ref o), (1, .int x1), (2, .int x2), (3, .int x3), (4, .int x4), (5, .int x5), (6, .int x6), (7, .int x7)] → W p l e (rmL 1) s m args below meth c s.heap [] 0 0 (MQ below (k2_QcV (.int res)) args s 0 0 (fun _ => False)) (F0 m 39 ls []) := by
  have hx := X.1
  have hb := X.2.1
  intro n
  induction n with
  | zero =>
    intro x1 x2 x3 x4 x5 x6 x7 ls hf hl
    rw [fX3_wayOf_39] at hf
    cases hf
  | succ n ih =>
    intro x1 x2 x3 x4 x5 x6 x7 ls hf hl
    rw [fX3_wayOf_39] at hf
    refine lv_iload hx hb dX3_wayOf_39 (lv_at hl 7 rfl) ?_
    refine lv_bipush (v := 8) hx hb dX3_wayOf_41 (by decide) ?_
    refine lv_icmp_ge (tgt := 131) hx hb dX3_wayOf_43 rfl (fun cnd => ?_) (fun cnd => ?_)
    · have hf := ec_t cnd hf
      exact Hkx131 x1 x2 x3 x6 _ hf (lv_sub hl [0, 1, 2, 3, 6] rfl)
    · have hf := ec_f cnd hf
      refine lv_iload_n hx hb dX3_wayOf_46 rfl (lv_at hl 1 rfl) ?_
      refine lv_iload hx hb dX3_wayOf_47 (lv_at hl 7 rfl) ?_
      refine lv_ishr hx hb dX3_wayOf_49 ?_
      refine lv_iconst (v := 1) hx hb dX3_wayOf_50 (by decide) ?_
      refine lv_iand hx hb dX3_wayOf_51 ?_
      refine lv_iconst (v := 1) hx hb dX3_wayOf_52 (by decide) ?_
      refine lv_icmp_ne (tgt := 125) hx hb dX3_wayOf_53 rfl (fun cnd => ?_) (fun cnd => ?_)
      · have hf := ec_t cnd hf
        exact bX3_wayOf_125 X hr hlk hM ih x1 x2 x3 x4 x5 x6 x7 _ hf hl
      · have hf := ec_f (not_not_intro cnd) hf
        refine e_inc (w := -1) (f := fun v => [(5, .int v), (0, .ref o), (1, .int x1), (2, .int x2), (3, .int x3), (4, .int x4), (6, .int x6), (7, .int x7)]) hx hb dX3_wayOf_56 hl (k := 5) rfl (by decide) (by decide) (fun _ => rfl) (fun x5_3 ex ls hl => ?_)
        have hf := ec_lt_i ex hf
        refine lv_iload_n hx hb dX3_wayOf_59 rfl (lv_at hl 4 rfl) ?_
        refine lv_iconst (v := 2) hx hb dX3_wayOf_60 (by decide) ?_
        refine lv_iload hx hb dX3_wayOf_61 (lv_at hl 0 rfl) ?_
        refine lv_imul hx hb dX3_wayOf_63 ?_
        refine lv_ishr hx hb dX3_wayOf_64 ?_
        refine lv_iconst (v := 3) hx hb dX3_wayOf_65 (by decide) ?_
        refine lv_iand hx hb dX3_wayOf_66 ?_
        refine lv_topi (fun x8_4 ex => ?_)
        have hf := ec_lt_i ex hf
        refine lv_istore (lv' := [(8, .int x8_4), (5, .int x5_3), (0, .ref o), (1, .int x1), (2, .int x2), (3, .int x3), (4, .int x4), (6, .int x6), (7, .int x7)]) hx hb dX3_wayOf_67 hl (by decide) rfl (fun ls hl => ?_)
        refine lv_iload hx hb dX3_wayOf_69 (lv_at hl 7 rfl) ?_
        refine lv_if_eq (tgt := 113) hx hb dX3_wayOf_71 rfl (fun cnd => ?_) (fun cnd => ?_)
        · have hf := ec_t cnd hf
          exact bX3_wayOf_113 X hr hlk hM ih x1 x2 x3 x4 x5_3 x7 x8_4 _ hf (lv_sub hl [2, 3, 4, 5, 6, 1, 8, 0] rfl)
        · have hf := ec_f cnd hf
          refine lv_iload hx hb dX3_wayOf_74 (lv_at hl 0 rfl) ?_
          refine lv_aload_n hx hb dX3_wayOf_76 rfl (lv_at hl 2 rfl) ?_
          refine m_get (v := .int (S.1 36)) X hM 36 (by decide) q1010 rfl rfl dX3_wayOf_77 ?_
          refine lv_icmp_ge (tgt := 113) hx hb dX3_wayOf_80 rfl (fun cnd => ?_) (fun cnd => ?_)
          · have hf := ec_t cnd hf
            exact bX3_wayOf_113 X hr hlk hM ih x1 x2 x3 x4 x5_3 x7 x8_4 _ hf (lv_sub hl [2, 3, 4, 5, 6, 1, 8, 0] rfl)
          · have hf := ec_f cnd hf
            refine lv_iload hx hb dX3_wayOf_83 (lv_at hl 6 rfl) ?_
            refine lv_iload hx hb dX3_wayOf_85 (lv_at hl 0 rfl) ?_
            refine lv_ishr hx hb dX3_wayOf_87 ?_
            refine lv_iconst (v := 1) hx hb dX3_wayOf_88 (by decide) ?_
            refine lv_iand hx hb dX3_wayOf_89 ?_
            refine lv_if_ne (tgt := 113) hx hb dX3_wayOf_90 rfl (fun cnd => ?_) (fun cnd => ?_)
            · have hf := ec_t cnd hf
              exact bX3_wayOf_113 X hr hlk hM ih x1 x2 x3 x4 x5_3 x7 x8_4 _ hf (lv_sub hl [2, 3, 4, 5, 6, 1, 8, 0] rfl)
            · have hf := ec_f (not_not_intro cnd) hf
              refine lv_aload_n hx hb dX3_wayOf_93 rfl (lv_at hl 2 rfl) ?_
              refine m_get (v := .ref (q 37)) X hM 37 (by decide) q1011 rfl rfl dX3_wayOf_94 ?_
              refine lv_iload hx hb dX3_wayOf_97 (lv_at hl 0 rfl) ?_
              obtain ⟨v_6, h, hf⟩ := ec_bi hf
              refine m_iald X hM wma37 h dX3_wayOf_99 ?_
              refine lv_iload hx hb dX3_wayOf_100 (lv_at hl 8 rfl) ?_
              refine lv_ishr hx hb dX3_wayOf_102 ?_
              refine lv_iconst (v := 1) hx hb dX3_wayOf_103 (by decide) ?_
              refine lv_iand hx hb dX3_wayOf_104 ?_
              refine lv_iconst (v := 1) hx hb dX3_wayOf_105 (by decide) ?_
              refine lv_icmp_ne (tgt := 113) hx hb dX3_wayOf_106 rfl (fun cnd => ?_) (fun cnd => ?_)
              · have hf := ec_t cnd hf
                exact bX3_wayOf_113 X hr hlk hM ih x1 x2 x3 x4 x5_3 x7 x8_4 _ hf (lv_sub hl [2, 3, 4, 5, 6, 1, 8, 0] rfl)
              · have hf := ec_f (not_not_intro cnd) hf
                refine lv_iconst (v := 1) hx hb dX3_wayOf_109 (by decide) ?_
                refine lv_goto (tgt := 114) hx hb dX3_wayOf_110 rfl ?_
                exact bX3_wayOf_114 X hr hlk hM ih x1 x2 x3 x4 x5_3 x7 x8_4 (1 : Int32) _ hf (lv_sub hl [2, 3, 4, 5, 6, 1, 8, 0] rfl)
noncomputable def fX3_wayOf_18 (N : Nat) (S : sM) (kx136 : Int32 → Option Int32) (kx144 : Option Int32) : Nat → Int32 → Int32 → Int32 → Option Int32
  | 0, _, _, _ => none
  | n + 1, x1, x2, x3 =>
    if ((1 : Int32) <<< (((2 : Int32) * x2) &&& 31)) ≤ x3 then (
      kx144)
    else (
      fX3_wayOf_39 N S (fun x1_7 x2_8 x3_9 x6_10 =>
        if x6_10 = 0 then (
          ec_lt (x3_9 + (1 : Int32)) fun x3_11 =>
          (fX3_wayOf_18 N S kx136 kx144 n) x1_7 x2_8 x3_11)
        else (
          kx136 x3_9)) N x1 x2 x3 (0 : Int32) x2 (1 : Int32) (0 : Int32))
theorem bX3_wayOf_18 {N : Nat} (X : CallFix p m c cX3_wayOf 9 s args lw_all RX3) (hr : meth.sig.returnType = (some .int)) (hlk : meth.locks = false) {S : sM} (hM : MW D o q d dz S s s.heap []) {res : Int32} {kx136 : Int32 → Option Int32} {kx144 : Option Int32} (Hkx136 : ∀ (x3 : Int32) (ls : Array Slot), kx136 x3 = some res → lv_has ls 9 [(0, .ref o), (3, .int x3)] → W p l e (rmL 1) s m args below meth c s.heap [] 0 0 (MQ below (k2_QcV (.int res)) args s 0 0 (fun _ => False)) (F0 m 136 ls [])) (Hkx144 : ∀ (ls : Array Slot), kx144 = some res → lv_has ls 9 [(0, .ref o)] → W p l e (rmL 1) s m args below meth c s.heap [] 0 0 (MQ below (k2_QcV (.int res)) args s 0 0 (fun _ => False)) (F0 m 144 ls [])) : ∀ (n : Nat) (x1 : Int32) (x2 : Int32) (x3 : Int32) (ls : Array Slot), fX3_wayOf_18 N S kx136 kx144 n x1 x2 x3 = some res → lv_has ls 9 [(0, .ref o), (1, .int x1), (2, .int x2), (3, .int x3)] → W p l e (rmL 1) s m args below meth c s.heap [] 0 0 (MQ below (k2_QcV (.int res)) args s 0 0 (fun _ => False)) (F0 m 18 ls []) := by
  have hx := X.1
  have hb := X.2.1
  intro n
  induction n with
  | zero =>
    intro x1 x2 x3 ls hf hl
    rw [fX3_wayOf_18] at hf
    cases hf
  | succ n ih =>
    intro x1 x2 x3 ls hf hl
    rw [fX3_wayOf_18] at hf
    refine lv_iload_n hx hb dX3_wayOf_18 rfl (lv_at hl 3 rfl) ?_
    refine lv_iconst (v := 1) hx hb dX3_wayOf_19 (by decide) ?_
    refine lv_iconst (v := 2) hx hb dX3_wayOf_20 (by decide) ?_
    refine lv_iload_n hx hb dX3_wayOf_21 rfl (lv_at hl 2 rfl) ?_
    refine lv_imul hx hb dX3_wayOf_22 ?_
    refine lv_ishl hx hb dX3_wayOf_23 ?_
    refine lv_icmp_ge (tgt := 144) hx hb dX3_wayOf_24 rfl (fun cnd => ?_) (fun cnd => ?_)
    · have hf := ec_t cnd hf
      exact Hkx144 _ hf (lv_sub hl [0] rfl)
    · have hf := ec_f cnd hf
      refine lv_iconst (v := 0) hx hb dX3_wayOf_27 (by decide) ?_
      refine lv_istore (lv' := [(4, .int (0 : Int32)), (0, .ref o), (1, .int x1), (2, .int x2), (3, .int x3)]) hx hb dX3_wayOf_28 hl (by decide) rfl (fun ls hl => ?_)
      refine lv_iload_n hx hb dX3_wayOf_30 rfl (lv_at hl 3 rfl) ?_
      refine lv_istore (lv' := [(5, .int x2), (4, .int (0 : Int32)), (0, .ref o), (1, .int x1), (2, .int x2), (3, .int x3)]) hx hb dX3_wayOf_31 hl (by decide) rfl (fun ls hl => ?_)
      refine lv_iconst (v := 1) hx hb dX3_wayOf_33 (by decide) ?_
      refine lv_istore (lv' := [(6, .int (1 : Int32)), (5, .int x2), (4, .int (0 : Int32)), (0, .ref o), (1, .int x1), (2, .int x2), (3, .int x3)]) hx hb dX3_wayOf_34 hl (by decide) rfl (fun ls hl => ?_)
      refine lv_iconst (v := 0) hx hb dX3_wayOf_36 (by decide) ?_
      refine lv_istore (lv' := [(7, .int (0 : Int32)), (6, .int (1 : Int32)), (5, .int x2), (4, .int (0 : Int32)), (0, .ref o), (1, .int x1), (2, .int x2), (3, .int x3)]) hx hb dX3_wayOf_37 hl (by decide) rfl (fun ls hl => ?_)
      exact bX3_wayOf_39 X hr hlk hM (fun x1_7 x2_8 x3_9 x6_10 ls hf hl => by
        refine lv_iload hx hb dX3_wayOf_131 (lv_at hl 4 rfl) ?_
        refine lv_if_eq (tgt := 138) hx hb dX3_wayOf_133 rfl (fun cnd => ?_) (fun cnd => ?_)
        · have hf := ec_t cnd hf
          refine e_inc (w := 1) (f := fun v => [(3, .int v), (0, .ref o), (1, .int x1_7), (2, .int x2_8), (6, .int x6_10)]) hx hb dX3_wayOf_138 hl (k := 3) rfl (by decide) (by decide) (fun _ => rfl) (fun x3_11 ex ls hl => ?_)
          have hf := ec_lt_i ex hf
          refine lv_goto (tgt := 18) hx hb dX3_wayOf_141 rfl ?_
          exact ih x1_7 x2_8 x3_11 _ hf (lv_sub hl [1, 2, 3, 0] rfl)
        · have hf := ec_f cnd hf
          exact Hkx136 x3_9 _ hf (lv_sub hl [0, 3] rfl)) N x1 x2 x3 (0 : Int32) x2 (1 : Int32) (0 : Int32) _ hf (lv_sub hl [4, 5, 6, 7, 3, 2, 1, 0] rfl)
noncomputable def fX3_wayOf (N : Nat) (S : sM) (x1 : Int32) : Option Int32 :=
  (fX3_countOf N x1).bind fun v_1 =>
  if v_1 ≤ (S.1 36) then (
    fX3_wayOf_18 N S (fun x3_12 =>
      some x3_12) (some (-4 : Int32)) N x1 v_1 (0 : Int32))
  else (
    some (-4 : Int32))
theorem metX3_wayOf (l : Launch) (D : va_G) (o : Nat) (q : Nat → Nat) (d dz : ClassId) (N : Nat) (S : sM) (x1 : Int32) (res : Int32) (hf : fX3_wayOf N S x1 = some res) : Met l yX3_wayOf (ws_ yX3_wayOf cX3_wayOf 9 (some .int)) (rmL 1) (MPre D o q d dz S [.int x1]) (k2_QcV (.int res)) 0 0 (fun _ => False) := by
  refine m_ofR rfl (Nat.le_of_ble_eq_true rfl) (fun p e s m args below meth c X hr hlk hM ls hl => ?_)
  have hl : lv_has ls 9 [(0, .ref o), (1, .int x1)] := hl
  have hx := X.1
  have hb := X.2.1
  unfold fX3_wayOf at hf
  refine lv_iload_n hx hb dX3_wayOf_0 rfl (lv_at hl 1 rfl) ?_
  obtain ⟨v_1, h, hf⟩ := ec_bi hf
  refine e_cS (v := .int v_1) (As := [.int x1]) (rest := []) X (metX3_countOf l N x1 _ h) (va_cwS 1 X.2.2.2.2 gX3_273 rfl rfl rfl hX3_countOf ⟨Nat.le_of_ble_eq_true rfl, Nat.le_of_ble_eq_true rfl⟩) rfl hl.1 rfl (Nat.le_of_ble_eq_true rfl) ⟨Nat.zero_le _, Nat.zero_le _⟩ dX3_wayOf_1 ?_
  refine lv_istore_n (lv' := [(2, .int v_1), (0, .ref o), (1, .int x1)]) hx hb dX3_wayOf_4 rfl hl (by decide) rfl (fun ls hl => ?_)
  refine lv_iload_n hx hb dX3_wayOf_5 rfl (lv_at hl 0 rfl) ?_
  refine lv_aload_n hx hb dX3_wayOf_6 rfl (lv_at hl 1 rfl) ?_
  refine m_get (v := .int (S.1 36)) X hM 36 (by decide) q1010 rfl rfl dX3_wayOf_7 ?_
  refine lv_icmp_le (tgt := 16) hx hb dX3_wayOf_10 rfl (fun cnd => ?_) (fun cnd => ?_)
  · have hf := ec_t cnd hf
    refine lv_iconst (v := 0) hx hb dX3_wayOf_16 (by decide) ?_
    refine lv_istore_n (lv' := [(3, .int (0 : Int32)), (2, .int v_1), (0, .ref o), (1, .int x1)]) hx hb dX3_wayOf_17 rfl hl (by decide) rfl (fun ls hl => ?_)
    exact bX3_wayOf_18 X hr hlk hM (fun x3_12 ls hf hl => by
      refine lv_iload_n hx hb dX3_wayOf_136 rfl (lv_at hl 1 rfl) ?_
      obtain rfl := Option.some.inj hf
      exact e_iretR hx hb hr hlk dX3_wayOf_137) (fun ls hf hl => by
      refine lv_bipush (v := -4) hx hb dX3_wayOf_144 (by decide) ?_
      obtain rfl := Option.some.inj hf
      exact e_iretR hx hb hr hlk dX3_wayOf_146) N x1 v_1 (0 : Int32) _ hf (lv_sub hl [2, 3, 1, 0] rfl)
  · have hf := ec_f cnd hf
    refine lv_bipush (v := -4) hx hb dX3_wayOf_13 (by decide) ?_
    obtain rfl := Option.some.inj hf
    exact e_iretR hx hb hr hlk dX3_wayOf_15
theorem hX3_wayOf : yX3_wayOf.cls = RX3 ∧ yX3_wayOf.cls ≠ "java/lang/invoke/MethodHandle" ∧ yX3_wayOf.cls ≠ "java/lang/invoke/VarHandle" ∧ (parseMethodDescriptor yX3_wayOf.desc).map (fun d => d.parameters.length) = some 1 := by decide +kernel

theorem gX3_286 : GoodIn lw_all (va_wsS RX3 286 yX3_areEvents (ws_ yX3_areEvents cX3_areEvents 1 (some .boolean))) := lw_S q1327 q1328 q63 q1329
theorem gX3_289 : GoodIn lw_all (wsV RX3 289 RX3 yX3_wayOf (ws_ yX3_wayOf cX3_wayOf 9 (some .int))) := lw_V q1330 q1332 qs49 q63 q1333
noncomputable def fX3_together (N : Nat) (S : sM) (x1 : Int32) : Option Int32 :=
  (fX3_areEvents x1).bind fun v_1 =>
  if ¬ v_1 = 0 then (
    (fX3_wayOf N S x1).bind fun v_2 =>
    if ¬ v_2 = (-4 : Int32) then (
      some (1 : Int32))
    else (
      some (0 : Int32)))
  else (
    some (-1 : Int32))
theorem metX3_together (l : Launch) (D : va_G) (o : Nat) (q : Nat → Nat) (d dz : ClassId) (N : Nat) (S : sM) (x1 : Int32) (res : Int32) (hf : fX3_together N S x1 = some res) : Met l yX3_together (ws_ yX3_together cX3_together 2 (some .int)) (rmL 2) (MPre D o q d dz S [.int x1]) (k2_QcV (.int res)) 0 0 (fun _ => False) := by
  refine m_ofR rfl (Nat.le_of_ble_eq_true rfl) (fun p e s m args below meth c X hr hlk hM ls hl => ?_)
  have hl : lv_has ls 2 [(0, .ref o), (1, .int x1)] := hl
  have hx := X.1
  have hb := X.2.1
  unfold fX3_together at hf
  refine lv_iload_n hx hb dX3_together_0 rfl (lv_at hl 1 rfl) ?_
  obtain ⟨v_1, h, hf⟩ := ec_bi hf
  refine e_cS (v := .int v_1) (As := [.int x1]) (rest := []) X (metX3_areEvents l x1 _ h) (va_cwS 1 X.2.2.2.2 gX3_286 rfl rfl rfl hX3_areEvents ⟨Nat.le_of_ble_eq_true rfl, Nat.le_of_ble_eq_true rfl⟩) rfl hl.1 rfl (Nat.le_of_ble_eq_true rfl) ⟨Nat.zero_le _, Nat.zero_le _⟩ dX3_together_1 ?_
  refine lv_if_ne (tgt := 11) hx hb dX3_together_4 rfl (fun cnd => ?_) (fun cnd => ?_)
  · have hf := ec_t cnd hf
    refine lv_aload_n hx hb dX3_together_11 rfl (lv_at hl 0 rfl) ?_
    refine lv_iload_n hx hb dX3_together_12 rfl (lv_at hl 1 rfl) ?_
    obtain ⟨v_2, h, hf⟩ := ec_bi hf
    refine m_cR (v := .int v_2) (As := [.int x1]) (rest := []) X hM (metX3_wayOf l D o q d dz N S x1 _ h) (cwV 1 X.2.2.2.2 gX3_289 rfl rfl rfl hX3_wayOf ⟨Nat.le_of_ble_eq_true rfl, Nat.le_of_ble_eq_true rfl⟩) rfl hl.1 rfl (Nat.le_of_ble_eq_true rfl) ⟨Nat.zero_le _, Nat.zero_le _⟩ dX3_together_13 ?_
    refine lv_bipush (v := -4) hx hb dX3_together_16 (by decide) ?_
    refine lv_icmp_ne (tgt := 25) hx hb dX3_together_18 rfl (fun cnd => ?_) (fun cnd => ?_)
    · have hf := ec_t cnd hf
      refine lv_iconst (v := 1) hx hb dX3_together_25 (by decide) ?_
      obtain rfl := Option.some.inj hf
      exact e_iretR hx hb hr hlk dX3_together_26
    · have hf := ec_f (not_not_intro cnd) hf
      refine lv_iconst (v := 0) hx hb dX3_together_21 (by decide) ?_
      refine lv_goto (tgt := 26) hx hb dX3_together_22 rfl ?_
      obtain rfl := Option.some.inj hf
      exact e_iretR hx hb hr hlk dX3_together_26
  · have hf := ec_f (not_not_intro cnd) hf
    refine lv_iconst (v := -1) hx hb dX3_together_7 (by decide) ?_
    refine lv_goto (tgt := 26) hx hb dX3_together_8 rfl ?_
    obtain rfl := Option.some.inj hf
    exact e_iretR hx hb hr hlk dX3_together_26
theorem hX3_together : yX3_together.cls = RX3 ∧ yX3_together.cls ≠ "java/lang/invoke/MethodHandle" ∧ yX3_together.cls ≠ "java/lang/invoke/VarHandle" ∧ (parseMethodDescriptor yX3_together.desc).map (fun d => d.parameters.length) = some 1 := by decide +kernel

noncomputable def fX3_goes_22 (N : Nat) (S : sM) : Option Int32 :=
  some (-1 : Int32)
theorem bX3_goes_22 {N : Nat} (X : CallFix p m c cX3_goes 4 s args lw_all RX3) (hr : meth.sig.returnType = (some .int)) (hlk : meth.locks = false) {S : sM} (hM : MW D o q d dz S s s.heap []) {res : Int32} : ∀ (ls : Array Slot), fX3_goes_22 N S = some res → lv_has ls 4 [(0, .ref o)] → W p l e (rmL 2) s m args below meth c s.heap [] 0 0 (MQ below (k2_QcV (.int res)) args s 0 0 (fun _ => False)) (F0 m 22 ls []) := by
  have hx := X.1
  have hb := X.2.1
  intro ls hf hl
  unfold fX3_goes_22 at hf
  refine lv_iconst (v := -1) hx hb dX3_goes_22 (by decide) ?_
  obtain rfl := Option.some.inj hf
  exact e_iretR hx hb hr hlk dX3_goes_23
noncomputable def fX3_goes (N : Nat) (S : sM) (x1 : Int32) (x2 : Int32) : Option Int32 :=
  (fX3_areEvents x1).bind fun v_1 =>
  if v_1 = 0 then (
    fX3_goes_22 N S)
  else (
    (fX3_isEvent x2).bind fun v_2 =>
    if v_2 = 0 then (
      fX3_goes_22 N S)
    else (
      if ¬ ((x1 >>> (x2 &&& 31)) &&& (1 : Int32)) = 0 then (
        (fX3_wayOf N S x1).bind fun v_3 =>
        if ¬ v_3 = (-4 : Int32) then (
          (fX3_countOf N (x1 >>> ((x2 + (1 : Int32)) &&& 31))).bind fun v_4 =>
          some ((v_3 >>> (((2 : Int32) * v_4) &&& 31)) &&& (3 : Int32)))
        else (
          some (-4 : Int32)))
      else (
        fX3_goes_22 N S)))
theorem metX3_goes (l : Launch) (D : va_G) (o : Nat) (q : Nat → Nat) (d dz : ClassId) (N : Nat) (S : sM) (x1 : Int32) (x2 : Int32) (res : Int32) (hf : fX3_goes N S x1 x2 = some res) : Met l yX3_goes (ws_ yX3_goes cX3_goes 4 (some .int)) (rmL 2) (MPre D o q d dz S [.int x1, .int x2]) (k2_QcV (.int res)) 0 0 (fun _ => False) := by
  refine m_ofR rfl (Nat.le_of_ble_eq_true rfl) (fun p e s m args below meth c X hr hlk hM ls hl => ?_)
  have hl : lv_has ls 4 [(0, .ref o), (1, .int x1), (2, .int x2)] := hl
  have hx := X.1
  have hb := X.2.1
  unfold fX3_goes at hf
  refine lv_iload_n hx hb dX3_goes_0 rfl (lv_at hl 1 rfl) ?_
  obtain ⟨v_1, h, hf⟩ := ec_bi hf
  refine e_cS (v := .int v_1) (As := [.int x1]) (rest := []) X (metX3_areEvents l x1 _ h) (va_cwS 1 X.2.2.2.2 gX3_286 rfl rfl rfl hX3_areEvents ⟨Nat.le_of_ble_eq_true rfl, Nat.le_of_ble_eq_true rfl⟩) rfl hl.1 rfl (Nat.le_of_ble_eq_true rfl) ⟨Nat.zero_le _, Nat.zero_le _⟩ dX3_goes_1 ?_
  refine lv_if_eq (tgt := 22) hx hb dX3_goes_4 rfl (fun cnd => ?_) (fun cnd => ?_)
  · have hf := ec_t cnd hf
    exact bX3_goes_22 X hr hlk hM _ hf (lv_sub hl [0] rfl)
  · have hf := ec_f cnd hf
    refine lv_iload_n hx hb dX3_goes_7 rfl (lv_at hl 2 rfl) ?_
    obtain ⟨v_2, h, hf⟩ := ec_bi hf
    refine e_cS (v := .int v_2) (As := [.int x2]) (rest := []) X (metX3_isEvent l x2 _ h) (va_cwS 1 X.2.2.2.2 gX3_260 rfl rfl rfl hX3_isEvent ⟨Nat.le_of_ble_eq_true rfl, Nat.le_of_ble_eq_true rfl⟩) rfl hl.1 rfl (Nat.le_of_ble_eq_true rfl) ⟨Nat.zero_le _, Nat.zero_le _⟩ dX3_goes_8 ?_
    refine lv_if_eq (tgt := 22) hx hb dX3_goes_11 rfl (fun cnd => ?_) (fun cnd => ?_)
    · have hf := ec_t cnd hf
      exact bX3_goes_22 X hr hlk hM _ hf (lv_sub hl [0] rfl)
    · have hf := ec_f cnd hf
      refine lv_iload_n hx hb dX3_goes_14 rfl (lv_at hl 1 rfl) ?_
      refine lv_iload_n hx hb dX3_goes_15 rfl (lv_at hl 2 rfl) ?_
      refine lv_ishr hx hb dX3_goes_16 ?_
      refine lv_iconst (v := 1) hx hb dX3_goes_17 (by decide) ?_
      refine lv_iand hx hb dX3_goes_18 ?_
      refine lv_if_ne (tgt := 24) hx hb dX3_goes_19 rfl (fun cnd => ?_) (fun cnd => ?_)
      · have hf := ec_t cnd hf
        refine lv_aload_n hx hb dX3_goes_24 rfl (lv_at hl 0 rfl) ?_
        refine lv_iload_n hx hb dX3_goes_25 rfl (lv_at hl 1 rfl) ?_
        obtain ⟨v_3, h, hf⟩ := ec_bi hf
        refine m_cR (v := .int v_3) (As := [.int x1]) (rest := []) X hM (metX3_wayOf l D o q d dz N S x1 _ h) (cwV 1 X.2.2.2.2 gX3_289 rfl rfl rfl hX3_wayOf ⟨Nat.le_of_ble_eq_true rfl, Nat.le_of_ble_eq_true rfl⟩) rfl hl.1 rfl (Nat.le_of_ble_eq_true rfl) ⟨Nat.zero_le _, Nat.zero_le _⟩ dX3_goes_26 ?_
        refine lv_istore_n (lv' := [(3, .int v_3), (0, .ref o), (1, .int x1), (2, .int x2)]) hx hb dX3_goes_29 rfl hl (by decide) rfl (fun ls hl => ?_)
        refine lv_iload_n hx hb dX3_goes_30 rfl (lv_at hl 0 rfl) ?_
        refine lv_bipush (v := -4) hx hb dX3_goes_31 (by decide) ?_
        refine lv_icmp_ne (tgt := 41) hx hb dX3_goes_33 rfl (fun cnd => ?_) (fun cnd => ?_)
        · have hf := ec_t cnd hf
          refine lv_iload_n hx hb dX3_goes_41 rfl (lv_at hl 0 rfl) ?_
          refine lv_iconst (v := 2) hx hb dX3_goes_42 (by decide) ?_
          refine lv_iload_n hx hb dX3_goes_43 rfl (lv_at hl 2 rfl) ?_
          refine lv_iload_n hx hb dX3_goes_44 rfl (lv_at hl 3 rfl) ?_
          refine lv_iconst (v := 1) hx hb dX3_goes_45 (by decide) ?_
          refine lv_iadd hx hb dX3_goes_46 ?_
          refine lv_ishr hx hb dX3_goes_47 ?_
          obtain ⟨v_4, h, hf⟩ := ec_bi hf
          refine e_cS (v := .int v_4) (As := [.int (x1 >>> ((x2 + (1 : Int32)) &&& 31))]) (rest := [.int (2 : Int32), .int v_3]) X (metX3_countOf l N (x1 >>> ((x2 + (1 : Int32)) &&& 31)) _ h) (va_cwS 1 X.2.2.2.2 gX3_273 rfl rfl rfl hX3_countOf ⟨Nat.le_of_ble_eq_true rfl, Nat.le_of_ble_eq_true rfl⟩) rfl hl.1 rfl (Nat.le_of_ble_eq_true rfl) ⟨Nat.zero_le _, Nat.zero_le _⟩ dX3_goes_48 ?_
          refine lv_imul hx hb dX3_goes_51 ?_
          refine lv_ishr hx hb dX3_goes_52 ?_
          refine lv_iconst (v := 3) hx hb dX3_goes_53 (by decide) ?_
          refine lv_iand hx hb dX3_goes_54 ?_
          obtain rfl := Option.some.inj hf
          exact e_iretR hx hb hr hlk dX3_goes_55
        · have hf := ec_f (not_not_intro cnd) hf
          refine lv_bipush (v := -4) hx hb dX3_goes_36 (by decide) ?_
          refine lv_goto (tgt := 55) hx hb dX3_goes_38 rfl ?_
          obtain rfl := Option.some.inj hf
          exact e_iretR hx hb hr hlk dX3_goes_55
      · have hf := ec_f (not_not_intro cnd) hf
        exact bX3_goes_22 X hr hlk hM _ hf (lv_sub hl [0] rfl)
theorem hX3_goes : yX3_goes.cls = RX3 ∧ yX3_goes.cls ≠ "java/lang/invoke/MethodHandle" ∧ yX3_goes.cls ≠ "java/lang/invoke/VarHandle" ∧ (parseMethodDescriptor yX3_goes.desc).map (fun d => d.parameters.length) = some 2 := by decide +kernel

noncomputable def fX3_findRounds_29 (N : Nat) (k2 : sM → Int32 → Int32 → Option sM) (S : sM) (x1 : Int32) (x2 : Int32) (t0 : Int32) (t1 : Int32) : Option sM :=
  (ec_as S 40 256 t1 (vp_nar .boolean t0)).bind fun S_2 =>
  ec_lt (x2 + (1 : Int32)) fun x2_3 =>
  k2 S_2 x1 x2_3
theorem bX3_findRounds_29 {N : Nat} (X : CallFix p m c cX3_findRounds 6 s args lw_all RX3) (hr : meth.sig.returnType = none) (hlk : meth.locks = false) (hG : MG o q) {Sr : sM} {k2 : sM → Int32 → Int32 → Option sM} (Hk2 : ∀ (S : sM) (x1 : Int32) (x2 : Int32) (H : Heap) (locs : List Loc) (ls : Array Slot), k2 S x1 x2 = some Sr → MW D o q d dz S s H locs → lv_has ls 6 [(0, .ref o), (1, .int x1), (2, .int x2)] → W p l e (rmL 2) s m args below meth c H locs 0 0 (MQ below (MPost D o q d dz none Sr) args s 0 0 (AM o q)) (F0 m 2 ls [])) : ∀ (S : sM) (x1 : Int32) (x2 : Int32) (t0 : Int32) (t1 : Int32) (H : Heap) (locs : List Loc) (ls : Array Slot), fX3_findRounds_29 N k2 S x1 x2 t0 t1 = some Sr → MW D o q d dz S s H locs → lv_has ls 6 [(0, .ref o), (1, .int x1), (2, .int x2)] → W p l e (rmL 2) s m args below meth c H locs 0 0 (MQ below (MPost D o q d dz none Sr) args s 0 0 (AM o q)) (F0 m 29 ls [.int t0, .int t1, .ref (q 40)]) := by
  have hx := X.1
  have hb := X.2.1
  intro S x1 x2 t0 t1 H locs ls hf hM hl
  unfold fX3_findRounds_29 at hf
  obtain ⟨S_2, h, hf⟩ := ec_bi hf
  refine m_zast X hG hM wma40 wms40 h dX3_findRounds_29 (fun H locs hM => ?_)
  refine e_inc (w := 1) (f := fun v => [(2, .int v), (0, .ref o), (1, .int x1)]) hx hb dX3_findRounds_30 hl (k := 2) rfl (by decide) (by decide) (fun _ => rfl) (fun x2_3 ex ls hl => ?_)
  have hf := ec_lt_i ex hf
  refine lv_goto (tgt := 2) hx hb dX3_findRounds_33 rfl ?_
  exact Hk2 S_2 x1 x2_3 _ _ _ hf hM (lv_sub hl [1, 2, 0] rfl)
noncomputable def fX3_findRounds_2 (N : Nat) (kx36 : sM → Int32 → Option sM) : Nat → sM → Int32 → Int32 → Option sM
  | 0, _, _, _ => none
  | n + 1, S, x1, x2 =>
    if (256 : Int32) ≤ x2 then (
      kx36 S x1)
    else (
      (fX3_wayOf N S x2).bind fun v_1 =>
      if v_1 = (-4 : Int32) then (
        fX3_findRounds_29 N (fX3_findRounds_2 N kx36 n) S x1 x2 (0 : Int32) x2)
      else (
        fX3_findRounds_29 N (fX3_findRounds_2 N kx36 n) S x1 x2 (1 : Int32) x2))
theorem bX3_findRounds_2 {N : Nat} (X : CallFix p m c cX3_findRounds 6 s args lw_all RX3) (hr : meth.sig.returnType = none) (hlk : meth.locks = false) (hG : MG o q) {Sr : sM} {kx36 : sM → Int32 → Option sM} (Hkx36 : ∀ (S : sM) (x1 : Int32) (H : Heap) (locs : List Loc) (ls : Array Slot), kx36 S x1 = some Sr → MW D o q d dz S s H locs → lv_has ls 6 [(0, .ref o), (1, .int x1)] → W p l e (rmL 2) s m args below meth c H locs 0 0 (MQ below (MPost D o q d dz none Sr) args s 0 0 (AM o q)) (F0 m 36 ls [])) : ∀ (n : Nat) (S : sM) (x1 : Int32) (x2 : Int32) (H : Heap) (locs : List Loc) (ls : Array Slot), fX3_findRounds_2 N kx36 n S x1 x2 = some Sr → MW D o q d dz S s H locs → lv_has ls 6 [(0, .ref o), (1, .int x1), (2, .int x2)] → W p l e (rmL 2) s m args below meth c H locs 0 0 (MQ below (MPost D o q d dz none Sr) args s 0 0 (AM o q)) (F0 m 2 ls []) := by
  have hx := X.1
  have hb := X.2.1
  intro n
  induction n with
  | zero =>
    intro S x1 x2 H locs ls hf hM hl
    rw [fX3_findRounds_2] at hf
    cases hf
  | succ n ih =>
    intro S x1 x2 H locs ls hf hM hl
    rw [fX3_findRounds_2] at hf
    refine lv_iload_n hx hb dX3_findRounds_2 rfl (lv_at hl 2 rfl) ?_
    refine lv_sipush (v := 256) hx hb dX3_findRounds_3 (by decide) ?_
    refine lv_icmp_ge (tgt := 36) hx hb dX3_findRounds_6 rfl (fun cnd => ?_) (fun cnd => ?_)
    · have hf := ec_t cnd hf
      exact Hkx36 S x1 _ _ _ hf hM (lv_sub hl [0, 1] rfl)
    · have hf := ec_f cnd hf
      refine lv_aload_n hx hb dX3_findRounds_9 rfl (lv_at hl 0 rfl) ?_
      refine m_get (v := .ref (q 40)) X hM 40 (by decide) q1014 rfl rfl dX3_findRounds_10 ?_
      refine lv_iload_n hx hb dX3_findRounds_13 rfl (lv_at hl 2 rfl) ?_
      refine lv_aload_n hx hb dX3_findRounds_14 rfl (lv_at hl 0 rfl) ?_
      refine lv_iload_n hx hb dX3_findRounds_15 rfl (lv_at hl 2 rfl) ?_
      obtain ⟨v_1, h, hf⟩ := ec_bi hf
      refine m_cR (v := .int v_1) (As := [.int x2]) (rest := [.int x2, .ref (q 40)]) X hM (metX3_wayOf l D o q d dz N S x2 _ h) (cwV 1 X.2.2.2.2 gX3_289 rfl rfl rfl hX3_wayOf ⟨Nat.le_of_ble_eq_true rfl, Nat.le_of_ble_eq_true rfl⟩) rfl hl.1 rfl (Nat.le_of_ble_eq_true rfl) ⟨Nat.zero_le _, Nat.zero_le _⟩ dX3_findRounds_16 ?_
      refine lv_bipush (v := -4) hx hb dX3_findRounds_19 (by decide) ?_
      refine lv_icmp_eq (tgt := 28) hx hb dX3_findRounds_21 rfl (fun cnd => ?_) (fun cnd => ?_)
      · have hf := ec_t cnd hf
        refine lv_iconst (v := 0) hx hb dX3_findRounds_28 (by decide) ?_
        exact bX3_findRounds_29 X hr hlk hG ih S x1 x2 (0 : Int32) x2 _ _ _ hf hM hl
      · have hf := ec_f cnd hf
        refine lv_iconst (v := 1) hx hb dX3_findRounds_24 (by decide) ?_
        refine lv_goto (tgt := 29) hx hb dX3_findRounds_25 rfl ?_
        exact bX3_findRounds_29 X hr hlk hG ih S x1 x2 (1 : Int32) x2 _ _ _ hf hM hl
noncomputable def fX3_findRounds_161 (N : Nat) (k68 : sM → Int32 → Int32 → Int32 → Int32 → Option sM) (S : sM) (x1 : Int32) (x2 : Int32) (x3 : Int32) (x4 : Int32) (t0 : Int32) (t1 : Int32) : Option sM :=
  (ec_as S 39 256 t1 t0).bind fun S_10 =>
  ec_lt (x4 + (1 : Int32)) fun x4_11 =>
  k68 S_10 x1 x2 x3 x4_11
theorem bX3_findRounds_161 {N : Nat} (X : CallFix p m c cX3_findRounds 6 s args lw_all RX3) (hr : meth.sig.returnType = none) (hlk : meth.locks = false) (hG : MG o q) {Sr : sM} {k68 : sM → Int32 → Int32 → Int32 → Int32 → Option sM} (Hk68 : ∀ (S : sM) (x1 : Int32) (x2 : Int32) (x3 : Int32) (x4 : Int32) (H : Heap) (locs : List Loc) (ls : Array Slot), k68 S x1 x2 x3 x4 = some Sr → MW D o q d dz S s H locs → lv_has ls 6 [(0, .ref o), (1, .int x1), (2, .int x2), (3, .int x3), (4, .int x4)] → W p l e (rmL 2) s m args below meth c H locs 0 0 (MQ below (MPost D o q d dz none Sr) args s 0 0 (AM o q)) (F0 m 68 ls [])) : ∀ (S : sM) (x1 : Int32) (x2 : Int32) (x3 : Int32) (x4 : Int32) (t0 : Int32) (t1 : Int32) (H : Heap) (locs : List Loc) (ls : Array Slot), fX3_findRounds_161 N k68 S x1 x2 x3 x4 t0 t1 = some Sr → MW D o q d dz S s H locs → lv_has ls 6 [(0, .ref o), (1, .int x1), (2, .int x2), (3, .int x3), (4, .int x4)] → W p l e (rmL 2) s m args below meth c H locs 0 0 (MQ below (MPost D o q d dz none Sr) args s 0 0 (AM o q)) (F0 m 161 ls [.int t0, .int t1, .ref (q 39)]) := by
  have hx := X.1
  have hb := X.2.1
  intro S x1 x2 x3 x4 t0 t1 H locs ls hf hM hl
  unfold fX3_findRounds_161 at hf
  obtain ⟨S_10, h, hf⟩ := ec_bi hf
  refine m_iast X hG hM wma39 wms39 h dX3_findRounds_161 (fun H locs hM => ?_)
  refine e_inc (w := 1) (f := fun v => [(4, .int v), (0, .ref o), (1, .int x1), (2, .int x2), (3, .int x3)]) hx hb dX3_findRounds_162 hl (k := 4) rfl (by decide) (by decide) (fun _ => rfl) (fun x4_11 ex ls hl => ?_)
  have hf := ec_lt_i ex hf
  refine lv_goto (tgt := 68) hx hb dX3_findRounds_165 rfl ?_
  exact Hk68 S_10 x1 x2 x3 x4_11 _ _ _ hf hM (lv_sub hl [1, 2, 3, 4, 0] rfl)
noncomputable def fX3_findRounds_155 (N : Nat) (k68 : sM → Int32 → Int32 → Int32 → Int32 → Option sM) (S : sM) (x1 : Int32) (x2 : Int32) (x3 : Int32) (x4 : Int32) (t0 : Int32) : Option sM :=
  (ec_ag (S.2.2 39) 256 x2).bind fun v_9 =>
  fX3_findRounds_161 N k68 S x1 x2 x3 x4 v_9 t0
theorem bX3_findRounds_155 {N : Nat} (X : CallFix p m c cX3_findRounds 6 s args lw_all RX3) (hr : meth.sig.returnType = none) (hlk : meth.locks = false) (hG : MG o q) {Sr : sM} {k68 : sM → Int32 → Int32 → Int32 → Int32 → Option sM} (Hk68 : ∀ (S : sM) (x1 : Int32) (x2 : Int32) (x3 : Int32) (x4 : Int32) (H : Heap) (locs : List Loc) (ls : Array Slot), k68 S x1 x2 x3 x4 = some Sr → MW D o q d dz S s H locs → lv_has ls 6 [(0, .ref o), (1, .int x1), (2, .int x2), (3, .int x3), (4, .int x4)] → W p l e (rmL 2) s m args below meth c H locs 0 0 (MQ below (MPost D o q d dz none Sr) args s 0 0 (AM o q)) (F0 m 68 ls [])) : ∀ (S : sM) (x1 : Int32) (x2 : Int32) (x3 : Int32) (x4 : Int32) (t0 : Int32) (H : Heap) (locs : List Loc) (ls : Array Slot), fX3_findRounds_155 N k68 S x1 x2 x3 x4 t0 = some Sr → MW D o q d dz S s H locs → lv_has ls 6 [(0, .ref o), (1, .int x1), (2, .int x2), (3, .int x3), (4, .int x4)] → W p l e (rmL 2) s m args below meth c H locs 0 0 (MQ below (MPost D o q d dz none Sr) args s 0 0 (AM o q)) (F0 m 155 ls [.int t0, .ref (q 39)]) := by
  have hx := X.1
  have hb := X.2.1
  intro S x1 x2 x3 x4 t0 H locs ls hf hM hl
  unfold fX3_findRounds_155 at hf
  refine lv_aload_n hx hb dX3_findRounds_155 rfl (lv_at hl 0 rfl) ?_
  refine m_get (v := .ref (q 39)) X hM 39 (by decide) q1013 rfl rfl dX3_findRounds_156 ?_
  refine lv_iload_n hx hb dX3_findRounds_159 rfl (lv_at hl 2 rfl) ?_
  obtain ⟨v_9, h, hf⟩ := ec_bi hf
  refine m_iald X hM wma39 h dX3_findRounds_160 ?_
  exact bX3_findRounds_161 X hr hlk hG Hk68 S x1 x2 x3 x4 v_9 t0 _ _ _ hf hM hl
noncomputable def fX3_findRounds_105 (N : Nat) (k68 : sM → Int32 → Int32 → Int32 → Int32 → Option sM) (S : sM) (x1 : Int32) (x2 : Int32) (x3 : Int32) (x4 : Int32) (t0 : Int32) : Option sM :=
  if t0 = 0 then (
    fX3_findRounds_155 N k68 S x1 x2 x3 x4 x2)
  else (
    (ec_ag (S.2.2 39) 256 (x2 &&& (x4 ^^^ (-1 : Int32)))).bind fun v_12 =>
    (ec_ag (S.2.2 39) 256 x2).bind fun v_13 =>
    if v_13 ≤ (v_12 + (1 : Int32)) then (
      fX3_findRounds_155 N k68 S x1 x2 x3 x4 x2)
    else (
      (ec_ag (S.2.2 39) 256 (x2 &&& (x4 ^^^ (-1 : Int32)))).bind fun v_14 =>
      fX3_findRounds_161 N k68 S x1 x2 x3 x4 (v_14 + (1 : Int32)) x2))
theorem bX3_findRounds_105 {N : Nat} (X : CallFix p m c cX3_findRounds 6 s args lw_all RX3) (hr : meth.sig.returnType = none) (hlk : meth.locks = false) (hG : MG o q) {Sr : sM} {k68 : sM → Int32 → Int32 → Int32 → Int32 → Option sM} (Hk68 : ∀ (S : sM) (x1 : Int32) (x2 : Int32) (x3 : Int32) (x4 : Int32) (H : Heap) (locs : List Loc) (ls : Array Slot), k68 S x1 x2 x3 x4 = some Sr → MW D o q d dz S s H locs → lv_has ls 6 [(0, .ref o), (1, .int x1), (2, .int x2), (3, .int x3), (4, .int x4)] → W p l e (rmL 2) s m args below meth c H locs 0 0 (MQ below (MPost D o q d dz none Sr) args s 0 0 (AM o q)) (F0 m 68 ls [])) : ∀ (S : sM) (x1 : Int32) (x2 : Int32) (x3 : Int32) (x4 : Int32) (t0 : Int32) (H : Heap) (locs : List Loc) (ls : Array Slot), fX3_findRounds_105 N k68 S x1 x2 x3 x4 t0 = some Sr → MW D o q d dz S s H locs → lv_has ls 6 [(0, .ref o), (1, .int x1), (2, .int x2), (3, .int x3), (4, .int x4)] → W p l e (rmL 2) s m args below meth c H locs 0 0 (MQ below (MPost D o q d dz none Sr) args s 0 0 (AM o q)) (F0 m 105 ls [.int t0]) := by
  have hx := X.1
  have hb := X.2.1
  intro S x1 x2 x3 x4 t0 H locs ls hf hM hl
  unfold fX3_findRounds_105 at hf
  refine lv_istore (lv' := [(5, .int t0), (0, .ref o), (1, .int x1), (2, .int x2), (3, .int x3), (4, .int x4)]) hx hb dX3_findRounds_105 hl (by decide) rfl (fun ls hl => ?_)
  refine lv_aload_n hx hb dX3_findRounds_107 rfl (lv_at hl 1 rfl) ?_
  refine m_get (v := .ref (q 39)) X hM 39 (by decide) q1013 rfl rfl dX3_findRounds_108 ?_
  refine lv_iload_n hx hb dX3_findRounds_111 rfl (lv_at hl 3 rfl) ?_
  refine lv_iload hx hb dX3_findRounds_112 (lv_at hl 0 rfl) ?_
  refine lv_if_eq (tgt := 155) hx hb dX3_findRounds_114 rfl (fun cnd => ?_) (fun cnd => ?_)
  · have hf := ec_t cnd hf
    exact bX3_findRounds_155 X hr hlk hG Hk68 S x1 x2 x3 x4 x2 _ _ _ hf hM (lv_sub hl [1, 2, 3, 4, 5] rfl)
  · have hf := ec_f cnd hf
    refine lv_aload_n hx hb dX3_findRounds_117 rfl (lv_at hl 1 rfl) ?_
    refine m_get (v := .ref (q 39)) X hM 39 (by decide) q1013 rfl rfl dX3_findRounds_118 ?_
    refine lv_iload_n hx hb dX3_findRounds_121 rfl (lv_at hl 3 rfl) ?_
    refine lv_iload hx hb dX3_findRounds_122 (lv_at hl 5 rfl) ?_
    refine lv_iconst (v := -1) hx hb dX3_findRounds_124 (by decide) ?_
    refine lv_ixor hx hb dX3_findRounds_125 ?_
    refine lv_iand hx hb dX3_findRounds_126 ?_
    obtain ⟨v_12, h, hf⟩ := ec_bi hf
    refine m_iald X hM wma39 h dX3_findRounds_127 ?_
    refine lv_iconst (v := 1) hx hb dX3_findRounds_128 (by decide) ?_
    refine lv_iadd hx hb dX3_findRounds_129 ?_
    refine lv_aload_n hx hb dX3_findRounds_130 rfl (lv_at hl 1 rfl) ?_
    refine m_get (v := .ref (q 39)) X hM 39 (by decide) q1013 rfl rfl dX3_findRounds_131 ?_
    refine lv_iload_n hx hb dX3_findRounds_134 rfl (lv_at hl 3 rfl) ?_
    obtain ⟨v_13, h, hf⟩ := ec_bi hf
    refine m_iald X hM wma39 h dX3_findRounds_135 ?_
    refine lv_icmp_ge (tgt := 155) hx hb dX3_findRounds_136 rfl (fun cnd => ?_) (fun cnd => ?_)
    · have hf := ec_t cnd hf
      exact bX3_findRounds_155 X hr hlk hG Hk68 S x1 x2 x3 x4 x2 _ _ _ hf hM (lv_sub hl [1, 2, 3, 4, 5] rfl)
    · have hf := ec_f cnd hf
      refine lv_aload_n hx hb dX3_findRounds_139 rfl (lv_at hl 1 rfl) ?_
      refine m_get (v := .ref (q 39)) X hM 39 (by decide) q1013 rfl rfl dX3_findRounds_140 ?_
      refine lv_iload_n hx hb dX3_findRounds_143 rfl (lv_at hl 3 rfl) ?_
      refine lv_iload hx hb dX3_findRounds_144 (lv_at hl 5 rfl) ?_
      refine lv_iconst (v := -1) hx hb dX3_findRounds_146 (by decide) ?_
      refine lv_ixor hx hb dX3_findRounds_147 ?_
      refine lv_iand hx hb dX3_findRounds_148 ?_
      obtain ⟨v_14, h, hf⟩ := ec_bi hf
      refine m_iald X hM wma39 h dX3_findRounds_149 ?_
      refine lv_iconst (v := 1) hx hb dX3_findRounds_150 (by decide) ?_
      refine lv_iadd hx hb dX3_findRounds_151 ?_
      refine lv_goto (tgt := 161) hx hb dX3_findRounds_152 rfl ?_
      exact bX3_findRounds_161 X hr hlk hG Hk68 S x1 x2 x3 x4 (v_14 + (1 : Int32)) x2 _ _ _ hf hM (lv_sub hl [1, 2, 3, 4, 5] rfl)
noncomputable def fX3_findRounds_104 (N : Nat) (k68 : sM → Int32 → Int32 → Int32 → Int32 → Option sM) (S : sM) (x1 : Int32) (x2 : Int32) (x3 : Int32) (x4 : Int32) : Option sM :=
  fX3_findRounds_105 N k68 S x1 x2 x3 x4 (0 : Int32)
theorem bX3_findRounds_104 {N : Nat} (X : CallFix p m c cX3_findRounds 6 s args lw_all RX3) (hr : meth.sig.returnType = none) (hlk : meth.locks = false) (hG : MG o q) {Sr : sM} {k68 : sM → Int32 → Int32 → Int32 → Int32 → Option sM} (Hk68 : ∀ (S : sM) (x1 : Int32) (x2 : Int32) (x3 : Int32) (x4 : Int32) (H : Heap) (locs : List Loc) (ls : Array Slot), k68 S x1 x2 x3 x4 = some Sr → MW D o q d dz S s H locs → lv_has ls 6 [(0, .ref o), (1, .int x1), (2, .int x2), (3, .int x3), (4, .int x4)] → W p l e (rmL 2) s m args below meth c H locs 0 0 (MQ below (MPost D o q d dz none Sr) args s 0 0 (AM o q)) (F0 m 68 ls [])) : ∀ (S : sM) (x1 : Int32) (x2 : Int32) (x3 : Int32) (x4 : Int32) (H : Heap) (locs : List Loc) (ls : Array Slot), fX3_findRounds_104 N k68 S x1 x2 x3 x4 = some Sr → MW D o q d dz S s H locs → lv_has ls 6 [(0, .ref o), (1, .int x1), (2, .int x2), (3, .int x3), (4, .int x4)] → W p l e (rmL 2) s m args below meth c H locs 0 0 (MQ below (MPost D o q d dz none Sr) args s 0 0 (AM o q)) (F0 m 104 ls []) := by
  have hx := X.1
  have hb := X.2.1
  intro S x1 x2 x3 x4 H locs ls hf hM hl
  unfold fX3_findRounds_104 at hf
  refine lv_iconst (v := 0) hx hb dX3_findRounds_104 (by decide) ?_
  exact bX3_findRounds_105 X hr hlk hG Hk68 S x1 x2 x3 x4 (0 : Int32) _ _ _ hf hM hl
noncomputable def fX3_findRounds_68 (N : Nat) (kx168 : sM → Int32 → Int32 → Option sM) : Nat → sM → Int32 → Int32 → Int32 → Int32 → Option sM
  | 0, _, _, _, _, _ => none
  | n + 1, S, x1, x2, x3, x4 =>
    if x2 < x4 then (
      kx168 S x1 x2)
    else (
      if ¬ (x4 &&& (x2 ^^^ (-1 : Int32))) = 0 then (
        fX3_findRounds_104 N (fX3_findRounds_68 N kx168 n) S x1 x2 x3 x4)
      else (
        if (x4 &&& x3) = 0 then (
          fX3_findRounds_104 N (fX3_findRounds_68 N kx168 n) S x1 x2 x3 x4)
        else (
          (ec_ag (S.2.2 40) 256 x4).bind fun v_15 =>
          if v_15 = 0 then (
            fX3_findRounds_104 N (fX3_findRounds_68 N kx168 n) S x1 x2 x3 x4)
          else (
            fX3_findRounds_105 N (fX3_findRounds_68 N kx168 n) S x1 x2 x3 x4 (1 : Int32)))))
theorem bX3_findRounds_68 {N : Nat} (X : CallFix p m c cX3_findRounds 6 s args lw_all RX3) (hr : meth.sig.returnType = none) (hlk : meth.locks = false) (hG : MG o q) {Sr : sM} {kx168 : sM → Int32 → Int32 → Option sM} (Hkx168 : ∀ (S : sM) (x1 : Int32) (x2 : Int32) (H : Heap) (locs : List Loc) (ls : Array Slot), kx168 S x1 x2 = some Sr → MW D o q d dz S s H locs → lv_has ls 6 [(0, .ref o), (1, .int x1), (2, .int x2)] → W p l e (rmL 2) s m args below meth c H locs 0 0 (MQ below (MPost D o q d dz none Sr) args s 0 0 (AM o q)) (F0 m 168 ls [])) : ∀ (n : Nat) (S : sM) (x1 : Int32) (x2 : Int32) (x3 : Int32) (x4 : Int32) (H : Heap) (locs : List Loc) (ls : Array Slot), fX3_findRounds_68 N kx168 n S x1 x2 x3 x4 = some Sr → MW D o q d dz S s H locs → lv_has ls 6 [(0, .ref o), (1, .int x1), (2, .int x2), (3, .int x3), (4, .int x4)] → W p l e (rmL 2) s m args below meth c H locs 0 0 (MQ below (MPost D o q d dz none Sr) args s 0 0 (AM o q)) (F0 m 68 ls []) := by
  have hx := X.1
  have hb := X.2.1
  intro n
  induction n with
  | zero =>
    intro S x1 x2 x3 x4 H locs ls hf hM hl
    rw [fX3_findRounds_68] at hf
    cases hf
  | succ n ih =>
    intro S x1 x2 x3 x4 H locs ls hf hM hl
    rw [fX3_findRounds_68] at hf
    refine lv_iload hx hb dX3_findRounds_68 (lv_at hl 4 rfl) ?_
    refine lv_iload_n hx hb dX3_findRounds_70 rfl (lv_at hl 2 rfl) ?_
    refine lv_icmp_gt (tgt := 168) hx hb dX3_findRounds_71 rfl (fun cnd => ?_) (fun cnd => ?_)
    · have hf := ec_t cnd hf
      exact Hkx168 S x1 x2 _ _ _ hf hM (lv_sub hl [0, 1, 2] rfl)
    · have hf := ec_f cnd hf
      refine lv_iload hx hb dX3_findRounds_74 (lv_at hl 4 rfl) ?_
      refine lv_iload_n hx hb dX3_findRounds_76 rfl (lv_at hl 2 rfl) ?_
      refine lv_iconst (v := -1) hx hb dX3_findRounds_77 (by decide) ?_
      refine lv_ixor hx hb dX3_findRounds_78 ?_
      refine lv_iand hx hb dX3_findRounds_79 ?_
      refine lv_if_ne (tgt := 104) hx hb dX3_findRounds_80 rfl (fun cnd => ?_) (fun cnd => ?_)
      · have hf := ec_t cnd hf
        exact bX3_findRounds_104 X hr hlk hG ih S x1 x2 x3 x4 _ _ _ hf hM hl
      · have hf := ec_f (not_not_intro cnd) hf
        refine lv_iload hx hb dX3_findRounds_83 (lv_at hl 4 rfl) ?_
        refine lv_iload_n hx hb dX3_findRounds_85 rfl (lv_at hl 3 rfl) ?_
        refine lv_iand hx hb dX3_findRounds_86 ?_
        refine lv_if_eq (tgt := 104) hx hb dX3_findRounds_87 rfl (fun cnd => ?_) (fun cnd => ?_)
        · have hf := ec_t cnd hf
          exact bX3_findRounds_104 X hr hlk hG ih S x1 x2 x3 x4 _ _ _ hf hM hl
        · have hf := ec_f cnd hf
          refine lv_aload_n hx hb dX3_findRounds_90 rfl (lv_at hl 0 rfl) ?_
          refine m_get (v := .ref (q 40)) X hM 40 (by decide) q1014 rfl rfl dX3_findRounds_91 ?_
          refine lv_iload hx hb dX3_findRounds_94 (lv_at hl 4 rfl) ?_
          obtain ⟨v_15, h, hf⟩ := ec_bi hf
          refine m_zald X hM wma40 h dX3_findRounds_96 ?_
          refine lv_if_eq (tgt := 104) hx hb dX3_findRounds_97 rfl (fun cnd => ?_) (fun cnd => ?_)
          · have hf := ec_t cnd hf
            exact bX3_findRounds_104 X hr hlk hG ih S x1 x2 x3 x4 _ _ _ hf hM hl
          · have hf := ec_f cnd hf
            refine lv_iconst (v := 1) hx hb dX3_findRounds_100 (by decide) ?_
            refine lv_goto (tgt := 105) hx hb dX3_findRounds_101 rfl ?_
            exact bX3_findRounds_105 X hr hlk hG ih S x1 x2 x3 x4 (1 : Int32) _ _ _ hf hM hl
noncomputable def fX3_findRounds_45 (N : Nat) (kx174 : sM → Int32 → Option sM) : Nat → sM → Int32 → Int32 → Option sM
  | 0, _, _, _ => none
  | n + 1, S, x1, x2 =>
    if (256 : Int32) ≤ x2 then (
      kx174 S x1)
    else (
      (ec_as S 39 256 x2 (99 : Int32)).bind fun S_7 =>
      ec_lt (x2 &&& (-x2)) fun x3_8 =>
      fX3_findRounds_68 N (fun S_16 x1_17 x2_18 =>
        ec_lt (x2_18 + (1 : Int32)) fun x2_19 =>
        (fX3_findRounds_45 N kx174 n) S_16 x1_17 x2_19) N S_7 x1 x2 x3_8 (1 : Int32))
theorem bX3_findRounds_45 {N : Nat} (X : CallFix p m c cX3_findRounds 6 s args lw_all RX3) (hr : meth.sig.returnType = none) (hlk : meth.locks = false) (hG : MG o q) {Sr : sM} {kx174 : sM → Int32 → Option sM} (Hkx174 : ∀ (S : sM) (x1 : Int32) (H : Heap) (locs : List Loc) (ls : Array Slot), kx174 S x1 = some Sr → MW D o q d dz S s H locs → lv_has ls 6 [(0, .ref o), (1, .int x1)] → W p l e (rmL 2) s m args below meth c H locs 0 0 (MQ below (MPost D o q d dz none Sr) args s 0 0 (AM o q)) (F0 m 174 ls [])) : ∀ (n : Nat) (S : sM) (x1 : Int32) (x2 : Int32) (H : Heap) (locs : List Loc) (ls : Array Slot), fX3_findRounds_45 N kx174 n S x1 x2 = some Sr → MW D o q d dz S s H locs → lv_has ls 6 [(0, .ref o), (1, .int x1), (2, .int x2)] → W p l e (rmL 2) s m args below meth c H locs 0 0 (MQ below (MPost D o q d dz none Sr) args s 0 0 (AM o q)) (F0 m 45 ls []) := by
  have hx := X.1
  have hb := X.2.1
  intro n
  induction n with
  | zero =>
    intro S x1 x2 H locs ls hf hM hl
    rw [fX3_findRounds_45] at hf
    cases hf
  | succ n ih =>
    intro S x1 x2 H locs ls hf hM hl
    rw [fX3_findRounds_45] at hf
    refine lv_iload_n hx hb dX3_findRounds_45 rfl (lv_at hl 2 rfl) ?_
    refine lv_sipush (v := 256) hx hb dX3_findRounds_46 (by decide) ?_
    refine lv_icmp_ge (tgt := 174) hx hb dX3_findRounds_49 rfl (fun cnd => ?_) (fun cnd => ?_)
    · have hf := ec_t cnd hf
      exact Hkx174 S x1 _ _ _ hf hM (lv_sub hl [0, 1] rfl)
    · have hf := ec_f cnd hf
      refine lv_aload_n hx hb dX3_findRounds_52 rfl (lv_at hl 0 rfl) ?_
      refine m_get (v := .ref (q 39)) X hM 39 (by decide) q1013 rfl rfl dX3_findRounds_53 ?_
      refine lv_iload_n hx hb dX3_findRounds_56 rfl (lv_at hl 2 rfl) ?_
      refine lv_bipush (v := 99) hx hb dX3_findRounds_57 (by decide) ?_
      obtain ⟨S_7, h, hf⟩ := ec_bi hf
      refine m_iast X hG hM wma39 wms39 h dX3_findRounds_59 (fun H locs hM => ?_)
      refine lv_iload_n hx hb dX3_findRounds_60 rfl (lv_at hl 2 rfl) ?_
      refine lv_iload_n hx hb dX3_findRounds_61 rfl (lv_at hl 2 rfl) ?_
      refine lv_ineg hx hb dX3_findRounds_62 ?_
      refine lv_iand hx hb dX3_findRounds_63 ?_
      refine lv_topi (fun x3_8 ex => ?_)
      have hf := ec_lt_i ex hf
      refine lv_istore_n (lv' := [(3, .int x3_8), (0, .ref o), (1, .int x1), (2, .int x2)]) hx hb dX3_findRounds_64 rfl hl (by decide) rfl (fun ls hl => ?_)
      refine lv_iconst (v := 1) hx hb dX3_findRounds_65 (by decide) ?_
      refine lv_istore (lv' := [(4, .int (1 : Int32)), (3, .int x3_8), (0, .ref o), (1, .int x1), (2, .int x2)]) hx hb dX3_findRounds_66 hl (by decide) rfl (fun ls hl => ?_)
      exact bX3_findRounds_68 X hr hlk hG (fun S_16 x1_17 x2_18 H locs ls hf hM hl => by
        refine e_inc (w := 1) (f := fun v => [(2, .int v), (0, .ref o), (1, .int x1_17)]) hx hb dX3_findRounds_168 hl (k := 2) rfl (by decide) (by decide) (fun _ => rfl) (fun x2_19 ex ls hl => ?_)
        have hf := ec_lt_i ex hf
        refine lv_goto (tgt := 45) hx hb dX3_findRounds_171 rfl ?_
        exact ih S_16 x1_17 x2_19 _ _ _ hf hM (lv_sub hl [1, 2, 0] rfl)) N S_7 x1 x2 x3_8 (1 : Int32) _ _ _ hf hM (lv_sub hl [2, 3, 4, 1, 0] rfl)
noncomputable def fX3_findRounds_263 (N : Nat) (k216 : sM → Int32 → Int32 → Option sM) (S : sM) (x2 : Int32) (x3 : Int32) : Option sM :=
  ec_lt (x3 + (1 : Int32)) fun x3_24 =>
  k216 S x2 x3_24
theorem bX3_findRounds_263 {N : Nat} (X : CallFix p m c cX3_findRounds 6 s args lw_all RX3) (hr : meth.sig.returnType = none) (hlk : meth.locks = false) (hG : MG o q) {Sr : sM} {k216 : sM → Int32 → Int32 → Option sM} (Hk216 : ∀ (S : sM) (x2 : Int32) (x3 : Int32) (H : Heap) (locs : List Loc) (ls : Array Slot), k216 S x2 x3 = some Sr → MW D o q d dz S s H locs → lv_has ls 6 [(0, .ref o), (2, .int x2), (3, .int x3)] → W p l e (rmL 2) s m args below meth c H locs 0 0 (MQ below (MPost D o q d dz none Sr) args s 0 0 (AM o q)) (F0 m 216 ls [])) : ∀ (S : sM) (x2 : Int32) (x3 : Int32) (H : Heap) (locs : List Loc) (ls : Array Slot), fX3_findRounds_263 N k216 S x2 x3 = some Sr → MW D o q d dz S s H locs → lv_has ls 6 [(0, .ref o), (2, .int x2), (3, .int x3)] → W p l e (rmL 2) s m args below meth c H locs 0 0 (MQ below (MPost D o q d dz none Sr) args s 0 0 (AM o q)) (F0 m 263 ls []) := by
  have hx := X.1
  have hb := X.2.1
  intro S x2 x3 H locs ls hf hM hl
  unfold fX3_findRounds_263 at hf
  refine e_inc (w := 1) (f := fun v => [(3, .int v), (0, .ref o), (2, .int x2)]) hx hb dX3_findRounds_263 hl (k := 2) rfl (by decide) (by decide) (fun _ => rfl) (fun x3_24 ex ls hl => ?_)
  have hf := ec_lt_i ex hf
  refine lv_goto (tgt := 216) hx hb dX3_findRounds_266 rfl ?_
  exact Hk216 S x2 x3_24 _ _ _ hf hM (lv_sub hl [1, 2, 0] rfl)
noncomputable def fX3_findRounds_216 (N : Nat) (kx269 : sM → Int32 → Int32 → Option sM) : Nat → sM → Int32 → Int32 → Option sM
  | 0, _, _, _ => none
  | n + 1, S, x2, x3 =>
    if ¬ (x3 &&& (x2 ^^^ (-1 : Int32))) = 0 then (
      fX3_findRounds_263 N (fX3_findRounds_216 N kx269 n) S x2 x3)
    else (
      if (x3 &&& (x2 &&& (-x2))) = 0 then (
        fX3_findRounds_263 N (fX3_findRounds_216 N kx269 n) S x2 x3)
      else (
        (ec_ag (S.2.2 40) 256 x3).bind fun v_25 =>
        if v_25 = 0 then (
          fX3_findRounds_263 N (fX3_findRounds_216 N kx269 n) S x2 x3)
        else (
          (ec_ag (S.2.2 39) 256 (x2 &&& (x3 ^^^ (-1 : Int32)))).bind fun v_26 =>
          (ec_ag (S.2.2 39) 256 x2).bind fun v_27 =>
          if (v_26 + (1 : Int32)) = v_27 then (
            kx269 S x2 x3)
          else (
            fX3_findRounds_263 N (fX3_findRounds_216 N kx269 n) S x2 x3))))
theorem bX3_findRounds_216 {N : Nat} (X : CallFix p m c cX3_findRounds 6 s args lw_all RX3) (hr : meth.sig.returnType = none) (hlk : meth.locks = false) (hG : MG o q) {Sr : sM} {kx269 : sM → Int32 → Int32 → Option sM} (Hkx269 : ∀ (S : sM) (x2 : Int32) (x3 : Int32) (H : Heap) (locs : List Loc) (ls : Array Slot), kx269 S x2 x3 = some Sr → MW D o q d dz S s H locs → lv_has ls 6 [(0, .ref o), (2, .int x2), (3, .int x3)] → W p l e (rmL 2) s m args below meth c H locs 0 0 (MQ below (MPost D o q d dz none Sr) args s 0 0 (AM o q)) (F0 m 269 ls [])) : ∀ (n : Nat) (S : sM) (x2 : Int32) (x3 : Int32) (H : Heap) (locs : List Loc) (ls : Array Slot), fX3_findRounds_216 N kx269 n S x2 x3 = some Sr → MW D o q d dz S s H locs → lv_has ls 6 [(0, .ref o), (2, .int x2), (3, .int x3)] → W p l e (rmL 2) s m args below meth c H locs 0 0 (MQ below (MPost D o q d dz none Sr) args s 0 0 (AM o q)) (F0 m 216 ls []) := by
  have hx := X.1
  have hb := X.2.1
  intro n
  induction n with
  | zero =>
    intro S x2 x3 H locs ls hf hM hl
    rw [fX3_findRounds_216] at hf
    cases hf
  | succ n ih =>
    intro S x2 x3 H locs ls hf hM hl
    rw [fX3_findRounds_216] at hf
    refine lv_iload_n hx hb dX3_findRounds_216 rfl (lv_at hl 2 rfl) ?_
    refine lv_iload_n hx hb dX3_findRounds_217 rfl (lv_at hl 1 rfl) ?_
    refine lv_iconst (v := -1) hx hb dX3_findRounds_218 (by decide) ?_
    refine lv_ixor hx hb dX3_findRounds_219 ?_
    refine lv_iand hx hb dX3_findRounds_220 ?_
    refine lv_if_ne (tgt := 263) hx hb dX3_findRounds_221 rfl (fun cnd => ?_) (fun cnd => ?_)
    · have hf := ec_t cnd hf
      exact bX3_findRounds_263 X hr hlk hG ih S x2 x3 _ _ _ hf hM hl
    · have hf := ec_f (not_not_intro cnd) hf
      refine lv_iload_n hx hb dX3_findRounds_224 rfl (lv_at hl 2 rfl) ?_
      refine lv_iload_n hx hb dX3_findRounds_225 rfl (lv_at hl 1 rfl) ?_
      refine lv_iload_n hx hb dX3_findRounds_226 rfl (lv_at hl 1 rfl) ?_
      refine lv_ineg hx hb dX3_findRounds_227 ?_
      refine lv_iand hx hb dX3_findRounds_228 ?_
      refine lv_iand hx hb dX3_findRounds_229 ?_
      refine lv_if_eq (tgt := 263) hx hb dX3_findRounds_230 rfl (fun cnd => ?_) (fun cnd => ?_)
      · have hf := ec_t cnd hf
        exact bX3_findRounds_263 X hr hlk hG ih S x2 x3 _ _ _ hf hM hl
      · have hf := ec_f cnd hf
        refine lv_aload_n hx hb dX3_findRounds_233 rfl (lv_at hl 0 rfl) ?_
        refine m_get (v := .ref (q 40)) X hM 40 (by decide) q1014 rfl rfl dX3_findRounds_234 ?_
        refine lv_iload_n hx hb dX3_findRounds_237 rfl (lv_at hl 2 rfl) ?_
        obtain ⟨v_25, h, hf⟩ := ec_bi hf
        refine m_zald X hM wma40 h dX3_findRounds_238 ?_
        refine lv_if_eq (tgt := 263) hx hb dX3_findRounds_239 rfl (fun cnd => ?_) (fun cnd => ?_)
        · have hf := ec_t cnd hf
          exact bX3_findRounds_263 X hr hlk hG ih S x2 x3 _ _ _ hf hM hl
        · have hf := ec_f cnd hf
          refine lv_aload_n hx hb dX3_findRounds_242 rfl (lv_at hl 0 rfl) ?_
          refine m_get (v := .ref (q 39)) X hM 39 (by decide) q1013 rfl rfl dX3_findRounds_243 ?_
          refine lv_iload_n hx hb dX3_findRounds_246 rfl (lv_at hl 1 rfl) ?_
          refine lv_iload_n hx hb dX3_findRounds_247 rfl (lv_at hl 2 rfl) ?_
          refine lv_iconst (v := -1) hx hb dX3_findRounds_248 (by decide) ?_
          refine lv_ixor hx hb dX3_findRounds_249 ?_
          refine lv_iand hx hb dX3_findRounds_250 ?_
          obtain ⟨v_26, h, hf⟩ := ec_bi hf
          refine m_iald X hM wma39 h dX3_findRounds_251 ?_
          refine lv_iconst (v := 1) hx hb dX3_findRounds_252 (by decide) ?_
          refine lv_iadd hx hb dX3_findRounds_253 ?_
          refine lv_aload_n hx hb dX3_findRounds_254 rfl (lv_at hl 0 rfl) ?_
          refine m_get (v := .ref (q 39)) X hM 39 (by decide) q1013 rfl rfl dX3_findRounds_255 ?_
          refine lv_iload_n hx hb dX3_findRounds_258 rfl (lv_at hl 1 rfl) ?_
          obtain ⟨v_27, h, hf⟩ := ec_bi hf
          refine m_iald X hM wma39 h dX3_findRounds_259 ?_
          refine lv_icmp_eq (tgt := 269) hx hb dX3_findRounds_260 rfl (fun cnd => ?_) (fun cnd => ?_)
          · have hf := ec_t cnd hf
            exact Hkx269 S x2 x3 _ _ _ hf hM hl
          · have hf := ec_f cnd hf
            exact bX3_findRounds_263 X hr hlk hG ih S x2 x3 _ _ _ hf hM hl
noncomputable def fX3_findRounds_210 (N : Nat) : Nat → sM → Int32 → Option sM
  | 0, _, _ => none
  | n + 1, S, x2 =>
    if x2 = 0 then (
      some S)
    else (
      fX3_findRounds_216 N (fun S_28 x2_29 x3_30 =>
        (ec_as S_28 42 8 (S_28.1 41) x3_30).bind fun S_31 =>
        ec_lt (mI S_31 41 ((S_31.1 41) + (1 : Int32))) fun S_32 =>
        ec_lt (x2_29 &&& (x3_30 ^^^ (-1 : Int32))) fun x2_33 =>
        (fX3_findRounds_210 N n) S_32 x2_33) N S x2 (1 : Int32))
theorem bX3_findRounds_210 {N : Nat} (X : CallFix p m c cX3_findRounds 6 s args lw_all RX3) (hr : meth.sig.returnType = none) (hlk : meth.locks = false) (hG : MG o q) {Sr : sM} : ∀ (n : Nat) (S : sM) (x2 : Int32) (H : Heap) (locs : List Loc) (ls : Array Slot), fX3_findRounds_210 N n S x2 = some Sr → MW D o q d dz S s H locs → lv_has ls 6 [(0, .ref o), (2, .int x2)] → W p l e (rmL 2) s m args below meth c H locs 0 0 (MQ below (MPost D o q d dz none Sr) args s 0 0 (AM o q)) (F0 m 210 ls []) := by
  have hx := X.1
  have hb := X.2.1
  intro n
  induction n with
  | zero =>
    intro S x2 H locs ls hf hM hl
    rw [fX3_findRounds_210] at hf
    cases hf
  | succ n ih =>
    intro S x2 H locs ls hf hM hl
    rw [fX3_findRounds_210] at hf
    refine lv_iload_n hx hb dX3_findRounds_210 rfl (lv_at hl 1 rfl) ?_
    refine lv_if_eq (tgt := 298) hx hb dX3_findRounds_211 rfl (fun cnd => ?_) (fun cnd => ?_)
    · have hf := ec_t cnd hf
      obtain rfl := Option.some.inj hf
      exact m_vret X hr hlk hM dX3_findRounds_298
    · have hf := ec_f cnd hf
      refine lv_iconst (v := 1) hx hb dX3_findRounds_214 (by decide) ?_
      refine lv_istore_n (lv' := [(3, .int (1 : Int32)), (0, .ref o), (2, .int x2)]) hx hb dX3_findRounds_215 rfl hl (by decide) rfl (fun ls hl => ?_)
      exact bX3_findRounds_216 X hr hlk hG (fun S_28 x2_29 x3_30 H locs ls hf hM hl => by
        refine lv_aload_n hx hb dX3_findRounds_269 rfl (lv_at hl 0 rfl) ?_
        refine m_get (v := .ref (q 42)) X hM 42 (by decide) q1016 rfl rfl dX3_findRounds_270 ?_
        refine lv_aload_n hx hb dX3_findRounds_273 rfl (lv_at hl 0 rfl) ?_
        refine m_get (v := .int (S_28.1 41)) X hM 41 (by decide) q1015 rfl rfl dX3_findRounds_274 ?_
        refine lv_iload_n hx hb dX3_findRounds_277 rfl (lv_at hl 2 rfl) ?_
        obtain ⟨S_31, h, hf⟩ := ec_bi hf
        refine m_iast X hG hM wma42 wms42 h dX3_findRounds_278 (fun H locs hM => ?_)
        refine lv_aload_n hx hb dX3_findRounds_279 rfl (lv_at hl 0 rfl) ?_
        refine lv_dup hx hb dX3_findRounds_280 rfl ?_
        refine m_get (v := .int (S_31.1 41)) X hM 41 (by decide) q1015 rfl rfl dX3_findRounds_281 ?_
        refine lv_iconst (v := 1) hx hb dX3_findRounds_284 (by decide) ?_
        refine lv_iadd hx hb dX3_findRounds_285 ?_
        refine m_puti X hG hM 41 (by decide) q1015 rfl rfl mfd41 (wmi41 _) dX3_findRounds_286 (fun S_32 H locs eS hM => ?_)
        have hf := ec_lt_i eS hf
        refine lv_iload_n hx hb dX3_findRounds_289 rfl (lv_at hl 1 rfl) ?_
        refine lv_iload_n hx hb dX3_findRounds_290 rfl (lv_at hl 2 rfl) ?_
        refine lv_iconst (v := -1) hx hb dX3_findRounds_291 (by decide) ?_
        refine lv_ixor hx hb dX3_findRounds_292 ?_
        refine lv_iand hx hb dX3_findRounds_293 ?_
        refine lv_topi (fun x2_33 ex => ?_)
        have hf := ec_lt_i ex hf
        refine lv_istore_n (lv' := [(2, .int x2_33), (0, .ref o), (3, .int x3_30)]) hx hb dX3_findRounds_294 rfl hl (by decide) rfl (fun ls hl => ?_)
        refine lv_goto (tgt := 210) hx hb dX3_findRounds_295 rfl ?_
        exact ih S_32 x2_33 _ _ _ hf hM (lv_sub hl [1, 0] rfl)) N S x2 (1 : Int32) _ _ _ hf hM (lv_sub hl [1, 2, 0] rfl)
noncomputable def fX3_findRounds_209 (N : Nat) (S : sM) (t0 : Int32) : Option sM :=
  fX3_findRounds_210 N N S t0
theorem bX3_findRounds_209 {N : Nat} (X : CallFix p m c cX3_findRounds 6 s args lw_all RX3) (hr : meth.sig.returnType = none) (hlk : meth.locks = false) (hG : MG o q) {Sr : sM} : ∀ (S : sM) (t0 : Int32) (H : Heap) (locs : List Loc) (ls : Array Slot), fX3_findRounds_209 N S t0 = some Sr → MW D o q d dz S s H locs → lv_has ls 6 [(0, .ref o)] → W p l e (rmL 2) s m args below meth c H locs 0 0 (MQ below (MPost D o q d dz none Sr) args s 0 0 (AM o q)) (F0 m 209 ls [.int t0]) := by
  have hx := X.1
  have hb := X.2.1
  intro S t0 H locs ls hf hM hl
  unfold fX3_findRounds_209 at hf
  refine lv_istore_n (lv' := [(2, .int t0), (0, .ref o)]) hx hb dX3_findRounds_209 rfl hl (by decide) rfl (fun ls hl => ?_)
  exact bX3_findRounds_210 X hr hlk hG N S t0 _ _ _ hf hM (lv_sub hl [1, 0] rfl)
noncomputable def fX3_findRounds_192 (N : Nat) (S : sM) (x1 : Int32) (t0 : Int32) : Option sM :=
  ec_lt (mI S 41 t0) fun S_23 =>
  if ¬ (S_23.1 41) = (-4 : Int32) then (
    fX3_findRounds_209 N S_23 x1)
  else (
    fX3_findRounds_209 N S_23 (0 : Int32))
theorem bX3_findRounds_192 {N : Nat} (X : CallFix p m c cX3_findRounds 6 s args lw_all RX3) (hr : meth.sig.returnType = none) (hlk : meth.locks = false) (hG : MG o q) {Sr : sM} : ∀ (S : sM) (x1 : Int32) (t0 : Int32) (H : Heap) (locs : List Loc) (ls : Array Slot), fX3_findRounds_192 N S x1 t0 = some Sr → MW D o q d dz S s H locs → lv_has ls 6 [(0, .ref o), (1, .int x1)] → W p l e (rmL 2) s m args below meth c H locs 0 0 (MQ below (MPost D o q d dz none Sr) args s 0 0 (AM o q)) (F0 m 192 ls [.int t0, .ref o]) := by
  have hx := X.1
  have hb := X.2.1
  intro S x1 t0 H locs ls hf hM hl
  unfold fX3_findRounds_192 at hf
  refine m_puti X hG hM 41 (by decide) q1015 rfl rfl mfd41 (wmi41 _) dX3_findRounds_192 (fun S_23 H locs eS hM => ?_)
  have hf := ec_lt_i eS hf
  refine lv_aload_n hx hb dX3_findRounds_195 rfl (lv_at hl 0 rfl) ?_
  refine m_get (v := .int (S_23.1 41)) X hM 41 (by decide) q1015 rfl rfl dX3_findRounds_196 ?_
  refine lv_bipush (v := -4) hx hb dX3_findRounds_199 (by decide) ?_
  refine lv_icmp_ne (tgt := 208) hx hb dX3_findRounds_201 rfl (fun cnd => ?_) (fun cnd => ?_)
  · have hf := ec_t cnd hf
    refine lv_iload_n hx hb dX3_findRounds_208 rfl (lv_at hl 1 rfl) ?_
    exact bX3_findRounds_209 X hr hlk hG S_23 x1 _ _ _ hf hM (lv_sub hl [0] rfl)
  · have hf := ec_f (not_not_intro cnd) hf
    refine lv_iconst (v := 0) hx hb dX3_findRounds_204 (by decide) ?_
    refine lv_goto (tgt := 209) hx hb dX3_findRounds_205 rfl ?_
    exact bX3_findRounds_209 X hr hlk hG S_23 (0 : Int32) _ _ _ hf hM (lv_sub hl [0] rfl)
noncomputable def fX3_findRounds (N : Nat) (S : sM) (x1 : Int32) : Option sM :=
  fX3_findRounds_2 N (fun S_4 x1_5 =>
    (ec_as S_4 39 256 (0 : Int32) (0 : Int32)).bind fun S_6 =>
    fX3_findRounds_45 N (fun S_20 x1_21 =>
      (ec_ag (S_20.2.2 39) 256 x1_21).bind fun v_22 =>
      if v_22 < (99 : Int32) then (
        fX3_findRounds_192 N S_20 x1_21 (0 : Int32))
      else (
        fX3_findRounds_192 N S_20 x1_21 (-4 : Int32))) N S_6 x1_5 (1 : Int32)) N S x1 (0 : Int32)
theorem metX3_findRounds (l : Launch) (D : va_G) (o : Nat) (q : Nat → Nat) (d dz : ClassId) (hG : MG o q) (N : Nat) (S : sM) (x1 : Int32) (Sr : sM) (hf : fX3_findRounds N S x1 = some Sr) : Met l yX3_findRounds (ws_ yX3_findRounds cX3_findRounds 6 none) (rmL 2) (MPre D o q d dz S [.int x1]) (MPost D o q d dz none Sr) 0 0 (AM o q) := by
  refine m_ofW rfl (Nat.le_of_ble_eq_true rfl) (fun p e s m args below meth c X hr hlk hM ls hl => ?_)
  have hl : lv_has ls 6 [(0, .ref o), (1, .int x1)] := hl
  have hx := X.1
  have hb := X.2.1
  unfold fX3_findRounds at hf
  refine lv_iconst (v := 0) hx hb dX3_findRounds_0 (by decide) ?_
  refine lv_istore_n (lv' := [(2, .int (0 : Int32)), (0, .ref o), (1, .int x1)]) hx hb dX3_findRounds_1 rfl hl (by decide) rfl (fun ls hl => ?_)
  exact bX3_findRounds_2 X hr hlk hG (fun S_4 x1_5 H locs ls hf hM hl => by
    refine lv_aload_n hx hb dX3_findRounds_36 rfl (lv_at hl 0 rfl) ?_
    refine m_get (v := .ref (q 39)) X hM 39 (by decide) q1013 rfl rfl dX3_findRounds_37 ?_
    refine lv_iconst (v := 0) hx hb dX3_findRounds_40 (by decide) ?_
    refine lv_iconst (v := 0) hx hb dX3_findRounds_41 (by decide) ?_
    obtain ⟨S_6, h, hf⟩ := ec_bi hf
    refine m_iast X hG hM wma39 wms39 h dX3_findRounds_42 (fun H locs hM => ?_)
    refine lv_iconst (v := 1) hx hb dX3_findRounds_43 (by decide) ?_
    refine lv_istore_n (lv' := [(2, .int (1 : Int32)), (0, .ref o), (1, .int x1_5)]) hx hb dX3_findRounds_44 rfl hl (by decide) rfl (fun ls hl => ?_)
    exact bX3_findRounds_45 X hr hlk hG (fun S_20 x1_21 H locs ls hf hM hl => by
      refine lv_aload_n hx hb dX3_findRounds_174 rfl (lv_at hl 0 rfl) ?_
      refine lv_aload_n hx hb dX3_findRounds_175 rfl (lv_at hl 0 rfl) ?_
      refine m_get (v := .ref (q 39)) X hM 39 (by decide) q1013 rfl rfl dX3_findRounds_176 ?_
      refine lv_iload_n hx hb dX3_findRounds_179 rfl (lv_at hl 1 rfl) ?_
      obtain ⟨v_22, h, hf⟩ := ec_bi hf
      refine m_iald X hM wma39 h dX3_findRounds_180 ?_
      refine lv_bipush (v := 99) hx hb dX3_findRounds_181 (by decide) ?_
      refine lv_icmp_lt (tgt := 191) hx hb dX3_findRounds_183 rfl (fun cnd => ?_) (fun cnd => ?_)
      · have hf := ec_t cnd hf
        refine lv_iconst (v := 0) hx hb dX3_findRounds_191 (by decide) ?_
        exact bX3_findRounds_192 X hr hlk hG S_20 x1_21 (0 : Int32) _ _ _ hf hM hl
      · have hf := ec_f cnd hf
        refine lv_bipush (v := -4) hx hb dX3_findRounds_186 (by decide) ?_
        refine lv_goto (tgt := 192) hx hb dX3_findRounds_188 rfl ?_
        exact bX3_findRounds_192 X hr hlk hG S_20 x1_21 (-4 : Int32) _ _ _ hf hM hl) N S_6 x1_5 (1 : Int32) _ _ _ hf hM (lv_sub hl [1, 2, 0] rfl)) N S x1 (0 : Int32) _ _ _ hf hM (lv_sub hl [1, 2, 0] rfl)
theorem hX3_findRounds : yX3_findRounds.cls = RX3 ∧ yX3_findRounds.cls ≠ "java/lang/invoke/MethodHandle" ∧ yX3_findRounds.cls ≠ "java/lang/invoke/VarHandle" ∧ (parseMethodDescriptor yX3_findRounds.desc).map (fun d => d.parameters.length) = some 1 := by decide +kernel
end
