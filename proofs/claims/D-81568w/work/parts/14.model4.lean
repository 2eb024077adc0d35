set_option maxRecDepth 100000
set_option maxHeartbeats 2000000
set_option linter.unusedVariables false
section
variable {p : Program} {l : Launch} {e : Env} {s : State} {m : MethodId} {args : Array Value} {below : List Frame} {meth : Method} {c : Code}
variable {D : va_G} {o : Nat} {q : Nat → Nat} {d dz : ClassId}
noncomputable def fX3_beats_23 (N : Nat) (S : sM) : Option Int32 :=
  some (-1 : Int32)
theorem bX3_beats_23 {N : Nat} (X : CallFix p m c cX3_beats 12 s args lw_all RX3) (hr : meth.sig.returnType = (some .int)) (hlk : meth.locks = false) {S : sM} (hM : MW D o q d dz S s s.heap []) {res : Int32} : ∀ (ls : Array Slot), fX3_beats_23 N S = some res → lv_has ls 12 [(0, .ref o)] → W p l e (rmL 3) s m args below meth c s.heap [] 0 0 (MQ below (k2_QcV (.int res)) args s 0 0 (fun _ => False)) (F0 m 23 ls []) := by
  have hx := X.1
  have hb := X.2.1
  intro ls hf hl
  unfold fX3_beats_23 at hf
  refine lv_iconst (v := -1) hx hb dX3_beats_23 (by decide) ?_
  obtain rfl := Option.some.inj hf
  exact e_iretR hx hb hr hlk dX3_beats_24
noncomputable def fX3_beats_141 (N : Nat) (S : sM) (k62 : Int32 → Int32 → Int32 → Int32 → Int32 → Int32 → Int32 → Int32 → Option Int32) (x1 : Int32) (x2 : Int32) (x4 : Int32) (x6 : Int32) (x8 : Int32) (x9 : Int32) (x10 : Int32) (x11 : Int32) (t0 : Int32) (t1 : Int32) : Option Int32 :=
  ec_lt (t1 ||| t0) fun x7_10 =>
  (fX3_made S x11 x1).bind fun v_11 =>
  ec_lt (x9 + v_11) fun x9_12 =>
  ec_lt (x10 + (1 : Int32)) fun x10_13 =>
  k62 x1 x2 x4 x6 x7_10 x8 x9_12 x10_13
theorem bX3_beats_141 {N : Nat} (X : CallFix p m c cX3_beats 12 s args lw_all RX3) (hr : meth.sig.returnType = (some .int)) (hlk : meth.locks = false) {S : sM} (hM : MW D o q d dz S s s.heap []) {res : Int32} {k62 : Int32 → Int32 → Int32 → Int32 → Int32 → Int32 → Int32 → Int32 → Option Int32} (Hk62 : ∀ (x1 : Int32) (x2 : Int32) (x4 : Int32) (x6 : Int32) (x7 : Int32) (x8 : Int32) (x9 : Int32) (x10 : Int32) (ls : Array Slot), k62 x1 x2 x4 x6 x7 x8 x9 x10 = some res → lv_has ls 12 [(0, .ref o), (1, .int x1), (2, .int x2), (4, .int x4), (6, .int x6), (7, .int x7), (8, .int x8), (9, .int x9), (10, .int x10)] → W p l e (rmL 3) s m args below meth c s.heap [] 0 0 (MQ below (k2_QcV (.int res)) args s 0 0 (fun _ => False)) (F0 m 62 ls [])) : ∀ (x1 : Int32) (x2 : Int32) (x4 : Int32) (x6 : Int32) (x8 : Int32) (x9 : Int32) (x10 : Int32) (x11 : Int32) (t0 : Int32) (t1 : Int32) (ls : Array Slot), fX3_beats_141 N S k62 x1 x2 x4 x6 x8 x9 x10 x11 t0 t1 = some res → lv_has ls 12 [(0, .ref o), (1, .int x1), (2, .int x2), (4, .int x4), (6, .int x6), (8, .int x8), (9, .int x9), (10, .int x10), (11, .int x11)] → W p l e (rmL 3) s m args below meth c s.heap [] 0 0 (MQ below (k2_QcV (.int res)) args s 0 0 (fun _ => False)) (F0 m 141 ls [.int t0, .int t1]) := by
  have hx := X.1
  have hb := X.2.1
  intro x1 x2 x4 x6 x8 x9 x10 x11 t0 t1 ls hf hl
  unfold fX3_beats_141 at hf
  refine lv_ior hx hb dX3_beats_141 ?_
  refine lv_topi (fun x7_10 ex => ?_)
  have hf := ec_lt_i ex hf
  refine lv_istore (lv' := [(7, .int x7_10), (0, .ref o), (1, .int x1), (2, .int x2), (4, .int x4), (6, .int x6), (8, .int x8), (9, .int x9), (10, .int x10), (11, .int x11)]) hx hb dX3_beats_142 hl (by decide) rfl (fun ls hl => ?_)
  refine lv_iload hx hb dX3_beats_144 (lv_at hl 7 rfl) ?_
  refine lv_aload_n hx hb dX3_beats_146 rfl (lv_at hl 1 rfl) ?_
  refine lv_iload hx hb dX3_beats_147 (lv_at hl 9 rfl) ?_
  refine lv_iload_n hx hb dX3_beats_149 rfl (lv_at hl 2 rfl) ?_
  obtain ⟨v_11, h, hf⟩ := ec_bi hf
  refine m_cR (v := .int v_11) (As := [.int x11, .int x1]) (rest := [.int x9]) X hM (metX3_made l D o q d dz S x11 x1 _ h) (cwV 2 X.2.2.2.2 gX3_251 rfl rfl rfl hX3_made ⟨Nat.le_of_ble_eq_true rfl, Nat.le_of_ble_eq_true rfl⟩) rfl hl.1 rfl (Nat.le_of_ble_eq_true rfl) ⟨Nat.zero_le _, Nat.zero_le _⟩ dX3_beats_150 ?_
  refine lv_iadd hx hb dX3_beats_153 ?_
  refine lv_topi (fun x9_12 ex => ?_)
  have hf := ec_lt_i ex hf
  refine lv_istore (lv' := [(9, .int x9_12), (7, .int x7_10), (0, .ref o), (1, .int x1), (2, .int x2), (4, .int x4), (6, .int x6), (8, .int x8), (10, .int x10), (11, .int x11)]) hx hb dX3_beats_154 hl (by decide) rfl (fun ls hl => ?_)
  refine e_inc (w := 1) (f := fun v => [(10, .int v), (9, .int x9_12), (7, .int x7_10), (0, .ref o), (1, .int x1), (2, .int x2), (4, .int x4), (6, .int x6), (8, .int x8), (11, .int x11)]) hx hb dX3_beats_156 hl (k := 8) rfl (by decide) (by decide) (fun _ => rfl) (fun x10_13 ex ls hl => ?_)
  have hf := ec_lt_i ex hf
  refine lv_goto (tgt := 62) hx hb dX3_beats_159 rfl ?_
  exact Hk62 x1 x2 x4 x6 x7_10 x8 x9_12 x10_13 _ hf (lv_sub hl [3, 4, 5, 6, 7, 2, 8, 1, 0] rfl)
noncomputable def fX3_beats_140 (N : Nat) (S : sM) (k62 : Int32 → Int32 → Int32 → Int32 → Int32 → Int32 → Int32 → Int32 → Option Int32) (x1 : Int32) (x2 : Int32) (x4 : Int32) (x6 : Int32) (x8 : Int32) (x9 : Int32) (x10 : Int32) (x11 : Int32) (t0 : Int32) : Option Int32 :=
  fX3_beats_141 N S k62 x1 x2 x4 x6 x8 x9 x10 x11 (0 : Int32) t0
theorem bX3_beats_140 {N : Nat} (X : CallFix p m c cX3_beats 12 s args lw_all RX3) (hr : meth.sig.returnType = (some .int)) (hlk : meth.locks = false) {S : sM} (hM : MW D o q d dz S s s.heap []) {res : Int32} {k62 : Int32 → Int32 → Int32 → Int32 → Int32 → Int32 → Int32 → Int32 → Option Int32} (Hk62 : ∀ (x1 : Int32) (x2 : Int32) (x4 : Int32) (x6 : Int32) (x7 : Int32) (x8 : Int32) (x9 : Int32) (x10 : Int32) (ls : Array Slot), k62 x1 x2 x4 x6 x7 x8 x9 x10 = some res → lv_has ls 12 [(0, .ref o), (1, .int x1), (2, .int x2), (4, .int x4), (6, .int x6), (7, .int x7), (8, .int x8), (9, .int x9), (10, .int x10)] → W p l e (rmL 3) s m args below meth c s.heap [] 0 0 (MQ below (k2_QcV (.int res)) args s 0 0 (fun _ => False)) (F0 m 62 ls [])) : ∀ (x1 : Int32) (x2 : Int32) (x4 : Int32) (x6 : Int32) (x8 : Int32) (x9 : Int32) (x10 : Int32) (x11 : Int32) (t0 : Int32) (ls : Array Slot), fX3_beats_140 N S k62 x1 x2 x4 x6 x8 x9 x10 x11 t0 = some res → lv_has ls 12 [(0, .ref o), (1, .int x1), (2, .int x2), (4, .int x4), (6, .int x6), (8, .int x8), (9, .int x9), (10, .int x10), (11, .int x11)] → W p l e (rmL 3) s m args below meth c s.heap [] 0 0 (MQ below (k2_QcV (.int res)) args s 0 0 (fun _ => False)) (F0 m 140 ls [.int t0]) := by
  have hx := X.1
  have hb := X.2.1
  intro x1 x2 x4 x6 x8 x9 x10 x11 t0 ls hf hl
  unfold fX3_beats_140 at hf
  refine lv_iconst (v := 0) hx hb dX3_beats_140 (by decide) ?_
  exact bX3_beats_141 X hr hlk hM Hk62 x1 x2 x4 x6 x8 x9 x10 x11 (0 : Int32) t0 _ hf hl
noncomputable def fX3_beats_100 (N : Nat) (S : sM) (k62 : Int32 → Int32 → Int32 → Int32 → Int32 → Int32 → Int32 → Int32 → Option Int32) (x1 : Int32) (x2 : Int32) (x4 : Int32) (x6 : Int32) (x7 : Int32) (x9 : Int32) (x10 : Int32) (x11 : Int32) (t0 : Int32) (t1 : Int32) : Option Int32 :=
  ec_lt (t1 ||| t0) fun x8_8 =>
  (fX3_made S x11 x1).bind fun v_9 =>
  if v_9 ≤ 0 then (
    fX3_beats_140 N S k62 x1 x2 x4 x6 x8_8 x9 x10 x11 x7)
  else (
    (fX3_made S x11 x1).bind fun v_14 =>
    (ec_rm x9 x6).bind fun v_15 =>
    if v_14 < (x6 - v_15) then (
      fX3_beats_140 N S k62 x1 x2 x4 x6 x8_8 x9 x10 x11 x7)
    else (
      fX3_beats_141 N S k62 x1 x2 x4 x6 x8_8 x9 x10 x11 ((1 : Int32) <<< (x11 &&& 31)) x7))
theorem bX3_beats_100 {N : Nat} (X : CallFix p m c cX3_beats 12 s args lw_all RX3) (hr : meth.sig.returnType = (some .int)) (hlk : meth.locks = false) {S : sM} (hM : MW D o q d dz S s s.heap []) {res : Int32} {k62 : Int32 → Int32 → Int32 → Int32 → Int32 → Int32 → Int32 → Int32 → Option Int32} (Hk62 : ∀ (x1 : Int32) (x2 : Int32) (x4 : Int32) (x6 : Int32) (x7 : Int32) (x8 : Int32) (x9 : Int32) (x10 : Int32) (ls : Array Slot), k62 x1 x2 x4 x6 x7 x8 x9 x10 = some res → lv_has ls 12 [(0, .ref o), (1, .int x1), (2, .int x2), (4, .int x4), (6, .int x6), (7, .int x7), (8, .int x8), (9, .int x9), (10, .int x10)] → W p l e (rmL 3) s m args below meth c s.heap [] 0 0 (MQ below (k2_QcV (.int res)) args s 0 0 (fun _ => False)) (F0 m 62 ls [])) : ∀ (x1 : Int32) (x2 : Int32) (x4 : Int32) (x6 : Int32) (x7 : Int32) (x9 : Int32) (x10 : Int32) (x11 : Int32) (t0 : Int32) (t1 : Int32) (ls : Array Slot), fX3_beats_100 N S k62 x1 x2 x4 x6 x7 x9 x10 x11 t0 t1 = some res → lv_has ls 12 [(0, .ref o), (1, .int x1), (2, .int x2), (4, .int x4), (6, .int x6), (7, .int x7), (9, .int x9), (10, .int x10), (11, .int x11)] → W p l e (rmL 3) s m args below meth c s.heap [] 0 0 (MQ below (k2_QcV (.int res)) args s 0 0 (fun _ => False)) (F0 m 100 ls [.int t0, .int t1]) := by
  have hx := X.1
  have hb := X.2.1
  intro x1 x2 x4 x6 x7 x9 x10 x11 t0 t1 ls hf hl
  unfold fX3_beats_100 at hf
  refine lv_ior hx hb dX3_beats_100 ?_
  refine lv_topi (fun x8_8 ex => ?_)
  have hf := ec_lt_i ex hf
  refine lv_istore (lv' := [(8, .int x8_8), (0, .ref o), (1, .int x1), (2, .int x2), (4, .int x4), (6, .int x6), (7, .int x7), (9, .int x9), (10, .int x10), (11, .int x11)]) hx hb dX3_beats_101 hl (by decide) rfl (fun ls hl => ?_)
  refine lv_iload hx hb dX3_beats_103 (lv_at hl 6 rfl) ?_
  refine lv_aload_n hx hb dX3_beats_105 rfl (lv_at hl 1 rfl) ?_
  refine lv_iload hx hb dX3_beats_106 (lv_at hl 9 rfl) ?_
  refine lv_iload_n hx hb dX3_beats_108 rfl (lv_at hl 2 rfl) ?_
  obtain ⟨v_9, h, hf⟩ := ec_bi hf
  refine m_cR (v := .int v_9) (As := [.int x11, .int x1]) (rest := [.int x7]) X hM (metX3_made l D o q d dz S x11 x1 _ h) (cwV 2 X.2.2.2.2 gX3_251 rfl rfl rfl hX3_made ⟨Nat.le_of_ble_eq_true rfl, Nat.le_of_ble_eq_true rfl⟩) rfl hl.1 rfl (Nat.le_of_ble_eq_true rfl) ⟨Nat.zero_le _, Nat.zero_le _⟩ dX3_beats_109 ?_
  refine lv_if_le (tgt := 140) hx hb dX3_beats_112 rfl (fun cnd => ?_) (fun cnd => ?_)
  · have hf := ec_t cnd hf
    exact bX3_beats_140 X hr hlk hM Hk62 x1 x2 x4 x6 x8_8 x9 x10 x11 x7 _ hf (lv_sub hl [1, 2, 3, 4, 5, 0, 7, 8, 9] rfl)
  · have hf := ec_f cnd hf
    refine lv_aload_n hx hb dX3_beats_115 rfl (lv_at hl 1 rfl) ?_
    refine lv_iload hx hb dX3_beats_116 (lv_at hl 9 rfl) ?_
    refine lv_iload_n hx hb dX3_beats_118 rfl (lv_at hl 2 rfl) ?_
    obtain ⟨v_14, h, hf⟩ := ec_bi hf
    refine m_cR (v := .int v_14) (As := [.int x11, .int x1]) (rest := [.int x7]) X hM (metX3_made l D o q d dz S x11 x1 _ h) (cwV 2 X.2.2.2.2 gX3_251 rfl rfl rfl hX3_made ⟨Nat.le_of_ble_eq_true rfl, Nat.le_of_ble_eq_true rfl⟩) rfl hl.1 rfl (Nat.le_of_ble_eq_true rfl) ⟨Nat.zero_le _, Nat.zero_le _⟩ dX3_beats_119 ?_
    refine lv_iload hx hb dX3_beats_122 (lv_at hl 5 rfl) ?_
    refine lv_iload hx hb dX3_beats_124 (lv_at hl 7 rfl) ?_
    refine lv_iload hx hb dX3_beats_126 (lv_at hl 5 rfl) ?_
    obtain ⟨v_15, h, hf⟩ := ec_bi hf
    refine e_rm hx hb h dX3_beats_128 ?_
    refine lv_isub hx hb dX3_beats_129 ?_
    refine lv_icmp_lt (tgt := 140) hx hb dX3_beats_130 rfl (fun cnd => ?_) (fun cnd => ?_)
    · have hf := ec_t cnd hf
      exact bX3_beats_140 X hr hlk hM Hk62 x1 x2 x4 x6 x8_8 x9 x10 x11 x7 _ hf (lv_sub hl [1, 2, 3, 4, 5, 0, 7, 8, 9] rfl)
    · have hf := ec_f cnd hf
      refine lv_iconst (v := 1) hx hb dX3_beats_133 (by decide) ?_
      refine lv_iload hx hb dX3_beats_134 (lv_at hl 9 rfl) ?_
      refine lv_ishl hx hb dX3_beats_136 ?_
      refine lv_goto (tgt := 141) hx hb dX3_beats_137 rfl ?_
      exact bX3_beats_141 X hr hlk hM Hk62 x1 x2 x4 x6 x8_8 x9 x10 x11 ((1 : Int32) <<< (x11 &&& 31)) x7 _ hf (lv_sub hl [1, 2, 3, 4, 5, 0, 7, 8, 9] rfl)
noncomputable def fX3_beats_62 (N : Nat) (S : sM) (kx162 : Int32 → Int32 → Int32 → Int32 → Int32 → Option Int32) : Nat → Int32 → Int32 → Int32 → Int32 → Int32 → Int32 → Int32 → Int32 → Option Int32
  | 0, _, _, _, _, _, _, _, _ => none
  | n + 1, x1, x2, x4, x6, x7, x8, x9, x10 =>
    if (S.1 7) ≤ x10 then (
      kx162 x2 x4 x6 x7 x8)
    else (
      (ec_ag (S.2.2 8) 6000 x10).bind fun v_6 =>
      (fX3_made S v_6 x1).bind fun v_7 =>
      if v_7 ≤ 0 then (
        fX3_beats_100 N S (fX3_beats_62 N S kx162 n) x1 x2 x4 x6 x7 x9 x10 v_6 (0 : Int32) x8)
      else (
        fX3_beats_100 N S (fX3_beats_62 N S kx162 n) x1 x2 x4 x6 x7 x9 x10 v_6 ((1 : Int32) <<< (v_6 &&& 31)) x8))
theorem bX3_beats_62 {N : Nat} (X : CallFix p m c cX3_beats 12 s args lw_all RX3) (hr : meth.sig.returnType = (some .int)) (hlk : meth.locks = false) {S : sM} (hM : MW D o q d dz S s s.heap []) {res : Int32} {kx162 : Int32 → Int32 → Int32 → Int32 → Int32 → Option Int32} (Hkx162 : ∀ (x2 : Int32) (x4 : Int32) (x6 : Int32) (x7 : Int32) (x8 : Int32) (ls : Array Slot), kx162 x2 x4 x6 x7 x8 = some res → lv_has ls 12 [(0, .ref o), (2, .int x2), (4, .int x4), (6, .int x6), (7, .int x7), (8, .int x8)] → W p l e (rmL 3) s m args below meth c s.heap [] 0 0 (MQ below (k2_QcV (.int res)) args s 0 0 (fun _ => False)) (F0 m 162 ls [])) : ∀ (n : Nat) (x1 : Int32) (x2 : Int32) (x4 : Int32) (x6 : Int32) (x7 : Int32) (x8 : Int32) (x9 : Int32) (x10 : Int32) (ls : Array Slot), fX3_beats_62 N S kx162 n x1 x2 x4 x6 x7 x8 x9 x10 = some res → lv_has ls 12 [(0, .ref o), (1, .int x1), (2, .int x2), (4, .int x4), (6, .int x6), (7, .int x7), (8, .int x8), (9, .int x9), (10, .int x10)] → W p l e (rmL 3) s m args below meth c s.heap [] 0 0 (MQ below (k2_QcV (.int res)) args s 0 0 (fun _ => False)) (F0 m 62 ls []) := by
  have hx := X.1
  have hb := X.2.1
  intro n
  induction n with
  | zero =>
    intro x1 x2 x4 x6 x7 x8 x9 x10 ls hf hl
    rw [fX3_beats_62] at hf
    cases hf
  | succ n ih =>
    intro x1 x2 x4 x6 x7 x8 x9 x10 ls hf hl
    rw [fX3_beats_62] at hf
    refine lv_iload hx hb dX3_beats_62 (lv_at hl 8 rfl) ?_
    refine lv_aload_n hx hb dX3_beats_64 rfl (lv_at hl 0 rfl) ?_
    refine m_get (v := .int (S.1 7)) X hM 7 (by decide) q981 rfl rfl dX3_beats_65 ?_
    refine lv_icmp_ge (tgt := 162) hx hb dX3_beats_68 rfl (fun cnd => ?_) (fun cnd => ?_)
    · have hf := ec_t cnd hf
      exact Hkx162 x2 x4 x6 x7 x8 _ hf (lv_sub hl [0, 2, 3, 4, 5, 6] rfl)
    · have hf := ec_f cnd hf
      refine lv_aload_n hx hb dX3_beats_71 rfl (lv_at hl 0 rfl) ?_
      refine m_get (v := .ref (q 8)) X hM 8 (by decide) q982 rfl rfl dX3_beats_72 ?_
      refine lv_iload hx hb dX3_beats_75 (lv_at hl 8 rfl) ?_
      obtain ⟨v_6, h, hf⟩ := ec_bi hf
      refine m_iald X hM wma8 h dX3_beats_77 ?_
      refine lv_istore (lv' := [(11, .int v_6), (0, .ref o), (1, .int x1), (2, .int x2), (4, .int x4), (6, .int x6), (7, .int x7), (8, .int x8), (9, .int x9), (10, .int x10)]) hx hb dX3_beats_78 hl (by decide) rfl (fun ls hl => ?_)
      refine lv_iload hx hb dX3_beats_80 (lv_at hl 7 rfl) ?_
      refine lv_aload_n hx hb dX3_beats_82 rfl (lv_at hl 1 rfl) ?_
      refine lv_iload hx hb dX3_beats_83 (lv_at hl 0 rfl) ?_
      refine lv_iload_n hx hb dX3_beats_85 rfl (lv_at hl 2 rfl) ?_
      obtain ⟨v_7, h, hf⟩ := ec_bi hf
      refine m_cR (v := .int v_7) (As := [.int v_6, .int x1]) (rest := [.int x8]) X hM (metX3_made l D o q d dz S v_6 x1 _ h) (cwV 2 X.2.2.2.2 gX3_251 rfl rfl rfl hX3_made ⟨Nat.le_of_ble_eq_true rfl, Nat.le_of_ble_eq_true rfl⟩) rfl hl.1 rfl (Nat.le_of_ble_eq_true rfl) ⟨Nat.zero_le _, Nat.zero_le _⟩ dX3_beats_86 ?_
      refine lv_if_le (tgt := 99) hx hb dX3_beats_89 rfl (fun cnd => ?_) (fun cnd => ?_)
      · have hf := ec_t cnd hf
        refine lv_iconst (v := 0) hx hb dX3_beats_99 (by decide) ?_
        exact bX3_beats_100 X hr hlk hM ih x1 x2 x4 x6 x7 x9 x10 v_6 (0 : Int32) x8 _ hf (lv_sub hl [1, 2, 3, 4, 5, 6, 8, 9, 0] rfl)
      · have hf := ec_f cnd hf
        refine lv_iconst (v := 1) hx hb dX3_beats_92 (by decide) ?_
        refine lv_iload hx hb dX3_beats_93 (lv_at hl 0 rfl) ?_
        refine lv_ishl hx hb dX3_beats_95 ?_
        refine lv_goto (tgt := 100) hx hb dX3_beats_96 rfl ?_
        exact bX3_beats_100 X hr hlk hM ih x1 x2 x4 x6 x7 x9 x10 v_6 ((1 : Int32) <<< (v_6 &&& 31)) x8 _ hf (lv_sub hl [1, 2, 3, 4, 5, 6, 8, 9, 0] rfl)
noncomputable def fX3_beats (N : Nat) (S : sM) (x1 : Int32) (x2 : Int32) (x3 : Int32) (x4 : Int32) : Option Int32 :=
  (fX3_isSampling x1 x2 x3 (0 : Int32)).bind fun v_1 =>
  if v_1 = 0 then (
    fX3_beats_23 N S)
  else (
    (fX3_in (x4.toInt64) (0 : Int64) (2 : Int64)).bind fun v_2 =>
    if ¬ v_2 = 0 then (
      (fX3_total N S x1).bind fun v_3 =>
      if ¬ v_3 = 0 then (
        (fX3_common N (x2.toInt64) (v_3.toInt64)).bind fun v_4 =>
        ec_lt (v_4.toInt32) fun x6_5 =>
        fX3_beats_62 N S (fun x2_16 x4_17 x6_18 x7_19 x8_20 =>
          if ¬ x4_17 = 0 then (
            if ¬ x4_17 = (1 : Int32) then (
              (ec_dv x2_16 x6_18).bind fun v_21 =>
              some v_21)
            else (
              some (x8_20 &&& (x7_19 ^^^ (-1 : Int32)))))
          else (
            some x7_19)) N x1 x2 x4 x6_5 (0 : Int32) (0 : Int32) x3 (0 : Int32))
      else (
        some (0 : Int32)))
    else (
      fX3_beats_23 N S))
theorem metX3_beats (l : Launch) (D : va_G) (o : Nat) (q : Nat → Nat) (d dz : ClassId) (N : Nat) (S : sM) (x1 : Int32) (x2 : Int32) (x3 : Int32) (x4 : Int32) (res : Int32) (hf : fX3_beats N S x1 x2 x3 x4 = some res) : Met l yX3_beats (ws_ yX3_beats cX3_beats 12 (some .int)) (rmL 3) (MPre D o q d dz S [.int x1, .int x2, .int x3, .int x4]) (k2_QcV (.int res)) 0 0 (fun _ => False) := by
  refine m_ofR rfl (Nat.le_of_ble_eq_true rfl) (fun p e s m args below meth c X hr hlk hM ls hl => ?_)
  have hl : lv_has ls 12 [(0, .ref o), (1, .int x1), (2, .int x2), (3, .int x3), (4, .int x4)] := hl
  have hx := X.1
  have hb := X.2.1
  unfold fX3_beats at hf
  refine lv_iload_n hx hb dX3_beats_0 rfl (lv_at hl 1 rfl) ?_
  refine lv_iload_n hx hb dX3_beats_1 rfl (lv_at hl 2 rfl) ?_
  refine lv_iload_n hx hb dX3_beats_2 rfl (lv_at hl 3 rfl) ?_
  refine lv_iconst (v := 0) hx hb dX3_beats_3 (by decide) ?_
  obtain ⟨v_1, h, hf⟩ := ec_bi hf
  refine e_cS (v := .int v_1) (As := [.int x1, .int x2, .int x3, .int (0 : Int32)]) (rest := []) X (metX3_isSampling l x1 x2 x3 (0 : Int32) _ h) (va_cwS 4 X.2.2.2.2 gX3_335 rfl rfl rfl hX3_isSampling ⟨Nat.le_of_ble_eq_true rfl, Nat.le_of_ble_eq_true rfl⟩) rfl hl.1 rfl (Nat.le_of_ble_eq_true rfl) ⟨Nat.zero_le _, Nat.zero_le _⟩ dX3_beats_4 ?_
  refine lv_if_eq (tgt := 23) hx hb dX3_beats_7 rfl (fun cnd => ?_) (fun cnd => ?_)
  · have hf := ec_t cnd hf
    exact bX3_beats_23 X hr hlk hM _ hf (lv_sub hl [0] rfl)
  · have hf := ec_f cnd hf
    refine lv_iload hx hb dX3_beats_10 (lv_at hl 4 rfl) ?_
    refine lv_i2l hx hb dX3_beats_12 rfl ?_
    refine lv_lconst (v := 0) hx hb dX3_beats_13 (by decide) ?_
    refine lv_ldc2 (own := RX3) (v := 2) hx hb X.2.2.2.1 (X.2.2.2.2 _ q1321) dX3_beats_14 ?_
    obtain ⟨v_2, h, hf⟩ := ec_bi hf
    refine e_cS (v := .int v_2) (As := [.long (x4.toInt64), .long (0 : Int64), .long (2 : Int64)]) (rest := []) X (metX3_in l (x4.toInt64) (0 : Int64) (2 : Int64) _ h) (va_cwS 3 X.2.2.2.2 gX3_124 rfl rfl rfl hX3_in ⟨Nat.le_of_ble_eq_true rfl, Nat.le_of_ble_eq_true rfl⟩) rfl hl.1 rfl (Nat.le_of_ble_eq_true rfl) ⟨Nat.zero_le _, Nat.zero_le _⟩ dX3_beats_17 ?_
    refine lv_if_ne (tgt := 25) hx hb dX3_beats_20 rfl (fun cnd => ?_) (fun cnd => ?_)
    · have hf := ec_t cnd hf
      refine lv_aload_n hx hb dX3_beats_25 rfl (lv_at hl 0 rfl) ?_
      refine lv_iload_n hx hb dX3_beats_26 rfl (lv_at hl 1 rfl) ?_
      obtain ⟨v_3, h, hf⟩ := ec_bi hf
      refine m_cR (v := .int v_3) (As := [.int x1]) (rest := []) X hM (metX3_total l D o q d dz N S x1 _ h) (cwV 1 X.2.2.2.2 gX3_257 rfl rfl rfl hX3_total ⟨Nat.le_of_ble_eq_true rfl, Nat.le_of_ble_eq_true rfl⟩) rfl hl.1 rfl (Nat.le_of_ble_eq_true rfl) ⟨Nat.zero_le _, Nat.zero_le _⟩ dX3_beats_27 ?_
      refine lv_istore (lv' := [(5, .int v_3), (0, .ref o), (1, .int x1), (2, .int x2), (3, .int x3), (4, .int x4)]) hx hb dX3_beats_30 hl (by decide) rfl (fun ls hl => ?_)
      refine lv_iload hx hb dX3_beats_32 (lv_at hl 0 rfl) ?_
      refine lv_if_ne (tgt := 39) hx hb dX3_beats_34 rfl (fun cnd => ?_) (fun cnd => ?_)
      · have hf := ec_t cnd hf
        refine lv_iload_n hx hb dX3_beats_39 rfl (lv_at hl 3 rfl) ?_
        refine lv_i2l hx hb dX3_beats_40 rfl ?_
        refine lv_iload hx hb dX3_beats_41 (lv_at hl 0 rfl) ?_
        refine lv_i2l hx hb dX3_beats_43 rfl ?_
        obtain ⟨v_4, h, hf⟩ := ec_bi hf
        refine e_cS (v := .long v_4) (As := [.long (x2.toInt64), .long (v_3.toInt64)]) (rest := []) X (metX3_common l N (x2.toInt64) (v_3.toInt64) _ h) (va_cwS 2 X.2.2.2.2 gX3_115 rfl rfl rfl hX3_common ⟨Nat.le_of_ble_eq_true rfl, Nat.le_of_ble_eq_true rfl⟩) rfl hl.1 rfl (Nat.le_of_ble_eq_true rfl) ⟨Nat.zero_le _, Nat.zero_le _⟩ dX3_beats_44 ?_
        refine lv_l2i hx hb dX3_beats_47 rfl ?_
        refine lv_topi (fun x6_5 ex => ?_)
        have hf := ec_lt_i ex hf
        refine lv_istore (lv' := [(6, .int x6_5), (5, .int v_3), (0, .ref o), (1, .int x1), (2, .int x2), (3, .int x3), (4, .int x4)]) hx hb dX3_beats_48 hl (by decide) rfl (fun ls hl => ?_)
        refine lv_iconst (v := 0) hx hb dX3_beats_50 (by decide) ?_
        refine lv_istore (lv' := [(7, .int (0 : Int32)), (6, .int x6_5), (5, .int v_3), (0, .ref o), (1, .int x1), (2, .int x2), (3, .int x3), (4, .int x4)]) hx hb dX3_beats_51 hl (by decide) rfl (fun ls hl => ?_)
        refine lv_iconst (v := 0) hx hb dX3_beats_53 (by decide) ?_
        refine lv_istore (lv' := [(8, .int (0 : Int32)), (7, .int (0 : Int32)), (6, .int x6_5), (5, .int v_3), (0, .ref o), (1, .int x1), (2, .int x2), (3, .int x3), (4, .int x4)]) hx hb dX3_beats_54 hl (by decide) rfl (fun ls hl => ?_)
        refine lv_iload_n hx hb dX3_beats_56 rfl (lv_at hl 7 rfl) ?_
        refine lv_istore (lv' := [(9, .int x3), (8, .int (0 : Int32)), (7, .int (0 : Int32)), (6, .int x6_5), (5, .int v_3), (0, .ref o), (1, .int x1), (2, .int x2), (3, .int x3), (4, .int x4)]) hx hb dX3_beats_57 hl (by decide) rfl (fun ls hl => ?_)
        refine lv_iconst (v := 0) hx hb dX3_beats_59 (by decide) ?_
        refine lv_istore (lv' := [(10, .int (0 : Int32)), (9, .int x3), (8, .int (0 : Int32)), (7, .int (0 : Int32)), (6, .int x6_5), (5, .int v_3), (0, .ref o), (1, .int x1), (2, .int x2), (3, .int x3), (4, .int x4)]) hx hb dX3_beats_60 hl (by decide) rfl (fun ls hl => ?_)
        exact bX3_beats_62 X hr hlk hM (fun x2_16 x4_17 x6_18 x7_19 x8_20 ls hf hl => by
          refine lv_iload hx hb dX3_beats_162 (lv_at hl 2 rfl) ?_
          refine lv_if_ne (tgt := 172) hx hb dX3_beats_164 rfl (fun cnd => ?_) (fun cnd => ?_)
          · have hf := ec_t cnd hf
            refine lv_iload hx hb dX3_beats_172 (lv_at hl 2 rfl) ?_
            refine lv_iconst (v := 1) hx hb dX3_beats_174 (by decide) ?_
            refine lv_icmp_ne (tgt := 188) hx hb dX3_beats_175 rfl (fun cnd => ?_) (fun cnd => ?_)
            · have hf := ec_t cnd hf
              refine lv_iload_n hx hb dX3_beats_188 rfl (lv_at hl 1 rfl) ?_
              refine lv_iload hx hb dX3_beats_189 (lv_at hl 3 rfl) ?_
              obtain ⟨v_21, h, hf⟩ := ec_bi hf
              refine e_dv hx hb h dX3_beats_191 ?_
              obtain rfl := Option.some.inj hf
              exact e_iretR hx hb hr hlk dX3_beats_192
            · have hf := ec_f (not_not_intro cnd) hf
              refine lv_iload hx hb dX3_beats_178 (lv_at hl 5 rfl) ?_
              refine lv_iload hx hb dX3_beats_180 (lv_at hl 4 rfl) ?_
              refine lv_iconst (v := -1) hx hb dX3_beats_182 (by decide) ?_
              refine lv_ixor hx hb dX3_beats_183 ?_
              refine lv_iand hx hb dX3_beats_184 ?_
              refine lv_goto (tgt := 192) hx hb dX3_beats_185 rfl ?_
              obtain rfl := Option.some.inj hf
              exact e_iretR hx hb hr hlk dX3_beats_192
          · have hf := ec_f (not_not_intro cnd) hf
            refine lv_iload hx hb dX3_beats_167 (lv_at hl 4 rfl) ?_
            refine lv_goto (tgt := 192) hx hb dX3_beats_169 rfl ?_
            obtain rfl := Option.some.inj hf
            exact e_iretR hx hb hr hlk dX3_beats_192) N x1 x2 x4 x6_5 (0 : Int32) (0 : Int32) x3 (0 : Int32) _ hf (lv_sub hl [6, 7, 8, 10, 4, 3, 2, 1, 0] rfl)
      · have hf := ec_f (not_not_intro cnd) hf
        refine lv_iconst (v := 0) hx hb dX3_beats_37 (by decide) ?_
        obtain rfl := Option.some.inj hf
        exact e_iretR hx hb hr hlk dX3_beats_38
    · have hf := ec_f (not_not_intro cnd) hf
      exact bX3_beats_23 X hr hlk hM _ hf (lv_sub hl [0] rfl)
theorem hX3_beats : yX3_beats.cls = RX3 ∧ yX3_beats.cls ≠ "java/lang/invoke/MethodHandle" ∧ yX3_beats.cls ≠ "java/lang/invoke/VarHandle" ∧ (parseMethodDescriptor yX3_beats.desc).map (fun d => d.parameters.length) = some 4 := by decide +kernel

noncomputable def fX3_canCount_33 (S : sM) : Option Int32 :=
  some (0 : Int32)
theorem bX3_canCount_33 (X : CallFix p m c cX3_canCount 3 s args lw_all RX3) (hr : meth.sig.returnType = (some .boolean)) (hlk : meth.locks = false) {S : sM} (hM : MW D o q d dz S s s.heap []) {res : Int32} : ∀ (ls : Array Slot), fX3_canCount_33 S = some res → lv_has ls 3 [(0, .ref o)] → W p l e (rmL 2) s m args below meth c s.heap [] 0 0 (MQ below (k2_QcV (.int res)) args s 0 0 (fun _ => False)) (F0 m 33 ls []) := by
  have hx := X.1
  have hb := X.2.1
  intro ls hf hl
  unfold fX3_canCount_33 at hf
  refine lv_iconst (v := 0) hx hb dX3_canCount_33 (by decide) ?_
  obtain rfl := Option.some.inj hf
  exact e_zretR hx hb hr hlk rfl dX3_canCount_34
noncomputable def fX3_canCount (S : sM) (x1 : Int32) (x2 : Int32) : Option Int32 :=
  (fX3_isCounter S x1).bind fun v_1 =>
  if v_1 = 0 then (
    fX3_canCount_33 S)
  else (
    (fX3_isEvent x2).bind fun v_2 =>
    if v_2 = 0 then (
      fX3_canCount_33 S)
    else (
      (ec_ag (S.2.2 37) 4 x1).bind fun v_3 =>
      if ¬ ((v_3 >>> (x2 &&& 31)) &&& (1 : Int32)) = (1 : Int32) then (
        fX3_canCount_33 S)
      else (
        some (1 : Int32))))
theorem metX3_canCount (l : Launch) (D : va_G) (o : Nat) (q : Nat → Nat) (d dz : ClassId) (S : sM) (x1 : Int32) (x2 : Int32) (res : Int32) (hf : fX3_canCount S x1 x2 = some res) : Met l yX3_canCount (ws_ yX3_canCount cX3_canCount 3 (some .boolean)) (rmL 2) (MPre D o q d dz S [.int x1, .int x2]) (k2_QcV (.int res)) 0 0 (fun _ => False) := by
  refine m_ofR rfl (Nat.le_of_ble_eq_true rfl) (fun p e s m args below meth c X hr hlk hM ls hl => ?_)
  have hl : lv_has ls 3 [(0, .ref o), (1, .int x1), (2, .int x2)] := hl
  have hx := X.1
  have hb := X.2.1
  unfold fX3_canCount at hf
  refine lv_aload_n hx hb dX3_canCount_0 rfl (lv_at hl 0 rfl) ?_
  refine lv_iload_n hx hb dX3_canCount_1 rfl (lv_at hl 1 rfl) ?_
  obtain ⟨v_1, h, hf⟩ := ec_bi hf
  refine m_cR (v := .int v_1) (As := [.int x1]) (rest := []) X hM (metX3_isCounter l D o q d dz S x1 _ h) (cwV 1 X.2.2.2.2 gX3_279 rfl rfl rfl hX3_isCounter ⟨Nat.le_of_ble_eq_true rfl, Nat.le_of_ble_eq_true rfl⟩) rfl hl.1 rfl (Nat.le_of_ble_eq_true rfl) ⟨Nat.zero_le _, Nat.zero_le _⟩ dX3_canCount_2 ?_
  refine lv_if_eq (tgt := 33) hx hb dX3_canCount_5 rfl (fun cnd => ?_) (fun cnd => ?_)
  · have hf := ec_t cnd hf
    exact bX3_canCount_33 X hr hlk hM _ hf (lv_sub hl [0] rfl)
  · have hf := ec_f cnd hf
    refine lv_iload_n hx hb dX3_canCount_8 rfl (lv_at hl 2 rfl) ?_
    obtain ⟨v_2, h, hf⟩ := ec_bi hf
    refine e_cS (v := .int v_2) (As := [.int x2]) (rest := []) X (metX3_isEvent l x2 _ h) (va_cwS 1 X.2.2.2.2 gX3_260 rfl rfl rfl hX3_isEvent ⟨Nat.le_of_ble_eq_true rfl, Nat.le_of_ble_eq_true rfl⟩) rfl hl.1 rfl (Nat.le_of_ble_eq_true rfl) ⟨Nat.zero_le _, Nat.zero_le _⟩ dX3_canCount_9 ?_
    refine lv_if_eq (tgt := 33) hx hb dX3_canCount_12 rfl (fun cnd => ?_) (fun cnd => ?_)
    · have hf := ec_t cnd hf
      exact bX3_canCount_33 X hr hlk hM _ hf (lv_sub hl [0] rfl)
    · have hf := ec_f cnd hf
      refine lv_aload_n hx hb dX3_canCount_15 rfl (lv_at hl 0 rfl) ?_
      refine m_get (v := .ref (q 37)) X hM 37 (by decide) q1011 rfl rfl dX3_canCount_16 ?_
      refine lv_iload_n hx hb dX3_canCount_19 rfl (lv_at hl 1 rfl) ?_
      obtain ⟨v_3, h, hf⟩ := ec_bi hf
      refine m_iald X hM wma37 h dX3_canCount_20 ?_
      refine lv_iload_n hx hb dX3_canCount_21 rfl (lv_at hl 2 rfl) ?_
      refine lv_ishr hx hb dX3_canCount_22 ?_
      refine lv_iconst (v := 1) hx hb dX3_canCount_23 (by decide) ?_
      refine lv_iand hx hb dX3_canCount_24 ?_
      refine lv_iconst (v := 1) hx hb dX3_canCount_25 (by decide) ?_
      refine lv_icmp_ne (tgt := 33) hx hb dX3_canCount_26 rfl (fun cnd => ?_) (fun cnd => ?_)
      · have hf := ec_t cnd hf
        exact bX3_canCount_33 X hr hlk hM _ hf (lv_sub hl [0] rfl)
      · have hf := ec_f (not_not_intro cnd) hf
        refine lv_iconst (v := 1) hx hb dX3_canCount_29 (by decide) ?_
        refine lv_goto (tgt := 34) hx hb dX3_canCount_30 rfl ?_
        obtain rfl := Option.some.inj hf
        exact e_zretR hx hb hr hlk rfl dX3_canCount_34
theorem hX3_canCount : yX3_canCount.cls = RX3 ∧ yX3_canCount.cls ≠ "java/lang/invoke/MethodHandle" ∧ yX3_canCount.cls ≠ "java/lang/invoke/VarHandle" ∧ (parseMethodDescriptor yX3_canCount.desc).map (fun d => d.parameters.length) = some 2 := by decide +kernel

theorem gX3_352 : GoodIn lw_all (wsV RX3 352 RX3 yX3_canCount (ws_ yX3_canCount cX3_canCount 3 (some .boolean))) := lw_V q1413 q1415 qs55 q63 q1416
noncomputable def fX3_over_40 (N : Nat) (S : sM) : Option Int32 :=
  some (-1 : Int32)
theorem bX3_over_40 {N : Nat} (X : CallFix p m c cX3_over 6 s args lw_all RX3) (hr : meth.sig.returnType = (some .int)) (hlk : meth.locks = false) {S : sM} (hM : MW D o q d dz S s s.heap []) {res : Int32} : ∀ (ls : Array Slot), fX3_over_40 N S = some res → lv_has ls 6 [(0, .ref o)] → W p l e (rmL 3) s m args below meth c s.heap [] 0 0 (MQ below (k2_QcV (.int res)) args s 0 0 (fun _ => False)) (F0 m 40 ls []) := by
  have hx := X.1
  have hb := X.2.1
  intro ls hf hl
  unfold fX3_over_40 at hf
  refine lv_iconst (v := -1) hx hb dX3_over_40 (by decide) ?_
  obtain rfl := Option.some.inj hf
  exact e_iretR hx hb hr hlk dX3_over_41
noncomputable def fX3_over (N : Nat) (S : sM) (x1 : Int32) (x2 : Int32) (x3 : Int32) (x4 : Int32) : Option Int32 :=
  (fX3_canCount S x1 x2).bind fun v_1 =>
  if v_1 = 0 then (
    fX3_over_40 N S)
  else (
    (ec_ag (S.2.2 38) 4 x1).bind fun v_2 =>
    (fX3_in (x3.toInt64) (0 : Int64) ((((1 : Int32) <<< (v_2 &&& 31)) - (1 : Int32)).toInt64)).bind fun v_3 =>
    if v_3 = 0 then (
      fX3_over_40 N S)
    else (
      (fX3_in (x4.toInt64) (0 : Int64) (1 : Int64)).bind fun v_4 =>
      if ¬ v_4 = 0 then (
        (fX3_total N S x2).bind fun v_5 =>
        ec_lt (x3 + v_5) fun x5_6 =>
        if ¬ x4 = 0 then (
          (ec_ag (S.2.2 38) 4 x1).bind fun v_7 =>
          some (x5_6 >>> (v_7 &&& 31)))
        else (
          (ec_ag (S.2.2 38) 4 x1).bind fun v_8 =>
          some (x5_6 &&& (((1 : Int32) <<< (v_8 &&& 31)) - (1 : Int32)))))
      else (
        fX3_over_40 N S)))
theorem metX3_over (l : Launch) (D : va_G) (o : Nat) (q : Nat → Nat) (d dz : ClassId) (N : Nat) (S : sM) (x1 : Int32) (x2 : Int32) (x3 : Int32) (x4 : Int32) (res : Int32) (hf : fX3_over N S x1 x2 x3 x4 = some res) : Met l yX3_over (ws_ yX3_over cX3_over 6 (some .int)) (rmL 3) (MPre D o q d dz S [.int x1, .int x2, .int x3, .int x4]) (k2_QcV (.int res)) 0 0 (fun _ => False) := by
  refine m_ofR rfl (Nat.le_of_ble_eq_true rfl) (fun p e s m args below meth c X hr hlk hM ls hl => ?_)
  have hl : lv_has ls 6 [(0, .ref o), (1, .int x1), (2, .int x2), (3, .int x3), (4, .int x4)] := hl
  have hx := X.1
  have hb := X.2.1
  unfold fX3_over at hf
  refine lv_aload_n hx hb dX3_over_0 rfl (lv_at hl 0 rfl) ?_
  refine lv_iload_n hx hb dX3_over_1 rfl (lv_at hl 1 rfl) ?_
  refine lv_iload_n hx hb dX3_over_2 rfl (lv_at hl 2 rfl) ?_
  obtain ⟨v_1, h, hf⟩ := ec_bi hf
  refine m_cR (v := .int v_1) (As := [.int x1, .int x2]) (rest := []) X hM (metX3_canCount l D o q d dz S x1 x2 _ h) (cwV 2 X.2.2.2.2 gX3_352 rfl rfl rfl hX3_canCount ⟨Nat.le_of_ble_eq_true rfl, Nat.le_of_ble_eq_true rfl⟩) rfl hl.1 rfl (Nat.le_of_ble_eq_true rfl) ⟨Nat.zero_le _, Nat.zero_le _⟩ dX3_over_3 ?_
  refine lv_if_eq (tgt := 40) hx hb dX3_over_6 rfl (fun cnd => ?_) (fun cnd => ?_)
  · have hf := ec_t cnd hf
    exact bX3_over_40 X hr hlk hM _ hf (lv_sub hl [0] rfl)
  · have hf := ec_f cnd hf
    refine lv_iload_n hx hb dX3_over_9 rfl (lv_at hl 3 rfl) ?_
    refine lv_i2l hx hb dX3_over_10 rfl ?_
    refine lv_lconst (v := 0) hx hb dX3_over_11 (by decide) ?_
    refine lv_iconst (v := 1) hx hb dX3_over_12 (by decide) ?_
    refine lv_aload_n hx hb dX3_over_13 rfl (lv_at hl 0 rfl) ?_
    refine m_get (v := .ref (q 38)) X hM 38 (by decide) q1012 rfl rfl dX3_over_14 ?_
    refine lv_iload_n hx hb dX3_over_17 rfl (lv_at hl 1 rfl) ?_
    obtain ⟨v_2, h, hf⟩ := ec_bi hf
    refine m_iald X hM wma38 h dX3_over_18 ?_
    refine lv_ishl hx hb dX3_over_19 ?_
    refine lv_iconst (v := 1) hx hb dX3_over_20 (by decide) ?_
    refine lv_isub hx hb dX3_over_21 ?_
    refine lv_i2l hx hb dX3_over_22 rfl ?_
    obtain ⟨v_3, h, hf⟩ := ec_bi hf
    refine e_cS (v := .int v_3) (As := [.long (x3.toInt64), .long (0 : Int64), .long ((((1 : Int32) <<< (v_2 &&& 31)) - (1 : Int32)).toInt64)]) (rest := []) X (metX3_in l (x3.toInt64) (0 : Int64) ((((1 : Int32) <<< (v_2 &&& 31)) - (1 : Int32)).toInt64) _ h) (va_cwS 3 X.2.2.2.2 gX3_124 rfl rfl rfl hX3_in ⟨Nat.le_of_ble_eq_true rfl, Nat.le_of_ble_eq_true rfl⟩) rfl hl.1 rfl (Nat.le_of_ble_eq_true rfl) ⟨Nat.zero_le _, Nat.zero_le _⟩ dX3_over_23 ?_
    refine lv_if_eq (tgt := 40) hx hb dX3_over_26 rfl (fun cnd => ?_) (fun cnd => ?_)
    · have hf := ec_t cnd hf
      exact bX3_over_40 X hr hlk hM _ hf (lv_sub hl [0] rfl)
    · have hf := ec_f cnd hf
      refine lv_iload hx hb dX3_over_29 (lv_at hl 4 rfl) ?_
      refine lv_i2l hx hb dX3_over_31 rfl ?_
      refine lv_lconst (v := 0) hx hb dX3_over_32 (by decide) ?_
      refine lv_lconst (v := 1) hx hb dX3_over_33 (by decide) ?_
      obtain ⟨v_4, h, hf⟩ := ec_bi hf
      refine e_cS (v := .int v_4) (As := [.long (x4.toInt64), .long (0 : Int64), .long (1 : Int64)]) (rest := []) X (metX3_in l (x4.toInt64) (0 : Int64) (1 : Int64) _ h) (va_cwS 3 X.2.2.2.2 gX3_124 rfl rfl rfl hX3_in ⟨Nat.le_of_ble_eq_true rfl, Nat.le_of_ble_eq_true rfl⟩) rfl hl.1 rfl (Nat.le_of_ble_eq_true rfl) ⟨Nat.zero_le _, Nat.zero_le _⟩ dX3_over_34 ?_
      refine lv_if_ne (tgt := 42) hx hb dX3_over_37 rfl (fun cnd => ?_) (fun cnd => ?_)
      · have hf := ec_t cnd hf
        refine lv_iload_n hx hb dX3_over_42 rfl (lv_at hl 3 rfl) ?_
        refine lv_aload_n hx hb dX3_over_43 rfl (lv_at hl 0 rfl) ?_
        refine lv_iload_n hx hb dX3_over_44 rfl (lv_at hl 2 rfl) ?_
        obtain ⟨v_5, h, hf⟩ := ec_bi hf
        refine m_cR (v := .int v_5) (As := [.int x2]) (rest := [.int x3]) X hM (metX3_total l D o q d dz N S x2 _ h) (cwV 1 X.2.2.2.2 gX3_257 rfl rfl rfl hX3_total ⟨Nat.le_of_ble_eq_true rfl, Nat.le_of_ble_eq_true rfl⟩) rfl hl.1 rfl (Nat.le_of_ble_eq_true rfl) ⟨Nat.zero_le _, Nat.zero_le _⟩ dX3_over_45 ?_
        refine lv_iadd hx hb dX3_over_48 ?_
        refine lv_topi (fun x5_6 ex => ?_)
        have hf := ec_lt_i ex hf
        refine lv_istore (lv' := [(5, .int x5_6), (0, .ref o), (1, .int x1), (2, .int x2), (3, .int x3), (4, .int x4)]) hx hb dX3_over_49 hl (by decide) rfl (fun ls hl => ?_)
        refine lv_iload hx hb dX3_over_51 (lv_at hl 5 rfl) ?_
        refine lv_if_ne (tgt := 72) hx hb dX3_over_53 rfl (fun cnd => ?_) (fun cnd => ?_)
        · have hf := ec_t cnd hf
          refine lv_iload hx hb dX3_over_72 (lv_at hl 0 rfl) ?_
          refine lv_aload_n hx hb dX3_over_74 rfl (lv_at hl 1 rfl) ?_
          refine m_get (v := .ref (q 38)) X hM 38 (by decide) q1012 rfl rfl dX3_over_75 ?_
          refine lv_iload_n hx hb dX3_over_78 rfl (lv_at hl 2 rfl) ?_
          obtain ⟨v_7, h, hf⟩ := ec_bi hf
          refine m_iald X hM wma38 h dX3_over_79 ?_
          refine lv_ishr hx hb dX3_over_80 ?_
          obtain rfl := Option.some.inj hf
          exact e_iretR hx hb hr hlk dX3_over_81
        · have hf := ec_f (not_not_intro cnd) hf
          refine lv_iload hx hb dX3_over_56 (lv_at hl 0 rfl) ?_
          refine lv_iconst (v := 1) hx hb dX3_over_58 (by decide) ?_
          refine lv_aload_n hx hb dX3_over_59 rfl (lv_at hl 1 rfl) ?_
          refine m_get (v := .ref (q 38)) X hM 38 (by decide) q1012 rfl rfl dX3_over_60 ?_
          refine lv_iload_n hx hb dX3_over_63 rfl (lv_at hl 2 rfl) ?_
          obtain ⟨v_8, h, hf⟩ := ec_bi hf
          refine m_iald X hM wma38 h dX3_over_64 ?_
          refine lv_ishl hx hb dX3_over_65 ?_
          refine lv_iconst (v := 1) hx hb dX3_over_66 (by decide) ?_
          refine lv_isub hx hb dX3_over_67 ?_
          refine lv_iand hx hb dX3_over_68 ?_
          refine lv_goto (tgt := 81) hx hb dX3_over_69 rfl ?_
          obtain rfl := Option.some.inj hf
          exact e_iretR hx hb hr hlk dX3_over_81
      · have hf := ec_f (not_not_intro cnd) hf
        exact bX3_over_40 X hr hlk hM _ hf (lv_sub hl [0] rfl)
theorem hX3_over : yX3_over.cls = RX3 ∧ yX3_over.cls ≠ "java/lang/invoke/MethodHandle" ∧ yX3_over.cls ≠ "java/lang/invoke/VarHandle" ∧ (parseMethodDescriptor yX3_over.desc).map (fun d => d.parameters.length) = some 4 := by decide +kernel

noncomputable def fX3_toldBy_78 (N : Nat) (k30 : sM → Int32 → Int32 → Int32 → Int32 → Int32 → Int32 → Int32 → Int32 → Option (Int32 × sM)) (S : sM) (x2 : Int32) (x3 : Int32) (x4 : Int32) (x5 : Int32) (x7 : Int32) (x8 : Int32) (x9 : Int32) : Option (Int32 × sM) :=
  (ec_ag (S.2.2 8) 6000 x9).bind fun v_4 =>
  (fX3_made S v_4 x2).bind fun v_5 =>
  ec_lt (x7 + v_5) fun x7_6 =>
  (ec_ag (S.2.2 8) 6000 x9).bind fun v_7 =>
  (ec_ag (S.2.2 1) 16 v_7).bind fun v_8 =>
  ec_lt (x5 + v_8) fun x5_9 =>
  ec_lt (x9 + (1 : Int32)) fun x9_10 =>
  k30 S x2 x3 x4 x5_9 x5 x7_6 x8 x9_10
theorem bX3_toldBy_78 {N : Nat} (X : CallFix p m c cX3_toldBy 10 s args lw_all RX3) (hr : meth.sig.returnType = (some .int)) (hlk : meth.locks = false) (hG : MG o q) {res : Int32} {Sr : sM} {k30 : sM → Int32 → Int32 → Int32 → Int32 → Int32 → Int32 → Int32 → Int32 → Option (Int32 × sM)} (Hk30 : ∀ (S : sM) (x2 : Int32) (x3 : Int32) (x4 : Int32) (x5 : Int32) (x6 : Int32) (x7 : Int32) (x8 : Int32) (x9 : Int32) (H : Heap) (locs : List Loc) (ls : Array Slot), k30 S x2 x3 x4 x5 x6 x7 x8 x9 = some (res, Sr) → MW D o q d dz S s H locs → lv_has ls 10 [(0, .ref o), (2, .int x2), (3, .int x3), (4, .int x4), (5, .int x5), (6, .int x6), (7, .int x7), (8, .int x8), (9, .int x9)] → W p l e (rmL 1) s m args below meth c H locs 0 0 (MQ below (MPost D o q d dz (some (.int res)) Sr) args s 0 0 (AM o q)) (F0 m 30 ls [])) : ∀ (S : sM) (x2 : Int32) (x3 : Int32) (x4 : Int32) (x5 : Int32) (x7 : Int32) (x8 : Int32) (x9 : Int32) (H : Heap) (locs : List Loc) (ls : Array Slot), fX3_toldBy_78 N k30 S x2 x3 x4 x5 x7 x8 x9 = some (res, Sr) → MW D o q d dz S s H locs → lv_has ls 10 [(0, .ref o), (2, .int x2), (3, .int x3), (4, .int x4), (5, .int x5), (7, .int x7), (8, .int x8), (9, .int x9)] → W p l e (rmL 1) s m args below meth c H locs 0 0 (MQ below (MPost D o q d dz (some (.int res)) Sr) args s 0 0 (AM o q)) (F0 m 78 ls []) := by
  have hx := X.1
  have hb := X.2.1
  intro S x2 x3 x4 x5 x7 x8 x9 H locs ls hf hM hl
  unfold fX3_toldBy_78 at hf
  refine lv_iload hx hb dX3_toldBy_78 (lv_at hl 4 rfl) ?_
  refine lv_istore (lv' := [(6, .int x5), (0, .ref o), (2, .int x2), (3, .int x3), (4, .int x4), (5, .int x5), (7, .int x7), (8, .int x8), (9, .int x9)]) hx hb dX3_toldBy_80 hl (by decide) rfl (fun ls hl => ?_)
  refine lv_iload hx hb dX3_toldBy_82 (lv_at hl 6 rfl) ?_
  refine lv_aload_n hx hb dX3_toldBy_84 rfl (lv_at hl 1 rfl) ?_
  refine lv_aload_n hx hb dX3_toldBy_85 rfl (lv_at hl 1 rfl) ?_
  refine m_get (v := .ref (q 8)) X hM 8 (by decide) q982 rfl rfl dX3_toldBy_86 ?_
  refine lv_iload hx hb dX3_toldBy_89 (lv_at hl 8 rfl) ?_
  obtain ⟨v_4, h, hf⟩ := ec_bi hf
  refine m_iald X hM wma8 h dX3_toldBy_91 ?_
  refine lv_iload_n hx hb dX3_toldBy_92 rfl (lv_at hl 2 rfl) ?_
  obtain ⟨v_5, h, hf⟩ := ec_bi hf
  refine m_cR (v := .int v_5) (As := [.int v_4, .int x2]) (rest := [.int x7]) X hM (metX3_made l D o q d dz S v_4 x2 _ h) (cwV 2 X.2.2.2.2 gX3_251 rfl rfl rfl hX3_made ⟨Nat.le_of_ble_eq_true rfl, Nat.le_of_ble_eq_true rfl⟩) rfl hl.1 rfl (Nat.le_of_ble_eq_true rfl) ⟨Nat.zero_le _, Nat.zero_le _⟩ dX3_toldBy_93 ?_
  refine lv_iadd hx hb dX3_toldBy_96 ?_
  refine lv_topi (fun x7_6 ex => ?_)
  have hf := ec_lt_i ex hf
  refine lv_istore (lv' := [(7, .int x7_6), (6, .int x5), (0, .ref o), (2, .int x2), (3, .int x3), (4, .int x4), (5, .int x5), (8, .int x8), (9, .int x9)]) hx hb dX3_toldBy_97 hl (by decide) rfl (fun ls hl => ?_)
  refine lv_iload hx hb dX3_toldBy_99 (lv_at hl 6 rfl) ?_
  refine lv_aload_n hx hb dX3_toldBy_101 rfl (lv_at hl 2 rfl) ?_
  refine m_get (v := .ref (q 1)) X hM 1 (by decide) q975 rfl rfl dX3_toldBy_102 ?_
  refine lv_aload_n hx hb dX3_toldBy_105 rfl (lv_at hl 2 rfl) ?_
  refine m_get (v := .ref (q 8)) X hM 8 (by decide) q982 rfl rfl dX3_toldBy_106 ?_
  refine lv_iload hx hb dX3_toldBy_109 (lv_at hl 8 rfl) ?_
  obtain ⟨v_7, h, hf⟩ := ec_bi hf
  refine m_iald X hM wma8 h dX3_toldBy_111 ?_
  obtain ⟨v_8, h, hf⟩ := ec_bi hf
  refine m_iald X hM wma1 h dX3_toldBy_112 ?_
  refine lv_iadd hx hb dX3_toldBy_113 ?_
  refine lv_topi (fun x5_9 ex => ?_)
  have hf := ec_lt_i ex hf
  refine lv_istore (lv' := [(5, .int x5_9), (7, .int x7_6), (6, .int x5), (0, .ref o), (2, .int x2), (3, .int x3), (4, .int x4), (8, .int x8), (9, .int x9)]) hx hb dX3_toldBy_114 hl (by decide) rfl (fun ls hl => ?_)
  refine e_inc (w := 1) (f := fun v => [(9, .int v), (5, .int x5_9), (7, .int x7_6), (6, .int x5), (0, .ref o), (2, .int x2), (3, .int x3), (4, .int x4), (8, .int x8)]) hx hb dX3_toldBy_116 hl (k := 8) rfl (by decide) (by decide) (fun _ => rfl) (fun x9_10 ex ls hl => ?_)
  have hf := ec_lt_i ex hf
  refine lv_goto (tgt := 30) hx hb dX3_toldBy_119 rfl ?_
  exact Hk30 S x2 x3 x4 x5_9 x5 x7_6 x8 x9_10 _ _ _ hf hM (lv_sub hl [4, 5, 6, 7, 1, 3, 2, 8, 0] rfl)
noncomputable def fX3_toldBy_30 (N : Nat) (kx122 : sM → Int32 → Int32 → Int32 → Option (Int32 × sM)) : Nat → sM → Int32 → Int32 → Int32 → Int32 → Int32 → Int32 → Int32 → Int32 → Option (Int32 × sM)
  | 0, _, _, _, _, _, _, _, _, _ => none
  | n + 1, S, x2, x3, x4, x5, x6, x7, x8, x9 =>
    if (S.1 7) ≤ x9 then (
      kx122 S x4 x7 x8)
    else (
      if x9 ≤ 0 then (
        fX3_toldBy_78 N (fX3_toldBy_30 N kx122 n) S x2 x3 x4 x5 x7 x8 x9)
      else (
        (ec_dv x5 x3).bind fun v_11 =>
        (ec_dv x6 x3).bind fun v_12 =>
        if v_11 = v_12 then (
          fX3_toldBy_78 N (fX3_toldBy_30 N kx122 n) S x2 x3 x4 x5 x7 x8 x9)
        else (
          ec_lt (mI S 48 ((S.1 48) + (1 : Int32))) fun S_13 =>
          (ec_rm x7 x4).bind fun v_14 =>
          ec_lt (x8 + v_14) fun x8_15 =>
          fX3_toldBy_78 N (fX3_toldBy_30 N kx122 n) S_13 x2 x3 x4 x5 (0 : Int32) x8_15 x9)))
theorem bX3_toldBy_30 {N : Nat} (X : CallFix p m c cX3_toldBy 10 s args lw_all RX3) (hr : meth.sig.returnType = (some .int)) (hlk : meth.locks = false) (hG : MG o q) {res : Int32} {Sr : sM} {kx122 : sM → Int32 → Int32 → Int32 → Option (Int32 × sM)} (Hkx122 : ∀ (S : sM) (x4 : Int32) (x7 : Int32) (x8 : Int32) (H : Heap) (locs : List Loc) (ls : Array Slot), kx122 S x4 x7 x8 = some (res, Sr) → MW D o q d dz S s H locs → lv_has ls 10 [(0, .ref o), (4, .int x4), (7, .int x7), (8, .int x8)] → W p l e (rmL 1) s m args below meth c H locs 0 0 (MQ below (MPost D o q d dz (some (.int res)) Sr) args s 0 0 (AM o q)) (F0 m 122 ls [])) : ∀ (n : Nat) (S : sM) (x2 : Int32) (x3 : Int32) (x4 : Int32) (x5 : Int32) (x6 : Int32) (x7 : Int32) (x8 : Int32) (x9 : Int32) (H : Heap) (locs : List Loc) (ls : Array Slot), fX3_toldBy_30 N kx122 n S x2 x3 x4 x5 x6 x7 x8 x9 = some (res, Sr) → MW D o q d dz S s H locs → lv_has ls 10 [(0, .ref o), (2, .int x2), (3, .int x3), (4, .int x4), (5, .int x5), (6, .int x6), (7, .int x7), (8, .int x8), (9, .int x9)] → W p l e (rmL 1) s m args below meth c H locs 0 0 (MQ below (MPost D o q d dz (some (.int res)) Sr) args s 0 0 (AM o q)) (F0 m 30 ls []) := by
  have hx := X.1
  have hb := X.2.1
  intro n
  induction n with
  | zero =>
    intro S x2 x3 x4 x5 x6 x7 x8 x9 H locs ls hf hM hl
    rw [fX3_toldBy_30] at hf
    cases hf
  | succ n ih =>
    intro S x2 x3 x4 x5 x6 x7 x8 x9 H locs ls hf hM hl
    rw [fX3_toldBy_30] at hf
    refine lv_iload hx hb dX3_toldBy_30 (lv_at hl 8 rfl) ?_
    refine lv_aload_n hx hb dX3_toldBy_32 rfl (lv_at hl 0 rfl) ?_
    refine m_get (v := .int (S.1 7)) X hM 7 (by decide) q981 rfl rfl dX3_toldBy_33 ?_
    refine lv_icmp_ge (tgt := 122) hx hb dX3_toldBy_36 rfl (fun cnd => ?_) (fun cnd => ?_)
    · have hf := ec_t cnd hf
      exact Hkx122 S x4 x7 x8 _ _ _ hf hM (lv_sub hl [0, 3, 6, 7] rfl)
    · have hf := ec_f cnd hf
      refine lv_iload hx hb dX3_toldBy_39 (lv_at hl 8 rfl) ?_
      refine lv_if_le (tgt := 78) hx hb dX3_toldBy_41 rfl (fun cnd => ?_) (fun cnd => ?_)
      · have hf := ec_t cnd hf
        exact bX3_toldBy_78 X hr hlk hG ih S x2 x3 x4 x5 x7 x8 x9 _ _ _ hf hM (lv_sub hl [0, 1, 2, 3, 4, 6, 7, 8] rfl)
      · have hf := ec_f cnd hf
        refine lv_iload hx hb dX3_toldBy_44 (lv_at hl 4 rfl) ?_
        refine lv_iload_n hx hb dX3_toldBy_46 rfl (lv_at hl 2 rfl) ?_
        obtain ⟨v_11, h, hf⟩ := ec_bi hf
        refine e_dv hx hb h dX3_toldBy_47 ?_
        refine lv_iload hx hb dX3_toldBy_48 (lv_at hl 5 rfl) ?_
        refine lv_iload_n hx hb dX3_toldBy_50 rfl (lv_at hl 2 rfl) ?_
        obtain ⟨v_12, h, hf⟩ := ec_bi hf
        refine e_dv hx hb h dX3_toldBy_51 ?_
        refine lv_icmp_eq (tgt := 78) hx hb dX3_toldBy_52 rfl (fun cnd => ?_) (fun cnd => ?_)
        · have hf := ec_t cnd hf
          exact bX3_toldBy_78 X hr hlk hG ih S x2 x3 x4 x5 x7 x8 x9 _ _ _ hf hM (lv_sub hl [0, 1, 2, 3, 4, 6, 7, 8] rfl)
        · have hf := ec_f cnd hf
          refine lv_aload_n hx hb dX3_toldBy_55 rfl (lv_at hl 0 rfl) ?_
          refine lv_dup hx hb dX3_toldBy_56 rfl ?_
          refine m_get (v := .int (S.1 48)) X hM 48 (by decide) q1022 rfl rfl dX3_toldBy_57 ?_
          refine lv_iconst (v := 1) hx hb dX3_toldBy_60 (by decide) ?_
          refine lv_iadd hx hb dX3_toldBy_61 ?_
          refine m_puti X hG hM 48 (by decide) q1022 rfl rfl mfd48 (wmi48 _) dX3_toldBy_62 (fun S_13 H locs eS hM => ?_)
          have hf := ec_lt_i eS hf
          refine lv_iload hx hb dX3_toldBy_65 (lv_at hl 7 rfl) ?_
          refine lv_iload hx hb dX3_toldBy_67 (lv_at hl 6 rfl) ?_
          refine lv_iload hx hb dX3_toldBy_69 (lv_at hl 3 rfl) ?_
          obtain ⟨v_14, h, hf⟩ := ec_bi hf
          refine e_rm hx hb h dX3_toldBy_71 ?_
          refine lv_iadd hx hb dX3_toldBy_72 ?_
          refine lv_topi (fun x8_15 ex => ?_)
          have hf := ec_lt_i ex hf
          refine lv_istore (lv' := [(8, .int x8_15), (0, .ref o), (2, .int x2), (3, .int x3), (4, .int x4), (5, .int x5), (6, .int x6), (7, .int x7), (9, .int x9)]) hx hb dX3_toldBy_73 hl (by decide) rfl (fun ls hl => ?_)
          refine lv_iconst (v := 0) hx hb dX3_toldBy_75 (by decide) ?_
          refine lv_istore (lv' := [(7, .int (0 : Int32)), (8, .int x8_15), (0, .ref o), (2, .int x2), (3, .int x3), (4, .int x4), (5, .int x5), (6, .int x6), (9, .int x9)]) hx hb dX3_toldBy_76 hl (by decide) rfl (fun ls hl => ?_)
          exact bX3_toldBy_78 X hr hlk hG ih S_13 x2 x3 x4 x5 (0 : Int32) x8_15 x9 _ _ _ hf hM (lv_sub hl [2, 3, 4, 5, 6, 0, 1, 8] rfl)
noncomputable def fX3_toldBy (N : Nat) (S : sM) (x1 : Int32) (x2 : Int32) (x3 : Int32) : Option (Int32 × sM) :=
  (ec_ag (S.2.2 38) 4 x1).bind fun v_1 =>
  ec_lt ((1 : Int32) <<< (v_1 &&& 31)) fun x4_2 =>
  ec_lt (mI S 48 (1 : Int32)) fun S_3 =>
  fX3_toldBy_30 N (fun S_16 x4_17 x7_18 x8_19 =>
    (ec_rm x7_18 x4_17).bind fun v_20 =>
    some ((x8_19 + v_20), S_16)) N S_3 x2 x3 x4_2 (0 : Int32) (0 : Int32) (0 : Int32) (0 : Int32) (0 : Int32)
theorem metX3_toldBy (l : Launch) (D : va_G) (o : Nat) (q : Nat → Nat) (d dz : ClassId) (hG : MG o q) (N : Nat) (S : sM) (x1 : Int32) (x2 : Int32) (x3 : Int32) (res : Int32) (Sr : sM) (hf : fX3_toldBy N S x1 x2 x3 = some (res, Sr)) : Met l yX3_toldBy (ws_ yX3_toldBy cX3_toldBy 10 (some .int)) (rmL 1) (MPre D o q d dz S [.int x1, .int x2, .int x3]) (MPost D o q d dz (some (.int res)) Sr) 0 0 (AM o q) := by
  refine m_ofW rfl (Nat.le_of_ble_eq_true rfl) (fun p e s m args below meth c X hr hlk hM ls hl => ?_)
  have hl : lv_has ls 10 [(0, .ref o), (1, .int x1), (2, .int x2), (3, .int x3)] := hl
  have hx := X.1
  have hb := X.2.1
  unfold fX3_toldBy at hf
  refine lv_iconst (v := 1) hx hb dX3_toldBy_0 (by decide) ?_
  refine lv_aload_n hx hb dX3_toldBy_1 rfl (lv_at hl 0 rfl) ?_
  refine m_get (v := .ref (q 38)) X hM 38 (by decide) q1012 rfl rfl dX3_toldBy_2 ?_
  refine lv_iload_n hx hb dX3_toldBy_5 rfl (lv_at hl 1 rfl) ?_
  obtain ⟨v_1, h, hf⟩ := ec_bi hf
  refine m_iald X hM wma38 h dX3_toldBy_6 ?_
  refine lv_ishl hx hb dX3_toldBy_7 ?_
  refine lv_topi (fun x4_2 ex => ?_)
  have hf := ec_lt_i ex hf
  refine lv_istore (lv' := [(4, .int x4_2), (0, .ref o), (1, .int x1), (2, .int x2), (3, .int x3)]) hx hb dX3_toldBy_8 hl (by decide) rfl (fun ls hl => ?_)
  refine lv_iconst (v := 0) hx hb dX3_toldBy_10 (by decide) ?_
  refine lv_istore (lv' := [(5, .int (0 : Int32)), (4, .int x4_2), (0, .ref o), (1, .int x1), (2, .int x2), (3, .int x3)]) hx hb dX3_toldBy_11 hl (by decide) rfl (fun ls hl => ?_)
  refine lv_iconst (v := 0) hx hb dX3_toldBy_13 (by decide) ?_
  refine lv_istore (lv' := [(6, .int (0 : Int32)), (5, .int (0 : Int32)), (4, .int x4_2), (0, .ref o), (1, .int x1), (2, .int x2), (3, .int x3)]) hx hb dX3_toldBy_14 hl (by decide) rfl (fun ls hl => ?_)
  refine lv_iconst (v := 0) hx hb dX3_toldBy_16 (by decide) ?_
  refine lv_istore (lv' := [(7, .int (0 : Int32)), (6, .int (0 : Int32)), (5, .int (0 : Int32)), (4, .int x4_2), (0, .ref o), (1, .int x1), (2, .int x2), (3, .int x3)]) hx hb dX3_toldBy_17 hl (by decide) rfl (fun ls hl => ?_)
  refine lv_iconst (v := 0) hx hb dX3_toldBy_19 (by decide) ?_
  refine lv_istore (lv' := [(8, .int (0 : Int32)), (7, .int (0 : Int32)), (6, .int (0 : Int32)), (5, .int (0 : Int32)), (4, .int x4_2), (0, .ref o), (1, .int x1), (2, .int x2), (3, .int x3)]) hx hb dX3_toldBy_20 hl (by decide) rfl (fun ls hl => ?_)
  refine lv_aload_n hx hb dX3_toldBy_22 rfl (lv_at hl 5 rfl) ?_
  refine lv_iconst (v := 1) hx hb dX3_toldBy_23 (by decide) ?_
  refine m_puti X hG hM 48 (by decide) q1022 rfl rfl mfd48 (wmi48 _) dX3_toldBy_24 (fun S_3 H locs eS hM => ?_)
  have hf := ec_lt_i eS hf
  refine lv_iconst (v := 0) hx hb dX3_toldBy_27 (by decide) ?_
  refine lv_istore (lv' := [(9, .int (0 : Int32)), (8, .int (0 : Int32)), (7, .int (0 : Int32)), (6, .int (0 : Int32)), (5, .int (0 : Int32)), (4, .int x4_2), (0, .ref o), (1, .int x1), (2, .int x2), (3, .int x3)]) hx hb dX3_toldBy_28 hl (by decide) rfl (fun ls hl => ?_)
  exact bX3_toldBy_30 X hr hlk hG (fun S_16 x4_17 x7_18 x8_19 H locs ls hf hM hl => by
    refine lv_iload hx hb dX3_toldBy_122 (lv_at hl 3 rfl) ?_
    refine lv_iload hx hb dX3_toldBy_124 (lv_at hl 2 rfl) ?_
    refine lv_iload hx hb dX3_toldBy_126 (lv_at hl 1 rfl) ?_
    obtain ⟨v_20, h, hf⟩ := ec_bi hf
    refine e_rm hx hb h dX3_toldBy_128 ?_
    refine lv_iadd hx hb dX3_toldBy_129 ?_
    obtain ⟨rfl, rfl⟩ := Prod.mk.inj (Option.some.inj hf)
    exact m_iret X hr hlk hM dX3_toldBy_130) N S_3 x2 x3 x4_2 (0 : Int32) (0 : Int32) (0 : Int32) (0 : Int32) (0 : Int32) _ _ _ hf hM (lv_sub hl [6, 8, 9, 5, 4, 3, 2, 1, 0] rfl)
theorem hX3_toldBy : yX3_toldBy.cls = RX3 ∧ yX3_toldBy.cls ≠ "java/lang/invoke/MethodHandle" ∧ yX3_toldBy.cls ≠ "java/lang/invoke/VarHandle" ∧ (parseMethodDescriptor yX3_toldBy.desc).map (fun d => d.parameters.length) = some 3 := by decide +kernel

theorem gX3_358 : GoodIn lw_all (wsV RX3 358 RX3 yX3_toldBy (ws_ yX3_toldBy cX3_toldBy 10 (some .int))) := lw_V q1421 q1423 qs56 q63 q1424
noncomputable def fX3_looked_34 (N : Nat) (S : sM) : Option (Int32 × sM) :=
  some ((-1 : Int32), S)
theorem bX3_looked_34 {N : Nat} (X : CallFix p m c cX3_looked 6 s args lw_all RX3) (hr : meth.sig.returnType = (some .int)) (hlk : meth.locks = false) (hG : MG o q) {res : Int32} {Sr : sM} : ∀ (S : sM) (H : Heap) (locs : List Loc) (ls : Array Slot), fX3_looked_34 N S = some (res, Sr) → MW D o q d dz S s H locs → lv_has ls 6 [(0, .ref o)] → W p l e (rmL 3) s m args below meth c H locs 0 0 (MQ below (MPost D o q d dz (some (.int res)) Sr) args s 0 0 (AM o q)) (F0 m 34 ls []) := by
  have hx := X.1
  have hb := X.2.1
  intro S H locs ls hf hM hl
  unfold fX3_looked_34 at hf
  refine lv_iconst (v := -1) hx hb dX3_looked_34 (by decide) ?_
  obtain ⟨rfl, rfl⟩ := Prod.mk.inj (Option.some.inj hf)
  exact m_iret X hr hlk hM dX3_looked_35
noncomputable def fX3_looked (N : Nat) (S : sM) (x1 : Int32) (x2 : Int32) (x3 : Int32) (x4 : Int32) : Option (Int32 × sM) :=
  (fX3_canCount S x1 x2).bind fun v_1 =>
  if v_1 = 0 then (
    fX3_looked_34 N S)
  else (
    (fX3_in (x3.toInt64) (1 : Int64) (999 : Int64)).bind fun v_2 =>
    if v_2 = 0 then (
      fX3_looked_34 N S)
    else (
      (fX3_in (x4.toInt64) (0 : Int64) (2 : Int64)).bind fun v_3 =>
      if ¬ v_3 = 0 then (
        ec_b2 (fX3_toldBy N S x1 x2 x3) fun v_5 S_4 =>
        if ¬ x4 = 0 then (
          if ¬ x4 = (1 : Int32) then (
            some ((S_4.1 48), S_4))
          else (
            (fX3_total N S_4 x2).bind fun v_6 =>
            some ((v_6 - v_5), S_4)))
        else (
          some (v_5, S_4)))
      else (
        fX3_looked_34 N S)))
theorem metX3_looked (l : Launch) (D : va_G) (o : Nat) (q : Nat → Nat) (d dz : ClassId) (hG : MG o q) (N : Nat) (S : sM) (x1 : Int32) (x2 : Int32) (x3 : Int32) (x4 : Int32) (res : Int32) (Sr : sM) (hf : fX3_looked N S x1 x2 x3 x4 = some (res, Sr)) : Met l yX3_looked (ws_ yX3_looked cX3_looked 6 (some .int)) (rmL 3) (MPre D o q d dz S [.int x1, .int x2, .int x3, .int x4]) (MPost D o q d dz (some (.int res)) Sr) 0 0 (AM o q) := by
  refine m_ofW rfl (Nat.le_of_ble_eq_true rfl) (fun p e s m args below meth c X hr hlk hM ls hl => ?_)
  have hl : lv_has ls 6 [(0, .ref o), (1, .int x1), (2, .int x2), (3, .int x3), (4, .int x4)] := hl
  have hx := X.1
  have hb := X.2.1
  unfold fX3_looked at hf
  refine lv_aload_n hx hb dX3_looked_0 rfl (lv_at hl 0 rfl) ?_
  refine lv_iload_n hx hb dX3_looked_1 rfl (lv_at hl 1 rfl) ?_
  refine lv_iload_n hx hb dX3_looked_2 rfl (lv_at hl 2 rfl) ?_
  obtain ⟨v_1, h, hf⟩ := ec_bi hf
  refine m_cR (v := .int v_1) (As := [.int x1, .int x2]) (rest := []) X hM (metX3_canCount l D o q d dz S x1 x2 _ h) (cwV 2 X.2.2.2.2 gX3_352 rfl rfl rfl hX3_canCount ⟨Nat.le_of_ble_eq_true rfl, Nat.le_of_ble_eq_true rfl⟩) rfl hl.1 rfl (Nat.le_of_ble_eq_true rfl) ⟨Nat.zero_le _, Nat.zero_le _⟩ dX3_looked_3 ?_
  refine lv_if_eq (tgt := 34) hx hb dX3_looked_6 rfl (fun cnd => ?_) (fun cnd => ?_)
  · have hf := ec_t cnd hf
    exact bX3_looked_34 X hr hlk hG S _ _ _ hf hM (lv_sub hl [0] rfl)
  · have hf := ec_f cnd hf
    refine lv_iload_n hx hb dX3_looked_9 rfl (lv_at hl 3 rfl) ?_
    refine lv_i2l hx hb dX3_looked_10 rfl ?_
    refine lv_lconst (v := 1) hx hb dX3_looked_11 (by decide) ?_
    refine lv_ldc2 (own := RX3) (v := 999) hx hb X.2.2.2.1 (X.2.2.2.2 _ q1353) dX3_looked_12 ?_
    obtain ⟨v_2, h, hf⟩ := ec_bi hf
    refine e_cS (v := .int v_2) (As := [.long (x3.toInt64), .long (1 : Int64), .long (999 : Int64)]) (rest := []) X (metX3_in l (x3.toInt64) (1 : Int64) (999 : Int64) _ h) (va_cwS 3 X.2.2.2.2 gX3_124 rfl rfl rfl hX3_in ⟨Nat.le_of_ble_eq_true rfl, Nat.le_of_ble_eq_true rfl⟩) rfl hl.1 rfl (Nat.le_of_ble_eq_true rfl) ⟨Nat.zero_le _, Nat.zero_le _⟩ dX3_looked_15 ?_
    refine lv_if_eq (tgt := 34) hx hb dX3_looked_18 rfl (fun cnd => ?_) (fun cnd => ?_)
    · have hf := ec_t cnd hf
      exact bX3_looked_34 X hr hlk hG S _ _ _ hf hM (lv_sub hl [0] rfl)
    · have hf := ec_f cnd hf
      refine lv_iload hx hb dX3_looked_21 (lv_at hl 4 rfl) ?_
      refine lv_i2l hx hb dX3_looked_23 rfl ?_
      refine lv_lconst (v := 0) hx hb dX3_looked_24 (by decide) ?_
      refine lv_ldc2 (own := RX3) (v := 2) hx hb X.2.2.2.1 (X.2.2.2.2 _ q1321) dX3_looked_25 ?_
      obtain ⟨v_3, h, hf⟩ := ec_bi hf
      refine e_cS (v := .int v_3) (As := [.long (x4.toInt64), .long (0 : Int64), .long (2 : Int64)]) (rest := []) X (metX3_in l (x4.toInt64) (0 : Int64) (2 : Int64) _ h) (va_cwS 3 X.2.2.2.2 gX3_124 rfl rfl rfl hX3_in ⟨Nat.le_of_ble_eq_true rfl, Nat.le_of_ble_eq_true rfl⟩) rfl hl.1 rfl (Nat.le_of_ble_eq_true rfl) ⟨Nat.zero_le _, Nat.zero_le _⟩ dX3_looked_28 ?_
      refine lv_if_ne (tgt := 36) hx hb dX3_looked_31 rfl (fun cnd => ?_) (fun cnd => ?_)
      · have hf := ec_t cnd hf
        refine lv_aload_n hx hb dX3_looked_36 rfl (lv_at hl 0 rfl) ?_
        refine lv_iload_n hx hb dX3_looked_37 rfl (lv_at hl 1 rfl) ?_
        refine lv_iload_n hx hb dX3_looked_38 rfl (lv_at hl 2 rfl) ?_
        refine lv_iload_n hx hb dX3_looked_39 rfl (lv_at hl 3 rfl) ?_
        obtain ⟨v_5, S_4, h, hf⟩ := ec_b2i hf
        refine m_cWi (v := .int v_5) (As := [.int x1, .int x2, .int x3]) (rest := []) X hM (metX3_toldBy l D o q d dz hG N S x1 x2 x3 _ _ h) (cwV 3 X.2.2.2.2 gX3_358 rfl rfl rfl hX3_toldBy ⟨Nat.le_of_ble_eq_true rfl, Nat.le_of_ble_eq_true rfl⟩) rfl hl.1 rfl (Nat.le_of_ble_eq_true rfl) ⟨Nat.zero_le _, Nat.zero_le _⟩ dX3_looked_40 (fun H locs hM => ?_)
        refine lv_istore (lv' := [(5, .int v_5), (0, .ref o), (1, .int x1), (2, .int x2), (3, .int x3), (4, .int x4)]) hx hb dX3_looked_43 hl (by decide) rfl (fun ls hl => ?_)
        refine lv_iload hx hb dX3_looked_45 (lv_at hl 5 rfl) ?_
        refine lv_if_ne (tgt := 55) hx hb dX3_looked_47 rfl (fun cnd => ?_) (fun cnd => ?_)
        · have hf := ec_t cnd hf
          refine lv_iload hx hb dX3_looked_55 (lv_at hl 5 rfl) ?_
          refine lv_iconst (v := 1) hx hb dX3_looked_57 (by decide) ?_
          refine lv_icmp_ne (tgt := 72) hx hb dX3_looked_58 rfl (fun cnd => ?_) (fun cnd => ?_)
          · have hf := ec_t cnd hf
            refine lv_aload_n hx hb dX3_looked_72 rfl (lv_at hl 1 rfl) ?_
            refine m_get (v := .int (S_4.1 48)) X hM 48 (by decide) q1022 rfl rfl dX3_looked_73 ?_
            obtain ⟨rfl, rfl⟩ := Prod.mk.inj (Option.some.inj hf)
            exact m_iret X hr hlk hM dX3_looked_76
          · have hf := ec_f (not_not_intro cnd) hf
            refine lv_aload_n hx hb dX3_looked_61 rfl (lv_at hl 1 rfl) ?_
            refine lv_iload_n hx hb dX3_looked_62 rfl (lv_at hl 3 rfl) ?_
            obtain ⟨v_6, h, hf⟩ := ec_bi hf
            refine m_cR (v := .int v_6) (As := [.int x2]) (rest := []) X hM (metX3_total l D o q d dz N S_4 x2 _ h) (cwV 1 X.2.2.2.2 gX3_257 rfl rfl rfl hX3_total ⟨Nat.le_of_ble_eq_true rfl, Nat.le_of_ble_eq_true rfl⟩) rfl hl.1 rfl (Nat.le_of_ble_eq_true rfl) ⟨Nat.zero_le _, Nat.zero_le _⟩ dX3_looked_63 ?_
            refine lv_iload hx hb dX3_looked_66 (lv_at hl 0 rfl) ?_
            refine lv_isub hx hb dX3_looked_68 ?_
            refine lv_goto (tgt := 76) hx hb dX3_looked_69 rfl ?_
            obtain ⟨rfl, rfl⟩ := Prod.mk.inj (Option.some.inj hf)
            exact m_iret X hr hlk hM dX3_looked_76
        · have hf := ec_f (not_not_intro cnd) hf
          refine lv_iload hx hb dX3_looked_50 (lv_at hl 0 rfl) ?_
          refine lv_goto (tgt := 76) hx hb dX3_looked_52 rfl ?_
          obtain ⟨rfl, rfl⟩ := Prod.mk.inj (Option.some.inj hf)
          exact m_iret X hr hlk hM dX3_looked_76
      · have hf := ec_f (not_not_intro cnd) hf
        exact bX3_looked_34 X hr hlk hG S _ _ _ hf hM (lv_sub hl [0] rfl)
theorem hX3_looked : yX3_looked.cls = RX3 ∧ yX3_looked.cls ≠ "java/lang/invoke/MethodHandle" ∧ yX3_looked.cls ≠ "java/lang/invoke/VarHandle" ∧ (parseMethodDescriptor yX3_looked.desc).map (fun d => d.parameters.length) = some 4 := by decide +kernel

noncomputable def fX3_seldom_22 (N : Nat) (kx39 : sM → Int32 → Option (Int32 × sM)) (kx48 : sM → Option (Int32 × sM)) : Nat → sM → Int32 → Int32 → Int32 → Int32 → Option (Int32 × sM)
  | 0, _, _, _, _, _ => none
  | n + 1, S, x1, x2, x3, x4 =>
    if x4 ≤ 0 then (
      kx48 S)
    else (
      ec_b2 (fX3_toldBy N S x1 x2 x4) fun v_4 S_3 =>
      if ¬ v_4 = x3 then (
        ec_lt (x4 + (-1 : Int32)) fun x4_5 =>
        (fX3_seldom_22 N kx39 kx48 n) S_3 x1 x2 x3 x4_5)
      else (
        kx39 S_3 x4))
theorem bX3_seldom_22 {N : Nat} (X : CallFix p m c cX3_seldom 5 s args lw_all RX3) (hr : meth.sig.returnType = (some .int)) (hlk : meth.locks = false) (hG : MG o q) {res : Int32} {Sr : sM} {kx39 : sM → Int32 → Option (Int32 × sM)} {kx48 : sM → Option (Int32 × sM)} (Hkx39 : ∀ (S : sM) (x4 : Int32) (H : Heap) (locs : List Loc) (ls : Array Slot), kx39 S x4 = some (res, Sr) → MW D o q d dz S s H locs → lv_has ls 5 [(0, .ref o), (4, .int x4)] → W p l e (rmL 3) s m args below meth c H locs 0 0 (MQ below (MPost D o q d dz (some (.int res)) Sr) args s 0 0 (AM o q)) (F0 m 39 ls [])) (Hkx48 : ∀ (S : sM) (H : Heap) (locs : List Loc) (ls : Array Slot), kx48 S = some (res, Sr) → MW D o q d dz S s H locs → lv_has ls 5 [(0, .ref o)] → W p l e (rmL 3) s m args below meth c H locs 0 0 (MQ below (MPost D o q d dz (some (.int res)) Sr) args s 0 0 (AM o q)) (F0 m 48 ls [])) : ∀ (n : Nat) (S : sM) (x1 : Int32) (x2 : Int32) (x3 : Int32) (x4 : Int32) (H : Heap) (locs : List Loc) (ls : Array Slot), fX3_seldom_22 N kx39 kx48 n S x1 x2 x3 x4 = some (res, Sr) → MW D o q d dz S s H locs → lv_has ls 5 [(0, .ref o), (1, .int x1), (2, .int x2), (3, .int x3), (4, .int x4)] → W p l e (rmL 3) s m args below meth c H locs 0 0 (MQ below (MPost D o q d dz (some (.int res)) Sr) args s 0 0 (AM o q)) (F0 m 22 ls []) := by
  have hx := X.1
  have hb := X.2.1
  intro n
  induction n with
  | zero =>
    intro S x1 x2 x3 x4 H locs ls hf hM hl
    rw [fX3_seldom_22] at hf
    cases hf
  | succ n ih =>
    intro S x1 x2 x3 x4 H locs ls hf hM hl
    rw [fX3_seldom_22] at hf
    refine lv_iload hx hb dX3_seldom_22 (lv_at hl 4 rfl) ?_
    refine lv_if_le (tgt := 48) hx hb dX3_seldom_24 rfl (fun cnd => ?_) (fun cnd => ?_)
    · have hf := ec_t cnd hf
      exact Hkx48 S _ _ _ hf hM (lv_sub hl [0] rfl)
    · have hf := ec_f cnd hf
      refine lv_aload_n hx hb dX3_seldom_27 rfl (lv_at hl 0 rfl) ?_
      refine lv_iload_n hx hb dX3_seldom_28 rfl (lv_at hl 1 rfl) ?_
      refine lv_iload_n hx hb dX3_seldom_29 rfl (lv_at hl 2 rfl) ?_
      refine lv_iload hx hb dX3_seldom_30 (lv_at hl 4 rfl) ?_
      obtain ⟨v_4, S_3, h, hf⟩ := ec_b2i hf
      refine m_cWi (v := .int v_4) (As := [.int x1, .int x2, .int x4]) (rest := []) X hM (metX3_toldBy l D o q d dz hG N S x1 x2 x4 _ _ h) (cwV 3 X.2.2.2.2 gX3_358 rfl rfl rfl hX3_toldBy ⟨Nat.le_of_ble_eq_true rfl, Nat.le_of_ble_eq_true rfl⟩) rfl hl.1 rfl (Nat.le_of_ble_eq_true rfl) ⟨Nat.zero_le _, Nat.zero_le _⟩ dX3_seldom_32 (fun H locs hM => ?_)
      refine lv_iload_n hx hb dX3_seldom_35 rfl (lv_at hl 3 rfl) ?_
      refine lv_icmp_ne (tgt := 42) hx hb dX3_seldom_36 rfl (fun cnd => ?_) (fun cnd => ?_)
      · have hf := ec_t cnd hf
        refine e_inc (w := -1) (f := fun v => [(4, .int v), (0, .ref o), (1, .int x1), (2, .int x2), (3, .int x3)]) hx hb dX3_seldom_42 hl (k := 4) rfl (by decide) (by decide) (fun _ => rfl) (fun x4_5 ex ls hl => ?_)
        have hf := ec_lt_i ex hf
        refine lv_goto (tgt := 22) hx hb dX3_seldom_45 rfl ?_
        exact ih S_3 x1 x2 x3 x4_5 _ _ _ hf hM (lv_sub hl [1, 2, 3, 4, 0] rfl)
      · have hf := ec_f (not_not_intro cnd) hf
        exact Hkx39 S_3 x4 _ _ _ hf hM (lv_sub hl [0, 4] rfl)
noncomputable def fX3_seldom (N : Nat) (S : sM) (x1 : Int32) (x2 : Int32) : Option (Int32 × sM) :=
  (fX3_canCount S x1 x2).bind fun v_1 =>
  if ¬ v_1 = 0 then (
    (fX3_total N S x2).bind fun v_2 =>
    fX3_seldom_22 N (fun S_6 x4_7 =>
      some (x4_7, S_6)) (fun S_8 =>
      some ((-4 : Int32), S_8)) N S x1 x2 v_2 (999 : Int32))
  else (
    some ((-1 : Int32), S))
theorem metX3_seldom (l : Launch) (D : va_G) (o : Nat) (q : Nat → Nat) (d dz : ClassId) (hG : MG o q) (N : Nat) (S : sM) (x1 : Int32) (x2 : Int32) (res : Int32) (Sr : sM) (hf : fX3_seldom N S x1 x2 = some (res, Sr)) : Met l yX3_seldom (ws_ yX3_seldom cX3_seldom 5 (some .int)) (rmL 3) (MPre D o q d dz S [.int x1, .int x2]) (MPost D o q d dz (some (.int res)) Sr) 0 0 (AM o q) := by
  refine m_ofW rfl (Nat.le_of_ble_eq_true rfl) (fun p e s m args below meth c X hr hlk hM ls hl => ?_)
  have hl : lv_has ls 5 [(0, .ref o), (1, .int x1), (2, .int x2)] := hl
  have hx := X.1
  have hb := X.2.1
  unfold fX3_seldom at hf
  refine lv_aload_n hx hb dX3_seldom_0 rfl (lv_at hl 0 rfl) ?_
  refine lv_iload_n hx hb dX3_seldom_1 rfl (lv_at hl 1 rfl) ?_
  refine lv_iload_n hx hb dX3_seldom_2 rfl (lv_at hl 2 rfl) ?_
  obtain ⟨v_1, h, hf⟩ := ec_bi hf
  refine m_cR (v := .int v_1) (As := [.int x1, .int x2]) (rest := []) X hM (metX3_canCount l D o q d dz S x1 x2 _ h) (cwV 2 X.2.2.2.2 gX3_352 rfl rfl rfl hX3_canCount ⟨Nat.le_of_ble_eq_true rfl, Nat.le_of_ble_eq_true rfl⟩) rfl hl.1 rfl (Nat.le_of_ble_eq_true rfl) ⟨Nat.zero_le _, Nat.zero_le _⟩ dX3_seldom_3 ?_
  refine lv_if_ne (tgt := 11) hx hb dX3_seldom_6 rfl (fun cnd => ?_) (fun cnd => ?_)
  · have hf := ec_t cnd hf
    refine lv_aload_n hx hb dX3_seldom_11 rfl (lv_at hl 0 rfl) ?_
    refine lv_iload_n hx hb dX3_seldom_12 rfl (lv_at hl 2 rfl) ?_
    obtain ⟨v_2, h, hf⟩ := ec_bi hf
    refine m_cR (v := .int v_2) (As := [.int x2]) (rest := []) X hM (metX3_total l D o q d dz N S x2 _ h) (cwV 1 X.2.2.2.2 gX3_257 rfl rfl rfl hX3_total ⟨Nat.le_of_ble_eq_true rfl, Nat.le_of_ble_eq_true rfl⟩) rfl hl.1 rfl (Nat.le_of_ble_eq_true rfl) ⟨Nat.zero_le _, Nat.zero_le _⟩ dX3_seldom_13 ?_
    refine lv_istore_n (lv' := [(3, .int v_2), (0, .ref o), (1, .int x1), (2, .int x2)]) hx hb dX3_seldom_16 rfl hl (by decide) rfl (fun ls hl => ?_)
    refine lv_sipush (v := 999) hx hb dX3_seldom_17 (by decide) ?_
    refine lv_istore (lv' := [(4, .int (999 : Int32)), (3, .int v_2), (0, .ref o), (1, .int x1), (2, .int x2)]) hx hb dX3_seldom_20 hl (by decide) rfl (fun ls hl => ?_)
    exact bX3_seldom_22 X hr hlk hG (fun S_6 x4_7 H locs ls hf hM hl => by
      refine lv_iload hx hb dX3_seldom_39 (lv_at hl 1 rfl) ?_
      obtain ⟨rfl, rfl⟩ := Prod.mk.inj (Option.some.inj hf)
      exact m_iret X hr hlk hM dX3_seldom_41) (fun S_8 H locs ls hf hM hl => by
      refine lv_bipush (v := -4) hx hb dX3_seldom_48 (by decide) ?_
      obtain ⟨rfl, rfl⟩ := Prod.mk.inj (Option.some.inj hf)
      exact m_iret X hr hlk hM dX3_seldom_50) N S x1 x2 v_2 (999 : Int32) _ _ _ hf hM (lv_sub hl [2, 3, 4, 1, 0] rfl)
  · have hf := ec_f (not_not_intro cnd) hf
    refine lv_iconst (v := -1) hx hb dX3_seldom_9 (by decide) ?_
    obtain ⟨rfl, rfl⟩ := Prod.mk.inj (Option.some.inj hf)
    exact m_iret X hr hlk hM dX3_seldom_10
theorem hX3_seldom : yX3_seldom.cls = RX3 ∧ yX3_seldom.cls ≠ "java/lang/invoke/MethodHandle" ∧ yX3_seldom.cls ≠ "java/lang/invoke/VarHandle" ∧ (parseMethodDescriptor yX3_seldom.desc).map (fun d => d.parameters.length) = some 2 := by decide +kernel

noncomputable def fX3_run_27 (S : sM) : Option (Int32 × sM) :=
  some ((-1 : Int32), S)
theorem bX3_run_27 (X : CallFix p m c cX3_run 4 s args lw_all RX3) (hr : meth.sig.returnType = (some .int)) (hlk : meth.locks = false) (hG : MG o q) {res : Int32} {Sr : sM} : ∀ (S : sM) (H : Heap) (locs : List Loc) (ls : Array Slot), fX3_run_27 S = some (res, Sr) → MW D o q d dz S s H locs → lv_has ls 4 [(0, .ref o)] → W p l e (rmL 2) s m args below meth c H locs 0 0 (MQ below (MPost D o q d dz (some (.int res)) Sr) args s 0 0 (AM o q)) (F0 m 27 ls []) := by
  have hx := X.1
  have hb := X.2.1
  intro S H locs ls hf hM hl
  unfold fX3_run_27 at hf
  refine lv_iconst (v := -1) hx hb dX3_run_27 (by decide) ?_
  obtain ⟨rfl, rfl⟩ := Prod.mk.inj (Option.some.inj hf)
  exact m_iret X hr hlk hM dX3_run_28
noncomputable def fX3_run (S : sM) (x1 : Int32) (x2 : Int32) (x3 : Int32) : Option (Int32 × sM) :=
  (fX3_isCounter S x1).bind fun v_1 =>
  if v_1 = 0 then (
    fX3_run_27 S)
  else (
    (fX3_isEvent x2).bind fun v_2 =>
    if v_2 = 0 then (
      fX3_run_27 S)
    else (
      (fX3_in (x3.toInt64) (0 : Int64) (999999 : Int64)).bind fun v_3 =>
      if ¬ v_3 = 0 then (
        if ¬ (S.1 49) = (12 : Int32) then (
          (ec_as S 50 12 (S.1 49) x1).bind fun S_4 =>
          (ec_as S_4 51 12 (S_4.1 49) x2).bind fun S_5 =>
          (ec_as S_5 52 12 (S_5.1 49) x3).bind fun S_6 =>
          ec_lt (mI S_6 49 ((S_6.1 49) + (1 : Int32))) fun S_7 =>
          some ((S_7.1 49), S_7))
        else (
          some ((-3 : Int32), S)))
      else (
        fX3_run_27 S)))
theorem metX3_run (l : Launch) (D : va_G) (o : Nat) (q : Nat → Nat) (d dz : ClassId) (hG : MG o q) (S : sM) (x1 : Int32) (x2 : Int32) (x3 : Int32) (res : Int32) (Sr : sM) (hf : fX3_run S x1 x2 x3 = some (res, Sr)) : Met l yX3_run (ws_ yX3_run cX3_run 4 (some .int)) (rmL 2) (MPre D o q d dz S [.int x1, .int x2, .int x3]) (MPost D o q d dz (some (.int res)) Sr) 0 0 (AM o q) := by
  refine m_ofW rfl (Nat.le_of_ble_eq_true rfl) (fun p e s m args below meth c X hr hlk hM ls hl => ?_)
  have hl : lv_has ls 4 [(0, .ref o), (1, .int x1), (2, .int x2), (3, .int x3)] := hl
  have hx := X.1
  have hb := X.2.1
  unfold fX3_run at hf
  refine lv_aload_n hx hb dX3_run_0 rfl (lv_at hl 0 rfl) ?_
  refine lv_iload_n hx hb dX3_run_1 rfl (lv_at hl 1 rfl) ?_
  obtain ⟨v_1, h, hf⟩ := ec_bi hf
  refine m_cR (v := .int v_1) (As := [.int x1]) (rest := []) X hM (metX3_isCounter l D o q d dz S x1 _ h) (cwV 1 X.2.2.2.2 gX3_279 rfl rfl rfl hX3_isCounter ⟨Nat.le_of_ble_eq_true rfl, Nat.le_of_ble_eq_true rfl⟩) rfl hl.1 rfl (Nat.le_of_ble_eq_true rfl) ⟨Nat.zero_le _, Nat.zero_le _⟩ dX3_run_2 ?_
  refine lv_if_eq (tgt := 27) hx hb dX3_run_5 rfl (fun cnd => ?_) (fun cnd => ?_)
  · have hf := ec_t cnd hf
    exact bX3_run_27 X hr hlk hG S _ _ _ hf hM (lv_sub hl [0] rfl)
  · have hf := ec_f cnd hf
    refine lv_iload_n hx hb dX3_run_8 rfl (lv_at hl 2 rfl) ?_
    obtain ⟨v_2, h, hf⟩ := ec_bi hf
    refine e_cS (v := .int v_2) (As := [.int x2]) (rest := []) X (metX3_isEvent l x2 _ h) (va_cwS 1 X.2.2.2.2 gX3_260 rfl rfl rfl hX3_isEvent ⟨Nat.le_of_ble_eq_true rfl, Nat.le_of_ble_eq_true rfl⟩) rfl hl.1 rfl (Nat.le_of_ble_eq_true rfl) ⟨Nat.zero_le _, Nat.zero_le _⟩ dX3_run_9 ?_
    refine lv_if_eq (tgt := 27) hx hb dX3_run_12 rfl (fun cnd => ?_) (fun cnd => ?_)
    · have hf := ec_t cnd hf
      exact bX3_run_27 X hr hlk hG S _ _ _ hf hM (lv_sub hl [0] rfl)
    · have hf := ec_f cnd hf
      refine lv_iload_n hx hb dX3_run_15 rfl (lv_at hl 3 rfl) ?_
      refine lv_i2l hx hb dX3_run_16 rfl ?_
      refine lv_lconst (v := 0) hx hb dX3_run_17 (by decide) ?_
      refine lv_ldc2 (own := RX3) (v := 999999) hx hb X.2.2.2.1 (X.2.2.2.2 _ q1288) dX3_run_18 ?_
      obtain ⟨v_3, h, hf⟩ := ec_bi hf
      refine e_cS (v := .int v_3) (As := [.long (x3.toInt64), .long (0 : Int64), .long (999999 : Int64)]) (rest := []) X (metX3_in l (x3.toInt64) (0 : Int64) (999999 : Int64) _ h) (va_cwS 3 X.2.2.2.2 gX3_124 rfl rfl rfl hX3_in ⟨Nat.le_of_ble_eq_true rfl, Nat.le_of_ble_eq_true rfl⟩) rfl hl.1 rfl (Nat.le_of_ble_eq_true rfl) ⟨Nat.zero_le _, Nat.zero_le _⟩ dX3_run_21 ?_
      refine lv_if_ne (tgt := 29) hx hb dX3_run_24 rfl (fun cnd => ?_) (fun cnd => ?_)
      · have hf := ec_t cnd hf
        refine lv_aload_n hx hb dX3_run_29 rfl (lv_at hl 0 rfl) ?_
        refine m_get (v := .int (S.1 49)) X hM 49 (by decide) q1023 rfl rfl dX3_run_30 ?_
        refine lv_bipush (v := 12) hx hb dX3_run_33 (by decide) ?_
        refine lv_icmp_ne (tgt := 41) hx hb dX3_run_35 rfl (fun cnd => ?_) (fun cnd => ?_)
        · have hf := ec_t cnd hf
          refine lv_aload_n hx hb dX3_run_41 rfl (lv_at hl 0 rfl) ?_
          refine m_get (v := .ref (q 50)) X hM 50 (by decide) q1024 rfl rfl dX3_run_42 ?_
          refine lv_aload_n hx hb dX3_run_45 rfl (lv_at hl 0 rfl) ?_
          refine m_get (v := .int (S.1 49)) X hM 49 (by decide) q1023 rfl rfl dX3_run_46 ?_
          refine lv_iload_n hx hb dX3_run_49 rfl (lv_at hl 1 rfl) ?_
          obtain ⟨S_4, h, hf⟩ := ec_bi hf
          refine m_iast X hG hM wma50 wms50 h dX3_run_50 (fun H locs hM => ?_)
          refine lv_aload_n hx hb dX3_run_51 rfl (lv_at hl 0 rfl) ?_
          refine m_get (v := .ref (q 51)) X hM 51 (by decide) q1025 rfl rfl dX3_run_52 ?_
          refine lv_aload_n hx hb dX3_run_55 rfl (lv_at hl 0 rfl) ?_
          refine m_get (v := .int (S_4.1 49)) X hM 49 (by decide) q1023 rfl rfl dX3_run_56 ?_
          refine lv_iload_n hx hb dX3_run_59 rfl (lv_at hl 2 rfl) ?_
          obtain ⟨S_5, h, hf⟩ := ec_bi hf
          refine m_iast X hG hM wma51 wms51 h dX3_run_60 (fun H locs hM => ?_)
          refine lv_aload_n hx hb dX3_run_61 rfl (lv_at hl 0 rfl) ?_
          refine m_get (v := .ref (q 52)) X hM 52 (by decide) q1026 rfl rfl dX3_run_62 ?_
          refine lv_aload_n hx hb dX3_run_65 rfl (lv_at hl 0 rfl) ?_
          refine m_get (v := .int (S_5.1 49)) X hM 49 (by decide) q1023 rfl rfl dX3_run_66 ?_
          refine lv_iload_n hx hb dX3_run_69 rfl (lv_at hl 3 rfl) ?_
          obtain ⟨S_6, h, hf⟩ := ec_bi hf
          refine m_iast X hG hM wma52 wms52 h dX3_run_70 (fun H locs hM => ?_)
          refine lv_aload_n hx hb dX3_run_71 rfl (lv_at hl 0 rfl) ?_
          refine lv_dup hx hb dX3_run_72 rfl ?_
          refine m_get (v := .int (S_6.1 49)) X hM 49 (by decide) q1023 rfl rfl dX3_run_73 ?_
          refine lv_iconst (v := 1) hx hb dX3_run_76 (by decide) ?_
          refine lv_iadd hx hb dX3_run_77 ?_
          refine m_puti X hG hM 49 (by decide) q1023 rfl rfl mfd49 (wmi49 _) dX3_run_78 (fun S_7 H locs eS hM => ?_)
          have hf := ec_lt_i eS hf
          refine lv_aload_n hx hb dX3_run_81 rfl (lv_at hl 0 rfl) ?_
          refine m_get (v := .int (S_7.1 49)) X hM 49 (by decide) q1023 rfl rfl dX3_run_82 ?_
          obtain ⟨rfl, rfl⟩ := Prod.mk.inj (Option.some.inj hf)
          exact m_iret X hr hlk hM dX3_run_85
        · have hf := ec_f (not_not_intro cnd) hf
          refine lv_bipush (v := -3) hx hb dX3_run_38 (by decide) ?_
          obtain ⟨rfl, rfl⟩ := Prod.mk.inj (Option.some.inj hf)
          exact m_iret X hr hlk hM dX3_run_40
      · have hf := ec_f (not_not_intro cnd) hf
        exact bX3_run_27 X hr hlk hG S _ _ _ hf hM (lv_sub hl [0] rfl)
theorem hX3_run : yX3_run.cls = RX3 ∧ yX3_run.cls ≠ "java/lang/invoke/MethodHandle" ∧ yX3_run.cls ≠ "java/lang/invoke/VarHandle" ∧ (parseMethodDescriptor yX3_run.desc).map (fun d => d.parameters.length) = some 3 := by decide +kernel

noncomputable def fX3_forget (S : sM) : Option (Int32 × sM) :=
  ec_lt (S.1 49) fun x1_1 =>
  ec_lt (mI S 49 (0 : Int32)) fun S_2 =>
  some (x1_1, S_2)
theorem metX3_forget (l : Launch) (D : va_G) (o : Nat) (q : Nat → Nat) (d dz : ClassId) (hG : MG o q) (S : sM) (res : Int32) (Sr : sM) (hf : fX3_forget S = some (res, Sr)) : Met l yX3_forget (ws_ yX3_forget cX3_forget 2 (some .int)) (rmL 0) (MPre D o q d dz S []) (MPost D o q d dz (some (.int res)) Sr) 0 0 (AM o q) := by
  refine m_ofW rfl (Nat.le_of_ble_eq_true rfl) (fun p e s m args below meth c X hr hlk hM ls hl => ?_)
  have hl : lv_has ls 2 [(0, .ref o)] := hl
  have hx := X.1
  have hb := X.2.1
  unfold fX3_forget at hf
  refine lv_aload_n hx hb dX3_forget_0 rfl (lv_at hl 0 rfl) ?_
  refine m_get (v := .int (S.1 49)) X hM 49 (by decide) q1023 rfl rfl dX3_forget_1 ?_
  refine lv_topi (fun x1_1 ex => ?_)
  have hf := ec_lt_i ex hf
  refine lv_istore_n (lv' := [(1, .int x1_1), (0, .ref o)]) hx hb dX3_forget_4 rfl hl (by decide) rfl (fun ls hl => ?_)
  refine lv_aload_n hx hb dX3_forget_5 rfl (lv_at hl 1 rfl) ?_
  refine lv_iconst (v := 0) hx hb dX3_forget_6 (by decide) ?_
  refine m_puti X hG hM 49 (by decide) q1023 rfl rfl mfd49 (wmi49 _) dX3_forget_7 (fun S_2 H locs eS hM => ?_)
  have hf := ec_lt_i eS hf
  refine lv_iload_n hx hb dX3_forget_10 rfl (lv_at hl 0 rfl) ?_
  obtain ⟨rfl, rfl⟩ := Prod.mk.inj (Option.some.inj hf)
  exact m_iret X hr hlk hM dX3_forget_11
theorem hX3_forget : yX3_forget.cls = RX3 ∧ yX3_forget.cls ≠ "java/lang/invoke/MethodHandle" ∧ yX3_forget.cls ≠ "java/lang/invoke/VarHandle" ∧ (parseMethodDescriptor yX3_forget.desc).map (fun d => d.parameters.length) = some 0 := by decide +kernel

noncomputable def fX3_hasRun_45 (N : Nat) (S : sM) (k5 : Int32 → Int32 → Int32 → Int32 → Option Int32) (x1 : Int32) (x2 : Int32) (x4 : Int32) (t0 : Int32) : Option Int32 :=
  ec_lt (x4 + (1 : Int32)) fun x4_1 =>
  k5 x1 x2 t0 x4_1
theorem bX3_hasRun_45 {N : Nat} (X : CallFix p m c cX3_hasRun 5 s args lw_all RX3) (hr : meth.sig.returnType = (some .boolean)) (hlk : meth.locks = false) {S : sM} (hM : MW D o q d dz S s s.heap []) {res : Int32} {k5 : Int32 → Int32 → Int32 → Int32 → Option Int32} (Hk5 : ∀ (x1 : Int32) (x2 : Int32) (x3 : Int32) (x4 : Int32) (ls : Array Slot), k5 x1 x2 x3 x4 = some res → lv_has ls 5 [(0, .ref o), (1, .int x1), (2, .int x2), (3, .int x3), (4, .int x4)] → W p l e (rmL 0) s m args below meth c s.heap [] 0 0 (MQ below (k2_QcV (.int res)) args s 0 0 (fun _ => False)) (F0 m 5 ls [])) : ∀ (x1 : Int32) (x2 : Int32) (x4 : Int32) (t0 : Int32) (ls : Array Slot), fX3_hasRun_45 N S k5 x1 x2 x4 t0 = some res → lv_has ls 5 [(0, .ref o), (1, .int x1), (2, .int x2), (4, .int x4)] → W p l e (rmL 0) s m args below meth c s.heap [] 0 0 (MQ below (k2_QcV (.int res)) args s 0 0 (fun _ => False)) (F0 m 45 ls [.int t0]) := by
  have hx := X.1
  have hb := X.2.1
  intro x1 x2 x4 t0 ls hf hl
  unfold fX3_hasRun_45 at hf
  refine lv_istore_n (lv' := [(3, .int t0), (0, .ref o), (1, .int x1), (2, .int x2), (4, .int x4)]) hx hb dX3_hasRun_45 rfl hl (by decide) rfl (fun ls hl => ?_)
  refine e_inc (w := 1) (f := fun v => [(4, .int v), (3, .int t0), (0, .ref o), (1, .int x1), (2, .int x2)]) hx hb dX3_hasRun_46 hl (k := 4) rfl (by decide) (by decide) (fun _ => rfl) (fun x4_1 ex ls hl => ?_)
  have hf := ec_lt_i ex hf
  refine lv_goto (tgt := 5) hx hb dX3_hasRun_49 rfl ?_
  exact Hk5 x1 x2 t0 x4_1 _ hf (lv_sub hl [2, 3, 4, 1, 0] rfl)
noncomputable def fX3_hasRun_40 (N : Nat) (S : sM) (k5 : Int32 → Int32 → Int32 → Int32 → Option Int32) (x1 : Int32) (x2 : Int32) (x4 : Int32) : Option Int32 :=
  fX3_hasRun_45 N S k5 x1 x2 x4 (1 : Int32)
theorem bX3_hasRun_40 {N : Nat} (X : CallFix p m c cX3_hasRun 5 s args lw_all RX3) (hr : meth.sig.returnType = (some .boolean)) (hlk : meth.locks = false) {S : sM} (hM : MW D o q d dz S s s.heap []) {res : Int32} {k5 : Int32 → Int32 → Int32 → Int32 → Option Int32} (Hk5 : ∀ (x1 : Int32) (x2 : Int32) (x3 : Int32) (x4 : Int32) (ls : Array Slot), k5 x1 x2 x3 x4 = some res → lv_has ls 5 [(0, .ref o), (1, .int x1), (2, .int x2), (3, .int x3), (4, .int x4)] → W p l e (rmL 0) s m args below meth c s.heap [] 0 0 (MQ below (k2_QcV (.int res)) args s 0 0 (fun _ => False)) (F0 m 5 ls [])) : ∀ (x1 : Int32) (x2 : Int32) (x4 : Int32) (ls : Array Slot), fX3_hasRun_40 N S k5 x1 x2 x4 = some res → lv_has ls 5 [(0, .ref o), (1, .int x1), (2, .int x2), (4, .int x4)] → W p l e (rmL 0) s m args below meth c s.heap [] 0 0 (MQ below (k2_QcV (.int res)) args s 0 0 (fun _ => False)) (F0 m 40 ls []) := by
  have hx := X.1
  have hb := X.2.1
  intro x1 x2 x4 ls hf hl
  unfold fX3_hasRun_40 at hf
  refine lv_iconst (v := 1) hx hb dX3_hasRun_40 (by decide) ?_
  refine lv_goto (tgt := 45) hx hb dX3_hasRun_41 rfl ?_
  exact bX3_hasRun_45 X hr hlk hM Hk5 x1 x2 x4 (1 : Int32) _ hf hl
noncomputable def fX3_hasRun_44 (N : Nat) (S : sM) (k5 : Int32 → Int32 → Int32 → Int32 → Option Int32) (x1 : Int32) (x2 : Int32) (x4 : Int32) : Option Int32 :=
  fX3_hasRun_45 N S k5 x1 x2 x4 (0 : Int32)
theorem bX3_hasRun_44 {N : Nat} (X : CallFix p m c cX3_hasRun 5 s args lw_all RX3) (hr : meth.sig.returnType = (some .boolean)) (hlk : meth.locks = false) {S : sM} (hM : MW D o q d dz S s s.heap []) {res : Int32} {k5 : Int32 → Int32 → Int32 → Int32 → Option Int32} (Hk5 : ∀ (x1 : Int32) (x2 : Int32) (x3 : Int32) (x4 : Int32) (ls : Array Slot), k5 x1 x2 x3 x4 = some res → lv_has ls 5 [(0, .ref o), (1, .int x1), (2, .int x2), (3, .int x3), (4, .int x4)] → W p l e (rmL 0) s m args below meth c s.heap [] 0 0 (MQ below (k2_QcV (.int res)) args s 0 0 (fun _ => False)) (F0 m 5 ls [])) : ∀ (x1 : Int32) (x2 : Int32) (x4 : Int32) (ls : Array Slot), fX3_hasRun_44 N S k5 x1 x2 x4 = some res → lv_has ls 5 [(0, .ref o), (1, .int x1), (2, .int x2), (4, .int x4)] → W p l e (rmL 0) s m args below meth c s.heap [] 0 0 (MQ below (k2_QcV (.int res)) args s 0 0 (fun _ => False)) (F0 m 44 ls []) := by
  have hx := X.1
  have hb := X.2.1
  intro x1 x2 x4 ls hf hl
  unfold fX3_hasRun_44 at hf
  refine lv_iconst (v := 0) hx hb dX3_hasRun_44 (by decide) ?_
  exact bX3_hasRun_45 X hr hlk hM Hk5 x1 x2 x4 (0 : Int32) _ hf hl
noncomputable def fX3_hasRun_5 (N : Nat) (S : sM) (kx52 : Int32 → Option Int32) : Nat → Int32 → Int32 → Int32 → Int32 → Option Int32
  | 0, _, _, _, _ => none
  | n + 1, x1, x2, x3, x4 =>
    if (S.1 49) ≤ x4 then (
      kx52 x3)
    else (
      if ¬ x3 = 0 then (
        fX3_hasRun_40 N S (fX3_hasRun_5 N S kx52 n) x1 x2 x4)
      else (
        (ec_ag (S.2.2 50) 12 x4).bind fun v_2 =>
        if ¬ v_2 = x1 then (
          fX3_hasRun_44 N S (fX3_hasRun_5 N S kx52 n) x1 x2 x4)
        else (
          (ec_ag (S.2.2 51) 12 x4).bind fun v_3 =>
          if ¬ v_3 = x2 then (
            fX3_hasRun_44 N S (fX3_hasRun_5 N S kx52 n) x1 x2 x4)
          else (
            fX3_hasRun_40 N S (fX3_hasRun_5 N S kx52 n) x1 x2 x4))))
theorem bX3_hasRun_5 {N : Nat} (X : CallFix p m c cX3_hasRun 5 s args lw_all RX3) (hr : meth.sig.returnType = (some .boolean)) (hlk : meth.locks = false) {S : sM} (hM : MW D o q d dz S s s.heap []) {res : Int32} {kx52 : Int32 → Option Int32} (Hkx52 : ∀ (x3 : Int32) (ls : Array Slot), kx52 x3 = some res → lv_has ls 5 [(0, .ref o), (3, .int x3)] → W p l e (rmL 0) s m args below meth c s.heap [] 0 0 (MQ below (k2_QcV (.int res)) args s 0 0 (fun _ => False)) (F0 m 52 ls [])) : ∀ (n : Nat) (x1 : Int32) (x2 : Int32) (x3 : Int32) (x4 : Int32) (ls : Array Slot), fX3_hasRun_5 N S kx52 n x1 x2 x3 x4 = some res → lv_has ls 5 [(0, .ref o), (1, .int x1), (2, .int x2), (3, .int x3), (4, .int x4)] → W p l e (rmL 0) s m args below meth c s.heap [] 0 0 (MQ below (k2_QcV (.int res)) args s 0 0 (fun _ => False)) (F0 m 5 ls []) := by
  have hx := X.1
  have hb := X.2.1
  intro n
  induction n with
  | zero =>
    intro x1 x2 x3 x4 ls hf hl
    rw [fX3_hasRun_5] at hf
    cases hf
  | succ n ih =>
    intro x1 x2 x3 x4 ls hf hl
    rw [fX3_hasRun_5] at hf
    refine lv_iload hx hb dX3_hasRun_5 (lv_at hl 4 rfl) ?_
    refine lv_aload_n hx hb dX3_hasRun_7 rfl (lv_at hl 0 rfl) ?_
    refine m_get (v := .int (S.1 49)) X hM 49 (by decide) q1023 rfl rfl dX3_hasRun_8 ?_
    refine lv_icmp_ge (tgt := 52) hx hb dX3_hasRun_11 rfl (fun cnd => ?_) (fun cnd => ?_)
    · have hf := ec_t cnd hf
      exact Hkx52 x3 _ hf (lv_sub hl [0, 3] rfl)
    · have hf := ec_f cnd hf
      refine lv_iload_n hx hb dX3_hasRun_14 rfl (lv_at hl 3 rfl) ?_
      refine lv_if_ne (tgt := 40) hx hb dX3_hasRun_15 rfl (fun cnd => ?_) (fun cnd => ?_)
      · have hf := ec_t cnd hf
        exact bX3_hasRun_40 X hr hlk hM ih x1 x2 x4 _ hf (lv_sub hl [0, 1, 2, 4] rfl)
      · have hf := ec_f (not_not_intro cnd) hf
        refine lv_aload_n hx hb dX3_hasRun_18 rfl (lv_at hl 0 rfl) ?_
        refine m_get (v := .ref (q 50)) X hM 50 (by decide) q1024 rfl rfl dX3_hasRun_19 ?_
        refine lv_iload hx hb dX3_hasRun_22 (lv_at hl 4 rfl) ?_
        obtain ⟨v_2, h, hf⟩ := ec_bi hf
        refine m_iald X hM wma50 h dX3_hasRun_24 ?_
        refine lv_iload_n hx hb dX3_hasRun_25 rfl (lv_at hl 1 rfl) ?_
        refine lv_icmp_ne (tgt := 44) hx hb dX3_hasRun_26 rfl (fun cnd => ?_) (fun cnd => ?_)
        · have hf := ec_t cnd hf
          exact bX3_hasRun_44 X hr hlk hM ih x1 x2 x4 _ hf (lv_sub hl [0, 1, 2, 4] rfl)
        · have hf := ec_f (not_not_intro cnd) hf
          refine lv_aload_n hx hb dX3_hasRun_29 rfl (lv_at hl 0 rfl) ?_
          refine m_get (v := .ref (q 51)) X hM 51 (by decide) q1025 rfl rfl dX3_hasRun_30 ?_
          refine lv_iload hx hb dX3_hasRun_33 (lv_at hl 4 rfl) ?_
          obtain ⟨v_3, h, hf⟩ := ec_bi hf
          refine m_iald X hM wma51 h dX3_hasRun_35 ?_
          refine lv_iload_n hx hb dX3_hasRun_36 rfl (lv_at hl 2 rfl) ?_
          refine lv_icmp_ne (tgt := 44) hx hb dX3_hasRun_37 rfl (fun cnd => ?_) (fun cnd => ?_)
          · have hf := ec_t cnd hf
            exact bX3_hasRun_44 X hr hlk hM ih x1 x2 x4 _ hf (lv_sub hl [0, 1, 2, 4] rfl)
          · have hf := ec_f (not_not_intro cnd) hf
            exact bX3_hasRun_40 X hr hlk hM ih x1 x2 x4 _ hf (lv_sub hl [0, 1, 2, 4] rfl)
noncomputable def fX3_hasRun (N : Nat) (S : sM) (x1 : Int32) (x2 : Int32) : Option Int32 :=
  fX3_hasRun_5 N S (fun x3_4 =>
    ec_rz x3_4) N x1 x2 (0 : Int32) (0 : Int32)
theorem metX3_hasRun (l : Launch) (D : va_G) (o : Nat) (q : Nat → Nat) (d dz : ClassId) (N : Nat) (S : sM) (x1 : Int32) (x2 : Int32) (res : Int32) (hf : fX3_hasRun N S x1 x2 = some res) : Met l yX3_hasRun (ws_ yX3_hasRun cX3_hasRun 5 (some .boolean)) (rmL 0) (MPre D o q d dz S [.int x1, .int x2]) (k2_QcV (.int res)) 0 0 (fun _ => False) := by
  refine m_ofR rfl (Nat.le_of_ble_eq_true rfl) (fun p e s m args below meth c X hr hlk hM ls hl => ?_)
  have hl : lv_has ls 5 [(0, .ref o), (1, .int x1), (2, .int x2)] := hl
  have hx := X.1
  have hb := X.2.1
  unfold fX3_hasRun at hf
  refine lv_iconst (v := 0) hx hb dX3_hasRun_0 (by decide) ?_
  refine lv_istore_n (lv' := [(3, .int (0 : Int32)), (0, .ref o), (1, .int x1), (2, .int x2)]) hx hb dX3_hasRun_1 rfl hl (by decide) rfl (fun ls hl => ?_)
  refine lv_iconst (v := 0) hx hb dX3_hasRun_2 (by decide) ?_
  refine lv_istore (lv' := [(4, .int (0 : Int32)), (3, .int (0 : Int32)), (0, .ref o), (1, .int x1), (2, .int x2)]) hx hb dX3_hasRun_3 hl (by decide) rfl (fun ls hl => ?_)
  exact bX3_hasRun_5 X hr hlk hM (fun x3_4 ls hf hl => by
    refine lv_iload_n hx hb dX3_hasRun_52 rfl (lv_at hl 1 rfl) ?_
    obtain ⟨hn, h2⟩ := ec_rz_i hf
    subst h2
    exact e_zretR hx hb hr hlk hn dX3_hasRun_53) N x1 x2 (0 : Int32) (0 : Int32) _ hf (lv_sub hl [2, 3, 4, 1, 0] rfl)
theorem hX3_hasRun : yX3_hasRun.cls = RX3 ∧ yX3_hasRun.cls ≠ "java/lang/invoke/MethodHandle" ∧ yX3_hasRun.cls ≠ "java/lang/invoke/VarHandle" ∧ (parseMethodDescriptor yX3_hasRun.desc).map (fun d => d.parameters.length) = some 2 := by decide +kernel

noncomputable def fX3_fits_35 (N : Nat) (S : sM) (k6 : Int32 → Int32 → Int32 → Int32 → Int32 → Option Int32) (x1 : Int32) (x2 : Int32) (x3 : Int32) (x5 : Int32) (t0 : Int32) (t1 : Int32) : Option Int32 :=
  ec_lt (t1 + t0) fun x4_1 =>
  ec_lt (x5 + (1 : Int32)) fun x5_2 =>
  k6 x1 x2 x3 x4_1 x5_2
theorem bX3_fits_35 {N : Nat} (X : CallFix p m c cX3_fits 7 s args lw_all RX3) (hr : meth.sig.returnType = (some .boolean)) (hlk : meth.locks = false) {S : sM} (hM : MW D o q d dz S s s.heap []) {res : Int32} {k6 : Int32 → Int32 → Int32 → Int32 → Int32 → Option Int32} (Hk6 : ∀ (x1 : Int32) (x2 : Int32) (x3 : Int32) (x4 : Int32) (x5 : Int32) (ls : Array Slot), k6 x1 x2 x3 x4 x5 = some res → lv_has ls 7 [(0, .ref o), (1, .int x1), (2, .int x2), (3, .int x3), (4, .int x4), (5, .int x5)] → W p l e (rmL 2) s m args below meth c s.heap [] 0 0 (MQ below (k2_QcV (.int res)) args s 0 0 (fun _ => False)) (F0 m 6 ls [])) : ∀ (x1 : Int32) (x2 : Int32) (x3 : Int32) (x5 : Int32) (t0 : Int32) (t1 : Int32) (ls : Array Slot), fX3_fits_35 N S k6 x1 x2 x3 x5 t0 t1 = some res → lv_has ls 7 [(0, .ref o), (1, .int x1), (2, .int x2), (3, .int x3), (5, .int x5)] → W p l e (rmL 2) s m args below meth c s.heap [] 0 0 (MQ below (k2_QcV (.int res)) args s 0 0 (fun _ => False)) (F0 m 35 ls [.int t0, .int t1]) := by
  have hx := X.1
  have hb := X.2.1
  intro x1 x2 x3 x5 t0 t1 ls hf hl
  unfold fX3_fits_35 at hf
  refine lv_iadd hx hb dX3_fits_35 ?_
  refine lv_topi (fun x4_1 ex => ?_)
  have hf := ec_lt_i ex hf
  refine lv_istore (lv' := [(4, .int x4_1), (0, .ref o), (1, .int x1), (2, .int x2), (3, .int x3), (5, .int x5)]) hx hb dX3_fits_36 hl (by decide) rfl (fun ls hl => ?_)
  refine e_inc (w := 1) (f := fun v => [(5, .int v), (4, .int x4_1), (0, .ref o), (1, .int x1), (2, .int x2), (3, .int x3)]) hx hb dX3_fits_38 hl (k := 5) rfl (by decide) (by decide) (fun _ => rfl) (fun x5_2 ex ls hl => ?_)
  have hf := ec_lt_i ex hf
  refine lv_goto (tgt := 6) hx hb dX3_fits_41 rfl ?_
  exact Hk6 x1 x2 x3 x4_1 x5_2 _ hf (lv_sub hl [2, 3, 4, 5, 1, 0] rfl)
noncomputable def fX3_fits_6 (N : Nat) (S : sM) (kx44 : Int32 → Int32 → Int32 → Option Int32) : Nat → Int32 → Int32 → Int32 → Int32 → Int32 → Option Int32
  | 0, _, _, _, _, _ => none
  | n + 1, x1, x2, x3, x4, x5 =>
    if (8 : Int32) ≤ x5 then (
      kx44 x1 x2 x4)
    else (
      if ¬ ((x3 >>> (x5 &&& 31)) &&& (1 : Int32)) = (1 : Int32) then (
        fX3_fits_35 N S (fX3_fits_6 N S kx44 n) x1 x2 x3 x5 (0 : Int32) x4)
      else (
        (fX3_total N S x5).bind fun v_3 =>
        fX3_fits_35 N S (fX3_fits_6 N S kx44 n) x1 x2 x3 x5 v_3 x4))
theorem bX3_fits_6 {N : Nat} (X : CallFix p m c cX3_fits 7 s args lw_all RX3) (hr : meth.sig.returnType = (some .boolean)) (hlk : meth.locks = false) {S : sM} (hM : MW D o q d dz S s s.heap []) {res : Int32} {kx44 : Int32 → Int32 → Int32 → Option Int32} (Hkx44 : ∀ (x1 : Int32) (x2 : Int32) (x4 : Int32) (ls : Array Slot), kx44 x1 x2 x4 = some res → lv_has ls 7 [(0, .ref o), (1, .int x1), (2, .int x2), (4, .int x4)] → W p l e (rmL 2) s m args below meth c s.heap [] 0 0 (MQ below (k2_QcV (.int res)) args s 0 0 (fun _ => False)) (F0 m 44 ls [])) : ∀ (n : Nat) (x1 : Int32) (x2 : Int32) (x3 : Int32) (x4 : Int32) (x5 : Int32) (ls : Array Slot), fX3_fits_6 N S kx44 n x1 x2 x3 x4 x5 = some res → lv_has ls 7 [(0, .ref o), (1, .int x1), (2, .int x2), (3, .int x3), (4, .int x4), (5, .int x5)] → W p l e (rmL 2) s m args below meth c s.heap [] 0 0 (MQ below (k2_QcV (.int res)) args s 0 0 (fun _ => False)) (F0 m 6 ls []) := by
  have hx := X.1
  have hb := X.2.1
  intro n
  induction n with
  | zero =>
    intro x1 x2 x3 x4 x5 ls hf hl
    rw [fX3_fits_6] at hf
    cases hf
  | succ n ih =>
    intro x1 x2 x3 x4 x5 ls hf hl
    rw [fX3_fits_6] at hf
    refine lv_iload hx hb dX3_fits_6 (lv_at hl 5 rfl) ?_
    refine lv_bipush (v := 8) hx hb dX3_fits_8 (by decide) ?_
    refine lv_icmp_ge (tgt := 44) hx hb dX3_fits_10 rfl (fun cnd => ?_) (fun cnd => ?_)
    · have hf := ec_t cnd hf
      exact Hkx44 x1 x2 x4 _ hf (lv_sub hl [0, 1, 2, 4] rfl)
    · have hf := ec_f cnd hf
      refine lv_iload hx hb dX3_fits_13 (lv_at hl 4 rfl) ?_
      refine lv_iload_n hx hb dX3_fits_15 rfl (lv_at hl 3 rfl) ?_
      refine lv_iload hx hb dX3_fits_16 (lv_at hl 5 rfl) ?_
      refine lv_ishr hx hb dX3_fits_18 ?_
      refine lv_iconst (v := 1) hx hb dX3_fits_19 (by decide) ?_
      refine lv_iand hx hb dX3_fits_20 ?_
      refine lv_iconst (v := 1) hx hb dX3_fits_21 (by decide) ?_
      refine lv_icmp_ne (tgt := 34) hx hb dX3_fits_22 rfl (fun cnd => ?_) (fun cnd => ?_)
      · have hf := ec_t cnd hf
        refine lv_iconst (v := 0) hx hb dX3_fits_34 (by decide) ?_
        exact bX3_fits_35 X hr hlk hM ih x1 x2 x3 x5 (0 : Int32) x4 _ hf (lv_sub hl [0, 1, 2, 3, 5] rfl)
      · have hf := ec_f (not_not_intro cnd) hf
        refine lv_aload_n hx hb dX3_fits_25 rfl (lv_at hl 0 rfl) ?_
        refine lv_iload hx hb dX3_fits_26 (lv_at hl 5 rfl) ?_
        obtain ⟨v_3, h, hf⟩ := ec_bi hf
        refine m_cR (v := .int v_3) (As := [.int x5]) (rest := [.int x4]) X hM (metX3_total l D o q d dz N S x5 _ h) (cwV 1 X.2.2.2.2 gX3_257 rfl rfl rfl hX3_total ⟨Nat.le_of_ble_eq_true rfl, Nat.le_of_ble_eq_true rfl⟩) rfl hl.1 rfl (Nat.le_of_ble_eq_true rfl) ⟨Nat.zero_le _, Nat.zero_le _⟩ dX3_fits_28 ?_
        refine lv_goto (tgt := 35) hx hb dX3_fits_31 rfl ?_
        exact bX3_fits_35 X hr hlk hM ih x1 x2 x3 x5 v_3 x4 _ hf (lv_sub hl [0, 1, 2, 3, 5] rfl)
noncomputable def fX3_fits_103 (N : Nat) (S : sM) (k50 : Int32 → Int32 → Int32 → Int32 → Int32 → Option Int32) (x1 : Int32) (x2 : Int32) (x4 : Int32) (x6 : Int32) (t0 : Int32) : Option Int32 :=
  ec_lt (x6 + (1 : Int32)) fun x6_7 =>
  k50 x1 x2 x4 t0 x6_7
theorem bX3_fits_103 {N : Nat} (X : CallFix p m c cX3_fits 7 s args lw_all RX3) (hr : meth.sig.returnType = (some .boolean)) (hlk : meth.locks = false) {S : sM} (hM : MW D o q d dz S s s.heap []) {res : Int32} {k50 : Int32 → Int32 → Int32 → Int32 → Int32 → Option Int32} (Hk50 : ∀ (x1 : Int32) (x2 : Int32) (x4 : Int32) (x5 : Int32) (x6 : Int32) (ls : Array Slot), k50 x1 x2 x4 x5 x6 = some res → lv_has ls 7 [(0, .ref o), (1, .int x1), (2, .int x2), (4, .int x4), (5, .int x5), (6, .int x6)] → W p l e (rmL 2) s m args below meth c s.heap [] 0 0 (MQ below (k2_QcV (.int res)) args s 0 0 (fun _ => False)) (F0 m 50 ls [])) : ∀ (x1 : Int32) (x2 : Int32) (x4 : Int32) (x6 : Int32) (t0 : Int32) (ls : Array Slot), fX3_fits_103 N S k50 x1 x2 x4 x6 t0 = some res → lv_has ls 7 [(0, .ref o), (1, .int x1), (2, .int x2), (4, .int x4), (6, .int x6)] → W p l e (rmL 2) s m args below meth c s.heap [] 0 0 (MQ below (k2_QcV (.int res)) args s 0 0 (fun _ => False)) (F0 m 103 ls [.int t0]) := by
  have hx := X.1
  have hb := X.2.1
  intro x1 x2 x4 x6 t0 ls hf hl
  unfold fX3_fits_103 at hf
  refine lv_istore (lv' := [(5, .int t0), (0, .ref o), (1, .int x1), (2, .int x2), (4, .int x4), (6, .int x6)]) hx hb dX3_fits_103 hl (by decide) rfl (fun ls hl => ?_)
  refine e_inc (w := 1) (f := fun v => [(6, .int v), (5, .int t0), (0, .ref o), (1, .int x1), (2, .int x2), (4, .int x4)]) hx hb dX3_fits_105 hl (k := 5) rfl (by decide) (by decide) (fun _ => rfl) (fun x6_7 ex ls hl => ?_)
  have hf := ec_lt_i ex hf
  refine lv_goto (tgt := 50) hx hb dX3_fits_108 rfl ?_
  exact Hk50 x1 x2 x4 t0 x6_7 _ hf (lv_sub hl [2, 3, 4, 5, 1, 0] rfl)
noncomputable def fX3_fits_102 (N : Nat) (S : sM) (k50 : Int32 → Int32 → Int32 → Int32 → Int32 → Option Int32) (x1 : Int32) (x2 : Int32) (x4 : Int32) (x6 : Int32) : Option Int32 :=
  fX3_fits_103 N S k50 x1 x2 x4 x6 (0 : Int32)
theorem bX3_fits_102 {N : Nat} (X : CallFix p m c cX3_fits 7 s args lw_all RX3) (hr : meth.sig.returnType = (some .boolean)) (hlk : meth.locks = false) {S : sM} (hM : MW D o q d dz S s s.heap []) {res : Int32} {k50 : Int32 → Int32 → Int32 → Int32 → Int32 → Option Int32} (Hk50 : ∀ (x1 : Int32) (x2 : Int32) (x4 : Int32) (x5 : Int32) (x6 : Int32) (ls : Array Slot), k50 x1 x2 x4 x5 x6 = some res → lv_has ls 7 [(0, .ref o), (1, .int x1), (2, .int x2), (4, .int x4), (5, .int x5), (6, .int x6)] → W p l e (rmL 2) s m args below meth c s.heap [] 0 0 (MQ below (k2_QcV (.int res)) args s 0 0 (fun _ => False)) (F0 m 50 ls [])) : ∀ (x1 : Int32) (x2 : Int32) (x4 : Int32) (x6 : Int32) (ls : Array Slot), fX3_fits_102 N S k50 x1 x2 x4 x6 = some res → lv_has ls 7 [(0, .ref o), (1, .int x1), (2, .int x2), (4, .int x4), (6, .int x6)] → W p l e (rmL 2) s m args below meth c s.heap [] 0 0 (MQ below (k2_QcV (.int res)) args s 0 0 (fun _ => False)) (F0 m 102 ls []) := by
  have hx := X.1
  have hb := X.2.1
  intro x1 x2 x4 x6 ls hf hl
  unfold fX3_fits_102 at hf
  refine lv_iconst (v := 0) hx hb dX3_fits_102 (by decide) ?_
  exact bX3_fits_103 X hr hlk hM Hk50 x1 x2 x4 x6 (0 : Int32) _ hf hl
noncomputable def fX3_fits_98 (N : Nat) (S : sM) (k50 : Int32 → Int32 → Int32 → Int32 → Int32 → Option Int32) (x1 : Int32) (x2 : Int32) (x4 : Int32) (x6 : Int32) : Option Int32 :=
  fX3_fits_103 N S k50 x1 x2 x4 x6 (1 : Int32)
theorem bX3_fits_98 {N : Nat} (X : CallFix p m c cX3_fits 7 s args lw_all RX3) (hr : meth.sig.returnType = (some .boolean)) (hlk : meth.locks = false) {S : sM} (hM : MW D o q d dz S s s.heap []) {res : Int32} {k50 : Int32 → Int32 → Int32 → Int32 → Int32 → Option Int32} (Hk50 : ∀ (x1 : Int32) (x2 : Int32) (x4 : Int32) (x5 : Int32) (x6 : Int32) (ls : Array Slot), k50 x1 x2 x4 x5 x6 = some res → lv_has ls 7 [(0, .ref o), (1, .int x1), (2, .int x2), (4, .int x4), (5, .int x5), (6, .int x6)] → W p l e (rmL 2) s m args below meth c s.heap [] 0 0 (MQ below (k2_QcV (.int res)) args s 0 0 (fun _ => False)) (F0 m 50 ls [])) : ∀ (x1 : Int32) (x2 : Int32) (x4 : Int32) (x6 : Int32) (ls : Array Slot), fX3_fits_98 N S k50 x1 x2 x4 x6 = some res → lv_has ls 7 [(0, .ref o), (1, .int x1), (2, .int x2), (4, .int x4), (6, .int x6)] → W p l e (rmL 2) s m args below meth c s.heap [] 0 0 (MQ below (k2_QcV (.int res)) args s 0 0 (fun _ => False)) (F0 m 98 ls []) := by
  have hx := X.1
  have hb := X.2.1
  intro x1 x2 x4 x6 ls hf hl
  unfold fX3_fits_98 at hf
  refine lv_iconst (v := 1) hx hb dX3_fits_98 (by decide) ?_
  refine lv_goto (tgt := 103) hx hb dX3_fits_99 rfl ?_
  exact bX3_fits_103 X hr hlk hM Hk50 x1 x2 x4 x6 (1 : Int32) _ hf hl
noncomputable def fX3_fits_50 (N : Nat) (S : sM) (kx111 : Int32 → Option Int32) : Nat → Int32 → Int32 → Int32 → Int32 → Int32 → Option Int32
  | 0, _, _, _, _, _ => none
  | n + 1, x1, x2, x4, x5, x6 =>
    if (S.1 49) ≤ x6 then (
      kx111 x5)
    else (
      if x5 = 0 then (
        fX3_fits_102 N S (fX3_fits_50 N S kx111 n) x1 x2 x4 x6)
      else (
        (ec_ag (S.2.2 50) 12 x6).bind fun v_8 =>
        if ¬ v_8 = x1 then (
          fX3_fits_98 N S (fX3_fits_50 N S kx111 n) x1 x2 x4 x6)
        else (
          (ec_ag (S.2.2 51) 12 x6).bind fun v_9 =>
          if ¬ v_9 = x2 then (
            fX3_fits_98 N S (fX3_fits_50 N S kx111 n) x1 x2 x4 x6)
          else (
            (ec_ag (S.2.2 52) 12 x6).bind fun v_10 =>
            if ¬ v_10 = x4 then (
              fX3_fits_102 N S (fX3_fits_50 N S kx111 n) x1 x2 x4 x6)
            else (
              fX3_fits_98 N S (fX3_fits_50 N S kx111 n) x1 x2 x4 x6)))))
theorem bX3_fits_50 {N : Nat} (X : CallFix p m c cX3_fits 7 s args lw_all RX3) (hr : meth.sig.returnType = (some .boolean)) (hlk : meth.locks = false) {S : sM} (hM : MW D o q d dz S s s.heap []) {res : Int32} {kx111 : Int32 → Option Int32} (Hkx111 : ∀ (x5 : Int32) (ls : Array Slot), kx111 x5 = some res → lv_has ls 7 [(0, .ref o), (5, .int x5)] → W p l e (rmL 2) s m args below meth c s.heap [] 0 0 (MQ below (k2_QcV (.int res)) args s 0 0 (fun _ => False)) (F0 m 111 ls [])) : ∀ (n : Nat) (x1 : Int32) (x2 : Int32) (x4 : Int32) (x5 : Int32) (x6 : Int32) (ls : Array Slot), fX3_fits_50 N S kx111 n x1 x2 x4 x5 x6 = some res → lv_has ls 7 [(0, .ref o), (1, .int x1), (2, .int x2), (4, .int x4), (5, .int x5), (6, .int x6)] → W p l e (rmL 2) s m args below meth c s.heap [] 0 0 (MQ below (k2_QcV (.int res)) args s 0 0 (fun _ => False)) (F0 m 50 ls []) := by
  have hx := X.1
  have hb := X.2.1
  intro n
  induction n with
  | zero =>
    intro x1 x2 x4 x5 x6 ls hf hl
    rw [fX3_fits_50] at hf
    cases hf
  | succ n ih =>
    intro x1 x2 x4 x5 x6 ls hf hl
    rw [fX3_fits_50] at hf
    refine lv_iload hx hb dX3_fits_50 (lv_at hl 5 rfl) ?_
    refine lv_aload_n hx hb dX3_fits_52 rfl (lv_at hl 0 rfl) ?_
    refine m_get (v := .int (S.1 49)) X hM 49 (by decide) q1023 rfl rfl dX3_fits_53 ?_
    refine lv_icmp_ge (tgt := 111) hx hb dX3_fits_56 rfl (fun cnd => ?_) (fun cnd => ?_)
    · have hf := ec_t cnd hf
      exact Hkx111 x5 _ hf (lv_sub hl [0, 4] rfl)
    · have hf := ec_f cnd hf
      refine lv_iload hx hb dX3_fits_59 (lv_at hl 4 rfl) ?_
      refine lv_if_eq (tgt := 102) hx hb dX3_fits_61 rfl (fun cnd => ?_) (fun cnd => ?_)
      · have hf := ec_t cnd hf
        exact bX3_fits_102 X hr hlk hM ih x1 x2 x4 x6 _ hf (lv_sub hl [0, 1, 2, 3, 5] rfl)
      · have hf := ec_f cnd hf
        refine lv_aload_n hx hb dX3_fits_64 rfl (lv_at hl 0 rfl) ?_
        refine m_get (v := .ref (q 50)) X hM 50 (by decide) q1024 rfl rfl dX3_fits_65 ?_
        refine lv_iload hx hb dX3_fits_68 (lv_at hl 5 rfl) ?_
        obtain ⟨v_8, h, hf⟩ := ec_bi hf
        refine m_iald X hM wma50 h dX3_fits_70 ?_
        refine lv_iload_n hx hb dX3_fits_71 rfl (lv_at hl 1 rfl) ?_
        refine lv_icmp_ne (tgt := 98) hx hb dX3_fits_72 rfl (fun cnd => ?_) (fun cnd => ?_)
        · have hf := ec_t cnd hf
          exact bX3_fits_98 X hr hlk hM ih x1 x2 x4 x6 _ hf (lv_sub hl [0, 1, 2, 3, 5] rfl)
        · have hf := ec_f (not_not_intro cnd) hf
          refine lv_aload_n hx hb dX3_fits_75 rfl (lv_at hl 0 rfl) ?_
          refine m_get (v := .ref (q 51)) X hM 51 (by decide) q1025 rfl rfl dX3_fits_76 ?_
          refine lv_iload hx hb dX3_fits_79 (lv_at hl 5 rfl) ?_
          obtain ⟨v_9, h, hf⟩ := ec_bi hf
          refine m_iald X hM wma51 h dX3_fits_81 ?_
          refine lv_iload_n hx hb dX3_fits_82 rfl (lv_at hl 2 rfl) ?_
          refine lv_icmp_ne (tgt := 98) hx hb dX3_fits_83 rfl (fun cnd => ?_) (fun cnd => ?_)
          · have hf := ec_t cnd hf
            exact bX3_fits_98 X hr hlk hM ih x1 x2 x4 x6 _ hf (lv_sub hl [0, 1, 2, 3, 5] rfl)
          · have hf := ec_f (not_not_intro cnd) hf
            refine lv_aload_n hx hb dX3_fits_86 rfl (lv_at hl 0 rfl) ?_
            refine m_get (v := .ref (q 52)) X hM 52 (by decide) q1026 rfl rfl dX3_fits_87 ?_
            refine lv_iload hx hb dX3_fits_90 (lv_at hl 5 rfl) ?_
            obtain ⟨v_10, h, hf⟩ := ec_bi hf
            refine m_iald X hM wma52 h dX3_fits_92 ?_
            refine lv_iload hx hb dX3_fits_93 (lv_at hl 3 rfl) ?_
            refine lv_icmp_ne (tgt := 102) hx hb dX3_fits_95 rfl (fun cnd => ?_) (fun cnd => ?_)
            · have hf := ec_t cnd hf
              exact bX3_fits_102 X hr hlk hM ih x1 x2 x4 x6 _ hf (lv_sub hl [0, 1, 2, 3, 5] rfl)
            · have hf := ec_f (not_not_intro cnd) hf
              exact bX3_fits_98 X hr hlk hM ih x1 x2 x4 x6 _ hf (lv_sub hl [0, 1, 2, 3, 5] rfl)
noncomputable def fX3_fits (N : Nat) (S : sM) (x1 : Int32) (x2 : Int32) (x3 : Int32) : Option Int32 :=
  fX3_fits_6 N S (fun x1_4 x2_5 x4_6 =>
    fX3_fits_50 N S (fun x5_11 =>
      ec_rz x5_11) N x1_4 x2_5 x4_6 (1 : Int32) (0 : Int32)) N x1 x2 x3 (0 : Int32) (0 : Int32)
theorem metX3_fits (l : Launch) (D : va_G) (o : Nat) (q : Nat → Nat) (d dz : ClassId) (N : Nat) (S : sM) (x1 : Int32) (x2 : Int32) (x3 : Int32) (res : Int32) (hf : fX3_fits N S x1 x2 x3 = some res) : Met l yX3_fits (ws_ yX3_fits cX3_fits 7 (some .boolean)) (rmL 2) (MPre D o q d dz S [.int x1, .int x2, .int x3]) (k2_QcV (.int res)) 0 0 (fun _ => False) := by
  refine m_ofR rfl (Nat.le_of_ble_eq_true rfl) (fun p e s m args below meth c X hr hlk hM ls hl => ?_)
  have hl : lv_has ls 7 [(0, .ref o), (1, .int x1), (2, .int x2), (3, .int x3)] := hl
  have hx := X.1
  have hb := X.2.1
  unfold fX3_fits at hf
  refine lv_iconst (v := 0) hx hb dX3_fits_0 (by decide) ?_
  refine lv_istore (lv' := [(4, .int (0 : Int32)), (0, .ref o), (1, .int x1), (2, .int x2), (3, .int x3)]) hx hb dX3_fits_1 hl (by decide) rfl (fun ls hl => ?_)
  refine lv_iconst (v := 0) hx hb dX3_fits_3 (by decide) ?_
  refine lv_istore (lv' := [(5, .int (0 : Int32)), (4, .int (0 : Int32)), (0, .ref o), (1, .int x1), (2, .int x2), (3, .int x3)]) hx hb dX3_fits_4 hl (by decide) rfl (fun ls hl => ?_)
  exact bX3_fits_6 X hr hlk hM (fun x1_4 x2_5 x4_6 ls hf hl => by
    refine lv_iconst (v := 1) hx hb dX3_fits_44 (by decide) ?_
    refine lv_istore (lv' := [(5, .int (1 : Int32)), (0, .ref o), (1, .int x1_4), (2, .int x2_5), (4, .int x4_6)]) hx hb dX3_fits_45 hl (by decide) rfl (fun ls hl => ?_)
    refine lv_iconst (v := 0) hx hb dX3_fits_47 (by decide) ?_
    refine lv_istore (lv' := [(6, .int (0 : Int32)), (5, .int (1 : Int32)), (0, .ref o), (1, .int x1_4), (2, .int x2_5), (4, .int x4_6)]) hx hb dX3_fits_48 hl (by decide) rfl (fun ls hl => ?_)
    exact bX3_fits_50 X hr hlk hM (fun x5_11 ls hf hl => by
      refine lv_iload hx hb dX3_fits_111 (lv_at hl 1 rfl) ?_
      obtain ⟨hn, h2⟩ := ec_rz_i hf
      subst h2
      exact e_zretR hx hb hr hlk hn dX3_fits_113) N x1_4 x2_5 x4_6 (1 : Int32) (0 : Int32) _ hf (lv_sub hl [2, 3, 4, 5, 1, 0] rfl)) N x1 x2 x3 (0 : Int32) (0 : Int32) _ hf (lv_sub hl [2, 3, 4, 5, 1, 0] rfl)
theorem hX3_fits : yX3_fits.cls = RX3 ∧ yX3_fits.cls ≠ "java/lang/invoke/MethodHandle" ∧ yX3_fits.cls ≠ "java/lang/invoke/VarHandle" ∧ (parseMethodDescriptor yX3_fits.desc).map (fun d => d.parameters.length) = some 3 := by decide +kernel

theorem gX3_362 : GoodIn lw_all (wsV RX3 362 RX3 yX3_hasRun (ws_ yX3_hasRun cX3_hasRun 5 (some .boolean))) := lw_V q1441 q1443 qs57 q63 q1444
theorem gX3_365 : GoodIn lw_all (wsV RX3 365 RX3 yX3_fits (ws_ yX3_fits cX3_fits 7 (some .boolean))) := lw_V q1445 q1447 qs58 q63 q1448
noncomputable def fX3_wired_25 (N : Nat) (S : sM) : Option Int32 :=
  some (-1 : Int32)
theorem bX3_wired_25 {N : Nat} (X : CallFix p m c cX3_wired 7 s args lw_all RX3) (hr : meth.sig.returnType = (some .int)) (hlk : meth.locks = false) {S : sM} (hM : MW D o q d dz S s s.heap []) {res : Int32} : ∀ (ls : Array Slot), fX3_wired_25 N S = some res → lv_has ls 7 [(0, .ref o)] → W p l e (rmL 3) s m args below meth c s.heap [] 0 0 (MQ below (k2_QcV (.int res)) args s 0 0 (fun _ => False)) (F0 m 25 ls []) := by
  have hx := X.1
  have hb := X.2.1
  intro ls hf hl
  unfold fX3_wired_25 at hf
  refine lv_iconst (v := -1) hx hb dX3_wired_25 (by decide) ?_
  obtain rfl := Option.some.inj hf
  exact e_iretR hx hb hr hlk dX3_wired_26
noncomputable def fX3_wired_106 (N : Nat) (S : sM) (k62 : Int32 → Int32 → Int32 → Int32 → Int32 → Int32 → Option Int32) (x1 : Int32) (x2 : Int32) (x3 : Int32) (x4 : Int32) (x5 : Int32) (x6 : Int32) : Option Int32 :=
  ec_lt (x6 + (1 : Int32)) fun x6_5 =>
  k62 x1 x2 x3 x4 x5 x6_5
theorem bX3_wired_106 {N : Nat} (X : CallFix p m c cX3_wired 7 s args lw_all RX3) (hr : meth.sig.returnType = (some .int)) (hlk : meth.locks = false) {S : sM} (hM : MW D o q d dz S s s.heap []) {res : Int32} {k62 : Int32 → Int32 → Int32 → Int32 → Int32 → Int32 → Option Int32} (Hk62 : ∀ (x1 : Int32) (x2 : Int32) (x3 : Int32) (x4 : Int32) (x5 : Int32) (x6 : Int32) (ls : Array Slot), k62 x1 x2 x3 x4 x5 x6 = some res → lv_has ls 7 [(0, .ref o), (1, .int x1), (2, .int x2), (3, .int x3), (4, .int x4), (5, .int x5), (6, .int x6)] → W p l e (rmL 3) s m args below meth c s.heap [] 0 0 (MQ below (k2_QcV (.int res)) args s 0 0 (fun _ => False)) (F0 m 62 ls [])) : ∀ (x1 : Int32) (x2 : Int32) (x3 : Int32) (x4 : Int32) (x5 : Int32) (x6 : Int32) (ls : Array Slot), fX3_wired_106 N S k62 x1 x2 x3 x4 x5 x6 = some res → lv_has ls 7 [(0, .ref o), (1, .int x1), (2, .int x2), (3, .int x3), (4, .int x4), (5, .int x5), (6, .int x6)] → W p l e (rmL 3) s m args below meth c s.heap [] 0 0 (MQ below (k2_QcV (.int res)) args s 0 0 (fun _ => False)) (F0 m 106 ls []) := by
  have hx := X.1
  have hb := X.2.1
  intro x1 x2 x3 x4 x5 x6 ls hf hl
  unfold fX3_wired_106 at hf
  refine e_inc (w := 1) (f := fun v => [(6, .int v), (0, .ref o), (1, .int x1), (2, .int x2), (3, .int x3), (4, .int x4), (5, .int x5)]) hx hb dX3_wired_106 hl (k := 6) rfl (by decide) (by decide) (fun _ => rfl) (fun x6_5 ex ls hl => ?_)
  have hf := ec_lt_i ex hf
  refine lv_goto (tgt := 62) hx hb dX3_wired_109 rfl ?_
  exact Hk62 x1 x2 x3 x4 x5 x6_5 _ hf (lv_sub hl [1, 2, 3, 4, 5, 6, 0] rfl)
noncomputable def fX3_wired_62 (N : Nat) (S : sM) (kx100 : Int32 → Option Int32) (kx112 : Int32 → Int32 → Int32 → Int32 → Int32 → Option Int32) : Nat → Int32 → Int32 → Int32 → Int32 → Int32 → Int32 → Option Int32
  | 0, _, _, _, _, _, _ => none
  | n + 1, x1, x2, x3, x4, x5, x6 =>
    if (256 : Int32) ≤ x6 then (
      kx112 x1 x2 x3 x4 x5)
    else (
      (fX3_countOf N x6).bind fun v_4 =>
      if ¬ v_4 = x5 then (
        fX3_wired_106 N S (fX3_wired_62 N S kx100 kx112 n) x1 x2 x3 x4 x5 x6)
      else (
        (fX3_fits N S x1 x2 x6).bind fun v_6 =>
        if v_6 = 0 then (
          fX3_wired_106 N S (fX3_wired_62 N S kx100 kx112 n) x1 x2 x3 x4 x5 x6)
        else (
          if ¬ x3 = ((10 : Int32) + x4) then (
            ec_lt (x4 + (1 : Int32)) fun x4_7 =>
            fX3_wired_106 N S (fX3_wired_62 N S kx100 kx112 n) x1 x2 x3 x4_7 x5 x6)
          else (
            kx100 x6))))
theorem bX3_wired_62 {N : Nat} (X : CallFix p m c cX3_wired 7 s args lw_all RX3) (hr : meth.sig.returnType = (some .int)) (hlk : meth.locks = false) {S : sM} (hM : MW D o q d dz S s s.heap []) {res : Int32} {kx100 : Int32 → Option Int32} {kx112 : Int32 → Int32 → Int32 → Int32 → Int32 → Option Int32} (Hkx100 : ∀ (x6 : Int32) (ls : Array Slot), kx100 x6 = some res → lv_has ls 7 [(0, .ref o), (6, .int x6)] → W p l e (rmL 3) s m args below meth c s.heap [] 0 0 (MQ below (k2_QcV (.int res)) args s 0 0 (fun _ => False)) (F0 m 100 ls [])) (Hkx112 : ∀ (x1 : Int32) (x2 : Int32) (x3 : Int32) (x4 : Int32) (x5 : Int32) (ls : Array Slot), kx112 x1 x2 x3 x4 x5 = some res → lv_has ls 7 [(0, .ref o), (1, .int x1), (2, .int x2), (3, .int x3), (4, .int x4), (5, .int x5)] → W p l e (rmL 3) s m args below meth c s.heap [] 0 0 (MQ below (k2_QcV (.int res)) args s 0 0 (fun _ => False)) (F0 m 112 ls [])) : ∀ (n : Nat) (x1 : Int32) (x2 : Int32) (x3 : Int32) (x4 : Int32) (x5 : Int32) (x6 : Int32) (ls : Array Slot), fX3_wired_62 N S kx100 kx112 n x1 x2 x3 x4 x5 x6 = some res → lv_has ls 7 [(0, .ref o), (1, .int x1), (2, .int x2), (3, .int x3), (4, .int x4), (5, .int x5), (6, .int x6)] → W p l e (rmL 3) s m args below meth c s.heap [] 0 0 (MQ below (k2_QcV (.int res)) args s 0 0 (fun _ => False)) (F0 m 62 ls []) := by
  have hx := X.1
  have hb := X.2.1
  intro n
  induction n with
  | zero =>
    intro x1 x2 x3 x4 x5 x6 ls hf hl
    rw [fX3_wired_62] at hf
    cases hf
  | succ n ih =>
    intro x1 x2 x3 x4 x5 x6 ls hf hl
    rw [fX3_wired_62] at hf
    refine lv_iload hx hb dX3_wired_62 (lv_at hl 6 rfl) ?_
    refine lv_sipush (v := 256) hx hb dX3_wired_64 (by decide) ?_
    refine lv_icmp_ge (tgt := 112) hx hb dX3_wired_67 rfl (fun cnd => ?_) (fun cnd => ?_)
    · have hf := ec_t cnd hf
      exact Hkx112 x1 x2 x3 x4 x5 _ hf (lv_sub hl [0, 1, 2, 3, 4, 5] rfl)
    · have hf := ec_f cnd hf
      refine lv_iload hx hb dX3_wired_70 (lv_at hl 6 rfl) ?_
      obtain ⟨v_4, h, hf⟩ := ec_bi hf
      refine e_cS (v := .int v_4) (As := [.int x6]) (rest := []) X (metX3_countOf l N x6 _ h) (va_cwS 1 X.2.2.2.2 gX3_273 rfl rfl rfl hX3_countOf ⟨Nat.le_of_ble_eq_true rfl, Nat.le_of_ble_eq_true rfl⟩) rfl hl.1 rfl (Nat.le_of_ble_eq_true rfl) ⟨Nat.zero_le _, Nat.zero_le _⟩ dX3_wired_72 ?_
      refine lv_iload hx hb dX3_wired_75 (lv_at hl 5 rfl) ?_
      refine lv_icmp_ne (tgt := 106) hx hb dX3_wired_77 rfl (fun cnd => ?_) (fun cnd => ?_)
      · have hf := ec_t cnd hf
        exact bX3_wired_106 X hr hlk hM ih x1 x2 x3 x4 x5 x6 _ hf hl
      · have hf := ec_f (not_not_intro cnd) hf
        refine lv_aload_n hx hb dX3_wired_80 rfl (lv_at hl 0 rfl) ?_
        refine lv_iload_n hx hb dX3_wired_81 rfl (lv_at hl 1 rfl) ?_
        refine lv_iload_n hx hb dX3_wired_82 rfl (lv_at hl 2 rfl) ?_
        refine lv_iload hx hb dX3_wired_83 (lv_at hl 6 rfl) ?_
        obtain ⟨v_6, h, hf⟩ := ec_bi hf
        refine m_cR (v := .int v_6) (As := [.int x1, .int x2, .int x6]) (rest := []) X hM (metX3_fits l D o q d dz N S x1 x2 x6 _ h) (cwV 3 X.2.2.2.2 gX3_365 rfl rfl rfl hX3_fits ⟨Nat.le_of_ble_eq_true rfl, Nat.le_of_ble_eq_true rfl⟩) rfl hl.1 rfl (Nat.le_of_ble_eq_true rfl) ⟨Nat.zero_le _, Nat.zero_le _⟩ dX3_wired_85 ?_
        refine lv_if_eq (tgt := 106) hx hb dX3_wired_88 rfl (fun cnd => ?_) (fun cnd => ?_)
        · have hf := ec_t cnd hf
          exact bX3_wired_106 X hr hlk hM ih x1 x2 x3 x4 x5 x6 _ hf hl
        · have hf := ec_f cnd hf
          refine lv_iload_n hx hb dX3_wired_91 rfl (lv_at hl 3 rfl) ?_
          refine lv_bipush (v := 10) hx hb dX3_wired_92 (by decide) ?_
          refine lv_iload hx hb dX3_wired_94 (lv_at hl 4 rfl) ?_
          refine lv_iadd hx hb dX3_wired_96 ?_
          refine lv_icmp_ne (tgt := 103) hx hb dX3_wired_97 rfl (fun cnd => ?_) (fun cnd => ?_)
          · have hf := ec_t cnd hf
            refine e_inc (w := 1) (f := fun v => [(4, .int v), (0, .ref o), (1, .int x1), (2, .int x2), (3, .int x3), (5, .int x5), (6, .int x6)]) hx hb dX3_wired_103 hl (k := 4) rfl (by decide) (by decide) (fun _ => rfl) (fun x4_7 ex ls hl => ?_)
            have hf := ec_lt_i ex hf
            exact bX3_wired_106 X hr hlk hM ih x1 x2 x3 x4_7 x5 x6 _ hf (lv_sub hl [1, 2, 3, 4, 0, 5, 6] rfl)
          · have hf := ec_f (not_not_intro cnd) hf
            exact Hkx100 x6 _ hf (lv_sub hl [0, 6] rfl)
noncomputable def fX3_wired_53 (N : Nat) (S : sM) (kx100 : Int32 → Option Int32) (kx118 : Int32 → Int32 → Option Int32) : Nat → Int32 → Int32 → Int32 → Int32 → Int32 → Option Int32
  | 0, _, _, _, _, _ => none
  | n + 1, x1, x2, x3, x4, x5 =>
    if (3 : Int32) ≤ x5 then (
      kx118 x3 x4)
    else (
      fX3_wired_62 N S (fun x6_8 =>
        kx100 x6_8) (fun x1_9 x2_10 x3_11 x4_12 x5_13 =>
        ec_lt (x5_13 + (1 : Int32)) fun x5_14 =>
        (fX3_wired_53 N S kx100 kx118 n) x1_9 x2_10 x3_11 x4_12 x5_14) N x1 x2 x3 x4 x5 (1 : Int32))
theorem bX3_wired_53 {N : Nat} (X : CallFix p m c cX3_wired 7 s args lw_all RX3) (hr : meth.sig.returnType = (some .int)) (hlk : meth.locks = false) {S : sM} (hM : MW D o q d dz S s s.heap []) {res : Int32} {kx100 : Int32 → Option Int32} {kx118 : Int32 → Int32 → Option Int32} (Hkx100 : ∀ (x6 : Int32) (ls : Array Slot), kx100 x6 = some res → lv_has ls 7 [(0, .ref o), (6, .int x6)] → W p l e (rmL 3) s m args below meth c s.heap [] 0 0 (MQ below (k2_QcV (.int res)) args s 0 0 (fun _ => False)) (F0 m 100 ls [])) (Hkx118 : ∀ (x3 : Int32) (x4 : Int32) (ls : Array Slot), kx118 x3 x4 = some res → lv_has ls 7 [(0, .ref o), (3, .int x3), (4, .int x4)] → W p l e (rmL 3) s m args below meth c s.heap [] 0 0 (MQ below (k2_QcV (.int res)) args s 0 0 (fun _ => False)) (F0 m 118 ls [])) : ∀ (n : Nat) (x1 : Int32) (x2 : Int32) (x3 : Int32) (x4 : Int32) (x5 : Int32) (ls : Array Slot), fX3_wired_53 N S kx100 kx118 n x1 x2 x3 x4 x5 = some res → lv_has ls 7 [(0, .ref o), (1, .int x1), (2, .int x2), (3, .int x3), (4, .int x4), (5, .int x5)] → W p l e (rmL 3) s m args below meth c s.heap [] 0 0 (MQ below (k2_QcV (.int res)) args s 0 0 (fun _ => False)) (F0 m 53 ls []) := by
  have hx := X.1
  have hb := X.2.1
  intro n
  induction n with
  | zero =>
    intro x1 x2 x3 x4 x5 ls hf hl
    rw [fX3_wired_53] at hf
    cases hf
  | succ n ih =>
    intro x1 x2 x3 x4 x5 ls hf hl
    rw [fX3_wired_53] at hf
    refine lv_iload hx hb dX3_wired_53 (lv_at hl 5 rfl) ?_
    refine lv_iconst (v := 3) hx hb dX3_wired_55 (by decide) ?_
    refine lv_icmp_ge (tgt := 118) hx hb dX3_wired_56 rfl (fun cnd => ?_) (fun cnd => ?_)
    · have hf := ec_t cnd hf
      exact Hkx118 x3 x4 _ hf (lv_sub hl [0, 3, 4] rfl)
    · have hf := ec_f cnd hf
      refine lv_iconst (v := 1) hx hb dX3_wired_59 (by decide) ?_
      refine lv_istore (lv' := [(6, .int (1 : Int32)), (0, .ref o), (1, .int x1), (2, .int x2), (3, .int x3), (4, .int x4), (5, .int x5)]) hx hb dX3_wired_60 hl (by decide) rfl (fun ls hl => ?_)
      exact bX3_wired_62 X hr hlk hM (fun x6_8 ls hf hl => by
        exact Hkx100 x6_8 _ hf hl) (fun x1_9 x2_10 x3_11 x4_12 x5_13 ls hf hl => by
        refine e_inc (w := 1) (f := fun v => [(5, .int v), (0, .ref o), (1, .int x1_9), (2, .int x2_10), (3, .int x3_11), (4, .int x4_12)]) hx hb dX3_wired_112 hl (k := 5) rfl (by decide) (by decide) (fun _ => rfl) (fun x5_14 ex ls hl => ?_)
        have hf := ec_lt_i ex hf
        refine lv_goto (tgt := 53) hx hb dX3_wired_115 rfl ?_
        exact ih x1_9 x2_10 x3_11 x4_12 x5_14 _ hf (lv_sub hl [1, 2, 3, 4, 5, 0] rfl)) N x1 x2 x3 x4 x5 (1 : Int32) _ hf (lv_sub hl [1, 2, 3, 4, 5, 6, 0] rfl)
noncomputable def fX3_wired_27 (N : Nat) (S : sM) (x1 : Int32) (x2 : Int32) (x3 : Int32) : Option Int32 :=
  (fX3_hasRun N S x1 x2).bind fun v_3 =>
  if ¬ v_3 = 0 then (
    fX3_wired_53 N S (fun x6_15 =>
      some x6_15) (fun x3_16 x4_17 =>
      if ¬ x3_16 = 0 then (
        some (-1 : Int32))
      else (
        some x4_17)) N x1 x2 x3 (0 : Int32) (1 : Int32))
  else (
    if ¬ x3 = 0 then (
      some (-1 : Int32))
    else (
      some (-4 : Int32)))
theorem bX3_wired_27 {N : Nat} (X : CallFix p m c cX3_wired 7 s args lw_all RX3) (hr : meth.sig.returnType = (some .int)) (hlk : meth.locks = false) {S : sM} (hM : MW D o q d dz S s s.heap []) {res : Int32} : ∀ (x1 : Int32) (x2 : Int32) (x3 : Int32) (ls : Array Slot), fX3_wired_27 N S x1 x2 x3 = some res → lv_has ls 7 [(0, .ref o), (1, .int x1), (2, .int x2), (3, .int x3)] → W p l e (rmL 3) s m args below meth c s.heap [] 0 0 (MQ below (k2_QcV (.int res)) args s 0 0 (fun _ => False)) (F0 m 27 ls []) := by
  have hx := X.1
  have hb := X.2.1
  intro x1 x2 x3 ls hf hl
  unfold fX3_wired_27 at hf
  refine lv_aload_n hx hb dX3_wired_27 rfl (lv_at hl 0 rfl) ?_
  refine lv_iload_n hx hb dX3_wired_28 rfl (lv_at hl 1 rfl) ?_
  refine lv_iload_n hx hb dX3_wired_29 rfl (lv_at hl 2 rfl) ?_
  obtain ⟨v_3, h, hf⟩ := ec_bi hf
  refine m_cR (v := .int v_3) (As := [.int x1, .int x2]) (rest := []) X hM (metX3_hasRun l D o q d dz N S x1 x2 _ h) (cwV 2 X.2.2.2.2 gX3_362 rfl rfl rfl hX3_hasRun ⟨Nat.le_of_ble_eq_true rfl, Nat.le_of_ble_eq_true rfl⟩) rfl hl.1 rfl (Nat.le_of_ble_eq_true rfl) ⟨Nat.zero_le _, Nat.zero_le _⟩ dX3_wired_30 ?_
  refine lv_if_ne (tgt := 47) hx hb dX3_wired_33 rfl (fun cnd => ?_) (fun cnd => ?_)
  · have hf := ec_t cnd hf
    refine lv_iconst (v := 0) hx hb dX3_wired_47 (by decide) ?_
    refine lv_istore (lv' := [(4, .int (0 : Int32)), (0, .ref o), (1, .int x1), (2, .int x2), (3, .int x3)]) hx hb dX3_wired_48 hl (by decide) rfl (fun ls hl => ?_)
    refine lv_iconst (v := 1) hx hb dX3_wired_50 (by decide) ?_
    refine lv_istore (lv' := [(5, .int (1 : Int32)), (4, .int (0 : Int32)), (0, .ref o), (1, .int x1), (2, .int x2), (3, .int x3)]) hx hb dX3_wired_51 hl (by decide) rfl (fun ls hl => ?_)
    exact bX3_wired_53 X hr hlk hM (fun x6_15 ls hf hl => by
      refine lv_iload hx hb dX3_wired_100 (lv_at hl 1 rfl) ?_
      obtain rfl := Option.some.inj hf
      exact e_iretR hx hb hr hlk dX3_wired_102) (fun x3_16 x4_17 ls hf hl => by
      refine lv_iload_n hx hb dX3_wired_118 rfl (lv_at hl 1 rfl) ?_
      refine lv_if_ne (tgt := 127) hx hb dX3_wired_119 rfl (fun cnd => ?_) (fun cnd => ?_)
      · have hf := ec_t cnd hf
        refine lv_iconst (v := -1) hx hb dX3_wired_127 (by decide) ?_
        obtain rfl := Option.some.inj hf
        exact e_iretR hx hb hr hlk dX3_wired_128
      · have hf := ec_f (not_not_intro cnd) hf
        refine lv_iload hx hb dX3_wired_122 (lv_at hl 2 rfl) ?_
        refine lv_goto (tgt := 128) hx hb dX3_wired_124 rfl ?_
        obtain rfl := Option.some.inj hf
        exact e_iretR hx hb hr hlk dX3_wired_128) N x1 x2 x3 (0 : Int32) (1 : Int32) _ hf (lv_sub hl [2, 3, 4, 5, 1, 0] rfl)
  · have hf := ec_f (not_not_intro cnd) hf
    refine lv_iload_n hx hb dX3_wired_36 rfl (lv_at hl 3 rfl) ?_
    refine lv_if_ne (tgt := 45) hx hb dX3_wired_37 rfl (fun cnd => ?_) (fun cnd => ?_)
    · have hf := ec_t cnd hf
      refine lv_iconst (v := -1) hx hb dX3_wired_45 (by decide) ?_
      obtain rfl := Option.some.inj hf
      exact e_iretR hx hb hr hlk dX3_wired_46
    · have hf := ec_f (not_not_intro cnd) hf
      refine lv_bipush (v := -4) hx hb dX3_wired_40 (by decide) ?_
      refine lv_goto (tgt := 46) hx hb dX3_wired_42 rfl ?_
      obtain rfl := Option.some.inj hf
      exact e_iretR hx hb hr hlk dX3_wired_46
noncomputable def fX3_wired (N : Nat) (S : sM) (x1 : Int32) (x2 : Int32) (x3 : Int32) : Option Int32 :=
  (fX3_isCounter S x1).bind fun v_1 =>
  if v_1 = 0 then (
    fX3_wired_25 N S)
  else (
    (fX3_isEvent x2).bind fun v_2 =>
    if v_2 = 0 then (
      fX3_wired_25 N S)
    else (
      if x3 = 0 then (
        fX3_wired_27 N S x1 x2 x3)
      else (
        if (10 : Int32) ≤ x3 then (
          fX3_wired_27 N S x1 x2 x3)
        else (
          fX3_wired_25 N S))))
theorem metX3_wired (l : Launch) (D : va_G) (o : Nat) (q : Nat → Nat) (d dz : ClassId) (N : Nat) (S : sM) (x1 : Int32) (x2 : Int32) (x3 : Int32) (res : Int32) (hf : fX3_wired N S x1 x2 x3 = some res) : Met l yX3_wired (ws_ yX3_wired cX3_wired 7 (some .int)) (rmL 3) (MPre D o q d dz S [.int x1, .int x2, .int x3]) (k2_QcV (.int res)) 0 0 (fun _ => False) := by
  refine m_ofR rfl (Nat.le_of_ble_eq_true rfl) (fun p e s m args below meth c X hr hlk hM ls hl => ?_)
  have hl : lv_has ls 7 [(0, .ref o), (1, .int x1), (2, .int x2), (3, .int x3)] := hl
  have hx := X.1
  have hb := X.2.1
  unfold fX3_wired at hf
  refine lv_aload_n hx hb dX3_wired_0 rfl (lv_at hl 0 rfl) ?_
  refine lv_iload_n hx hb dX3_wired_1 rfl (lv_at hl 1 rfl) ?_
  obtain ⟨v_1, h, hf⟩ := ec_bi hf
  refine m_cR (v := .int v_1) (As := [.int x1]) (rest := []) X hM (metX3_isCounter l D o q d dz S x1 _ h) (cwV 1 X.2.2.2.2 gX3_279 rfl rfl rfl hX3_isCounter ⟨Nat.le_of_ble_eq_true rfl, Nat.le_of_ble_eq_true rfl⟩) rfl hl.1 rfl (Nat.le_of_ble_eq_true rfl) ⟨Nat.zero_le _, Nat.zero_le _⟩ dX3_wired_2 ?_
  refine lv_if_eq (tgt := 25) hx hb dX3_wired_5 rfl (fun cnd => ?_) (fun cnd => ?_)
  · have hf := ec_t cnd hf
    exact bX3_wired_25 X hr hlk hM _ hf (lv_sub hl [0] rfl)
  · have hf := ec_f cnd hf
    refine lv_iload_n hx hb dX3_wired_8 rfl (lv_at hl 2 rfl) ?_
    obtain ⟨v_2, h, hf⟩ := ec_bi hf
    refine e_cS (v := .int v_2) (As := [.int x2]) (rest := []) X (metX3_isEvent l x2 _ h) (va_cwS 1 X.2.2.2.2 gX3_260 rfl rfl rfl hX3_isEvent ⟨Nat.le_of_ble_eq_true rfl, Nat.le_of_ble_eq_true rfl⟩) rfl hl.1 rfl (Nat.le_of_ble_eq_true rfl) ⟨Nat.zero_le _, Nat.zero_le _⟩ dX3_wired_9 ?_
    refine lv_if_eq (tgt := 25) hx hb dX3_wired_12 rfl (fun cnd => ?_) (fun cnd => ?_)
    · have hf := ec_t cnd hf
      exact bX3_wired_25 X hr hlk hM _ hf (lv_sub hl [0] rfl)
    · have hf := ec_f cnd hf
      refine lv_iload_n hx hb dX3_wired_15 rfl (lv_at hl 3 rfl) ?_
      refine lv_if_eq (tgt := 27) hx hb dX3_wired_16 rfl (fun cnd => ?_) (fun cnd => ?_)
      · have hf := ec_t cnd hf
        exact bX3_wired_27 X hr hlk hM x1 x2 x3 _ hf hl
      · have hf := ec_f cnd hf
        refine lv_iload_n hx hb dX3_wired_19 rfl (lv_at hl 3 rfl) ?_
        refine lv_bipush (v := 10) hx hb dX3_wired_20 (by decide) ?_
        refine lv_icmp_ge (tgt := 27) hx hb dX3_wired_22 rfl (fun cnd => ?_) (fun cnd => ?_)
        · have hf := ec_t cnd hf
          exact bX3_wired_27 X hr hlk hM x1 x2 x3 _ hf hl
        · have hf := ec_f cnd hf
          exact bX3_wired_25 X hr hlk hM _ hf (lv_sub hl [0] rfl)
theorem hX3_wired : yX3_wired.cls = RX3 ∧ yX3_wired.cls ≠ "java/lang/invoke/MethodHandle" ∧ yX3_wired.cls ≠ "java/lang/invoke/VarHandle" ∧ (parseMethodDescriptor yX3_wired.desc).map (fun d => d.parameters.length) = some 3 := by decide +kernel

noncomputable def fX3_isSheet_28 : Option Int32 :=
  some (0 : Int32)
theorem bX3_isSheet_28 (X : CallFix p m c cX3_isSheet 2 s args lw_all RX3) (hr : meth.sig.returnType = (some .boolean)) (hlk : meth.locks = false) {res : Int32} : ∀ (ls : Array Slot), fX3_isSheet_28 = some res → lv_has ls 2 [] → W p l e (rmL 1) s m args below meth c s.heap [] 0 0 (MQ below (k2_QcV (.int res)) args s 0 0 (fun _ => False)) (F0 m 28 ls []) := by
  have hx := X.1
  have hb := X.2.1
  intro ls hf hl
  unfold fX3_isSheet_28 at hf
  refine lv_iconst (v := 0) hx hb dX3_isSheet_28 (by decide) ?_
  obtain rfl := Option.some.inj hf
  exact e_zretR hx hb hr hlk rfl dX3_isSheet_29
noncomputable def fX3_isSheet (x0 : Int32) (x1 : Int32) : Option Int32 :=
  (fX3_in (x0.toInt64) (0 : Int64) (3 : Int64)).bind fun v_1 =>
  if v_1 = 0 then (
    fX3_isSheet_28)
  else (
    (fX3_in (x1.toInt64) (0 : Int64) (2 : Int64)).bind fun v_2 =>
    if v_2 = 0 then (
      fX3_isSheet_28)
    else (
      some (1 : Int32)))
theorem metX3_isSheet (l : Launch) (x0 : Int32) (x1 : Int32) (res : Int32) (hf : fX3_isSheet x0 x1 = some res) : Met l yX3_isSheet (ws_ yX3_isSheet cX3_isSheet 2 (some .boolean)) (rmL 1) (PA [.int x0, .int x1]) (k2_QcV (.int res)) 0 0 (fun _ => False) := by
  refine e_ofS (by decide) (Nat.le_of_ble_eq_true rfl) (fun p e s m args below meth c X hr hlk ls hl => ?_)
  have hl : lv_has ls 2 [(0, .int x0), (1, .int x1)] := hl
  have hx := X.1
  have hb := X.2.1
  unfold fX3_isSheet at hf
  refine lv_iload_n hx hb dX3_isSheet_0 rfl (lv_at hl 0 rfl) ?_
  refine lv_i2l hx hb dX3_isSheet_1 rfl ?_
  refine lv_lconst (v := 0) hx hb dX3_isSheet_2 (by decide) ?_
  refine lv_ldc2 (own := RX3) (v := 3) hx hb X.2.2.2.1 (X.2.2.2.2 _ q1366) dX3_isSheet_3 ?_
  obtain ⟨v_1, h, hf⟩ := ec_bi hf
  refine e_cS (v := .int v_1) (As := [.long (x0.toInt64), .long (0 : Int64), .long (3 : Int64)]) (rest := []) X (metX3_in l (x0.toInt64) (0 : Int64) (3 : Int64) _ h) (va_cwS 3 X.2.2.2.2 gX3_124 rfl rfl rfl hX3_in ⟨Nat.le_of_ble_eq_true rfl, Nat.le_of_ble_eq_true rfl⟩) rfl hl.1 rfl (Nat.le_of_ble_eq_true rfl) ⟨Nat.zero_le _, Nat.zero_le _⟩ dX3_isSheet_6 ?_
  refine lv_if_eq (tgt := 28) hx hb dX3_isSheet_9 rfl (fun cnd => ?_) (fun cnd => ?_)
  · have hf := ec_t cnd hf
    exact bX3_isSheet_28 X hr hlk  _ hf (lv_sub hl [] rfl)
  · have hf := ec_f cnd hf
    refine lv_iload_n hx hb dX3_isSheet_12 rfl (lv_at hl 1 rfl) ?_
    refine lv_i2l hx hb dX3_isSheet_13 rfl ?_
    refine lv_lconst (v := 0) hx hb dX3_isSheet_14 (by decide) ?_
    refine lv_ldc2 (own := RX3) (v := 2) hx hb X.2.2.2.1 (X.2.2.2.2 _ q1321) dX3_isSheet_15 ?_
    obtain ⟨v_2, h, hf⟩ := ec_bi hf
    refine e_cS (v := .int v_2) (As := [.long (x1.toInt64), .long (0 : Int64), .long (2 : Int64)]) (rest := []) X (metX3_in l (x1.toInt64) (0 : Int64) (2 : Int64) _ h) (va_cwS 3 X.2.2.2.2 gX3_124 rfl rfl rfl hX3_in ⟨Nat.le_of_ble_eq_true rfl, Nat.le_of_ble_eq_true rfl⟩) rfl hl.1 rfl (Nat.le_of_ble_eq_true rfl) ⟨Nat.zero_le _, Nat.zero_le _⟩ dX3_isSheet_18 ?_
    refine lv_if_eq (tgt := 28) hx hb dX3_isSheet_21 rfl (fun cnd => ?_) (fun cnd => ?_)
    · have hf := ec_t cnd hf
      exact bX3_isSheet_28 X hr hlk  _ hf (lv_sub hl [] rfl)
    · have hf := ec_f cnd hf
      refine lv_iconst (v := 1) hx hb dX3_isSheet_24 (by decide) ?_
      refine lv_goto (tgt := 29) hx hb dX3_isSheet_25 rfl ?_
      obtain rfl := Option.some.inj hf
      exact e_zretR hx hb hr hlk rfl dX3_isSheet_29
theorem hX3_isSheet : yX3_isSheet.cls ≠ "java/lang/invoke/MethodHandle" ∧ yX3_isSheet.cls ≠ "java/lang/invoke/VarHandle" ∧ (parseMethodDescriptor yX3_isSheet.desc).map (fun d => d.parameters.length) = some 2 := by decide +kernel

theorem gX3_368 : GoodIn lw_all (va_wsS RX3 368 yX3_isSheet (ws_ yX3_isSheet cX3_isSheet 2 (some .boolean))) := lw_S q1453 q1454 q63 q1455
noncomputable def fX3_sheet_14 (N : Nat) (S : sM) : Option (Int32 × sM) :=
  some ((-1 : Int32), S)
theorem bX3_sheet_14 {N : Nat} (X : CallFix p m c cX3_sheet 5 s args lw_all RX3) (hr : meth.sig.returnType = (some .int)) (hlk : meth.locks = false) (hG : MG o q) {res : Int32} {Sr : sM} : ∀ (S : sM) (H : Heap) (locs : List Loc) (ls : Array Slot), fX3_sheet_14 N S = some (res, Sr) → MW D o q d dz S s H locs → lv_has ls 5 [(0, .ref o)] → W p l e (rmL 2) s m args below meth c H locs 0 0 (MQ below (MPost D o q d dz (some (.int res)) Sr) args s 0 0 (AM o q)) (F0 m 14 ls []) := by
  have hx := X.1
  have hb := X.2.1
  intro S H locs ls hf hM hl
  unfold fX3_sheet_14 at hf
  refine lv_iconst (v := -1) hx hb dX3_sheet_14 (by decide) ?_
  obtain ⟨rfl, rfl⟩ := Prod.mk.inj (Option.some.inj hf)
  exact m_iret X hr hlk hM dX3_sheet_15
noncomputable def fX3_sheet_40 (N : Nat) (kx66 : sM → Option (Int32 × sM)) : Nat → sM → Int32 → Int32 → Option (Int32 × sM)
  | 0, _, _, _ => none
  | n + 1, S, x1, x4 =>
    if (40 : Int32) ≤ x4 then (
      kx66 S)
    else (
      (ec_as S 55 160 (((40 : Int32) * x1) + x4) (0 : Int32)).bind fun S_4 =>
      ec_lt (x4 + (1 : Int32)) fun x4_5 =>
      (fX3_sheet_40 N kx66 n) S_4 x1 x4_5)
theorem bX3_sheet_40 {N : Nat} (X : CallFix p m c cX3_sheet 5 s args lw_all RX3) (hr : meth.sig.returnType = (some .int)) (hlk : meth.locks = false) (hG : MG o q) {res : Int32} {Sr : sM} {kx66 : sM → Option (Int32 × sM)} (Hkx66 : ∀ (S : sM) (H : Heap) (locs : List Loc) (ls : Array Slot), kx66 S = some (res, Sr) → MW D o q d dz S s H locs → lv_has ls 5 [(0, .ref o)] → W p l e (rmL 2) s m args below meth c H locs 0 0 (MQ below (MPost D o q d dz (some (.int res)) Sr) args s 0 0 (AM o q)) (F0 m 66 ls [])) : ∀ (n : Nat) (S : sM) (x1 : Int32) (x4 : Int32) (H : Heap) (locs : List Loc) (ls : Array Slot), fX3_sheet_40 N kx66 n S x1 x4 = some (res, Sr) → MW D o q d dz S s H locs → lv_has ls 5 [(0, .ref o), (1, .int x1), (4, .int x4)] → W p l e (rmL 2) s m args below meth c H locs 0 0 (MQ below (MPost D o q d dz (some (.int res)) Sr) args s 0 0 (AM o q)) (F0 m 40 ls []) := by
  have hx := X.1
  have hb := X.2.1
  intro n
  induction n with
  | zero =>
    intro S x1 x4 H locs ls hf hM hl
    rw [fX3_sheet_40] at hf
    cases hf
  | succ n ih =>
    intro S x1 x4 H locs ls hf hM hl
    rw [fX3_sheet_40] at hf
    refine lv_iload hx hb dX3_sheet_40 (lv_at hl 2 rfl) ?_
    refine lv_bipush (v := 40) hx hb dX3_sheet_42 (by decide) ?_
    refine lv_icmp_ge (tgt := 66) hx hb dX3_sheet_44 rfl (fun cnd => ?_) (fun cnd => ?_)
    · have hf := ec_t cnd hf
      exact Hkx66 S _ _ _ hf hM (lv_sub hl [0] rfl)
    · have hf := ec_f cnd hf
      refine lv_aload_n hx hb dX3_sheet_47 rfl (lv_at hl 0 rfl) ?_
      refine m_get (v := .ref (q 55)) X hM 55 (by decide) q1029 rfl rfl dX3_sheet_48 ?_
      refine lv_bipush (v := 40) hx hb dX3_sheet_51 (by decide) ?_
      refine lv_iload_n hx hb dX3_sheet_53 rfl (lv_at hl 1 rfl) ?_
      refine lv_imul hx hb dX3_sheet_54 ?_
      refine lv_iload hx hb dX3_sheet_55 (lv_at hl 2 rfl) ?_
      refine lv_iadd hx hb dX3_sheet_57 ?_
      refine lv_iconst (v := 0) hx hb dX3_sheet_58 (by decide) ?_
      obtain ⟨S_4, h, hf⟩ := ec_bi hf
      refine m_iast X hG hM wma55 wms55 h dX3_sheet_59 (fun H locs hM => ?_)
      refine e_inc (w := 1) (f := fun v => [(4, .int v), (0, .ref o), (1, .int x1)]) hx hb dX3_sheet_60 hl (k := 2) rfl (by decide) (by decide) (fun _ => rfl) (fun x4_5 ex ls hl => ?_)
      have hf := ec_lt_i ex hf
      refine lv_goto (tgt := 40) hx hb dX3_sheet_63 rfl ?_
      exact ih S_4 x1 x4_5 _ _ _ hf hM (lv_sub hl [1, 2, 0] rfl)
noncomputable def fX3_sheet (N : Nat) (S : sM) (x1 : Int32) (x2 : Int32) (x3 : Int32) : Option (Int32 × sM) :=
  (fX3_isSheet x1 x2).bind fun v_1 =>
  if v_1 = 0 then (
    fX3_sheet_14 N S)
  else (
    if x3 ≤ (40 : Int32) then (
      if 0 ≤ x3 then (
        (ec_as S 53 4 x1 x2).bind fun S_2 =>
        (ec_as S_2 54 4 x1 x3).bind fun S_3 =>
        fX3_sheet_40 N (fun S_6 =>
          some ((1 : Int32), S_6)) N S_3 x1 (0 : Int32))
      else (
        some ((-14 : Int32), S)))
    else (
      fX3_sheet_14 N S))
theorem metX3_sheet (l : Launch) (D : va_G) (o : Nat) (q : Nat → Nat) (d dz : ClassId) (hG : MG o q) (N : Nat) (S : sM) (x1 : Int32) (x2 : Int32) (x3 : Int32) (res : Int32) (Sr : sM) (hf : fX3_sheet N S x1 x2 x3 = some (res, Sr)) : Met l yX3_sheet (ws_ yX3_sheet cX3_sheet 5 (some .int)) (rmL 2) (MPre D o q d dz S [.int x1, .int x2, .int x3]) (MPost D o q d dz (some (.int res)) Sr) 0 0 (AM o q) := by
  refine m_ofW rfl (Nat.le_of_ble_eq_true rfl) (fun p e s m args below meth c X hr hlk hM ls hl => ?_)
  have hl : lv_has ls 5 [(0, .ref o), (1, .int x1), (2, .int x2), (3, .int x3)] := hl
  have hx := X.1
  have hb := X.2.1
  unfold fX3_sheet at hf
  refine lv_iload_n hx hb dX3_sheet_0 rfl (lv_at hl 1 rfl) ?_
  refine lv_iload_n hx hb dX3_sheet_1 rfl (lv_at hl 2 rfl) ?_
  obtain ⟨v_1, h, hf⟩ := ec_bi hf
  refine e_cS (v := .int v_1) (As := [.int x1, .int x2]) (rest := []) X (metX3_isSheet l x1 x2 _ h) (va_cwS 2 X.2.2.2.2 gX3_368 rfl rfl rfl hX3_isSheet ⟨Nat.le_of_ble_eq_true rfl, Nat.le_of_ble_eq_true rfl⟩) rfl hl.1 rfl (Nat.le_of_ble_eq_true rfl) ⟨Nat.zero_le _, Nat.zero_le _⟩ dX3_sheet_2 ?_
  refine lv_if_eq (tgt := 14) hx hb dX3_sheet_5 rfl (fun cnd => ?_) (fun cnd => ?_)
  · have hf := ec_t cnd hf
    exact bX3_sheet_14 X hr hlk hG S _ _ _ hf hM (lv_sub hl [0] rfl)
  · have hf := ec_f cnd hf
    refine lv_iload_n hx hb dX3_sheet_8 rfl (lv_at hl 3 rfl) ?_
    refine lv_bipush (v := 40) hx hb dX3_sheet_9 (by decide) ?_
    refine lv_icmp_le (tgt := 16) hx hb dX3_sheet_11 rfl (fun cnd => ?_) (fun cnd => ?_)
    · have hf := ec_t cnd hf
      refine lv_iload_n hx hb dX3_sheet_16 rfl (lv_at hl 3 rfl) ?_
      refine lv_if_ge (tgt := 23) hx hb dX3_sheet_17 rfl (fun cnd => ?_) (fun cnd => ?_)
      · have hf := ec_t cnd hf
        refine lv_aload_n hx hb dX3_sheet_23 rfl (lv_at hl 0 rfl) ?_
        refine m_get (v := .ref (q 53)) X hM 53 (by decide) q1027 rfl rfl dX3_sheet_24 ?_
        refine lv_iload_n hx hb dX3_sheet_27 rfl (lv_at hl 1 rfl) ?_
        refine lv_iload_n hx hb dX3_sheet_28 rfl (lv_at hl 2 rfl) ?_
        obtain ⟨S_2, h, hf⟩ := ec_bi hf
        refine m_iast X hG hM wma53 wms53 h dX3_sheet_29 (fun H locs hM => ?_)
        refine lv_aload_n hx hb dX3_sheet_30 rfl (lv_at hl 0 rfl) ?_
        refine m_get (v := .ref (q 54)) X hM 54 (by decide) q1028 rfl rfl dX3_sheet_31 ?_
        refine lv_iload_n hx hb dX3_sheet_34 rfl (lv_at hl 1 rfl) ?_
        refine lv_iload_n hx hb dX3_sheet_35 rfl (lv_at hl 3 rfl) ?_
        obtain ⟨S_3, h, hf⟩ := ec_bi hf
        refine m_iast X hG hM wma54 wms54 h dX3_sheet_36 (fun H locs hM => ?_)
        refine lv_iconst (v := 0) hx hb dX3_sheet_37 (by decide) ?_
        refine lv_istore (lv' := [(4, .int (0 : Int32)), (0, .ref o), (1, .int x1), (2, .int x2), (3, .int x3)]) hx hb dX3_sheet_38 hl (by decide) rfl (fun ls hl => ?_)
        exact bX3_sheet_40 X hr hlk hG (fun S_6 H locs ls hf hM hl => by
          refine lv_iconst (v := 1) hx hb dX3_sheet_66 (by decide) ?_
          obtain ⟨rfl, rfl⟩ := Prod.mk.inj (Option.some.inj hf)
          exact m_iret X hr hlk hM dX3_sheet_67) N S_3 x1 (0 : Int32) _ _ _ hf hM (lv_sub hl [1, 2, 0] rfl)
      · have hf := ec_f cnd hf
        refine lv_bipush (v := -14) hx hb dX3_sheet_20 (by decide) ?_
        obtain ⟨rfl, rfl⟩ := Prod.mk.inj (Option.some.inj hf)
        exact m_iret X hr hlk hM dX3_sheet_22
    · have hf := ec_f cnd hf
      exact bX3_sheet_14 X hr hlk hG S _ _ _ hf hM (lv_sub hl [0] rfl)
theorem hX3_sheet : yX3_sheet.cls = RX3 ∧ yX3_sheet.cls ≠ "java/lang/invoke/MethodHandle" ∧ yX3_sheet.cls ≠ "java/lang/invoke/VarHandle" ∧ (parseMethodDescriptor yX3_sheet.desc).map (fun d => d.parameters.length) = some 3 := by decide +kernel

noncomputable def fX3_lay_85 (S : sM) (t0 : Int32) (t1 : Int32) : Option (Int32 × sM) :=
  (ec_as S 55 160 t1 t0).bind fun S_7 =>
  some ((1 : Int32), S_7)
theorem bX3_lay_85 (X : CallFix p m c cX3_lay 4 s args lw_all RX3) (hr : meth.sig.returnType = (some .int)) (hlk : meth.locks = false) (hG : MG o q) {res : Int32} {Sr : sM} : ∀ (S : sM) (t0 : Int32) (t1 : Int32) (H : Heap) (locs : List Loc) (ls : Array Slot), fX3_lay_85 S t0 t1 = some (res, Sr) → MW D o q d dz S s H locs → lv_has ls 4 [(0, .ref o)] → W p l e (rmL 2) s m args below meth c H locs 0 0 (MQ below (MPost D o q d dz (some (.int res)) Sr) args s 0 0 (AM o q)) (F0 m 85 ls [.int t0, .int t1, .ref (q 55)]) := by
  have hx := X.1
  have hb := X.2.1
  intro S t0 t1 H locs ls hf hM hl
  unfold fX3_lay_85 at hf
  obtain ⟨S_7, h, hf⟩ := ec_bi hf
  refine m_iast X hG hM wma55 wms55 h dX3_lay_85 (fun H locs hM => ?_)
  refine lv_iconst (v := 1) hx hb dX3_lay_86 (by decide) ?_
  obtain ⟨rfl, rfl⟩ := Prod.mk.inj (Option.some.inj hf)
  exact m_iret X hr hlk hM dX3_lay_87
noncomputable def fX3_lay (S : sM) (x1 : Int32) (x2 : Int32) (x3 : Int32) : Option (Int32 × sM) :=
  (fX3_isSheet x1 (0 : Int32)).bind fun v_1 =>
  if ¬ v_1 = 0 then (
    (ec_ag (S.2.2 53) 4 x1).bind fun v_2 =>
    if ¬ v_2 = (-4 : Int32) then (
      (ec_ag (S.2.2 54) 4 x1).bind fun v_3 =>
      (fX3_in (x2.toInt64) (0 : Int64) ((v_3 - (1 : Int32)).toInt64)).bind fun v_4 =>
      if ¬ v_4 = 0 then (
        (ec_ag (S.2.2 53) 4 x1).bind fun v_5 =>
        if ¬ v_5 = 0 then (
          (ec_ag (S.2.2 53) 4 x1).bind fun v_6 =>
          if ¬ v_6 = (1 : Int32) then (
            fX3_lay_85 S x3 (((40 : Int32) * x1) + x2))
          else (
            fX3_lay_85 S (x3.toInt16.toInt32) (((40 : Int32) * x1) + x2)))
        else (
          fX3_lay_85 S (x3.toInt8.toInt32) (((40 : Int32) * x1) + x2)))
      else (
        some ((-12 : Int32), S)))
    else (
      some ((-11 : Int32), S)))
  else (
    some ((-1 : Int32), S))
theorem metX3_lay (l : Launch) (D : va_G) (o : Nat) (q : Nat → Nat) (d dz : ClassId) (hG : MG o q) (S : sM) (x1 : Int32) (x2 : Int32) (x3 : Int32) (res : Int32) (Sr : sM) (hf : fX3_lay S x1 x2 x3 = some (res, Sr)) : Met l yX3_lay (ws_ yX3_lay cX3_lay 4 (some .int)) (rmL 2) (MPre D o q d dz S [.int x1, .int x2, .int x3]) (MPost D o q d dz (some (.int res)) Sr) 0 0 (AM o q) := by
  refine m_ofW rfl (Nat.le_of_ble_eq_true rfl) (fun p e s m args below meth c X hr hlk hM ls hl => ?_)
  have hl : lv_has ls 4 [(0, .ref o), (1, .int x1), (2, .int x2), (3, .int x3)] := hl
  have hx := X.1
  have hb := X.2.1
  unfold fX3_lay at hf
  refine lv_iload_n hx hb dX3_lay_0 rfl (lv_at hl 1 rfl) ?_
  refine lv_iconst (v := 0) hx hb dX3_lay_1 (by decide) ?_
  obtain ⟨v_1, h, hf⟩ := ec_bi hf
  refine e_cS (v := .int v_1) (As := [.int x1, .int (0 : Int32)]) (rest := []) X (metX3_isSheet l x1 (0 : Int32) _ h) (va_cwS 2 X.2.2.2.2 gX3_368 rfl rfl rfl hX3_isSheet ⟨Nat.le_of_ble_eq_true rfl, Nat.le_of_ble_eq_true rfl⟩) rfl hl.1 rfl (Nat.le_of_ble_eq_true rfl) ⟨Nat.zero_le _, Nat.zero_le _⟩ dX3_lay_2 ?_
  refine lv_if_ne (tgt := 10) hx hb dX3_lay_5 rfl (fun cnd => ?_) (fun cnd => ?_)
  · have hf := ec_t cnd hf
    refine lv_aload_n hx hb dX3_lay_10 rfl (lv_at hl 0 rfl) ?_
    refine m_get (v := .ref (q 53)) X hM 53 (by decide) q1027 rfl rfl dX3_lay_11 ?_
    refine lv_iload_n hx hb dX3_lay_14 rfl (lv_at hl 1 rfl) ?_
    obtain ⟨v_2, h, hf⟩ := ec_bi hf
    refine m_iald X hM wma53 h dX3_lay_15 ?_
    refine lv_bipush (v := -4) hx hb dX3_lay_16 (by decide) ?_
    refine lv_icmp_ne (tgt := 24) hx hb dX3_lay_18 rfl (fun cnd => ?_) (fun cnd => ?_)
    · have hf := ec_t cnd hf
      refine lv_iload_n hx hb dX3_lay_24 rfl (lv_at hl 2 rfl) ?_
      refine lv_i2l hx hb dX3_lay_25 rfl ?_
      refine lv_lconst (v := 0) hx hb dX3_lay_26 (by decide) ?_
      refine lv_aload_n hx hb dX3_lay_27 rfl (lv_at hl 0 rfl) ?_
      refine m_get (v := .ref (q 54)) X hM 54 (by decide) q1028 rfl rfl dX3_lay_28 ?_
      refine lv_iload_n hx hb dX3_lay_31 rfl (lv_at hl 1 rfl) ?_
      obtain ⟨v_3, h, hf⟩ := ec_bi hf
      refine m_iald X hM wma54 h dX3_lay_32 ?_
      refine lv_iconst (v := 1) hx hb dX3_lay_33 (by decide) ?_
      refine lv_isub hx hb dX3_lay_34 ?_
      refine lv_i2l hx hb dX3_lay_35 rfl ?_
      obtain ⟨v_4, h, hf⟩ := ec_bi hf
      refine e_cS (v := .int v_4) (As := [.long (x2.toInt64), .long (0 : Int64), .long ((v_3 - (1 : Int32)).toInt64)]) (rest := []) X (metX3_in l (x2.toInt64) (0 : Int64) ((v_3 - (1 : Int32)).toInt64) _ h) (va_cwS 3 X.2.2.2.2 gX3_124 rfl rfl rfl hX3_in ⟨Nat.le_of_ble_eq_true rfl, Nat.le_of_ble_eq_true rfl⟩) rfl hl.1 rfl (Nat.le_of_ble_eq_true rfl) ⟨Nat.zero_le _, Nat.zero_le _⟩ dX3_lay_36 ?_
      refine lv_if_ne (tgt := 45) hx hb dX3_lay_39 rfl (fun cnd => ?_) (fun cnd => ?_)
      · have hf := ec_t cnd hf
        refine lv_aload_n hx hb dX3_lay_45 rfl (lv_at hl 0 rfl) ?_
        refine m_get (v := .ref (q 55)) X hM 55 (by decide) q1029 rfl rfl dX3_lay_46 ?_
        refine lv_bipush (v := 40) hx hb dX3_lay_49 (by decide) ?_
        refine lv_iload_n hx hb dX3_lay_51 rfl (lv_at hl 1 rfl) ?_
        refine lv_imul hx hb dX3_lay_52 ?_
        refine lv_iload_n hx hb dX3_lay_53 rfl (lv_at hl 2 rfl) ?_
        refine lv_iadd hx hb dX3_lay_54 ?_
        refine lv_aload_n hx hb dX3_lay_55 rfl (lv_at hl 0 rfl) ?_
        refine m_get (v := .ref (q 53)) X hM 53 (by decide) q1027 rfl rfl dX3_lay_56 ?_
        refine lv_iload_n hx hb dX3_lay_59 rfl (lv_at hl 1 rfl) ?_
        obtain ⟨v_5, h, hf⟩ := ec_bi hf
        refine m_iald X hM wma53 h dX3_lay_60 ?_
        refine lv_if_ne (tgt := 69) hx hb dX3_lay_61 rfl (fun cnd => ?_) (fun cnd => ?_)
        · have hf := ec_t cnd hf
          refine lv_aload_n hx hb dX3_lay_69 rfl (lv_at hl 0 rfl) ?_
          refine m_get (v := .ref (q 53)) X hM 53 (by decide) q1027 rfl rfl dX3_lay_70 ?_
          refine lv_iload_n hx hb dX3_lay_73 rfl (lv_at hl 1 rfl) ?_
          obtain ⟨v_6, h, hf⟩ := ec_bi hf
          refine m_iald X hM wma53 h dX3_lay_74 ?_
          refine lv_iconst (v := 1) hx hb dX3_lay_75 (by decide) ?_
          refine lv_icmp_ne (tgt := 84) hx hb dX3_lay_76 rfl (fun cnd => ?_) (fun cnd => ?_)
          · have hf := ec_t cnd hf
            refine lv_iload_n hx hb dX3_lay_84 rfl (lv_at hl 3 rfl) ?_
            exact bX3_lay_85 X hr hlk hG S x3 (((40 : Int32) * x1) + x2) _ _ _ hf hM (lv_sub hl [0] rfl)
          · have hf := ec_f (not_not_intro cnd) hf
            refine lv_iload_n hx hb dX3_lay_79 rfl (lv_at hl 3 rfl) ?_
            refine lv_i2s hx hb dX3_lay_80 rfl ?_
            refine lv_goto (tgt := 85) hx hb dX3_lay_81 rfl ?_
            exact bX3_lay_85 X hr hlk hG S (x3.toInt16.toInt32) (((40 : Int32) * x1) + x2) _ _ _ hf hM (lv_sub hl [0] rfl)
        · have hf := ec_f (not_not_intro cnd) hf
          refine lv_iload_n hx hb dX3_lay_64 rfl (lv_at hl 3 rfl) ?_
          refine lv_i2b hx hb dX3_lay_65 rfl ?_
          refine lv_goto (tgt := 85) hx hb dX3_lay_66 rfl ?_
          exact bX3_lay_85 X hr hlk hG S (x3.toInt8.toInt32) (((40 : Int32) * x1) + x2) _ _ _ hf hM (lv_sub hl [0] rfl)
      · have hf := ec_f (not_not_intro cnd) hf
        refine lv_bipush (v := -12) hx hb dX3_lay_42 (by decide) ?_
        obtain ⟨rfl, rfl⟩ := Prod.mk.inj (Option.some.inj hf)
        exact m_iret X hr hlk hM dX3_lay_44
    · have hf := ec_f (not_not_intro cnd) hf
      refine lv_bipush (v := -11) hx hb dX3_lay_21 (by decide) ?_
      obtain ⟨rfl, rfl⟩ := Prod.mk.inj (Option.some.inj hf)
      exact m_iret X hr hlk hM dX3_lay_23
  · have hf := ec_f (not_not_intro cnd) hf
    refine lv_iconst (v := -1) hx hb dX3_lay_8 (by decide) ?_
    obtain ⟨rfl, rfl⟩ := Prod.mk.inj (Option.some.inj hf)
    exact m_iret X hr hlk hM dX3_lay_9
theorem hX3_lay : yX3_lay.cls = RX3 ∧ yX3_lay.cls ≠ "java/lang/invoke/MethodHandle" ∧ yX3_lay.cls ≠ "java/lang/invoke/VarHandle" ∧ (parseMethodDescriptor yX3_lay.desc).map (fun d => d.parameters.length) = some 3 := by decide +kernel

noncomputable def fX3_said_29 (N : Nat) (S : sM) : Option Int32 :=
  some (-1 : Int32)
theorem bX3_said_29 {N : Nat} (X : CallFix p m c cX3_said 15 s args lw_all RX3) (hr : meth.sig.returnType = (some .int)) (hlk : meth.locks = false) {S : sM} (hM : MW D o q d dz S s s.heap []) {res : Int32} : ∀ (ls : Array Slot), fX3_said_29 N S = some res → lv_has ls 15 [(0, .ref o)] → W p l e (rmL 2) s m args below meth c s.heap [] 0 0 (MQ below (k2_QcV (.int res)) args s 0 0 (fun _ => False)) (F0 m 29 ls []) := by
  have hx := X.1
  have hb := X.2.1
  intro ls hf hl
  unfold fX3_said_29 at hf
  refine lv_iconst (v := -1) hx hb dX3_said_29 (by decide) ?_
  obtain rfl := Option.some.inj hf
  exact e_iretR hx hb hr hlk dX3_said_30
noncomputable def fX3_said_237 (N : Nat) (S : sM) (k76 : Int32 → Int32 → Int32 → Int32 → Int32 → Int32 → Int32 → Int32 → Int32 → Option Int32) (x1 : Int32) (x3 : Int32) (x4 : Int32) (x5 : Int32) (x6 : Int32) (x7 : Int32) (x8 : Int32) (x10 : Int32) (t0 : Int32) (t1 : Int32) : Option Int32 :=
  ec_lt (t1 + t0) fun x9_14 =>
  ec_lt (x10 + (1 : Int32)) fun x10_15 =>
  k76 x1 x3 x4 x5 x6 x7 x8 x9_14 x10_15
theorem bX3_said_237 {N : Nat} (X : CallFix p m c cX3_said 15 s args lw_all RX3) (hr : meth.sig.returnType = (some .int)) (hlk : meth.locks = false) {S : sM} (hM : MW D o q d dz S s s.heap []) {res : Int32} {k76 : Int32 → Int32 → Int32 → Int32 → Int32 → Int32 → Int32 → Int32 → Int32 → Option Int32} (Hk76 : ∀ (x1 : Int32) (x3 : Int32) (x4 : Int32) (x5 : Int32) (x6 : Int32) (x7 : Int32) (x8 : Int32) (x9 : Int32) (x10 : Int32) (ls : Array Slot), k76 x1 x3 x4 x5 x6 x7 x8 x9 x10 = some res → lv_has ls 15 [(0, .ref o), (1, .int x1), (3, .int x3), (4, .int x4), (5, .int x5), (6, .int x6), (7, .int x7), (8, .int x8), (9, .int x9), (10, .int x10)] → W p l e (rmL 2) s m args below meth c s.heap [] 0 0 (MQ below (k2_QcV (.int res)) args s 0 0 (fun _ => False)) (F0 m 76 ls [])) : ∀ (x1 : Int32) (x3 : Int32) (x4 : Int32) (x5 : Int32) (x6 : Int32) (x7 : Int32) (x8 : Int32) (x10 : Int32) (t0 : Int32) (t1 : Int32) (ls : Array Slot), fX3_said_237 N S k76 x1 x3 x4 x5 x6 x7 x8 x10 t0 t1 = some res → lv_has ls 15 [(0, .ref o), (1, .int x1), (3, .int x3), (4, .int x4), (5, .int x5), (6, .int x6), (7, .int x7), (8, .int x8), (10, .int x10)] → W p l e (rmL 2) s m args below meth c s.heap [] 0 0 (MQ below (k2_QcV (.int res)) args s 0 0 (fun _ => False)) (F0 m 237 ls [.int t0, .int t1]) := by
  have hx := X.1
  have hb := X.2.1
  intro x1 x3 x4 x5 x6 x7 x8 x10 t0 t1 ls hf hl
  unfold fX3_said_237 at hf
  refine lv_iadd hx hb dX3_said_237 ?_
  refine lv_topi (fun x9_14 ex => ?_)
  have hf := ec_lt_i ex hf
  refine lv_istore (lv' := [(9, .int x9_14), (0, .ref o), (1, .int x1), (3, .int x3), (4, .int x4), (5, .int x5), (6, .int x6), (7, .int x7), (8, .int x8), (10, .int x10)]) hx hb dX3_said_238 hl (by decide) rfl (fun ls hl => ?_)
  refine e_inc (w := 1) (f := fun v => [(10, .int v), (9, .int x9_14), (0, .ref o), (1, .int x1), (3, .int x3), (4, .int x4), (5, .int x5), (6, .int x6), (7, .int x7), (8, .int x8)]) hx hb dX3_said_240 hl (k := 9) rfl (by decide) (by decide) (fun _ => rfl) (fun x10_15 ex ls hl => ?_)
  have hf := ec_lt_i ex hf
  refine lv_goto (tgt := 76) hx hb dX3_said_243 rfl ?_
  exact Hk76 x1 x3 x4 x5 x6 x7 x8 x9_14 x10_15 _ hf (lv_sub hl [2, 3, 4, 5, 6, 7, 8, 9, 1, 0] rfl)
noncomputable def fX3_said_220 (N : Nat) (S : sM) (k76 : Int32 → Int32 → Int32 → Int32 → Int32 → Int32 → Int32 → Int32 → Int32 → Option Int32) (x1 : Int32) (x3 : Int32) (x4 : Int32) (x5 : Int32) (x6 : Int32) (x7 : Int32) (x9 : Int32) (x10 : Int32) (x14 : Int32) (t0 : Int32) (t1 : Int32) : Option Int32 :=
  ec_lt (t1 + t0) fun x8_13 =>
  if 0 ≤ x14 then (
    fX3_said_237 N S k76 x1 x3 x4 x5 x6 x7 x8_13 x10 (0 : Int32) x9)
  else (
    fX3_said_237 N S k76 x1 x3 x4 x5 x6 x7 x8_13 x10 (-x14) x9)
theorem bX3_said_220 {N : Nat} (X : CallFix p m c cX3_said 15 s args lw_all RX3) (hr : meth.sig.returnType = (some .int)) (hlk : meth.locks = false) {S : sM} (hM : MW D o q d dz S s s.heap []) {res : Int32} {k76 : Int32 → Int32 → Int32 → Int32 → Int32 → Int32 → Int32 → Int32 → Int32 → Option Int32} (Hk76 : ∀ (x1 : Int32) (x3 : Int32) (x4 : Int32) (x5 : Int32) (x6 : Int32) (x7 : Int32) (x8 : Int32) (x9 : Int32) (x10 : Int32) (ls : Array Slot), k76 x1 x3 x4 x5 x6 x7 x8 x9 x10 = some res → lv_has ls 15 [(0, .ref o), (1, .int x1), (3, .int x3), (4, .int x4), (5, .int x5), (6, .int x6), (7, .int x7), (8, .int x8), (9, .int x9), (10, .int x10)] → W p l e (rmL 2) s m args below meth c s.heap [] 0 0 (MQ below (k2_QcV (.int res)) args s 0 0 (fun _ => False)) (F0 m 76 ls [])) : ∀ (x1 : Int32) (x3 : Int32) (x4 : Int32) (x5 : Int32) (x6 : Int32) (x7 : Int32) (x9 : Int32) (x10 : Int32) (x14 : Int32) (t0 : Int32) (t1 : Int32) (ls : Array Slot), fX3_said_220 N S k76 x1 x3 x4 x5 x6 x7 x9 x10 x14 t0 t1 = some res → lv_has ls 15 [(0, .ref o), (1, .int x1), (3, .int x3), (4, .int x4), (5, .int x5), (6, .int x6), (7, .int x7), (9, .int x9), (10, .int x10), (14, .int x14)] → W p l e (rmL 2) s m args below meth c s.heap [] 0 0 (MQ below (k2_QcV (.int res)) args s 0 0 (fun _ => False)) (F0 m 220 ls [.int t0, .int t1]) := by
  have hx := X.1
  have hb := X.2.1
  intro x1 x3 x4 x5 x6 x7 x9 x10 x14 t0 t1 ls hf hl
  unfold fX3_said_220 at hf
  refine lv_iadd hx hb dX3_said_220 ?_
  refine lv_topi (fun x8_13 ex => ?_)
  have hf := ec_lt_i ex hf
  refine lv_istore (lv' := [(8, .int x8_13), (0, .ref o), (1, .int x1), (3, .int x3), (4, .int x4), (5, .int x5), (6, .int x6), (7, .int x7), (9, .int x9), (10, .int x10), (14, .int x14)]) hx hb dX3_said_221 hl (by decide) rfl (fun ls hl => ?_)
  refine lv_iload hx hb dX3_said_223 (lv_at hl 8 rfl) ?_
  refine lv_iload hx hb dX3_said_225 (lv_at hl 10 rfl) ?_
  refine lv_if_ge (tgt := 236) hx hb dX3_said_227 rfl (fun cnd => ?_) (fun cnd => ?_)
  · have hf := ec_t cnd hf
    refine lv_iconst (v := 0) hx hb dX3_said_236 (by decide) ?_
    exact bX3_said_237 X hr hlk hM Hk76 x1 x3 x4 x5 x6 x7 x8_13 x10 (0 : Int32) x9 _ hf (lv_sub hl [1, 2, 3, 4, 5, 6, 7, 0, 9] rfl)
  · have hf := ec_f cnd hf
    refine lv_iload hx hb dX3_said_230 (lv_at hl 10 rfl) ?_
    refine lv_ineg hx hb dX3_said_232 ?_
    refine lv_goto (tgt := 237) hx hb dX3_said_233 rfl ?_
    exact bX3_said_237 X hr hlk hM Hk76 x1 x3 x4 x5 x6 x7 x8_13 x10 (-x14) x9 _ hf (lv_sub hl [1, 2, 3, 4, 5, 6, 7, 0, 9] rfl)
noncomputable def fX3_said_205 (N : Nat) (S : sM) (k76 : Int32 → Int32 → Int32 → Int32 → Int32 → Int32 → Int32 → Int32 → Int32 → Option Int32) (x1 : Int32) (x3 : Int32) (x4 : Int32) (x5 : Int32) (x6 : Int32) (x8 : Int32) (x9 : Int32) (x10 : Int32) (x14 : Int32) (t0 : Int32) : Option Int32 :=
  if x14 ≤ 0 then (
    fX3_said_220 N S k76 x1 x3 x4 x5 x6 t0 x9 x10 x14 (0 : Int32) x8)
  else (
    fX3_said_220 N S k76 x1 x3 x4 x5 x6 t0 x9 x10 x14 x14 x8)
theorem bX3_said_205 {N : Nat} (X : CallFix p m c cX3_said 15 s args lw_all RX3) (hr : meth.sig.returnType = (some .int)) (hlk : meth.locks = false) {S : sM} (hM : MW D o q d dz S s s.heap []) {res : Int32} {k76 : Int32 → Int32 → Int32 → Int32 → Int32 → Int32 → Int32 → Int32 → Int32 → Option Int32} (Hk76 : ∀ (x1 : Int32) (x3 : Int32) (x4 : Int32) (x5 : Int32) (x6 : Int32) (x7 : Int32) (x8 : Int32) (x9 : Int32) (x10 : Int32) (ls : Array Slot), k76 x1 x3 x4 x5 x6 x7 x8 x9 x10 = some res → lv_has ls 15 [(0, .ref o), (1, .int x1), (3, .int x3), (4, .int x4), (5, .int x5), (6, .int x6), (7, .int x7), (8, .int x8), (9, .int x9), (10, .int x10)] → W p l e (rmL 2) s m args below meth c s.heap [] 0 0 (MQ below (k2_QcV (.int res)) args s 0 0 (fun _ => False)) (F0 m 76 ls [])) : ∀ (x1 : Int32) (x3 : Int32) (x4 : Int32) (x5 : Int32) (x6 : Int32) (x8 : Int32) (x9 : Int32) (x10 : Int32) (x14 : Int32) (t0 : Int32) (ls : Array Slot), fX3_said_205 N S k76 x1 x3 x4 x5 x6 x8 x9 x10 x14 t0 = some res → lv_has ls 15 [(0, .ref o), (1, .int x1), (3, .int x3), (4, .int x4), (5, .int x5), (6, .int x6), (8, .int x8), (9, .int x9), (10, .int x10), (14, .int x14)] → W p l e (rmL 2) s m args below meth c s.heap [] 0 0 (MQ below (k2_QcV (.int res)) args s 0 0 (fun _ => False)) (F0 m 205 ls [.int t0]) := by
  have hx := X.1
  have hb := X.2.1
  intro x1 x3 x4 x5 x6 x8 x9 x10 x14 t0 ls hf hl
  unfold fX3_said_205 at hf
  refine lv_istore (lv' := [(7, .int t0), (0, .ref o), (1, .int x1), (3, .int x3), (4, .int x4), (5, .int x5), (6, .int x6), (8, .int x8), (9, .int x9), (10, .int x10), (14, .int x14)]) hx hb dX3_said_205 hl (by decide) rfl (fun ls hl => ?_)
  refine lv_iload hx hb dX3_said_207 (lv_at hl 7 rfl) ?_
  refine lv_iload hx hb dX3_said_209 (lv_at hl 10 rfl) ?_
  refine lv_if_le (tgt := 219) hx hb dX3_said_211 rfl (fun cnd => ?_) (fun cnd => ?_)
  · have hf := ec_t cnd hf
    refine lv_iconst (v := 0) hx hb dX3_said_219 (by decide) ?_
    exact bX3_said_220 X hr hlk hM Hk76 x1 x3 x4 x5 x6 t0 x9 x10 x14 (0 : Int32) x8 _ hf (lv_sub hl [1, 2, 3, 4, 5, 6, 0, 8, 9, 10] rfl)
  · have hf := ec_f cnd hf
    refine lv_iload hx hb dX3_said_214 (lv_at hl 10 rfl) ?_
    refine lv_goto (tgt := 220) hx hb dX3_said_216 rfl ?_
    exact bX3_said_220 X hr hlk hM Hk76 x1 x3 x4 x5 x6 t0 x9 x10 x14 x14 x8 _ hf (lv_sub hl [1, 2, 3, 4, 5, 6, 0, 8, 9, 10] rfl)
noncomputable def fX3_said_203 (N : Nat) (S : sM) (k76 : Int32 → Int32 → Int32 → Int32 → Int32 → Int32 → Int32 → Int32 → Int32 → Option Int32) (x1 : Int32) (x3 : Int32) (x4 : Int32) (x5 : Int32) (x6 : Int32) (x7 : Int32) (x8 : Int32) (x9 : Int32) (x10 : Int32) (x14 : Int32) : Option Int32 :=
  fX3_said_205 N S k76 x1 x3 x4 x5 x6 x8 x9 x10 x14 x7
theorem bX3_said_203 {N : Nat} (X : CallFix p m c cX3_said 15 s args lw_all RX3) (hr : meth.sig.returnType = (some .int)) (hlk : meth.locks = false) {S : sM} (hM : MW D o q d dz S s s.heap []) {res : Int32} {k76 : Int32 → Int32 → Int32 → Int32 → Int32 → Int32 → Int32 → Int32 → Int32 → Option Int32} (Hk76 : ∀ (x1 : Int32) (x3 : Int32) (x4 : Int32) (x5 : Int32) (x6 : Int32) (x7 : Int32) (x8 : Int32) (x9 : Int32) (x10 : Int32) (ls : Array Slot), k76 x1 x3 x4 x5 x6 x7 x8 x9 x10 = some res → lv_has ls 15 [(0, .ref o), (1, .int x1), (3, .int x3), (4, .int x4), (5, .int x5), (6, .int x6), (7, .int x7), (8, .int x8), (9, .int x9), (10, .int x10)] → W p l e (rmL 2) s m args below meth c s.heap [] 0 0 (MQ below (k2_QcV (.int res)) args s 0 0 (fun _ => False)) (F0 m 76 ls [])) : ∀ (x1 : Int32) (x3 : Int32) (x4 : Int32) (x5 : Int32) (x6 : Int32) (x7 : Int32) (x8 : Int32) (x9 : Int32) (x10 : Int32) (x14 : Int32) (ls : Array Slot), fX3_said_203 N S k76 x1 x3 x4 x5 x6 x7 x8 x9 x10 x14 = some res → lv_has ls 15 [(0, .ref o), (1, .int x1), (3, .int x3), (4, .int x4), (5, .int x5), (6, .int x6), (7, .int x7), (8, .int x8), (9, .int x9), (10, .int x10), (14, .int x14)] → W p l e (rmL 2) s m args below meth c s.heap [] 0 0 (MQ below (k2_QcV (.int res)) args s 0 0 (fun _ => False)) (F0 m 203 ls []) := by
  have hx := X.1
  have hb := X.2.1
  intro x1 x3 x4 x5 x6 x7 x8 x9 x10 x14 ls hf hl
  unfold fX3_said_203 at hf
  refine lv_iload hx hb dX3_said_203 (lv_at hl 6 rfl) ?_
  exact bX3_said_205 X hr hlk hM Hk76 x1 x3 x4 x5 x6 x8 x9 x10 x14 x7 _ hf (lv_sub hl [0, 1, 2, 3, 4, 5, 7, 8, 9, 10] rfl)
noncomputable def fX3_said_183 (N : Nat) (S : sM) (k76 : Int32 → Int32 → Int32 → Int32 → Int32 → Int32 → Int32 → Int32 → Int32 → Option Int32) (x1 : Int32) (x3 : Int32) (x4 : Int32) (x5 : Int32) (x7 : Int32) (x8 : Int32) (x9 : Int32) (x10 : Int32) (x14 : Int32) (t0 : Int32) (t1 : Int32) : Option Int32 :=
  ec_lt (t1 + t0) fun x6_12 =>
  if x14 = 0 then (
    fX3_said_203 N S k76 x1 x3 x4 x5 x6_12 x7 x8 x9 x10 x14)
  else (
    if ¬ x7 = (-4 : Int32) then (
      fX3_said_203 N S k76 x1 x3 x4 x5 x6_12 x7 x8 x9 x10 x14)
    else (
      fX3_said_205 N S k76 x1 x3 x4 x5 x6_12 x8 x9 x10 x14 x10))
theorem bX3_said_183 {N : Nat} (X : CallFix p m c cX3_said 15 s args lw_all RX3) (hr : meth.sig.returnType = (some .int)) (hlk : meth.locks = false) {S : sM} (hM : MW D o q d dz S s s.heap []) {res : Int32} {k76 : Int32 → Int32 → Int32 → Int32 → Int32 → Int32 → Int32 → Int32 → Int32 → Option Int32} (Hk76 : ∀ (x1 : Int32) (x3 : Int32) (x4 : Int32) (x5 : Int32) (x6 : Int32) (x7 : Int32) (x8 : Int32) (x9 : Int32) (x10 : Int32) (ls : Array Slot), k76 x1 x3 x4 x5 x6 x7 x8 x9 x10 = some res → lv_has ls 15 [(0, .ref o), (1, .int x1), (3, .int x3), (4, .int x4), (5, .int x5), (6, .int x6), (7, .int x7), (8, .int x8), (9, .int x9), (10, .int x10)] → W p l e (rmL 2) s m args below meth c s.heap [] 0 0 (MQ below (k2_QcV (.int res)) args s 0 0 (fun _ => False)) (F0 m 76 ls [])) : ∀ (x1 : Int32) (x3 : Int32) (x4 : Int32) (x5 : Int32) (x7 : Int32) (x8 : Int32) (x9 : Int32) (x10 : Int32) (x14 : Int32) (t0 : Int32) (t1 : Int32) (ls : Array Slot), fX3_said_183 N S k76 x1 x3 x4 x5 x7 x8 x9 x10 x14 t0 t1 = some res → lv_has ls 15 [(0, .ref o), (1, .int x1), (3, .int x3), (4, .int x4), (5, .int x5), (7, .int x7), (8, .int x8), (9, .int x9), (10, .int x10), (14, .int x14)] → W p l e (rmL 2) s m args below meth c s.heap [] 0 0 (MQ below (k2_QcV (.int res)) args s 0 0 (fun _ => False)) (F0 m 183 ls [.int t0, .int t1]) := by
  have hx := X.1
  have hb := X.2.1
  intro x1 x3 x4 x5 x7 x8 x9 x10 x14 t0 t1 ls hf hl
  unfold fX3_said_183 at hf
  refine lv_iadd hx hb dX3_said_183 ?_
  refine lv_topi (fun x6_12 ex => ?_)
  have hf := ec_lt_i ex hf
  refine lv_istore (lv' := [(6, .int x6_12), (0, .ref o), (1, .int x1), (3, .int x3), (4, .int x4), (5, .int x5), (7, .int x7), (8, .int x8), (9, .int x9), (10, .int x10), (14, .int x14)]) hx hb dX3_said_184 hl (by decide) rfl (fun ls hl => ?_)
  refine lv_iload hx hb dX3_said_186 (lv_at hl 10 rfl) ?_
  refine lv_if_eq (tgt := 203) hx hb dX3_said_188 rfl (fun cnd => ?_) (fun cnd => ?_)
  · have hf := ec_t cnd hf
    exact bX3_said_203 X hr hlk hM Hk76 x1 x3 x4 x5 x6_12 x7 x8 x9 x10 x14 _ hf (lv_sub hl [1, 2, 3, 4, 5, 0, 6, 7, 8, 9, 10] rfl)
  · have hf := ec_f cnd hf
    refine lv_iload hx hb dX3_said_191 (lv_at hl 6 rfl) ?_
    refine lv_bipush (v := -4) hx hb dX3_said_193 (by decide) ?_
    refine lv_icmp_ne (tgt := 203) hx hb dX3_said_195 rfl (fun cnd => ?_) (fun cnd => ?_)
    · have hf := ec_t cnd hf
      exact bX3_said_203 X hr hlk hM Hk76 x1 x3 x4 x5 x6_12 x7 x8 x9 x10 x14 _ hf (lv_sub hl [1, 2, 3, 4, 5, 0, 6, 7, 8, 9, 10] rfl)
    · have hf := ec_f (not_not_intro cnd) hf
      refine lv_iload hx hb dX3_said_198 (lv_at hl 9 rfl) ?_
      refine lv_goto (tgt := 205) hx hb dX3_said_200 rfl ?_
      exact bX3_said_205 X hr hlk hM Hk76 x1 x3 x4 x5 x6_12 x8 x9 x10 x14 x10 _ hf (lv_sub hl [1, 2, 3, 4, 5, 0, 7, 8, 9, 10] rfl)
noncomputable def fX3_said_76 (N : Nat) (S : sM) (kx113 : Option Int32) (kx144 : Int32 → Option Int32) (kx246 : Int32 → Int32 → Int32 → Int32 → Int32 → Option Int32) : Nat → Int32 → Int32 → Int32 → Int32 → Int32 → Int32 → Int32 → Int32 → Int32 → Option Int32
  | 0, _, _, _, _, _, _, _, _, _ => none
  | n + 1, x1, x3, x4, x5, x6, x7, x8, x9, x10 =>
    if (S.1 0) ≤ x10 then (
      kx246 x5 x6 x7 x8 x9)
    else (
      ec_lt ((x3.toInt64) + (x10.toInt64)) fun x11_5 =>
      if (lg_cmp x11_5 (0 : Int64)) < 0 then (
        kx113)
      else (
        (ec_ag (S.2.2 54) 4 x1).bind fun v_6 =>
        if (lg_cmp x11_5 (v_6.toInt64)) < 0 then (
          (ec_ag (S.2.2 55) 160 (((40 : Int32) * x1) + (x11_5.toInt32))).bind fun v_7 =>
          (fX3_in (v_7.toInt64) (0 : Int64) (999999 : Int64)).bind fun v_8 =>
          if ¬ v_8 = 0 then (
            (ec_ag (S.2.2 9) 16 x10).bind fun v_9 =>
            (fX3_made S x10 x4).bind fun v_10 =>
            ec_lt (v_7 - (v_9 * v_10)) fun x14_11 =>
            if ¬ x14_11 = 0 then (
              fX3_said_183 N S (fX3_said_76 N S kx113 kx144 kx246 n) x1 x3 x4 x5 x7 x8 x9 x10 x14_11 (0 : Int32) x6)
            else (
              fX3_said_183 N S (fX3_said_76 N S kx113 kx144 kx246 n) x1 x3 x4 x5 x7 x8 x9 x10 x14_11 (1 : Int32) x6))
          else (
            kx144 x10))
        else (
          kx113)))
theorem bX3_said_76 {N : Nat} (X : CallFix p m c cX3_said 15 s args lw_all RX3) (hr : meth.sig.returnType = (some .int)) (hlk : meth.locks = false) {S : sM} (hM : MW D o q d dz S s s.heap []) {res : Int32} {kx113 : Option Int32} {kx144 : Int32 → Option Int32} {kx246 : Int32 → Int32 → Int32 → Int32 → Int32 → Option Int32} (Hkx113 : ∀ (ls : Array Slot), kx113 = some res → lv_has ls 15 [(0, .ref o)] → W p l e (rmL 2) s m args below meth c s.heap [] 0 0 (MQ below (k2_QcV (.int res)) args s 0 0 (fun _ => False)) (F0 m 113 ls [])) (Hkx144 : ∀ (x10 : Int32) (ls : Array Slot), kx144 x10 = some res → lv_has ls 15 [(0, .ref o), (10, .int x10)] → W p l e (rmL 2) s m args below meth c s.heap [] 0 0 (MQ below (k2_QcV (.int res)) args s 0 0 (fun _ => False)) (F0 m 144 ls [])) (Hkx246 : ∀ (x5 : Int32) (x6 : Int32) (x7 : Int32) (x8 : Int32) (x9 : Int32) (ls : Array Slot), kx246 x5 x6 x7 x8 x9 = some res → lv_has ls 15 [(0, .ref o), (5, .int x5), (6, .int x6), (7, .int x7), (8, .int x8), (9, .int x9)] → W p l e (rmL 2) s m args below meth c s.heap [] 0 0 (MQ below (k2_QcV (.int res)) args s 0 0 (fun _ => False)) (F0 m 246 ls [])) : ∀ (n : Nat) (x1 : Int32) (x3 : Int32) (x4 : Int32) (x5 : Int32) (x6 : Int32) (x7 : Int32) (x8 : Int32) (x9 : Int32) (x10 : Int32) (ls : Array Slot), fX3_said_76 N S kx113 kx144 kx246 n x1 x3 x4 x5 x6 x7 x8 x9 x10 = some res → lv_has ls 15 [(0, .ref o), (1, .int x1), (3, .int x3), (4, .int x4), (5, .int x5), (6, .int x6), (7, .int x7), (8, .int x8), (9, .int x9), (10, .int x10)] → W p l e (rmL 2) s m args below meth c s.heap [] 0 0 (MQ below (k2_QcV (.int res)) args s 0 0 (fun _ => False)) (F0 m 76 ls []) := by
  have hx := X.1
  have hb := X.2.1
  intro n
  induction n with
  | zero =>
    intro x1 x3 x4 x5 x6 x7 x8 x9 x10 ls hf hl
    rw [fX3_said_76] at hf
    cases hf
  | succ n ih =>
    intro x1 x3 x4 x5 x6 x7 x8 x9 x10 ls hf hl
    rw [fX3_said_76] at hf
    refine lv_iload hx hb dX3_said_76 (lv_at hl 9 rfl) ?_
    refine lv_aload_n hx hb dX3_said_78 rfl (lv_at hl 0 rfl) ?_
    refine m_get (v := .int (S.1 0)) X hM 0 (by decide) q974 rfl rfl dX3_said_79 ?_
    refine lv_icmp_ge (tgt := 246) hx hb dX3_said_82 rfl (fun cnd => ?_) (fun cnd => ?_)
    · have hf := ec_t cnd hf
      exact Hkx246 x5 x6 x7 x8 x9 _ hf (lv_sub hl [0, 4, 5, 6, 7, 8] rfl)
    · have hf := ec_f cnd hf
      refine lv_iload_n hx hb dX3_said_85 rfl (lv_at hl 2 rfl) ?_
      refine lv_i2l hx hb dX3_said_86 rfl ?_
      refine lv_iload hx hb dX3_said_87 (lv_at hl 9 rfl) ?_
      refine lv_i2l hx hb dX3_said_89 rfl ?_
      refine lv_ladd hx hb dX3_said_90 ?_
      refine lv_topl (fun x11_5 ex => ?_)
      have hf := ec_lt_i ex hf
      refine lv_lstore (lv' := [(11, .long x11_5), (0, .ref o), (1, .int x1), (3, .int x3), (4, .int x4), (5, .int x5), (6, .int x6), (7, .int x7), (8, .int x8), (9, .int x9), (10, .int x10)]) hx hb dX3_said_91 hl (by decide) rfl (fun ls hl => ?_)
      refine lv_lload hx hb dX3_said_93 (lv_at hl 0 rfl) ?_
      refine lv_lconst (v := 0) hx hb dX3_said_95 (by decide) ?_
      refine W.lcmp hx hb dX3_said_96 ?_
      refine lv_if_lt (tgt := 113) hx hb dX3_said_97 rfl (fun cnd => ?_) (fun cnd => ?_)
      · have hf := ec_t cnd hf
        exact Hkx113 _ hf (lv_sub hl [1] rfl)
      · have hf := ec_f cnd hf
        refine lv_lload hx hb dX3_said_100 (lv_at hl 0 rfl) ?_
        refine lv_aload_n hx hb dX3_said_102 rfl (lv_at hl 1 rfl) ?_
        refine m_get (v := .ref (q 54)) X hM 54 (by decide) q1028 rfl rfl dX3_said_103 ?_
        refine lv_iload_n hx hb dX3_said_106 rfl (lv_at hl 2 rfl) ?_
        obtain ⟨v_6, h, hf⟩ := ec_bi hf
        refine m_iald X hM wma54 h dX3_said_107 ?_
        refine lv_i2l hx hb dX3_said_108 rfl ?_
        refine W.lcmp hx hb dX3_said_109 ?_
        refine lv_if_lt (tgt := 116) hx hb dX3_said_110 rfl (fun cnd => ?_) (fun cnd => ?_)
        · have hf := ec_t cnd hf
          refine lv_aload_n hx hb dX3_said_116 rfl (lv_at hl 1 rfl) ?_
          refine m_get (v := .ref (q 55)) X hM 55 (by decide) q1029 rfl rfl dX3_said_117 ?_
          refine lv_bipush (v := 40) hx hb dX3_said_120 (by decide) ?_
          refine lv_iload_n hx hb dX3_said_122 rfl (lv_at hl 2 rfl) ?_
          refine lv_imul hx hb dX3_said_123 ?_
          refine lv_lload hx hb dX3_said_124 (lv_at hl 0 rfl) ?_
          refine lv_l2i hx hb dX3_said_126 rfl ?_
          refine lv_iadd hx hb dX3_said_127 ?_
          obtain ⟨v_7, h, hf⟩ := ec_bi hf
          refine m_iald X hM wma55 h dX3_said_128 ?_
          refine lv_istore (lv' := [(13, .int v_7), (11, .long x11_5), (0, .ref o), (1, .int x1), (3, .int x3), (4, .int x4), (5, .int x5), (6, .int x6), (7, .int x7), (8, .int x8), (9, .int x9), (10, .int x10)]) hx hb dX3_said_129 hl (by decide) rfl (fun ls hl => ?_)
          refine lv_iload hx hb dX3_said_131 (lv_at hl 0 rfl) ?_
          refine lv_i2l hx hb dX3_said_133 rfl ?_
          refine lv_lconst (v := 0) hx hb dX3_said_134 (by decide) ?_
          refine lv_ldc2 (own := RX3) (v := 999999) hx hb X.2.2.2.1 (X.2.2.2.2 _ q1288) dX3_said_135 ?_
          obtain ⟨v_8, h, hf⟩ := ec_bi hf
          refine e_cS (v := .int v_8) (As := [.long (v_7.toInt64), .long (0 : Int64), .long (999999 : Int64)]) (rest := []) X (metX3_in l (v_7.toInt64) (0 : Int64) (999999 : Int64) _ h) (va_cwS 3 X.2.2.2.2 gX3_124 rfl rfl rfl hX3_in ⟨Nat.le_of_ble_eq_true rfl, Nat.le_of_ble_eq_true rfl⟩) rfl hl.1 rfl (Nat.le_of_ble_eq_true rfl) ⟨Nat.zero_le _, Nat.zero_le _⟩ dX3_said_138 ?_
          refine lv_if_ne (tgt := 150) hx hb dX3_said_141 rfl (fun cnd => ?_) (fun cnd => ?_)
          · have hf := ec_t cnd hf
            refine lv_iload hx hb dX3_said_150 (lv_at hl 0 rfl) ?_
            refine lv_aload_n hx hb dX3_said_152 rfl (lv_at hl 2 rfl) ?_
            refine m_get (v := .ref (q 9)) X hM 9 (by decide) q983 rfl rfl dX3_said_153 ?_
            refine lv_iload hx hb dX3_said_156 (lv_at hl 11 rfl) ?_
            obtain ⟨v_9, h, hf⟩ := ec_bi hf
            refine m_iald X hM wma9 h dX3_said_158 ?_
            refine lv_aload_n hx hb dX3_said_159 rfl (lv_at hl 2 rfl) ?_
            refine lv_iload hx hb dX3_said_160 (lv_at hl 11 rfl) ?_
            refine lv_iload hx hb dX3_said_162 (lv_at hl 5 rfl) ?_
            obtain ⟨v_10, h, hf⟩ := ec_bi hf
            refine m_cR (v := .int v_10) (As := [.int x10, .int x4]) (rest := [.int v_9, .int v_7]) X hM (metX3_made l D o q d dz S x10 x4 _ h) (cwV 2 X.2.2.2.2 gX3_251 rfl rfl rfl hX3_made ⟨Nat.le_of_ble_eq_true rfl, Nat.le_of_ble_eq_true rfl⟩) rfl hl.1 rfl (Nat.le_of_ble_eq_true rfl) ⟨Nat.zero_le _, Nat.zero_le _⟩ dX3_said_164 ?_
            refine lv_imul hx hb dX3_said_167 ?_
            refine lv_isub hx hb dX3_said_168 ?_
            refine lv_topi (fun x14_11 ex => ?_)
            have hf := ec_lt_i ex hf
            refine lv_istore (lv' := [(14, .int x14_11), (13, .int v_7), (11, .long x11_5), (0, .ref o), (1, .int x1), (3, .int x3), (4, .int x4), (5, .int x5), (6, .int x6), (7, .int x7), (8, .int x8), (9, .int x9), (10, .int x10)]) hx hb dX3_said_169 hl (by decide) rfl (fun ls hl => ?_)
            refine lv_iload hx hb dX3_said_171 (lv_at hl 8 rfl) ?_
            refine lv_iload hx hb dX3_said_173 (lv_at hl 0 rfl) ?_
            refine lv_if_ne (tgt := 182) hx hb dX3_said_175 rfl (fun cnd => ?_) (fun cnd => ?_)
            · have hf := ec_t cnd hf
              refine lv_iconst (v := 0) hx hb dX3_said_182 (by decide) ?_
              exact bX3_said_183 X hr hlk hM ih x1 x3 x4 x5 x7 x8 x9 x10 x14_11 (0 : Int32) x6 _ hf (lv_sub hl [3, 4, 5, 6, 7, 9, 10, 11, 12, 0] rfl)
            · have hf := ec_f (not_not_intro cnd) hf
              refine lv_iconst (v := 1) hx hb dX3_said_178 (by decide) ?_
              refine lv_goto (tgt := 183) hx hb dX3_said_179 rfl ?_
              exact bX3_said_183 X hr hlk hM ih x1 x3 x4 x5 x7 x8 x9 x10 x14_11 (1 : Int32) x6 _ hf (lv_sub hl [3, 4, 5, 6, 7, 9, 10, 11, 12, 0] rfl)
          · have hf := ec_f (not_not_intro cnd) hf
            exact Hkx144 x10 _ hf (lv_sub hl [2, 11] rfl)
        · have hf := ec_f cnd hf
          exact Hkx113 _ hf (lv_sub hl [1] rfl)
noncomputable def fX3_said_113 (N : Nat) (S : sM) : Option Int32 :=
  some (-12 : Int32)
theorem bX3_said_113 {N : Nat} (X : CallFix p m c cX3_said 15 s args lw_all RX3) (hr : meth.sig.returnType = (some .int)) (hlk : meth.locks = false) {S : sM} (hM : MW D o q d dz S s s.heap []) {res : Int32} : ∀ (ls : Array Slot), fX3_said_113 N S = some res → lv_has ls 15 [(0, .ref o)] → W p l e (rmL 2) s m args below meth c s.heap [] 0 0 (MQ below (k2_QcV (.int res)) args s 0 0 (fun _ => False)) (F0 m 113 ls []) := by
  have hx := X.1
  have hb := X.2.1
  intro ls hf hl
  unfold fX3_said_113 at hf
  refine lv_bipush (v := -12) hx hb dX3_said_113 (by decide) ?_
  obtain rfl := Option.some.inj hf
  exact e_iretR hx hb hr hlk dX3_said_115
noncomputable def fX3_said (N : Nat) (S : sM) (x1 : Int32) (x2 : Int32) (x3 : Int32) (x4 : Int32) (x5 : Int32) : Option Int32 :=
  (fX3_isSheet x1 x2).bind fun v_1 =>
  if v_1 = 0 then (
    fX3_said_29 N S)
  else (
    (fX3_isEvent x4).bind fun v_2 =>
    if v_2 = 0 then (
      fX3_said_29 N S)
    else (
      (fX3_in (x5.toInt64) (0 : Int64) (3 : Int64)).bind fun v_3 =>
      if ¬ v_3 = 0 then (
        (ec_ag (S.2.2 53) 4 x1).bind fun v_4 =>
        if v_4 = x2 then (
          fX3_said_76 N S (fX3_said_113 N S) (fun x10_16 =>
            some ((-20 : Int32) - x10_16)) (fun x5_17 x6_18 x7_19 x8_20 x9_21 =>
            if ¬ x5_17 = 0 then (
              if ¬ x5_17 = (1 : Int32) then (
                if ¬ x5_17 = (2 : Int32) then (
                  some x9_21)
                else (
                  some x8_20))
              else (
                some x7_19))
            else (
              some x6_18)) N x1 x3 x4 x5 (0 : Int32) (-4 : Int32) (0 : Int32) (0 : Int32) (0 : Int32))
        else (
          (ec_ag (S.2.2 53) 4 x1).bind fun v_22 =>
          if ¬ v_22 = (-4 : Int32) then (
            some (-13 : Int32))
          else (
            some (-11 : Int32))))
      else (
        fX3_said_29 N S)))
theorem metX3_said (l : Launch) (D : va_G) (o : Nat) (q : Nat → Nat) (d dz : ClassId) (N : Nat) (S : sM) (x1 : Int32) (x2 : Int32) (x3 : Int32) (x4 : Int32) (x5 : Int32) (res : Int32) (hf : fX3_said N S x1 x2 x3 x4 x5 = some res) : Met l yX3_said (ws_ yX3_said cX3_said 15 (some .int)) (rmL 2) (MPre D o q d dz S [.int x1, .int x2, .int x3, .int x4, .int x5]) (k2_QcV (.int res)) 0 0 (fun _ => False) := by
  refine m_ofR rfl (Nat.le_of_ble_eq_true rfl) (fun p e s m args below meth c X hr hlk hM ls hl => ?_)
  have hl : lv_has ls 15 [(0, .ref o), (1, .int x1), (2, .int x2), (3, .int x3), (4, .int x4), (5, .int x5)] := hl
  have hx := X.1
  have hb := X.2.1
  unfold fX3_said at hf
  refine lv_iload_n hx hb dX3_said_0 rfl (lv_at hl 1 rfl) ?_
  refine lv_iload_n hx hb dX3_said_1 rfl (lv_at hl 2 rfl) ?_
  obtain ⟨v_1, h, hf⟩ := ec_bi hf
  refine e_cS (v := .int v_1) (As := [.int x1, .int x2]) (rest := []) X (metX3_isSheet l x1 x2 _ h) (va_cwS 2 X.2.2.2.2 gX3_368 rfl rfl rfl hX3_isSheet ⟨Nat.le_of_ble_eq_true rfl, Nat.le_of_ble_eq_true rfl⟩) rfl hl.1 rfl (Nat.le_of_ble_eq_true rfl) ⟨Nat.zero_le _, Nat.zero_le _⟩ dX3_said_2 ?_
  refine lv_if_eq (tgt := 29) hx hb dX3_said_5 rfl (fun cnd => ?_) (fun cnd => ?_)
  · have hf := ec_t cnd hf
    exact bX3_said_29 X hr hlk hM _ hf (lv_sub hl [0] rfl)
  · have hf := ec_f cnd hf
    refine lv_iload hx hb dX3_said_8 (lv_at hl 4 rfl) ?_
    obtain ⟨v_2, h, hf⟩ := ec_bi hf
    refine e_cS (v := .int v_2) (As := [.int x4]) (rest := []) X (metX3_isEvent l x4 _ h) (va_cwS 1 X.2.2.2.2 gX3_260 rfl rfl rfl hX3_isEvent ⟨Nat.le_of_ble_eq_true rfl, Nat.le_of_ble_eq_true rfl⟩) rfl hl.1 rfl (Nat.le_of_ble_eq_true rfl) ⟨Nat.zero_le _, Nat.zero_le _⟩ dX3_said_10 ?_
    refine lv_if_eq (tgt := 29) hx hb dX3_said_13 rfl (fun cnd => ?_) (fun cnd => ?_)
    · have hf := ec_t cnd hf
      exact bX3_said_29 X hr hlk hM _ hf (lv_sub hl [0] rfl)
    · have hf := ec_f cnd hf
      refine lv_iload hx hb dX3_said_16 (lv_at hl 5 rfl) ?_
      refine lv_i2l hx hb dX3_said_18 rfl ?_
      refine lv_lconst (v := 0) hx hb dX3_said_19 (by decide) ?_
      refine lv_ldc2 (own := RX3) (v := 3) hx hb X.2.2.2.1 (X.2.2.2.2 _ q1366) dX3_said_20 ?_
      obtain ⟨v_3, h, hf⟩ := ec_bi hf
      refine e_cS (v := .int v_3) (As := [.long (x5.toInt64), .long (0 : Int64), .long (3 : Int64)]) (rest := []) X (metX3_in l (x5.toInt64) (0 : Int64) (3 : Int64) _ h) (va_cwS 3 X.2.2.2.2 gX3_124 rfl rfl rfl hX3_in ⟨Nat.le_of_ble_eq_true rfl, Nat.le_of_ble_eq_true rfl⟩) rfl hl.1 rfl (Nat.le_of_ble_eq_true rfl) ⟨Nat.zero_le _, Nat.zero_le _⟩ dX3_said_23 ?_
      refine lv_if_ne (tgt := 31) hx hb dX3_said_26 rfl (fun cnd => ?_) (fun cnd => ?_)
      · have hf := ec_t cnd hf
        refine lv_aload_n hx hb dX3_said_31 rfl (lv_at hl 0 rfl) ?_
        refine m_get (v := .ref (q 53)) X hM 53 (by decide) q1027 rfl rfl dX3_said_32 ?_
        refine lv_iload_n hx hb dX3_said_35 rfl (lv_at hl 1 rfl) ?_
        obtain ⟨v_4, h, hf⟩ := ec_bi hf
        refine m_iald X hM wma53 h dX3_said_36 ?_
        refine lv_iload_n hx hb dX3_said_37 rfl (lv_at hl 2 rfl) ?_
        refine lv_icmp_eq (tgt := 60) hx hb dX3_said_38 rfl (fun cnd => ?_) (fun cnd => ?_)
        · have hf := ec_t cnd hf
          refine lv_iconst (v := 0) hx hb dX3_said_60 (by decide) ?_
          refine lv_istore (lv' := [(6, .int (0 : Int32)), (0, .ref o), (1, .int x1), (2, .int x2), (3, .int x3), (4, .int x4), (5, .int x5)]) hx hb dX3_said_61 hl (by decide) rfl (fun ls hl => ?_)
          refine lv_bipush (v := -4) hx hb dX3_said_63 (by decide) ?_
          refine lv_istore (lv' := [(7, .int (-4 : Int32)), (6, .int (0 : Int32)), (0, .ref o), (1, .int x1), (2, .int x2), (3, .int x3), (4, .int x4), (5, .int x5)]) hx hb dX3_said_65 hl (by decide) rfl (fun ls hl => ?_)
          refine lv_iconst (v := 0) hx hb dX3_said_67 (by decide) ?_
          refine lv_istore (lv' := [(8, .int (0 : Int32)), (7, .int (-4 : Int32)), (6, .int (0 : Int32)), (0, .ref o), (1, .int x1), (2, .int x2), (3, .int x3), (4, .int x4), (5, .int x5)]) hx hb dX3_said_68 hl (by decide) rfl (fun ls hl => ?_)
          refine lv_iconst (v := 0) hx hb dX3_said_70 (by decide) ?_
          refine lv_istore (lv' := [(9, .int (0 : Int32)), (8, .int (0 : Int32)), (7, .int (-4 : Int32)), (6, .int (0 : Int32)), (0, .ref o), (1, .int x1), (2, .int x2), (3, .int x3), (4, .int x4), (5, .int x5)]) hx hb dX3_said_71 hl (by decide) rfl (fun ls hl => ?_)
          refine lv_iconst (v := 0) hx hb dX3_said_73 (by decide) ?_
          refine lv_istore (lv' := [(10, .int (0 : Int32)), (9, .int (0 : Int32)), (8, .int (0 : Int32)), (7, .int (-4 : Int32)), (6, .int (0 : Int32)), (0, .ref o), (1, .int x1), (2, .int x2), (3, .int x3), (4, .int x4), (5, .int x5)]) hx hb dX3_said_74 hl (by decide) rfl (fun ls hl => ?_)
          exact bX3_said_76 X hr hlk hM (fun ls hf hl => by
            exact bX3_said_113 X hr hlk hM _ hf hl) (fun x10_16 ls hf hl => by
            refine lv_bipush (v := -20) hx hb dX3_said_144 (by decide) ?_
            refine lv_iload hx hb dX3_said_146 (lv_at hl 1 rfl) ?_
            refine lv_isub hx hb dX3_said_148 ?_
            obtain rfl := Option.some.inj hf
            exact e_iretR hx hb hr hlk dX3_said_149) (fun x5_17 x6_18 x7_19 x8_20 x9_21 ls hf hl => by
            refine lv_iload hx hb dX3_said_246 (lv_at hl 1 rfl) ?_
            refine lv_if_ne (tgt := 256) hx hb dX3_said_248 rfl (fun cnd => ?_) (fun cnd => ?_)
            · have hf := ec_t cnd hf
              refine lv_iload hx hb dX3_said_256 (lv_at hl 1 rfl) ?_
              refine lv_iconst (v := 1) hx hb dX3_said_258 (by decide) ?_
              refine lv_icmp_ne (tgt := 267) hx hb dX3_said_259 rfl (fun cnd => ?_) (fun cnd => ?_)
              · have hf := ec_t cnd hf
                refine lv_iload hx hb dX3_said_267 (lv_at hl 1 rfl) ?_
                refine lv_iconst (v := 2) hx hb dX3_said_269 (by decide) ?_
                refine lv_icmp_ne (tgt := 278) hx hb dX3_said_270 rfl (fun cnd => ?_) (fun cnd => ?_)
                · have hf := ec_t cnd hf
                  refine lv_iload hx hb dX3_said_278 (lv_at hl 5 rfl) ?_
                  obtain rfl := Option.some.inj hf
                  exact e_iretR hx hb hr hlk dX3_said_280
                · have hf := ec_f (not_not_intro cnd) hf
                  refine lv_iload hx hb dX3_said_273 (lv_at hl 4 rfl) ?_
                  refine lv_goto (tgt := 280) hx hb dX3_said_275 rfl ?_
                  obtain rfl := Option.some.inj hf
                  exact e_iretR hx hb hr hlk dX3_said_280
              · have hf := ec_f (not_not_intro cnd) hf
                refine lv_iload hx hb dX3_said_262 (lv_at hl 3 rfl) ?_
                refine lv_goto (tgt := 280) hx hb dX3_said_264 rfl ?_
                obtain rfl := Option.some.inj hf
                exact e_iretR hx hb hr hlk dX3_said_280
            · have hf := ec_f (not_not_intro cnd) hf
              refine lv_iload hx hb dX3_said_251 (lv_at hl 2 rfl) ?_
              refine lv_goto (tgt := 280) hx hb dX3_said_253 rfl ?_
              obtain rfl := Option.some.inj hf
              exact e_iretR hx hb hr hlk dX3_said_280) N x1 x3 x4 x5 (0 : Int32) (-4 : Int32) (0 : Int32) (0 : Int32) (0 : Int32) _ hf (lv_sub hl [5, 6, 8, 9, 10, 4, 3, 2, 1, 0] rfl)
        · have hf := ec_f cnd hf
          refine lv_aload_n hx hb dX3_said_41 rfl (lv_at hl 0 rfl) ?_
          refine m_get (v := .ref (q 53)) X hM 53 (by decide) q1027 rfl rfl dX3_said_42 ?_
          refine lv_iload_n hx hb dX3_said_45 rfl (lv_at hl 1 rfl) ?_
          obtain ⟨v_22, h, hf⟩ := ec_bi hf
          refine m_iald X hM wma53 h dX3_said_46 ?_
          refine lv_bipush (v := -4) hx hb dX3_said_47 (by decide) ?_
          refine lv_icmp_ne (tgt := 57) hx hb dX3_said_49 rfl (fun cnd => ?_) (fun cnd => ?_)
          · have hf := ec_t cnd hf
            refine lv_bipush (v := -13) hx hb dX3_said_57 (by decide) ?_
            obtain rfl := Option.some.inj hf
            exact e_iretR hx hb hr hlk dX3_said_59
          · have hf := ec_f (not_not_intro cnd) hf
            refine lv_bipush (v := -11) hx hb dX3_said_52 (by decide) ?_
            refine lv_goto (tgt := 59) hx hb dX3_said_54 rfl ?_
            obtain rfl := Option.some.inj hf
            exact e_iretR hx hb hr hlk dX3_said_59
      · have hf := ec_f (not_not_intro cnd) hf
        exact bX3_said_29 X hr hlk hM _ hf (lv_sub hl [0] rfl)
theorem hX3_said : yX3_said.cls = RX3 ∧ yX3_said.cls ≠ "java/lang/invoke/MethodHandle" ∧ yX3_said.cls ≠ "java/lang/invoke/VarHandle" ∧ (parseMethodDescriptor yX3_said.desc).map (fun d => d.parameters.length) = some 5 := by decide +kernel
end
