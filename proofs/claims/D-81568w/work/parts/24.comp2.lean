set_option maxRecDepth 100000
set_option maxHeartbeats 2000000
set_option linter.unusedVariables false
section
variable {p : Program} {l : Launch} {e : Env} {s : State} {m : MethodId} {args : Array Value} {below : List Frame} {meth : Method} {c : Code}
variable {D : va_G} {dA : Nat → ClassId} {o : Nat} {q : Nat → Nat} {A : Nat → Prop}
theorem gX0_274 : GoodIn lw_all (va_wsS RX0 274 yX0_isSample (ws_ yX0_isSample cX0_isSample 4 (some .boolean))) := lw_S q660 q661 q60 q662
noncomputable def fX0_beats_23 (N : Nat) (S : sX) : Option Int32 :=
  some (-1 : Int32)
theorem bX0_beats_23 {N : Nat} (X : CallFix p m c cX0_beats 14 s args lw_all RX0) (hr : meth.sig.returnType = (some .int)) (hlk : meth.locks = false) {S : sX} (hM : XW D dA o q S A s s.heap []) {res : Int32} : ∀ (ls : Array Slot), fX0_beats_23 N S = some res → lv_has ls 14 [(0, .ref o)] → W p l e (rmL 3) s m args below meth c s.heap [] 0 0 (MQ below (k2_QcV (.int res)) args s 0 0 (fun _ => False)) (F0 m 23 ls []) := by
  have hx := X.1
  have hb := X.2.1
  intro ls hf hl
  unfold fX0_beats_23 at hf
  refine lv_iconst (v := -1) hx hb dX0_beats_23 (by decide) ?_
  obtain rfl := Option.some.inj hf
  exact e_iretR hx hb hr hlk dX0_beats_24
noncomputable def fX0_beats_172 (N : Nat) (S : sX) (k77 : Int32 → Int32 → Int32 → Int32 → Int32 → Int32 → Int32 → Int32 → Int32 → Option Int32) (x1 : Int32) (x2 : Int32) (x4 : Int32) (x6 : Int32) (x7 : Int32) (x8 : Int32) (x10 : Int32) (x11 : Int32) (x12 : Int32) (t0 : Int32) (t1 : Int32) : Option Int32 :=
  ec_lt (t1 ||| t0) fun x9_16 =>
  ec_lt (x10 + x12) fun x10_17 =>
  ec_lt (x11 + (1 : Int32)) fun x11_18 =>
  k77 x1 x2 x4 x6 x7 x8 x9_16 x10_17 x11_18
theorem bX0_beats_172 {N : Nat} (X : CallFix p m c cX0_beats 14 s args lw_all RX0) (hr : meth.sig.returnType = (some .int)) (hlk : meth.locks = false) {S : sX} (hM : XW D dA o q S A s s.heap []) {res : Int32} {k77 : Int32 → Int32 → Int32 → Int32 → Int32 → Int32 → Int32 → Int32 → Int32 → Option Int32} (Hk77 : ∀ (x1 : Int32) (x2 : Int32) (x4 : Int32) (x6 : Int32) (x7 : Int32) (x8 : Int32) (x9 : Int32) (x10 : Int32) (x11 : Int32) (ls : Array Slot), k77 x1 x2 x4 x6 x7 x8 x9 x10 x11 = some res → lv_has ls 14 [(0, .ref o), (1, .int x1), (2, .int x2), (4, .int x4), (6, .int x6), (7, .int x7), (8, .int x8), (9, .int x9), (10, .int x10), (11, .int x11)] → W p l e (rmL 3) s m args below meth c s.heap [] 0 0 (MQ below (k2_QcV (.int res)) args s 0 0 (fun _ => False)) (F0 m 77 ls [])) : ∀ (x1 : Int32) (x2 : Int32) (x4 : Int32) (x6 : Int32) (x7 : Int32) (x8 : Int32) (x10 : Int32) (x11 : Int32) (x12 : Int32) (t0 : Int32) (t1 : Int32) (ls : Array Slot), fX0_beats_172 N S k77 x1 x2 x4 x6 x7 x8 x10 x11 x12 t0 t1 = some res → lv_has ls 14 [(0, .ref o), (1, .int x1), (2, .int x2), (4, .int x4), (6, .int x6), (7, .int x7), (8, .int x8), (10, .int x10), (11, .int x11), (12, .int x12)] → W p l e (rmL 3) s m args below meth c s.heap [] 0 0 (MQ below (k2_QcV (.int res)) args s 0 0 (fun _ => False)) (F0 m 172 ls [.int t0, .int t1]) := by
  have hx := X.1
  have hb := X.2.1
  intro x1 x2 x4 x6 x7 x8 x10 x11 x12 t0 t1 ls hf hl
  unfold fX0_beats_172 at hf
  refine lv_ior hx hb dX0_beats_172 ?_
  refine lv_topi (fun x9_16 ex => ?_)
  have hf := ec_lt_i ex hf
  refine lv_istore (lv' := [(9, .int x9_16), (0, .ref o), (1, .int x1), (2, .int x2), (4, .int x4), (6, .int x6), (7, .int x7), (8, .int x8), (10, .int x10), (11, .int x11), (12, .int x12)]) hx hb dX0_beats_173 hl (by decide) rfl (fun ls hl => ?_)
  refine lv_iload hx hb dX0_beats_175 (lv_at hl 8 rfl) ?_
  refine lv_iload hx hb dX0_beats_177 (lv_at hl 10 rfl) ?_
  refine lv_iadd hx hb dX0_beats_179 ?_
  refine lv_topi (fun x10_17 ex => ?_)
  have hf := ec_lt_i ex hf
  refine lv_istore (lv' := [(10, .int x10_17), (9, .int x9_16), (0, .ref o), (1, .int x1), (2, .int x2), (4, .int x4), (6, .int x6), (7, .int x7), (8, .int x8), (11, .int x11), (12, .int x12)]) hx hb dX0_beats_180 hl (by decide) rfl (fun ls hl => ?_)
  refine e_inc (w := 1) (f := fun v => [(11, .int v), (10, .int x10_17), (9, .int x9_16), (0, .ref o), (1, .int x1), (2, .int x2), (4, .int x4), (6, .int x6), (7, .int x7), (8, .int x8), (12, .int x12)]) hx hb dX0_beats_182 hl (k := 9) rfl (by decide) (by decide) (fun _ => rfl) (fun x11_18 ex ls hl => ?_)
  have hf := ec_lt_i ex hf
  refine lv_goto (tgt := 77) hx hb dX0_beats_185 rfl ?_
  exact Hk77 x1 x2 x4 x6 x7 x8 x9_16 x10_17 x11_18 _ hf (lv_sub hl [3, 4, 5, 6, 7, 8, 9, 2, 1, 0] rfl)
noncomputable def fX0_beats_149 (N : Nat) (S : sX) (k77 : Int32 → Int32 → Int32 → Int32 → Int32 → Int32 → Int32 → Int32 → Int32 → Option Int32) (x1 : Int32) (x2 : Int32) (x4 : Int32) (x6 : Int32) (x7 : Int32) (x9 : Int32) (x10 : Int32) (x11 : Int32) (x12 : Int32) (t0 : Int32) (t1 : Int32) : Option Int32 :=
  ec_lt (t1 ||| t0) fun x8_15 =>
  if x12 ≤ 0 then (
    fX0_beats_172 N S k77 x1 x2 x4 x6 x7 x8_15 x10 x11 x12 (0 : Int32) x9)
  else (
    (hAi 0 S.2.2.2 (S.2.2.1 7) x11).bind fun v_19 =>
    fX0_beats_172 N S k77 x1 x2 x4 x6 x7 x8_15 x10 x11 x12 ((1 : Int32) <<< (v_19 &&& 31)) x9)
theorem bX0_beats_149 {N : Nat} (X : CallFix p m c cX0_beats 14 s args lw_all RX0) (hr : meth.sig.returnType = (some .int)) (hlk : meth.locks = false) {S : sX} (hM : XW D dA o q S A s s.heap []) {res : Int32} {k77 : Int32 → Int32 → Int32 → Int32 → Int32 → Int32 → Int32 → Int32 → Int32 → Option Int32} (Hk77 : ∀ (x1 : Int32) (x2 : Int32) (x4 : Int32) (x6 : Int32) (x7 : Int32) (x8 : Int32) (x9 : Int32) (x10 : Int32) (x11 : Int32) (ls : Array Slot), k77 x1 x2 x4 x6 x7 x8 x9 x10 x11 = some res → lv_has ls 14 [(0, .ref o), (1, .int x1), (2, .int x2), (4, .int x4), (6, .int x6), (7, .int x7), (8, .int x8), (9, .int x9), (10, .int x10), (11, .int x11)] → W p l e (rmL 3) s m args below meth c s.heap [] 0 0 (MQ below (k2_QcV (.int res)) args s 0 0 (fun _ => False)) (F0 m 77 ls [])) : ∀ (x1 : Int32) (x2 : Int32) (x4 : Int32) (x6 : Int32) (x7 : Int32) (x9 : Int32) (x10 : Int32) (x11 : Int32) (x12 : Int32) (t0 : Int32) (t1 : Int32) (ls : Array Slot), fX0_beats_149 N S k77 x1 x2 x4 x6 x7 x9 x10 x11 x12 t0 t1 = some res → lv_has ls 14 [(0, .ref o), (1, .int x1), (2, .int x2), (4, .int x4), (6, .int x6), (7, .int x7), (9, .int x9), (10, .int x10), (11, .int x11), (12, .int x12)] → W p l e (rmL 3) s m args below meth c s.heap [] 0 0 (MQ below (k2_QcV (.int res)) args s 0 0 (fun _ => False)) (F0 m 149 ls [.int t0, .int t1]) := by
  have hx := X.1
  have hb := X.2.1
  intro x1 x2 x4 x6 x7 x9 x10 x11 x12 t0 t1 ls hf hl
  unfold fX0_beats_149 at hf
  refine lv_ior hx hb dX0_beats_149 ?_
  refine lv_topi (fun x8_15 ex => ?_)
  have hf := ec_lt_i ex hf
  refine lv_istore (lv' := [(8, .int x8_15), (0, .ref o), (1, .int x1), (2, .int x2), (4, .int x4), (6, .int x6), (7, .int x7), (9, .int x9), (10, .int x10), (11, .int x11), (12, .int x12)]) hx hb dX0_beats_150 hl (by decide) rfl (fun ls hl => ?_)
  refine lv_iload hx hb dX0_beats_152 (lv_at hl 7 rfl) ?_
  refine lv_iload hx hb dX0_beats_154 (lv_at hl 10 rfl) ?_
  refine lv_if_le (tgt := 171) hx hb dX0_beats_156 rfl (fun cnd => ?_) (fun cnd => ?_)
  · have hf := ec_t cnd hf
    refine lv_iconst (v := 0) hx hb dX0_beats_171 (by decide) ?_
    exact bX0_beats_172 X hr hlk hM Hk77 x1 x2 x4 x6 x7 x8_15 x10 x11 x12 (0 : Int32) x9 _ hf (lv_sub hl [1, 2, 3, 4, 5, 6, 0, 8, 9, 10] rfl)
  · have hf := ec_f cnd hf
    refine lv_iconst (v := 1) hx hb dX0_beats_159 (by decide) ?_
    refine lv_aload_n hx hb dX0_beats_160 rfl (lv_at hl 1 rfl) ?_
    refine x_get (v := .ref (S.2.2.1 7)) X hM 7 (by decide) q775 rfl rfl dX0_beats_161 ?_
    refine lv_iload hx hb dX0_beats_164 (lv_at hl 9 rfl) ?_
    obtain ⟨v_19, h, hf⟩ := ec_bi hf
    refine h_iald X hM h dX0_beats_166 ?_
    refine lv_ishl hx hb dX0_beats_167 ?_
    refine lv_goto (tgt := 172) hx hb dX0_beats_168 rfl ?_
    exact bX0_beats_172 X hr hlk hM Hk77 x1 x2 x4 x6 x7 x8_15 x10 x11 x12 ((1 : Int32) <<< (v_19 &&& 31)) x9 _ hf (lv_sub hl [1, 2, 3, 4, 5, 6, 0, 8, 9, 10] rfl)
noncomputable def fX0_beats_77 (N : Nat) (S : sX) (kx188 : Int32 → Int32 → Int32 → Int32 → Int32 → Option Int32) : Nat → Int32 → Int32 → Int32 → Int32 → Int32 → Int32 → Int32 → Int32 → Int32 → Option Int32
  | 0, _, _, _, _, _, _, _, _, _ => none
  | n + 1, x1, x2, x4, x6, x7, x8, x9, x10, x11 =>
    if (S.1 8) ≤ x11 then (
      kx188 x2 x4 x6 x8 x9)
    else (
      (hAi 0 S.2.2.2 (S.2.2.1 7) x11).bind fun v_8 =>
      (hAr 4 S.2.2.2 (S.2.2.1 3) v_8).bind fun v_9 =>
      (hR 7 S.2.2.2 v_9 3).bind fun v_10 =>
      (hAi 0 S.2.2.2 v_10 x1).bind fun v_11 =>
      (ec_rm (x7 - x10) x6).bind fun v_12 =>
      (ec_rm (v_12 + x6) x6).bind fun v_13 =>
      ec_lt (x10 + v_13) fun x13_14 =>
      if (x10 + v_11) ≤ x13_14 then (
        fX0_beats_149 N S (fX0_beats_77 N S kx188 n) x1 x2 x4 x6 x7 x9 x10 x11 v_11 (0 : Int32) x8)
      else (
        (hAi 0 S.2.2.2 (S.2.2.1 7) x11).bind fun v_20 =>
        fX0_beats_149 N S (fX0_beats_77 N S kx188 n) x1 x2 x4 x6 x7 x9 x10 x11 v_11 ((1 : Int32) <<< (v_20 &&& 31)) x8))
theorem bX0_beats_77 {N : Nat} (X : CallFix p m c cX0_beats 14 s args lw_all RX0) (hr : meth.sig.returnType = (some .int)) (hlk : meth.locks = false) {S : sX} (hM : XW D dA o q S A s s.heap []) {res : Int32} {kx188 : Int32 → Int32 → Int32 → Int32 → Int32 → Option Int32} (Hkx188 : ∀ (x2 : Int32) (x4 : Int32) (x6 : Int32) (x8 : Int32) (x9 : Int32) (ls : Array Slot), kx188 x2 x4 x6 x8 x9 = some res → lv_has ls 14 [(0, .ref o), (2, .int x2), (4, .int x4), (6, .int x6), (8, .int x8), (9, .int x9)] → W p l e (rmL 3) s m args below meth c s.heap [] 0 0 (MQ below (k2_QcV (.int res)) args s 0 0 (fun _ => False)) (F0 m 188 ls [])) : ∀ (n : Nat) (x1 : Int32) (x2 : Int32) (x4 : Int32) (x6 : Int32) (x7 : Int32) (x8 : Int32) (x9 : Int32) (x10 : Int32) (x11 : Int32) (ls : Array Slot), fX0_beats_77 N S kx188 n x1 x2 x4 x6 x7 x8 x9 x10 x11 = some res → lv_has ls 14 [(0, .ref o), (1, .int x1), (2, .int x2), (4, .int x4), (6, .int x6), (7, .int x7), (8, .int x8), (9, .int x9), (10, .int x10), (11, .int x11)] → W p l e (rmL 3) s m args below meth c s.heap [] 0 0 (MQ below (k2_QcV (.int res)) args s 0 0 (fun _ => False)) (F0 m 77 ls []) := by
  have hx := X.1
  have hb := X.2.1
  intro n
  induction n with
  | zero =>
    intro x1 x2 x4 x6 x7 x8 x9 x10 x11 ls hf hl
    rw [fX0_beats_77] at hf
    cases hf
  | succ n ih =>
    intro x1 x2 x4 x6 x7 x8 x9 x10 x11 ls hf hl
    rw [fX0_beats_77] at hf
    refine lv_iload hx hb dX0_beats_77 (lv_at hl 9 rfl) ?_
    refine lv_aload_n hx hb dX0_beats_79 rfl (lv_at hl 0 rfl) ?_
    refine x_get (v := .int (S.1 8)) X hM 8 (by decide) q776 rfl rfl dX0_beats_80 ?_
    refine lv_icmp_ge (tgt := 188) hx hb dX0_beats_83 rfl (fun cnd => ?_) (fun cnd => ?_)
    · have hf := ec_t cnd hf
      exact Hkx188 x2 x4 x6 x8 x9 _ hf (lv_sub hl [0, 2, 3, 4, 6, 7] rfl)
    · have hf := ec_f cnd hf
      refine lv_aload_n hx hb dX0_beats_86 rfl (lv_at hl 0 rfl) ?_
      refine x_get (v := .ref (S.2.2.1 3)) X hM 3 (by decide) q771 rfl rfl dX0_beats_87 ?_
      refine lv_aload_n hx hb dX0_beats_90 rfl (lv_at hl 0 rfl) ?_
      refine x_get (v := .ref (S.2.2.1 7)) X hM 7 (by decide) q775 rfl rfl dX0_beats_91 ?_
      refine lv_iload hx hb dX0_beats_94 (lv_at hl 9 rfl) ?_
      obtain ⟨v_8, h, hf⟩ := ec_bi hf
      refine h_iald X hM h dX0_beats_96 ?_
      obtain ⟨v_9, h, hf⟩ := ec_bi hf
      refine h_aald (t := 4) X hM rfl rfl h dX0_beats_97 ?_
      obtain ⟨v_10, h, hf⟩ := ec_bi hf
      refine h_getvN (v := .ref v_10) (C := RX8) (T := TX8) (N := 5) (ci := 7) (k := 3) (host := "EventCounters") X hM in_X8 rfl (by decide) (xn_at hM.2.1 20 rfl) rfl (hR_i h) dX0_beats_98 ?_
      refine lv_iload_n hx hb dX0_beats_101 rfl (lv_at hl 1 rfl) ?_
      obtain ⟨v_11, h, hf⟩ := ec_bi hf
      refine h_iald X hM h dX0_beats_102 ?_
      refine lv_istore (lv' := [(12, .int v_11), (0, .ref o), (1, .int x1), (2, .int x2), (4, .int x4), (6, .int x6), (7, .int x7), (8, .int x8), (9, .int x9), (10, .int x10), (11, .int x11)]) hx hb dX0_beats_103 hl (by decide) rfl (fun ls hl => ?_)
      refine lv_iload hx hb dX0_beats_105 (lv_at hl 9 rfl) ?_
      refine lv_iload hx hb dX0_beats_107 (lv_at hl 6 rfl) ?_
      refine lv_iload hx hb dX0_beats_109 (lv_at hl 9 rfl) ?_
      refine lv_isub hx hb dX0_beats_111 ?_
      refine lv_iload hx hb dX0_beats_112 (lv_at hl 5 rfl) ?_
      obtain ⟨v_12, h, hf⟩ := ec_bi hf
      refine e_rm hx hb h dX0_beats_114 ?_
      refine lv_iload hx hb dX0_beats_115 (lv_at hl 5 rfl) ?_
      refine lv_iadd hx hb dX0_beats_117 ?_
      refine lv_iload hx hb dX0_beats_118 (lv_at hl 5 rfl) ?_
      obtain ⟨v_13, h, hf⟩ := ec_bi hf
      refine e_rm hx hb h dX0_beats_120 ?_
      refine lv_iadd hx hb dX0_beats_121 ?_
      refine lv_topi (fun x13_14 ex => ?_)
      have hf := ec_lt_i ex hf
      refine lv_istore (lv' := [(13, .int x13_14), (12, .int v_11), (0, .ref o), (1, .int x1), (2, .int x2), (4, .int x4), (6, .int x6), (7, .int x7), (8, .int x8), (9, .int x9), (10, .int x10), (11, .int x11)]) hx hb dX0_beats_122 hl (by decide) rfl (fun ls hl => ?_)
      refine lv_iload hx hb dX0_beats_124 (lv_at hl 8 rfl) ?_
      refine lv_iload hx hb dX0_beats_126 (lv_at hl 0 rfl) ?_
      refine lv_iload hx hb dX0_beats_128 (lv_at hl 10 rfl) ?_
      refine lv_iload hx hb dX0_beats_130 (lv_at hl 1 rfl) ?_
      refine lv_iadd hx hb dX0_beats_132 ?_
      refine lv_icmp_ge (tgt := 148) hx hb dX0_beats_133 rfl (fun cnd => ?_) (fun cnd => ?_)
      · have hf := ec_t cnd hf
        refine lv_iconst (v := 0) hx hb dX0_beats_148 (by decide) ?_
        exact bX0_beats_149 X hr hlk hM ih x1 x2 x4 x6 x7 x9 x10 x11 v_11 (0 : Int32) x8 _ hf (lv_sub hl [2, 3, 4, 5, 6, 7, 9, 10, 11, 1] rfl)
      · have hf := ec_f cnd hf
        refine lv_iconst (v := 1) hx hb dX0_beats_136 (by decide) ?_
        refine lv_aload_n hx hb dX0_beats_137 rfl (lv_at hl 2 rfl) ?_
        refine x_get (v := .ref (S.2.2.1 7)) X hM 7 (by decide) q775 rfl rfl dX0_beats_138 ?_
        refine lv_iload hx hb dX0_beats_141 (lv_at hl 11 rfl) ?_
        obtain ⟨v_20, h, hf⟩ := ec_bi hf
        refine h_iald X hM h dX0_beats_143 ?_
        refine lv_ishl hx hb dX0_beats_144 ?_
        refine lv_goto (tgt := 149) hx hb dX0_beats_145 rfl ?_
        exact bX0_beats_149 X hr hlk hM ih x1 x2 x4 x6 x7 x9 x10 x11 v_11 ((1 : Int32) <<< (v_20 &&& 31)) x8 _ hf (lv_sub hl [2, 3, 4, 5, 6, 7, 9, 10, 11, 1] rfl)
noncomputable def fX0_beats (N : Nat) (S : sX) (x1 : Int32) (x2 : Int32) (x3 : Int32) (x4 : Int32) : Option Int32 :=
  (fX0_isSample x1 x2 x3 (0 : Int32)).bind fun v_1 =>
  if v_1 = 0 then (
    fX0_beats_23 N S)
  else (
    (fX0_isIn (x4.toInt64) (0 : Int64) (2 : Int64)).bind fun v_2 =>
    if ¬ v_2 = 0 then (
      (ec_ag (S.2.1 10) 8 x1).bind fun v_3 =>
      if ¬ v_3 = 0 then (
        (fX0_common N (v_3.toInt64) (x2.toInt64)).bind fun v_4 =>
        ec_lt (v_4.toInt32) fun x6_5 =>
        (ec_rm x3 x6_5).bind fun v_6 =>
        (ec_rm ((x6_5 - (1 : Int32)) - v_6) x6_5).bind fun v_7 =>
        fX0_beats_77 N S (fun x2_21 x4_22 x6_23 x8_24 x9_25 =>
          if ¬ x4_22 = 0 then (
            if ¬ x4_22 = (1 : Int32) then (
              (ec_dv x2_21 x6_23).bind fun v_26 =>
              some v_26)
            else (
              some (x9_25 &&& (x8_24 ^^^ (-1 : Int32)))))
          else (
            some x8_24)) N x1 x2 x4 x6_5 v_7 (0 : Int32) (0 : Int32) (0 : Int32) (0 : Int32))
      else (
        some (0 : Int32)))
    else (
      fX0_beats_23 N S))
theorem metX0_beats (l : Launch) (D : va_G) (dA : Nat → ClassId) (o : Nat) (q : Nat → Nat) (N : Nat) (S : sX) (x1 : Int32) (x2 : Int32) (x3 : Int32) (x4 : Int32) (res : Int32) (hf : fX0_beats N S x1 x2 x3 x4 = some res) : Met l yX0_beats (ws_ yX0_beats cX0_beats 14 (some .int)) (rmL 3) (XPre D dA o q S [.int x1, .int x2, .int x3, .int x4]) (k2_QcV (.int res)) 0 0 (fun _ => False) := by
  refine x_ofR rfl (Nat.le_of_ble_eq_true rfl) (fun p e s m args below meth c X hr hlk hM ls hl => ?_)
  have hl : lv_has ls 14 [(0, .ref o), (1, .int x1), (2, .int x2), (3, .int x3), (4, .int x4)] := hl
  have hx := X.1
  have hb := X.2.1
  unfold fX0_beats at hf
  refine lv_iload_n hx hb dX0_beats_0 rfl (lv_at hl 1 rfl) ?_
  refine lv_iload_n hx hb dX0_beats_1 rfl (lv_at hl 2 rfl) ?_
  refine lv_iload_n hx hb dX0_beats_2 rfl (lv_at hl 3 rfl) ?_
  refine lv_iconst (v := 0) hx hb dX0_beats_3 (by decide) ?_
  obtain ⟨v_1, h, hf⟩ := ec_bi hf
  refine e_cS (v := .int v_1) (As := [.int x1, .int x2, .int x3, .int (0 : Int32)]) (rest := []) X (metX0_isSample l x1 x2 x3 (0 : Int32) _ h) (va_cwS 4 X.2.2.2.2 gX0_274 rfl rfl rfl hX0_isSample (rm_le (Nat.le_of_ble_eq_true rfl) (Nat.le_of_ble_eq_true rfl))) rfl hl.1 rfl (Nat.le_of_ble_eq_true rfl) ⟨Nat.zero_le _, Nat.zero_le _⟩ dX0_beats_4 ?_
  refine lv_if_eq (tgt := 23) hx hb dX0_beats_7 rfl (fun cnd => ?_) (fun cnd => ?_)
  · have hf := ec_t cnd hf
    exact bX0_beats_23 X hr hlk hM _ hf (lv_sub hl [0] rfl)
  · have hf := ec_f cnd hf
    refine lv_iload hx hb dX0_beats_10 (lv_at hl 4 rfl) ?_
    refine lv_i2l hx hb dX0_beats_12 rfl ?_
    refine lv_lconst (v := 0) hx hb dX0_beats_13 (by decide) ?_
    refine lv_ldc2 (own := RX0) (v := 2) hx hb X.2.2.2.1 (X.2.2.2.2 _ q592) dX0_beats_14 ?_
    obtain ⟨v_2, h, hf⟩ := ec_bi hf
    refine e_cS (v := .int v_2) (As := [.long (x4.toInt64), .long (0 : Int64), .long (2 : Int64)]) (rest := []) X (metX0_isIn l (x4.toInt64) (0 : Int64) (2 : Int64) _ h) (va_cwS 3 X.2.2.2.2 gX0_21 rfl rfl rfl hX0_isIn (rm_le (Nat.le_of_ble_eq_true rfl) (Nat.le_of_ble_eq_true rfl))) rfl hl.1 rfl (Nat.le_of_ble_eq_true rfl) ⟨Nat.zero_le _, Nat.zero_le _⟩ dX0_beats_17 ?_
    refine lv_if_ne (tgt := 25) hx hb dX0_beats_20 rfl (fun cnd => ?_) (fun cnd => ?_)
    · have hf := ec_t cnd hf
      refine lv_aload_n hx hb dX0_beats_25 rfl (lv_at hl 0 rfl) ?_
      refine x_get (v := .ref (q 10)) X hM 10 (by decide) q778 rfl rfl dX0_beats_26 ?_
      refine lv_iload_n hx hb dX0_beats_29 rfl (lv_at hl 1 rfl) ?_
      obtain ⟨v_3, h, hf⟩ := ec_bi hf
      refine x_iald X hM wxa10 h dX0_beats_30 ?_
      refine lv_istore (lv' := [(5, .int v_3), (0, .ref o), (1, .int x1), (2, .int x2), (3, .int x3), (4, .int x4)]) hx hb dX0_beats_31 hl (by decide) rfl (fun ls hl => ?_)
      refine lv_iload hx hb dX0_beats_33 (lv_at hl 0 rfl) ?_
      refine lv_if_ne (tgt := 40) hx hb dX0_beats_35 rfl (fun cnd => ?_) (fun cnd => ?_)
      · have hf := ec_t cnd hf
        refine lv_iload hx hb dX0_beats_40 (lv_at hl 0 rfl) ?_
        refine lv_i2l hx hb dX0_beats_42 rfl ?_
        refine lv_iload_n hx hb dX0_beats_43 rfl (lv_at hl 3 rfl) ?_
        refine lv_i2l hx hb dX0_beats_44 rfl ?_
        obtain ⟨v_4, h, hf⟩ := ec_bi hf
        refine e_cS (v := .long v_4) (As := [.long (v_3.toInt64), .long (x2.toInt64)]) (rest := []) X (metX0_common l N (v_3.toInt64) (x2.toInt64) _ h) (va_cwS 2 X.2.2.2.2 gX0_7 rfl rfl rfl hX0_common (rm_le (Nat.le_of_ble_eq_true rfl) (Nat.le_of_ble_eq_true rfl))) rfl hl.1 rfl (Nat.le_of_ble_eq_true rfl) ⟨Nat.zero_le _, Nat.zero_le _⟩ dX0_beats_45 ?_
        refine lv_l2i hx hb dX0_beats_48 rfl ?_
        refine lv_topi (fun x6_5 ex => ?_)
        have hf := ec_lt_i ex hf
        refine lv_istore (lv' := [(6, .int x6_5), (5, .int v_3), (0, .ref o), (1, .int x1), (2, .int x2), (3, .int x3), (4, .int x4)]) hx hb dX0_beats_49 hl (by decide) rfl (fun ls hl => ?_)
        refine lv_iload hx hb dX0_beats_51 (lv_at hl 0 rfl) ?_
        refine lv_iconst (v := 1) hx hb dX0_beats_53 (by decide) ?_
        refine lv_isub hx hb dX0_beats_54 ?_
        refine lv_iload_n hx hb dX0_beats_55 rfl (lv_at hl 5 rfl) ?_
        refine lv_iload hx hb dX0_beats_56 (lv_at hl 0 rfl) ?_
        obtain ⟨v_6, h, hf⟩ := ec_bi hf
        refine e_rm hx hb h dX0_beats_58 ?_
        refine lv_isub hx hb dX0_beats_59 ?_
        refine lv_iload hx hb dX0_beats_60 (lv_at hl 0 rfl) ?_
        obtain ⟨v_7, h, hf⟩ := ec_bi hf
        refine e_rm hx hb h dX0_beats_62 ?_
        refine lv_istore (lv' := [(7, .int v_7), (6, .int x6_5), (5, .int v_3), (0, .ref o), (1, .int x1), (2, .int x2), (3, .int x3), (4, .int x4)]) hx hb dX0_beats_63 hl (by decide) rfl (fun ls hl => ?_)
        refine lv_iconst (v := 0) hx hb dX0_beats_65 (by decide) ?_
        refine lv_istore (lv' := [(8, .int (0 : Int32)), (7, .int v_7), (6, .int x6_5), (5, .int v_3), (0, .ref o), (1, .int x1), (2, .int x2), (3, .int x3), (4, .int x4)]) hx hb dX0_beats_66 hl (by decide) rfl (fun ls hl => ?_)
        refine lv_iconst (v := 0) hx hb dX0_beats_68 (by decide) ?_
        refine lv_istore (lv' := [(9, .int (0 : Int32)), (8, .int (0 : Int32)), (7, .int v_7), (6, .int x6_5), (5, .int v_3), (0, .ref o), (1, .int x1), (2, .int x2), (3, .int x3), (4, .int x4)]) hx hb dX0_beats_69 hl (by decide) rfl (fun ls hl => ?_)
        refine lv_iconst (v := 0) hx hb dX0_beats_71 (by decide) ?_
        refine lv_istore (lv' := [(10, .int (0 : Int32)), (9, .int (0 : Int32)), (8, .int (0 : Int32)), (7, .int v_7), (6, .int x6_5), (5, .int v_3), (0, .ref o), (1, .int x1), (2, .int x2), (3, .int x3), (4, .int x4)]) hx hb dX0_beats_72 hl (by decide) rfl (fun ls hl => ?_)
        refine lv_iconst (v := 0) hx hb dX0_beats_74 (by decide) ?_
        refine lv_istore (lv' := [(11, .int (0 : Int32)), (10, .int (0 : Int32)), (9, .int (0 : Int32)), (8, .int (0 : Int32)), (7, .int v_7), (6, .int x6_5), (5, .int v_3), (0, .ref o), (1, .int x1), (2, .int x2), (3, .int x3), (4, .int x4)]) hx hb dX0_beats_75 hl (by decide) rfl (fun ls hl => ?_)
        exact bX0_beats_77 X hr hlk hM (fun x2_21 x4_22 x6_23 x8_24 x9_25 ls hf hl => by
          refine lv_iload hx hb dX0_beats_188 (lv_at hl 2 rfl) ?_
          refine lv_if_ne (tgt := 198) hx hb dX0_beats_190 rfl (fun cnd => ?_) (fun cnd => ?_)
          · have hf := ec_t cnd hf
            refine lv_iload hx hb dX0_beats_198 (lv_at hl 2 rfl) ?_
            refine lv_iconst (v := 1) hx hb dX0_beats_200 (by decide) ?_
            refine lv_icmp_ne (tgt := 214) hx hb dX0_beats_201 rfl (fun cnd => ?_) (fun cnd => ?_)
            · have hf := ec_t cnd hf
              refine lv_iload_n hx hb dX0_beats_214 rfl (lv_at hl 1 rfl) ?_
              refine lv_iload hx hb dX0_beats_215 (lv_at hl 3 rfl) ?_
              obtain ⟨v_26, h, hf⟩ := ec_bi hf
              refine e_dv hx hb h dX0_beats_217 ?_
              obtain rfl := Option.some.inj hf
              exact e_iretR hx hb hr hlk dX0_beats_218
            · have hf := ec_f (not_not_intro cnd) hf
              refine lv_iload hx hb dX0_beats_204 (lv_at hl 5 rfl) ?_
              refine lv_iload hx hb dX0_beats_206 (lv_at hl 4 rfl) ?_
              refine lv_iconst (v := -1) hx hb dX0_beats_208 (by decide) ?_
              refine lv_ixor hx hb dX0_beats_209 ?_
              refine lv_iand hx hb dX0_beats_210 ?_
              refine lv_goto (tgt := 218) hx hb dX0_beats_211 rfl ?_
              obtain rfl := Option.some.inj hf
              exact e_iretR hx hb hr hlk dX0_beats_218
          · have hf := ec_f (not_not_intro cnd) hf
            refine lv_iload hx hb dX0_beats_193 (lv_at hl 4 rfl) ?_
            refine lv_goto (tgt := 218) hx hb dX0_beats_195 rfl ?_
            obtain rfl := Option.some.inj hf
            exact e_iretR hx hb hr hlk dX0_beats_218) N x1 x2 x4 x6_5 v_7 (0 : Int32) (0 : Int32) (0 : Int32) (0 : Int32) _ hf (lv_sub hl [7, 8, 9, 11, 5, 4, 3, 2, 1, 0] rfl)
      · have hf := ec_f (not_not_intro cnd) hf
        refine lv_iconst (v := 0) hx hb dX0_beats_38 (by decide) ?_
        obtain rfl := Option.some.inj hf
        exact e_iretR hx hb hr hlk dX0_beats_39
    · have hf := ec_f (not_not_intro cnd) hf
      exact bX0_beats_23 X hr hlk hM _ hf (lv_sub hl [0] rfl)
theorem hX0_beats : yX0_beats.cls = RX0 ∧ yX0_beats.cls ≠ "java/lang/invoke/MethodHandle" ∧ yX0_beats.cls ≠ "java/lang/invoke/VarHandle" ∧ (parseMethodDescriptor yX0_beats.desc).map (fun d => d.parameters.length) = some 4 := by decide +kernel

noncomputable def fX0_canCount_32 (S : sX) : Option Int32 :=
  some (0 : Int32)
theorem bX0_canCount_32 (X : CallFix p m c cX0_canCount 3 s args lw_all RX0) (hr : meth.sig.returnType = (some .boolean)) (hlk : meth.locks = false) {S : sX} (hM : XW D dA o q S A s s.heap []) {res : Int32} : ∀ (ls : Array Slot), fX0_canCount_32 S = some res → lv_has ls 3 [(0, .ref o)] → W p l e (rmL 2) s m args below meth c s.heap [] 0 0 (MQ below (k2_QcV (.int res)) args s 0 0 (fun _ => False)) (F0 m 32 ls []) := by
  have hx := X.1
  have hb := X.2.1
  intro ls hf hl
  unfold fX0_canCount_32 at hf
  refine lv_iconst (v := 0) hx hb dX0_canCount_32 (by decide) ?_
  obtain rfl := Option.some.inj hf
  exact e_zretR hx hb hr hlk rfl dX0_canCount_33
noncomputable def fX0_canCount (S : sX) (x1 : Int32) (x2 : Int32) : Option Int32 :=
  (fX0_isCounter S x1).bind fun v_1 =>
  if v_1 = 0 then (
    fX0_canCount_32 S)
  else (
    (fX0_isEvent x2).bind fun v_2 =>
    if v_2 = 0 then (
      fX0_canCount_32 S)
    else (
      (hAr 7 S.2.2.2 (S.2.2.1 13) x1).bind fun v_3 =>
      (hObj 1 S.2.2.2 v_3).bind fun w_4 =>
      (fX1_canCount S.2.2.2 v_3 x2).bind fun v_5 =>
      if v_5 = 0 then (
        fX0_canCount_32 S)
      else (
        some (1 : Int32))))
theorem metX0_canCount (l : Launch) (D : va_G) (dA : Nat → ClassId) (o : Nat) (q : Nat → Nat) (S : sX) (x1 : Int32) (x2 : Int32) (res : Int32) (hf : fX0_canCount S x1 x2 = some res) : Met l yX0_canCount (ws_ yX0_canCount cX0_canCount 3 (some .boolean)) (rmL 2) (XPre D dA o q S [.int x1, .int x2]) (k2_QcV (.int res)) 0 0 (fun _ => False) := by
  refine x_ofR rfl (Nat.le_of_ble_eq_true rfl) (fun p e s m args below meth c X hr hlk hM ls hl => ?_)
  have hl : lv_has ls 3 [(0, .ref o), (1, .int x1), (2, .int x2)] := hl
  have hx := X.1
  have hb := X.2.1
  unfold fX0_canCount at hf
  refine lv_aload_n hx hb dX0_canCount_0 rfl (lv_at hl 0 rfl) ?_
  refine lv_iload_n hx hb dX0_canCount_1 rfl (lv_at hl 1 rfl) ?_
  obtain ⟨v_1, h, hf⟩ := ec_bi hf
  refine x_cR (v := .int v_1) (As := [.int x1]) (rest := []) X hM (metX0_isCounter l D dA o q S x1 _ h) (cwV 1 X.2.2.2.2 gX0_195 rfl rfl rfl hX0_isCounter (rm_le (Nat.le_of_ble_eq_true rfl) (Nat.le_of_ble_eq_true rfl))) rfl hl.1 rfl (Nat.le_of_ble_eq_true rfl) ⟨Nat.zero_le _, Nat.zero_le _⟩ dX0_canCount_2 ?_
  refine lv_if_eq (tgt := 32) hx hb dX0_canCount_5 rfl (fun cnd => ?_) (fun cnd => ?_)
  · have hf := ec_t cnd hf
    exact bX0_canCount_32 X hr hlk hM _ hf (lv_sub hl [0] rfl)
  · have hf := ec_f cnd hf
    refine lv_iload_n hx hb dX0_canCount_8 rfl (lv_at hl 2 rfl) ?_
    obtain ⟨v_2, h, hf⟩ := ec_bi hf
    refine e_cS (v := .int v_2) (As := [.int x2]) (rest := []) X (metX0_isEvent l x2 _ h) (va_cwS 1 X.2.2.2.2 gX0_125 rfl rfl rfl hX0_isEvent (rm_le (Nat.le_of_ble_eq_true rfl) (Nat.le_of_ble_eq_true rfl))) rfl hl.1 rfl (Nat.le_of_ble_eq_true rfl) ⟨Nat.zero_le _, Nat.zero_le _⟩ dX0_canCount_9 ?_
    refine lv_if_eq (tgt := 32) hx hb dX0_canCount_12 rfl (fun cnd => ?_) (fun cnd => ?_)
    · have hf := ec_t cnd hf
      exact bX0_canCount_32 X hr hlk hM _ hf (lv_sub hl [0] rfl)
    · have hf := ec_f cnd hf
      refine lv_aload_n hx hb dX0_canCount_15 rfl (lv_at hl 0 rfl) ?_
      refine x_get (v := .ref (S.2.2.1 13)) X hM 13 (by decide) q781 rfl rfl dX0_canCount_16 ?_
      refine lv_iload_n hx hb dX0_canCount_19 rfl (lv_at hl 1 rfl) ?_
      obtain ⟨v_3, h, hf⟩ := ec_bi hf
      refine h_aald (t := 7) X hM rfl rfl h dX0_canCount_20 ?_
      refine lv_iload_n hx hb dX0_canCount_21 rfl (lv_at hl 2 rfl) ?_
      obtain ⟨w_4, ho, hf⟩ := ec_bi hf
      obtain ⟨v_5, h, hf⟩ := ec_bi hf
      refine h_cR (C := RX1) (T := TX1) (N := 2) (v := .int v_5) (As := [.int x2]) (rest := []) X hM rfl ho (metX1_canCount l D dA S.2.2.2 v_3 x2 _ h) (cwV 1 X.2.2.2.2 gX0_208 rfl rfl rfl hX1_canCount (rm_le (Nat.le_of_ble_eq_true rfl) (Nat.le_of_ble_eq_true rfl))) rfl hl.1 rfl (Nat.le_of_ble_eq_true rfl) ⟨Nat.zero_le _, Nat.zero_le _⟩ dX0_canCount_22 ?_
      refine lv_if_eq (tgt := 32) hx hb dX0_canCount_25 rfl (fun cnd => ?_) (fun cnd => ?_)
      · have hf := ec_t cnd hf
        exact bX0_canCount_32 X hr hlk hM _ hf (lv_sub hl [0] rfl)
      · have hf := ec_f cnd hf
        refine lv_iconst (v := 1) hx hb dX0_canCount_28 (by decide) ?_
        refine lv_goto (tgt := 33) hx hb dX0_canCount_29 rfl ?_
        obtain rfl := Option.some.inj hf
        exact e_zretR hx hb hr hlk rfl dX0_canCount_33
theorem hX0_canCount : yX0_canCount.cls = RX0 ∧ yX0_canCount.cls ≠ "java/lang/invoke/MethodHandle" ∧ yX0_canCount.cls ≠ "java/lang/invoke/VarHandle" ∧ (parseMethodDescriptor yX0_canCount.desc).map (fun d => d.parameters.length) = some 2 := by decide +kernel

theorem gX0_291 : GoodIn lw_all (wsV RX0 291 RX0 yX0_canCount (ws_ yX0_canCount cX0_canCount 3 (some .boolean))) := lw_V q695 q697 qs24 q60 q698
noncomputable def fX0_over_43 (S : sX) : Option Int32 :=
  some (-1 : Int32)
theorem bX0_over_43 (X : CallFix p m c cX0_over 6 s args lw_all RX0) (hr : meth.sig.returnType = (some .int)) (hlk : meth.locks = false) {S : sX} (hM : XW D dA o q S A s s.heap []) {res : Int32} : ∀ (ls : Array Slot), fX0_over_43 S = some res → lv_has ls 6 [(0, .ref o)] → W p l e (rmL 3) s m args below meth c s.heap [] 0 0 (MQ below (k2_QcV (.int res)) args s 0 0 (fun _ => False)) (F0 m 43 ls []) := by
  have hx := X.1
  have hb := X.2.1
  intro ls hf hl
  unfold fX0_over_43 at hf
  refine lv_iconst (v := -1) hx hb dX0_over_43 (by decide) ?_
  obtain rfl := Option.some.inj hf
  exact e_iretR hx hb hr hlk dX0_over_44
noncomputable def fX0_over (S : sX) (x1 : Int32) (x2 : Int32) (x3 : Int32) (x4 : Int32) : Option Int32 :=
  (fX0_canCount S x1 x2).bind fun v_1 =>
  if v_1 = 0 then (
    fX0_over_43 S)
  else (
    (hAr 7 S.2.2.2 (S.2.2.1 13) x1).bind fun v_2 =>
    (hI 1 S.2.2.2 v_2 1).bind fun v_3 =>
    (fX0_isIn (x3.toInt64) (0 : Int64) ((((1 : Int32) <<< (v_3 &&& 31)) - (1 : Int32)).toInt64)).bind fun v_4 =>
    if v_4 = 0 then (
      fX0_over_43 S)
    else (
      (fX0_isIn (x4.toInt64) (0 : Int64) (1 : Int64)).bind fun v_5 =>
      if ¬ v_5 = 0 then (
        (ec_ag (S.2.1 10) 8 x2).bind fun v_6 =>
        ec_lt (x3 + v_6) fun x5_7 =>
        if ¬ x4 = 0 then (
          (hAr 7 S.2.2.2 (S.2.2.1 13) x1).bind fun v_8 =>
          (hI 1 S.2.2.2 v_8 1).bind fun v_9 =>
          some (x5_7 >>> (v_9 &&& 31)))
        else (
          (hAr 7 S.2.2.2 (S.2.2.1 13) x1).bind fun v_10 =>
          (hI 1 S.2.2.2 v_10 1).bind fun v_11 =>
          some (x5_7 &&& (((1 : Int32) <<< (v_11 &&& 31)) - (1 : Int32)))))
      else (
        fX0_over_43 S)))
theorem metX0_over (l : Launch) (D : va_G) (dA : Nat → ClassId) (o : Nat) (q : Nat → Nat) (S : sX) (x1 : Int32) (x2 : Int32) (x3 : Int32) (x4 : Int32) (res : Int32) (hf : fX0_over S x1 x2 x3 x4 = some res) : Met l yX0_over (ws_ yX0_over cX0_over 6 (some .int)) (rmL 3) (XPre D dA o q S [.int x1, .int x2, .int x3, .int x4]) (k2_QcV (.int res)) 0 0 (fun _ => False) := by
  refine x_ofR rfl (Nat.le_of_ble_eq_true rfl) (fun p e s m args below meth c X hr hlk hM ls hl => ?_)
  have hl : lv_has ls 6 [(0, .ref o), (1, .int x1), (2, .int x2), (3, .int x3), (4, .int x4)] := hl
  have hx := X.1
  have hb := X.2.1
  unfold fX0_over at hf
  refine lv_aload_n hx hb dX0_over_0 rfl (lv_at hl 0 rfl) ?_
  refine lv_iload_n hx hb dX0_over_1 rfl (lv_at hl 1 rfl) ?_
  refine lv_iload_n hx hb dX0_over_2 rfl (lv_at hl 2 rfl) ?_
  obtain ⟨v_1, h, hf⟩ := ec_bi hf
  refine x_cR (v := .int v_1) (As := [.int x1, .int x2]) (rest := []) X hM (metX0_canCount l D dA o q S x1 x2 _ h) (cwV 2 X.2.2.2.2 gX0_291 rfl rfl rfl hX0_canCount (rm_le (Nat.le_of_ble_eq_true rfl) (Nat.le_of_ble_eq_true rfl))) rfl hl.1 rfl (Nat.le_of_ble_eq_true rfl) ⟨Nat.zero_le _, Nat.zero_le _⟩ dX0_over_3 ?_
  refine lv_if_eq (tgt := 43) hx hb dX0_over_6 rfl (fun cnd => ?_) (fun cnd => ?_)
  · have hf := ec_t cnd hf
    exact bX0_over_43 X hr hlk hM _ hf (lv_sub hl [0] rfl)
  · have hf := ec_f cnd hf
    refine lv_iload_n hx hb dX0_over_9 rfl (lv_at hl 3 rfl) ?_
    refine lv_i2l hx hb dX0_over_10 rfl ?_
    refine lv_lconst (v := 0) hx hb dX0_over_11 (by decide) ?_
    refine lv_iconst (v := 1) hx hb dX0_over_12 (by decide) ?_
    refine lv_aload_n hx hb dX0_over_13 rfl (lv_at hl 0 rfl) ?_
    refine x_get (v := .ref (S.2.2.1 13)) X hM 13 (by decide) q781 rfl rfl dX0_over_14 ?_
    refine lv_iload_n hx hb dX0_over_17 rfl (lv_at hl 1 rfl) ?_
    obtain ⟨v_2, h, hf⟩ := ec_bi hf
    refine h_aald (t := 7) X hM rfl rfl h dX0_over_18 ?_
    obtain ⟨v_3, h, hf⟩ := ec_bi hf
    refine h_getvN (v := .int v_3) (C := RX1) (T := TX1) (N := 2) (ci := 1) (k := 1) (host := "EventCounters") X hM in_X1 rfl (by decide) (xn_at hM.2.1 35 rfl) rfl (hI_i h) dX0_over_19 ?_
    refine lv_ishl hx hb dX0_over_22 ?_
    refine lv_iconst (v := 1) hx hb dX0_over_23 (by decide) ?_
    refine lv_isub hx hb dX0_over_24 ?_
    refine lv_i2l hx hb dX0_over_25 rfl ?_
    obtain ⟨v_4, h, hf⟩ := ec_bi hf
    refine e_cS (v := .int v_4) (As := [.long (x3.toInt64), .long (0 : Int64), .long ((((1 : Int32) <<< (v_3 &&& 31)) - (1 : Int32)).toInt64)]) (rest := []) X (metX0_isIn l (x3.toInt64) (0 : Int64) ((((1 : Int32) <<< (v_3 &&& 31)) - (1 : Int32)).toInt64) _ h) (va_cwS 3 X.2.2.2.2 gX0_21 rfl rfl rfl hX0_isIn (rm_le (Nat.le_of_ble_eq_true rfl) (Nat.le_of_ble_eq_true rfl))) rfl hl.1 rfl (Nat.le_of_ble_eq_true rfl) ⟨Nat.zero_le _, Nat.zero_le _⟩ dX0_over_26 ?_
    refine lv_if_eq (tgt := 43) hx hb dX0_over_29 rfl (fun cnd => ?_) (fun cnd => ?_)
    · have hf := ec_t cnd hf
      exact bX0_over_43 X hr hlk hM _ hf (lv_sub hl [0] rfl)
    · have hf := ec_f cnd hf
      refine lv_iload hx hb dX0_over_32 (lv_at hl 4 rfl) ?_
      refine lv_i2l hx hb dX0_over_34 rfl ?_
      refine lv_lconst (v := 0) hx hb dX0_over_35 (by decide) ?_
      refine lv_lconst (v := 1) hx hb dX0_over_36 (by decide) ?_
      obtain ⟨v_5, h, hf⟩ := ec_bi hf
      refine e_cS (v := .int v_5) (As := [.long (x4.toInt64), .long (0 : Int64), .long (1 : Int64)]) (rest := []) X (metX0_isIn l (x4.toInt64) (0 : Int64) (1 : Int64) _ h) (va_cwS 3 X.2.2.2.2 gX0_21 rfl rfl rfl hX0_isIn (rm_le (Nat.le_of_ble_eq_true rfl) (Nat.le_of_ble_eq_true rfl))) rfl hl.1 rfl (Nat.le_of_ble_eq_true rfl) ⟨Nat.zero_le _, Nat.zero_le _⟩ dX0_over_37 ?_
      refine lv_if_ne (tgt := 45) hx hb dX0_over_40 rfl (fun cnd => ?_) (fun cnd => ?_)
      · have hf := ec_t cnd hf
        refine lv_iload_n hx hb dX0_over_45 rfl (lv_at hl 3 rfl) ?_
        refine lv_aload_n hx hb dX0_over_46 rfl (lv_at hl 0 rfl) ?_
        refine x_get (v := .ref (q 10)) X hM 10 (by decide) q778 rfl rfl dX0_over_47 ?_
        refine lv_iload_n hx hb dX0_over_50 rfl (lv_at hl 2 rfl) ?_
        obtain ⟨v_6, h, hf⟩ := ec_bi hf
        refine x_iald X hM wxa10 h dX0_over_51 ?_
        refine lv_iadd hx hb dX0_over_52 ?_
        refine lv_topi (fun x5_7 ex => ?_)
        have hf := ec_lt_i ex hf
        refine lv_istore (lv' := [(5, .int x5_7), (0, .ref o), (1, .int x1), (2, .int x2), (3, .int x3), (4, .int x4)]) hx hb dX0_over_53 hl (by decide) rfl (fun ls hl => ?_)
        refine lv_iload hx hb dX0_over_55 (lv_at hl 5 rfl) ?_
        refine lv_if_ne (tgt := 79) hx hb dX0_over_57 rfl (fun cnd => ?_) (fun cnd => ?_)
        · have hf := ec_t cnd hf
          refine lv_iload hx hb dX0_over_79 (lv_at hl 0 rfl) ?_
          refine lv_aload_n hx hb dX0_over_81 rfl (lv_at hl 1 rfl) ?_
          refine x_get (v := .ref (S.2.2.1 13)) X hM 13 (by decide) q781 rfl rfl dX0_over_82 ?_
          refine lv_iload_n hx hb dX0_over_85 rfl (lv_at hl 2 rfl) ?_
          obtain ⟨v_8, h, hf⟩ := ec_bi hf
          refine h_aald (t := 7) X hM rfl rfl h dX0_over_86 ?_
          obtain ⟨v_9, h, hf⟩ := ec_bi hf
          refine h_getvN (v := .int v_9) (C := RX1) (T := TX1) (N := 2) (ci := 1) (k := 1) (host := "EventCounters") X hM in_X1 rfl (by decide) (xn_at hM.2.1 35 rfl) rfl (hI_i h) dX0_over_87 ?_
          refine lv_ishr hx hb dX0_over_90 ?_
          obtain rfl := Option.some.inj hf
          exact e_iretR hx hb hr hlk dX0_over_91
        · have hf := ec_f (not_not_intro cnd) hf
          refine lv_iload hx hb dX0_over_60 (lv_at hl 0 rfl) ?_
          refine lv_iconst (v := 1) hx hb dX0_over_62 (by decide) ?_
          refine lv_aload_n hx hb dX0_over_63 rfl (lv_at hl 1 rfl) ?_
          refine x_get (v := .ref (S.2.2.1 13)) X hM 13 (by decide) q781 rfl rfl dX0_over_64 ?_
          refine lv_iload_n hx hb dX0_over_67 rfl (lv_at hl 2 rfl) ?_
          obtain ⟨v_10, h, hf⟩ := ec_bi hf
          refine h_aald (t := 7) X hM rfl rfl h dX0_over_68 ?_
          obtain ⟨v_11, h, hf⟩ := ec_bi hf
          refine h_getvN (v := .int v_11) (C := RX1) (T := TX1) (N := 2) (ci := 1) (k := 1) (host := "EventCounters") X hM in_X1 rfl (by decide) (xn_at hM.2.1 35 rfl) rfl (hI_i h) dX0_over_69 ?_
          refine lv_ishl hx hb dX0_over_72 ?_
          refine lv_iconst (v := 1) hx hb dX0_over_73 (by decide) ?_
          refine lv_isub hx hb dX0_over_74 ?_
          refine lv_iand hx hb dX0_over_75 ?_
          refine lv_goto (tgt := 91) hx hb dX0_over_76 rfl ?_
          obtain rfl := Option.some.inj hf
          exact e_iretR hx hb hr hlk dX0_over_91
      · have hf := ec_f (not_not_intro cnd) hf
        exact bX0_over_43 X hr hlk hM _ hf (lv_sub hl [0] rfl)
theorem hX0_over : yX0_over.cls = RX0 ∧ yX0_over.cls ≠ "java/lang/invoke/MethodHandle" ∧ yX0_over.cls ≠ "java/lang/invoke/VarHandle" ∧ (parseMethodDescriptor yX0_over.desc).map (fun d => d.parameters.length) = some 4 := by decide +kernel

noncomputable def fX0_layLooks_102 (N : Nat) (k37 : sX → Int32 → Int32 → Int32 → Int32 → Int32 → Int32 → Int32 → Option sX) (S : sX) (x2 : Int32) (x3 : Int32) (x4 : Int32) (x5 : Int32) (x6 : Int32) (x7 : Int32) (x8 : Int32) (x9 : Nat) : Option sX :=
  (hR 7 S.2.2.2 x9 3).bind fun v_9 =>
  (hAi 0 S.2.2.2 v_9 x2).bind fun v_10 =>
  ec_lt (x5 + v_10) fun x5_11 =>
  (hI 7 S.2.2.2 x9 2).bind fun v_12 =>
  ec_lt (x6 + v_12) fun x6_13 =>
  ec_lt (x8 + (1 : Int32)) fun x8_14 =>
  k37 S x2 x3 x4 x5_11 x6_13 x7 x8_14
theorem bX0_layLooks_102 {N : Nat} (X : CallFix p m c cX0_layLooks 10 s args lw_all RX0) (hr : meth.sig.returnType = none) (hlk : meth.locks = false) {Sr : sX} {k37 : sX → Int32 → Int32 → Int32 → Int32 → Int32 → Int32 → Int32 → Option sX} (Hk37 : ∀ (S : sX) (x2 : Int32) (x3 : Int32) (x4 : Int32) (x5 : Int32) (x6 : Int32) (x7 : Int32) (x8 : Int32) (H : Heap) (locs : List Loc) (ls : Array Slot), k37 S x2 x3 x4 x5 x6 x7 x8 = some Sr → XW D dA o q S A s H locs → lv_has ls 10 [(0, .ref o), (2, .int x2), (3, .int x3), (4, .int x4), (5, .int x5), (6, .int x6), (7, .int x7), (8, .int x8)] → W p l e (rmL 0) s m args below meth c H locs 0 0 (MQ below (XPost D dA o q A none Sr) args s 0 0 A) (F0 m 37 ls [])) : ∀ (S : sX) (x2 : Int32) (x3 : Int32) (x4 : Int32) (x5 : Int32) (x6 : Int32) (x7 : Int32) (x8 : Int32) (x9 : Nat) (H : Heap) (locs : List Loc) (ls : Array Slot), fX0_layLooks_102 N k37 S x2 x3 x4 x5 x6 x7 x8 x9 = some Sr → XW D dA o q S A s H locs → lv_has ls 10 [(0, .ref o), (2, .int x2), (3, .int x3), (4, .int x4), (5, .int x5), (6, .int x6), (7, .int x7), (8, .int x8), (9, .ref x9)] → W p l e (rmL 0) s m args below meth c H locs 0 0 (MQ below (XPost D dA o q A none Sr) args s 0 0 A) (F0 m 102 ls []) := by
  have hx := X.1
  have hb := X.2.1
  intro S x2 x3 x4 x5 x6 x7 x8 x9 H locs ls hf hM hl
  unfold fX0_layLooks_102 at hf
  refine lv_iload hx hb dX0_layLooks_102 (lv_at hl 4 rfl) ?_
  refine lv_aload hx hb dX0_layLooks_104 (lv_at hl 8 rfl) ?_
  obtain ⟨v_9, h, hf⟩ := ec_bi hf
  refine h_getvN (v := .ref v_9) (C := RX8) (T := TX8) (N := 5) (ci := 7) (k := 3) (host := "EventCounters") X hM in_X8 rfl (by decide) (xn_at hM.2.1 20 rfl) rfl (hR_i h) dX0_layLooks_106 ?_
  refine lv_iload_n hx hb dX0_layLooks_109 rfl (lv_at hl 1 rfl) ?_
  obtain ⟨v_10, h, hf⟩ := ec_bi hf
  refine h_iald X hM h dX0_layLooks_110 ?_
  refine lv_iadd hx hb dX0_layLooks_111 ?_
  refine lv_topi (fun x5_11 ex => ?_)
  have hf := ec_lt_i ex hf
  refine lv_istore (lv' := [(5, .int x5_11), (0, .ref o), (2, .int x2), (3, .int x3), (4, .int x4), (6, .int x6), (7, .int x7), (8, .int x8), (9, .ref x9)]) hx hb dX0_layLooks_112 hl (by decide) rfl (fun ls hl => ?_)
  refine lv_iload hx hb dX0_layLooks_114 (lv_at hl 5 rfl) ?_
  refine lv_aload hx hb dX0_layLooks_116 (lv_at hl 8 rfl) ?_
  obtain ⟨v_12, h, hf⟩ := ec_bi hf
  refine h_getvN (v := .int v_12) (C := RX8) (T := TX8) (N := 5) (ci := 7) (k := 2) (host := "EventCounters") X hM in_X8 rfl (by decide) (xn_at hM.2.1 19 rfl) rfl (hI_i h) dX0_layLooks_118 ?_
  refine lv_iadd hx hb dX0_layLooks_121 ?_
  refine lv_topi (fun x6_13 ex => ?_)
  have hf := ec_lt_i ex hf
  refine lv_istore (lv' := [(6, .int x6_13), (5, .int x5_11), (0, .ref o), (2, .int x2), (3, .int x3), (4, .int x4), (7, .int x7), (8, .int x8), (9, .ref x9)]) hx hb dX0_layLooks_122 hl (by decide) rfl (fun ls hl => ?_)
  refine e_inc (w := 1) (f := fun v => [(8, .int v), (6, .int x6_13), (5, .int x5_11), (0, .ref o), (2, .int x2), (3, .int x3), (4, .int x4), (7, .int x7), (9, .ref x9)]) hx hb dX0_layLooks_124 hl (k := 7) rfl (by decide) (by decide) (fun _ => rfl) (fun x8_14 ex ls hl => ?_)
  have hf := ec_lt_i ex hf
  refine lv_goto (tgt := 37) hx hb dX0_layLooks_127 rfl ?_
  exact Hk37 S x2 x3 x4 x5_11 x6_13 x7 x8_14 _ _ _ hf hM (lv_sub hl [3, 4, 5, 6, 2, 1, 7, 0] rfl)
noncomputable def fX0_layLooks_37 (N : Nat) (kx130 : sX → Int32 → Int32 → Option sX) : Nat → sX → Int32 → Int32 → Int32 → Int32 → Int32 → Int32 → Int32 → Option sX
  | 0, _, _, _, _, _, _, _, _ => none
  | n + 1, S, x2, x3, x4, x5, x6, x7, x8 =>
    if (S.1 8) ≤ x8 then (
      kx130 S x4 x5)
    else (
      (hAi 0 S.2.2.2 (S.2.2.1 7) x8).bind fun v_6 =>
      (hAr 4 S.2.2.2 (S.2.2.1 3) v_6).bind fun v_7 =>
      (ec_dv x6 x3).bind fun v_8 =>
      if v_8 = x7 then (
        fX0_layLooks_102 N (fX0_layLooks_37 N kx130 n) S x2 x3 x4 x5 x6 x7 x8 v_7)
      else (
        (ec_dv x6 x3).bind fun v_15 =>
        ec_lt (xI S 23 ((S.1 23) + (x5 &&& x4))) fun S_16 =>
        ec_lt (xI S_16 24 ((S_16.1 24) + (1 : Int32))) fun S_17 =>
        fX0_layLooks_102 N (fX0_layLooks_37 N kx130 n) S_17 x2 x3 x4 (0 : Int32) x6 v_15 x8 v_7))
theorem bX0_layLooks_37 {N : Nat} (X : CallFix p m c cX0_layLooks 10 s args lw_all RX0) (hr : meth.sig.returnType = none) (hlk : meth.locks = false) {Sr : sX} {kx130 : sX → Int32 → Int32 → Option sX} (Hkx130 : ∀ (S : sX) (x4 : Int32) (x5 : Int32) (H : Heap) (locs : List Loc) (ls : Array Slot), kx130 S x4 x5 = some Sr → XW D dA o q S A s H locs → lv_has ls 10 [(0, .ref o), (4, .int x4), (5, .int x5)] → W p l e (rmL 0) s m args below meth c H locs 0 0 (MQ below (XPost D dA o q A none Sr) args s 0 0 A) (F0 m 130 ls [])) : ∀ (n : Nat) (S : sX) (x2 : Int32) (x3 : Int32) (x4 : Int32) (x5 : Int32) (x6 : Int32) (x7 : Int32) (x8 : Int32) (H : Heap) (locs : List Loc) (ls : Array Slot), fX0_layLooks_37 N kx130 n S x2 x3 x4 x5 x6 x7 x8 = some Sr → XW D dA o q S A s H locs → lv_has ls 10 [(0, .ref o), (2, .int x2), (3, .int x3), (4, .int x4), (5, .int x5), (6, .int x6), (7, .int x7), (8, .int x8)] → W p l e (rmL 0) s m args below meth c H locs 0 0 (MQ below (XPost D dA o q A none Sr) args s 0 0 A) (F0 m 37 ls []) := by
  have hx := X.1
  have hb := X.2.1
  intro n
  induction n with
  | zero =>
    intro S x2 x3 x4 x5 x6 x7 x8 H locs ls hf hM hl
    rw [fX0_layLooks_37] at hf
    cases hf
  | succ n ih =>
    intro S x2 x3 x4 x5 x6 x7 x8 H locs ls hf hM hl
    rw [fX0_layLooks_37] at hf
    refine lv_iload hx hb dX0_layLooks_37 (lv_at hl 7 rfl) ?_
    refine lv_aload_n hx hb dX0_layLooks_39 rfl (lv_at hl 0 rfl) ?_
    refine x_get (v := .int (S.1 8)) X hM 8 (by decide) q776 rfl rfl dX0_layLooks_40 ?_
    refine lv_icmp_ge (tgt := 130) hx hb dX0_layLooks_43 rfl (fun cnd => ?_) (fun cnd => ?_)
    · have hf := ec_t cnd hf
      exact Hkx130 S x4 x5 _ _ _ hf hM (lv_sub hl [0, 3, 4] rfl)
    · have hf := ec_f cnd hf
      refine lv_aload_n hx hb dX0_layLooks_46 rfl (lv_at hl 0 rfl) ?_
      refine x_get (v := .ref (S.2.2.1 3)) X hM 3 (by decide) q771 rfl rfl dX0_layLooks_47 ?_
      refine lv_aload_n hx hb dX0_layLooks_50 rfl (lv_at hl 0 rfl) ?_
      refine x_get (v := .ref (S.2.2.1 7)) X hM 7 (by decide) q775 rfl rfl dX0_layLooks_51 ?_
      refine lv_iload hx hb dX0_layLooks_54 (lv_at hl 7 rfl) ?_
      obtain ⟨v_6, h, hf⟩ := ec_bi hf
      refine h_iald X hM h dX0_layLooks_56 ?_
      obtain ⟨v_7, h, hf⟩ := ec_bi hf
      refine h_aald (t := 4) X hM rfl rfl h dX0_layLooks_57 ?_
      refine lv_astore (lv' := [(9, .ref v_7), (0, .ref o), (2, .int x2), (3, .int x3), (4, .int x4), (5, .int x5), (6, .int x6), (7, .int x7), (8, .int x8)]) hx hb dX0_layLooks_58 hl (by decide) rfl (fun ls hl => ?_)
      refine lv_iload hx hb dX0_layLooks_60 (lv_at hl 6 rfl) ?_
      refine lv_iload_n hx hb dX0_layLooks_62 rfl (lv_at hl 3 rfl) ?_
      obtain ⟨v_8, h, hf⟩ := ec_bi hf
      refine e_dv hx hb h dX0_layLooks_63 ?_
      refine lv_iload hx hb dX0_layLooks_64 (lv_at hl 7 rfl) ?_
      refine lv_icmp_eq (tgt := 102) hx hb dX0_layLooks_66 rfl (fun cnd => ?_) (fun cnd => ?_)
      · have hf := ec_t cnd hf
        exact bX0_layLooks_102 X hr hlk ih S x2 x3 x4 x5 x6 x7 x8 v_7 _ _ _ hf hM (lv_sub hl [1, 2, 3, 4, 5, 6, 7, 8, 0] rfl)
      · have hf := ec_f cnd hf
        refine lv_iload hx hb dX0_layLooks_69 (lv_at hl 6 rfl) ?_
        refine lv_iload_n hx hb dX0_layLooks_71 rfl (lv_at hl 3 rfl) ?_
        obtain ⟨v_15, h, hf⟩ := ec_bi hf
        refine e_dv hx hb h dX0_layLooks_72 ?_
        refine lv_istore (lv' := [(7, .int v_15), (9, .ref v_7), (0, .ref o), (2, .int x2), (3, .int x3), (4, .int x4), (5, .int x5), (6, .int x6), (8, .int x8)]) hx hb dX0_layLooks_73 hl (by decide) rfl (fun ls hl => ?_)
        refine lv_aload_n hx hb dX0_layLooks_75 rfl (lv_at hl 2 rfl) ?_
        refine lv_dup hx hb dX0_layLooks_76 rfl ?_
        refine x_get (v := .int (S.1 23)) X hM 23 (by decide) q791 rfl rfl dX0_layLooks_77 ?_
        refine lv_iload hx hb dX0_layLooks_80 (lv_at hl 6 rfl) ?_
        refine lv_iload hx hb dX0_layLooks_82 (lv_at hl 5 rfl) ?_
        refine lv_iand hx hb dX0_layLooks_84 ?_
        refine lv_iadd hx hb dX0_layLooks_85 ?_
        refine x_puti X hM 23 (by decide) q791 rfl rfl xfd23 (wxi23 _) dX0_layLooks_86 (fun S_16 H locs eS hM => ?_)
        have hf := ec_lt_i eS hf
        refine lv_iconst (v := 0) hx hb dX0_layLooks_89 (by decide) ?_
        refine lv_istore (lv' := [(5, .int (0 : Int32)), (7, .int v_15), (9, .ref v_7), (0, .ref o), (2, .int x2), (3, .int x3), (4, .int x4), (6, .int x6), (8, .int x8)]) hx hb dX0_layLooks_90 hl (by decide) rfl (fun ls hl => ?_)
        refine lv_aload_n hx hb dX0_layLooks_92 rfl (lv_at hl 3 rfl) ?_
        refine lv_dup hx hb dX0_layLooks_93 rfl ?_
        refine x_get (v := .int (S_16.1 24)) X hM 24 (by decide) q792 rfl rfl dX0_layLooks_94 ?_
        refine lv_iconst (v := 1) hx hb dX0_layLooks_97 (by decide) ?_
        refine lv_iadd hx hb dX0_layLooks_98 ?_
        refine x_puti X hM 24 (by decide) q792 rfl rfl xfd24 (wxi24 _) dX0_layLooks_99 (fun S_17 H locs eS hM => ?_)
        have hf := ec_lt_i eS hf
        exact bX0_layLooks_102 X hr hlk ih S_17 x2 x3 x4 (0 : Int32) x6 v_15 x8 v_7 _ _ _ hf hM (lv_sub hl [3, 4, 5, 6, 0, 7, 1, 8, 2] rfl)
noncomputable def fX0_layLooks (N : Nat) (S : sX) (x1 : Int32) (x2 : Int32) (x3 : Int32) : Option sX :=
  (hAr 7 S.2.2.2 (S.2.2.1 13) x1).bind fun v_1 =>
  (hI 1 S.2.2.2 v_1 1).bind fun v_2 =>
  ec_lt (((1 : Int32) <<< (v_2 &&& 31)) - (1 : Int32)) fun x4_3 =>
  ec_lt (xI S 23 (0 : Int32)) fun S_4 =>
  ec_lt (xI S_4 24 (1 : Int32)) fun S_5 =>
  fX0_layLooks_37 N (fun S_18 x4_19 x5_20 =>
    ec_lt (xI S_18 23 ((S_18.1 23) + (x5_20 &&& x4_19))) fun S_21 =>
    some S_21) N S_5 x2 x3 x4_3 (0 : Int32) (0 : Int32) (0 : Int32) (0 : Int32)
theorem metX0_layLooks (l : Launch) (D : va_G) (dA : Nat → ClassId) (o : Nat) (q : Nat → Nat) (N : Nat) (S : sX) (x1 : Int32) (x2 : Int32) (x3 : Int32) (Sr : sX) (hf : fX0_layLooks N S x1 x2 x3 = some Sr) : Met l yX0_layLooks (ws_ yX0_layLooks cX0_layLooks 10 none) (rmL 0) (XPre D dA o q S [.int x1, .int x2, .int x3]) (XPost D dA o q (XA o q S.2.2.2) none Sr) 0 0 (XA o q S.2.2.2) := by
  refine x_ofW rfl (Nat.le_of_ble_eq_true rfl) (fun A p e s m args below meth c X hr hlk hM ls hl => ?_)
  have hl : lv_has ls 10 [(0, .ref o), (1, .int x1), (2, .int x2), (3, .int x3)] := hl
  have hx := X.1
  have hb := X.2.1
  unfold fX0_layLooks at hf
  refine lv_iconst (v := 1) hx hb dX0_layLooks_0 (by decide) ?_
  refine lv_aload_n hx hb dX0_layLooks_1 rfl (lv_at hl 0 rfl) ?_
  refine x_get (v := .ref (S.2.2.1 13)) X hM 13 (by decide) q781 rfl rfl dX0_layLooks_2 ?_
  refine lv_iload_n hx hb dX0_layLooks_5 rfl (lv_at hl 1 rfl) ?_
  obtain ⟨v_1, h, hf⟩ := ec_bi hf
  refine h_aald (t := 7) X hM rfl rfl h dX0_layLooks_6 ?_
  obtain ⟨v_2, h, hf⟩ := ec_bi hf
  refine h_getvN (v := .int v_2) (C := RX1) (T := TX1) (N := 2) (ci := 1) (k := 1) (host := "EventCounters") X hM in_X1 rfl (by decide) (xn_at hM.2.1 35 rfl) rfl (hI_i h) dX0_layLooks_7 ?_
  refine lv_ishl hx hb dX0_layLooks_10 ?_
  refine lv_iconst (v := 1) hx hb dX0_layLooks_11 (by decide) ?_
  refine lv_isub hx hb dX0_layLooks_12 ?_
  refine lv_topi (fun x4_3 ex => ?_)
  have hf := ec_lt_i ex hf
  refine lv_istore (lv' := [(4, .int x4_3), (0, .ref o), (1, .int x1), (2, .int x2), (3, .int x3)]) hx hb dX0_layLooks_13 hl (by decide) rfl (fun ls hl => ?_)
  refine lv_aload_n hx hb dX0_layLooks_15 rfl (lv_at hl 1 rfl) ?_
  refine lv_iconst (v := 0) hx hb dX0_layLooks_16 (by decide) ?_
  refine x_puti X hM 23 (by decide) q791 rfl rfl xfd23 (wxi23 _) dX0_layLooks_17 (fun S_4 H locs eS hM => ?_)
  have hf := ec_lt_i eS hf
  refine lv_aload_n hx hb dX0_layLooks_20 rfl (lv_at hl 1 rfl) ?_
  refine lv_iconst (v := 1) hx hb dX0_layLooks_21 (by decide) ?_
  refine x_puti X hM 24 (by decide) q792 rfl rfl xfd24 (wxi24 _) dX0_layLooks_22 (fun S_5 H locs eS hM => ?_)
  have hf := ec_lt_i eS hf
  refine lv_iconst (v := 0) hx hb dX0_layLooks_25 (by decide) ?_
  refine lv_istore (lv' := [(5, .int (0 : Int32)), (4, .int x4_3), (0, .ref o), (1, .int x1), (2, .int x2), (3, .int x3)]) hx hb dX0_layLooks_26 hl (by decide) rfl (fun ls hl => ?_)
  refine lv_iconst (v := 0) hx hb dX0_layLooks_28 (by decide) ?_
  refine lv_istore (lv' := [(6, .int (0 : Int32)), (5, .int (0 : Int32)), (4, .int x4_3), (0, .ref o), (1, .int x1), (2, .int x2), (3, .int x3)]) hx hb dX0_layLooks_29 hl (by decide) rfl (fun ls hl => ?_)
  refine lv_iconst (v := 0) hx hb dX0_layLooks_31 (by decide) ?_
  refine lv_istore (lv' := [(7, .int (0 : Int32)), (6, .int (0 : Int32)), (5, .int (0 : Int32)), (4, .int x4_3), (0, .ref o), (1, .int x1), (2, .int x2), (3, .int x3)]) hx hb dX0_layLooks_32 hl (by decide) rfl (fun ls hl => ?_)
  refine lv_iconst (v := 0) hx hb dX0_layLooks_34 (by decide) ?_
  refine lv_istore (lv' := [(8, .int (0 : Int32)), (7, .int (0 : Int32)), (6, .int (0 : Int32)), (5, .int (0 : Int32)), (4, .int x4_3), (0, .ref o), (1, .int x1), (2, .int x2), (3, .int x3)]) hx hb dX0_layLooks_35 hl (by decide) rfl (fun ls hl => ?_)
  exact bX0_layLooks_37 X hr hlk (fun S_18 x4_19 x5_20 H locs ls hf hM hl => by
    refine lv_aload_n hx hb dX0_layLooks_130 rfl (lv_at hl 0 rfl) ?_
    refine lv_dup hx hb dX0_layLooks_131 rfl ?_
    refine x_get (v := .int (S_18.1 23)) X hM 23 (by decide) q791 rfl rfl dX0_layLooks_132 ?_
    refine lv_iload hx hb dX0_layLooks_135 (lv_at hl 2 rfl) ?_
    refine lv_iload hx hb dX0_layLooks_137 (lv_at hl 1 rfl) ?_
    refine lv_iand hx hb dX0_layLooks_139 ?_
    refine lv_iadd hx hb dX0_layLooks_140 ?_
    refine x_puti X hM 23 (by decide) q791 rfl rfl xfd23 (wxi23 _) dX0_layLooks_141 (fun S_21 H locs eS hM => ?_)
    have hf := ec_lt_i eS hf
    obtain rfl := Option.some.inj hf
    exact x_vret X hr hlk hM dX0_layLooks_144) N S_5 x2 x3 x4_3 (0 : Int32) (0 : Int32) (0 : Int32) (0 : Int32) _ _ _ hf hM (lv_sub hl [5, 7, 8, 4, 3, 2, 1, 0] rfl)
theorem hX0_layLooks : yX0_layLooks.cls = RX0 ∧ yX0_layLooks.cls ≠ "java/lang/invoke/MethodHandle" ∧ yX0_layLooks.cls ≠ "java/lang/invoke/VarHandle" ∧ (parseMethodDescriptor yX0_layLooks.desc).map (fun d => d.parameters.length) = some 3 := by decide +kernel

theorem gX0_299 : GoodIn lw_all (wsV RX0 299 RX0 yX0_layLooks (ws_ yX0_layLooks cX0_layLooks 10 none)) := lw_V q703 q705 qs25 q60 q706
noncomputable def fX0_looked_34 (N : Nat) (S : sX) : Option (Int32 × sX) :=
  some ((-1 : Int32), S)
theorem bX0_looked_34 {N : Nat} (X : CallFix p m c cX0_looked 5 s args lw_all RX0) (hr : meth.sig.returnType = (some .int)) (hlk : meth.locks = false) {res : Int32} {Sr : sX} : ∀ (S : sX) (H : Heap) (locs : List Loc) (ls : Array Slot), fX0_looked_34 N S = some (res, Sr) → XW D dA o q S A s H locs → lv_has ls 5 [(0, .ref o)] → W p l e (rmL 3) s m args below meth c H locs 0 0 (MQ below (XPost D dA o q A (some (.int res)) Sr) args s 0 0 A) (F0 m 34 ls []) := by
  have hx := X.1
  have hb := X.2.1
  intro S H locs ls hf hM hl
  unfold fX0_looked_34 at hf
  refine lv_iconst (v := -1) hx hb dX0_looked_34 (by decide) ?_
  obtain ⟨rfl, rfl⟩ := Prod.mk.inj (Option.some.inj hf)
  exact x_iret X hr hlk hM dX0_looked_35
noncomputable def fX0_looked (N : Nat) (S : sX) (x1 : Int32) (x2 : Int32) (x3 : Int32) (x4 : Int32) : Option (Int32 × sX) :=
  (fX0_canCount S x1 x2).bind fun v_1 =>
  if v_1 = 0 then (
    fX0_looked_34 N S)
  else (
    (fX0_isIn (x3.toInt64) (1 : Int64) (999 : Int64)).bind fun v_2 =>
    if v_2 = 0 then (
      fX0_looked_34 N S)
    else (
      (fX0_isIn (x4.toInt64) (0 : Int64) (2 : Int64)).bind fun v_3 =>
      if ¬ v_3 = 0 then (
        (fX0_layLooks N S x1 x2 x3).bind fun S_4 =>
        if ¬ x4 = 0 then (
          if ¬ x4 = (1 : Int32) then (
            some ((S_4.1 24), S_4))
          else (
            (ec_ag (S_4.2.1 10) 8 x2).bind fun v_5 =>
            some ((v_5 - (S_4.1 23)), S_4)))
        else (
          some ((S_4.1 23), S_4)))
      else (
        fX0_looked_34 N S)))
theorem metX0_looked (l : Launch) (D : va_G) (dA : Nat → ClassId) (o : Nat) (q : Nat → Nat) (N : Nat) (S : sX) (x1 : Int32) (x2 : Int32) (x3 : Int32) (x4 : Int32) (res : Int32) (Sr : sX) (hf : fX0_looked N S x1 x2 x3 x4 = some (res, Sr)) : Met l yX0_looked (ws_ yX0_looked cX0_looked 5 (some .int)) (rmL 3) (XPre D dA o q S [.int x1, .int x2, .int x3, .int x4]) (XPost D dA o q (XA o q S.2.2.2) (some (.int res)) Sr) 0 0 (XA o q S.2.2.2) := by
  refine x_ofW rfl (Nat.le_of_ble_eq_true rfl) (fun A p e s m args below meth c X hr hlk hM ls hl => ?_)
  have hl : lv_has ls 5 [(0, .ref o), (1, .int x1), (2, .int x2), (3, .int x3), (4, .int x4)] := hl
  have hx := X.1
  have hb := X.2.1
  unfold fX0_looked at hf
  refine lv_aload_n hx hb dX0_looked_0 rfl (lv_at hl 0 rfl) ?_
  refine lv_iload_n hx hb dX0_looked_1 rfl (lv_at hl 1 rfl) ?_
  refine lv_iload_n hx hb dX0_looked_2 rfl (lv_at hl 2 rfl) ?_
  obtain ⟨v_1, h, hf⟩ := ec_bi hf
  refine x_cR (v := .int v_1) (As := [.int x1, .int x2]) (rest := []) X hM (metX0_canCount l D dA o q S x1 x2 _ h) (cwV 2 X.2.2.2.2 gX0_291 rfl rfl rfl hX0_canCount (rm_le (Nat.le_of_ble_eq_true rfl) (Nat.le_of_ble_eq_true rfl))) rfl hl.1 rfl (Nat.le_of_ble_eq_true rfl) ⟨Nat.zero_le _, Nat.zero_le _⟩ dX0_looked_3 ?_
  refine lv_if_eq (tgt := 34) hx hb dX0_looked_6 rfl (fun cnd => ?_) (fun cnd => ?_)
  · have hf := ec_t cnd hf
    exact bX0_looked_34 X hr hlk  S _ _ _ hf hM (lv_sub hl [0] rfl)
  · have hf := ec_f cnd hf
    refine lv_iload_n hx hb dX0_looked_9 rfl (lv_at hl 3 rfl) ?_
    refine lv_i2l hx hb dX0_looked_10 rfl ?_
    refine lv_lconst (v := 1) hx hb dX0_looked_11 (by decide) ?_
    refine lv_ldc2 (own := RX0) (v := 999) hx hb X.2.2.2.1 (X.2.2.2.2 _ q636) dX0_looked_12 ?_
    obtain ⟨v_2, h, hf⟩ := ec_bi hf
    refine e_cS (v := .int v_2) (As := [.long (x3.toInt64), .long (1 : Int64), .long (999 : Int64)]) (rest := []) X (metX0_isIn l (x3.toInt64) (1 : Int64) (999 : Int64) _ h) (va_cwS 3 X.2.2.2.2 gX0_21 rfl rfl rfl hX0_isIn (rm_le (Nat.le_of_ble_eq_true rfl) (Nat.le_of_ble_eq_true rfl))) rfl hl.1 rfl (Nat.le_of_ble_eq_true rfl) ⟨Nat.zero_le _, Nat.zero_le _⟩ dX0_looked_15 ?_
    refine lv_if_eq (tgt := 34) hx hb dX0_looked_18 rfl (fun cnd => ?_) (fun cnd => ?_)
    · have hf := ec_t cnd hf
      exact bX0_looked_34 X hr hlk  S _ _ _ hf hM (lv_sub hl [0] rfl)
    · have hf := ec_f cnd hf
      refine lv_iload hx hb dX0_looked_21 (lv_at hl 4 rfl) ?_
      refine lv_i2l hx hb dX0_looked_23 rfl ?_
      refine lv_lconst (v := 0) hx hb dX0_looked_24 (by decide) ?_
      refine lv_ldc2 (own := RX0) (v := 2) hx hb X.2.2.2.1 (X.2.2.2.2 _ q592) dX0_looked_25 ?_
      obtain ⟨v_3, h, hf⟩ := ec_bi hf
      refine e_cS (v := .int v_3) (As := [.long (x4.toInt64), .long (0 : Int64), .long (2 : Int64)]) (rest := []) X (metX0_isIn l (x4.toInt64) (0 : Int64) (2 : Int64) _ h) (va_cwS 3 X.2.2.2.2 gX0_21 rfl rfl rfl hX0_isIn (rm_le (Nat.le_of_ble_eq_true rfl) (Nat.le_of_ble_eq_true rfl))) rfl hl.1 rfl (Nat.le_of_ble_eq_true rfl) ⟨Nat.zero_le _, Nat.zero_le _⟩ dX0_looked_28 ?_
      refine lv_if_ne (tgt := 36) hx hb dX0_looked_31 rfl (fun cnd => ?_) (fun cnd => ?_)
      · have hf := ec_t cnd hf
        refine lv_aload_n hx hb dX0_looked_36 rfl (lv_at hl 0 rfl) ?_
        refine lv_iload_n hx hb dX0_looked_37 rfl (lv_at hl 1 rfl) ?_
        refine lv_iload_n hx hb dX0_looked_38 rfl (lv_at hl 2 rfl) ?_
        refine lv_iload_n hx hb dX0_looked_39 rfl (lv_at hl 3 rfl) ?_
        obtain ⟨S_4, h, hf⟩ := ec_bi hf
        refine x_cWv (As := [.int x1, .int x2, .int x3]) (rest := []) X hM (metX0_layLooks l D dA o q N S x1 x2 x3 _ h) (cwV 3 X.2.2.2.2 gX0_299 rfl rfl rfl hX0_layLooks (rm_le (Nat.le_of_ble_eq_true rfl) (Nat.le_of_ble_eq_true rfl))) rfl hl.1 rfl (Nat.le_of_ble_eq_true rfl) ⟨Nat.zero_le _, Nat.zero_le _⟩ dX0_looked_40 (fun H locs hM => ?_)
        refine lv_iload hx hb dX0_looked_43 (lv_at hl 4 rfl) ?_
        refine lv_if_ne (tgt := 55) hx hb dX0_looked_45 rfl (fun cnd => ?_) (fun cnd => ?_)
        · have hf := ec_t cnd hf
          refine lv_iload hx hb dX0_looked_55 (lv_at hl 4 rfl) ?_
          refine lv_iconst (v := 1) hx hb dX0_looked_57 (by decide) ?_
          refine lv_icmp_ne (tgt := 75) hx hb dX0_looked_58 rfl (fun cnd => ?_) (fun cnd => ?_)
          · have hf := ec_t cnd hf
            refine lv_aload_n hx hb dX0_looked_75 rfl (lv_at hl 0 rfl) ?_
            refine x_get (v := .int (S_4.1 24)) X hM 24 (by decide) q792 rfl rfl dX0_looked_76 ?_
            obtain ⟨rfl, rfl⟩ := Prod.mk.inj (Option.some.inj hf)
            exact x_iret X hr hlk hM dX0_looked_79
          · have hf := ec_f (not_not_intro cnd) hf
            refine lv_aload_n hx hb dX0_looked_61 rfl (lv_at hl 0 rfl) ?_
            refine x_get (v := .ref (q 10)) X hM 10 (by decide) q778 rfl rfl dX0_looked_62 ?_
            refine lv_iload_n hx hb dX0_looked_65 rfl (lv_at hl 2 rfl) ?_
            obtain ⟨v_5, h, hf⟩ := ec_bi hf
            refine x_iald X hM wxa10 h dX0_looked_66 ?_
            refine lv_aload_n hx hb dX0_looked_67 rfl (lv_at hl 0 rfl) ?_
            refine x_get (v := .int (S_4.1 23)) X hM 23 (by decide) q791 rfl rfl dX0_looked_68 ?_
            refine lv_isub hx hb dX0_looked_71 ?_
            refine lv_goto (tgt := 79) hx hb dX0_looked_72 rfl ?_
            obtain ⟨rfl, rfl⟩ := Prod.mk.inj (Option.some.inj hf)
            exact x_iret X hr hlk hM dX0_looked_79
        · have hf := ec_f (not_not_intro cnd) hf
          refine lv_aload_n hx hb dX0_looked_48 rfl (lv_at hl 0 rfl) ?_
          refine x_get (v := .int (S_4.1 23)) X hM 23 (by decide) q791 rfl rfl dX0_looked_49 ?_
          refine lv_goto (tgt := 79) hx hb dX0_looked_52 rfl ?_
          obtain ⟨rfl, rfl⟩ := Prod.mk.inj (Option.some.inj hf)
          exact x_iret X hr hlk hM dX0_looked_79
      · have hf := ec_f (not_not_intro cnd) hf
        exact bX0_looked_34 X hr hlk  S _ _ _ hf hM (lv_sub hl [0] rfl)
theorem hX0_looked : yX0_looked.cls = RX0 ∧ yX0_looked.cls ≠ "java/lang/invoke/MethodHandle" ∧ yX0_looked.cls ≠ "java/lang/invoke/VarHandle" ∧ (parseMethodDescriptor yX0_looked.desc).map (fun d => d.parameters.length) = some 4 := by decide +kernel

noncomputable def fX0_seldom_58 (N : Nat) (k19 : sX → Int32 → Int32 → Int32 → Int32 → Option (Int32 × sX)) (S : sX) (x1 : Int32) (x2 : Int32) (x4 : Int32) (t0 : Int32) : Option (Int32 × sX) :=
  ec_lt (x4 + (-1 : Int32)) fun x4_4 =>
  k19 S x1 x2 t0 x4_4
theorem bX0_seldom_58 {N : Nat} (X : CallFix p m c cX0_seldom 5 s args lw_all RX0) (hr : meth.sig.returnType = (some .int)) (hlk : meth.locks = false) {res : Int32} {Sr : sX} {k19 : sX → Int32 → Int32 → Int32 → Int32 → Option (Int32 × sX)} (Hk19 : ∀ (S : sX) (x1 : Int32) (x2 : Int32) (x3 : Int32) (x4 : Int32) (H : Heap) (locs : List Loc) (ls : Array Slot), k19 S x1 x2 x3 x4 = some (res, Sr) → XW D dA o q S A s H locs → lv_has ls 5 [(0, .ref o), (1, .int x1), (2, .int x2), (3, .int x3), (4, .int x4)] → W p l e (rmL 3) s m args below meth c H locs 0 0 (MQ below (XPost D dA o q A (some (.int res)) Sr) args s 0 0 A) (F0 m 19 ls [])) : ∀ (S : sX) (x1 : Int32) (x2 : Int32) (x4 : Int32) (t0 : Int32) (H : Heap) (locs : List Loc) (ls : Array Slot), fX0_seldom_58 N k19 S x1 x2 x4 t0 = some (res, Sr) → XW D dA o q S A s H locs → lv_has ls 5 [(0, .ref o), (1, .int x1), (2, .int x2), (4, .int x4)] → W p l e (rmL 3) s m args below meth c H locs 0 0 (MQ below (XPost D dA o q A (some (.int res)) Sr) args s 0 0 A) (F0 m 58 ls [.int t0]) := by
  have hx := X.1
  have hb := X.2.1
  intro S x1 x2 x4 t0 H locs ls hf hM hl
  unfold fX0_seldom_58 at hf
  refine lv_istore_n (lv' := [(3, .int t0), (0, .ref o), (1, .int x1), (2, .int x2), (4, .int x4)]) hx hb dX0_seldom_58 rfl hl (by decide) rfl (fun ls hl => ?_)
  refine e_inc (w := -1) (f := fun v => [(4, .int v), (3, .int t0), (0, .ref o), (1, .int x1), (2, .int x2)]) hx hb dX0_seldom_59 hl (k := 4) rfl (by decide) (by decide) (fun _ => rfl) (fun x4_4 ex ls hl => ?_)
  have hf := ec_lt_i ex hf
  refine lv_goto (tgt := 19) hx hb dX0_seldom_62 rfl ?_
  exact Hk19 S x1 x2 t0 x4_4 _ _ _ hf hM (lv_sub hl [2, 3, 4, 1, 0] rfl)
noncomputable def fX0_seldom_19 (N : Nat) (kx65 : sX → Int32 → Option (Int32 × sX)) : Nat → sX → Int32 → Int32 → Int32 → Int32 → Option (Int32 × sX)
  | 0, _, _, _, _, _ => none
  | n + 1, S, x1, x2, x3, x4 =>
    if x4 ≤ 0 then (
      kx65 S x3)
    else (
      if ¬ x3 = (-4 : Int32) then (
        kx65 S x3)
      else (
        (fX0_layLooks N S x1 x2 x4).bind fun S_2 =>
        (ec_ag (S_2.2.1 10) 8 x2).bind fun v_3 =>
        if ¬ (S_2.1 23) = v_3 then (
          fX0_seldom_58 N (fX0_seldom_19 N kx65 n) S_2 x1 x2 x4 (-4 : Int32))
        else (
          fX0_seldom_58 N (fX0_seldom_19 N kx65 n) S_2 x1 x2 x4 x4)))
theorem bX0_seldom_19 {N : Nat} (X : CallFix p m c cX0_seldom 5 s args lw_all RX0) (hr : meth.sig.returnType = (some .int)) (hlk : meth.locks = false) {res : Int32} {Sr : sX} {kx65 : sX → Int32 → Option (Int32 × sX)} (Hkx65 : ∀ (S : sX) (x3 : Int32) (H : Heap) (locs : List Loc) (ls : Array Slot), kx65 S x3 = some (res, Sr) → XW D dA o q S A s H locs → lv_has ls 5 [(0, .ref o), (3, .int x3)] → W p l e (rmL 3) s m args below meth c H locs 0 0 (MQ below (XPost D dA o q A (some (.int res)) Sr) args s 0 0 A) (F0 m 65 ls [])) : ∀ (n : Nat) (S : sX) (x1 : Int32) (x2 : Int32) (x3 : Int32) (x4 : Int32) (H : Heap) (locs : List Loc) (ls : Array Slot), fX0_seldom_19 N kx65 n S x1 x2 x3 x4 = some (res, Sr) → XW D dA o q S A s H locs → lv_has ls 5 [(0, .ref o), (1, .int x1), (2, .int x2), (3, .int x3), (4, .int x4)] → W p l e (rmL 3) s m args below meth c H locs 0 0 (MQ below (XPost D dA o q A (some (.int res)) Sr) args s 0 0 A) (F0 m 19 ls []) := by
  have hx := X.1
  have hb := X.2.1
  intro n
  induction n with
  | zero =>
    intro S x1 x2 x3 x4 H locs ls hf hM hl
    rw [fX0_seldom_19] at hf
    cases hf
  | succ n ih =>
    intro S x1 x2 x3 x4 H locs ls hf hM hl
    rw [fX0_seldom_19] at hf
    refine lv_iload hx hb dX0_seldom_19 (lv_at hl 4 rfl) ?_
    refine lv_if_le (tgt := 65) hx hb dX0_seldom_21 rfl (fun cnd => ?_) (fun cnd => ?_)
    · have hf := ec_t cnd hf
      exact Hkx65 S x3 _ _ _ hf hM (lv_sub hl [0, 3] rfl)
    · have hf := ec_f cnd hf
      refine lv_iload_n hx hb dX0_seldom_24 rfl (lv_at hl 3 rfl) ?_
      refine lv_bipush (v := -4) hx hb dX0_seldom_25 (by decide) ?_
      refine lv_icmp_ne (tgt := 65) hx hb dX0_seldom_27 rfl (fun cnd => ?_) (fun cnd => ?_)
      · have hf := ec_t cnd hf
        exact Hkx65 S x3 _ _ _ hf hM (lv_sub hl [0, 3] rfl)
      · have hf := ec_f (not_not_intro cnd) hf
        refine lv_aload_n hx hb dX0_seldom_30 rfl (lv_at hl 0 rfl) ?_
        refine lv_iload_n hx hb dX0_seldom_31 rfl (lv_at hl 1 rfl) ?_
        refine lv_iload_n hx hb dX0_seldom_32 rfl (lv_at hl 2 rfl) ?_
        refine lv_iload hx hb dX0_seldom_33 (lv_at hl 4 rfl) ?_
        obtain ⟨S_2, h, hf⟩ := ec_bi hf
        refine x_cWv (As := [.int x1, .int x2, .int x4]) (rest := []) X hM (metX0_layLooks l D dA o q N S x1 x2 x4 _ h) (cwV 3 X.2.2.2.2 gX0_299 rfl rfl rfl hX0_layLooks (rm_le (Nat.le_of_ble_eq_true rfl) (Nat.le_of_ble_eq_true rfl))) rfl hl.1 rfl (Nat.le_of_ble_eq_true rfl) ⟨Nat.zero_le _, Nat.zero_le _⟩ dX0_seldom_35 (fun H locs hM => ?_)
        refine lv_aload_n hx hb dX0_seldom_38 rfl (lv_at hl 0 rfl) ?_
        refine x_get (v := .int (S_2.1 23)) X hM 23 (by decide) q791 rfl rfl dX0_seldom_39 ?_
        refine lv_aload_n hx hb dX0_seldom_42 rfl (lv_at hl 0 rfl) ?_
        refine x_get (v := .ref (q 10)) X hM 10 (by decide) q778 rfl rfl dX0_seldom_43 ?_
        refine lv_iload_n hx hb dX0_seldom_46 rfl (lv_at hl 2 rfl) ?_
        obtain ⟨v_3, h, hf⟩ := ec_bi hf
        refine x_iald X hM wxa10 h dX0_seldom_47 ?_
        refine lv_icmp_ne (tgt := 56) hx hb dX0_seldom_48 rfl (fun cnd => ?_) (fun cnd => ?_)
        · have hf := ec_t cnd hf
          refine lv_bipush (v := -4) hx hb dX0_seldom_56 (by decide) ?_
          exact bX0_seldom_58 X hr hlk ih S_2 x1 x2 x4 (-4 : Int32) _ _ _ hf hM (lv_sub hl [0, 1, 2, 4] rfl)
        · have hf := ec_f (not_not_intro cnd) hf
          refine lv_iload hx hb dX0_seldom_51 (lv_at hl 4 rfl) ?_
          refine lv_goto (tgt := 58) hx hb dX0_seldom_53 rfl ?_
          exact bX0_seldom_58 X hr hlk ih S_2 x1 x2 x4 x4 _ _ _ hf hM (lv_sub hl [0, 1, 2, 4] rfl)
noncomputable def fX0_seldom_65 (N : Nat) (S : sX) (x3 : Int32) : Option (Int32 × sX) :=
  some (x3, S)
theorem bX0_seldom_65 {N : Nat} (X : CallFix p m c cX0_seldom 5 s args lw_all RX0) (hr : meth.sig.returnType = (some .int)) (hlk : meth.locks = false) {res : Int32} {Sr : sX} : ∀ (S : sX) (x3 : Int32) (H : Heap) (locs : List Loc) (ls : Array Slot), fX0_seldom_65 N S x3 = some (res, Sr) → XW D dA o q S A s H locs → lv_has ls 5 [(0, .ref o), (3, .int x3)] → W p l e (rmL 3) s m args below meth c H locs 0 0 (MQ below (XPost D dA o q A (some (.int res)) Sr) args s 0 0 A) (F0 m 65 ls []) := by
  have hx := X.1
  have hb := X.2.1
  intro S x3 H locs ls hf hM hl
  unfold fX0_seldom_65 at hf
  refine lv_iload_n hx hb dX0_seldom_65 rfl (lv_at hl 1 rfl) ?_
  obtain ⟨rfl, rfl⟩ := Prod.mk.inj (Option.some.inj hf)
  exact x_iret X hr hlk hM dX0_seldom_66
noncomputable def fX0_seldom (N : Nat) (S : sX) (x1 : Int32) (x2 : Int32) : Option (Int32 × sX) :=
  (fX0_canCount S x1 x2).bind fun v_1 =>
  if ¬ v_1 = 0 then (
    fX0_seldom_19 N (fun S_5 x3_6 =>
      fX0_seldom_65 N S_5 x3_6) N S x1 x2 (-4 : Int32) (999 : Int32))
  else (
    some ((-1 : Int32), S))
theorem metX0_seldom (l : Launch) (D : va_G) (dA : Nat → ClassId) (o : Nat) (q : Nat → Nat) (N : Nat) (S : sX) (x1 : Int32) (x2 : Int32) (res : Int32) (Sr : sX) (hf : fX0_seldom N S x1 x2 = some (res, Sr)) : Met l yX0_seldom (ws_ yX0_seldom cX0_seldom 5 (some .int)) (rmL 3) (XPre D dA o q S [.int x1, .int x2]) (XPost D dA o q (XA o q S.2.2.2) (some (.int res)) Sr) 0 0 (XA o q S.2.2.2) := by
  refine x_ofW rfl (Nat.le_of_ble_eq_true rfl) (fun A p e s m args below meth c X hr hlk hM ls hl => ?_)
  have hl : lv_has ls 5 [(0, .ref o), (1, .int x1), (2, .int x2)] := hl
  have hx := X.1
  have hb := X.2.1
  unfold fX0_seldom at hf
  refine lv_aload_n hx hb dX0_seldom_0 rfl (lv_at hl 0 rfl) ?_
  refine lv_iload_n hx hb dX0_seldom_1 rfl (lv_at hl 1 rfl) ?_
  refine lv_iload_n hx hb dX0_seldom_2 rfl (lv_at hl 2 rfl) ?_
  obtain ⟨v_1, h, hf⟩ := ec_bi hf
  refine x_cR (v := .int v_1) (As := [.int x1, .int x2]) (rest := []) X hM (metX0_canCount l D dA o q S x1 x2 _ h) (cwV 2 X.2.2.2.2 gX0_291 rfl rfl rfl hX0_canCount (rm_le (Nat.le_of_ble_eq_true rfl) (Nat.le_of_ble_eq_true rfl))) rfl hl.1 rfl (Nat.le_of_ble_eq_true rfl) ⟨Nat.zero_le _, Nat.zero_le _⟩ dX0_seldom_3 ?_
  refine lv_if_ne (tgt := 11) hx hb dX0_seldom_6 rfl (fun cnd => ?_) (fun cnd => ?_)
  · have hf := ec_t cnd hf
    refine lv_bipush (v := -4) hx hb dX0_seldom_11 (by decide) ?_
    refine lv_istore_n (lv' := [(3, .int (-4 : Int32)), (0, .ref o), (1, .int x1), (2, .int x2)]) hx hb dX0_seldom_13 rfl hl (by decide) rfl (fun ls hl => ?_)
    refine lv_sipush (v := 999) hx hb dX0_seldom_14 (by decide) ?_
    refine lv_istore (lv' := [(4, .int (999 : Int32)), (3, .int (-4 : Int32)), (0, .ref o), (1, .int x1), (2, .int x2)]) hx hb dX0_seldom_17 hl (by decide) rfl (fun ls hl => ?_)
    exact bX0_seldom_19 X hr hlk (fun S_5 x3_6 H locs ls hf hM hl => by
      exact bX0_seldom_65 X hr hlk  S_5 x3_6 _ _ _ hf hM hl) N S x1 x2 (-4 : Int32) (999 : Int32) _ _ _ hf hM (lv_sub hl [2, 3, 4, 1, 0] rfl)
  · have hf := ec_f (not_not_intro cnd) hf
    refine lv_iconst (v := -1) hx hb dX0_seldom_9 (by decide) ?_
    obtain ⟨rfl, rfl⟩ := Prod.mk.inj (Option.some.inj hf)
    exact x_iret X hr hlk hM dX0_seldom_10
theorem hX0_seldom : yX0_seldom.cls = RX0 ∧ yX0_seldom.cls ≠ "java/lang/invoke/MethodHandle" ∧ yX0_seldom.cls ≠ "java/lang/invoke/VarHandle" ∧ (parseMethodDescriptor yX0_seldom.desc).map (fun d => d.parameters.length) = some 2 := by decide +kernel

noncomputable def fX0_run_27 (S : sX) : Option (Int32 × sX) :=
  some ((-1 : Int32), S)
theorem bX0_run_27 (X : CallFix p m c cX0_run 4 s args lw_all RX0) (hr : meth.sig.returnType = (some .int)) (hlk : meth.locks = false) {res : Int32} {Sr : sX} : ∀ (S : sX) (H : Heap) (locs : List Loc) (ls : Array Slot), fX0_run_27 S = some (res, Sr) → XW D dA o q S A s H locs → lv_has ls 4 [(0, .ref o)] → W p l e (rmL 2) s m args below meth c H locs 0 0 (MQ below (XPost D dA o q A (some (.int res)) Sr) args s 0 0 A) (F0 m 27 ls []) := by
  have hx := X.1
  have hb := X.2.1
  intro S H locs ls hf hM hl
  unfold fX0_run_27 at hf
  refine lv_iconst (v := -1) hx hb dX0_run_27 (by decide) ?_
  obtain ⟨rfl, rfl⟩ := Prod.mk.inj (Option.some.inj hf)
  exact x_iret X hr hlk hM dX0_run_28
noncomputable def fX0_run (S : sX) (x1 : Int32) (x2 : Int32) (x3 : Int32) : Option (Int32 × sX) :=
  (fX0_isCounter S x1).bind fun v_1 =>
  if v_1 = 0 then (
    fX0_run_27 S)
  else (
    (fX0_isEvent x2).bind fun v_2 =>
    if v_2 = 0 then (
      fX0_run_27 S)
    else (
      (fX0_isIn (x3.toInt64) (0 : Int64) (999999 : Int64)).bind fun v_3 =>
      if ¬ v_3 = 0 then (
        if ¬ (S.1 26) = (12 : Int32) then (
          (hAr 9 S.2.2.2 (S.2.2.1 25) (S.1 26)).bind fun v_4 =>
          (hAsI 0 S.2.2.2 v_4 (0 : Int32) x1).bind fun h_5 =>
          ec_lt (xH S h_5) fun S_6 =>
          (hAr 9 S_6.2.2.2 (S_6.2.2.1 25) (S_6.1 26)).bind fun v_7 =>
          (hAsI 0 S_6.2.2.2 v_7 (1 : Int32) x2).bind fun h_8 =>
          ec_lt (xH S_6 h_8) fun S_9 =>
          (hAr 9 S_9.2.2.2 (S_9.2.2.1 25) (S_9.1 26)).bind fun v_10 =>
          (hAsI 0 S_9.2.2.2 v_10 (2 : Int32) x3).bind fun h_11 =>
          ec_lt (xH S_9 h_11) fun S_12 =>
          ec_lt (xI S_12 26 ((S_12.1 26) + (1 : Int32))) fun S_13 =>
          some ((S_13.1 26), S_13))
        else (
          some ((-3 : Int32), S)))
      else (
        fX0_run_27 S)))
theorem metX0_run (l : Launch) (D : va_G) (dA : Nat → ClassId) (o : Nat) (q : Nat → Nat) (S : sX) (x1 : Int32) (x2 : Int32) (x3 : Int32) (res : Int32) (Sr : sX) (hf : fX0_run S x1 x2 x3 = some (res, Sr)) : Met l yX0_run (ws_ yX0_run cX0_run 4 (some .int)) (rmL 2) (XPre D dA o q S [.int x1, .int x2, .int x3]) (XPost D dA o q (XA o q S.2.2.2) (some (.int res)) Sr) 0 0 (XA o q S.2.2.2) := by
  refine x_ofW rfl (Nat.le_of_ble_eq_true rfl) (fun A p e s m args below meth c X hr hlk hM ls hl => ?_)
  have hl : lv_has ls 4 [(0, .ref o), (1, .int x1), (2, .int x2), (3, .int x3)] := hl
  have hx := X.1
  have hb := X.2.1
  unfold fX0_run at hf
  refine lv_aload_n hx hb dX0_run_0 rfl (lv_at hl 0 rfl) ?_
  refine lv_iload_n hx hb dX0_run_1 rfl (lv_at hl 1 rfl) ?_
  obtain ⟨v_1, h, hf⟩ := ec_bi hf
  refine x_cR (v := .int v_1) (As := [.int x1]) (rest := []) X hM (metX0_isCounter l D dA o q S x1 _ h) (cwV 1 X.2.2.2.2 gX0_195 rfl rfl rfl hX0_isCounter (rm_le (Nat.le_of_ble_eq_true rfl) (Nat.le_of_ble_eq_true rfl))) rfl hl.1 rfl (Nat.le_of_ble_eq_true rfl) ⟨Nat.zero_le _, Nat.zero_le _⟩ dX0_run_2 ?_
  refine lv_if_eq (tgt := 27) hx hb dX0_run_5 rfl (fun cnd => ?_) (fun cnd => ?_)
  · have hf := ec_t cnd hf
    exact bX0_run_27 X hr hlk  S _ _ _ hf hM (lv_sub hl [0] rfl)
  · have hf := ec_f cnd hf
    refine lv_iload_n hx hb dX0_run_8 rfl (lv_at hl 2 rfl) ?_
    obtain ⟨v_2, h, hf⟩ := ec_bi hf
    refine e_cS (v := .int v_2) (As := [.int x2]) (rest := []) X (metX0_isEvent l x2 _ h) (va_cwS 1 X.2.2.2.2 gX0_125 rfl rfl rfl hX0_isEvent (rm_le (Nat.le_of_ble_eq_true rfl) (Nat.le_of_ble_eq_true rfl))) rfl hl.1 rfl (Nat.le_of_ble_eq_true rfl) ⟨Nat.zero_le _, Nat.zero_le _⟩ dX0_run_9 ?_
    refine lv_if_eq (tgt := 27) hx hb dX0_run_12 rfl (fun cnd => ?_) (fun cnd => ?_)
    · have hf := ec_t cnd hf
      exact bX0_run_27 X hr hlk  S _ _ _ hf hM (lv_sub hl [0] rfl)
    · have hf := ec_f cnd hf
      refine lv_iload_n hx hb dX0_run_15 rfl (lv_at hl 3 rfl) ?_
      refine lv_i2l hx hb dX0_run_16 rfl ?_
      refine lv_lconst (v := 0) hx hb dX0_run_17 (by decide) ?_
      refine lv_ldc2 (own := RX0) (v := 999999) hx hb X.2.2.2.1 (X.2.2.2.2 _ q523) dX0_run_18 ?_
      obtain ⟨v_3, h, hf⟩ := ec_bi hf
      refine e_cS (v := .int v_3) (As := [.long (x3.toInt64), .long (0 : Int64), .long (999999 : Int64)]) (rest := []) X (metX0_isIn l (x3.toInt64) (0 : Int64) (999999 : Int64) _ h) (va_cwS 3 X.2.2.2.2 gX0_21 rfl rfl rfl hX0_isIn (rm_le (Nat.le_of_ble_eq_true rfl) (Nat.le_of_ble_eq_true rfl))) rfl hl.1 rfl (Nat.le_of_ble_eq_true rfl) ⟨Nat.zero_le _, Nat.zero_le _⟩ dX0_run_21 ?_
      refine lv_if_ne (tgt := 29) hx hb dX0_run_24 rfl (fun cnd => ?_) (fun cnd => ?_)
      · have hf := ec_t cnd hf
        refine lv_aload_n hx hb dX0_run_29 rfl (lv_at hl 0 rfl) ?_
        refine x_get (v := .int (S.1 26)) X hM 26 (by decide) q794 rfl rfl dX0_run_30 ?_
        refine lv_bipush (v := 12) hx hb dX0_run_33 (by decide) ?_
        refine lv_icmp_ne (tgt := 41) hx hb dX0_run_35 rfl (fun cnd => ?_) (fun cnd => ?_)
        · have hf := ec_t cnd hf
          refine lv_aload_n hx hb dX0_run_41 rfl (lv_at hl 0 rfl) ?_
          refine x_get (v := .ref (S.2.2.1 25)) X hM 25 (by decide) q793 rfl rfl dX0_run_42 ?_
          refine lv_aload_n hx hb dX0_run_45 rfl (lv_at hl 0 rfl) ?_
          refine x_get (v := .int (S.1 26)) X hM 26 (by decide) q794 rfl rfl dX0_run_46 ?_
          obtain ⟨v_4, h, hf⟩ := ec_bi hf
          refine h_aald (t := 9) X hM rfl rfl h dX0_run_49 ?_
          refine lv_iconst (v := 0) hx hb dX0_run_50 (by decide) ?_
          refine lv_iload_n hx hb dX0_run_51 rfl (lv_at hl 1 rfl) ?_
          obtain ⟨h_5, h, hf⟩ := ec_bi hf
          refine h_iast X hM h dX0_run_52 (fun H locs hM => ?_)
          obtain ⟨S_6, eS, hM⟩ := x_nm hM
          have hf := ec_lt_i eS hf
          refine lv_aload_n hx hb dX0_run_53 rfl (lv_at hl 0 rfl) ?_
          refine x_get (v := .ref (S_6.2.2.1 25)) X hM 25 (by decide) q793 rfl rfl dX0_run_54 ?_
          refine lv_aload_n hx hb dX0_run_57 rfl (lv_at hl 0 rfl) ?_
          refine x_get (v := .int (S_6.1 26)) X hM 26 (by decide) q794 rfl rfl dX0_run_58 ?_
          obtain ⟨v_7, h, hf⟩ := ec_bi hf
          refine h_aald (t := 9) X hM rfl rfl h dX0_run_61 ?_
          refine lv_iconst (v := 1) hx hb dX0_run_62 (by decide) ?_
          refine lv_iload_n hx hb dX0_run_63 rfl (lv_at hl 2 rfl) ?_
          obtain ⟨h_8, h, hf⟩ := ec_bi hf
          refine h_iast X hM h dX0_run_64 (fun H locs hM => ?_)
          obtain ⟨S_9, eS, hM⟩ := x_nm hM
          have hf := ec_lt_i eS hf
          refine lv_aload_n hx hb dX0_run_65 rfl (lv_at hl 0 rfl) ?_
          refine x_get (v := .ref (S_9.2.2.1 25)) X hM 25 (by decide) q793 rfl rfl dX0_run_66 ?_
          refine lv_aload_n hx hb dX0_run_69 rfl (lv_at hl 0 rfl) ?_
          refine x_get (v := .int (S_9.1 26)) X hM 26 (by decide) q794 rfl rfl dX0_run_70 ?_
          obtain ⟨v_10, h, hf⟩ := ec_bi hf
          refine h_aald (t := 9) X hM rfl rfl h dX0_run_73 ?_
          refine lv_iconst (v := 2) hx hb dX0_run_74 (by decide) ?_
          refine lv_iload_n hx hb dX0_run_75 rfl (lv_at hl 3 rfl) ?_
          obtain ⟨h_11, h, hf⟩ := ec_bi hf
          refine h_iast X hM h dX0_run_76 (fun H locs hM => ?_)
          obtain ⟨S_12, eS, hM⟩ := x_nm hM
          have hf := ec_lt_i eS hf
          refine lv_aload_n hx hb dX0_run_77 rfl (lv_at hl 0 rfl) ?_
          refine lv_dup hx hb dX0_run_78 rfl ?_
          refine x_get (v := .int (S_12.1 26)) X hM 26 (by decide) q794 rfl rfl dX0_run_79 ?_
          refine lv_iconst (v := 1) hx hb dX0_run_82 (by decide) ?_
          refine lv_iadd hx hb dX0_run_83 ?_
          refine x_puti X hM 26 (by decide) q794 rfl rfl xfd26 (wxi26 _) dX0_run_84 (fun S_13 H locs eS hM => ?_)
          have hf := ec_lt_i eS hf
          refine lv_aload_n hx hb dX0_run_87 rfl (lv_at hl 0 rfl) ?_
          refine x_get (v := .int (S_13.1 26)) X hM 26 (by decide) q794 rfl rfl dX0_run_88 ?_
          obtain ⟨rfl, rfl⟩ := Prod.mk.inj (Option.some.inj hf)
          exact x_iret X hr hlk hM dX0_run_91
        · have hf := ec_f (not_not_intro cnd) hf
          refine lv_bipush (v := -3) hx hb dX0_run_38 (by decide) ?_
          obtain ⟨rfl, rfl⟩ := Prod.mk.inj (Option.some.inj hf)
          exact x_iret X hr hlk hM dX0_run_40
      · have hf := ec_f (not_not_intro cnd) hf
        exact bX0_run_27 X hr hlk  S _ _ _ hf hM (lv_sub hl [0] rfl)
theorem hX0_run : yX0_run.cls = RX0 ∧ yX0_run.cls ≠ "java/lang/invoke/MethodHandle" ∧ yX0_run.cls ≠ "java/lang/invoke/VarHandle" ∧ (parseMethodDescriptor yX0_run.desc).map (fun d => d.parameters.length) = some 3 := by decide +kernel

noncomputable def fX0_forget (S : sX) : Option (Int32 × sX) :=
  ec_lt (S.1 26) fun x1_1 =>
  ec_lt (xI S 26 (0 : Int32)) fun S_2 =>
  some (x1_1, S_2)
theorem metX0_forget (l : Launch) (D : va_G) (dA : Nat → ClassId) (o : Nat) (q : Nat → Nat) (S : sX) (res : Int32) (Sr : sX) (hf : fX0_forget S = some (res, Sr)) : Met l yX0_forget (ws_ yX0_forget cX0_forget 2 (some .int)) (rmL 0) (XPre D dA o q S []) (XPost D dA o q (XA o q S.2.2.2) (some (.int res)) Sr) 0 0 (XA o q S.2.2.2) := by
  refine x_ofW rfl (Nat.le_of_ble_eq_true rfl) (fun A p e s m args below meth c X hr hlk hM ls hl => ?_)
  have hl : lv_has ls 2 [(0, .ref o)] := hl
  have hx := X.1
  have hb := X.2.1
  unfold fX0_forget at hf
  refine lv_aload_n hx hb dX0_forget_0 rfl (lv_at hl 0 rfl) ?_
  refine x_get (v := .int (S.1 26)) X hM 26 (by decide) q794 rfl rfl dX0_forget_1 ?_
  refine lv_topi (fun x1_1 ex => ?_)
  have hf := ec_lt_i ex hf
  refine lv_istore_n (lv' := [(1, .int x1_1), (0, .ref o)]) hx hb dX0_forget_4 rfl hl (by decide) rfl (fun ls hl => ?_)
  refine lv_aload_n hx hb dX0_forget_5 rfl (lv_at hl 1 rfl) ?_
  refine lv_iconst (v := 0) hx hb dX0_forget_6 (by decide) ?_
  refine x_puti X hM 26 (by decide) q794 rfl rfl xfd26 (wxi26 _) dX0_forget_7 (fun S_2 H locs eS hM => ?_)
  have hf := ec_lt_i eS hf
  refine lv_iload_n hx hb dX0_forget_10 rfl (lv_at hl 0 rfl) ?_
  obtain ⟨rfl, rfl⟩ := Prod.mk.inj (Option.some.inj hf)
  exact x_iret X hr hlk hM dX0_forget_11
theorem hX0_forget : yX0_forget.cls = RX0 ∧ yX0_forget.cls ≠ "java/lang/invoke/MethodHandle" ∧ yX0_forget.cls ≠ "java/lang/invoke/VarHandle" ∧ (parseMethodDescriptor yX0_forget.desc).map (fun d => d.parameters.length) = some 0 := by decide +kernel

noncomputable def fX0_isWired_36 (N : Nat) (S : sX) (k6 : Int32 → Int32 → Int32 → Int32 → Int32 → Option Int32) (x1 : Int32) (x2 : Int32) (x3 : Int32) (x5 : Int32) (t0 : Int32) (t1 : Int32) : Option Int32 :=
  ec_lt (t1 + t0) fun x4_1 =>
  ec_lt (x5 + (1 : Int32)) fun x5_2 =>
  k6 x1 x2 x3 x4_1 x5_2
theorem bX0_isWired_36 {N : Nat} (X : CallFix p m c cX0_isWired 7 s args lw_all RX0) (hr : meth.sig.returnType = (some .boolean)) (hlk : meth.locks = false) {S : sX} (hM : XW D dA o q S A s s.heap []) {res : Int32} {k6 : Int32 → Int32 → Int32 → Int32 → Int32 → Option Int32} (Hk6 : ∀ (x1 : Int32) (x2 : Int32) (x3 : Int32) (x4 : Int32) (x5 : Int32) (ls : Array Slot), k6 x1 x2 x3 x4 x5 = some res → lv_has ls 7 [(0, .ref o), (1, .int x1), (2, .int x2), (3, .int x3), (4, .int x4), (5, .int x5)] → W p l e (rmL 0) s m args below meth c s.heap [] 0 0 (MQ below (k2_QcV (.int res)) args s 0 0 (fun _ => False)) (F0 m 6 ls [])) : ∀ (x1 : Int32) (x2 : Int32) (x3 : Int32) (x5 : Int32) (t0 : Int32) (t1 : Int32) (ls : Array Slot), fX0_isWired_36 N S k6 x1 x2 x3 x5 t0 t1 = some res → lv_has ls 7 [(0, .ref o), (1, .int x1), (2, .int x2), (3, .int x3), (5, .int x5)] → W p l e (rmL 0) s m args below meth c s.heap [] 0 0 (MQ below (k2_QcV (.int res)) args s 0 0 (fun _ => False)) (F0 m 36 ls [.int t0, .int t1]) := by
  have hx := X.1
  have hb := X.2.1
  intro x1 x2 x3 x5 t0 t1 ls hf hl
  unfold fX0_isWired_36 at hf
  refine lv_iadd hx hb dX0_isWired_36 ?_
  refine lv_topi (fun x4_1 ex => ?_)
  have hf := ec_lt_i ex hf
  refine lv_istore (lv' := [(4, .int x4_1), (0, .ref o), (1, .int x1), (2, .int x2), (3, .int x3), (5, .int x5)]) hx hb dX0_isWired_37 hl (by decide) rfl (fun ls hl => ?_)
  refine e_inc (w := 1) (f := fun v => [(5, .int v), (4, .int x4_1), (0, .ref o), (1, .int x1), (2, .int x2), (3, .int x3)]) hx hb dX0_isWired_39 hl (k := 5) rfl (by decide) (by decide) (fun _ => rfl) (fun x5_2 ex ls hl => ?_)
  have hf := ec_lt_i ex hf
  refine lv_goto (tgt := 6) hx hb dX0_isWired_42 rfl ?_
  exact Hk6 x1 x2 x3 x4_1 x5_2 _ hf (lv_sub hl [2, 3, 4, 5, 1, 0] rfl)
noncomputable def fX0_isWired_6 (N : Nat) (S : sX) (kx45 : Int32 → Int32 → Int32 → Option Int32) : Nat → Int32 → Int32 → Int32 → Int32 → Int32 → Option Int32
  | 0, _, _, _, _, _ => none
  | n + 1, x1, x2, x3, x4, x5 =>
    if (8 : Int32) ≤ x5 then (
      kx45 x1 x2 x4)
    else (
      if ¬ ((x3 >>> (x5 &&& 31)) &&& (1 : Int32)) = (1 : Int32) then (
        fX0_isWired_36 N S (fX0_isWired_6 N S kx45 n) x1 x2 x3 x5 (0 : Int32) x4)
      else (
        (ec_ag (S.2.1 10) 8 x5).bind fun v_3 =>
        fX0_isWired_36 N S (fX0_isWired_6 N S kx45 n) x1 x2 x3 x5 v_3 x4))
theorem bX0_isWired_6 {N : Nat} (X : CallFix p m c cX0_isWired 7 s args lw_all RX0) (hr : meth.sig.returnType = (some .boolean)) (hlk : meth.locks = false) {S : sX} (hM : XW D dA o q S A s s.heap []) {res : Int32} {kx45 : Int32 → Int32 → Int32 → Option Int32} (Hkx45 : ∀ (x1 : Int32) (x2 : Int32) (x4 : Int32) (ls : Array Slot), kx45 x1 x2 x4 = some res → lv_has ls 7 [(0, .ref o), (1, .int x1), (2, .int x2), (4, .int x4)] → W p l e (rmL 0) s m args below meth c s.heap [] 0 0 (MQ below (k2_QcV (.int res)) args s 0 0 (fun _ => False)) (F0 m 45 ls [])) : ∀ (n : Nat) (x1 : Int32) (x2 : Int32) (x3 : Int32) (x4 : Int32) (x5 : Int32) (ls : Array Slot), fX0_isWired_6 N S kx45 n x1 x2 x3 x4 x5 = some res → lv_has ls 7 [(0, .ref o), (1, .int x1), (2, .int x2), (3, .int x3), (4, .int x4), (5, .int x5)] → W p l e (rmL 0) s m args below meth c s.heap [] 0 0 (MQ below (k2_QcV (.int res)) args s 0 0 (fun _ => False)) (F0 m 6 ls []) := by
  have hx := X.1
  have hb := X.2.1
  intro n
  induction n with
  | zero =>
    intro x1 x2 x3 x4 x5 ls hf hl
    rw [fX0_isWired_6] at hf
    cases hf
  | succ n ih =>
    intro x1 x2 x3 x4 x5 ls hf hl
    rw [fX0_isWired_6] at hf
    refine lv_iload hx hb dX0_isWired_6 (lv_at hl 5 rfl) ?_
    refine lv_bipush (v := 8) hx hb dX0_isWired_8 (by decide) ?_
    refine lv_icmp_ge (tgt := 45) hx hb dX0_isWired_10 rfl (fun cnd => ?_) (fun cnd => ?_)
    · have hf := ec_t cnd hf
      exact Hkx45 x1 x2 x4 _ hf (lv_sub hl [0, 1, 2, 4] rfl)
    · have hf := ec_f cnd hf
      refine lv_iload hx hb dX0_isWired_13 (lv_at hl 4 rfl) ?_
      refine lv_iload_n hx hb dX0_isWired_15 rfl (lv_at hl 3 rfl) ?_
      refine lv_iload hx hb dX0_isWired_16 (lv_at hl 5 rfl) ?_
      refine lv_ishr hx hb dX0_isWired_18 ?_
      refine lv_iconst (v := 1) hx hb dX0_isWired_19 (by decide) ?_
      refine lv_iand hx hb dX0_isWired_20 ?_
      refine lv_iconst (v := 1) hx hb dX0_isWired_21 (by decide) ?_
      refine lv_icmp_ne (tgt := 35) hx hb dX0_isWired_22 rfl (fun cnd => ?_) (fun cnd => ?_)
      · have hf := ec_t cnd hf
        refine lv_iconst (v := 0) hx hb dX0_isWired_35 (by decide) ?_
        exact bX0_isWired_36 X hr hlk hM ih x1 x2 x3 x5 (0 : Int32) x4 _ hf (lv_sub hl [0, 1, 2, 3, 5] rfl)
      · have hf := ec_f (not_not_intro cnd) hf
        refine lv_aload_n hx hb dX0_isWired_25 rfl (lv_at hl 0 rfl) ?_
        refine x_get (v := .ref (q 10)) X hM 10 (by decide) q778 rfl rfl dX0_isWired_26 ?_
        refine lv_iload hx hb dX0_isWired_29 (lv_at hl 5 rfl) ?_
        obtain ⟨v_3, h, hf⟩ := ec_bi hf
        refine x_iald X hM wxa10 h dX0_isWired_31 ?_
        refine lv_goto (tgt := 36) hx hb dX0_isWired_32 rfl ?_
        exact bX0_isWired_36 X hr hlk hM ih x1 x2 x3 x5 v_3 x4 _ hf (lv_sub hl [0, 1, 2, 3, 5] rfl)
noncomputable def fX0_isWired_110 (N : Nat) (S : sX) (k51 : Int32 → Int32 → Int32 → Int32 → Int32 → Option Int32) (x1 : Int32) (x2 : Int32) (x4 : Int32) (x6 : Int32) (t0 : Int32) : Option Int32 :=
  ec_lt (x6 + (1 : Int32)) fun x6_7 =>
  k51 x1 x2 x4 t0 x6_7
theorem bX0_isWired_110 {N : Nat} (X : CallFix p m c cX0_isWired 7 s args lw_all RX0) (hr : meth.sig.returnType = (some .boolean)) (hlk : meth.locks = false) {S : sX} (hM : XW D dA o q S A s s.heap []) {res : Int32} {k51 : Int32 → Int32 → Int32 → Int32 → Int32 → Option Int32} (Hk51 : ∀ (x1 : Int32) (x2 : Int32) (x4 : Int32) (x5 : Int32) (x6 : Int32) (ls : Array Slot), k51 x1 x2 x4 x5 x6 = some res → lv_has ls 7 [(0, .ref o), (1, .int x1), (2, .int x2), (4, .int x4), (5, .int x5), (6, .int x6)] → W p l e (rmL 0) s m args below meth c s.heap [] 0 0 (MQ below (k2_QcV (.int res)) args s 0 0 (fun _ => False)) (F0 m 51 ls [])) : ∀ (x1 : Int32) (x2 : Int32) (x4 : Int32) (x6 : Int32) (t0 : Int32) (ls : Array Slot), fX0_isWired_110 N S k51 x1 x2 x4 x6 t0 = some res → lv_has ls 7 [(0, .ref o), (1, .int x1), (2, .int x2), (4, .int x4), (6, .int x6)] → W p l e (rmL 0) s m args below meth c s.heap [] 0 0 (MQ below (k2_QcV (.int res)) args s 0 0 (fun _ => False)) (F0 m 110 ls [.int t0]) := by
  have hx := X.1
  have hb := X.2.1
  intro x1 x2 x4 x6 t0 ls hf hl
  unfold fX0_isWired_110 at hf
  refine lv_istore (lv' := [(5, .int t0), (0, .ref o), (1, .int x1), (2, .int x2), (4, .int x4), (6, .int x6)]) hx hb dX0_isWired_110 hl (by decide) rfl (fun ls hl => ?_)
  refine e_inc (w := 1) (f := fun v => [(6, .int v), (5, .int t0), (0, .ref o), (1, .int x1), (2, .int x2), (4, .int x4)]) hx hb dX0_isWired_112 hl (k := 5) rfl (by decide) (by decide) (fun _ => rfl) (fun x6_7 ex ls hl => ?_)
  have hf := ec_lt_i ex hf
  refine lv_goto (tgt := 51) hx hb dX0_isWired_115 rfl ?_
  exact Hk51 x1 x2 x4 t0 x6_7 _ hf (lv_sub hl [2, 3, 4, 5, 1, 0] rfl)
noncomputable def fX0_isWired_109 (N : Nat) (S : sX) (k51 : Int32 → Int32 → Int32 → Int32 → Int32 → Option Int32) (x1 : Int32) (x2 : Int32) (x4 : Int32) (x6 : Int32) : Option Int32 :=
  fX0_isWired_110 N S k51 x1 x2 x4 x6 (0 : Int32)
theorem bX0_isWired_109 {N : Nat} (X : CallFix p m c cX0_isWired 7 s args lw_all RX0) (hr : meth.sig.returnType = (some .boolean)) (hlk : meth.locks = false) {S : sX} (hM : XW D dA o q S A s s.heap []) {res : Int32} {k51 : Int32 → Int32 → Int32 → Int32 → Int32 → Option Int32} (Hk51 : ∀ (x1 : Int32) (x2 : Int32) (x4 : Int32) (x5 : Int32) (x6 : Int32) (ls : Array Slot), k51 x1 x2 x4 x5 x6 = some res → lv_has ls 7 [(0, .ref o), (1, .int x1), (2, .int x2), (4, .int x4), (5, .int x5), (6, .int x6)] → W p l e (rmL 0) s m args below meth c s.heap [] 0 0 (MQ below (k2_QcV (.int res)) args s 0 0 (fun _ => False)) (F0 m 51 ls [])) : ∀ (x1 : Int32) (x2 : Int32) (x4 : Int32) (x6 : Int32) (ls : Array Slot), fX0_isWired_109 N S k51 x1 x2 x4 x6 = some res → lv_has ls 7 [(0, .ref o), (1, .int x1), (2, .int x2), (4, .int x4), (6, .int x6)] → W p l e (rmL 0) s m args below meth c s.heap [] 0 0 (MQ below (k2_QcV (.int res)) args s 0 0 (fun _ => False)) (F0 m 109 ls []) := by
  have hx := X.1
  have hb := X.2.1
  intro x1 x2 x4 x6 ls hf hl
  unfold fX0_isWired_109 at hf
  refine lv_iconst (v := 0) hx hb dX0_isWired_109 (by decide) ?_
  exact bX0_isWired_110 X hr hlk hM Hk51 x1 x2 x4 x6 (0 : Int32) _ hf hl
noncomputable def fX0_isWired_105 (N : Nat) (S : sX) (k51 : Int32 → Int32 → Int32 → Int32 → Int32 → Option Int32) (x1 : Int32) (x2 : Int32) (x4 : Int32) (x6 : Int32) : Option Int32 :=
  fX0_isWired_110 N S k51 x1 x2 x4 x6 (1 : Int32)
theorem bX0_isWired_105 {N : Nat} (X : CallFix p m c cX0_isWired 7 s args lw_all RX0) (hr : meth.sig.returnType = (some .boolean)) (hlk : meth.locks = false) {S : sX} (hM : XW D dA o q S A s s.heap []) {res : Int32} {k51 : Int32 → Int32 → Int32 → Int32 → Int32 → Option Int32} (Hk51 : ∀ (x1 : Int32) (x2 : Int32) (x4 : Int32) (x5 : Int32) (x6 : Int32) (ls : Array Slot), k51 x1 x2 x4 x5 x6 = some res → lv_has ls 7 [(0, .ref o), (1, .int x1), (2, .int x2), (4, .int x4), (5, .int x5), (6, .int x6)] → W p l e (rmL 0) s m args below meth c s.heap [] 0 0 (MQ below (k2_QcV (.int res)) args s 0 0 (fun _ => False)) (F0 m 51 ls [])) : ∀ (x1 : Int32) (x2 : Int32) (x4 : Int32) (x6 : Int32) (ls : Array Slot), fX0_isWired_105 N S k51 x1 x2 x4 x6 = some res → lv_has ls 7 [(0, .ref o), (1, .int x1), (2, .int x2), (4, .int x4), (6, .int x6)] → W p l e (rmL 0) s m args below meth c s.heap [] 0 0 (MQ below (k2_QcV (.int res)) args s 0 0 (fun _ => False)) (F0 m 105 ls []) := by
  have hx := X.1
  have hb := X.2.1
  intro x1 x2 x4 x6 ls hf hl
  unfold fX0_isWired_105 at hf
  refine lv_iconst (v := 1) hx hb dX0_isWired_105 (by decide) ?_
  refine lv_goto (tgt := 110) hx hb dX0_isWired_106 rfl ?_
  exact bX0_isWired_110 X hr hlk hM Hk51 x1 x2 x4 x6 (1 : Int32) _ hf hl
noncomputable def fX0_isWired_51 (N : Nat) (S : sX) (kx118 : Int32 → Option Int32) : Nat → Int32 → Int32 → Int32 → Int32 → Int32 → Option Int32
  | 0, _, _, _, _, _ => none
  | n + 1, x1, x2, x4, x5, x6 =>
    if (S.1 26) ≤ x6 then (
      kx118 x5)
    else (
      if x5 = 0 then (
        fX0_isWired_109 N S (fX0_isWired_51 N S kx118 n) x1 x2 x4 x6)
      else (
        (hAr 9 S.2.2.2 (S.2.2.1 25) x6).bind fun v_8 =>
        (hAi 0 S.2.2.2 v_8 (0 : Int32)).bind fun v_9 =>
        if ¬ v_9 = x1 then (
          fX0_isWired_105 N S (fX0_isWired_51 N S kx118 n) x1 x2 x4 x6)
        else (
          (hAr 9 S.2.2.2 (S.2.2.1 25) x6).bind fun v_10 =>
          (hAi 0 S.2.2.2 v_10 (1 : Int32)).bind fun v_11 =>
          if ¬ v_11 = x2 then (
            fX0_isWired_105 N S (fX0_isWired_51 N S kx118 n) x1 x2 x4 x6)
          else (
            (hAr 9 S.2.2.2 (S.2.2.1 25) x6).bind fun v_12 =>
            (hAi 0 S.2.2.2 v_12 (2 : Int32)).bind fun v_13 =>
            if ¬ v_13 = x4 then (
              fX0_isWired_109 N S (fX0_isWired_51 N S kx118 n) x1 x2 x4 x6)
            else (
              fX0_isWired_105 N S (fX0_isWired_51 N S kx118 n) x1 x2 x4 x6)))))
theorem bX0_isWired_51 {N : Nat} (X : CallFix p m c cX0_isWired 7 s args lw_all RX0) (hr : meth.sig.returnType = (some .boolean)) (hlk : meth.locks = false) {S : sX} (hM : XW D dA o q S A s s.heap []) {res : Int32} {kx118 : Int32 → Option Int32} (Hkx118 : ∀ (x5 : Int32) (ls : Array Slot), kx118 x5 = some res → lv_has ls 7 [(0, .ref o), (5, .int x5)] → W p l e (rmL 0) s m args below meth c s.heap [] 0 0 (MQ below (k2_QcV (.int res)) args s 0 0 (fun _ => False)) (F0 m 118 ls [])) : ∀ (n : Nat) (x1 : Int32) (x2 : Int32) (x4 : Int32) (x5 : Int32) (x6 : Int32) (ls : Array Slot), fX0_isWired_51 N S kx118 n x1 x2 x4 x5 x6 = some res → lv_has ls 7 [(0, .ref o), (1, .int x1), (2, .int x2), (4, .int x4), (5, .int x5), (6, .int x6)] → W p l e (rmL 0) s m args below meth c s.heap [] 0 0 (MQ below (k2_QcV (.int res)) args s 0 0 (fun _ => False)) (F0 m 51 ls []) := by
  have hx := X.1
  have hb := X.2.1
  intro n
  induction n with
  | zero =>
    intro x1 x2 x4 x5 x6 ls hf hl
    rw [fX0_isWired_51] at hf
    cases hf
  | succ n ih =>
    intro x1 x2 x4 x5 x6 ls hf hl
    rw [fX0_isWired_51] at hf
    refine lv_iload hx hb dX0_isWired_51 (lv_at hl 5 rfl) ?_
    refine lv_aload_n hx hb dX0_isWired_53 rfl (lv_at hl 0 rfl) ?_
    refine x_get (v := .int (S.1 26)) X hM 26 (by decide) q794 rfl rfl dX0_isWired_54 ?_
    refine lv_icmp_ge (tgt := 118) hx hb dX0_isWired_57 rfl (fun cnd => ?_) (fun cnd => ?_)
    · have hf := ec_t cnd hf
      exact Hkx118 x5 _ hf (lv_sub hl [0, 4] rfl)
    · have hf := ec_f cnd hf
      refine lv_iload hx hb dX0_isWired_60 (lv_at hl 4 rfl) ?_
      refine lv_if_eq (tgt := 109) hx hb dX0_isWired_62 rfl (fun cnd => ?_) (fun cnd => ?_)
      · have hf := ec_t cnd hf
        exact bX0_isWired_109 X hr hlk hM ih x1 x2 x4 x6 _ hf (lv_sub hl [0, 1, 2, 3, 5] rfl)
      · have hf := ec_f cnd hf
        refine lv_aload_n hx hb dX0_isWired_65 rfl (lv_at hl 0 rfl) ?_
        refine x_get (v := .ref (S.2.2.1 25)) X hM 25 (by decide) q793 rfl rfl dX0_isWired_66 ?_
        refine lv_iload hx hb dX0_isWired_69 (lv_at hl 5 rfl) ?_
        obtain ⟨v_8, h, hf⟩ := ec_bi hf
        refine h_aald (t := 9) X hM rfl rfl h dX0_isWired_71 ?_
        refine lv_iconst (v := 0) hx hb dX0_isWired_72 (by decide) ?_
        obtain ⟨v_9, h, hf⟩ := ec_bi hf
        refine h_iald X hM h dX0_isWired_73 ?_
        refine lv_iload_n hx hb dX0_isWired_74 rfl (lv_at hl 1 rfl) ?_
        refine lv_icmp_ne (tgt := 105) hx hb dX0_isWired_75 rfl (fun cnd => ?_) (fun cnd => ?_)
        · have hf := ec_t cnd hf
          exact bX0_isWired_105 X hr hlk hM ih x1 x2 x4 x6 _ hf (lv_sub hl [0, 1, 2, 3, 5] rfl)
        · have hf := ec_f (not_not_intro cnd) hf
          refine lv_aload_n hx hb dX0_isWired_78 rfl (lv_at hl 0 rfl) ?_
          refine x_get (v := .ref (S.2.2.1 25)) X hM 25 (by decide) q793 rfl rfl dX0_isWired_79 ?_
          refine lv_iload hx hb dX0_isWired_82 (lv_at hl 5 rfl) ?_
          obtain ⟨v_10, h, hf⟩ := ec_bi hf
          refine h_aald (t := 9) X hM rfl rfl h dX0_isWired_84 ?_
          refine lv_iconst (v := 1) hx hb dX0_isWired_85 (by decide) ?_
          obtain ⟨v_11, h, hf⟩ := ec_bi hf
          refine h_iald X hM h dX0_isWired_86 ?_
          refine lv_iload_n hx hb dX0_isWired_87 rfl (lv_at hl 2 rfl) ?_
          refine lv_icmp_ne (tgt := 105) hx hb dX0_isWired_88 rfl (fun cnd => ?_) (fun cnd => ?_)
          · have hf := ec_t cnd hf
            exact bX0_isWired_105 X hr hlk hM ih x1 x2 x4 x6 _ hf (lv_sub hl [0, 1, 2, 3, 5] rfl)
          · have hf := ec_f (not_not_intro cnd) hf
            refine lv_aload_n hx hb dX0_isWired_91 rfl (lv_at hl 0 rfl) ?_
            refine x_get (v := .ref (S.2.2.1 25)) X hM 25 (by decide) q793 rfl rfl dX0_isWired_92 ?_
            refine lv_iload hx hb dX0_isWired_95 (lv_at hl 5 rfl) ?_
            obtain ⟨v_12, h, hf⟩ := ec_bi hf
            refine h_aald (t := 9) X hM rfl rfl h dX0_isWired_97 ?_
            refine lv_iconst (v := 2) hx hb dX0_isWired_98 (by decide) ?_
            obtain ⟨v_13, h, hf⟩ := ec_bi hf
            refine h_iald X hM h dX0_isWired_99 ?_
            refine lv_iload hx hb dX0_isWired_100 (lv_at hl 3 rfl) ?_
            refine lv_icmp_ne (tgt := 109) hx hb dX0_isWired_102 rfl (fun cnd => ?_) (fun cnd => ?_)
            · have hf := ec_t cnd hf
              exact bX0_isWired_109 X hr hlk hM ih x1 x2 x4 x6 _ hf (lv_sub hl [0, 1, 2, 3, 5] rfl)
            · have hf := ec_f (not_not_intro cnd) hf
              exact bX0_isWired_105 X hr hlk hM ih x1 x2 x4 x6 _ hf (lv_sub hl [0, 1, 2, 3, 5] rfl)
noncomputable def fX0_isWired (N : Nat) (S : sX) (x1 : Int32) (x2 : Int32) (x3 : Int32) : Option Int32 :=
  fX0_isWired_6 N S (fun x1_4 x2_5 x4_6 =>
    fX0_isWired_51 N S (fun x5_14 =>
      ec_rz x5_14) N x1_4 x2_5 x4_6 (1 : Int32) (0 : Int32)) N x1 x2 x3 (0 : Int32) (0 : Int32)
theorem metX0_isWired (l : Launch) (D : va_G) (dA : Nat → ClassId) (o : Nat) (q : Nat → Nat) (N : Nat) (S : sX) (x1 : Int32) (x2 : Int32) (x3 : Int32) (res : Int32) (hf : fX0_isWired N S x1 x2 x3 = some res) : Met l yX0_isWired (ws_ yX0_isWired cX0_isWired 7 (some .boolean)) (rmL 0) (XPre D dA o q S [.int x1, .int x2, .int x3]) (k2_QcV (.int res)) 0 0 (fun _ => False) := by
  refine x_ofR rfl (Nat.le_of_ble_eq_true rfl) (fun p e s m args below meth c X hr hlk hM ls hl => ?_)
  have hl : lv_has ls 7 [(0, .ref o), (1, .int x1), (2, .int x2), (3, .int x3)] := hl
  have hx := X.1
  have hb := X.2.1
  unfold fX0_isWired at hf
  refine lv_iconst (v := 0) hx hb dX0_isWired_0 (by decide) ?_
  refine lv_istore (lv' := [(4, .int (0 : Int32)), (0, .ref o), (1, .int x1), (2, .int x2), (3, .int x3)]) hx hb dX0_isWired_1 hl (by decide) rfl (fun ls hl => ?_)
  refine lv_iconst (v := 0) hx hb dX0_isWired_3 (by decide) ?_
  refine lv_istore (lv' := [(5, .int (0 : Int32)), (4, .int (0 : Int32)), (0, .ref o), (1, .int x1), (2, .int x2), (3, .int x3)]) hx hb dX0_isWired_4 hl (by decide) rfl (fun ls hl => ?_)
  exact bX0_isWired_6 X hr hlk hM (fun x1_4 x2_5 x4_6 ls hf hl => by
    refine lv_iconst (v := 1) hx hb dX0_isWired_45 (by decide) ?_
    refine lv_istore (lv' := [(5, .int (1 : Int32)), (0, .ref o), (1, .int x1_4), (2, .int x2_5), (4, .int x4_6)]) hx hb dX0_isWired_46 hl (by decide) rfl (fun ls hl => ?_)
    refine lv_iconst (v := 0) hx hb dX0_isWired_48 (by decide) ?_
    refine lv_istore (lv' := [(6, .int (0 : Int32)), (5, .int (1 : Int32)), (0, .ref o), (1, .int x1_4), (2, .int x2_5), (4, .int x4_6)]) hx hb dX0_isWired_49 hl (by decide) rfl (fun ls hl => ?_)
    exact bX0_isWired_51 X hr hlk hM (fun x5_14 ls hf hl => by
      refine lv_iload hx hb dX0_isWired_118 (lv_at hl 1 rfl) ?_
      obtain ⟨hn, h2⟩ := ec_rz_i hf
      subst h2
      exact e_zretR hx hb hr hlk hn dX0_isWired_120) N x1_4 x2_5 x4_6 (1 : Int32) (0 : Int32) _ hf (lv_sub hl [2, 3, 4, 5, 1, 0] rfl)) N x1 x2 x3 (0 : Int32) (0 : Int32) _ hf (lv_sub hl [2, 3, 4, 5, 1, 0] rfl)
theorem hX0_isWired : yX0_isWired.cls = RX0 ∧ yX0_isWired.cls ≠ "java/lang/invoke/MethodHandle" ∧ yX0_isWired.cls ≠ "java/lang/invoke/VarHandle" ∧ (parseMethodDescriptor yX0_isWired.desc).map (fun d => d.parameters.length) = some 3 := by decide +kernel

theorem gX0_308 : GoodIn lw_all (wsV RX0 308 RX0 yX0_isWired (ws_ yX0_isWired cX0_isWired 7 (some .boolean))) := lw_V q724 q726 qs26 q60 q727
noncomputable def fX0_wired_33 (N : Nat) (S : sX) : Option Int32 :=
  some (-1 : Int32)
theorem bX0_wired_33 {N : Nat} (X : CallFix p m c cX0_wired 8 s args lw_all RX0) (hr : meth.sig.returnType = (some .int)) (hlk : meth.locks = false) {S : sX} (hM : XW D dA o q S A s s.heap []) {res : Int32} : ∀ (ls : Array Slot), fX0_wired_33 N S = some res → lv_has ls 8 [(0, .ref o)] → W p l e (rmL 2) s m args below meth c s.heap [] 0 0 (MQ below (k2_QcV (.int res)) args s 0 0 (fun _ => False)) (F0 m 33 ls []) := by
  have hx := X.1
  have hb := X.2.1
  intro ls hf hl
  unfold fX0_wired_33 at hf
  refine lv_iconst (v := -1) hx hb dX0_wired_33 (by decide) ?_
  obtain rfl := Option.some.inj hf
  exact e_iretR hx hb hr hlk dX0_wired_34
noncomputable def fX0_wired_86 (N : Nat) (S : sX) (k41 : Int32 → Int32 → Int32 → Int32 → Int32 → Option Int32) (x1 : Int32) (x2 : Int32) (x3 : Int32) (x5 : Int32) (t0 : Int32) : Option Int32 :=
  ec_lt (x5 + (1 : Int32)) fun x5_3 =>
  k41 x1 x2 x3 t0 x5_3
theorem bX0_wired_86 {N : Nat} (X : CallFix p m c cX0_wired 8 s args lw_all RX0) (hr : meth.sig.returnType = (some .int)) (hlk : meth.locks = false) {S : sX} (hM : XW D dA o q S A s s.heap []) {res : Int32} {k41 : Int32 → Int32 → Int32 → Int32 → Int32 → Option Int32} (Hk41 : ∀ (x1 : Int32) (x2 : Int32) (x3 : Int32) (x4 : Int32) (x5 : Int32) (ls : Array Slot), k41 x1 x2 x3 x4 x5 = some res → lv_has ls 8 [(0, .ref o), (1, .int x1), (2, .int x2), (3, .int x3), (4, .int x4), (5, .int x5)] → W p l e (rmL 2) s m args below meth c s.heap [] 0 0 (MQ below (k2_QcV (.int res)) args s 0 0 (fun _ => False)) (F0 m 41 ls [])) : ∀ (x1 : Int32) (x2 : Int32) (x3 : Int32) (x5 : Int32) (t0 : Int32) (ls : Array Slot), fX0_wired_86 N S k41 x1 x2 x3 x5 t0 = some res → lv_has ls 8 [(0, .ref o), (1, .int x1), (2, .int x2), (3, .int x3), (5, .int x5)] → W p l e (rmL 2) s m args below meth c s.heap [] 0 0 (MQ below (k2_QcV (.int res)) args s 0 0 (fun _ => False)) (F0 m 86 ls [.int t0]) := by
  have hx := X.1
  have hb := X.2.1
  intro x1 x2 x3 x5 t0 ls hf hl
  unfold fX0_wired_86 at hf
  refine lv_istore (lv' := [(4, .int t0), (0, .ref o), (1, .int x1), (2, .int x2), (3, .int x3), (5, .int x5)]) hx hb dX0_wired_86 hl (by decide) rfl (fun ls hl => ?_)
  refine e_inc (w := 1) (f := fun v => [(5, .int v), (4, .int t0), (0, .ref o), (1, .int x1), (2, .int x2), (3, .int x3)]) hx hb dX0_wired_88 hl (k := 5) rfl (by decide) (by decide) (fun _ => rfl) (fun x5_3 ex ls hl => ?_)
  have hf := ec_lt_i ex hf
  refine lv_goto (tgt := 41) hx hb dX0_wired_91 rfl ?_
  exact Hk41 x1 x2 x3 t0 x5_3 _ hf (lv_sub hl [2, 3, 4, 5, 1, 0] rfl)
noncomputable def fX0_wired_81 (N : Nat) (S : sX) (k41 : Int32 → Int32 → Int32 → Int32 → Int32 → Option Int32) (x1 : Int32) (x2 : Int32) (x3 : Int32) (x5 : Int32) : Option Int32 :=
  fX0_wired_86 N S k41 x1 x2 x3 x5 (1 : Int32)
theorem bX0_wired_81 {N : Nat} (X : CallFix p m c cX0_wired 8 s args lw_all RX0) (hr : meth.sig.returnType = (some .int)) (hlk : meth.locks = false) {S : sX} (hM : XW D dA o q S A s s.heap []) {res : Int32} {k41 : Int32 → Int32 → Int32 → Int32 → Int32 → Option Int32} (Hk41 : ∀ (x1 : Int32) (x2 : Int32) (x3 : Int32) (x4 : Int32) (x5 : Int32) (ls : Array Slot), k41 x1 x2 x3 x4 x5 = some res → lv_has ls 8 [(0, .ref o), (1, .int x1), (2, .int x2), (3, .int x3), (4, .int x4), (5, .int x5)] → W p l e (rmL 2) s m args below meth c s.heap [] 0 0 (MQ below (k2_QcV (.int res)) args s 0 0 (fun _ => False)) (F0 m 41 ls [])) : ∀ (x1 : Int32) (x2 : Int32) (x3 : Int32) (x5 : Int32) (ls : Array Slot), fX0_wired_81 N S k41 x1 x2 x3 x5 = some res → lv_has ls 8 [(0, .ref o), (1, .int x1), (2, .int x2), (3, .int x3), (5, .int x5)] → W p l e (rmL 2) s m args below meth c s.heap [] 0 0 (MQ below (k2_QcV (.int res)) args s 0 0 (fun _ => False)) (F0 m 81 ls []) := by
  have hx := X.1
  have hb := X.2.1
  intro x1 x2 x3 x5 ls hf hl
  unfold fX0_wired_81 at hf
  refine lv_iconst (v := 1) hx hb dX0_wired_81 (by decide) ?_
  refine lv_goto (tgt := 86) hx hb dX0_wired_82 rfl ?_
  exact bX0_wired_86 X hr hlk hM Hk41 x1 x2 x3 x5 (1 : Int32) _ hf hl
noncomputable def fX0_wired_85 (N : Nat) (S : sX) (k41 : Int32 → Int32 → Int32 → Int32 → Int32 → Option Int32) (x1 : Int32) (x2 : Int32) (x3 : Int32) (x5 : Int32) : Option Int32 :=
  fX0_wired_86 N S k41 x1 x2 x3 x5 (0 : Int32)
theorem bX0_wired_85 {N : Nat} (X : CallFix p m c cX0_wired 8 s args lw_all RX0) (hr : meth.sig.returnType = (some .int)) (hlk : meth.locks = false) {S : sX} (hM : XW D dA o q S A s s.heap []) {res : Int32} {k41 : Int32 → Int32 → Int32 → Int32 → Int32 → Option Int32} (Hk41 : ∀ (x1 : Int32) (x2 : Int32) (x3 : Int32) (x4 : Int32) (x5 : Int32) (ls : Array Slot), k41 x1 x2 x3 x4 x5 = some res → lv_has ls 8 [(0, .ref o), (1, .int x1), (2, .int x2), (3, .int x3), (4, .int x4), (5, .int x5)] → W p l e (rmL 2) s m args below meth c s.heap [] 0 0 (MQ below (k2_QcV (.int res)) args s 0 0 (fun _ => False)) (F0 m 41 ls [])) : ∀ (x1 : Int32) (x2 : Int32) (x3 : Int32) (x5 : Int32) (ls : Array Slot), fX0_wired_85 N S k41 x1 x2 x3 x5 = some res → lv_has ls 8 [(0, .ref o), (1, .int x1), (2, .int x2), (3, .int x3), (5, .int x5)] → W p l e (rmL 2) s m args below meth c s.heap [] 0 0 (MQ below (k2_QcV (.int res)) args s 0 0 (fun _ => False)) (F0 m 85 ls []) := by
  have hx := X.1
  have hb := X.2.1
  intro x1 x2 x3 x5 ls hf hl
  unfold fX0_wired_85 at hf
  refine lv_iconst (v := 0) hx hb dX0_wired_85 (by decide) ?_
  exact bX0_wired_86 X hr hlk hM Hk41 x1 x2 x3 x5 (0 : Int32) _ hf hl
noncomputable def fX0_wired_41 (N : Nat) (S : sX) (kx94 : Int32 → Int32 → Int32 → Int32 → Option Int32) : Nat → Int32 → Int32 → Int32 → Int32 → Int32 → Option Int32
  | 0, _, _, _, _, _ => none
  | n + 1, x1, x2, x3, x4, x5 =>
    if (S.1 26) ≤ x5 then (
      kx94 x1 x2 x3 x4)
    else (
      if ¬ x4 = 0 then (
        fX0_wired_81 N S (fX0_wired_41 N S kx94 n) x1 x2 x3 x5)
      else (
        (hAr 9 S.2.2.2 (S.2.2.1 25) x5).bind fun v_4 =>
        (hAi 0 S.2.2.2 v_4 (0 : Int32)).bind fun v_5 =>
        if ¬ v_5 = x1 then (
          fX0_wired_85 N S (fX0_wired_41 N S kx94 n) x1 x2 x3 x5)
        else (
          (hAr 9 S.2.2.2 (S.2.2.1 25) x5).bind fun v_6 =>
          (hAi 0 S.2.2.2 v_6 (1 : Int32)).bind fun v_7 =>
          if ¬ v_7 = x2 then (
            fX0_wired_85 N S (fX0_wired_41 N S kx94 n) x1 x2 x3 x5)
          else (
            fX0_wired_81 N S (fX0_wired_41 N S kx94 n) x1 x2 x3 x5))))
theorem bX0_wired_41 {N : Nat} (X : CallFix p m c cX0_wired 8 s args lw_all RX0) (hr : meth.sig.returnType = (some .int)) (hlk : meth.locks = false) {S : sX} (hM : XW D dA o q S A s s.heap []) {res : Int32} {kx94 : Int32 → Int32 → Int32 → Int32 → Option Int32} (Hkx94 : ∀ (x1 : Int32) (x2 : Int32) (x3 : Int32) (x4 : Int32) (ls : Array Slot), kx94 x1 x2 x3 x4 = some res → lv_has ls 8 [(0, .ref o), (1, .int x1), (2, .int x2), (3, .int x3), (4, .int x4)] → W p l e (rmL 2) s m args below meth c s.heap [] 0 0 (MQ below (k2_QcV (.int res)) args s 0 0 (fun _ => False)) (F0 m 94 ls [])) : ∀ (n : Nat) (x1 : Int32) (x2 : Int32) (x3 : Int32) (x4 : Int32) (x5 : Int32) (ls : Array Slot), fX0_wired_41 N S kx94 n x1 x2 x3 x4 x5 = some res → lv_has ls 8 [(0, .ref o), (1, .int x1), (2, .int x2), (3, .int x3), (4, .int x4), (5, .int x5)] → W p l e (rmL 2) s m args below meth c s.heap [] 0 0 (MQ below (k2_QcV (.int res)) args s 0 0 (fun _ => False)) (F0 m 41 ls []) := by
  have hx := X.1
  have hb := X.2.1
  intro n
  induction n with
  | zero =>
    intro x1 x2 x3 x4 x5 ls hf hl
    rw [fX0_wired_41] at hf
    cases hf
  | succ n ih =>
    intro x1 x2 x3 x4 x5 ls hf hl
    rw [fX0_wired_41] at hf
    refine lv_iload hx hb dX0_wired_41 (lv_at hl 5 rfl) ?_
    refine lv_aload_n hx hb dX0_wired_43 rfl (lv_at hl 0 rfl) ?_
    refine x_get (v := .int (S.1 26)) X hM 26 (by decide) q794 rfl rfl dX0_wired_44 ?_
    refine lv_icmp_ge (tgt := 94) hx hb dX0_wired_47 rfl (fun cnd => ?_) (fun cnd => ?_)
    · have hf := ec_t cnd hf
      exact Hkx94 x1 x2 x3 x4 _ hf (lv_sub hl [0, 1, 2, 3, 4] rfl)
    · have hf := ec_f cnd hf
      refine lv_iload hx hb dX0_wired_50 (lv_at hl 4 rfl) ?_
      refine lv_if_ne (tgt := 81) hx hb dX0_wired_52 rfl (fun cnd => ?_) (fun cnd => ?_)
      · have hf := ec_t cnd hf
        exact bX0_wired_81 X hr hlk hM ih x1 x2 x3 x5 _ hf (lv_sub hl [0, 1, 2, 3, 5] rfl)
      · have hf := ec_f (not_not_intro cnd) hf
        refine lv_aload_n hx hb dX0_wired_55 rfl (lv_at hl 0 rfl) ?_
        refine x_get (v := .ref (S.2.2.1 25)) X hM 25 (by decide) q793 rfl rfl dX0_wired_56 ?_
        refine lv_iload hx hb dX0_wired_59 (lv_at hl 5 rfl) ?_
        obtain ⟨v_4, h, hf⟩ := ec_bi hf
        refine h_aald (t := 9) X hM rfl rfl h dX0_wired_61 ?_
        refine lv_iconst (v := 0) hx hb dX0_wired_62 (by decide) ?_
        obtain ⟨v_5, h, hf⟩ := ec_bi hf
        refine h_iald X hM h dX0_wired_63 ?_
        refine lv_iload_n hx hb dX0_wired_64 rfl (lv_at hl 1 rfl) ?_
        refine lv_icmp_ne (tgt := 85) hx hb dX0_wired_65 rfl (fun cnd => ?_) (fun cnd => ?_)
        · have hf := ec_t cnd hf
          exact bX0_wired_85 X hr hlk hM ih x1 x2 x3 x5 _ hf (lv_sub hl [0, 1, 2, 3, 5] rfl)
        · have hf := ec_f (not_not_intro cnd) hf
          refine lv_aload_n hx hb dX0_wired_68 rfl (lv_at hl 0 rfl) ?_
          refine x_get (v := .ref (S.2.2.1 25)) X hM 25 (by decide) q793 rfl rfl dX0_wired_69 ?_
          refine lv_iload hx hb dX0_wired_72 (lv_at hl 5 rfl) ?_
          obtain ⟨v_6, h, hf⟩ := ec_bi hf
          refine h_aald (t := 9) X hM rfl rfl h dX0_wired_74 ?_
          refine lv_iconst (v := 1) hx hb dX0_wired_75 (by decide) ?_
          obtain ⟨v_7, h, hf⟩ := ec_bi hf
          refine h_iald X hM h dX0_wired_76 ?_
          refine lv_iload_n hx hb dX0_wired_77 rfl (lv_at hl 2 rfl) ?_
          refine lv_icmp_ne (tgt := 85) hx hb dX0_wired_78 rfl (fun cnd => ?_) (fun cnd => ?_)
          · have hf := ec_t cnd hf
            exact bX0_wired_85 X hr hlk hM ih x1 x2 x3 x5 _ hf (lv_sub hl [0, 1, 2, 3, 5] rfl)
          · have hf := ec_f (not_not_intro cnd) hf
            exact bX0_wired_81 X hr hlk hM ih x1 x2 x3 x5 _ hf (lv_sub hl [0, 1, 2, 3, 5] rfl)
noncomputable def fX0_wired_169 (N : Nat) (S : sX) (k125 : Int32 → Int32 → Int32 → Int32 → Int32 → Int32 → Option Int32) (x1 : Int32) (x2 : Int32) (x3 : Int32) (x5 : Int32) (x6 : Int32) (x7 : Int32) : Option Int32 :=
  ec_lt (x7 + (1 : Int32)) fun x7_13 =>
  k125 x1 x2 x3 x5 x6 x7_13
theorem bX0_wired_169 {N : Nat} (X : CallFix p m c cX0_wired 8 s args lw_all RX0) (hr : meth.sig.returnType = (some .int)) (hlk : meth.locks = false) {S : sX} (hM : XW D dA o q S A s s.heap []) {res : Int32} {k125 : Int32 → Int32 → Int32 → Int32 → Int32 → Int32 → Option Int32} (Hk125 : ∀ (x1 : Int32) (x2 : Int32) (x3 : Int32) (x5 : Int32) (x6 : Int32) (x7 : Int32) (ls : Array Slot), k125 x1 x2 x3 x5 x6 x7 = some res → lv_has ls 8 [(0, .ref o), (1, .int x1), (2, .int x2), (3, .int x3), (5, .int x5), (6, .int x6), (7, .int x7)] → W p l e (rmL 2) s m args below meth c s.heap [] 0 0 (MQ below (k2_QcV (.int res)) args s 0 0 (fun _ => False)) (F0 m 125 ls [])) : ∀ (x1 : Int32) (x2 : Int32) (x3 : Int32) (x5 : Int32) (x6 : Int32) (x7 : Int32) (ls : Array Slot), fX0_wired_169 N S k125 x1 x2 x3 x5 x6 x7 = some res → lv_has ls 8 [(0, .ref o), (1, .int x1), (2, .int x2), (3, .int x3), (5, .int x5), (6, .int x6), (7, .int x7)] → W p l e (rmL 2) s m args below meth c s.heap [] 0 0 (MQ below (k2_QcV (.int res)) args s 0 0 (fun _ => False)) (F0 m 169 ls []) := by
  have hx := X.1
  have hb := X.2.1
  intro x1 x2 x3 x5 x6 x7 ls hf hl
  unfold fX0_wired_169 at hf
  refine e_inc (w := 1) (f := fun v => [(7, .int v), (0, .ref o), (1, .int x1), (2, .int x2), (3, .int x3), (5, .int x5), (6, .int x6)]) hx hb dX0_wired_169 hl (k := 6) rfl (by decide) (by decide) (fun _ => rfl) (fun x7_13 ex ls hl => ?_)
  have hf := ec_lt_i ex hf
  refine lv_goto (tgt := 125) hx hb dX0_wired_172 rfl ?_
  exact Hk125 x1 x2 x3 x5 x6 x7_13 _ hf (lv_sub hl [1, 2, 3, 4, 5, 6, 0] rfl)
noncomputable def fX0_wired_125 (N : Nat) (S : sX) (kx163 : Int32 → Option Int32) (kx175 : Int32 → Int32 → Int32 → Int32 → Int32 → Option Int32) : Nat → Int32 → Int32 → Int32 → Int32 → Int32 → Int32 → Option Int32
  | 0, _, _, _, _, _, _ => none
  | n + 1, x1, x2, x3, x5, x6, x7 =>
    if (256 : Int32) ≤ x7 then (
      kx175 x1 x2 x3 x5 x6)
    else (
      (fJ9_bitCount x7).bind fun v_12 =>
      if ¬ v_12 = x6 then (
        fX0_wired_169 N S (fX0_wired_125 N S kx163 kx175 n) x1 x2 x3 x5 x6 x7)
      else (
        (fX0_isWired N S x1 x2 x7).bind fun v_14 =>
        if v_14 = 0 then (
          fX0_wired_169 N S (fX0_wired_125 N S kx163 kx175 n) x1 x2 x3 x5 x6 x7)
        else (
          if ¬ x5 = (x3 - (10 : Int32)) then (
            ec_lt (x5 + (1 : Int32)) fun x5_15 =>
            fX0_wired_169 N S (fX0_wired_125 N S kx163 kx175 n) x1 x2 x3 x5_15 x6 x7)
          else (
            kx163 x7))))
theorem bX0_wired_125 {N : Nat} (X : CallFix p m c cX0_wired 8 s args lw_all RX0) (hr : meth.sig.returnType = (some .int)) (hlk : meth.locks = false) {S : sX} (hM : XW D dA o q S A s s.heap []) {res : Int32} {kx163 : Int32 → Option Int32} {kx175 : Int32 → Int32 → Int32 → Int32 → Int32 → Option Int32} (Hkx163 : ∀ (x7 : Int32) (ls : Array Slot), kx163 x7 = some res → lv_has ls 8 [(0, .ref o), (7, .int x7)] → W p l e (rmL 2) s m args below meth c s.heap [] 0 0 (MQ below (k2_QcV (.int res)) args s 0 0 (fun _ => False)) (F0 m 163 ls [])) (Hkx175 : ∀ (x1 : Int32) (x2 : Int32) (x3 : Int32) (x5 : Int32) (x6 : Int32) (ls : Array Slot), kx175 x1 x2 x3 x5 x6 = some res → lv_has ls 8 [(0, .ref o), (1, .int x1), (2, .int x2), (3, .int x3), (5, .int x5), (6, .int x6)] → W p l e (rmL 2) s m args below meth c s.heap [] 0 0 (MQ below (k2_QcV (.int res)) args s 0 0 (fun _ => False)) (F0 m 175 ls [])) : ∀ (n : Nat) (x1 : Int32) (x2 : Int32) (x3 : Int32) (x5 : Int32) (x6 : Int32) (x7 : Int32) (ls : Array Slot), fX0_wired_125 N S kx163 kx175 n x1 x2 x3 x5 x6 x7 = some res → lv_has ls 8 [(0, .ref o), (1, .int x1), (2, .int x2), (3, .int x3), (5, .int x5), (6, .int x6), (7, .int x7)] → W p l e (rmL 2) s m args below meth c s.heap [] 0 0 (MQ below (k2_QcV (.int res)) args s 0 0 (fun _ => False)) (F0 m 125 ls []) := by
  have hx := X.1
  have hb := X.2.1
  intro n
  induction n with
  | zero =>
    intro x1 x2 x3 x5 x6 x7 ls hf hl
    rw [fX0_wired_125] at hf
    cases hf
  | succ n ih =>
    intro x1 x2 x3 x5 x6 x7 ls hf hl
    rw [fX0_wired_125] at hf
    refine lv_iload hx hb dX0_wired_125 (lv_at hl 6 rfl) ?_
    refine lv_sipush (v := 256) hx hb dX0_wired_127 (by decide) ?_
    refine lv_icmp_ge (tgt := 175) hx hb dX0_wired_130 rfl (fun cnd => ?_) (fun cnd => ?_)
    · have hf := ec_t cnd hf
      exact Hkx175 x1 x2 x3 x5 x6 _ hf (lv_sub hl [0, 1, 2, 3, 4, 5] rfl)
    · have hf := ec_f cnd hf
      refine lv_iload hx hb dX0_wired_133 (lv_at hl 6 rfl) ?_
      obtain ⟨v_12, h, hf⟩ := ec_bi hf
      refine e_cS (v := .int v_12) (As := [.int x7]) (rest := []) X (metJ9_bitCount l x7 _ h) (va_cwS 1 X.2.2.2.2 gX0_158 rfl rfl rfl hJ9_bitCount (rm_le (Nat.le_of_ble_eq_true rfl) (Nat.le_of_ble_eq_true rfl))) rfl hl.1 rfl (Nat.le_of_ble_eq_true rfl) ⟨Nat.zero_le _, Nat.zero_le _⟩ dX0_wired_135 ?_
      refine lv_iload hx hb dX0_wired_138 (lv_at hl 5 rfl) ?_
      refine lv_icmp_ne (tgt := 169) hx hb dX0_wired_140 rfl (fun cnd => ?_) (fun cnd => ?_)
      · have hf := ec_t cnd hf
        exact bX0_wired_169 X hr hlk hM ih x1 x2 x3 x5 x6 x7 _ hf hl
      · have hf := ec_f (not_not_intro cnd) hf
        refine lv_aload_n hx hb dX0_wired_143 rfl (lv_at hl 0 rfl) ?_
        refine lv_iload_n hx hb dX0_wired_144 rfl (lv_at hl 1 rfl) ?_
        refine lv_iload_n hx hb dX0_wired_145 rfl (lv_at hl 2 rfl) ?_
        refine lv_iload hx hb dX0_wired_146 (lv_at hl 6 rfl) ?_
        obtain ⟨v_14, h, hf⟩ := ec_bi hf
        refine x_cR (v := .int v_14) (As := [.int x1, .int x2, .int x7]) (rest := []) X hM (metX0_isWired l D dA o q N S x1 x2 x7 _ h) (cwV 3 X.2.2.2.2 gX0_308 rfl rfl rfl hX0_isWired (rm_le (Nat.le_of_ble_eq_true rfl) (Nat.le_of_ble_eq_true rfl))) rfl hl.1 rfl (Nat.le_of_ble_eq_true rfl) ⟨Nat.zero_le _, Nat.zero_le _⟩ dX0_wired_148 ?_
        refine lv_if_eq (tgt := 169) hx hb dX0_wired_151 rfl (fun cnd => ?_) (fun cnd => ?_)
        · have hf := ec_t cnd hf
          exact bX0_wired_169 X hr hlk hM ih x1 x2 x3 x5 x6 x7 _ hf hl
        · have hf := ec_f cnd hf
          refine lv_iload hx hb dX0_wired_154 (lv_at hl 4 rfl) ?_
          refine lv_iload_n hx hb dX0_wired_156 rfl (lv_at hl 3 rfl) ?_
          refine lv_bipush (v := 10) hx hb dX0_wired_157 (by decide) ?_
          refine lv_isub hx hb dX0_wired_159 ?_
          refine lv_icmp_ne (tgt := 166) hx hb dX0_wired_160 rfl (fun cnd => ?_) (fun cnd => ?_)
          · have hf := ec_t cnd hf
            refine e_inc (w := 1) (f := fun v => [(5, .int v), (0, .ref o), (1, .int x1), (2, .int x2), (3, .int x3), (6, .int x6), (7, .int x7)]) hx hb dX0_wired_166 hl (k := 4) rfl (by decide) (by decide) (fun _ => rfl) (fun x5_15 ex ls hl => ?_)
            have hf := ec_lt_i ex hf
            exact bX0_wired_169 X hr hlk hM ih x1 x2 x3 x5_15 x6 x7 _ hf (lv_sub hl [1, 2, 3, 4, 0, 5, 6] rfl)
          · have hf := ec_f (not_not_intro cnd) hf
            exact Hkx163 x7 _ hf (lv_sub hl [0, 6] rfl)
noncomputable def fX0_wired_116 (N : Nat) (S : sX) (kx163 : Int32 → Option Int32) (kx181 : Int32 → Int32 → Option Int32) : Nat → Int32 → Int32 → Int32 → Int32 → Int32 → Option Int32
  | 0, _, _, _, _, _ => none
  | n + 1, x1, x2, x3, x5, x6 =>
    if (3 : Int32) ≤ x6 then (
      kx181 x3 x5)
    else (
      fX0_wired_125 N S (fun x7_16 =>
        kx163 x7_16) (fun x1_17 x2_18 x3_19 x5_20 x6_21 =>
        ec_lt (x6_21 + (1 : Int32)) fun x6_22 =>
        (fX0_wired_116 N S kx163 kx181 n) x1_17 x2_18 x3_19 x5_20 x6_22) N x1 x2 x3 x5 x6 (1 : Int32))
theorem bX0_wired_116 {N : Nat} (X : CallFix p m c cX0_wired 8 s args lw_all RX0) (hr : meth.sig.returnType = (some .int)) (hlk : meth.locks = false) {S : sX} (hM : XW D dA o q S A s s.heap []) {res : Int32} {kx163 : Int32 → Option Int32} {kx181 : Int32 → Int32 → Option Int32} (Hkx163 : ∀ (x7 : Int32) (ls : Array Slot), kx163 x7 = some res → lv_has ls 8 [(0, .ref o), (7, .int x7)] → W p l e (rmL 2) s m args below meth c s.heap [] 0 0 (MQ below (k2_QcV (.int res)) args s 0 0 (fun _ => False)) (F0 m 163 ls [])) (Hkx181 : ∀ (x3 : Int32) (x5 : Int32) (ls : Array Slot), kx181 x3 x5 = some res → lv_has ls 8 [(0, .ref o), (3, .int x3), (5, .int x5)] → W p l e (rmL 2) s m args below meth c s.heap [] 0 0 (MQ below (k2_QcV (.int res)) args s 0 0 (fun _ => False)) (F0 m 181 ls [])) : ∀ (n : Nat) (x1 : Int32) (x2 : Int32) (x3 : Int32) (x5 : Int32) (x6 : Int32) (ls : Array Slot), fX0_wired_116 N S kx163 kx181 n x1 x2 x3 x5 x6 = some res → lv_has ls 8 [(0, .ref o), (1, .int x1), (2, .int x2), (3, .int x3), (5, .int x5), (6, .int x6)] → W p l e (rmL 2) s m args below meth c s.heap [] 0 0 (MQ below (k2_QcV (.int res)) args s 0 0 (fun _ => False)) (F0 m 116 ls []) := by
  have hx := X.1
  have hb := X.2.1
  intro n
  induction n with
  | zero =>
    intro x1 x2 x3 x5 x6 ls hf hl
    rw [fX0_wired_116] at hf
    cases hf
  | succ n ih =>
    intro x1 x2 x3 x5 x6 ls hf hl
    rw [fX0_wired_116] at hf
    refine lv_iload hx hb dX0_wired_116 (lv_at hl 5 rfl) ?_
    refine lv_iconst (v := 3) hx hb dX0_wired_118 (by decide) ?_
    refine lv_icmp_ge (tgt := 181) hx hb dX0_wired_119 rfl (fun cnd => ?_) (fun cnd => ?_)
    · have hf := ec_t cnd hf
      exact Hkx181 x3 x5 _ hf (lv_sub hl [0, 3, 4] rfl)
    · have hf := ec_f cnd hf
      refine lv_iconst (v := 1) hx hb dX0_wired_122 (by decide) ?_
      refine lv_istore (lv' := [(7, .int (1 : Int32)), (0, .ref o), (1, .int x1), (2, .int x2), (3, .int x3), (5, .int x5), (6, .int x6)]) hx hb dX0_wired_123 hl (by decide) rfl (fun ls hl => ?_)
      exact bX0_wired_125 X hr hlk hM (fun x7_16 ls hf hl => by
        exact Hkx163 x7_16 _ hf hl) (fun x1_17 x2_18 x3_19 x5_20 x6_21 ls hf hl => by
        refine e_inc (w := 1) (f := fun v => [(6, .int v), (0, .ref o), (1, .int x1_17), (2, .int x2_18), (3, .int x3_19), (5, .int x5_20)]) hx hb dX0_wired_175 hl (k := 5) rfl (by decide) (by decide) (fun _ => rfl) (fun x6_22 ex ls hl => ?_)
        have hf := ec_lt_i ex hf
        refine lv_goto (tgt := 116) hx hb dX0_wired_178 rfl ?_
        exact ih x1_17 x2_18 x3_19 x5_20 x6_22 _ hf (lv_sub hl [1, 2, 3, 4, 5, 0] rfl)) N x1 x2 x3 x5 x6 (1 : Int32) _ hf (lv_sub hl [1, 2, 3, 4, 5, 6, 0] rfl)
noncomputable def fX0_wired_35 (N : Nat) (S : sX) (x1 : Int32) (x2 : Int32) (x3 : Int32) : Option Int32 :=
  fX0_wired_41 N S (fun x1_8 x2_9 x3_10 x4_11 =>
    if ¬ x4_11 = 0 then (
      fX0_wired_116 N S (fun x7_23 =>
        some x7_23) (fun x3_24 x5_25 =>
        if ¬ x3_24 = 0 then (
          some (-1 : Int32))
        else (
          some x5_25)) N x1_8 x2_9 x3_10 (0 : Int32) (1 : Int32))
    else (
      if ¬ x3_10 = 0 then (
        some (-1 : Int32))
      else (
        some (-4 : Int32)))) N x1 x2 x3 (0 : Int32) (0 : Int32)
theorem bX0_wired_35 {N : Nat} (X : CallFix p m c cX0_wired 8 s args lw_all RX0) (hr : meth.sig.returnType = (some .int)) (hlk : meth.locks = false) {S : sX} (hM : XW D dA o q S A s s.heap []) {res : Int32} : ∀ (x1 : Int32) (x2 : Int32) (x3 : Int32) (ls : Array Slot), fX0_wired_35 N S x1 x2 x3 = some res → lv_has ls 8 [(0, .ref o), (1, .int x1), (2, .int x2), (3, .int x3)] → W p l e (rmL 2) s m args below meth c s.heap [] 0 0 (MQ below (k2_QcV (.int res)) args s 0 0 (fun _ => False)) (F0 m 35 ls []) := by
  have hx := X.1
  have hb := X.2.1
  intro x1 x2 x3 ls hf hl
  unfold fX0_wired_35 at hf
  refine lv_iconst (v := 0) hx hb dX0_wired_35 (by decide) ?_
  refine lv_istore (lv' := [(4, .int (0 : Int32)), (0, .ref o), (1, .int x1), (2, .int x2), (3, .int x3)]) hx hb dX0_wired_36 hl (by decide) rfl (fun ls hl => ?_)
  refine lv_iconst (v := 0) hx hb dX0_wired_38 (by decide) ?_
  refine lv_istore (lv' := [(5, .int (0 : Int32)), (4, .int (0 : Int32)), (0, .ref o), (1, .int x1), (2, .int x2), (3, .int x3)]) hx hb dX0_wired_39 hl (by decide) rfl (fun ls hl => ?_)
  exact bX0_wired_41 X hr hlk hM (fun x1_8 x2_9 x3_10 x4_11 ls hf hl => by
    refine lv_iload hx hb dX0_wired_94 (lv_at hl 4 rfl) ?_
    refine lv_if_ne (tgt := 110) hx hb dX0_wired_96 rfl (fun cnd => ?_) (fun cnd => ?_)
    · have hf := ec_t cnd hf
      refine lv_iconst (v := 0) hx hb dX0_wired_110 (by decide) ?_
      refine lv_istore (lv' := [(5, .int (0 : Int32)), (0, .ref o), (1, .int x1_8), (2, .int x2_9), (3, .int x3_10), (4, .int x4_11)]) hx hb dX0_wired_111 hl (by decide) rfl (fun ls hl => ?_)
      refine lv_iconst (v := 1) hx hb dX0_wired_113 (by decide) ?_
      refine lv_istore (lv' := [(6, .int (1 : Int32)), (5, .int (0 : Int32)), (0, .ref o), (1, .int x1_8), (2, .int x2_9), (3, .int x3_10), (4, .int x4_11)]) hx hb dX0_wired_114 hl (by decide) rfl (fun ls hl => ?_)
      exact bX0_wired_116 X hr hlk hM (fun x7_23 ls hf hl => by
        refine lv_iload hx hb dX0_wired_163 (lv_at hl 1 rfl) ?_
        obtain rfl := Option.some.inj hf
        exact e_iretR hx hb hr hlk dX0_wired_165) (fun x3_24 x5_25 ls hf hl => by
        refine lv_iload_n hx hb dX0_wired_181 rfl (lv_at hl 1 rfl) ?_
        refine lv_if_ne (tgt := 190) hx hb dX0_wired_182 rfl (fun cnd => ?_) (fun cnd => ?_)
        · have hf := ec_t cnd hf
          refine lv_iconst (v := -1) hx hb dX0_wired_190 (by decide) ?_
          obtain rfl := Option.some.inj hf
          exact e_iretR hx hb hr hlk dX0_wired_191
        · have hf := ec_f (not_not_intro cnd) hf
          refine lv_iload hx hb dX0_wired_185 (lv_at hl 2 rfl) ?_
          refine lv_goto (tgt := 191) hx hb dX0_wired_187 rfl ?_
          obtain rfl := Option.some.inj hf
          exact e_iretR hx hb hr hlk dX0_wired_191) N x1_8 x2_9 x3_10 (0 : Int32) (1 : Int32) _ hf (lv_sub hl [2, 3, 4, 5, 1, 0] rfl)
    · have hf := ec_f (not_not_intro cnd) hf
      refine lv_iload_n hx hb dX0_wired_99 rfl (lv_at hl 3 rfl) ?_
      refine lv_if_ne (tgt := 108) hx hb dX0_wired_100 rfl (fun cnd => ?_) (fun cnd => ?_)
      · have hf := ec_t cnd hf
        refine lv_iconst (v := -1) hx hb dX0_wired_108 (by decide) ?_
        obtain rfl := Option.some.inj hf
        exact e_iretR hx hb hr hlk dX0_wired_109
      · have hf := ec_f (not_not_intro cnd) hf
        refine lv_bipush (v := -4) hx hb dX0_wired_103 (by decide) ?_
        refine lv_goto (tgt := 109) hx hb dX0_wired_105 rfl ?_
        obtain rfl := Option.some.inj hf
        exact e_iretR hx hb hr hlk dX0_wired_109) N x1 x2 x3 (0 : Int32) (0 : Int32) _ hf (lv_sub hl [2, 3, 4, 5, 1, 0] rfl)
noncomputable def fX0_wired (N : Nat) (S : sX) (x1 : Int32) (x2 : Int32) (x3 : Int32) : Option Int32 :=
  (fX0_isCounter S x1).bind fun v_1 =>
  if v_1 = 0 then (
    fX0_wired_33 N S)
  else (
    (fX0_isEvent x2).bind fun v_2 =>
    if v_2 = 0 then (
      fX0_wired_33 N S)
    else (
      if x3 = 0 then (
        fX0_wired_35 N S x1 x2 x3)
      else (
        (fX0_isIn (x3.toInt64) (10 : Int64) (45 : Int64)).bind fun v_26 =>
        if ¬ v_26 = 0 then (
          fX0_wired_35 N S x1 x2 x3)
        else (
          fX0_wired_33 N S))))
theorem metX0_wired (l : Launch) (D : va_G) (dA : Nat → ClassId) (o : Nat) (q : Nat → Nat) (N : Nat) (S : sX) (x1 : Int32) (x2 : Int32) (x3 : Int32) (res : Int32) (hf : fX0_wired N S x1 x2 x3 = some res) : Met l yX0_wired (ws_ yX0_wired cX0_wired 8 (some .int)) (rmL 2) (XPre D dA o q S [.int x1, .int x2, .int x3]) (k2_QcV (.int res)) 0 0 (fun _ => False) := by
  refine x_ofR rfl (Nat.le_of_ble_eq_true rfl) (fun p e s m args below meth c X hr hlk hM ls hl => ?_)
  have hl : lv_has ls 8 [(0, .ref o), (1, .int x1), (2, .int x2), (3, .int x3)] := hl
  have hx := X.1
  have hb := X.2.1
  unfold fX0_wired at hf
  refine lv_aload_n hx hb dX0_wired_0 rfl (lv_at hl 0 rfl) ?_
  refine lv_iload_n hx hb dX0_wired_1 rfl (lv_at hl 1 rfl) ?_
  obtain ⟨v_1, h, hf⟩ := ec_bi hf
  refine x_cR (v := .int v_1) (As := [.int x1]) (rest := []) X hM (metX0_isCounter l D dA o q S x1 _ h) (cwV 1 X.2.2.2.2 gX0_195 rfl rfl rfl hX0_isCounter (rm_le (Nat.le_of_ble_eq_true rfl) (Nat.le_of_ble_eq_true rfl))) rfl hl.1 rfl (Nat.le_of_ble_eq_true rfl) ⟨Nat.zero_le _, Nat.zero_le _⟩ dX0_wired_2 ?_
  refine lv_if_eq (tgt := 33) hx hb dX0_wired_5 rfl (fun cnd => ?_) (fun cnd => ?_)
  · have hf := ec_t cnd hf
    exact bX0_wired_33 X hr hlk hM _ hf (lv_sub hl [0] rfl)
  · have hf := ec_f cnd hf
    refine lv_iload_n hx hb dX0_wired_8 rfl (lv_at hl 2 rfl) ?_
    obtain ⟨v_2, h, hf⟩ := ec_bi hf
    refine e_cS (v := .int v_2) (As := [.int x2]) (rest := []) X (metX0_isEvent l x2 _ h) (va_cwS 1 X.2.2.2.2 gX0_125 rfl rfl rfl hX0_isEvent (rm_le (Nat.le_of_ble_eq_true rfl) (Nat.le_of_ble_eq_true rfl))) rfl hl.1 rfl (Nat.le_of_ble_eq_true rfl) ⟨Nat.zero_le _, Nat.zero_le _⟩ dX0_wired_9 ?_
    refine lv_if_eq (tgt := 33) hx hb dX0_wired_12 rfl (fun cnd => ?_) (fun cnd => ?_)
    · have hf := ec_t cnd hf
      exact bX0_wired_33 X hr hlk hM _ hf (lv_sub hl [0] rfl)
    · have hf := ec_f cnd hf
      refine lv_iload_n hx hb dX0_wired_15 rfl (lv_at hl 3 rfl) ?_
      refine lv_if_eq (tgt := 35) hx hb dX0_wired_16 rfl (fun cnd => ?_) (fun cnd => ?_)
      · have hf := ec_t cnd hf
        exact bX0_wired_35 X hr hlk hM x1 x2 x3 _ hf hl
      · have hf := ec_f cnd hf
        refine lv_iload_n hx hb dX0_wired_19 rfl (lv_at hl 3 rfl) ?_
        refine lv_i2l hx hb dX0_wired_20 rfl ?_
        refine lv_ldc2 (own := RX0) (v := 10) hx hb X.2.2.2.1 (X.2.2.2.2 _ q469) dX0_wired_21 ?_
        refine lv_ldc2 (own := RX0) (v := 45) hx hb X.2.2.2.1 (X.2.2.2.2 _ q723) dX0_wired_24 ?_
        obtain ⟨v_26, h, hf⟩ := ec_bi hf
        refine e_cS (v := .int v_26) (As := [.long (x3.toInt64), .long (10 : Int64), .long (45 : Int64)]) (rest := []) X (metX0_isIn l (x3.toInt64) (10 : Int64) (45 : Int64) _ h) (va_cwS 3 X.2.2.2.2 gX0_21 rfl rfl rfl hX0_isIn (rm_le (Nat.le_of_ble_eq_true rfl) (Nat.le_of_ble_eq_true rfl))) rfl hl.1 rfl (Nat.le_of_ble_eq_true rfl) ⟨Nat.zero_le _, Nat.zero_le _⟩ dX0_wired_27 ?_
        refine lv_if_ne (tgt := 35) hx hb dX0_wired_30 rfl (fun cnd => ?_) (fun cnd => ?_)
        · have hf := ec_t cnd hf
          exact bX0_wired_35 X hr hlk hM x1 x2 x3 _ hf hl
        · have hf := ec_f (not_not_intro cnd) hf
          exact bX0_wired_33 X hr hlk hM _ hf (lv_sub hl [0] rfl)
theorem hX0_wired : yX0_wired.cls = RX0 ∧ yX0_wired.cls ≠ "java/lang/invoke/MethodHandle" ∧ yX0_wired.cls ≠ "java/lang/invoke/VarHandle" ∧ (parseMethodDescriptor yX0_wired.desc).map (fun d => d.parameters.length) = some 3 := by decide +kernel

noncomputable def fX0_count_60 (S : sX) (x1 : Int32) : Option Int32 :=
  if x1 = (0 : Int32) then (
    some (S.1 4))
  else if x1 = (1 : Int32) then (
    some (S.1 12))
  else if x1 = (2 : Int32) then (
    some (S.1 26))
  else if x1 = (3 : Int32) then (
    some (S.1 1))
  else if x1 = (4 : Int32) then (
    (hAr 8 S.2.2.2 (S.2.2.1 27) (0 : Int32)).bind fun v_1 =>
    (hQ 2 S.2.2.2 v_1 0).bind fun v_2 =>
    if v_2 = none then (
      some (-4 : Int32))
    else (
      (hAr 8 S.2.2.2 (S.2.2.1 27) (0 : Int32)).bind fun v_3 =>
      (hI 2 S.2.2.2 v_3 1).bind fun v_4 =>
      some v_4))
  else if x1 = (5 : Int32) then (
    some (S.1 6))
  else (
    some (-1 : Int32))
theorem bX0_count_60 (X : CallFix p m c cX0_count 2 s args lw_all RX0) (hr : meth.sig.returnType = (some .int)) (hlk : meth.locks = false) {S : sX} (hM : XW D dA o q S A s s.heap []) {res : Int32} : ∀ (x1 : Int32) (ls : Array Slot), fX0_count_60 S x1 = some res → lv_has ls 2 [(0, .ref o), (1, .int x1)] → W p l e (rmL 2) s m args below meth c s.heap [] 0 0 (MQ below (k2_QcV (.int res)) args s 0 0 (fun _ => False)) (F0 m 60 ls []) := by
  have hx := X.1
  have hb := X.2.1
  intro x1 ls hf hl
  unfold fX0_count_60 at hf
  refine lv_iload_n hx hb dX0_count_60 rfl (lv_at hl 1 rfl) ?_
  by_cases c0 : x1 = (0 : Int32)
  · have hf := ec_t c0 hf
    refine lv_tableIn (off := 39) (tgt := 100) hx hb dX0_count_61 (by rw [c0]; decide) (by rw [c0]; decide) (by rw [c0]; rfl) rfl ?_
    refine lv_aload_n hx hb dX0_count_100 rfl (lv_at hl 0 rfl) ?_
    refine x_get (v := .int (S.1 4)) X hM 4 (by decide) q772 rfl rfl dX0_count_101 ?_
    obtain rfl := Option.some.inj hf
    exact e_iretR hx hb hr hlk dX0_count_104
  have hf := ec_f c0 hf
  by_cases c1 : x1 = (1 : Int32)
  · have hf := ec_t c1 hf
    refine lv_tableIn (off := 44) (tgt := 105) hx hb dX0_count_61 (by rw [c1]; decide) (by rw [c1]; decide) (by rw [c1]; rfl) rfl ?_
    refine lv_aload_n hx hb dX0_count_105 rfl (lv_at hl 0 rfl) ?_
    refine x_get (v := .int (S.1 12)) X hM 12 (by decide) q780 rfl rfl dX0_count_106 ?_
    obtain rfl := Option.some.inj hf
    exact e_iretR hx hb hr hlk dX0_count_109
  have hf := ec_f c1 hf
  by_cases c2 : x1 = (2 : Int32)
  · have hf := ec_t c2 hf
    refine lv_tableIn (off := 49) (tgt := 110) hx hb dX0_count_61 (by rw [c2]; decide) (by rw [c2]; decide) (by rw [c2]; rfl) rfl ?_
    refine lv_aload_n hx hb dX0_count_110 rfl (lv_at hl 0 rfl) ?_
    refine x_get (v := .int (S.1 26)) X hM 26 (by decide) q794 rfl rfl dX0_count_111 ?_
    obtain rfl := Option.some.inj hf
    exact e_iretR hx hb hr hlk dX0_count_114
  have hf := ec_f c2 hf
  by_cases c3 : x1 = (3 : Int32)
  · have hf := ec_t c3 hf
    refine lv_tableIn (off := 54) (tgt := 115) hx hb dX0_count_61 (by rw [c3]; decide) (by rw [c3]; decide) (by rw [c3]; rfl) rfl ?_
    refine lv_aload_n hx hb dX0_count_115 rfl (lv_at hl 0 rfl) ?_
    refine x_get (v := .int (S.1 1)) X hM 1 (by decide) q769 rfl rfl dX0_count_116 ?_
    obtain rfl := Option.some.inj hf
    exact e_iretR hx hb hr hlk dX0_count_119
  have hf := ec_f c3 hf
  by_cases c4 : x1 = (4 : Int32)
  · have hf := ec_t c4 hf
    refine lv_tableIn (off := 59) (tgt := 120) hx hb dX0_count_61 (by rw [c4]; decide) (by rw [c4]; decide) (by rw [c4]; rfl) rfl ?_
    refine lv_aload_n hx hb dX0_count_120 rfl (lv_at hl 0 rfl) ?_
    refine x_get (v := .ref (S.2.2.1 27)) X hM 27 (by decide) q795 rfl rfl dX0_count_121 ?_
    refine lv_iconst (v := 0) hx hb dX0_count_124 (by decide) ?_
    obtain ⟨v_1, h, hf⟩ := ec_bi hf
    refine h_aald (t := 8) X hM rfl rfl h dX0_count_125 ?_
    obtain ⟨v_2, h, hf⟩ := ec_bi hf
    refine h_getvN (v := va_rf v_2) (C := RX2) (T := TX2) (N := 2) (ci := 2) (k := 0) (host := "EventCounters") X hM in_X2 rfl (by decide) (xn_at hM.2.1 37 rfl) rfl (hQ_i h) dX0_count_126 ?_
    refine e_ifnn (tgt := 137) X dX0_count_129 rfl (fun cnd => ?_) (fun cnd => ?_)
    · have hf := ec_f cnd hf
      refine lv_aload_n hx hb dX0_count_137 rfl (lv_at hl 0 rfl) ?_
      refine x_get (v := .ref (S.2.2.1 27)) X hM 27 (by decide) q795 rfl rfl dX0_count_138 ?_
      refine lv_iconst (v := 0) hx hb dX0_count_141 (by decide) ?_
      obtain ⟨v_3, h, hf⟩ := ec_bi hf
      refine h_aald (t := 8) X hM rfl rfl h dX0_count_142 ?_
      obtain ⟨v_4, h, hf⟩ := ec_bi hf
      refine h_getvN (v := .int v_4) (C := RX2) (T := TX2) (N := 2) (ci := 2) (k := 1) (host := "EventCounters") X hM in_X2 rfl (by decide) (xn_at hM.2.1 38 rfl) rfl (hI_i h) dX0_count_143 ?_
      obtain rfl := Option.some.inj hf
      exact e_iretR hx hb hr hlk dX0_count_146
    · have hf := ec_t cnd hf
      refine lv_bipush (v := -4) hx hb dX0_count_132 (by decide) ?_
      refine lv_goto (tgt := 146) hx hb dX0_count_134 rfl ?_
      obtain rfl := Option.some.inj hf
      exact e_iretR hx hb hr hlk dX0_count_146
  have hf := ec_f c4 hf
  by_cases c5 : x1 = (5 : Int32)
  · have hf := ec_t c5 hf
    refine lv_tableIn (off := 86) (tgt := 147) hx hb dX0_count_61 (by rw [c5]; decide) (by rw [c5]; decide) (by rw [c5]; rfl) rfl ?_
    refine lv_aload_n hx hb dX0_count_147 rfl (lv_at hl 0 rfl) ?_
    refine x_get (v := .int (S.1 6)) X hM 6 (by decide) q774 rfl rfl dX0_count_148 ?_
    obtain rfl := Option.some.inj hf
    exact e_iretR hx hb hr hlk dX0_count_151
  have hf := ec_f c5 hf
  refine lv_tableOut (tgt := 152) hx hb dX0_count_61 (by
    have a0 := ec_ne (z := 0) (by decide) c0
    have a1 := ec_ne (z := 1) (by decide) c1
    have a2 := ec_ne (z := 2) (by decide) c2
    have a3 := ec_ne (z := 3) (by decide) c3
    have a4 := ec_ne (z := 4) (by decide) c4
    have a5 := ec_ne (z := 5) (by decide) c5
    omega) rfl ?_
  refine lv_iconst (v := -1) hx hb dX0_count_152 (by decide) ?_
  obtain rfl := Option.some.inj hf
  exact e_iretR hx hb hr hlk dX0_count_153
noncomputable def fX0_count_30 (S : sX) (x1 : Int32) : Option Int32 :=
  if x1 < (20 : Int32) then (
    fX0_count_60 S x1)
  else (
    (fX0_isCounter S (x1 - (20 : Int32))).bind fun v_5 =>
    if v_5 = 0 then (
      fX0_count_60 S x1)
    else (
      (hAr 7 S.2.2.2 (S.2.2.1 13) (x1 - (20 : Int32))).bind fun v_6 =>
      (hI 1 S.2.2.2 v_6 1).bind fun v_7 =>
      some v_7))
theorem bX0_count_30 (X : CallFix p m c cX0_count 2 s args lw_all RX0) (hr : meth.sig.returnType = (some .int)) (hlk : meth.locks = false) {S : sX} (hM : XW D dA o q S A s s.heap []) {res : Int32} : ∀ (x1 : Int32) (ls : Array Slot), fX0_count_30 S x1 = some res → lv_has ls 2 [(0, .ref o), (1, .int x1)] → W p l e (rmL 2) s m args below meth c s.heap [] 0 0 (MQ below (k2_QcV (.int res)) args s 0 0 (fun _ => False)) (F0 m 30 ls []) := by
  have hx := X.1
  have hb := X.2.1
  intro x1 ls hf hl
  unfold fX0_count_30 at hf
  refine lv_iload_n hx hb dX0_count_30 rfl (lv_at hl 1 rfl) ?_
  refine lv_bipush (v := 20) hx hb dX0_count_31 (by decide) ?_
  refine lv_icmp_lt (tgt := 60) hx hb dX0_count_33 rfl (fun cnd => ?_) (fun cnd => ?_)
  · have hf := ec_t cnd hf
    exact bX0_count_60 X hr hlk hM x1 _ hf hl
  · have hf := ec_f cnd hf
    refine lv_aload_n hx hb dX0_count_36 rfl (lv_at hl 0 rfl) ?_
    refine lv_iload_n hx hb dX0_count_37 rfl (lv_at hl 1 rfl) ?_
    refine lv_bipush (v := 20) hx hb dX0_count_38 (by decide) ?_
    refine lv_isub hx hb dX0_count_40 ?_
    obtain ⟨v_5, h, hf⟩ := ec_bi hf
    refine x_cR (v := .int v_5) (As := [.int (x1 - (20 : Int32))]) (rest := []) X hM (metX0_isCounter l D dA o q S (x1 - (20 : Int32)) _ h) (cwV 1 X.2.2.2.2 gX0_195 rfl rfl rfl hX0_isCounter (rm_le (Nat.le_of_ble_eq_true rfl) (Nat.le_of_ble_eq_true rfl))) rfl hl.1 rfl (Nat.le_of_ble_eq_true rfl) ⟨Nat.zero_le _, Nat.zero_le _⟩ dX0_count_41 ?_
    refine lv_if_eq (tgt := 60) hx hb dX0_count_44 rfl (fun cnd => ?_) (fun cnd => ?_)
    · have hf := ec_t cnd hf
      exact bX0_count_60 X hr hlk hM x1 _ hf hl
    · have hf := ec_f cnd hf
      refine lv_aload_n hx hb dX0_count_47 rfl (lv_at hl 0 rfl) ?_
      refine x_get (v := .ref (S.2.2.1 13)) X hM 13 (by decide) q781 rfl rfl dX0_count_48 ?_
      refine lv_iload_n hx hb dX0_count_51 rfl (lv_at hl 1 rfl) ?_
      refine lv_bipush (v := 20) hx hb dX0_count_52 (by decide) ?_
      refine lv_isub hx hb dX0_count_54 ?_
      obtain ⟨v_6, h, hf⟩ := ec_bi hf
      refine h_aald (t := 7) X hM rfl rfl h dX0_count_55 ?_
      obtain ⟨v_7, h, hf⟩ := ec_bi hf
      refine h_getvN (v := .int v_7) (C := RX1) (T := TX1) (N := 2) (ci := 1) (k := 1) (host := "EventCounters") X hM in_X1 rfl (by decide) (xn_at hM.2.1 35 rfl) rfl (hI_i h) dX0_count_56 ?_
      obtain rfl := Option.some.inj hf
      exact e_iretR hx hb hr hlk dX0_count_59
noncomputable def fX0_count (S : sX) (x1 : Int32) : Option Int32 :=
  if x1 < (10 : Int32) then (
    fX0_count_30 S x1)
  else (
    (fX0_isCounter S (x1 - (10 : Int32))).bind fun v_8 =>
    if v_8 = 0 then (
      fX0_count_30 S x1)
    else (
      (hAr 7 S.2.2.2 (S.2.2.1 13) (x1 - (10 : Int32))).bind fun v_9 =>
      (hI 1 S.2.2.2 v_9 0).bind fun v_10 =>
      some v_10))
theorem metX0_count (l : Launch) (D : va_G) (dA : Nat → ClassId) (o : Nat) (q : Nat → Nat) (S : sX) (x1 : Int32) (res : Int32) (hf : fX0_count S x1 = some res) : Met l yX0_count (ws_ yX0_count cX0_count 2 (some .int)) (rmL 2) (XPre D dA o q S [.int x1]) (k2_QcV (.int res)) 0 0 (fun _ => False) := by
  refine x_ofR rfl (Nat.le_of_ble_eq_true rfl) (fun p e s m args below meth c X hr hlk hM ls hl => ?_)
  have hl : lv_has ls 2 [(0, .ref o), (1, .int x1)] := hl
  have hx := X.1
  have hb := X.2.1
  unfold fX0_count at hf
  refine lv_iload_n hx hb dX0_count_0 rfl (lv_at hl 1 rfl) ?_
  refine lv_bipush (v := 10) hx hb dX0_count_1 (by decide) ?_
  refine lv_icmp_lt (tgt := 30) hx hb dX0_count_3 rfl (fun cnd => ?_) (fun cnd => ?_)
  · have hf := ec_t cnd hf
    exact bX0_count_30 X hr hlk hM x1 _ hf hl
  · have hf := ec_f cnd hf
    refine lv_aload_n hx hb dX0_count_6 rfl (lv_at hl 0 rfl) ?_
    refine lv_iload_n hx hb dX0_count_7 rfl (lv_at hl 1 rfl) ?_
    refine lv_bipush (v := 10) hx hb dX0_count_8 (by decide) ?_
    refine lv_isub hx hb dX0_count_10 ?_
    obtain ⟨v_8, h, hf⟩ := ec_bi hf
    refine x_cR (v := .int v_8) (As := [.int (x1 - (10 : Int32))]) (rest := []) X hM (metX0_isCounter l D dA o q S (x1 - (10 : Int32)) _ h) (cwV 1 X.2.2.2.2 gX0_195 rfl rfl rfl hX0_isCounter (rm_le (Nat.le_of_ble_eq_true rfl) (Nat.le_of_ble_eq_true rfl))) rfl hl.1 rfl (Nat.le_of_ble_eq_true rfl) ⟨Nat.zero_le _, Nat.zero_le _⟩ dX0_count_11 ?_
    refine lv_if_eq (tgt := 30) hx hb dX0_count_14 rfl (fun cnd => ?_) (fun cnd => ?_)
    · have hf := ec_t cnd hf
      exact bX0_count_30 X hr hlk hM x1 _ hf hl
    · have hf := ec_f cnd hf
      refine lv_aload_n hx hb dX0_count_17 rfl (lv_at hl 0 rfl) ?_
      refine x_get (v := .ref (S.2.2.1 13)) X hM 13 (by decide) q781 rfl rfl dX0_count_18 ?_
      refine lv_iload_n hx hb dX0_count_21 rfl (lv_at hl 1 rfl) ?_
      refine lv_bipush (v := 10) hx hb dX0_count_22 (by decide) ?_
      refine lv_isub hx hb dX0_count_24 ?_
      obtain ⟨v_9, h, hf⟩ := ec_bi hf
      refine h_aald (t := 7) X hM rfl rfl h dX0_count_25 ?_
      obtain ⟨v_10, h, hf⟩ := ec_bi hf
      refine h_getvN (v := .int v_10) (C := RX1) (T := TX1) (N := 2) (ci := 1) (k := 0) (host := "EventCounters") X hM in_X1 rfl (by decide) (xn_at hM.2.1 34 rfl) rfl (hI_i h) dX0_count_26 ?_
      obtain rfl := Option.some.inj hf
      exact e_iretR hx hb hr hlk dX0_count_29
theorem hX0_count : yX0_count.cls = RX0 ∧ yX0_count.cls ≠ "java/lang/invoke/MethodHandle" ∧ yX0_count.cls ≠ "java/lang/invoke/VarHandle" ∧ (parseMethodDescriptor yX0_count.desc).map (fun d => d.parameters.length) = some 1 := by decide +kernel
end
