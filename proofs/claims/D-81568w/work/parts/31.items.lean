set_option maxRecDepth 100000
set_option maxHeartbeats 2000000
set_option linter.unusedVariables false
section
variable {p : Program} {l : Launch} {e : Env} {s : State} {m : MethodId} {args : Array Value} {below : List Frame} {meth : Method} {c : Code}
variable {D : va_G} {dA : Nat → ClassId} {o : Nat} {q : Nat → Nat} {A : Nat → Prop}
noncomputable def fX8_steps (S : hH) (x0 : Nat) : Option Int64 :=
  some (1 : Int64)
theorem metX8_steps (l : Launch) (D : va_G) (dA : Nat → ClassId) (S : hH) (dep : Nat) (x0 : Nat) (res : Int64) (hf : fX8_steps S x0 = some res) : Met l yX8_steps (ws_ yX8_steps cX8_steps 1 (some .long)) (rmL dep) (HPre D dA S [.ref x0]) (k2_QcV (.long res)) 0 0 (fun _ => False) := by
  refine h_ofR rfl (by decide) (Nat.le_of_ble_eq_true rfl) (fun p e s m args below meth c X hr hlk hM ls hl => ?_)
  have hl : lv_has ls 1 [(0, .ref x0)] := hl
  have hx := X.1
  have hb := X.2.1
  unfold fX8_steps at hf
  refine lv_lconst (v := 1) hx hb dX8_steps_0 (by decide) ?_
  obtain rfl := Option.some.inj hf
  exact e_lretR hx hb hr hlk dX8_steps_1
theorem hX8_steps : yX8_steps.cls = RX8 ∧ yX8_steps.cls ≠ "java/lang/invoke/MethodHandle" ∧ yX8_steps.cls ≠ "java/lang/invoke/VarHandle" ∧ (parseMethodDescriptor yX8_steps.desc).map (fun d => d.parameters.length) = some 0 := by decide +kernel

noncomputable def fX7_steps_4 (N : Nat) (S : hH) (self : Nat → Option Int64) (kx30 : Nat → Int64 → Option Int64) : Nat → Nat → Int64 → Int32 → Option Int64
  | 0, _, _, _ => none
  | n + 1, x0, x1, x3 =>
    (bI S x0 1).bind fun v_1 =>
    if v_1 ≤ x3 then (
      kx30 x0 x1)
    else (
      (bR S x0 0).bind fun v_2 =>
      (hAr 6 S v_2 x3).bind fun v_3 =>
      (self v_3).bind fun v_4 =>
      ec_lt (x1 + v_4) fun x1_5 =>
      ec_lt (x3 + (1 : Int32)) fun x3_6 =>
      (fX7_steps_4 N S self kx30 n) x0 x1_5 x3_6)
theorem bX7_steps_4 {N : Nat} (X : CallFix p m c cX7_steps 4 s args lw_all RX7) (hr : meth.sig.returnType = (some .long)) (hlk : meth.locks = false) {S : hH} (hM : HX D dA [] S (fun _ => True) s s.heap []) {dep : Nat} {self : Nat → Option Int64} (Hself : ∀ (a : Nat) (r : Int64), self a = some r → vm_steps l D dA dep S a r) {res : Int64} {kx30 : Nat → Int64 → Option Int64} (Hkx30 : ∀ (x0 : Nat) (x1 : Int64) (ls : Array Slot), kx30 x0 x1 = some res → lv_has ls 4 [(0, .ref x0), (1, .long x1)] → W p l e (rmL (dep + 1)) s m args below meth c s.heap [] 0 0 (MQ below (k2_QcV (.long res)) args s 0 0 (fun _ => False)) (F0 m 30 ls [])) : ∀ (n : Nat) (x0 : Nat) (x1 : Int64) (x3 : Int32) (ls : Array Slot), fX7_steps_4 N S self kx30 n x0 x1 x3 = some res → lv_has ls 4 [(0, .ref x0), (1, .long x1), (3, .int x3)] → W p l e (rmL (dep + 1)) s m args below meth c s.heap [] 0 0 (MQ below (k2_QcV (.long res)) args s 0 0 (fun _ => False)) (F0 m 4 ls []) := by
  have hx := X.1
  have hb := X.2.1
  intro n
  induction n with
  | zero =>
    intro x0 x1 x3 ls hf hl
    rw [fX7_steps_4] at hf
    cases hf
  | succ n ih =>
    intro x0 x1 x3 ls hf hl
    rw [fX7_steps_4] at hf
    refine lv_iload_n hx hb dX7_steps_4 rfl (lv_at hl 2 rfl) ?_
    refine lv_aload_n hx hb dX7_steps_5 rfl (lv_at hl 0 rfl) ?_
    obtain ⟨v_1, h, hf⟩ := ec_bi hf
    refine h_getB (v := .int v_1) (k := 1) X hM (by decide) q272 rfl (bI_i h) dX7_steps_6 ?_
    refine lv_icmp_ge (tgt := 30) hx hb dX7_steps_9 rfl (fun cnd => ?_) (fun cnd => ?_)
    · have hf := ec_t cnd hf
      exact Hkx30 x0 x1 _ hf (lv_sub hl [0, 1] rfl)
    · have hf := ec_f cnd hf
      refine lv_lload_n hx hb dX7_steps_12 rfl (lv_at hl 1 rfl) ?_
      refine lv_aload_n hx hb dX7_steps_13 rfl (lv_at hl 0 rfl) ?_
      obtain ⟨v_2, h, hf⟩ := ec_bi hf
      refine h_getB (v := .ref v_2) (k := 0) X hM (by decide) q271 rfl (bR_i h) dX7_steps_14 ?_
      refine lv_iload_n hx hb dX7_steps_17 rfl (lv_at hl 2 rfl) ?_
      obtain ⟨v_3, h, hf⟩ := ec_bi hf
      refine h_aald (t := 6) X hM rfl rfl h dX7_steps_18 ?_
      obtain ⟨v_4, h, hf⟩ := ec_bi hf
      refine iV_steps (rest := [.long x1]) X hM (Hself v_3 _ h) (Nat.le_refl _) hl.1 rfl (Nat.le_of_ble_eq_true rfl) ⟨Nat.zero_le _, Nat.zero_le _⟩ dX7_steps_19 ?_
      refine lv_ladd hx hb dX7_steps_22 ?_
      refine lv_topl (fun x1_5 ex => ?_)
      have hf := ec_lt_i ex hf
      refine lv_lstore_n (lv' := [(1, .long x1_5), (0, .ref x0), (3, .int x3)]) hx hb dX7_steps_23 rfl hl (by decide) rfl (fun ls hl => ?_)
      refine e_inc (w := 1) (f := fun v => [(3, .int v), (1, .long x1_5), (0, .ref x0)]) hx hb dX7_steps_24 hl (k := 2) rfl (by decide) (by decide) (fun _ => rfl) (fun x3_6 ex ls hl => ?_)
      have hf := ec_lt_i ex hf
      refine lv_goto (tgt := 4) hx hb dX7_steps_27 rfl ?_
      exact ih x0 x1_5 x3_6 _ hf (lv_sub hl [2, 1, 0] rfl)
noncomputable def fX7_steps (N : Nat) (S : hH) (self : Nat → Option Int64) (x0 : Nat) : Option Int64 :=
  fX7_steps_4 N S self (fun x0_7 x1_8 =>
    some x1_8) N x0 (0 : Int64) (0 : Int32)
theorem metX7_steps (l : Launch) (D : va_G) (dA : Nat → ClassId) (N : Nat) (S : hH) (dep : Nat) (self : Nat → Option Int64) (Hself : ∀ (a : Nat) (r : Int64), self a = some r → vm_steps l D dA dep S a r) (x0 : Nat) (res : Int64) (hf : fX7_steps N S self x0 = some res) : Met l yX7_steps (ws_ yX7_steps cX7_steps 4 (some .long)) (rmL (dep + 1)) (HPre D dA S [.ref x0]) (k2_QcV (.long res)) 0 0 (fun _ => False) := by
  refine h_ofR rfl (by decide) (Nat.le_of_ble_eq_true rfl) (fun p e s m args below meth c X hr hlk hM ls hl => ?_)
  have hl : lv_has ls 4 [(0, .ref x0)] := hl
  have hx := X.1
  have hb := X.2.1
  unfold fX7_steps at hf
  refine lv_lconst (v := 0) hx hb dX7_steps_0 (by decide) ?_
  refine lv_lstore_n (lv' := [(1, .long (0 : Int64)), (0, .ref x0)]) hx hb dX7_steps_1 rfl hl (by decide) rfl (fun ls hl => ?_)
  refine lv_iconst (v := 0) hx hb dX7_steps_2 (by decide) ?_
  refine lv_istore_n (lv' := [(3, .int (0 : Int32)), (1, .long (0 : Int64)), (0, .ref x0)]) hx hb dX7_steps_3 rfl hl (by decide) rfl (fun ls hl => ?_)
  exact bX7_steps_4 X hr hlk hM Hself (fun x0_7 x1_8 ls hf hl => by
    refine lv_lload_n hx hb dX7_steps_30 rfl (lv_at hl 1 rfl) ?_
    obtain rfl := Option.some.inj hf
    exact e_lretR hx hb hr hlk dX7_steps_31) N x0 (0 : Int64) (0 : Int32) _ hf (lv_sub hl [2, 1, 0] rfl)
theorem hX7_steps : yX7_steps.cls = RX7 ∧ yX7_steps.cls ≠ "java/lang/invoke/MethodHandle" ∧ yX7_steps.cls ≠ "java/lang/invoke/VarHandle" ∧ (parseMethodDescriptor yX7_steps.desc).map (fun d => d.parameters.length) = some 0 := by decide +kernel

noncomputable def fX9_steps (N : Nat) (S : hH) (self : Nat → Option Int64) (x0 : Nat) : Option Int64 :=
  (hI 8 S x0 2).bind fun v_1 =>
  (hObj 8 S x0).bind fun w_3 =>
  (fX7_steps N S self x0).bind fun v_2 =>
  some ((v_1.toInt64) * v_2)
theorem metX9_steps (l : Launch) (D : va_G) (dA : Nat → ClassId) (N : Nat) (S : hH) (dep : Nat) (self : Nat → Option Int64) (Hself : ∀ (a : Nat) (r : Int64), self a = some r → vm_steps l D dA dep S a r) (x0 : Nat) (res : Int64) (hf : fX9_steps N S self x0 = some res) : Met l yX9_steps (ws_ yX9_steps cX9_steps 1 (some .long)) (rmL (dep + 2)) (HPre D dA S [.ref x0]) (k2_QcV (.long res)) 0 0 (fun _ => False) := by
  refine h_ofR rfl (by decide) (Nat.le_of_ble_eq_true rfl) (fun p e s m args below meth c X hr hlk hM ls hl => ?_)
  have hl : lv_has ls 1 [(0, .ref x0)] := hl
  have hx := X.1
  have hb := X.2.1
  unfold fX9_steps at hf
  refine lv_aload_n hx hb dX9_steps_0 rfl (lv_at hl 0 rfl) ?_
  obtain ⟨v_1, h, hf⟩ := ec_bi hf
  refine h_getv (v := .int v_1) (C := RX9) (T := TX9) (N := 5) (ci := 8) (k := 2) X hM in_X9 rfl (by decide) q385 rfl (hI_i h) dX9_steps_1 ?_
  refine lv_i2l hx hb dX9_steps_4 rfl ?_
  refine lv_aload_n hx hb dX9_steps_5 rfl (lv_at hl 0 rfl) ?_
  obtain ⟨w_3, ho, hf⟩ := ec_bi hf
  obtain ⟨v_2, h, hf⟩ := ec_bi hf
  refine h_cSU (C := RX9) (T := TX9) (N := 5) (ci := 8) (v := .long v_2) (As := []) (rest := [.long (v_1.toInt64)]) X hM rfl (hObj_i ho) (metX7_steps l D dA N S dep self Hself x0 _ h) (va_cwSU 0 X.2.2.2.2 (lw_SU q421 q417 q400 q415 q71 q422) rfl rfl rfl (by decide +kernel) (rm_le (by omega) (Nat.le_of_ble_eq_true rfl))) rfl hl.1 rfl (Nat.le_of_ble_eq_true rfl) ⟨Nat.zero_le _, Nat.zero_le _⟩ dX9_steps_6 ?_
  refine lv_lmul hx hb dX9_steps_9 ?_
  obtain rfl := Option.some.inj hf
  exact e_lretR hx hb hr hlk dX9_steps_10
theorem hX9_steps : yX9_steps.cls = RX9 ∧ yX9_steps.cls ≠ "java/lang/invoke/MethodHandle" ∧ yX9_steps.cls ≠ "java/lang/invoke/VarHandle" ∧ (parseMethodDescriptor yX9_steps.desc).map (fun d => d.parameters.length) = some 0 := by decide +kernel

noncomputable def fV_steps (N : Nat) (S : hH) : Nat → Nat → Option Int64
  | 0, _ => none
  | n + 1, a => match S a with
    | some (.inr z) => if z.1 = 7 then fX8_steps S a else if z.1 = 8 then fX9_steps N S (fV_steps N S n) a else none
    | _ => none
theorem vV_steps (l : Launch) (D : va_G) (dA : Nat → ClassId) (N : Nat) (S : hH) : ∀ (n a : Nat) (r : Int64), fV_steps N S n a = some r → vm_steps l D dA (2 * n) S a r := by
  intro n
  induction n with
  | zero =>
    intro a r hf
    rw [fV_steps] at hf
    cases hf
  | succ n ih =>
    intro a r hf
    rw [fV_steps] at hf
    split at hf
    · rename_i z hz
      by_cases h7 : z.1 = 7
      · rw [if_pos h7] at hf
        exact Or.inl ⟨z.2, by rw [hz, ← h7], metX8_steps l D dA S _ a _ hf⟩
      · rw [if_neg h7] at hf
        by_cases h8 : z.1 = 8
        · rw [if_pos h8] at hf
          exact Or.inr ⟨z.2, by rw [hz, ← h8], metX9_steps l D dA N S (2 * n) (fV_steps N S n) ih a _ hf⟩
        · rw [if_neg h8] at hf; cases hf
    · cases hf

noncomputable def fX8_lines (S : hH) (x0 : Nat) : Option Int32 :=
  (hI 7 S x0 0).bind fun v_1 =>
  some ((1 : Int32) <<< (v_1 &&& 31))
theorem metX8_lines (l : Launch) (D : va_G) (dA : Nat → ClassId) (S : hH) (dep : Nat) (x0 : Nat) (res : Int32) (hf : fX8_lines S x0 = some res) : Met l yX8_lines (ws_ yX8_lines cX8_lines 1 (some .int)) (rmL dep) (HPre D dA S [.ref x0]) (k2_QcV (.int res)) 0 0 (fun _ => False) := by
  refine h_ofR rfl (by decide) (Nat.le_of_ble_eq_true rfl) (fun p e s m args below meth c X hr hlk hM ls hl => ?_)
  have hl : lv_has ls 1 [(0, .ref x0)] := hl
  have hx := X.1
  have hb := X.2.1
  unfold fX8_lines at hf
  refine lv_iconst (v := 1) hx hb dX8_lines_0 (by decide) ?_
  refine lv_aload_n hx hb dX8_lines_1 rfl (lv_at hl 0 rfl) ?_
  obtain ⟨v_1, h, hf⟩ := ec_bi hf
  refine h_getv (v := .int v_1) (C := RX8) (T := TX8) (N := 5) (ci := 7) (k := 0) X hM in_X8 rfl (by decide) q349 rfl (hI_i h) dX8_lines_2 ?_
  refine lv_ishl hx hb dX8_lines_5 ?_
  obtain rfl := Option.some.inj hf
  exact e_iretR hx hb hr hlk dX8_lines_6
theorem hX8_lines : yX8_lines.cls = RX8 ∧ yX8_lines.cls ≠ "java/lang/invoke/MethodHandle" ∧ yX8_lines.cls ≠ "java/lang/invoke/VarHandle" ∧ (parseMethodDescriptor yX8_lines.desc).map (fun d => d.parameters.length) = some 0 := by decide +kernel

noncomputable def fX7_lines_4 (N : Nat) (S : hH) (self : Nat → Option Int32) (kx30 : Nat → Int32 → Option Int32) : Nat → Nat → Int32 → Int32 → Option Int32
  | 0, _, _, _ => none
  | n + 1, x0, x1, x2 =>
    (bI S x0 1).bind fun v_1 =>
    if v_1 ≤ x2 then (
      kx30 x0 x1)
    else (
      (bR S x0 0).bind fun v_2 =>
      (hAr 6 S v_2 x2).bind fun v_3 =>
      (self v_3).bind fun v_4 =>
      ec_lt (x1 ||| v_4) fun x1_5 =>
      ec_lt (x2 + (1 : Int32)) fun x2_6 =>
      (fX7_lines_4 N S self kx30 n) x0 x1_5 x2_6)
theorem bX7_lines_4 {N : Nat} (X : CallFix p m c cX7_lines 3 s args lw_all RX7) (hr : meth.sig.returnType = (some .int)) (hlk : meth.locks = false) {S : hH} (hM : HX D dA [] S (fun _ => True) s s.heap []) {dep : Nat} {self : Nat → Option Int32} (Hself : ∀ (a : Nat) (r : Int32), self a = some r → vm_lines l D dA dep S a r) {res : Int32} {kx30 : Nat → Int32 → Option Int32} (Hkx30 : ∀ (x0 : Nat) (x1 : Int32) (ls : Array Slot), kx30 x0 x1 = some res → lv_has ls 3 [(0, .ref x0), (1, .int x1)] → W p l e (rmL (dep + 1)) s m args below meth c s.heap [] 0 0 (MQ below (k2_QcV (.int res)) args s 0 0 (fun _ => False)) (F0 m 30 ls [])) : ∀ (n : Nat) (x0 : Nat) (x1 : Int32) (x2 : Int32) (ls : Array Slot), fX7_lines_4 N S self kx30 n x0 x1 x2 = some res → lv_has ls 3 [(0, .ref x0), (1, .int x1), (2, .int x2)] → W p l e (rmL (dep + 1)) s m args below meth c s.heap [] 0 0 (MQ below (k2_QcV (.int res)) args s 0 0 (fun _ => False)) (F0 m 4 ls []) := by
  have hx := X.1
  have hb := X.2.1
  intro n
  induction n with
  | zero =>
    intro x0 x1 x2 ls hf hl
    rw [fX7_lines_4] at hf
    cases hf
  | succ n ih =>
    intro x0 x1 x2 ls hf hl
    rw [fX7_lines_4] at hf
    refine lv_iload_n hx hb dX7_lines_4 rfl (lv_at hl 2 rfl) ?_
    refine lv_aload_n hx hb dX7_lines_5 rfl (lv_at hl 0 rfl) ?_
    obtain ⟨v_1, h, hf⟩ := ec_bi hf
    refine h_getB (v := .int v_1) (k := 1) X hM (by decide) q272 rfl (bI_i h) dX7_lines_6 ?_
    refine lv_icmp_ge (tgt := 30) hx hb dX7_lines_9 rfl (fun cnd => ?_) (fun cnd => ?_)
    · have hf := ec_t cnd hf
      exact Hkx30 x0 x1 _ hf (lv_sub hl [0, 1] rfl)
    · have hf := ec_f cnd hf
      refine lv_iload_n hx hb dX7_lines_12 rfl (lv_at hl 1 rfl) ?_
      refine lv_aload_n hx hb dX7_lines_13 rfl (lv_at hl 0 rfl) ?_
      obtain ⟨v_2, h, hf⟩ := ec_bi hf
      refine h_getB (v := .ref v_2) (k := 0) X hM (by decide) q271 rfl (bR_i h) dX7_lines_14 ?_
      refine lv_iload_n hx hb dX7_lines_17 rfl (lv_at hl 2 rfl) ?_
      obtain ⟨v_3, h, hf⟩ := ec_bi hf
      refine h_aald (t := 6) X hM rfl rfl h dX7_lines_18 ?_
      obtain ⟨v_4, h, hf⟩ := ec_bi hf
      refine iV_lines (rest := [.int x1]) X hM (Hself v_3 _ h) (Nat.le_refl _) hl.1 rfl (Nat.le_of_ble_eq_true rfl) ⟨Nat.zero_le _, Nat.zero_le _⟩ dX7_lines_19 ?_
      refine lv_ior hx hb dX7_lines_22 ?_
      refine lv_topi (fun x1_5 ex => ?_)
      have hf := ec_lt_i ex hf
      refine lv_istore_n (lv' := [(1, .int x1_5), (0, .ref x0), (2, .int x2)]) hx hb dX7_lines_23 rfl hl (by decide) rfl (fun ls hl => ?_)
      refine e_inc (w := 1) (f := fun v => [(2, .int v), (1, .int x1_5), (0, .ref x0)]) hx hb dX7_lines_24 hl (k := 2) rfl (by decide) (by decide) (fun _ => rfl) (fun x2_6 ex ls hl => ?_)
      have hf := ec_lt_i ex hf
      refine lv_goto (tgt := 4) hx hb dX7_lines_27 rfl ?_
      exact ih x0 x1_5 x2_6 _ hf (lv_sub hl [2, 1, 0] rfl)
noncomputable def fX7_lines (N : Nat) (S : hH) (self : Nat → Option Int32) (x0 : Nat) : Option Int32 :=
  fX7_lines_4 N S self (fun x0_7 x1_8 =>
    some x1_8) N x0 (0 : Int32) (0 : Int32)
theorem metX7_lines (l : Launch) (D : va_G) (dA : Nat → ClassId) (N : Nat) (S : hH) (dep : Nat) (self : Nat → Option Int32) (Hself : ∀ (a : Nat) (r : Int32), self a = some r → vm_lines l D dA dep S a r) (x0 : Nat) (res : Int32) (hf : fX7_lines N S self x0 = some res) : Met l yX7_lines (ws_ yX7_lines cX7_lines 3 (some .int)) (rmL (dep + 1)) (HPre D dA S [.ref x0]) (k2_QcV (.int res)) 0 0 (fun _ => False) := by
  refine h_ofR rfl (by decide) (Nat.le_of_ble_eq_true rfl) (fun p e s m args below meth c X hr hlk hM ls hl => ?_)
  have hl : lv_has ls 3 [(0, .ref x0)] := hl
  have hx := X.1
  have hb := X.2.1
  unfold fX7_lines at hf
  refine lv_iconst (v := 0) hx hb dX7_lines_0 (by decide) ?_
  refine lv_istore_n (lv' := [(1, .int (0 : Int32)), (0, .ref x0)]) hx hb dX7_lines_1 rfl hl (by decide) rfl (fun ls hl => ?_)
  refine lv_iconst (v := 0) hx hb dX7_lines_2 (by decide) ?_
  refine lv_istore_n (lv' := [(2, .int (0 : Int32)), (1, .int (0 : Int32)), (0, .ref x0)]) hx hb dX7_lines_3 rfl hl (by decide) rfl (fun ls hl => ?_)
  exact bX7_lines_4 X hr hlk hM Hself (fun x0_7 x1_8 ls hf hl => by
    refine lv_iload_n hx hb dX7_lines_30 rfl (lv_at hl 1 rfl) ?_
    obtain rfl := Option.some.inj hf
    exact e_iretR hx hb hr hlk dX7_lines_31) N x0 (0 : Int32) (0 : Int32) _ hf (lv_sub hl [2, 1, 0] rfl)
theorem hX7_lines : yX7_lines.cls = RX7 ∧ yX7_lines.cls ≠ "java/lang/invoke/MethodHandle" ∧ yX7_lines.cls ≠ "java/lang/invoke/VarHandle" ∧ (parseMethodDescriptor yX7_lines.desc).map (fun d => d.parameters.length) = some 0 := by decide +kernel

noncomputable def fV_lines (N : Nat) (S : hH) : Nat → Nat → Option Int32
  | 0, _ => none
  | n + 1, a => match S a with
    | some (.inr z) => if z.1 = 7 then fX8_lines S a else if z.1 = 8 then fX7_lines N S (fV_lines N S n) a else none
    | _ => none
theorem vV_lines (l : Launch) (D : va_G) (dA : Nat → ClassId) (N : Nat) (S : hH) : ∀ (n a : Nat) (r : Int32), fV_lines N S n a = some r → vm_lines l D dA (n) S a r := by
  intro n
  induction n with
  | zero =>
    intro a r hf
    rw [fV_lines] at hf
    cases hf
  | succ n ih =>
    intro a r hf
    rw [fV_lines] at hf
    split at hf
    · rename_i z hz
      by_cases h7 : z.1 = 7
      · rw [if_pos h7] at hf
        exact Or.inl ⟨z.2, by rw [hz, ← h7], metX8_lines l D dA S _ a _ hf⟩
      · rw [if_neg h7] at hf
        by_cases h8 : z.1 = 8
        · rw [if_pos h8] at hf
          exact Or.inr ⟨z.2, by rw [hz, ← h8], metX7_lines l D dA N S (n) (fV_lines N S n) ih a _ hf⟩
        · rw [if_neg h8] at hf; cases hf
    · cases hf

noncomputable def fX8_makes (S : hH) (x0 : Nat) (x1 : Int32) : Option Int32 :=
  (hR 7 S x0 3).bind fun v_1 =>
  (hAi 0 S v_1 x1).bind fun v_2 =>
  some v_2
theorem metX8_makes (l : Launch) (D : va_G) (dA : Nat → ClassId) (S : hH) (dep : Nat) (x0 : Nat) (x1 : Int32) (res : Int32) (hf : fX8_makes S x0 x1 = some res) : Met l yX8_makes (ws_ yX8_makes cX8_makes 2 (some .int)) (rmL dep) (HPre D dA S [.ref x0, .int x1]) (k2_QcV (.int res)) 0 0 (fun _ => False) := by
  refine h_ofR rfl (by decide) (Nat.le_of_ble_eq_true rfl) (fun p e s m args below meth c X hr hlk hM ls hl => ?_)
  have hl : lv_has ls 2 [(0, .ref x0), (1, .int x1)] := hl
  have hx := X.1
  have hb := X.2.1
  unfold fX8_makes at hf
  refine lv_aload_n hx hb dX8_makes_0 rfl (lv_at hl 0 rfl) ?_
  obtain ⟨v_1, h, hf⟩ := ec_bi hf
  refine h_getv (v := .ref v_1) (C := RX8) (T := TX8) (N := 5) (ci := 7) (k := 3) X hM in_X8 rfl (by decide) q354 rfl (hR_i h) dX8_makes_1 ?_
  refine lv_iload_n hx hb dX8_makes_4 rfl (lv_at hl 1 rfl) ?_
  obtain ⟨v_2, h, hf⟩ := ec_bi hf
  refine h_iald X hM h dX8_makes_5 ?_
  obtain rfl := Option.some.inj hf
  exact e_iretR hx hb hr hlk dX8_makes_6
theorem hX8_makes : yX8_makes.cls = RX8 ∧ yX8_makes.cls ≠ "java/lang/invoke/MethodHandle" ∧ yX8_makes.cls ≠ "java/lang/invoke/VarHandle" ∧ (parseMethodDescriptor yX8_makes.desc).map (fun d => d.parameters.length) = some 1 := by decide +kernel

noncomputable def fX7_makes_4 (N : Nat) (S : hH) (self : Nat → Int32 → Option Int32) (kx31 : Nat → Int32 → Option Int32) : Nat → Nat → Int32 → Int32 → Int32 → Option Int32
  | 0, _, _, _, _ => none
  | n + 1, x0, x1, x2, x3 =>
    (bI S x0 1).bind fun v_1 =>
    if v_1 ≤ x3 then (
      kx31 x0 x2)
    else (
      (bR S x0 0).bind fun v_2 =>
      (hAr 6 S v_2 x3).bind fun v_3 =>
      (self v_3 x1).bind fun v_4 =>
      ec_lt (x2 + v_4) fun x2_5 =>
      ec_lt (x3 + (1 : Int32)) fun x3_6 =>
      (fX7_makes_4 N S self kx31 n) x0 x1 x2_5 x3_6)
theorem bX7_makes_4 {N : Nat} (X : CallFix p m c cX7_makes 4 s args lw_all RX7) (hr : meth.sig.returnType = (some .int)) (hlk : meth.locks = false) {S : hH} (hM : HX D dA [] S (fun _ => True) s s.heap []) {dep : Nat} {self : Nat → Int32 → Option Int32} (Hself : ∀ (a : Nat) (a0 : Int32) (r : Int32), self a a0 = some r → vm_makes l D dA dep S a a0 r) {res : Int32} {kx31 : Nat → Int32 → Option Int32} (Hkx31 : ∀ (x0 : Nat) (x2 : Int32) (ls : Array Slot), kx31 x0 x2 = some res → lv_has ls 4 [(0, .ref x0), (2, .int x2)] → W p l e (rmL (dep + 1)) s m args below meth c s.heap [] 0 0 (MQ below (k2_QcV (.int res)) args s 0 0 (fun _ => False)) (F0 m 31 ls [])) : ∀ (n : Nat) (x0 : Nat) (x1 : Int32) (x2 : Int32) (x3 : Int32) (ls : Array Slot), fX7_makes_4 N S self kx31 n x0 x1 x2 x3 = some res → lv_has ls 4 [(0, .ref x0), (1, .int x1), (2, .int x2), (3, .int x3)] → W p l e (rmL (dep + 1)) s m args below meth c s.heap [] 0 0 (MQ below (k2_QcV (.int res)) args s 0 0 (fun _ => False)) (F0 m 4 ls []) := by
  have hx := X.1
  have hb := X.2.1
  intro n
  induction n with
  | zero =>
    intro x0 x1 x2 x3 ls hf hl
    rw [fX7_makes_4] at hf
    cases hf
  | succ n ih =>
    intro x0 x1 x2 x3 ls hf hl
    rw [fX7_makes_4] at hf
    refine lv_iload_n hx hb dX7_makes_4 rfl (lv_at hl 3 rfl) ?_
    refine lv_aload_n hx hb dX7_makes_5 rfl (lv_at hl 0 rfl) ?_
    obtain ⟨v_1, h, hf⟩ := ec_bi hf
    refine h_getB (v := .int v_1) (k := 1) X hM (by decide) q272 rfl (bI_i h) dX7_makes_6 ?_
    refine lv_icmp_ge (tgt := 31) hx hb dX7_makes_9 rfl (fun cnd => ?_) (fun cnd => ?_)
    · have hf := ec_t cnd hf
      exact Hkx31 x0 x2 _ hf (lv_sub hl [0, 2] rfl)
    · have hf := ec_f cnd hf
      refine lv_iload_n hx hb dX7_makes_12 rfl (lv_at hl 2 rfl) ?_
      refine lv_aload_n hx hb dX7_makes_13 rfl (lv_at hl 0 rfl) ?_
      obtain ⟨v_2, h, hf⟩ := ec_bi hf
      refine h_getB (v := .ref v_2) (k := 0) X hM (by decide) q271 rfl (bR_i h) dX7_makes_14 ?_
      refine lv_iload_n hx hb dX7_makes_17 rfl (lv_at hl 3 rfl) ?_
      obtain ⟨v_3, h, hf⟩ := ec_bi hf
      refine h_aald (t := 6) X hM rfl rfl h dX7_makes_18 ?_
      refine lv_iload_n hx hb dX7_makes_19 rfl (lv_at hl 1 rfl) ?_
      obtain ⟨v_4, h, hf⟩ := ec_bi hf
      refine iV_makes (rest := [.int x2]) X hM (Hself v_3 x1 _ h) (Nat.le_refl _) hl.1 rfl (Nat.le_of_ble_eq_true rfl) ⟨Nat.zero_le _, Nat.zero_le _⟩ dX7_makes_20 ?_
      refine lv_iadd hx hb dX7_makes_23 ?_
      refine lv_topi (fun x2_5 ex => ?_)
      have hf := ec_lt_i ex hf
      refine lv_istore_n (lv' := [(2, .int x2_5), (0, .ref x0), (1, .int x1), (3, .int x3)]) hx hb dX7_makes_24 rfl hl (by decide) rfl (fun ls hl => ?_)
      refine e_inc (w := 1) (f := fun v => [(3, .int v), (2, .int x2_5), (0, .ref x0), (1, .int x1)]) hx hb dX7_makes_25 hl (k := 3) rfl (by decide) (by decide) (fun _ => rfl) (fun x3_6 ex ls hl => ?_)
      have hf := ec_lt_i ex hf
      refine lv_goto (tgt := 4) hx hb dX7_makes_28 rfl ?_
      exact ih x0 x1 x2_5 x3_6 _ hf (lv_sub hl [2, 3, 1, 0] rfl)
noncomputable def fX7_makes (N : Nat) (S : hH) (self : Nat → Int32 → Option Int32) (x0 : Nat) (x1 : Int32) : Option Int32 :=
  fX7_makes_4 N S self (fun x0_7 x2_8 =>
    some x2_8) N x0 x1 (0 : Int32) (0 : Int32)
theorem metX7_makes (l : Launch) (D : va_G) (dA : Nat → ClassId) (N : Nat) (S : hH) (dep : Nat) (self : Nat → Int32 → Option Int32) (Hself : ∀ (a : Nat) (a0 : Int32) (r : Int32), self a a0 = some r → vm_makes l D dA dep S a a0 r) (x0 : Nat) (x1 : Int32) (res : Int32) (hf : fX7_makes N S self x0 x1 = some res) : Met l yX7_makes (ws_ yX7_makes cX7_makes 4 (some .int)) (rmL (dep + 1)) (HPre D dA S [.ref x0, .int x1]) (k2_QcV (.int res)) 0 0 (fun _ => False) := by
  refine h_ofR rfl (by decide) (Nat.le_of_ble_eq_true rfl) (fun p e s m args below meth c X hr hlk hM ls hl => ?_)
  have hl : lv_has ls 4 [(0, .ref x0), (1, .int x1)] := hl
  have hx := X.1
  have hb := X.2.1
  unfold fX7_makes at hf
  refine lv_iconst (v := 0) hx hb dX7_makes_0 (by decide) ?_
  refine lv_istore_n (lv' := [(2, .int (0 : Int32)), (0, .ref x0), (1, .int x1)]) hx hb dX7_makes_1 rfl hl (by decide) rfl (fun ls hl => ?_)
  refine lv_iconst (v := 0) hx hb dX7_makes_2 (by decide) ?_
  refine lv_istore_n (lv' := [(3, .int (0 : Int32)), (2, .int (0 : Int32)), (0, .ref x0), (1, .int x1)]) hx hb dX7_makes_3 rfl hl (by decide) rfl (fun ls hl => ?_)
  exact bX7_makes_4 X hr hlk hM Hself (fun x0_7 x2_8 ls hf hl => by
    refine lv_iload_n hx hb dX7_makes_31 rfl (lv_at hl 1 rfl) ?_
    obtain rfl := Option.some.inj hf
    exact e_iretR hx hb hr hlk dX7_makes_32) N x0 x1 (0 : Int32) (0 : Int32) _ hf (lv_sub hl [2, 3, 1, 0] rfl)
theorem hX7_makes : yX7_makes.cls = RX7 ∧ yX7_makes.cls ≠ "java/lang/invoke/MethodHandle" ∧ yX7_makes.cls ≠ "java/lang/invoke/VarHandle" ∧ (parseMethodDescriptor yX7_makes.desc).map (fun d => d.parameters.length) = some 1 := by decide +kernel

noncomputable def fX9_makes (N : Nat) (S : hH) (self : Nat → Int32 → Option Int32) (x0 : Nat) (x1 : Int32) : Option Int32 :=
  (hI 8 S x0 2).bind fun v_1 =>
  (hObj 8 S x0).bind fun w_3 =>
  (fX7_makes N S self x0 x1).bind fun v_2 =>
  some (v_1 * v_2)
theorem metX9_makes (l : Launch) (D : va_G) (dA : Nat → ClassId) (N : Nat) (S : hH) (dep : Nat) (self : Nat → Int32 → Option Int32) (Hself : ∀ (a : Nat) (a0 : Int32) (r : Int32), self a a0 = some r → vm_makes l D dA dep S a a0 r) (x0 : Nat) (x1 : Int32) (res : Int32) (hf : fX9_makes N S self x0 x1 = some res) : Met l yX9_makes (ws_ yX9_makes cX9_makes 2 (some .int)) (rmL (dep + 2)) (HPre D dA S [.ref x0, .int x1]) (k2_QcV (.int res)) 0 0 (fun _ => False) := by
  refine h_ofR rfl (by decide) (Nat.le_of_ble_eq_true rfl) (fun p e s m args below meth c X hr hlk hM ls hl => ?_)
  have hl : lv_has ls 2 [(0, .ref x0), (1, .int x1)] := hl
  have hx := X.1
  have hb := X.2.1
  unfold fX9_makes at hf
  refine lv_aload_n hx hb dX9_makes_0 rfl (lv_at hl 0 rfl) ?_
  obtain ⟨v_1, h, hf⟩ := ec_bi hf
  refine h_getv (v := .int v_1) (C := RX9) (T := TX9) (N := 5) (ci := 8) (k := 2) X hM in_X9 rfl (by decide) q385 rfl (hI_i h) dX9_makes_1 ?_
  refine lv_aload_n hx hb dX9_makes_4 rfl (lv_at hl 0 rfl) ?_
  refine lv_iload_n hx hb dX9_makes_5 rfl (lv_at hl 1 rfl) ?_
  obtain ⟨w_3, ho, hf⟩ := ec_bi hf
  obtain ⟨v_2, h, hf⟩ := ec_bi hf
  refine h_cSU (C := RX9) (T := TX9) (N := 5) (ci := 8) (v := .int v_2) (As := [.int x1]) (rest := [.int v_1]) X hM rfl (hObj_i ho) (metX7_makes l D dA N S dep self Hself x0 x1 _ h) (va_cwSU 1 X.2.2.2.2 (lw_SU q528 q1472 q400 q529 q71 q530) rfl rfl rfl (by decide +kernel) (rm_le (by omega) (Nat.le_of_ble_eq_true rfl))) rfl hl.1 rfl (Nat.le_of_ble_eq_true rfl) ⟨Nat.zero_le _, Nat.zero_le _⟩ dX9_makes_6 ?_
  refine lv_imul hx hb dX9_makes_9 ?_
  obtain rfl := Option.some.inj hf
  exact e_iretR hx hb hr hlk dX9_makes_10
theorem hX9_makes : yX9_makes.cls = RX9 ∧ yX9_makes.cls ≠ "java/lang/invoke/MethodHandle" ∧ yX9_makes.cls ≠ "java/lang/invoke/VarHandle" ∧ (parseMethodDescriptor yX9_makes.desc).map (fun d => d.parameters.length) = some 1 := by decide +kernel

noncomputable def fV_makes (N : Nat) (S : hH) : Nat → Nat → Int32 → Option Int32
  | 0, _, _ => none
  | n + 1, a, x1 => match S a with
    | some (.inr z) => if z.1 = 7 then fX8_makes S a x1 else if z.1 = 8 then fX9_makes N S (fV_makes N S n) a x1 else none
    | _ => none
theorem vV_makes (l : Launch) (D : va_G) (dA : Nat → ClassId) (N : Nat) (S : hH) : ∀ (n a : Nat) (x1 : Int32) (r : Int32), fV_makes N S n a x1 = some r → vm_makes l D dA (2 * n) S a x1 r := by
  intro n
  induction n with
  | zero =>
    intro a x1 r hf
    rw [fV_makes] at hf
    cases hf
  | succ n ih =>
    intro a x1 r hf
    rw [fV_makes] at hf
    split at hf
    · rename_i z hz
      by_cases h7 : z.1 = 7
      · rw [if_pos h7] at hf
        exact Or.inl ⟨z.2, by rw [hz, ← h7], metX8_makes l D dA S _ a x1 _ hf⟩
      · rw [if_neg h7] at hf
        by_cases h8 : z.1 = 8
        · rw [if_pos h8] at hf
          exact Or.inr ⟨z.2, by rw [hz, ← h8], metX9_makes l D dA N S (2 * n) (fV_makes N S n) ih a x1 _ hf⟩
        · rw [if_neg h8] at hf; cases hf
    · cases hf

noncomputable def fX9_makesOnce (N : Nat) (S : hH) (self : Nat → Int32 → Option Int32) (x0 : Nat) (x1 : Int32) : Option Int32 :=
  (hObj 8 S x0).bind fun w_2 =>
  (fX7_makes N S self x0 x1).bind fun v_1 =>
  some v_1
theorem metX9_makesOnce (l : Launch) (D : va_G) (dA : Nat → ClassId) (N : Nat) (S : hH) (dep : Nat) (self : Nat → Int32 → Option Int32) (Hself : ∀ (a : Nat) (a0 : Int32) (r : Int32), self a a0 = some r → vm_makes l D dA dep S a a0 r) (x0 : Nat) (x1 : Int32) (res : Int32) (hf : fX9_makesOnce N S self x0 x1 = some res) : Met l yX9_makesOnce (ws_ yX9_makesOnce cX9_makesOnce 2 (some .int)) (rmL (dep + 2)) (HPre D dA S [.ref x0, .int x1]) (k2_QcV (.int res)) 0 0 (fun _ => False) := by
  refine h_ofR rfl (by decide) (Nat.le_of_ble_eq_true rfl) (fun p e s m args below meth c X hr hlk hM ls hl => ?_)
  have hl : lv_has ls 2 [(0, .ref x0), (1, .int x1)] := hl
  have hx := X.1
  have hb := X.2.1
  unfold fX9_makesOnce at hf
  refine lv_aload_n hx hb dX9_makesOnce_0 rfl (lv_at hl 0 rfl) ?_
  refine lv_iload_n hx hb dX9_makesOnce_1 rfl (lv_at hl 1 rfl) ?_
  obtain ⟨w_2, ho, hf⟩ := ec_bi hf
  obtain ⟨v_1, h, hf⟩ := ec_bi hf
  refine h_cSU (C := RX9) (T := TX9) (N := 5) (ci := 8) (v := .int v_1) (As := [.int x1]) (rest := []) X hM rfl (hObj_i ho) (metX7_makes l D dA N S dep self Hself x0 x1 _ h) (va_cwSU 1 X.2.2.2.2 (lw_SU q528 q1472 q400 q529 q71 q530) rfl rfl rfl (by decide +kernel) (rm_le (by omega) (Nat.le_of_ble_eq_true rfl))) rfl hl.1 rfl (Nat.le_of_ble_eq_true rfl) ⟨Nat.zero_le _, Nat.zero_le _⟩ dX9_makesOnce_2 ?_
  obtain rfl := Option.some.inj hf
  exact e_iretR hx hb hr hlk dX9_makesOnce_5
theorem hX9_makesOnce : yX9_makesOnce.cls = RX9 ∧ yX9_makesOnce.cls ≠ "java/lang/invoke/MethodHandle" ∧ yX9_makesOnce.cls ≠ "java/lang/invoke/VarHandle" ∧ (parseMethodDescriptor yX9_makesOnce.desc).map (fun d => d.parameters.length) = some 1 := by decide +kernel

noncomputable def fX8_lays (S : hH) (x0 : Nat) (x1 : Nat) (x2 : Int32) : Option (Int32 × hH) :=
  (hI 7 S x0 0).bind fun v_1 =>
  (hAsI 0 S x1 x2 v_1).bind fun h_2 =>
  (hI 7 h_2 x0 4).bind fun v_3 =>
  (hPut 7 h_2 x0 4 (.int (v_3 + (1 : Int32)))).bind fun h_4 =>
  some ((x2 + (1 : Int32)), h_4)
theorem metX8_lays (l : Launch) (D : va_G) (dA : Nat → ClassId) (S : hH) (dep : Nat) (x0 : Nat) (x1 : Nat) (x2 : Int32) (res : Int32) (Sr : hH) (hf : fX8_lays S x0 x1 x2 = some (res, Sr)) : Met l yX8_lays (ws_ yX8_lays cX8_lays 3 (some .int)) (rmL dep) (HPre D dA S [.ref x0, .ref x1, .int x2]) (HPost D dA (HA S) (some (.int res)) Sr) 0 0 (HA S) := by
  refine h_ofW rfl (by decide) (Nat.le_of_ble_eq_true rfl) (fun A p e s m args below meth c X hr hlk hM ls hl => ?_)
  have hl : lv_has ls 3 [(0, .ref x0), (1, .ref x1), (2, .int x2)] := hl
  have hx := X.1
  have hb := X.2.1
  unfold fX8_lays at hf
  refine lv_aload_n hx hb dX8_lays_0 rfl (lv_at hl 1 rfl) ?_
  refine lv_iload_n hx hb dX8_lays_1 rfl (lv_at hl 2 rfl) ?_
  refine lv_aload_n hx hb dX8_lays_2 rfl (lv_at hl 0 rfl) ?_
  obtain ⟨v_1, h, hf⟩ := ec_bi hf
  refine h_getv (v := .int v_1) (C := RX8) (T := TX8) (N := 5) (ci := 7) (k := 0) X hM in_X8 rfl (by decide) q349 rfl (hI_i h) dX8_lays_3 ?_
  obtain ⟨h_2, h, hf⟩ := ec_bi hf
  refine h_iast X hM h dX8_lays_6 (fun H locs hM => ?_)
  refine lv_aload_n hx hb dX8_lays_7 rfl (lv_at hl 0 rfl) ?_
  refine lv_dup hx hb dX8_lays_8 rfl ?_
  obtain ⟨v_3, h, hf⟩ := ec_bi hf
  refine h_getv (v := .int v_3) (C := RX8) (T := TX8) (N := 5) (ci := 7) (k := 4) X hM in_X8 rfl (by decide) q357 rfl (hI_i h) dX8_lays_9 ?_
  refine lv_iconst (v := 1) hx hb dX8_lays_12 (by decide) ?_
  refine lv_iadd hx hb dX8_lays_13 ?_
  obtain ⟨h_4, h, hf⟩ := ec_bi hf
  refine h_put (C := RX8) (T := TX8) (N := 5) (ci := 7) (k := 4) (ty := .int) tyX8 tyX8_ok nmX8 X hM in_X8 rfl (by decide) q357 rfl rfl (by decide +kernel) rfl rfl h dX8_lays_14 (fun H locs hM => ?_)
  refine lv_iload_n hx hb dX8_lays_17 rfl (lv_at hl 2 rfl) ?_
  refine lv_iconst (v := 1) hx hb dX8_lays_18 (by decide) ?_
  refine lv_iadd hx hb dX8_lays_19 ?_
  obtain ⟨rfl, rfl⟩ := Prod.mk.inj (Option.some.inj hf)
  exact h_iret X hr hlk hM dX8_lays_20
theorem hX8_lays : yX8_lays.cls = RX8 ∧ yX8_lays.cls ≠ "java/lang/invoke/MethodHandle" ∧ yX8_lays.cls ≠ "java/lang/invoke/VarHandle" ∧ (parseMethodDescriptor yX8_lays.desc).map (fun d => d.parameters.length) = some 2 := by decide +kernel

noncomputable def fX7_lays_5 (N : Nat) (self : hH → Nat → Nat → Int32 → Option (Int32 × hH)) (kx33 : hH → Nat → Int32 → Option (Int32 × hH)) : Nat → hH → Nat → Nat → Int32 → Int32 → Option (Int32 × hH)
  | 0, _, _, _, _, _ => none
  | n + 1, S, x0, x1, x3, x4 =>
    (bI S x0 1).bind fun v_1 =>
    if v_1 ≤ x4 then (
      kx33 S x0 x3)
    else (
      (bR S x0 0).bind fun v_2 =>
      (hAr 6 S v_2 x4).bind fun v_3 =>
      ec_b2 (self S v_3 x1 x3) fun v_4 h_5 =>
      ec_lt (x4 + (1 : Int32)) fun x4_6 =>
      (fX7_lays_5 N self kx33 n) h_5 x0 x1 v_4 x4_6)
theorem bX7_lays_5 {N : Nat} (X : CallFix p m c cX7_lays 5 s args lw_all RX7) (hr : meth.sig.returnType = (some .int)) (hlk : meth.locks = false) {dep : Nat} {self : hH → Nat → Nat → Int32 → Option (Int32 × hH)} (Hself : ∀ (h : hH) (a : Nat) (a0 : Nat) (a1 : Int32) (r : Int32) (h1 : hH), self h a a0 a1 = some (r, h1) → vm_lays l D dA dep h a a0 a1 r h1) {res : Int32} {Sr : hH} {kx33 : hH → Nat → Int32 → Option (Int32 × hH)} (Hkx33 : ∀ (S : hH) (x0 : Nat) (x3 : Int32) (H : Heap) (locs : List Loc) (ls : Array Slot), kx33 S x0 x3 = some (res, Sr) → HX D dA [] S A s H locs → lv_has ls 5 [(0, .ref x0), (3, .int x3)] → W p l e (rmL (dep + 1)) s m args below meth c H locs 0 0 (MQ below (HPost D dA A (some (.int res)) Sr) args s 0 0 A) (F0 m 33 ls [])) : ∀ (n : Nat) (S : hH) (x0 : Nat) (x1 : Nat) (x3 : Int32) (x4 : Int32) (H : Heap) (locs : List Loc) (ls : Array Slot), fX7_lays_5 N self kx33 n S x0 x1 x3 x4 = some (res, Sr) → HX D dA [] S A s H locs → lv_has ls 5 [(0, .ref x0), (1, .ref x1), (3, .int x3), (4, .int x4)] → W p l e (rmL (dep + 1)) s m args below meth c H locs 0 0 (MQ below (HPost D dA A (some (.int res)) Sr) args s 0 0 A) (F0 m 5 ls []) := by
  have hx := X.1
  have hb := X.2.1
  intro n
  induction n with
  | zero =>
    intro S x0 x1 x3 x4 H locs ls hf hM hl
    rw [fX7_lays_5] at hf
    cases hf
  | succ n ih =>
    intro S x0 x1 x3 x4 H locs ls hf hM hl
    rw [fX7_lays_5] at hf
    refine lv_iload hx hb dX7_lays_5 (lv_at hl 3 rfl) ?_
    refine lv_aload_n hx hb dX7_lays_7 rfl (lv_at hl 0 rfl) ?_
    obtain ⟨v_1, h, hf⟩ := ec_bi hf
    refine h_getB (v := .int v_1) (k := 1) X hM (by decide) q272 rfl (bI_i h) dX7_lays_8 ?_
    refine lv_icmp_ge (tgt := 33) hx hb dX7_lays_11 rfl (fun cnd => ?_) (fun cnd => ?_)
    · have hf := ec_t cnd hf
      exact Hkx33 S x0 x3 _ _ _ hf hM (lv_sub hl [0, 2] rfl)
    · have hf := ec_f cnd hf
      refine lv_aload_n hx hb dX7_lays_14 rfl (lv_at hl 0 rfl) ?_
      obtain ⟨v_2, h, hf⟩ := ec_bi hf
      refine h_getB (v := .ref v_2) (k := 0) X hM (by decide) q271 rfl (bR_i h) dX7_lays_15 ?_
      refine lv_iload hx hb dX7_lays_18 (lv_at hl 3 rfl) ?_
      obtain ⟨v_3, h, hf⟩ := ec_bi hf
      refine h_aald (t := 6) X hM rfl rfl h dX7_lays_20 ?_
      refine lv_aload_n hx hb dX7_lays_21 rfl (lv_at hl 1 rfl) ?_
      refine lv_iload_n hx hb dX7_lays_22 rfl (lv_at hl 2 rfl) ?_
      obtain ⟨v_4, h_5, h, hf⟩ := ec_b2i hf
      refine iV_lays (rest := []) X hM (Hself S v_3 x1 x3 _ _ h) (Nat.le_refl _) hl.1 rfl (Nat.le_of_ble_eq_true rfl) ⟨Nat.zero_le _, Nat.zero_le _⟩ dX7_lays_23 (fun H locs hM => ?_)
      refine lv_istore_n (lv' := [(3, .int v_4), (0, .ref x0), (1, .ref x1), (4, .int x4)]) hx hb dX7_lays_26 rfl hl (by decide) rfl (fun ls hl => ?_)
      refine e_inc (w := 1) (f := fun v => [(4, .int v), (3, .int v_4), (0, .ref x0), (1, .ref x1)]) hx hb dX7_lays_27 hl (k := 3) rfl (by decide) (by decide) (fun _ => rfl) (fun x4_6 ex ls hl => ?_)
      have hf := ec_lt_i ex hf
      refine lv_goto (tgt := 5) hx hb dX7_lays_30 rfl ?_
      exact ih h_5 x0 x1 v_4 x4_6 _ _ _ hf hM (lv_sub hl [2, 3, 1, 0] rfl)
noncomputable def fX7_lays (N : Nat) (S : hH) (self : hH → Nat → Nat → Int32 → Option (Int32 × hH)) (x0 : Nat) (x1 : Nat) (x2 : Int32) : Option (Int32 × hH) :=
  fX7_lays_5 N self (fun S_7 x0_8 x3_9 =>
    some (x3_9, S_7)) N S x0 x1 x2 (0 : Int32)
theorem metX7_lays (l : Launch) (D : va_G) (dA : Nat → ClassId) (N : Nat) (S : hH) (dep : Nat) (self : hH → Nat → Nat → Int32 → Option (Int32 × hH)) (Hself : ∀ (h : hH) (a : Nat) (a0 : Nat) (a1 : Int32) (r : Int32) (h1 : hH), self h a a0 a1 = some (r, h1) → vm_lays l D dA dep h a a0 a1 r h1) (x0 : Nat) (x1 : Nat) (x2 : Int32) (res : Int32) (Sr : hH) (hf : fX7_lays N S self x0 x1 x2 = some (res, Sr)) : Met l yX7_lays (ws_ yX7_lays cX7_lays 5 (some .int)) (rmL (dep + 1)) (HPre D dA S [.ref x0, .ref x1, .int x2]) (HPost D dA (HA S) (some (.int res)) Sr) 0 0 (HA S) := by
  refine h_ofW rfl (by decide) (Nat.le_of_ble_eq_true rfl) (fun A p e s m args below meth c X hr hlk hM ls hl => ?_)
  have hl : lv_has ls 5 [(0, .ref x0), (1, .ref x1), (2, .int x2)] := hl
  have hx := X.1
  have hb := X.2.1
  unfold fX7_lays at hf
  refine lv_iload_n hx hb dX7_lays_0 rfl (lv_at hl 2 rfl) ?_
  refine lv_istore_n (lv' := [(3, .int x2), (0, .ref x0), (1, .ref x1), (2, .int x2)]) hx hb dX7_lays_1 rfl hl (by decide) rfl (fun ls hl => ?_)
  refine lv_iconst (v := 0) hx hb dX7_lays_2 (by decide) ?_
  refine lv_istore (lv' := [(4, .int (0 : Int32)), (3, .int x2), (0, .ref x0), (1, .ref x1), (2, .int x2)]) hx hb dX7_lays_3 hl (by decide) rfl (fun ls hl => ?_)
  exact bX7_lays_5 X hr hlk Hself (fun S_7 x0_8 x3_9 H locs ls hf hM hl => by
    refine lv_iload_n hx hb dX7_lays_33 rfl (lv_at hl 1 rfl) ?_
    obtain ⟨rfl, rfl⟩ := Prod.mk.inj (Option.some.inj hf)
    exact h_iret X hr hlk hM dX7_lays_34) N S x0 x1 x2 (0 : Int32) _ _ _ hf hM (lv_sub hl [2, 3, 1, 0] rfl)
theorem hX7_lays : yX7_lays.cls = RX7 ∧ yX7_lays.cls ≠ "java/lang/invoke/MethodHandle" ∧ yX7_lays.cls ≠ "java/lang/invoke/VarHandle" ∧ (parseMethodDescriptor yX7_lays.desc).map (fun d => d.parameters.length) = some 2 := by decide +kernel

noncomputable def fX9_lays_5 (N : Nat) (self : hH → Nat → Nat → Int32 → Option (Int32 × hH)) (kx36 : hH → Nat → Int32 → Option (Int32 × hH)) : Nat → hH → Nat → Nat → Int32 → Int32 → Option (Int32 × hH)
  | 0, _, _, _, _, _ => none
  | n + 1, S, x0, x1, x3, x4 =>
    (hI 8 S x0 2).bind fun v_1 =>
    if v_1 ≤ x4 then (
      kx36 S x0 x3)
    else (
      (hObj 8 S x0).bind fun w_3 =>
      (fX7_steps N S (fV_steps N S 8) x0).bind fun v_2 =>
      if (lg_cmp v_2 (0 : Int64)) ≤ 0 then (
        kx36 S x0 x3)
      else (
        (hObj 8 S x0).bind fun w_6 =>
        ec_b2 (fX7_lays N S self x0 x1 x3) fun v_4 h_5 =>
        ec_lt (x4 + (1 : Int32)) fun x4_7 =>
        (fX9_lays_5 N self kx36 n) h_5 x0 x1 v_4 x4_7))
theorem bX9_lays_5 {N : Nat} (X : CallFix p m c cX9_lays 5 s args lw_all RX9) (hr : meth.sig.returnType = (some .int)) (hlk : meth.locks = false) {dep : Nat} {self : hH → Nat → Nat → Int32 → Option (Int32 × hH)} (Hself : ∀ (h : hH) (a : Nat) (a0 : Nat) (a1 : Int32) (r : Int32) (h1 : hH), self h a a0 a1 = some (r, h1) → vm_lays l D dA dep h a a0 a1 r h1) {res : Int32} {Sr : hH} {kx36 : hH → Nat → Int32 → Option (Int32 × hH)} (Hkx36 : ∀ (S : hH) (x0 : Nat) (x3 : Int32) (H : Heap) (locs : List Loc) (ls : Array Slot), kx36 S x0 x3 = some (res, Sr) → HX D dA [] S A s H locs → lv_has ls 5 [(0, .ref x0), (3, .int x3)] → W p l e (rmL (dep + 20)) s m args below meth c H locs 0 0 (MQ below (HPost D dA A (some (.int res)) Sr) args s 0 0 A) (F0 m 36 ls [])) : ∀ (n : Nat) (S : hH) (x0 : Nat) (x1 : Nat) (x3 : Int32) (x4 : Int32) (H : Heap) (locs : List Loc) (ls : Array Slot), fX9_lays_5 N self kx36 n S x0 x1 x3 x4 = some (res, Sr) → HX D dA [] S A s H locs → lv_has ls 5 [(0, .ref x0), (1, .ref x1), (3, .int x3), (4, .int x4)] → W p l e (rmL (dep + 20)) s m args below meth c H locs 0 0 (MQ below (HPost D dA A (some (.int res)) Sr) args s 0 0 A) (F0 m 5 ls []) := by
  have hx := X.1
  have hb := X.2.1
  intro n
  induction n with
  | zero =>
    intro S x0 x1 x3 x4 H locs ls hf hM hl
    rw [fX9_lays_5] at hf
    cases hf
  | succ n ih =>
    intro S x0 x1 x3 x4 H locs ls hf hM hl
    rw [fX9_lays_5] at hf
    refine lv_iload hx hb dX9_lays_5 (lv_at hl 3 rfl) ?_
    refine lv_aload_n hx hb dX9_lays_7 rfl (lv_at hl 0 rfl) ?_
    obtain ⟨v_1, h, hf⟩ := ec_bi hf
    refine h_getv (v := .int v_1) (C := RX9) (T := TX9) (N := 5) (ci := 8) (k := 2) X hM in_X9 rfl (by decide) q385 rfl (hI_i h) dX9_lays_8 ?_
    refine lv_icmp_ge (tgt := 36) hx hb dX9_lays_11 rfl (fun cnd => ?_) (fun cnd => ?_)
    · have hf := ec_t cnd hf
      exact Hkx36 S x0 x3 _ _ _ hf hM (lv_sub hl [0, 2] rfl)
    · have hf := ec_f cnd hf
      refine lv_aload_n hx hb dX9_lays_14 rfl (lv_at hl 0 rfl) ?_
      obtain ⟨w_3, ho, hf⟩ := ec_bi hf
      obtain ⟨v_2, h, hf⟩ := ec_bi hf
      refine h_cSU (C := RX9) (T := TX9) (N := 5) (ci := 8) (v := .long v_2) (As := []) (rest := []) X hM rfl (hObj_i ho) (metX7_steps l D dA N S 16 (fV_steps N S 8) (vV_steps l D dA N S 8) x0 _ h) (va_cwSU 0 X.2.2.2.2 (lw_SU q421 q417 q400 q415 q71 q422) rfl rfl rfl (by decide +kernel) (rm_le (by omega) (Nat.le_of_ble_eq_true rfl))) rfl hl.1 rfl (Nat.le_of_ble_eq_true rfl) ⟨Nat.zero_le _, Nat.zero_le _⟩ dX9_lays_15 ?_
      refine lv_lconst (v := 0) hx hb dX9_lays_18 (by decide) ?_
      refine W.lcmp hx hb dX9_lays_19 ?_
      refine lv_if_le (tgt := 36) hx hb dX9_lays_20 rfl (fun cnd => ?_) (fun cnd => ?_)
      · have hf := ec_t cnd hf
        exact Hkx36 S x0 x3 _ _ _ hf hM (lv_sub hl [0, 2] rfl)
      · have hf := ec_f cnd hf
        refine lv_aload_n hx hb dX9_lays_23 rfl (lv_at hl 0 rfl) ?_
        refine lv_aload_n hx hb dX9_lays_24 rfl (lv_at hl 1 rfl) ?_
        refine lv_iload_n hx hb dX9_lays_25 rfl (lv_at hl 2 rfl) ?_
        obtain ⟨w_6, ho, hf⟩ := ec_bi hf
        obtain ⟨v_4, h_5, h, hf⟩ := ec_b2i hf
        refine h_cSUW (C := RX9) (T := TX9) (N := 5) (ci := 8) (v := .int v_4) (As := [.ref x1, .int x3]) (rest := []) X hM rfl (hObj_i ho) (metX7_lays l D dA N S dep self Hself x0 x1 x3 _ _ h) (va_cwSU 2 X.2.2.2.2 (lw_SU q444 q440 q400 q438 q71 q445) rfl rfl rfl (by decide +kernel) (rm_le (by omega) (Nat.le_of_ble_eq_true rfl))) rfl hl.1 rfl (Nat.le_of_ble_eq_true rfl) ⟨Nat.zero_le _, Nat.zero_le _⟩ dX9_lays_26 (fun H locs hM => ?_)
        refine lv_istore_n (lv' := [(3, .int v_4), (0, .ref x0), (1, .ref x1), (4, .int x4)]) hx hb dX9_lays_29 rfl hl (by decide) rfl (fun ls hl => ?_)
        refine e_inc (w := 1) (f := fun v => [(4, .int v), (3, .int v_4), (0, .ref x0), (1, .ref x1)]) hx hb dX9_lays_30 hl (k := 3) rfl (by decide) (by decide) (fun _ => rfl) (fun x4_7 ex ls hl => ?_)
        have hf := ec_lt_i ex hf
        refine lv_goto (tgt := 5) hx hb dX9_lays_33 rfl ?_
        exact ih h_5 x0 x1 v_4 x4_7 _ _ _ hf hM (lv_sub hl [2, 3, 1, 0] rfl)
noncomputable def fX9_lays_36 (N : Nat) (self : hH → Nat → Nat → Int32 → Option (Int32 × hH)) (S : hH) (x0 : Nat) (x3 : Int32) : Option (Int32 × hH) :=
  some (x3, S)
theorem bX9_lays_36 {N : Nat} (X : CallFix p m c cX9_lays 5 s args lw_all RX9) (hr : meth.sig.returnType = (some .int)) (hlk : meth.locks = false) {dep : Nat} {self : hH → Nat → Nat → Int32 → Option (Int32 × hH)} (Hself : ∀ (h : hH) (a : Nat) (a0 : Nat) (a1 : Int32) (r : Int32) (h1 : hH), self h a a0 a1 = some (r, h1) → vm_lays l D dA dep h a a0 a1 r h1) {res : Int32} {Sr : hH} : ∀ (S : hH) (x0 : Nat) (x3 : Int32) (H : Heap) (locs : List Loc) (ls : Array Slot), fX9_lays_36 N self S x0 x3 = some (res, Sr) → HX D dA [] S A s H locs → lv_has ls 5 [(0, .ref x0), (3, .int x3)] → W p l e (rmL (dep + 20)) s m args below meth c H locs 0 0 (MQ below (HPost D dA A (some (.int res)) Sr) args s 0 0 A) (F0 m 36 ls []) := by
  have hx := X.1
  have hb := X.2.1
  intro S x0 x3 H locs ls hf hM hl
  unfold fX9_lays_36 at hf
  refine lv_iload_n hx hb dX9_lays_36 rfl (lv_at hl 1 rfl) ?_
  obtain ⟨rfl, rfl⟩ := Prod.mk.inj (Option.some.inj hf)
  exact h_iret X hr hlk hM dX9_lays_37
noncomputable def fX9_lays (N : Nat) (S : hH) (self : hH → Nat → Nat → Int32 → Option (Int32 × hH)) (x0 : Nat) (x1 : Nat) (x2 : Int32) : Option (Int32 × hH) :=
  fX9_lays_5 N self (fun S_8 x0_9 x3_10 =>
    fX9_lays_36 N self S_8 x0_9 x3_10) N S x0 x1 x2 (0 : Int32)
theorem metX9_lays (l : Launch) (D : va_G) (dA : Nat → ClassId) (N : Nat) (S : hH) (dep : Nat) (self : hH → Nat → Nat → Int32 → Option (Int32 × hH)) (Hself : ∀ (h : hH) (a : Nat) (a0 : Nat) (a1 : Int32) (r : Int32) (h1 : hH), self h a a0 a1 = some (r, h1) → vm_lays l D dA dep h a a0 a1 r h1) (x0 : Nat) (x1 : Nat) (x2 : Int32) (res : Int32) (Sr : hH) (hf : fX9_lays N S self x0 x1 x2 = some (res, Sr)) : Met l yX9_lays (ws_ yX9_lays cX9_lays 5 (some .int)) (rmL (dep + 20)) (HPre D dA S [.ref x0, .ref x1, .int x2]) (HPost D dA (HA S) (some (.int res)) Sr) 0 0 (HA S) := by
  refine h_ofW rfl (by decide) (Nat.le_of_ble_eq_true rfl) (fun A p e s m args below meth c X hr hlk hM ls hl => ?_)
  have hl : lv_has ls 5 [(0, .ref x0), (1, .ref x1), (2, .int x2)] := hl
  have hx := X.1
  have hb := X.2.1
  unfold fX9_lays at hf
  refine lv_iload_n hx hb dX9_lays_0 rfl (lv_at hl 2 rfl) ?_
  refine lv_istore_n (lv' := [(3, .int x2), (0, .ref x0), (1, .ref x1), (2, .int x2)]) hx hb dX9_lays_1 rfl hl (by decide) rfl (fun ls hl => ?_)
  refine lv_iconst (v := 0) hx hb dX9_lays_2 (by decide) ?_
  refine lv_istore (lv' := [(4, .int (0 : Int32)), (3, .int x2), (0, .ref x0), (1, .ref x1), (2, .int x2)]) hx hb dX9_lays_3 hl (by decide) rfl (fun ls hl => ?_)
  exact bX9_lays_5 X hr hlk Hself (fun S_8 x0_9 x3_10 H locs ls hf hM hl => by
    exact bX9_lays_36 X hr hlk Hself S_8 x0_9 x3_10 _ _ _ hf hM hl) N S x0 x1 x2 (0 : Int32) _ _ _ hf hM (lv_sub hl [2, 3, 1, 0] rfl)
theorem hX9_lays : yX9_lays.cls = RX9 ∧ yX9_lays.cls ≠ "java/lang/invoke/MethodHandle" ∧ yX9_lays.cls ≠ "java/lang/invoke/VarHandle" ∧ (parseMethodDescriptor yX9_lays.desc).map (fun d => d.parameters.length) = some 2 := by decide +kernel

noncomputable def fV_lays (N : Nat) : Nat → hH → Nat → Nat → Int32 → Option (Int32 × hH)
  | 0, _, _, _, _ => none
  | n + 1, S, a, x1, x2 => match S a with
    | some (.inr z) => if z.1 = 7 then fX8_lays S a x1 x2 else if z.1 = 8 then fX9_lays N S (fV_lays N n) a x1 x2 else none
    | _ => none
theorem vV_lays (l : Launch) (D : va_G) (dA : Nat → ClassId) (N : Nat) : ∀ (n : Nat) (S : hH) (a : Nat) (x1 : Nat) (x2 : Int32) (r : Int32) (h1 : hH), fV_lays N n S a x1 x2 = some (r, h1) → vm_lays l D dA (20 * n) S a x1 x2 r h1 := by
  intro n
  induction n with
  | zero =>
    intro S a x1 x2 r h1 hf
    rw [fV_lays] at hf
    cases hf
  | succ n ih =>
    intro S a x1 x2 r h1 hf
    rw [fV_lays] at hf
    split at hf
    · rename_i z hz
      by_cases h7 : z.1 = 7
      · rw [if_pos h7] at hf
        exact Or.inl ⟨z.2, by rw [hz, ← h7], metX8_lays l D dA S _ a x1 x2 _ _ hf⟩
      · rw [if_neg h7] at hf
        by_cases h8 : z.1 = 8
        · rw [if_pos h8] at hf
          exact Or.inr ⟨z.2, by rw [hz, ← h8], metX9_lays l D dA N S (20 * n) (fV_lays N n) ih a x1 x2 _ _ hf⟩
        · rw [if_neg h8] at hf; cases hf
    · cases hf

theorem gX0_132 : GoodIn lw_all (wsV RX0 132 RX0 yX0_isLoop (ws_ yX0_isLoop cX0_isLoop 2 (some .boolean))) := lw_V q500 q502 qs14 q60 q503
theorem gX0_145 : GoodIn lw_all (wsV RX0 145 RX9 yX9_steps (ws_ yX9_steps cX9_steps 1 (some .long))) := lw_V q518 q419 q1471 q77 q420
noncomputable def fX0_loop (N : Nat) (S : sX) (x1 : Int32) (x2 : Int32) : Option Int32 :=
  (fX0_isLoop S x1).bind fun v_1 =>
  if ¬ v_1 = 0 then (
    (hAr 5 S.2.2.2 (S.2.2.1 5) x1).bind fun v_2 =>
    if x2 = (0 : Int32) then (
      (hI 8 S.2.2.2 v_2 2).bind fun v_3 =>
      some v_3)
    else if x2 = (1 : Int32) then (
      (hI 8 S.2.2.2 v_2 3).bind fun v_4 =>
      some v_4)
    else if x2 = (2 : Int32) then (
      (hObj 8 S.2.2.2 v_2).bind fun w_5 =>
      (fX7_lines N S.2.2.2 (fV_lines N S.2.2.2 8) v_2).bind fun v_6 =>
      some v_6)
    else if x2 = (3 : Int32) then (
      (hI 8 S.2.2.2 v_2 4).bind fun v_7 =>
      some v_7)
    else if x2 = (4 : Int32) then (
      (hI 8 S.2.2.2 v_2 4).bind fun v_8 =>
      (hObj 8 S.2.2.2 v_2).bind fun w_9 =>
      (fX9_steps N S.2.2.2 (fV_steps N S.2.2.2 8) v_2).bind fun v_10 =>
      some (((v_8.toInt64) * v_10).toInt32))
    else (
      some (-1 : Int32)))
  else (
    some (-1 : Int32))
theorem metX0_loop (l : Launch) (D : va_G) (dA : Nat → ClassId) (o : Nat) (q : Nat → Nat) (N : Nat) (S : sX) (x1 : Int32) (x2 : Int32) (res : Int32) (hf : fX0_loop N S x1 x2 = some res) : Met l yX0_loop (ws_ yX0_loop cX0_loop 4 (some .int)) (rmL 19) (XPre D dA o q S [.int x1, .int x2]) (k2_QcV (.int res)) 0 0 (fun _ => False) := by
  refine x_ofR rfl (Nat.le_of_ble_eq_true rfl) (fun p e s m args below meth c X hr hlk hM ls hl => ?_)
  have hl : lv_has ls 4 [(0, .ref o), (1, .int x1), (2, .int x2)] := hl
  have hx := X.1
  have hb := X.2.1
  unfold fX0_loop at hf
  refine lv_aload_n hx hb dX0_loop_0 rfl (lv_at hl 0 rfl) ?_
  refine lv_iload_n hx hb dX0_loop_1 rfl (lv_at hl 1 rfl) ?_
  obtain ⟨v_1, h, hf⟩ := ec_bi hf
  refine x_cR (v := .int v_1) (As := [.int x1]) (rest := []) X hM (metX0_isLoop l D dA o q S x1 _ h) (cwV 1 X.2.2.2.2 gX0_132 rfl rfl rfl hX0_isLoop (rm_le (Nat.le_of_ble_eq_true rfl) (Nat.le_of_ble_eq_true rfl))) rfl hl.1 rfl (Nat.le_of_ble_eq_true rfl) ⟨Nat.zero_le _, Nat.zero_le _⟩ dX0_loop_2 ?_
  refine lv_if_ne (tgt := 10) hx hb dX0_loop_5 rfl (fun cnd => ?_) (fun cnd => ?_)
  · have hf := ec_t cnd hf
    refine lv_aload_n hx hb dX0_loop_10 rfl (lv_at hl 0 rfl) ?_
    refine x_get (v := .ref (S.2.2.1 5)) X hM 5 (by decide) q773 rfl rfl dX0_loop_11 ?_
    refine lv_iload_n hx hb dX0_loop_14 rfl (lv_at hl 1 rfl) ?_
    obtain ⟨v_2, h, hf⟩ := ec_bi hf
    refine h_aald (t := 5) X hM rfl rfl h dX0_loop_15 ?_
    refine lv_astore_n (lv' := [(3, .ref v_2), (0, .ref o), (1, .int x1), (2, .int x2)]) hx hb dX0_loop_16 rfl hl (by decide) rfl (fun ls hl => ?_)
    refine lv_iload_n hx hb dX0_loop_17 rfl (lv_at hl 3 rfl) ?_
    by_cases c0 : x2 = (0 : Int32)
    · have hf := ec_t c0 hf
      refine lv_tableIn (off := 34) (tgt := 52) hx hb dX0_loop_18 (by rw [c0]; decide) (by rw [c0]; decide) (by rw [c0]; rfl) rfl ?_
      refine lv_aload_n hx hb dX0_loop_52 rfl (lv_at hl 0 rfl) ?_
      obtain ⟨v_3, h, hf⟩ := ec_bi hf
      refine h_getvN (v := .int v_3) (C := RX9) (T := TX9) (N := 5) (ci := 8) (k := 2) (host := "EventCounters") X hM in_X9 rfl (by decide) (xn_at hM.2.1 25 rfl) rfl (hI_i h) dX0_loop_53 ?_
      obtain rfl := Option.some.inj hf
      exact e_iretR hx hb hr hlk dX0_loop_56
    have hf := ec_f c0 hf
    by_cases c1 : x2 = (1 : Int32)
    · have hf := ec_t c1 hf
      refine lv_tableIn (off := 39) (tgt := 57) hx hb dX0_loop_18 (by rw [c1]; decide) (by rw [c1]; decide) (by rw [c1]; rfl) rfl ?_
      refine lv_aload_n hx hb dX0_loop_57 rfl (lv_at hl 0 rfl) ?_
      obtain ⟨v_4, h, hf⟩ := ec_bi hf
      refine h_getvN (v := .int v_4) (C := RX9) (T := TX9) (N := 5) (ci := 8) (k := 3) (host := "EventCounters") X hM in_X9 rfl (by decide) (xn_at hM.2.1 26 rfl) rfl (hI_i h) dX0_loop_58 ?_
      obtain rfl := Option.some.inj hf
      exact e_iretR hx hb hr hlk dX0_loop_61
    have hf := ec_f c1 hf
    by_cases c2 : x2 = (2 : Int32)
    · have hf := ec_t c2 hf
      refine lv_tableIn (off := 44) (tgt := 62) hx hb dX0_loop_18 (by rw [c2]; decide) (by rw [c2]; decide) (by rw [c2]; rfl) rfl ?_
      refine lv_aload_n hx hb dX0_loop_62 rfl (lv_at hl 0 rfl) ?_
      obtain ⟨w_5, ho, hf⟩ := ec_bi hf
      obtain ⟨v_6, h, hf⟩ := ec_bi hf
      refine h_cU (owner := "EventCounters$Block") (C := RX9) (T := TX9) (N := 5) (v := .int v_6) (As := []) (rest := []) X hM rfl (hObj_i ho) (metX7_lines l D dA N S.2.2.2 8 (fV_lines N S.2.2.2 8) (vV_lines l D dA N S.2.2.2 8) v_2 _ h) (va_cwU 0 X.2.2.2.2 (lw_U (x := ⟨"EventCounters$Loop", "lines", "()I"⟩) q504 q505 q507 q508 q71 q509) rfl rfl rfl rfl (by decide +kernel) (rm_le (Nat.le_of_ble_eq_true rfl) (Nat.le_of_ble_eq_true rfl))) rfl hl.1 rfl (Nat.le_of_ble_eq_true rfl) ⟨Nat.zero_le _, Nat.zero_le _⟩ dX0_loop_63 ?_
      obtain rfl := Option.some.inj hf
      exact e_iretR hx hb hr hlk dX0_loop_66
    have hf := ec_f c2 hf
    by_cases c3 : x2 = (3 : Int32)
    · have hf := ec_t c3 hf
      refine lv_tableIn (off := 49) (tgt := 67) hx hb dX0_loop_18 (by rw [c3]; decide) (by rw [c3]; decide) (by rw [c3]; rfl) rfl ?_
      refine lv_aload_n hx hb dX0_loop_67 rfl (lv_at hl 0 rfl) ?_
      obtain ⟨v_7, h, hf⟩ := ec_bi hf
      refine h_getvN (v := .int v_7) (C := RX9) (T := TX9) (N := 5) (ci := 8) (k := 4) (host := "EventCounters") X hM in_X9 rfl (by decide) (xn_at hM.2.1 27 rfl) rfl (hI_i h) dX0_loop_68 ?_
      obtain rfl := Option.some.inj hf
      exact e_iretR hx hb hr hlk dX0_loop_71
    have hf := ec_f c3 hf
    by_cases c4 : x2 = (4 : Int32)
    · have hf := ec_t c4 hf
      refine lv_tableIn (off := 54) (tgt := 72) hx hb dX0_loop_18 (by rw [c4]; decide) (by rw [c4]; decide) (by rw [c4]; rfl) rfl ?_
      refine lv_aload_n hx hb dX0_loop_72 rfl (lv_at hl 0 rfl) ?_
      obtain ⟨v_8, h, hf⟩ := ec_bi hf
      refine h_getvN (v := .int v_8) (C := RX9) (T := TX9) (N := 5) (ci := 8) (k := 4) (host := "EventCounters") X hM in_X9 rfl (by decide) (xn_at hM.2.1 27 rfl) rfl (hI_i h) dX0_loop_73 ?_
      refine lv_i2l hx hb dX0_loop_76 rfl ?_
      refine lv_aload_n hx hb dX0_loop_77 rfl (lv_at hl 0 rfl) ?_
      obtain ⟨w_9, ho, hf⟩ := ec_bi hf
      obtain ⟨v_10, h, hf⟩ := ec_bi hf
      refine h_cR (C := RX9) (T := TX9) (N := 5) (v := .long v_10) (As := []) (rest := [.long (v_8.toInt64)]) X hM rfl ho (metX9_steps l D dA N S.2.2.2 16 (fV_steps N S.2.2.2 8) (vV_steps l D dA N S.2.2.2 8) v_2 _ h) (cwV 0 X.2.2.2.2 gX0_145 rfl rfl rfl hX9_steps (rm_le (Nat.le_of_ble_eq_true rfl) (Nat.le_of_ble_eq_true rfl))) rfl hl.1 rfl (Nat.le_of_ble_eq_true rfl) ⟨Nat.zero_le _, Nat.zero_le _⟩ dX0_loop_78 ?_
      refine lv_lmul hx hb dX0_loop_81 ?_
      refine lv_l2i hx hb dX0_loop_82 rfl ?_
      obtain rfl := Option.some.inj hf
      exact e_iretR hx hb hr hlk dX0_loop_83
    have hf := ec_f c4 hf
    refine lv_tableOut (tgt := 84) hx hb dX0_loop_18 (by
      have a0 := ec_ne (z := 0) (by decide) c0
      have a1 := ec_ne (z := 1) (by decide) c1
      have a2 := ec_ne (z := 2) (by decide) c2
      have a3 := ec_ne (z := 3) (by decide) c3
      have a4 := ec_ne (z := 4) (by decide) c4
      omega) rfl ?_
    refine lv_iconst (v := -1) hx hb dX0_loop_84 (by decide) ?_
    obtain rfl := Option.some.inj hf
    exact e_iretR hx hb hr hlk dX0_loop_85
  · have hf := ec_f (not_not_intro cnd) hf
    refine lv_iconst (v := -1) hx hb dX0_loop_8 (by decide) ?_
    obtain rfl := Option.some.inj hf
    exact e_iretR hx hb hr hlk dX0_loop_9
theorem hX0_loop : yX0_loop.cls = RX0 ∧ yX0_loop.cls ≠ "java/lang/invoke/MethodHandle" ∧ yX0_loop.cls ≠ "java/lang/invoke/VarHandle" ∧ (parseMethodDescriptor yX0_loop.desc).map (fun d => d.parameters.length) = some 2 := by decide +kernel

theorem gX0_150 : GoodIn lw_all (wsV RX0 150 RX9 yX9_makesOnce (ws_ yX9_makesOnce cX9_makesOnce 2 (some .int))) := lw_V q524 q525 q526 q77 q527
noncomputable def fX0_went_27 (N : Nat) (S : sX) : Option Int32 :=
  some (-1 : Int32)
theorem bX0_went_27 {N : Nat} (X : CallFix p m c cX0_went 9 s args lw_all RX0) (hr : meth.sig.returnType = (some .int)) (hlk : meth.locks = false) {S : sX} (hM : XW D dA o q S A s s.heap []) {res : Int32} : ∀ (ls : Array Slot), fX0_went_27 N S = some res → lv_has ls 9 [(0, .ref o)] → W p l e (rmL 19) s m args below meth c s.heap [] 0 0 (MQ below (k2_QcV (.int res)) args s 0 0 (fun _ => False)) (F0 m 27 ls []) := by
  have hx := X.1
  have hb := X.2.1
  intro ls hf hl
  unfold fX0_went_27 at hf
  refine lv_iconst (v := -1) hx hb dX0_went_27 (by decide) ?_
  obtain rfl := Option.some.inj hf
  exact e_iretR hx hb hr hlk dX0_went_28
noncomputable def fX0_went_134 (N : Nat) (S : sX) : Option Int32 :=
  some (-4 : Int32)
theorem bX0_went_134 {N : Nat} (X : CallFix p m c cX0_went 9 s args lw_all RX0) (hr : meth.sig.returnType = (some .int)) (hlk : meth.locks = false) {S : sX} (hM : XW D dA o q S A s s.heap []) {res : Int32} : ∀ (ls : Array Slot), fX0_went_134 N S = some res → lv_has ls 9 [(0, .ref o)] → W p l e (rmL 19) s m args below meth c s.heap [] 0 0 (MQ below (k2_QcV (.int res)) args s 0 0 (fun _ => False)) (F0 m 134 ls []) := by
  have hx := X.1
  have hb := X.2.1
  intro ls hf hl
  unfold fX0_went_134 at hf
  refine lv_bipush (v := -4) hx hb dX0_went_134 (by decide) ?_
  obtain rfl := Option.some.inj hf
  exact e_iretR hx hb hr hlk dX0_went_136
noncomputable def fX0_went (N : Nat) (S : sX) (x1 : Int32) (x2 : Int32) (x3 : Int32) : Option Int32 :=
  (fX0_isLoop S x1).bind fun v_1 =>
  if v_1 = 0 then (
    fX0_went_27 N S)
  else (
    (fX0_isEvent x2).bind fun v_2 =>
    if v_2 = 0 then (
      fX0_went_27 N S)
    else (
      (fX0_isIn (x3.toInt64) (0 : Int64) (999999 : Int64)).bind fun v_3 =>
      if ¬ v_3 = 0 then (
        (hAr 5 S.2.2.2 (S.2.2.1 5) x1).bind fun v_4 =>
        (hI 8 S.2.2.2 v_4 4).bind fun v_5 =>
        (hObj 8 S.2.2.2 v_4).bind fun w_6 =>
        (fX9_makesOnce N S.2.2.2 (fV_makes N S.2.2.2 8) v_4 x2).bind fun v_7 =>
        ec_lt ((v_5.toInt64) * (v_7.toInt64)) fun x5_8 =>
        (ec_ag (S.2.1 10) 8 x2).bind fun v_9 =>
        (hI 8 S.2.2.2 v_4 2).bind fun v_10 =>
        ec_lt ((x3.toInt64) - ((v_9.toInt64) - (x5_8 * (v_10.toInt64)))) fun x7_11 =>
        if ¬ (lg_cmp x5_8 (0 : Int64)) = 0 then (
          if (lg_cmp x7_11 (0 : Int64)) < 0 then (
            fX0_went_134 N S)
          else (
            (ec_lrm x7_11 x5_8).bind fun v_12 =>
            if ¬ (lg_cmp v_12 (0 : Int64)) = 0 then (
              fX0_went_134 N S)
            else (
              (ec_ldv x7_11 x5_8).bind fun v_13 =>
              if 0 < (lg_cmp v_13 (9999 : Int64)) then (
                fX0_went_134 N S)
              else (
                (ec_ldv x7_11 x5_8).bind fun v_14 =>
                some (v_14.toInt32)))))
        else (
          if ¬ (lg_cmp x7_11 (0 : Int64)) = 0 then (
            some (-4 : Int32))
          else (
            some (0 : Int32))))
      else (
        fX0_went_27 N S)))
theorem metX0_went (l : Launch) (D : va_G) (dA : Nat → ClassId) (o : Nat) (q : Nat → Nat) (N : Nat) (S : sX) (x1 : Int32) (x2 : Int32) (x3 : Int32) (res : Int32) (hf : fX0_went N S x1 x2 x3 = some res) : Met l yX0_went (ws_ yX0_went cX0_went 9 (some .int)) (rmL 19) (XPre D dA o q S [.int x1, .int x2, .int x3]) (k2_QcV (.int res)) 0 0 (fun _ => False) := by
  refine x_ofR rfl (Nat.le_of_ble_eq_true rfl) (fun p e s m args below meth c X hr hlk hM ls hl => ?_)
  have hl : lv_has ls 9 [(0, .ref o), (1, .int x1), (2, .int x2), (3, .int x3)] := hl
  have hx := X.1
  have hb := X.2.1
  unfold fX0_went at hf
  refine lv_aload_n hx hb dX0_went_0 rfl (lv_at hl 0 rfl) ?_
  refine lv_iload_n hx hb dX0_went_1 rfl (lv_at hl 1 rfl) ?_
  obtain ⟨v_1, h, hf⟩ := ec_bi hf
  refine x_cR (v := .int v_1) (As := [.int x1]) (rest := []) X hM (metX0_isLoop l D dA o q S x1 _ h) (cwV 1 X.2.2.2.2 gX0_132 rfl rfl rfl hX0_isLoop (rm_le (Nat.le_of_ble_eq_true rfl) (Nat.le_of_ble_eq_true rfl))) rfl hl.1 rfl (Nat.le_of_ble_eq_true rfl) ⟨Nat.zero_le _, Nat.zero_le _⟩ dX0_went_2 ?_
  refine lv_if_eq (tgt := 27) hx hb dX0_went_5 rfl (fun cnd => ?_) (fun cnd => ?_)
  · have hf := ec_t cnd hf
    exact bX0_went_27 X hr hlk hM _ hf (lv_sub hl [0] rfl)
  · have hf := ec_f cnd hf
    refine lv_iload_n hx hb dX0_went_8 rfl (lv_at hl 2 rfl) ?_
    obtain ⟨v_2, h, hf⟩ := ec_bi hf
    refine e_cS (v := .int v_2) (As := [.int x2]) (rest := []) X (metX0_isEvent l x2 _ h) (va_cwS 1 X.2.2.2.2 gX0_125 rfl rfl rfl hX0_isEvent (rm_le (Nat.le_of_ble_eq_true rfl) (Nat.le_of_ble_eq_true rfl))) rfl hl.1 rfl (Nat.le_of_ble_eq_true rfl) ⟨Nat.zero_le _, Nat.zero_le _⟩ dX0_went_9 ?_
    refine lv_if_eq (tgt := 27) hx hb dX0_went_12 rfl (fun cnd => ?_) (fun cnd => ?_)
    · have hf := ec_t cnd hf
      exact bX0_went_27 X hr hlk hM _ hf (lv_sub hl [0] rfl)
    · have hf := ec_f cnd hf
      refine lv_iload_n hx hb dX0_went_15 rfl (lv_at hl 3 rfl) ?_
      refine lv_i2l hx hb dX0_went_16 rfl ?_
      refine lv_lconst (v := 0) hx hb dX0_went_17 (by decide) ?_
      refine lv_ldc2 (own := RX0) (v := 999999) hx hb X.2.2.2.1 (X.2.2.2.2 _ q523) dX0_went_18 ?_
      obtain ⟨v_3, h, hf⟩ := ec_bi hf
      refine e_cS (v := .int v_3) (As := [.long (x3.toInt64), .long (0 : Int64), .long (999999 : Int64)]) (rest := []) X (metX0_isIn l (x3.toInt64) (0 : Int64) (999999 : Int64) _ h) (va_cwS 3 X.2.2.2.2 gX0_21 rfl rfl rfl hX0_isIn (rm_le (Nat.le_of_ble_eq_true rfl) (Nat.le_of_ble_eq_true rfl))) rfl hl.1 rfl (Nat.le_of_ble_eq_true rfl) ⟨Nat.zero_le _, Nat.zero_le _⟩ dX0_went_21 ?_
      refine lv_if_ne (tgt := 29) hx hb dX0_went_24 rfl (fun cnd => ?_) (fun cnd => ?_)
      · have hf := ec_t cnd hf
        refine lv_aload_n hx hb dX0_went_29 rfl (lv_at hl 0 rfl) ?_
        refine x_get (v := .ref (S.2.2.1 5)) X hM 5 (by decide) q773 rfl rfl dX0_went_30 ?_
        refine lv_iload_n hx hb dX0_went_33 rfl (lv_at hl 1 rfl) ?_
        obtain ⟨v_4, h, hf⟩ := ec_bi hf
        refine h_aald (t := 5) X hM rfl rfl h dX0_went_34 ?_
        refine lv_astore (lv' := [(4, .ref v_4), (0, .ref o), (1, .int x1), (2, .int x2), (3, .int x3)]) hx hb dX0_went_35 hl (by decide) rfl (fun ls hl => ?_)
        refine lv_aload hx hb dX0_went_37 (lv_at hl 0 rfl) ?_
        obtain ⟨v_5, h, hf⟩ := ec_bi hf
        refine h_getvN (v := .int v_5) (C := RX9) (T := TX9) (N := 5) (ci := 8) (k := 4) (host := "EventCounters") X hM in_X9 rfl (by decide) (xn_at hM.2.1 27 rfl) rfl (hI_i h) dX0_went_39 ?_
        refine lv_i2l hx hb dX0_went_42 rfl ?_
        refine lv_aload hx hb dX0_went_43 (lv_at hl 0 rfl) ?_
        refine lv_iload_n hx hb dX0_went_45 rfl (lv_at hl 3 rfl) ?_
        obtain ⟨w_6, ho, hf⟩ := ec_bi hf
        obtain ⟨v_7, h, hf⟩ := ec_bi hf
        refine h_cR (C := RX9) (T := TX9) (N := 5) (v := .int v_7) (As := [.int x2]) (rest := [.long (v_5.toInt64)]) X hM rfl ho (metX9_makesOnce l D dA N S.2.2.2 16 (fV_makes N S.2.2.2 8) (vV_makes l D dA N S.2.2.2 8) v_4 x2 _ h) (cwV 1 X.2.2.2.2 gX0_150 rfl rfl rfl hX9_makesOnce (rm_le (Nat.le_of_ble_eq_true rfl) (Nat.le_of_ble_eq_true rfl))) rfl hl.1 rfl (Nat.le_of_ble_eq_true rfl) ⟨Nat.zero_le _, Nat.zero_le _⟩ dX0_went_46 ?_
        refine lv_i2l hx hb dX0_went_49 rfl ?_
        refine lv_lmul hx hb dX0_went_50 ?_
        refine lv_topl (fun x5_8 ex => ?_)
        have hf := ec_lt_i ex hf
        refine lv_lstore (lv' := [(5, .long x5_8), (4, .ref v_4), (0, .ref o), (1, .int x1), (2, .int x2), (3, .int x3)]) hx hb dX0_went_51 hl (by decide) rfl (fun ls hl => ?_)
        refine lv_iload_n hx hb dX0_went_53 rfl (lv_at hl 5 rfl) ?_
        refine lv_i2l hx hb dX0_went_54 rfl ?_
        refine lv_aload_n hx hb dX0_went_55 rfl (lv_at hl 2 rfl) ?_
        refine x_get (v := .ref (q 10)) X hM 10 (by decide) q778 rfl rfl dX0_went_56 ?_
        refine lv_iload_n hx hb dX0_went_59 rfl (lv_at hl 4 rfl) ?_
        obtain ⟨v_9, h, hf⟩ := ec_bi hf
        refine x_iald X hM wxa10 h dX0_went_60 ?_
        refine lv_i2l hx hb dX0_went_61 rfl ?_
        refine lv_lload hx hb dX0_went_62 (lv_at hl 0 rfl) ?_
        refine lv_aload hx hb dX0_went_64 (lv_at hl 1 rfl) ?_
        obtain ⟨v_10, h, hf⟩ := ec_bi hf
        refine h_getvN (v := .int v_10) (C := RX9) (T := TX9) (N := 5) (ci := 8) (k := 2) (host := "EventCounters") X hM in_X9 rfl (by decide) (xn_at hM.2.1 25 rfl) rfl (hI_i h) dX0_went_66 ?_
        refine lv_i2l hx hb dX0_went_69 rfl ?_
        refine lv_lmul hx hb dX0_went_70 ?_
        refine lv_lsub hx hb dX0_went_71 ?_
        refine lv_lsub hx hb dX0_went_72 ?_
        refine lv_topl (fun x7_11 ex => ?_)
        have hf := ec_lt_i ex hf
        refine lv_lstore (lv' := [(7, .long x7_11), (5, .long x5_8), (4, .ref v_4), (0, .ref o), (1, .int x1), (2, .int x2), (3, .int x3)]) hx hb dX0_went_73 hl (by decide) rfl (fun ls hl => ?_)
        refine lv_lload hx hb dX0_went_75 (lv_at hl 1 rfl) ?_
        refine lv_lconst (v := 0) hx hb dX0_went_77 (by decide) ?_
        refine W.lcmp hx hb dX0_went_78 ?_
        refine lv_if_ne (tgt := 96) hx hb dX0_went_79 rfl (fun cnd => ?_) (fun cnd => ?_)
        · have hf := ec_t cnd hf
          refine lv_lload hx hb dX0_went_96 (lv_at hl 0 rfl) ?_
          refine lv_lconst (v := 0) hx hb dX0_went_98 (by decide) ?_
          refine W.lcmp hx hb dX0_went_99 ?_
          refine lv_if_lt (tgt := 134) hx hb dX0_went_100 rfl (fun cnd => ?_) (fun cnd => ?_)
          · have hf := ec_t cnd hf
            exact bX0_went_134 X hr hlk hM _ hf (lv_sub hl [3] rfl)
          · have hf := ec_f cnd hf
            refine lv_lload hx hb dX0_went_103 (lv_at hl 0 rfl) ?_
            refine lv_lload hx hb dX0_went_105 (lv_at hl 1 rfl) ?_
            obtain ⟨v_12, h, hf⟩ := ec_bi hf
            refine e_lrm hx hb h dX0_went_107 ?_
            refine lv_lconst (v := 0) hx hb dX0_went_108 (by decide) ?_
            refine W.lcmp hx hb dX0_went_109 ?_
            refine lv_if_ne (tgt := 134) hx hb dX0_went_110 rfl (fun cnd => ?_) (fun cnd => ?_)
            · have hf := ec_t cnd hf
              exact bX0_went_134 X hr hlk hM _ hf (lv_sub hl [3] rfl)
            · have hf := ec_f (not_not_intro cnd) hf
              refine lv_lload hx hb dX0_went_113 (lv_at hl 0 rfl) ?_
              refine lv_lload hx hb dX0_went_115 (lv_at hl 1 rfl) ?_
              obtain ⟨v_13, h, hf⟩ := ec_bi hf
              refine e_ldv hx hb h dX0_went_117 ?_
              refine lv_ldc2 (own := RX0) (v := 9999) hx hb X.2.2.2.1 (X.2.2.2.2 _ q541) dX0_went_118 ?_
              refine W.lcmp hx hb dX0_went_121 ?_
              refine lv_if_gt (tgt := 134) hx hb dX0_went_122 rfl (fun cnd => ?_) (fun cnd => ?_)
              · have hf := ec_t cnd hf
                exact bX0_went_134 X hr hlk hM _ hf (lv_sub hl [3] rfl)
              · have hf := ec_f cnd hf
                refine lv_lload hx hb dX0_went_125 (lv_at hl 0 rfl) ?_
                refine lv_lload hx hb dX0_went_127 (lv_at hl 1 rfl) ?_
                obtain ⟨v_14, h, hf⟩ := ec_bi hf
                refine e_ldv hx hb h dX0_went_129 ?_
                refine lv_l2i hx hb dX0_went_130 rfl ?_
                refine lv_goto (tgt := 136) hx hb dX0_went_131 rfl ?_
                obtain rfl := Option.some.inj hf
                exact e_iretR hx hb hr hlk dX0_went_136
        · have hf := ec_f (not_not_intro cnd) hf
          refine lv_lload hx hb dX0_went_82 (lv_at hl 0 rfl) ?_
          refine lv_lconst (v := 0) hx hb dX0_went_84 (by decide) ?_
          refine W.lcmp hx hb dX0_went_85 ?_
          refine lv_if_ne (tgt := 93) hx hb dX0_went_86 rfl (fun cnd => ?_) (fun cnd => ?_)
          · have hf := ec_t cnd hf
            refine lv_bipush (v := -4) hx hb dX0_went_93 (by decide) ?_
            obtain rfl := Option.some.inj hf
            exact e_iretR hx hb hr hlk dX0_went_95
          · have hf := ec_f (not_not_intro cnd) hf
            refine lv_iconst (v := 0) hx hb dX0_went_89 (by decide) ?_
            refine lv_goto (tgt := 95) hx hb dX0_went_90 rfl ?_
            obtain rfl := Option.some.inj hf
            exact e_iretR hx hb hr hlk dX0_went_95
      · have hf := ec_f (not_not_intro cnd) hf
        exact bX0_went_27 X hr hlk hM _ hf (lv_sub hl [0] rfl)
theorem hX0_went : yX0_went.cls = RX0 ∧ yX0_went.cls ≠ "java/lang/invoke/MethodHandle" ∧ yX0_went.cls ≠ "java/lang/invoke/VarHandle" ∧ (parseMethodDescriptor yX0_went.desc).map (fun d => d.parameters.length) = some 3 := by decide +kernel
end
