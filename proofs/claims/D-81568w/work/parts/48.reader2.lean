set_option maxRecDepth 100000
set_option maxRecDepth 100000
set_option maxHeartbeats 2000000
set_option linter.unusedVariables false
section
variable {p : Program} {l : Launch} {e : Env} {s : State} {m : MethodId} {args : Array Value} {below : List Frame} {meth : Method} {c : Code}
variable {D : va_G} {dA : Nat → ClassId} {o : Nat} {q : Nat → Nat} {A : Nat → Prop}
variable {K : oK}
noncomputable def fX4_isWord_67 (N : Nat) (i : Nat) (Qt : Nat → hH → Prop) (Qr : Int32 → hH → Prop) (k32 : hH → Nat → Nat → Nat → Int32 → Int32 → Prop) (S : hH) (bc bk : Nat) (x0 : Nat) (x3 : Int32) (t0 : Int32) : Prop :=
  ec_lt (x3 + (1 : Int32)) fun x3_5 =>
  k32 S bc bk x0 t0 x3_5
theorem bX4_isWord_67 {N : Nat} (X : CallFix p m c cX4_isWord 4 s args lw_all RX4) (hr : meth.sig.returnType = (some .boolean)) (hlk : meth.locks = false) (hne : c.exceptionTable.isEmpty = true) (hin : meth.name = yX4_isWord.name) (hA : ∀ x, s.heap.size ≤ x → A x) (hO : OLD K A s s.heap) (hRf : ORF K s) {i : Nat} (hi : i < 3) {mc ms : Nat} {Qt : Nat → hH → Prop} {Qr : Int32 → hH → Prop} {k32 : hH → Nat → Nat → Nat → Int32 → Int32 → Prop} (Hk32 : ∀ (S : hH) (bc bk : Nat) (x0 : Nat) (x2 : Int32) (x3 : Int32) (H : Heap) (locs : List Loc) (u w : Nat) (ls : Array Slot), k32 S bc bk x0 x2 x3 → u + bc = mc → w + bk = ms → HX D dA [] S A s H locs → lv_has ls 4 [(0, .ref x0), (1, .ref (K.1 i)), (2, .int x2), (3, .int x3)] → W p l e (rmN 4 mc ms) s m args below meth c H locs u w (MQT below (NPost D dA A (nqI Qr) Qt) args s mc ms A) (F0 m 32 ls [])) : ∀ (S : hH) (bc bk : Nat) (x0 : Nat) (x3 : Int32) (t0 : Int32) (H : Heap) (locs : List Loc) (u w : Nat) (ls : Array Slot), fX4_isWord_67 N i Qt Qr k32 S bc bk x0 x3 t0 → u + bc = mc → w + bk = ms → HX D dA [] S A s H locs → lv_has ls 4 [(0, .ref x0), (1, .ref (K.1 i)), (3, .int x3)] → W p l e (rmN 4 mc ms) s m args below meth c H locs u w (MQT below (NPost D dA A (nqI Qr) Qt) args s mc ms A) (F0 m 67 ls [.int t0]) := by
  have hx := X.1
  have hb := X.2.1
  intro S bc bk x0 x3 t0 H locs u w ls hf hu hw hM hl
  unfold fX4_isWord_67 at hf
  refine lv_istore_n (lv' := [(2, .int t0), (0, .ref x0), (1, .ref (K.1 i)), (3, .int x3)]) hx hb dX4_isWord_67 rfl hl (by decide) rfl (fun ls hl => ?_)
  refine e_inc (w := 1) (f := fun v => [(3, .int v), (2, .int t0), (0, .ref x0), (1, .ref (K.1 i))]) hx hb dX4_isWord_68 hl (k := 3) rfl (by decide) (by decide) (fun _ => rfl) (fun x3_5 ex ls hl => ?_)
  have hf := ec_lt_p ex hf
  refine lv_goto (tgt := 32) hx hb dX4_isWord_71 rfl ?_
  exact Hk32 S bc bk x0 t0 x3_5 _ _ _ _ _ hf hu hw hM (lv_sub hl [2, 3, 1, 0] rfl)
noncomputable def fX4_isWord_32 (N : Nat) (i : Nat) (Qt : Nat → hH → Prop) (Qr : Int32 → hH → Prop) (kx74 : hH → Nat → Nat → Nat → Int32 → Prop) : Nat → hH → Nat → Nat → Nat → Int32 → Int32 → Prop
  | 0, _, _, _, _, _, _ => False
  | n + 1, S, bc, bk, x0, x2, x3 =>
    (((Int32.ofNat (sLn i)) ≤ x3) → (
      kx74 S bc bk x0 x2))
    ∧ (¬ ((Int32.ofNat (sLn i)) ≤ x3) → (
      ((x2 = 0) → (
        kx74 S bc bk x0 x2))
      ∧ (¬ (x2 = 0) → (
        ¬ x3 < 0 ∧ x3 < Int32.ofNat (sLn i) ∧ x3.toNatClampNeg < sLn i ∧
        ∃ v_2, (hI 4 S x0 5) = some v_2 ∧
        ∃ w_4, (hObj 4 S x0) = some w_4 ∧
        ∃ v_3, (fX4_at S x0 (v_2 + x3)) = some v_3 ∧
        ((¬ (sCh i x3.toNatClampNeg) = v_3) → (
          fX4_isWord_67 N i Qt Qr (fX4_isWord_32 N i Qt Qr kx74 n) S bc bk x0 x3 (0 : Int32)))
        ∧ (¬ (¬ (sCh i x3.toNatClampNeg) = v_3) → (
          fX4_isWord_67 N i Qt Qr (fX4_isWord_32 N i Qt Qr kx74 n) S bc bk x0 x3 (1 : Int32)))))))
theorem bX4_isWord_32 {N : Nat} (X : CallFix p m c cX4_isWord 4 s args lw_all RX4) (hr : meth.sig.returnType = (some .boolean)) (hlk : meth.locks = false) (hne : c.exceptionTable.isEmpty = true) (hin : meth.name = yX4_isWord.name) (hA : ∀ x, s.heap.size ≤ x → A x) (hO : OLD K A s s.heap) (hRf : ORF K s) {i : Nat} (hi : i < 3) {mc ms : Nat} {Qt : Nat → hH → Prop} {Qr : Int32 → hH → Prop} {kx74 : hH → Nat → Nat → Nat → Int32 → Prop} (Hkx74 : ∀ (S : hH) (bc bk : Nat) (x0 : Nat) (x2 : Int32) (H : Heap) (locs : List Loc) (u w : Nat) (ls : Array Slot), kx74 S bc bk x0 x2 → u + bc = mc → w + bk = ms → HX D dA [] S A s H locs → lv_has ls 4 [(0, .ref x0), (2, .int x2)] → W p l e (rmN 4 mc ms) s m args below meth c H locs u w (MQT below (NPost D dA A (nqI Qr) Qt) args s mc ms A) (F0 m 74 ls [])) : ∀ (n : Nat) (S : hH) (bc bk : Nat) (x0 : Nat) (x2 : Int32) (x3 : Int32) (H : Heap) (locs : List Loc) (u w : Nat) (ls : Array Slot), fX4_isWord_32 N i Qt Qr kx74 n S bc bk x0 x2 x3 → u + bc = mc → w + bk = ms → HX D dA [] S A s H locs → lv_has ls 4 [(0, .ref x0), (1, .ref (K.1 i)), (2, .int x2), (3, .int x3)] → W p l e (rmN 4 mc ms) s m args below meth c H locs u w (MQT below (NPost D dA A (nqI Qr) Qt) args s mc ms A) (F0 m 32 ls []) := by
  have hx := X.1
  have hb := X.2.1
  intro n
  induction n with
  | zero =>
    intro S bc bk x0 x2 x3 H locs u w ls hf hu hw hM hl
    rw [fX4_isWord_32] at hf
    exact hf.elim
  | succ n ih =>
    intro S bc bk x0 x2 x3 H locs u w ls hf hu hw hM hl
    rw [fX4_isWord_32] at hf
    refine lv_iload_n hx hb dX4_isWord_32 rfl (lv_at hl 3 rfl) ?_
    refine lv_aload_n hx hb dX4_isWord_33 rfl (lv_at hl 1 rfl) ?_
    refine s_cV (i := i) (As := []) (rest := [.int x3]) X hO hM.2.2.2 hi (metJ3_length l K i hi) (cwV 0 X.2.2.2.2 (lw_V q287 q288 q289 q72 q290) rfl rfl rfl ⟨rfl, hJ3_length⟩ (rmN_leL (Nat.le_of_ble_eq_true rfl) (Nat.le_of_ble_eq_true rfl))) rfl hl.1 rfl (Nat.le_of_ble_eq_true rfl) ⟨nb_u hu, nb_u hw⟩ dX4_isWord_34 ?_
    refine W.eq (g2 := F0 m _ _ [.int (Int32.ofNat (sLn i)), .int x3]) rfl ?_
    refine lv_icmp_ge (tgt := 74) hx hb dX4_isWord_37 rfl (fun cnd => ?_) (fun cnd => ?_)
    · have hf := hf.1 cnd
      exact Hkx74 S bc bk x0 x2 _ _ _ _ _ hf hu hw hM (lv_sub hl [0, 2] rfl)
    · have hf := hf.2 cnd
      refine lv_iload_n hx hb dX4_isWord_40 rfl (lv_at hl 2 rfl) ?_
      refine lv_if_eq (tgt := 74) hx hb dX4_isWord_41 rfl (fun cnd => ?_) (fun cnd => ?_)
      · have hf := hf.1 cnd
        exact Hkx74 S bc bk x0 x2 _ _ _ _ _ hf hu hw hM (lv_sub hl [0, 2] rfl)
      · have hf := hf.2 cnd
        refine lv_aload_n hx hb dX4_isWord_44 rfl (lv_at hl 1 rfl) ?_
        refine lv_iload_n hx hb dX4_isWord_45 rfl (lv_at hl 3 rfl) ?_
        obtain ⟨g0, g1, g2, hf⟩ := hf
        refine s_cV (i := i) (As := [.int x3]) (rest := []) X hO hM.2.2.2 hi (metJ3_charAt l K i hi x3 g0 g1 g2) (cwV 1 X.2.2.2.2 (lw_V q297 q298 q299 q72 q300) rfl rfl rfl ⟨rfl, hJ3_charAt⟩ (rmN_leL (Nat.le_of_ble_eq_true rfl) (Nat.le_of_ble_eq_true rfl))) rfl hl.1 rfl (Nat.le_of_ble_eq_true rfl) ⟨nb_u hu, nb_u hw⟩ dX4_isWord_46 ?_
        refine W.eq (g2 := F0 m _ _ [.int (sCh i x3.toNatClampNeg)]) rfl ?_
        refine lv_aload_n hx hb dX4_isWord_49 rfl (lv_at hl 0 rfl) ?_
        refine lv_aload_n hx hb dX4_isWord_50 rfl (lv_at hl 0 rfl) ?_
        obtain ⟨v_2, h, hf⟩ := hf
        refine h_getv (v := .int v_2) (C := RX4) (T := TX4) (N := 9) (ci := 4) (k := 5) X hM in_X4 rfl (by decide) q233 rfl (hI_i h) dX4_isWord_51 ?_
        refine lv_iload_n hx hb dX4_isWord_54 rfl (lv_at hl 3 rfl) ?_
        refine lv_iadd hx hb dX4_isWord_55 ?_
        obtain ⟨w_4, ho, hf⟩ := hf
        obtain ⟨v_3, h, hf⟩ := hf
        refine h_cR (C := RX4) (T := TX4) (N := 9) (v := .int v_3) (As := [.int (v_2 + x3)]) (rest := [.int (sCh i x3.toNatClampNeg)]) X hM rfl ho (metX4_at l D dA S x0 (v_2 + x3) _ h) (cwV 1 X.2.2.2.2 gX4_55 rfl rfl rfl hX4_at (rmN_leL (Nat.le_of_ble_eq_true rfl) (Nat.le_of_ble_eq_true rfl))) rfl hl.1 rfl (Nat.le_of_ble_eq_true rfl) ⟨nb_u hu, nb_u hw⟩ dX4_isWord_56 ?_
        refine lv_icmp_ne (tgt := 66) hx hb dX4_isWord_59 rfl (fun cnd => ?_) (fun cnd => ?_)
        · have hf := hf.1 cnd
          refine lv_iconst (v := 0) hx hb dX4_isWord_66 (by decide) ?_
          exact bX4_isWord_67 X hr hlk hne hin hA hO hRf hi ih S bc bk x0 x3 (0 : Int32) _ _ _ _ _ hf hu hw hM (lv_sub hl [0, 1, 3] rfl)
        · have hf := hf.2 (not_not_intro cnd)
          refine lv_iconst (v := 1) hx hb dX4_isWord_62 (by decide) ?_
          refine lv_goto (tgt := 67) hx hb dX4_isWord_63 rfl ?_
          exact bX4_isWord_67 X hr hlk hne hin hA hO hRf hi ih S bc bk x0 x3 (1 : Int32) _ _ _ _ _ hf hu hw hM (lv_sub hl [0, 1, 3] rfl)
noncomputable def fX4_isWord_74 (N : Nat) (i : Nat) (Qt : Nat → hH → Prop) (Qr : Int32 → hH → Prop) (S : hH) (bc bk : Nat) (x0 : Nat) (x2 : Int32) : Prop :=
  (narrow .boolean (.int x2) = .int x2 ∧ Qr x2 S)
theorem bX4_isWord_74 {N : Nat} (X : CallFix p m c cX4_isWord 4 s args lw_all RX4) (hr : meth.sig.returnType = (some .boolean)) (hlk : meth.locks = false) (hne : c.exceptionTable.isEmpty = true) (hin : meth.name = yX4_isWord.name) (hA : ∀ x, s.heap.size ≤ x → A x) (hO : OLD K A s s.heap) (hRf : ORF K s) {i : Nat} (hi : i < 3) {mc ms : Nat} {Qt : Nat → hH → Prop} {Qr : Int32 → hH → Prop} : ∀ (S : hH) (bc bk : Nat) (x0 : Nat) (x2 : Int32) (H : Heap) (locs : List Loc) (u w : Nat) (ls : Array Slot), fX4_isWord_74 N i Qt Qr S bc bk x0 x2 → u + bc = mc → w + bk = ms → HX D dA [] S A s H locs → lv_has ls 4 [(0, .ref x0), (2, .int x2)] → W p l e (rmN 4 mc ms) s m args below meth c H locs u w (MQT below (NPost D dA A (nqI Qr) Qt) args s mc ms A) (F0 m 74 ls []) := by
  have hx := X.1
  have hb := X.2.1
  intro S bc bk x0 x2 H locs u w ls hf hu hw hM hl
  unfold fX4_isWord_74 at hf
  refine lv_iload_n hx hb dX4_isWord_74 rfl (lv_at hl 1 rfl) ?_
  exact n_zret X hr hlk hM (nb_u hu) (nb_u hw) hf.1 hf.2 dX4_isWord_75
noncomputable def fX4_isWord_29 (N : Nat) (i : Nat) (Qt : Nat → hH → Prop) (Qr : Int32 → hH → Prop) (S : hH) (bc bk : Nat) (x0 : Nat) (t0 : Int32) : Prop :=
  fX4_isWord_32 N i Qt Qr (fun S_6 bc_7 bk_8 x0_9 x2_10 =>
    fX4_isWord_74 N i Qt Qr S_6 bc_7 bk_8 x0_9 x2_10) N S bc bk x0 t0 (0 : Int32)
theorem bX4_isWord_29 {N : Nat} (X : CallFix p m c cX4_isWord 4 s args lw_all RX4) (hr : meth.sig.returnType = (some .boolean)) (hlk : meth.locks = false) (hne : c.exceptionTable.isEmpty = true) (hin : meth.name = yX4_isWord.name) (hA : ∀ x, s.heap.size ≤ x → A x) (hO : OLD K A s s.heap) (hRf : ORF K s) {i : Nat} (hi : i < 3) {mc ms : Nat} {Qt : Nat → hH → Prop} {Qr : Int32 → hH → Prop} : ∀ (S : hH) (bc bk : Nat) (x0 : Nat) (t0 : Int32) (H : Heap) (locs : List Loc) (u w : Nat) (ls : Array Slot), fX4_isWord_29 N i Qt Qr S bc bk x0 t0 → u + bc = mc → w + bk = ms → HX D dA [] S A s H locs → lv_has ls 4 [(0, .ref x0), (1, .ref (K.1 i))] → W p l e (rmN 4 mc ms) s m args below meth c H locs u w (MQT below (NPost D dA A (nqI Qr) Qt) args s mc ms A) (F0 m 29 ls [.int t0]) := by
  have hx := X.1
  have hb := X.2.1
  intro S bc bk x0 t0 H locs u w ls hf hu hw hM hl
  unfold fX4_isWord_29 at hf
  refine lv_istore_n (lv' := [(2, .int t0), (0, .ref x0), (1, .ref (K.1 i))]) hx hb dX4_isWord_29 rfl hl (by decide) rfl (fun ls hl => ?_)
  refine lv_iconst (v := 0) hx hb dX4_isWord_30 (by decide) ?_
  refine lv_istore_n (lv' := [(3, .int (0 : Int32)), (2, .int t0), (0, .ref x0), (1, .ref (K.1 i))]) hx hb dX4_isWord_31 rfl hl (by decide) rfl (fun ls hl => ?_)
  exact bX4_isWord_32 X hr hlk hne hin hA hO hRf hi (fun S_6 bc_7 bk_8 x0_9 x2_10 H locs u w ls hf hu hw hM hl => by
    exact bX4_isWord_74 X hr hlk hne hin hA hO hRf hi S_6 bc_7 bk_8 x0_9 x2_10 _ _ _ _ _ hf hu hw hM hl) N S bc bk x0 t0 (0 : Int32) _ _ _ _ _ hf hu hw hM (lv_sub hl [2, 3, 1, 0] rfl)
noncomputable def fX4_isWord_28 (N : Nat) (i : Nat) (Qt : Nat → hH → Prop) (Qr : Int32 → hH → Prop) (S : hH) (bc bk : Nat) (x0 : Nat) : Prop :=
  fX4_isWord_29 N i Qt Qr S bc bk x0 (0 : Int32)
theorem bX4_isWord_28 {N : Nat} (X : CallFix p m c cX4_isWord 4 s args lw_all RX4) (hr : meth.sig.returnType = (some .boolean)) (hlk : meth.locks = false) (hne : c.exceptionTable.isEmpty = true) (hin : meth.name = yX4_isWord.name) (hA : ∀ x, s.heap.size ≤ x → A x) (hO : OLD K A s s.heap) (hRf : ORF K s) {i : Nat} (hi : i < 3) {mc ms : Nat} {Qt : Nat → hH → Prop} {Qr : Int32 → hH → Prop} : ∀ (S : hH) (bc bk : Nat) (x0 : Nat) (H : Heap) (locs : List Loc) (u w : Nat) (ls : Array Slot), fX4_isWord_28 N i Qt Qr S bc bk x0 → u + bc = mc → w + bk = ms → HX D dA [] S A s H locs → lv_has ls 4 [(0, .ref x0), (1, .ref (K.1 i))] → W p l e (rmN 4 mc ms) s m args below meth c H locs u w (MQT below (NPost D dA A (nqI Qr) Qt) args s mc ms A) (F0 m 28 ls []) := by
  have hx := X.1
  have hb := X.2.1
  intro S bc bk x0 H locs u w ls hf hu hw hM hl
  unfold fX4_isWord_28 at hf
  refine lv_iconst (v := 0) hx hb dX4_isWord_28 (by decide) ?_
  exact bX4_isWord_29 X hr hlk hne hin hA hO hRf hi S bc bk x0 (0 : Int32) _ _ _ _ _ hf hu hw hM hl
noncomputable def fX4_isWord (N : Nat) (i : Nat) (Qt : Nat → hH → Prop) (Qr : Int32 → hH → Prop) (S : hH) (bc bk : Nat) (x0 : Nat) : Prop :=
  ∃ v_1, (hI 4 S x0 7) = some v_1 ∧
  ((¬ v_1 = (1 : Int32)) → (
    fX4_isWord_28 N i Qt Qr S bc bk x0))
  ∧ (¬ (¬ v_1 = (1 : Int32)) → (
    ∃ v_11, (hI 4 S x0 6) = some v_11 ∧
    ∃ v_12, (hI 4 S x0 5) = some v_12 ∧
    ((¬ (Int32.ofNat (sLn i)) = (v_11 - v_12)) → (
      fX4_isWord_28 N i Qt Qr S bc bk x0))
    ∧ (¬ (¬ (Int32.ofNat (sLn i)) = (v_11 - v_12)) → (
      fX4_isWord_29 N i Qt Qr S bc bk x0 (1 : Int32)))))
theorem metX4_isWord (l : Launch) (D : va_G) (dA : Nat → ClassId) (K : oK) (N : Nat) (i : Nat) (hi : i < 3) (Qt : Nat → hH → Prop) (Qr : Int32 → hH → Prop) (S : hH) (bc bk : Nat) (x0 : Nat) {sz : Nat} (hf : fX4_isWord N i Qt Qr S bc bk x0) : MetT l yX4_isWord (ws_ yX4_isWord cX4_isWord 4 (some .boolean)) (rmN 4 bc bk) (NPre D dA K sz S [.ref x0, .ref (K.1 i)]) (NPost D dA (NA S sz) (nqI Qr) Qt) bc bk (NA S sz) := by
  refine n_ofW rfl (by decide) (Nat.le_of_ble_eq_true rfl) (fun A p e s m args below meth c X hr hlk hne hin hA hO hRf hM ls hl => ?_)
  have hl : lv_has ls 4 [(0, .ref x0), (1, .ref (K.1 i))] := hl
  have hx := X.1
  have hb := X.2.1
  have hu : 0 + bc = bc := Nat.zero_add bc
  have hw : 0 + bk = bk := Nat.zero_add bk
  unfold fX4_isWord at hf
  refine lv_aload_n hx hb dX4_isWord_0 rfl (lv_at hl 0 rfl) ?_
  obtain ⟨v_1, h, hf⟩ := hf
  refine h_getv (v := .int v_1) (C := RX4) (T := TX4) (N := 9) (ci := 4) (k := 7) X hM in_X4 rfl (by decide) q235 rfl (hI_i h) dX4_isWord_1 ?_
  refine lv_iconst (v := 1) hx hb dX4_isWord_4 (by decide) ?_
  refine lv_icmp_ne (tgt := 28) hx hb dX4_isWord_5 rfl (fun cnd => ?_) (fun cnd => ?_)
  · have hf := hf.1 cnd
    exact bX4_isWord_28 X hr hlk hne hin hA hO hRf hi S bc bk x0 _ _ _ _ _ hf hu hw hM hl
  · have hf := hf.2 (not_not_intro cnd)
    refine lv_aload_n hx hb dX4_isWord_8 rfl (lv_at hl 1 rfl) ?_
    refine s_cV (i := i) (As := []) (rest := []) X hO hM.2.2.2 hi (metJ3_length l K i hi) (cwV 0 X.2.2.2.2 (lw_V q287 q288 q289 q72 q290) rfl rfl rfl ⟨rfl, hJ3_length⟩ (rmN_leL (Nat.le_of_ble_eq_true rfl) (Nat.le_of_ble_eq_true rfl))) rfl hl.1 rfl (Nat.le_of_ble_eq_true rfl) ⟨nb_u hu, nb_u hw⟩ dX4_isWord_9 ?_
    refine W.eq (g2 := F0 m _ _ [.int (Int32.ofNat (sLn i))]) rfl ?_
    refine lv_aload_n hx hb dX4_isWord_12 rfl (lv_at hl 0 rfl) ?_
    obtain ⟨v_11, h, hf⟩ := hf
    refine h_getv (v := .int v_11) (C := RX4) (T := TX4) (N := 9) (ci := 4) (k := 6) X hM in_X4 rfl (by decide) q234 rfl (hI_i h) dX4_isWord_13 ?_
    refine lv_aload_n hx hb dX4_isWord_16 rfl (lv_at hl 0 rfl) ?_
    obtain ⟨v_12, h, hf⟩ := hf
    refine h_getv (v := .int v_12) (C := RX4) (T := TX4) (N := 9) (ci := 4) (k := 5) X hM in_X4 rfl (by decide) q233 rfl (hI_i h) dX4_isWord_17 ?_
    refine lv_isub hx hb dX4_isWord_20 ?_
    refine lv_icmp_ne (tgt := 28) hx hb dX4_isWord_21 rfl (fun cnd => ?_) (fun cnd => ?_)
    · have hf := hf.1 cnd
      exact bX4_isWord_28 X hr hlk hne hin hA hO hRf hi S bc bk x0 _ _ _ _ _ hf hu hw hM hl
    · have hf := hf.2 (not_not_intro cnd)
      refine lv_iconst (v := 1) hx hb dX4_isWord_24 (by decide) ?_
      refine lv_goto (tgt := 29) hx hb dX4_isWord_25 rfl ?_
      exact bX4_isWord_29 X hr hlk hne hin hA hO hRf hi S bc bk x0 (1 : Int32) _ _ _ _ _ hf hu hw hM hl
theorem hX4_isWord : yX4_isWord.cls ≠ "java/lang/invoke/MethodHandle" ∧ yX4_isWord.cls ≠ "java/lang/invoke/VarHandle" ∧ (parseMethodDescriptor yX4_isWord.desc).map (fun d => d.parameters.length) = some 1 := by decide +kernel

theorem gX4_81 : GoodIn lw_all (wsV RX4 81 RX4 yX4_number (ws_ yX4_number cX4_number 4 (some .int))) := lw_V q341 q343 qs8 q65 q344
theorem gX4_94 : GoodIn lw_all (wsV RX4 94 RX4 yX4_sign (ws_ yX4_sign cX4_sign 1 none)) := lw_V q372 q374 qs9 q65 q375
noncomputable def fX4_line_113 (N : Nat) (Qt : Nat → hH → Prop) (Qr : Nat → hH → Prop) (k45 : hH → Nat → Nat → Nat → Nat → Int32 → Prop) (S : hH) (bc bk : Nat) (x0 : Nat) (x2 : Nat) (x3 : Int32) (x4 : Int32) (t0 : Int32) (t1 : Nat) : Prop :=
  ∃ w_30, (hObj 4 S t1) = some w_30 ∧
  ∃ c_31 k_32 : Nat, c_31 ≤ bc ∧ k_32 ≤ bk ∧ fX4_must Qt (fun S_33 =>
  ec_lt (x3 ||| ((1 : Int32) <<< (x4 &&& 31))) fun x3_34 =>
  ∃ w_35, (hObj 4 S_33 x0) = some w_35 ∧
  ∃ c_36 k_37 : Nat, c_36 ≤ (bc - c_31) ∧ k_37 ≤ (bk - k_32) ∧ fX4_next N Qt (fun S_38 =>
  ∃ v_39, (hR 7 S_38 x2 3) = some v_39 ∧
  ∃ w_40, (hObj 4 S_38 x0) = some w_40 ∧
  ∃ c_41 k_42 : Nat, c_41 ≤ ((bc - c_31) - c_36) ∧ k_42 ≤ ((bk - k_32) - k_37) ∧ fX4_number N Qt (fun v_44 S_43 =>
  ∃ h_45, (hAsI 0 S_43 v_39 x4 v_44) = some h_45 ∧
  k45 h_45 (((bc - c_31) - c_36) - c_41) (((bk - k_32) - k_37) - k_42) x0 x2 x3_34) S_38 c_41 k_42 x0 (0 : Int32) (99 : Int32)) S_33 c_36 k_37 x0) S c_31 k_32 t1 t0 (4 : Int32)
theorem bX4_line_113 {N : Nat} (X : CallFix p m c cX4_line 5 s args lw_all RX4) (hr : meth.sig.returnType = (some (.object "EventCounters$Item"))) (hlk : meth.locks = false) (hne : c.exceptionTable.isEmpty = true) (hin : meth.name = yX4_line.name) (hA : ∀ x, s.heap.size ≤ x → A x) (hO : OLD K A s s.heap) (hRf : ORF K s) {mc ms : Nat} {Qt : Nat → hH → Prop} {Qr : Nat → hH → Prop} {k45 : hH → Nat → Nat → Nat → Nat → Int32 → Prop} (Hk45 : ∀ (S : hH) (bc bk : Nat) (x0 : Nat) (x2 : Nat) (x3 : Int32) (H : Heap) (locs : List Loc) (u w : Nat) (ls : Array Slot), k45 S bc bk x0 x2 x3 → u + bc = mc → w + bk = ms → HX D dA [] S A s H locs → lv_has ls 5 [(0, .ref x0), (2, .ref x2), (3, .int x3)] → W p l e (rmN 8 mc ms) s m args below meth c H locs u w (MQT below (NPost D dA A (nqR Qr) Qt) args s mc ms A) (F0 m 45 ls [])) : ∀ (S : hH) (bc bk : Nat) (x0 : Nat) (x2 : Nat) (x3 : Int32) (x4 : Int32) (t0 : Int32) (t1 : Nat) (H : Heap) (locs : List Loc) (u w : Nat) (ls : Array Slot), fX4_line_113 N Qt Qr k45 S bc bk x0 x2 x3 x4 t0 t1 → u + bc = mc → w + bk = ms → HX D dA [] S A s H locs → lv_has ls 5 [(0, .ref x0), (2, .ref x2), (3, .int x3), (4, .int x4)] → W p l e (rmN 8 mc ms) s m args below meth c H locs u w (MQT below (NPost D dA A (nqR Qr) Qt) args s mc ms A) (F0 m 113 ls [.int t0, .ref t1]) := by
  have hx := X.1
  have hb := X.2.1
  intro S bc bk x0 x2 x3 x4 t0 t1 H locs u w ls hf hu hw hM hl
  unfold fX4_line_113 at hf
  refine lv_iconst (v := 4) hx hb dX4_line_113 (by decide) ?_
  obtain ⟨w_30, ho, hf⟩ := hf
  obtain ⟨c_31, k_32, hc1, hk1, hf⟩ := hf
  refine n_cV (C := RX4) (T := TX4) (N := 9) (As := [.int t0, .int (4 : Int32)]) (rest := []) X hM hA hO hRf rfl ho (metX4_must l D dA K Qt _ S c_31 k_32 t1 t0 (4 : Int32) hf) (cwV 2 X.2.2.2.2 gX4_74 rfl rfl rfl ⟨rfl, hX4_must⟩ (rmN_le (Nat.le_of_ble_eq_true rfl) (Nat.le_of_ble_eq_true rfl))) hne hlk rfl hl.1 rfl (Nat.le_of_ble_eq_true rfl) ⟨nb_le hu hc1, nb_le hw hk1⟩ (nb_le hu hc1) (nb_le hw hk1) dX4_line_114 (fun v S1 H locs hf hM => ?_)
  obtain ⟨rfl, hf⟩ := hf
  generalize S1 = S_33 at hf hM
  have hu := nb_sub hu hc1
  have hw := nb_sub hw hk1
  refine W.eq (g2 := F0 m _ _ []) rfl ?_
  refine lv_iload_n hx hb dX4_line_117 rfl (lv_at hl 2 rfl) ?_
  refine lv_iconst (v := 1) hx hb dX4_line_118 (by decide) ?_
  refine lv_iload hx hb dX4_line_119 (lv_at hl 3 rfl) ?_
  refine lv_ishl hx hb dX4_line_121 ?_
  refine lv_ior hx hb dX4_line_122 ?_
  refine lv_topi (fun x3_34 ex => ?_)
  have hf := ec_lt_p ex hf
  refine lv_istore_n (lv' := [(3, .int x3_34), (0, .ref x0), (2, .ref x2), (4, .int x4)]) hx hb dX4_line_123 rfl hl (by decide) rfl (fun ls hl => ?_)
  refine lv_aload_n hx hb dX4_line_124 rfl (lv_at hl 1 rfl) ?_
  obtain ⟨w_35, ho, hf⟩ := hf
  obtain ⟨c_36, k_37, hc1, hk1, hf⟩ := hf
  refine n_cV (C := RX4) (T := TX4) (N := 9) (As := []) (rest := []) X hM hA hO hRf rfl ho (metX4_next l D dA K N Qt _ S_33 c_36 k_37 x0 hf) (cwV 0 X.2.2.2.2 gX4_27 rfl rfl rfl ⟨rfl, hX4_next⟩ (rmN_le (Nat.le_of_ble_eq_true rfl) (Nat.le_of_ble_eq_true rfl))) hne hlk rfl hl.1 rfl (Nat.le_of_ble_eq_true rfl) ⟨nb_le hu hc1, nb_le hw hk1⟩ (nb_le hu hc1) (nb_le hw hk1) dX4_line_125 (fun v S1 H locs hf hM => ?_)
  obtain ⟨rfl, hf⟩ := hf
  generalize S1 = S_38 at hf hM
  have hu := nb_sub hu hc1
  have hw := nb_sub hw hk1
  refine W.eq (g2 := F0 m _ _ []) rfl ?_
  refine lv_aload_n hx hb dX4_line_128 rfl (lv_at hl 2 rfl) ?_
  obtain ⟨v_39, h, hf⟩ := hf
  refine h_getvN (v := .ref v_39) (C := RX8) (T := TX8) (N := 5) (ci := 7) (k := 3) (host := "EventCounters") X hM in_X8 rfl (by decide) (xn_at hM.2.1 21 rfl) rfl (hR_i h) dX4_line_129 ?_
  refine lv_iload hx hb dX4_line_132 (lv_at hl 3 rfl) ?_
  refine lv_aload_n hx hb dX4_line_134 rfl (lv_at hl 1 rfl) ?_
  refine lv_iconst (v := 0) hx hb dX4_line_135 (by decide) ?_
  refine lv_bipush (v := 99) hx hb dX4_line_136 (by decide) ?_
  obtain ⟨w_40, ho, hf⟩ := hf
  obtain ⟨c_41, k_42, hc1, hk1, hf⟩ := hf
  refine n_cV (C := RX4) (T := TX4) (N := 9) (As := [.int (0 : Int32), .int (99 : Int32)]) (rest := [.int x4, .ref v_39]) X hM hA hO hRf rfl ho (metX4_number l D dA K N Qt _ S_38 c_41 k_42 x0 (0 : Int32) (99 : Int32) hf) (cwV 2 X.2.2.2.2 gX4_81 rfl rfl rfl ⟨rfl, hX4_number⟩ (rmN_le (Nat.le_of_ble_eq_true rfl) (Nat.le_of_ble_eq_true rfl))) hne hlk rfl hl.1 rfl (Nat.le_of_ble_eq_true rfl) ⟨nb_le hu hc1, nb_le hw hk1⟩ (nb_le hu hc1) (nb_le hw hk1) dX4_line_138 (fun v S1 H locs hf hM => ?_)
  obtain ⟨v_44, rfl, hf⟩ := hf
  generalize S1 = S_43 at hf hM
  have hu := nb_sub hu hc1
  have hw := nb_sub hw hk1
  refine W.eq (g2 := F0 m _ _ [.int v_44, .int x4, .ref v_39]) rfl ?_
  obtain ⟨h_45, h, hf⟩ := hf
  refine h_iast X hM h dX4_line_141 (fun H locs hM => ?_)
  refine lv_goto (tgt := 45) hx hb dX4_line_142 rfl ?_
  exact Hk45 h_45 (((bc - c_31) - c_36) - c_41) (((bk - k_32) - k_37) - k_42) x0 x2 x3_34 _ _ _ _ _ hf hu hw hM (lv_sub hl [1, 2, 0] rfl)
noncomputable def fX4_line_94 (N : Nat) (Qt : Nat → hH → Prop) (Qr : Nat → hH → Prop) (k45 : hH → Nat → Nat → Nat → Nat → Int32 → Prop) (S : hH) (bc bk : Nat) (x0 : Nat) (x2 : Nat) (x3 : Int32) (x4 : Int32) (t0 : Int32) (t1 : Nat) : Prop :=
  ∃ w_26, (hObj 4 S t1) = some w_26 ∧
  ∃ c_27 k_28 : Nat, c_27 ≤ bc ∧ k_28 ≤ bk ∧ fX4_must Qt (fun S_29 =>
  ((¬ ((x3 >>> (x4 &&& 31)) &&& (1 : Int32)) = 0) → (
    fX4_line_113 N Qt Qr k45 S_29 (bc - c_27) (bk - k_28) x0 x2 x3 x4 (0 : Int32) x0))
  ∧ (¬ (¬ ((x3 >>> (x4 &&& 31)) &&& (1 : Int32)) = 0) → (
    fX4_line_113 N Qt Qr k45 S_29 (bc - c_27) (bk - k_28) x0 x2 x3 x4 (1 : Int32) x0))) S c_27 k_28 t1 t0 (3 : Int32)
theorem bX4_line_94 {N : Nat} (X : CallFix p m c cX4_line 5 s args lw_all RX4) (hr : meth.sig.returnType = (some (.object "EventCounters$Item"))) (hlk : meth.locks = false) (hne : c.exceptionTable.isEmpty = true) (hin : meth.name = yX4_line.name) (hA : ∀ x, s.heap.size ≤ x → A x) (hO : OLD K A s s.heap) (hRf : ORF K s) {mc ms : Nat} {Qt : Nat → hH → Prop} {Qr : Nat → hH → Prop} {k45 : hH → Nat → Nat → Nat → Nat → Int32 → Prop} (Hk45 : ∀ (S : hH) (bc bk : Nat) (x0 : Nat) (x2 : Nat) (x3 : Int32) (H : Heap) (locs : List Loc) (u w : Nat) (ls : Array Slot), k45 S bc bk x0 x2 x3 → u + bc = mc → w + bk = ms → HX D dA [] S A s H locs → lv_has ls 5 [(0, .ref x0), (2, .ref x2), (3, .int x3)] → W p l e (rmN 8 mc ms) s m args below meth c H locs u w (MQT below (NPost D dA A (nqR Qr) Qt) args s mc ms A) (F0 m 45 ls [])) : ∀ (S : hH) (bc bk : Nat) (x0 : Nat) (x2 : Nat) (x3 : Int32) (x4 : Int32) (t0 : Int32) (t1 : Nat) (H : Heap) (locs : List Loc) (u w : Nat) (ls : Array Slot), fX4_line_94 N Qt Qr k45 S bc bk x0 x2 x3 x4 t0 t1 → u + bc = mc → w + bk = ms → HX D dA [] S A s H locs → lv_has ls 5 [(0, .ref x0), (2, .ref x2), (3, .int x3), (4, .int x4)] → W p l e (rmN 8 mc ms) s m args below meth c H locs u w (MQT below (NPost D dA A (nqR Qr) Qt) args s mc ms A) (F0 m 94 ls [.int t0, .ref t1]) := by
  have hx := X.1
  have hb := X.2.1
  intro S bc bk x0 x2 x3 x4 t0 t1 H locs u w ls hf hu hw hM hl
  unfold fX4_line_94 at hf
  refine lv_iconst (v := 3) hx hb dX4_line_94 (by decide) ?_
  obtain ⟨w_26, ho, hf⟩ := hf
  obtain ⟨c_27, k_28, hc1, hk1, hf⟩ := hf
  refine n_cV (C := RX4) (T := TX4) (N := 9) (As := [.int t0, .int (3 : Int32)]) (rest := []) X hM hA hO hRf rfl ho (metX4_must l D dA K Qt _ S c_27 k_28 t1 t0 (3 : Int32) hf) (cwV 2 X.2.2.2.2 gX4_74 rfl rfl rfl ⟨rfl, hX4_must⟩ (rmN_le (Nat.le_of_ble_eq_true rfl) (Nat.le_of_ble_eq_true rfl))) hne hlk rfl hl.1 rfl (Nat.le_of_ble_eq_true rfl) ⟨nb_le hu hc1, nb_le hw hk1⟩ (nb_le hu hc1) (nb_le hw hk1) dX4_line_95 (fun v S1 H locs hf hM => ?_)
  obtain ⟨rfl, hf⟩ := hf
  generalize S1 = S_29 at hf hM
  have hu := nb_sub hu hc1
  have hw := nb_sub hw hk1
  refine W.eq (g2 := F0 m _ _ []) rfl ?_
  refine lv_aload_n hx hb dX4_line_98 rfl (lv_at hl 0 rfl) ?_
  refine lv_iload_n hx hb dX4_line_99 rfl (lv_at hl 2 rfl) ?_
  refine lv_iload hx hb dX4_line_100 (lv_at hl 3 rfl) ?_
  refine lv_ishr hx hb dX4_line_102 ?_
  refine lv_iconst (v := 1) hx hb dX4_line_103 (by decide) ?_
  refine lv_iand hx hb dX4_line_104 ?_
  refine lv_if_ne (tgt := 112) hx hb dX4_line_105 rfl (fun cnd => ?_) (fun cnd => ?_)
  · have hf := hf.1 cnd
    refine lv_iconst (v := 0) hx hb dX4_line_112 (by decide) ?_
    exact bX4_line_113 X hr hlk hne hin hA hO hRf Hk45 S_29 (bc - c_27) (bk - k_28) x0 x2 x3 x4 (0 : Int32) x0 _ _ _ _ _ hf hu hw hM hl
  · have hf := hf.2 (not_not_intro cnd)
    refine lv_iconst (v := 1) hx hb dX4_line_108 (by decide) ?_
    refine lv_goto (tgt := 113) hx hb dX4_line_109 rfl ?_
    exact bX4_line_113 X hr hlk hne hin hA hO hRf Hk45 S_29 (bc - c_27) (bk - k_28) x0 x2 x3 x4 (1 : Int32) x0 _ _ _ _ _ hf hu hw hM hl
noncomputable def fX4_line_93 (N : Nat) (Qt : Nat → hH → Prop) (Qr : Nat → hH → Prop) (k45 : hH → Nat → Nat → Nat → Nat → Int32 → Prop) (S : hH) (bc bk : Nat) (x0 : Nat) (x2 : Nat) (x3 : Int32) (x4 : Int32) (t0 : Nat) : Prop :=
  fX4_line_94 N Qt Qr k45 S bc bk x0 x2 x3 x4 (0 : Int32) t0
theorem bX4_line_93 {N : Nat} (X : CallFix p m c cX4_line 5 s args lw_all RX4) (hr : meth.sig.returnType = (some (.object "EventCounters$Item"))) (hlk : meth.locks = false) (hne : c.exceptionTable.isEmpty = true) (hin : meth.name = yX4_line.name) (hA : ∀ x, s.heap.size ≤ x → A x) (hO : OLD K A s s.heap) (hRf : ORF K s) {mc ms : Nat} {Qt : Nat → hH → Prop} {Qr : Nat → hH → Prop} {k45 : hH → Nat → Nat → Nat → Nat → Int32 → Prop} (Hk45 : ∀ (S : hH) (bc bk : Nat) (x0 : Nat) (x2 : Nat) (x3 : Int32) (H : Heap) (locs : List Loc) (u w : Nat) (ls : Array Slot), k45 S bc bk x0 x2 x3 → u + bc = mc → w + bk = ms → HX D dA [] S A s H locs → lv_has ls 5 [(0, .ref x0), (2, .ref x2), (3, .int x3)] → W p l e (rmN 8 mc ms) s m args below meth c H locs u w (MQT below (NPost D dA A (nqR Qr) Qt) args s mc ms A) (F0 m 45 ls [])) : ∀ (S : hH) (bc bk : Nat) (x0 : Nat) (x2 : Nat) (x3 : Int32) (x4 : Int32) (t0 : Nat) (H : Heap) (locs : List Loc) (u w : Nat) (ls : Array Slot), fX4_line_93 N Qt Qr k45 S bc bk x0 x2 x3 x4 t0 → u + bc = mc → w + bk = ms → HX D dA [] S A s H locs → lv_has ls 5 [(0, .ref x0), (2, .ref x2), (3, .int x3), (4, .int x4)] → W p l e (rmN 8 mc ms) s m args below meth c H locs u w (MQT below (NPost D dA A (nqR Qr) Qt) args s mc ms A) (F0 m 93 ls [.ref t0]) := by
  have hx := X.1
  have hb := X.2.1
  intro S bc bk x0 x2 x3 x4 t0 H locs u w ls hf hu hw hM hl
  unfold fX4_line_93 at hf
  refine lv_iconst (v := 0) hx hb dX4_line_93 (by decide) ?_
  exact bX4_line_94 X hr hlk hne hin hA hO hRf Hk45 S bc bk x0 x2 x3 x4 (0 : Int32) t0 _ _ _ _ _ hf hu hw hM hl
noncomputable def fX4_line_45 (N : Nat) (Qt : Nat → hH → Prop) (Qr : Nat → hH → Prop) (kx145 : hH → Nat → Nat → Nat → Nat → Prop) : Nat → hH → Nat → Nat → Nat → Nat → Int32 → Prop
  | 0, _, _, _, _, _, _ => False
  | n + 1, S, bc, bk, x0, x2, x3 =>
    ∃ v_21, (hI 4 S x0 7) = some v_21 ∧
    ((¬ v_21 = (1 : Int32)) → (
      kx145 S bc bk x0 x2))
    ∧ (¬ (¬ v_21 = (1 : Int32)) → (
      ∃ v_22, (hI 4 S x0 8) = some v_22 ∧
      ec_lt (v_22 - (97 : Int32)) fun x4_23 =>
      ∃ v_24, (hI 4 S x0 6) = some v_24 ∧
      ∃ v_25, (hI 4 S x0 5) = some v_25 ∧
      ((¬ (v_24 - v_25) = (1 : Int32)) → (
        fX4_line_93 N Qt Qr (fX4_line_45 N Qt Qr kx145 n) S bc bk x0 x2 x3 x4_23 x0))
      ∧ (¬ (¬ (v_24 - v_25) = (1 : Int32)) → (
        ∃ v_46, (fX0_isIn (x4_23.toInt64) (0 : Int64) (7 : Int64)) = some v_46 ∧
        ((v_46 = 0) → (
          fX4_line_93 N Qt Qr (fX4_line_45 N Qt Qr kx145 n) S bc bk x0 x2 x3 x4_23 x0))
        ∧ (¬ (v_46 = 0) → (
          fX4_line_94 N Qt Qr (fX4_line_45 N Qt Qr kx145 n) S bc bk x0 x2 x3 x4_23 (1 : Int32) x0))))))
theorem bX4_line_45 {N : Nat} (X : CallFix p m c cX4_line 5 s args lw_all RX4) (hr : meth.sig.returnType = (some (.object "EventCounters$Item"))) (hlk : meth.locks = false) (hne : c.exceptionTable.isEmpty = true) (hin : meth.name = yX4_line.name) (hA : ∀ x, s.heap.size ≤ x → A x) (hO : OLD K A s s.heap) (hRf : ORF K s) {mc ms : Nat} {Qt : Nat → hH → Prop} {Qr : Nat → hH → Prop} {kx145 : hH → Nat → Nat → Nat → Nat → Prop} (Hkx145 : ∀ (S : hH) (bc bk : Nat) (x0 : Nat) (x2 : Nat) (H : Heap) (locs : List Loc) (u w : Nat) (ls : Array Slot), kx145 S bc bk x0 x2 → u + bc = mc → w + bk = ms → HX D dA [] S A s H locs → lv_has ls 5 [(0, .ref x0), (2, .ref x2)] → W p l e (rmN 8 mc ms) s m args below meth c H locs u w (MQT below (NPost D dA A (nqR Qr) Qt) args s mc ms A) (F0 m 145 ls [])) : ∀ (n : Nat) (S : hH) (bc bk : Nat) (x0 : Nat) (x2 : Nat) (x3 : Int32) (H : Heap) (locs : List Loc) (u w : Nat) (ls : Array Slot), fX4_line_45 N Qt Qr kx145 n S bc bk x0 x2 x3 → u + bc = mc → w + bk = ms → HX D dA [] S A s H locs → lv_has ls 5 [(0, .ref x0), (2, .ref x2), (3, .int x3)] → W p l e (rmN 8 mc ms) s m args below meth c H locs u w (MQT below (NPost D dA A (nqR Qr) Qt) args s mc ms A) (F0 m 45 ls []) := by
  have hx := X.1
  have hb := X.2.1
  intro n
  induction n with
  | zero =>
    intro S bc bk x0 x2 x3 H locs u w ls hf hu hw hM hl
    rw [fX4_line_45] at hf
    exact hf.elim
  | succ n ih =>
    intro S bc bk x0 x2 x3 H locs u w ls hf hu hw hM hl
    rw [fX4_line_45] at hf
    refine lv_aload_n hx hb dX4_line_45 rfl (lv_at hl 0 rfl) ?_
    obtain ⟨v_21, h, hf⟩ := hf
    refine h_getv (v := .int v_21) (C := RX4) (T := TX4) (N := 9) (ci := 4) (k := 7) X hM in_X4 rfl (by decide) q235 rfl (hI_i h) dX4_line_46 ?_
    refine lv_iconst (v := 1) hx hb dX4_line_49 (by decide) ?_
    refine lv_icmp_ne (tgt := 145) hx hb dX4_line_50 rfl (fun cnd => ?_) (fun cnd => ?_)
    · have hf := hf.1 cnd
      exact Hkx145 S bc bk x0 x2 _ _ _ _ _ hf hu hw hM (lv_sub hl [0, 1] rfl)
    · have hf := hf.2 (not_not_intro cnd)
      refine lv_aload_n hx hb dX4_line_53 rfl (lv_at hl 0 rfl) ?_
      obtain ⟨v_22, h, hf⟩ := hf
      refine h_getv (v := .int v_22) (C := RX4) (T := TX4) (N := 9) (ci := 4) (k := 8) X hM in_X4 rfl (by decide) q236 rfl (hI_i h) dX4_line_54 ?_
      refine lv_bipush (v := 97) hx hb dX4_line_57 (by decide) ?_
      refine lv_isub hx hb dX4_line_59 ?_
      refine lv_topi (fun x4_23 ex => ?_)
      have hf := ec_lt_p ex hf
      refine lv_istore (lv' := [(4, .int x4_23), (0, .ref x0), (2, .ref x2), (3, .int x3)]) hx hb dX4_line_60 hl (by decide) rfl (fun ls hl => ?_)
      refine lv_aload_n hx hb dX4_line_62 rfl (lv_at hl 1 rfl) ?_
      refine lv_aload_n hx hb dX4_line_63 rfl (lv_at hl 1 rfl) ?_
      obtain ⟨v_24, h, hf⟩ := hf
      refine h_getv (v := .int v_24) (C := RX4) (T := TX4) (N := 9) (ci := 4) (k := 6) X hM in_X4 rfl (by decide) q234 rfl (hI_i h) dX4_line_64 ?_
      refine lv_aload_n hx hb dX4_line_67 rfl (lv_at hl 1 rfl) ?_
      obtain ⟨v_25, h, hf⟩ := hf
      refine h_getv (v := .int v_25) (C := RX4) (T := TX4) (N := 9) (ci := 4) (k := 5) X hM in_X4 rfl (by decide) q233 rfl (hI_i h) dX4_line_68 ?_
      refine lv_isub hx hb dX4_line_71 ?_
      refine lv_iconst (v := 1) hx hb dX4_line_72 (by decide) ?_
      refine lv_icmp_ne (tgt := 93) hx hb dX4_line_73 rfl (fun cnd => ?_) (fun cnd => ?_)
      · have hf := hf.1 cnd
        exact bX4_line_93 X hr hlk hne hin hA hO hRf ih S bc bk x0 x2 x3 x4_23 x0 _ _ _ _ _ hf hu hw hM (lv_sub hl [1, 2, 3, 0] rfl)
      · have hf := hf.2 (not_not_intro cnd)
        refine lv_iload hx hb dX4_line_76 (lv_at hl 0 rfl) ?_
        refine lv_i2l hx hb dX4_line_78 rfl ?_
        refine lv_lconst (v := 0) hx hb dX4_line_79 (by decide) ?_
        refine lv_ldc2 (own := RX4) (v := 7) hx hb X.2.2.2.1 (X.2.2.2.2 _ q371) dX4_line_80 ?_
        obtain ⟨v_46, h, hf⟩ := hf
        refine e_cSN (host := "EventCounters") (v := .int v_46) (As := [.long (x4_23.toInt64), .long (0 : Int64), .long (7 : Int64)]) (rest := [.ref x0]) X (metX0_isIn l (x4_23.toInt64) (0 : Int64) (7 : Int64) _ h) ⟨va_cnB 3 X.2.2.2.2 (lw_meth q96) rfl rfl rfl (xn_at hM.2.1 0 rfl) (X.2.2.2.2 _ q60) hX0_isIn (rmN_leL (Nat.le_of_ble_eq_true rfl) (Nat.le_of_ble_eq_true rfl)), X.2.2.2.2 _ q95, trivial⟩ rfl hl.1 rfl (Nat.le_of_ble_eq_true rfl) ⟨nb_u hu, nb_u hw⟩ dX4_line_83 ?_
        refine lv_if_eq (tgt := 93) hx hb dX4_line_86 rfl (fun cnd => ?_) (fun cnd => ?_)
        · have hf := hf.1 cnd
          exact bX4_line_93 X hr hlk hne hin hA hO hRf ih S bc bk x0 x2 x3 x4_23 x0 _ _ _ _ _ hf hu hw hM (lv_sub hl [1, 2, 3, 0] rfl)
        · have hf := hf.2 cnd
          refine lv_iconst (v := 1) hx hb dX4_line_89 (by decide) ?_
          refine lv_goto (tgt := 94) hx hb dX4_line_90 rfl ?_
          exact bX4_line_94 X hr hlk hne hin hA hO hRf ih S bc bk x0 x2 x3 x4_23 (1 : Int32) x0 _ _ _ _ _ hf hu hw hM (lv_sub hl [1, 2, 3, 0] rfl)
noncomputable def fX4_line_15 (N : Nat) (Qt : Nat → hH → Prop) (Qr : Nat → hH → Prop) (S : hH) (bc bk : Nat) (x0 : Nat) (x1 : Int32) (t0 : Int32) (t1 : Nat) : Prop :=
  ∃ w_2, (hObj 4 S t1) = some w_2 ∧
  ∃ c_3 k_4 : Nat, c_3 ≤ bc ∧ k_4 ≤ bk ∧ fX4_must Qt (fun S_5 =>
  ∃ w_6, (hObj 4 S_5 x0) = some w_6 ∧
  ∃ c_7 k_8 : Nat, c_7 ≤ (bc - c_3) ∧ k_8 ≤ (bk - k_4) ∧ fX4_next N Qt (fun S_9 =>
  1 ≤ ((bc - c_3) - c_7) ∧ 5 ≤ ((bk - k_4) - k_8) ∧ ∀ q_10 : Nat, S_9 q_10 = none →
  ec_lt (va_up S_9 q_10 (some (.inr (7, [.int 0, .int 0, .int 0, .null, .int 0])))) fun S_11 =>
  ∃ v_12, (hI 4 S_11 x0 2) = some v_12 ∧
  ∃ w_13, (hObj 4 S_11 x0) = some w_13 ∧
  ∃ c_14 k_15 : Nat, c_14 ≤ (((bc - c_3) - c_7) - 1) ∧ k_15 ≤ (((bk - k_4) - k_8) - 5) ∧ fX4_number N Qt (fun v_17 S_16 =>
  ∃ c_18 k_19 : Nat, c_18 ≤ ((((bc - c_3) - c_7) - 1) - c_14) ∧ k_19 ≤ ((((bk - k_4) - k_8) - 5) - k_15) ∧ fX8_init Qt (fun S_20 =>
  fX4_line_45 N Qt Qr (fun S_47 bc_48 bk_49 x0_50 x2_51 =>
    ∃ w_52, (hObj 4 S_47 x0_50) = some w_52 ∧
    ∃ c_53 k_54 : Nat, c_53 ≤ bc_48 ∧ k_54 ≤ bk_49 ∧ fX4_sign N Qt (fun S_55 =>
    ∃ v_56, (hR 4 S_55 x0_50 1) = some v_56 ∧
    ∃ v_57, (hI 4 S_55 x0_50 2) = some v_57 ∧
    ∃ w_59, (hObj 7 S_55 x2_51) = some w_59 ∧
    ∃ h_58, (hAsR 4 S_55 v_56 v_57 x2_51) = some h_58 ∧
    ∃ v_60, (hI 4 h_58 x0_50 2) = some v_60 ∧
    ∃ h_61, (hPut 4 h_58 x0_50 2 (.int (v_60 + (1 : Int32)))) = some h_61 ∧
    Qr x2_51 h_61) S_47 c_53 k_54 x0_50) N S_20 (((((bc - c_3) - c_7) - 1) - c_14) - c_18) (((((bk - k_4) - k_8) - 5) - k_15) - k_19) x0 q_10 (0 : Int32)) S_16 c_18 k_19 q_10 v_12 x1 v_17) S_11 c_14 k_15 x0 (1 : Int32) (20 : Int32)) S_5 c_7 k_8 x0) S c_3 k_4 t1 t0 (5 : Int32)
theorem bX4_line_15 {N : Nat} (X : CallFix p m c cX4_line 5 s args lw_all RX4) (hr : meth.sig.returnType = (some (.object "EventCounters$Item"))) (hlk : meth.locks = false) (hne : c.exceptionTable.isEmpty = true) (hin : meth.name = yX4_line.name) (hA : ∀ x, s.heap.size ≤ x → A x) (hO : OLD K A s s.heap) (hRf : ORF K s) {mc ms : Nat} {Qt : Nat → hH → Prop} {Qr : Nat → hH → Prop} : ∀ (S : hH) (bc bk : Nat) (x0 : Nat) (x1 : Int32) (t0 : Int32) (t1 : Nat) (H : Heap) (locs : List Loc) (u w : Nat) (ls : Array Slot), fX4_line_15 N Qt Qr S bc bk x0 x1 t0 t1 → u + bc = mc → w + bk = ms → HX D dA [] S A s H locs → lv_has ls 5 [(0, .ref x0), (1, .int x1)] → W p l e (rmN 8 mc ms) s m args below meth c H locs u w (MQT below (NPost D dA A (nqR Qr) Qt) args s mc ms A) (F0 m 15 ls [.int t0, .ref t1]) := by
  have hx := X.1
  have hb := X.2.1
  intro S bc bk x0 x1 t0 t1 H locs u w ls hf hu hw hM hl
  unfold fX4_line_15 at hf
  refine lv_iconst (v := 5) hx hb dX4_line_15 (by decide) ?_
  obtain ⟨w_2, ho, hf⟩ := hf
  obtain ⟨c_3, k_4, hc1, hk1, hf⟩ := hf
  refine n_cV (C := RX4) (T := TX4) (N := 9) (As := [.int t0, .int (5 : Int32)]) (rest := []) X hM hA hO hRf rfl ho (metX4_must l D dA K Qt _ S c_3 k_4 t1 t0 (5 : Int32) hf) (cwV 2 X.2.2.2.2 gX4_74 rfl rfl rfl ⟨rfl, hX4_must⟩ (rmN_le (Nat.le_of_ble_eq_true rfl) (Nat.le_of_ble_eq_true rfl))) hne hlk rfl hl.1 rfl (Nat.le_of_ble_eq_true rfl) ⟨nb_le hu hc1, nb_le hw hk1⟩ (nb_le hu hc1) (nb_le hw hk1) dX4_line_16 (fun v S1 H locs hf hM => ?_)
  obtain ⟨rfl, hf⟩ := hf
  generalize S1 = S_5 at hf hM
  have hu := nb_sub hu hc1
  have hw := nb_sub hw hk1
  refine W.eq (g2 := F0 m _ _ []) rfl ?_
  refine lv_aload_n hx hb dX4_line_19 rfl (lv_at hl 0 rfl) ?_
  obtain ⟨w_6, ho, hf⟩ := hf
  obtain ⟨c_7, k_8, hc1, hk1, hf⟩ := hf
  refine n_cV (C := RX4) (T := TX4) (N := 9) (As := []) (rest := []) X hM hA hO hRf rfl ho (metX4_next l D dA K N Qt _ S_5 c_7 k_8 x0 hf) (cwV 0 X.2.2.2.2 gX4_27 rfl rfl rfl ⟨rfl, hX4_next⟩ (rmN_le (Nat.le_of_ble_eq_true rfl) (Nat.le_of_ble_eq_true rfl))) hne hlk rfl hl.1 rfl (Nat.le_of_ble_eq_true rfl) ⟨nb_le hu hc1, nb_le hw hk1⟩ (nb_le hu hc1) (nb_le hw hk1) dX4_line_20 (fun v S1 H locs hf hM => ?_)
  obtain ⟨rfl, hf⟩ := hf
  generalize S1 = S_9 at hf hM
  have hu := nb_sub hu hc1
  have hw := nb_sub hw hk1
  refine W.eq (g2 := F0 m _ _ []) rfl ?_
  obtain ⟨hb1, hb2, hf⟩ := hf
  refine n_new (C := RX8) (T := TX8) (N := 5) (ci := 7) (fs := [.int 0, .int 0, .int 0, .null, .int 0]) tyX8 tyX8_ok X hM hA in_X8 q113 q340 q76 rfl (fun j hj => by rcases (show j = 0 ∨ j = 1 ∨ j = 2 ∨ j = 3 ∨ j = 4 by omega) with rfl | rfl | rfl | rfl | rfl <;> rfl) (nb_le hu hb1) (nb_le hw hb2) dX4_line_23 (fun q_10 H hq hM => ?_)
  have hf := hf q_10 hq
  obtain ⟨S_11, eS⟩ : ∃ z : hH, z = va_up S_9 q_10 (some (.inr (7, [.int 0, .int 0, .int 0, .null, .int 0]))) := ⟨_, rfl⟩
  rw [← eS] at hM
  have hf := ec_lt_p eS hf
  have hu := nb_sub hu hb1
  have hw := nb_sub hw hb2
  refine lv_dup hx hb dX4_line_26 rfl ?_
  refine lv_aload_n hx hb dX4_line_27 rfl (lv_at hl 0 rfl) ?_
  obtain ⟨v_12, h, hf⟩ := hf
  refine h_getv (v := .int v_12) (C := RX4) (T := TX4) (N := 9) (ci := 4) (k := 2) X hM in_X4 rfl (by decide) q228 rfl (hI_i h) dX4_line_28 ?_
  refine lv_iload_n hx hb dX4_line_31 rfl (lv_at hl 1 rfl) ?_
  refine lv_aload_n hx hb dX4_line_32 rfl (lv_at hl 0 rfl) ?_
  refine lv_iconst (v := 1) hx hb dX4_line_33 (by decide) ?_
  refine lv_bipush (v := 20) hx hb dX4_line_34 (by decide) ?_
  obtain ⟨w_13, ho, hf⟩ := hf
  obtain ⟨c_14, k_15, hc1, hk1, hf⟩ := hf
  refine n_cV (C := RX4) (T := TX4) (N := 9) (As := [.int (1 : Int32), .int (20 : Int32)]) (rest := [.int x1, .int v_12, .ref q_10, .ref q_10]) X hM hA hO hRf rfl ho (metX4_number l D dA K N Qt _ S_11 c_14 k_15 x0 (1 : Int32) (20 : Int32) hf) (cwV 2 X.2.2.2.2 gX4_81 rfl rfl rfl ⟨rfl, hX4_number⟩ (rmN_le (Nat.le_of_ble_eq_true rfl) (Nat.le_of_ble_eq_true rfl))) hne hlk rfl hl.1 rfl (Nat.le_of_ble_eq_true rfl) ⟨nb_le hu hc1, nb_le hw hk1⟩ (nb_le hu hc1) (nb_le hw hk1) dX4_line_36 (fun v S1 H locs hf hM => ?_)
  obtain ⟨v_17, rfl, hf⟩ := hf
  generalize S1 = S_16 at hf hM
  have hu := nb_sub hu hc1
  have hw := nb_sub hw hk1
  refine W.eq (g2 := F0 m _ _ [.int v_17, .int x1, .int v_12, .ref q_10, .ref q_10]) rfl ?_
  obtain ⟨c_18, k_19, hc1, hk1, hf⟩ := hf
  refine n_cI (As := [.int v_12, .int x1, .int v_17]) (rest := [.ref q_10]) X hM hA hO hRf (metX8_init l D dA K Qt _ S_16 c_18 k_19 q_10 v_12 x1 v_17 hf) (cwI 3 X.2.2.2.2 (lw_meth q347) rfl rfl rfl (X.2.2.2.2 _ q76) (X.2.2.2.2 _ q345) (X.2.2.2.2 _ q346) rfl hX8_init (rmN_le (Nat.le_of_ble_eq_true rfl) (Nat.le_of_ble_eq_true rfl))) hne hlk rfl hl.1 rfl (Nat.le_of_ble_eq_true rfl) ⟨nb_le hu hc1, nb_le hw hk1⟩ (nb_le hu hc1) (nb_le hw hk1) dX4_line_39 (fun v S1 H locs hf hM => ?_)
  obtain ⟨rfl, hf⟩ := hf
  generalize S1 = S_20 at hf hM
  have hu := nb_sub hu hc1
  have hw := nb_sub hw hk1
  refine W.eq (g2 := F0 m _ _ [.ref q_10]) rfl ?_
  refine lv_astore_n (lv' := [(2, .ref q_10), (0, .ref x0), (1, .int x1)]) hx hb dX4_line_42 rfl hl (by decide) rfl (fun ls hl => ?_)
  refine lv_iconst (v := 0) hx hb dX4_line_43 (by decide) ?_
  refine lv_istore_n (lv' := [(3, .int (0 : Int32)), (2, .ref q_10), (0, .ref x0), (1, .int x1)]) hx hb dX4_line_44 rfl hl (by decide) rfl (fun ls hl => ?_)
  exact bX4_line_45 X hr hlk hne hin hA hO hRf (fun S_47 bc_48 bk_49 x0_50 x2_51 H locs u w ls hf hu hw hM hl => by
    refine lv_aload_n hx hb dX4_line_145 rfl (lv_at hl 0 rfl) ?_
    obtain ⟨w_52, ho, hf⟩ := hf
    obtain ⟨c_53, k_54, hc1, hk1, hf⟩ := hf
    refine n_cV (C := RX4) (T := TX4) (N := 9) (As := []) (rest := []) X hM hA hO hRf rfl ho (metX4_sign l D dA K N Qt _ S_47 c_53 k_54 x0_50 hf) (cwV 0 X.2.2.2.2 gX4_94 rfl rfl rfl ⟨rfl, hX4_sign⟩ (rmN_le (Nat.le_of_ble_eq_true rfl) (Nat.le_of_ble_eq_true rfl))) hne hlk rfl hl.1 rfl (Nat.le_of_ble_eq_true rfl) ⟨nb_le hu hc1, nb_le hw hk1⟩ (nb_le hu hc1) (nb_le hw hk1) dX4_line_146 (fun v S1 H locs hf hM => ?_)
    obtain ⟨rfl, hf⟩ := hf
    generalize S1 = S_55 at hf hM
    have hu := nb_sub hu hc1
    have hw := nb_sub hw hk1
    refine W.eq (g2 := F0 m _ _ []) rfl ?_
    refine lv_aload_n hx hb dX4_line_149 rfl (lv_at hl 0 rfl) ?_
    obtain ⟨v_56, h, hf⟩ := hf
    refine h_getv (v := .ref v_56) (C := RX4) (T := TX4) (N := 9) (ci := 4) (k := 1) X hM in_X4 rfl (by decide) q225 rfl (hR_i h) dX4_line_150 ?_
    refine lv_aload_n hx hb dX4_line_153 rfl (lv_at hl 0 rfl) ?_
    obtain ⟨v_57, h, hf⟩ := hf
    refine h_getv (v := .int v_57) (C := RX4) (T := TX4) (N := 9) (ci := 4) (k := 2) X hM in_X4 rfl (by decide) q228 rfl (hI_i h) dX4_line_154 ?_
    refine lv_aload_n hx hb dX4_line_157 rfl (lv_at hl 1 rfl) ?_
    obtain ⟨w_59, ho, hf⟩ := hf
    obtain ⟨h_58, h, hf⟩ := hf
    refine n_astS (C := RX8) (T := TX8) (N := 5) (ci := 7) (t := 4) X hM rfl rfl ho h dX4_line_158 (fun H locs hM => ?_)
    refine lv_aload_n hx hb dX4_line_159 rfl (lv_at hl 0 rfl) ?_
    refine lv_dup hx hb dX4_line_160 rfl ?_
    obtain ⟨v_60, h, hf⟩ := hf
    refine h_getv (v := .int v_60) (C := RX4) (T := TX4) (N := 9) (ci := 4) (k := 2) X hM in_X4 rfl (by decide) q228 rfl (hI_i h) dX4_line_161 ?_
    refine lv_iconst (v := 1) hx hb dX4_line_164 (by decide) ?_
    refine lv_iadd hx hb dX4_line_165 ?_
    obtain ⟨h_61, h, hf⟩ := hf
    refine h_put (C := RX4) (T := TX4) (N := 9) (ci := 4) (k := 2) (ty := .int) tyX4 tyX4_ok nmX4 X hM in_X4 rfl (by decide) q228 rfl rfl (by decide +kernel) rfl rfl h dX4_line_166 (fun H locs hM => ?_)
    refine lv_aload_n hx hb dX4_line_169 rfl (lv_at hl 1 rfl) ?_
    exact n_aret X hr hlk hM (nb_u hu) (nb_u hw) hf dX4_line_170) N S_20 (((((bc - c_3) - c_7) - 1) - c_14) - c_18) (((((bk - k_4) - k_8) - 5) - k_15) - k_19) x0 q_10 (0 : Int32) _ _ _ _ _ hf hu hw hM (lv_sub hl [2, 1, 0] rfl)
noncomputable def fX4_line (N : Nat) (Qt : Nat → hH → Prop) (Qr : Nat → hH → Prop) (S : hH) (bc bk : Nat) (x0 : Nat) (x1 : Int32) : Prop :=
  ∃ v_1, (hI 4 S x0 2) = some v_1 ∧
  (((16 : Int32) ≤ v_1) → (
    fX4_line_15 N Qt Qr S bc bk x0 x1 (0 : Int32) x0))
  ∧ (¬ ((16 : Int32) ≤ v_1) → (
    fX4_line_15 N Qt Qr S bc bk x0 x1 (1 : Int32) x0))
theorem metX4_line (l : Launch) (D : va_G) (dA : Nat → ClassId) (K : oK) (N : Nat) (Qt : Nat → hH → Prop) (Qr : Nat → hH → Prop) (S : hH) (bc bk : Nat) (x0 : Nat) (x1 : Int32) {sz : Nat} (hf : fX4_line N Qt Qr S bc bk x0 x1) : MetT l yX4_line (ws_ yX4_line cX4_line 5 (some (.object "EventCounters$Item"))) (rmN 8 bc bk) (NPre D dA K sz S [.ref x0, .int x1]) (NPost D dA (NA S sz) (nqR Qr) Qt) bc bk (NA S sz) := by
  refine n_ofW rfl (by decide) (Nat.le_of_ble_eq_true rfl) (fun A p e s m args below meth c X hr hlk hne hin hA hO hRf hM ls hl => ?_)
  have hl : lv_has ls 5 [(0, .ref x0), (1, .int x1)] := hl
  have hx := X.1
  have hb := X.2.1
  have hu : 0 + bc = bc := Nat.zero_add bc
  have hw : 0 + bk = bk := Nat.zero_add bk
  unfold fX4_line at hf
  refine lv_aload_n hx hb dX4_line_0 rfl (lv_at hl 0 rfl) ?_
  refine lv_aload_n hx hb dX4_line_1 rfl (lv_at hl 0 rfl) ?_
  obtain ⟨v_1, h, hf⟩ := hf
  refine h_getv (v := .int v_1) (C := RX4) (T := TX4) (N := 9) (ci := 4) (k := 2) X hM in_X4 rfl (by decide) q228 rfl (hI_i h) dX4_line_2 ?_
  refine lv_bipush (v := 16) hx hb dX4_line_5 (by decide) ?_
  refine lv_icmp_ge (tgt := 14) hx hb dX4_line_7 rfl (fun cnd => ?_) (fun cnd => ?_)
  · have hf := hf.1 cnd
    refine lv_iconst (v := 0) hx hb dX4_line_14 (by decide) ?_
    exact bX4_line_15 X hr hlk hne hin hA hO hRf  S bc bk x0 x1 (0 : Int32) x0 _ _ _ _ _ hf hu hw hM hl
  · have hf := hf.2 cnd
    refine lv_iconst (v := 1) hx hb dX4_line_10 (by decide) ?_
    refine lv_goto (tgt := 15) hx hb dX4_line_11 rfl ?_
    exact bX4_line_15 X hr hlk hne hin hA hO hRf  S bc bk x0 x1 (1 : Int32) x0 _ _ _ _ _ hf hu hw hM hl
theorem hX4_line : yX4_line.cls ≠ "java/lang/invoke/MethodHandle" ∧ yX4_line.cls ≠ "java/lang/invoke/VarHandle" ∧ (parseMethodDescriptor yX4_line.desc).map (fun d => d.parameters.length) = some 1 := by decide +kernel

theorem hX4_items : yX4_items.cls ≠ "java/lang/invoke/MethodHandle" ∧ yX4_items.cls ≠ "java/lang/invoke/VarHandle" ∧ (parseMethodDescriptor yX4_items.desc).map (fun d => d.parameters.length) = some 3 := by decide +kernel
theorem gX4_107 : GoodIn lw_all (wsV RX4 107 RX4 yX4_adds (ws_ yX4_adds cX4_adds 3 none)) := lw_V q401 q403 qs11 q65 q404
theorem gX4_114 : GoodIn lw_all (wsV RX4 114 RX4 yX4_items (ws_ yX4_items cX4_items 4 none)) := lw_V q278 q280 qs5 q65 q281
theorem gX4_120 : GoodIn lw_all (wsV RX4 120 RX4 yX4_isWord (ws_ yX4_isWord cX4_isWord 4 (some .boolean))) := lw_V q283 q285 qs6 q65 q286
noncomputable def fX4_loop_11 (N : Nat) (self : (Nat → hH → Prop) → (hH → Prop) → hH → Nat → Nat → Nat → Nat → Int32 → Int32 → Prop) (Qt : Nat → hH → Prop) (Qr : Nat → hH → Prop) (S : hH) (bc bk : Nat) (x0 : Nat) (x1 : Int32) (x2 : Int32) (t0 : Int32) (t1 : Nat) : Prop :=
  ∃ w_1, (hObj 4 S t1) = some w_1 ∧
  ∃ c_2 k_3 : Nat, c_2 ≤ bc ∧ k_3 ≤ bk ∧ fX4_must Qt (fun S_4 =>
  ∃ w_5, (hObj 4 S_4 x0) = some w_5 ∧
  ∃ c_6 k_7 : Nat, c_6 ≤ (bc - c_2) ∧ k_7 ≤ (bk - k_3) ∧ fX4_next N Qt (fun S_8 =>
  1 ≤ ((bc - c_2) - c_6) ∧ 5 ≤ ((bk - k_3) - k_7) ∧ ∀ q_9 : Nat, S_8 q_9 = none →
  ec_lt (va_up S_8 q_9 (some (.inr (8, [.null, .int 0, .int 0, .int 0, .int 0])))) fun S_10 =>
  ∃ w_11, (hObj 4 S_10 x0) = some w_11 ∧
  ∃ c_12 k_13 : Nat, c_12 ≤ (((bc - c_2) - c_6) - 1) ∧ k_13 ≤ (((bk - k_3) - k_7) - 5) ∧ fX4_number N Qt (fun v_15 S_14 =>
  ∃ c_16 k_17 : Nat, c_16 ≤ ((((bc - c_2) - c_6) - 1) - c_12) ∧ k_17 ≤ ((((bk - k_3) - k_7) - 5) - k_13) ∧ fX9_init Qt (fun S_18 =>
  ∃ w_19, (hObj 4 S_18 x0) = some w_19 ∧
  ∃ c_20 k_21 : Nat, c_20 ≤ (((((bc - c_2) - c_6) - 1) - c_12) - c_16) ∧ k_21 ≤ (((((bk - k_3) - k_7) - 5) - k_13) - k_17) ∧ fX4_adds Qt (fun S_22 =>
  ∃ w_23, (hObj 4 S_22 x0) = some w_23 ∧
  ∃ c_24 k_25 : Nat, c_24 ≤ ((((((bc - c_2) - c_6) - 1) - c_12) - c_16) - c_20) ∧ k_25 ≤ ((((((bk - k_3) - k_7) - 5) - k_13) - k_17) - k_21) ∧ fX4_sign N Qt (fun S_26 =>
  ∃ v_27, (hI 8 S_26 q_9 2) = some v_27 ∧
  ∃ w_28, (hObj 4 S_26 x0) = some w_28 ∧
  ∃ c_29 k_30 : Nat, c_29 ≤ (((((((bc - c_2) - c_6) - 1) - c_12) - c_16) - c_20) - c_24) ∧ k_30 ≤ (((((((bk - k_3) - k_7) - 5) - k_13) - k_17) - k_21) - k_25) ∧ self Qt (fun S_31 =>
  ∃ w_32, (hObj 4 S_31 x0) = some w_32 ∧
  ∃ c_33 k_34 : Nat, c_33 ≤ ((((((((bc - c_2) - c_6) - 1) - c_12) - c_16) - c_20) - c_24) - c_29) ∧ k_34 ≤ ((((((((bk - k_3) - k_7) - 5) - k_13) - k_17) - k_21) - k_25) - k_30) ∧ fX4_isWord N 2 Qt (fun v_36 S_35 =>
  ∃ w_37, (hObj 4 S_35 x0) = some w_37 ∧
  ∃ c_38 k_39 : Nat, c_38 ≤ (((((((((bc - c_2) - c_6) - 1) - c_12) - c_16) - c_20) - c_24) - c_29) - c_33) ∧ k_39 ≤ (((((((((bk - k_3) - k_7) - 5) - k_13) - k_17) - k_21) - k_25) - k_30) - k_34) ∧ fX4_must Qt (fun S_40 =>
  ∃ w_41, (hObj 4 S_40 x0) = some w_41 ∧
  ∃ c_42 k_43 : Nat, c_42 ≤ ((((((((((bc - c_2) - c_6) - 1) - c_12) - c_16) - c_20) - c_24) - c_29) - c_33) - c_38) ∧ k_43 ≤ ((((((((((bk - k_3) - k_7) - 5) - k_13) - k_17) - k_21) - k_25) - k_30) - k_34) - k_39) ∧ fX4_next N Qt (fun S_44 =>
  ∃ w_45, (hObj 4 S_44 x0) = some w_45 ∧
  ∃ c_46 k_47 : Nat, c_46 ≤ (((((((((((bc - c_2) - c_6) - 1) - c_12) - c_16) - c_20) - c_24) - c_29) - c_33) - c_38) - c_42) ∧ k_47 ≤ (((((((((((bk - k_3) - k_7) - 5) - k_13) - k_17) - k_21) - k_25) - k_30) - k_34) - k_39) - k_43) ∧ fX4_sign N Qt (fun S_48 =>
  Qr q_9 S_48) S_44 c_46 k_47 x0) S_40 c_42 k_43 x0) S_35 c_38 k_39 x0 v_36 (2 : Int32)) S_31 c_33 k_34 x0) S_26 c_29 k_30 x0 q_9 (x1 + (1 : Int32)) (x2 * v_27)) S_22 c_24 k_25 x0) S_18 c_20 k_21 x0 q_9) S_14 c_16 k_17 q_9 v_15 x1 x2) S_10 c_12 k_13 x0 (1 : Int32) (99 : Int32)) S_4 c_6 k_7 x0) S c_2 k_3 t1 t0 (5 : Int32)
theorem bX4_loop_11 {N : Nat} (X : CallFix p m c cX4_loop 4 s args lw_all RX4) (hr : meth.sig.returnType = (some (.object "EventCounters$Item"))) (hlk : meth.locks = false) (hne : c.exceptionTable.isEmpty = true) (hin : meth.name = yX4_loop.name) (hA : ∀ x, s.heap.size ≤ x → A x) (hO : OLD K A s s.heap) (hRf : ORF K s) {dep : Nat} {self : (Nat → hH → Prop) → (hH → Prop) → hH → Nat → Nat → Nat → Nat → Int32 → Int32 → Prop} (Hself : ∀ (Qt : Nat → hH → Prop) (Qr : hH → Prop) (S : hH) (bc bk : Nat) (x0 x1 : Nat) (x2 x3 : Int32) {sz : Nat}, self Qt Qr S bc bk x0 x1 x2 x3 → MetT l yX4_items (ws_ yX4_items cX4_items 4 none) (rmN dep bc bk) (NPre D dA K sz S [.ref x0, .ref x1, .int x2, .int x3]) (NPost D dA (NA S sz) (nqV Qr) Qt) bc bk (NA S sz)) {mc ms : Nat} {Qt : Nat → hH → Prop} {Qr : Nat → hH → Prop} : ∀ (S : hH) (bc bk : Nat) (x0 : Nat) (x1 : Int32) (x2 : Int32) (t0 : Int32) (t1 : Nat) (H : Heap) (locs : List Loc) (u w : Nat) (ls : Array Slot), fX4_loop_11 N self Qt Qr S bc bk x0 x1 x2 t0 t1 → u + bc = mc → w + bk = ms → HX D dA [] S A s H locs → lv_has ls 4 [(0, .ref x0), (1, .int x1), (2, .int x2)] → W p l e (rmN (dep + 14) mc ms) s m args below meth c H locs u w (MQT below (NPost D dA A (nqR Qr) Qt) args s mc ms A) (F0 m 11 ls [.int t0, .ref t1]) := by
  have hx := X.1
  have hb := X.2.1
  intro S bc bk x0 x1 x2 t0 t1 H locs u w ls hf hu hw hM hl
  unfold fX4_loop_11 at hf
  refine lv_iconst (v := 5) hx hb dX4_loop_11 (by decide) ?_
  obtain ⟨w_1, ho, hf⟩ := hf
  obtain ⟨c_2, k_3, hc1, hk1, hf⟩ := hf
  refine n_cV (C := RX4) (T := TX4) (N := 9) (As := [.int t0, .int (5 : Int32)]) (rest := []) X hM hA hO hRf rfl ho (metX4_must l D dA K Qt _ S c_2 k_3 t1 t0 (5 : Int32) hf) (cwV 2 X.2.2.2.2 gX4_74 rfl rfl rfl ⟨rfl, hX4_must⟩ (rmN_le (by omega) (Nat.le_of_ble_eq_true rfl))) hne hlk rfl hl.1 rfl (Nat.le_of_ble_eq_true rfl) ⟨nb_le hu hc1, nb_le hw hk1⟩ (nb_le hu hc1) (nb_le hw hk1) dX4_loop_12 (fun v S1 H locs hf hM => ?_)
  obtain ⟨rfl, hf⟩ := hf
  generalize S1 = S_4 at hf hM
  have hu := nb_sub hu hc1
  have hw := nb_sub hw hk1
  refine W.eq (g2 := F0 m _ _ []) rfl ?_
  refine lv_aload_n hx hb dX4_loop_15 rfl (lv_at hl 0 rfl) ?_
  obtain ⟨w_5, ho, hf⟩ := hf
  obtain ⟨c_6, k_7, hc1, hk1, hf⟩ := hf
  refine n_cV (C := RX4) (T := TX4) (N := 9) (As := []) (rest := []) X hM hA hO hRf rfl ho (metX4_next l D dA K N Qt _ S_4 c_6 k_7 x0 hf) (cwV 0 X.2.2.2.2 gX4_27 rfl rfl rfl ⟨rfl, hX4_next⟩ (rmN_le (by omega) (Nat.le_of_ble_eq_true rfl))) hne hlk rfl hl.1 rfl (Nat.le_of_ble_eq_true rfl) ⟨nb_le hu hc1, nb_le hw hk1⟩ (nb_le hu hc1) (nb_le hw hk1) dX4_loop_16 (fun v S1 H locs hf hM => ?_)
  obtain ⟨rfl, hf⟩ := hf
  generalize S1 = S_8 at hf hM
  have hu := nb_sub hu hc1
  have hw := nb_sub hw hk1
  refine W.eq (g2 := F0 m _ _ []) rfl ?_
  obtain ⟨hb1, hb2, hf⟩ := hf
  refine n_new (C := RX9) (T := TX9) (N := 5) (ci := 8) (fs := [.null, .int 0, .int 0, .int 0, .int 0]) tyX9 tyX9_ok X hM hA in_X9 q115 q380 q77 rfl (fun j hj => by rcases (show j = 0 ∨ j = 1 ∨ j = 2 ∨ j = 3 ∨ j = 4 by omega) with rfl | rfl | rfl | rfl | rfl <;> rfl) (nb_le hu hb1) (nb_le hw hb2) dX4_loop_19 (fun q_9 H hq hM => ?_)
  have hf := hf q_9 hq
  obtain ⟨S_10, eS⟩ : ∃ z : hH, z = va_up S_8 q_9 (some (.inr (8, [.null, .int 0, .int 0, .int 0, .int 0]))) := ⟨_, rfl⟩
  rw [← eS] at hM
  have hf := ec_lt_p eS hf
  have hu := nb_sub hu hb1
  have hw := nb_sub hw hb2
  refine lv_dup hx hb dX4_loop_22 rfl ?_
  refine lv_aload_n hx hb dX4_loop_23 rfl (lv_at hl 0 rfl) ?_
  refine lv_iconst (v := 1) hx hb dX4_loop_24 (by decide) ?_
  refine lv_bipush (v := 99) hx hb dX4_loop_25 (by decide) ?_
  obtain ⟨w_11, ho, hf⟩ := hf
  obtain ⟨c_12, k_13, hc1, hk1, hf⟩ := hf
  refine n_cV (C := RX4) (T := TX4) (N := 9) (As := [.int (1 : Int32), .int (99 : Int32)]) (rest := [.ref q_9, .ref q_9]) X hM hA hO hRf rfl ho (metX4_number l D dA K N Qt _ S_10 c_12 k_13 x0 (1 : Int32) (99 : Int32) hf) (cwV 2 X.2.2.2.2 gX4_81 rfl rfl rfl ⟨rfl, hX4_number⟩ (rmN_le (by omega) (Nat.le_of_ble_eq_true rfl))) hne hlk rfl hl.1 rfl (Nat.le_of_ble_eq_true rfl) ⟨nb_le hu hc1, nb_le hw hk1⟩ (nb_le hu hc1) (nb_le hw hk1) dX4_loop_27 (fun v S1 H locs hf hM => ?_)
  obtain ⟨v_15, rfl, hf⟩ := hf
  generalize S1 = S_14 at hf hM
  have hu := nb_sub hu hc1
  have hw := nb_sub hw hk1
  refine W.eq (g2 := F0 m _ _ [.int v_15, .ref q_9, .ref q_9]) rfl ?_
  refine lv_iload_n hx hb dX4_loop_30 rfl (lv_at hl 1 rfl) ?_
  refine lv_iload_n hx hb dX4_loop_31 rfl (lv_at hl 2 rfl) ?_
  obtain ⟨c_16, k_17, hc1, hk1, hf⟩ := hf
  refine n_cI (As := [.int v_15, .int x1, .int x2]) (rest := [.ref q_9]) X hM hA hO hRf (metX9_init l D dA K Qt _ S_14 c_16 k_17 q_9 v_15 x1 x2 hf) (cwI 3 X.2.2.2.2 (lw_meth q383) rfl rfl rfl (X.2.2.2.2 _ q77) (X.2.2.2.2 _ q381) (X.2.2.2.2 _ q382) rfl hX9_init (rmN_le (by omega) (Nat.le_of_ble_eq_true rfl))) hne hlk rfl hl.1 rfl (Nat.le_of_ble_eq_true rfl) ⟨nb_le hu hc1, nb_le hw hk1⟩ (nb_le hu hc1) (nb_le hw hk1) dX4_loop_32 (fun v S1 H locs hf hM => ?_)
  obtain ⟨rfl, hf⟩ := hf
  generalize S1 = S_18 at hf hM
  have hu := nb_sub hu hc1
  have hw := nb_sub hw hk1
  refine W.eq (g2 := F0 m _ _ [.ref q_9]) rfl ?_
  refine lv_astore_n (lv' := [(3, .ref q_9), (0, .ref x0), (1, .int x1), (2, .int x2)]) hx hb dX4_loop_35 rfl hl (by decide) rfl (fun ls hl => ?_)
  refine lv_aload_n hx hb dX4_loop_36 rfl (lv_at hl 1 rfl) ?_
  refine lv_aload_n hx hb dX4_loop_37 rfl (lv_at hl 0 rfl) ?_
  obtain ⟨w_19, ho, hf⟩ := hf
  obtain ⟨c_20, k_21, hc1, hk1, hf⟩ := hf
  refine n_cV (C := RX4) (T := TX4) (N := 9) (As := [.ref q_9]) (rest := []) X hM hA hO hRf rfl ho (metX4_adds l D dA K Qt _ S_18 c_20 k_21 x0 q_9 hf) (cwV 1 X.2.2.2.2 gX4_107 rfl rfl rfl ⟨rfl, hX4_adds⟩ (rmN_le (by omega) (Nat.le_of_ble_eq_true rfl))) hne hlk rfl hl.1 rfl (Nat.le_of_ble_eq_true rfl) ⟨nb_le hu hc1, nb_le hw hk1⟩ (nb_le hu hc1) (nb_le hw hk1) dX4_loop_38 (fun v S1 H locs hf hM => ?_)
  obtain ⟨rfl, hf⟩ := hf
  generalize S1 = S_22 at hf hM
  have hu := nb_sub hu hc1
  have hw := nb_sub hw hk1
  refine W.eq (g2 := F0 m _ _ []) rfl ?_
  refine lv_aload_n hx hb dX4_loop_41 rfl (lv_at hl 1 rfl) ?_
  obtain ⟨w_23, ho, hf⟩ := hf
  obtain ⟨c_24, k_25, hc1, hk1, hf⟩ := hf
  refine n_cV (C := RX4) (T := TX4) (N := 9) (As := []) (rest := []) X hM hA hO hRf rfl ho (metX4_sign l D dA K N Qt _ S_22 c_24 k_25 x0 hf) (cwV 0 X.2.2.2.2 gX4_94 rfl rfl rfl ⟨rfl, hX4_sign⟩ (rmN_le (by omega) (Nat.le_of_ble_eq_true rfl))) hne hlk rfl hl.1 rfl (Nat.le_of_ble_eq_true rfl) ⟨nb_le hu hc1, nb_le hw hk1⟩ (nb_le hu hc1) (nb_le hw hk1) dX4_loop_42 (fun v S1 H locs hf hM => ?_)
  obtain ⟨rfl, hf⟩ := hf
  generalize S1 = S_26 at hf hM
  have hu := nb_sub hu hc1
  have hw := nb_sub hw hk1
  refine W.eq (g2 := F0 m _ _ []) rfl ?_
  refine lv_aload_n hx hb dX4_loop_45 rfl (lv_at hl 1 rfl) ?_
  refine lv_aload_n hx hb dX4_loop_46 rfl (lv_at hl 0 rfl) ?_
  refine lv_iload_n hx hb dX4_loop_47 rfl (lv_at hl 2 rfl) ?_
  refine lv_iconst (v := 1) hx hb dX4_loop_48 (by decide) ?_
  refine lv_iadd hx hb dX4_loop_49 ?_
  refine lv_iload_n hx hb dX4_loop_50 rfl (lv_at hl 3 rfl) ?_
  refine lv_aload_n hx hb dX4_loop_51 rfl (lv_at hl 0 rfl) ?_
  obtain ⟨v_27, h, hf⟩ := hf
  refine h_getvN (v := .int v_27) (C := RX9) (T := TX9) (N := 5) (ci := 8) (k := 2) (host := "EventCounters") X hM in_X9 rfl (by decide) (xn_at hM.2.1 24 rfl) rfl (hI_i h) dX4_loop_52 ?_
  refine lv_imul hx hb dX4_loop_55 ?_
  obtain ⟨w_28, ho, hf⟩ := hf
  obtain ⟨c_29, k_30, hc1, hk1, hf⟩ := hf
  refine n_cV (C := RX4) (T := TX4) (N := 9) (As := [.ref q_9, .int (x1 + (1 : Int32)), .int (x2 * v_27)]) (rest := []) X hM hA hO hRf rfl ho (Hself  Qt _ S_26 c_29 k_30 x0 q_9 (x1 + (1 : Int32)) (x2 * v_27) hf) (cwV 3 X.2.2.2.2 gX4_114 rfl rfl rfl ⟨rfl, hX4_items⟩ (rmN_le (by omega) (Nat.le_of_ble_eq_true rfl))) hne hlk rfl hl.1 rfl (Nat.le_of_ble_eq_true rfl) ⟨nb_le hu hc1, nb_le hw hk1⟩ (nb_le hu hc1) (nb_le hw hk1) dX4_loop_56 (fun v S1 H locs hf hM => ?_)
  obtain ⟨rfl, hf⟩ := hf
  generalize S1 = S_31 at hf hM
  have hu := nb_sub hu hc1
  have hw := nb_sub hw hk1
  refine W.eq (g2 := F0 m _ _ []) rfl ?_
  refine lv_aload_n hx hb dX4_loop_59 rfl (lv_at hl 1 rfl) ?_
  refine lv_aload_n hx hb dX4_loop_60 rfl (lv_at hl 1 rfl) ?_
  refine va_ldcS hx hb X.2.2.2.1 hRf.2.2 dX4_loop_61 ?_
  obtain ⟨w_32, ho, hf⟩ := hf
  obtain ⟨c_33, k_34, hc1, hk1, hf⟩ := hf
  refine n_cV (C := RX4) (T := TX4) (N := 9) (As := [.ref (K.1 2)]) (rest := [.ref x0]) X hM hA hO hRf rfl ho (metX4_isWord l D dA K N 2 (by decide) Qt _ S_31 c_33 k_34 x0 hf) (cwV 1 X.2.2.2.2 gX4_120 rfl rfl rfl ⟨rfl, hX4_isWord⟩ (rmN_le (by omega) (Nat.le_of_ble_eq_true rfl))) hne hlk rfl hl.1 rfl (Nat.le_of_ble_eq_true rfl) ⟨nb_le hu hc1, nb_le hw hk1⟩ (nb_le hu hc1) (nb_le hw hk1) dX4_loop_63 (fun v S1 H locs hf hM => ?_)
  obtain ⟨v_36, rfl, hf⟩ := hf
  generalize S1 = S_35 at hf hM
  have hu := nb_sub hu hc1
  have hw := nb_sub hw hk1
  refine W.eq (g2 := F0 m _ _ [.int v_36, .ref x0]) rfl ?_
  refine lv_iconst (v := 2) hx hb dX4_loop_66 (by decide) ?_
  obtain ⟨w_37, ho, hf⟩ := hf
  obtain ⟨c_38, k_39, hc1, hk1, hf⟩ := hf
  refine n_cV (C := RX4) (T := TX4) (N := 9) (As := [.int v_36, .int (2 : Int32)]) (rest := []) X hM hA hO hRf rfl ho (metX4_must l D dA K Qt _ S_35 c_38 k_39 x0 v_36 (2 : Int32) hf) (cwV 2 X.2.2.2.2 gX4_74 rfl rfl rfl ⟨rfl, hX4_must⟩ (rmN_le (by omega) (Nat.le_of_ble_eq_true rfl))) hne hlk rfl hl.1 rfl (Nat.le_of_ble_eq_true rfl) ⟨nb_le hu hc1, nb_le hw hk1⟩ (nb_le hu hc1) (nb_le hw hk1) dX4_loop_67 (fun v S1 H locs hf hM => ?_)
  obtain ⟨rfl, hf⟩ := hf
  generalize S1 = S_40 at hf hM
  have hu := nb_sub hu hc1
  have hw := nb_sub hw hk1
  refine W.eq (g2 := F0 m _ _ []) rfl ?_
  refine lv_aload_n hx hb dX4_loop_70 rfl (lv_at hl 1 rfl) ?_
  obtain ⟨w_41, ho, hf⟩ := hf
  obtain ⟨c_42, k_43, hc1, hk1, hf⟩ := hf
  refine n_cV (C := RX4) (T := TX4) (N := 9) (As := []) (rest := []) X hM hA hO hRf rfl ho (metX4_next l D dA K N Qt _ S_40 c_42 k_43 x0 hf) (cwV 0 X.2.2.2.2 gX4_27 rfl rfl rfl ⟨rfl, hX4_next⟩ (rmN_le (by omega) (Nat.le_of_ble_eq_true rfl))) hne hlk rfl hl.1 rfl (Nat.le_of_ble_eq_true rfl) ⟨nb_le hu hc1, nb_le hw hk1⟩ (nb_le hu hc1) (nb_le hw hk1) dX4_loop_71 (fun v S1 H locs hf hM => ?_)
  obtain ⟨rfl, hf⟩ := hf
  generalize S1 = S_44 at hf hM
  have hu := nb_sub hu hc1
  have hw := nb_sub hw hk1
  refine W.eq (g2 := F0 m _ _ []) rfl ?_
  refine lv_aload_n hx hb dX4_loop_74 rfl (lv_at hl 1 rfl) ?_
  obtain ⟨w_45, ho, hf⟩ := hf
  obtain ⟨c_46, k_47, hc1, hk1, hf⟩ := hf
  refine n_cV (C := RX4) (T := TX4) (N := 9) (As := []) (rest := []) X hM hA hO hRf rfl ho (metX4_sign l D dA K N Qt _ S_44 c_46 k_47 x0 hf) (cwV 0 X.2.2.2.2 gX4_94 rfl rfl rfl ⟨rfl, hX4_sign⟩ (rmN_le (by omega) (Nat.le_of_ble_eq_true rfl))) hne hlk rfl hl.1 rfl (Nat.le_of_ble_eq_true rfl) ⟨nb_le hu hc1, nb_le hw hk1⟩ (nb_le hu hc1) (nb_le hw hk1) dX4_loop_75 (fun v S1 H locs hf hM => ?_)
  obtain ⟨rfl, hf⟩ := hf
  generalize S1 = S_48 at hf hM
  have hu := nb_sub hu hc1
  have hw := nb_sub hw hk1
  refine W.eq (g2 := F0 m _ _ []) rfl ?_
  refine lv_aload_n hx hb dX4_loop_78 rfl (lv_at hl 0 rfl) ?_
  exact n_aret X hr hlk hM (nb_u hu) (nb_u hw) hf dX4_loop_79
noncomputable def fX4_loop (N : Nat) (self : (Nat → hH → Prop) → (hH → Prop) → hH → Nat → Nat → Nat → Nat → Int32 → Int32 → Prop) (Qt : Nat → hH → Prop) (Qr : Nat → hH → Prop) (S : hH) (bc bk : Nat) (x0 : Nat) (x1 : Int32) (x2 : Int32) : Prop :=
  (((4 : Int32) ≤ x1) → (
    fX4_loop_11 N self Qt Qr S bc bk x0 x1 x2 (0 : Int32) x0))
  ∧ (¬ ((4 : Int32) ≤ x1) → (
    fX4_loop_11 N self Qt Qr S bc bk x0 x1 x2 (1 : Int32) x0))
theorem metX4_loop (l : Launch) (D : va_G) (dA : Nat → ClassId) (K : oK) (N : Nat) (dep : Nat) (self : (Nat → hH → Prop) → (hH → Prop) → hH → Nat → Nat → Nat → Nat → Int32 → Int32 → Prop) (Hself : ∀ (Qt : Nat → hH → Prop) (Qr : hH → Prop) (S : hH) (bc bk : Nat) (x0 x1 : Nat) (x2 x3 : Int32) {sz : Nat}, self Qt Qr S bc bk x0 x1 x2 x3 → MetT l yX4_items (ws_ yX4_items cX4_items 4 none) (rmN dep bc bk) (NPre D dA K sz S [.ref x0, .ref x1, .int x2, .int x3]) (NPost D dA (NA S sz) (nqV Qr) Qt) bc bk (NA S sz)) (Qt : Nat → hH → Prop) (Qr : Nat → hH → Prop) (S : hH) (bc bk : Nat) (x0 : Nat) (x1 : Int32) (x2 : Int32) {sz : Nat} (hf : fX4_loop N self Qt Qr S bc bk x0 x1 x2) : MetT l yX4_loop (ws_ yX4_loop cX4_loop 4 (some (.object "EventCounters$Item"))) (rmN (dep + 14) bc bk) (NPre D dA K sz S [.ref x0, .int x1, .int x2]) (NPost D dA (NA S sz) (nqR Qr) Qt) bc bk (NA S sz) := by
  refine n_ofW rfl (by decide) (Nat.le_of_ble_eq_true rfl) (fun A p e s m args below meth c X hr hlk hne hin hA hO hRf hM ls hl => ?_)
  have hl : lv_has ls 4 [(0, .ref x0), (1, .int x1), (2, .int x2)] := hl
  have hx := X.1
  have hb := X.2.1
  have hu : 0 + bc = bc := Nat.zero_add bc
  have hw : 0 + bk = bk := Nat.zero_add bk
  unfold fX4_loop at hf
  refine lv_aload_n hx hb dX4_loop_0 rfl (lv_at hl 0 rfl) ?_
  refine lv_iload_n hx hb dX4_loop_1 rfl (lv_at hl 1 rfl) ?_
  refine lv_iconst (v := 4) hx hb dX4_loop_2 (by decide) ?_
  refine lv_icmp_ge (tgt := 10) hx hb dX4_loop_3 rfl (fun cnd => ?_) (fun cnd => ?_)
  · have hf := hf.1 cnd
    refine lv_iconst (v := 0) hx hb dX4_loop_10 (by decide) ?_
    exact bX4_loop_11 X hr hlk hne hin hA hO hRf Hself S bc bk x0 x1 x2 (0 : Int32) x0 _ _ _ _ _ hf hu hw hM hl
  · have hf := hf.2 cnd
    refine lv_iconst (v := 1) hx hb dX4_loop_6 (by decide) ?_
    refine lv_goto (tgt := 11) hx hb dX4_loop_7 rfl ?_
    exact bX4_loop_11 X hr hlk hne hin hA hO hRf Hself S bc bk x0 x1 x2 (1 : Int32) x0 _ _ _ _ _ hf hu hw hM hl
theorem hX4_loop : yX4_loop.cls ≠ "java/lang/invoke/MethodHandle" ∧ yX4_loop.cls ≠ "java/lang/invoke/VarHandle" ∧ (parseMethodDescriptor yX4_loop.desc).map (fun d => d.parameters.length) = some 2 := by decide +kernel

theorem gX4_131 : GoodIn lw_all (wsV RX4 131 RX4 yX4_loop (ws_ yX4_loop cX4_loop 4 (some (.object "EventCounters$Item")))) := lw_V q376 q378 qs10 q65 q379
theorem gX4_134 : GoodIn lw_all (wsV RX4 134 RX7 yX7_adds (ws_ yX7_adds cX7_adds 3 none)) := lw_V q407 q408 q409 q71 q412
theorem gX4_128 : GoodIn lw_all (wsV RX4 128 RX4 yX4_line (ws_ yX4_line cX4_line 5 (some (.object "EventCounters$Item")))) := lw_V q336 q338 qs7 q65 q339
noncomputable def fX4_items_42 (N : Nat) (self : (Nat → hH → Prop) → (hH → Prop) → hH → Nat → Nat → Nat → Nat → Int32 → Int32 → Prop) (Qt : Nat → hH → Prop) (Qr : hH → Prop) (k0 : hH → Nat → Nat → Nat → Nat → Int32 → Int32 → Prop) (S : hH) (bc bk : Nat) (x0 : Nat) (x1 : Nat) (x2 : Int32) (x3 : Int32) (t0 : Nat) (t1 : Nat) : Prop :=
  ((∃ fs, S t1 = some (.inr (6, fs))) ∨ (∃ fs, S t1 = some (.inr (8, fs)))) ∧
  ∃ c_16 k_17 : Nat, c_16 ≤ bc ∧ k_17 ≤ bk ∧ fX7_adds Qt (fun S_18 =>
  k0 S_18 (bc - c_16) (bk - k_17) x0 x1 x2 x3) S c_16 k_17 t1 t0
theorem bX4_items_42 {N : Nat} (X : CallFix p m c cX4_items 4 s args lw_all RX4) (hr : meth.sig.returnType = none) (hlk : meth.locks = false) (hne : c.exceptionTable.isEmpty = true) (hin : meth.name = yX4_items.name) (hA : ∀ x, s.heap.size ≤ x → A x) (hO : OLD K A s s.heap) (hRf : ORF K s) {dep : Nat} {self : (Nat → hH → Prop) → (hH → Prop) → hH → Nat → Nat → Nat → Nat → Int32 → Int32 → Prop} (Hself : ∀ (Qt : Nat → hH → Prop) (Qr : hH → Prop) (S : hH) (bc bk : Nat) (x0 x1 : Nat) (x2 x3 : Int32) {sz : Nat}, self Qt Qr S bc bk x0 x1 x2 x3 → MetT l yX4_items (ws_ yX4_items cX4_items 4 none) (rmN dep bc bk) (NPre D dA K sz S [.ref x0, .ref x1, .int x2, .int x3]) (NPost D dA (NA S sz) (nqV Qr) Qt) bc bk (NA S sz)) {mc ms : Nat} {Qt : Nat → hH → Prop} {Qr : hH → Prop} {k0 : hH → Nat → Nat → Nat → Nat → Int32 → Int32 → Prop} (Hk0 : ∀ (S : hH) (bc bk : Nat) (x0 : Nat) (x1 : Nat) (x2 : Int32) (x3 : Int32) (H : Heap) (locs : List Loc) (u w : Nat) (ls : Array Slot), k0 S bc bk x0 x1 x2 x3 → u + bc = mc → w + bk = ms → HX D dA [] S A s H locs → lv_has ls 4 [(0, .ref x0), (1, .ref x1), (2, .int x2), (3, .int x3)] → W p l e (rmN (dep + 28) mc ms) s m args below meth c H locs u w (MQT below (NPost D dA A (nqV Qr) Qt) args s mc ms A) (F0 m 0 ls [])) : ∀ (S : hH) (bc bk : Nat) (x0 : Nat) (x1 : Nat) (x2 : Int32) (x3 : Int32) (t0 : Nat) (t1 : Nat) (H : Heap) (locs : List Loc) (u w : Nat) (ls : Array Slot), fX4_items_42 N self Qt Qr k0 S bc bk x0 x1 x2 x3 t0 t1 → u + bc = mc → w + bk = ms → HX D dA [] S A s H locs → lv_has ls 4 [(0, .ref x0), (1, .ref x1), (2, .int x2), (3, .int x3)] → W p l e (rmN (dep + 28) mc ms) s m args below meth c H locs u w (MQT below (NPost D dA A (nqV Qr) Qt) args s mc ms A) (F0 m 42 ls [.ref t0, .ref t1]) := by
  have hx := X.1
  have hb := X.2.1
  intro S bc bk x0 x1 x2 x3 t0 t1 H locs u w ls hf hu hw hM hl
  unfold fX4_items_42 at hf
  obtain ⟨ho, hf⟩ := hf
  obtain ⟨c_16, k_17, hc1, hk1, hf⟩ := hf
  refine n_cVB (As := [.ref t0]) (rest := []) X hM hA hO hRf ho (metX7_adds l D dA K Qt _ S c_16 k_17 t1 t0 hf) (cwV 1 X.2.2.2.2 gX4_134 rfl rfl rfl ⟨rfl, hX7_adds⟩ (rmN_le (by omega) (Nat.le_of_ble_eq_true rfl))) (X.2.2.2.2 _ q411) hne hlk rfl hl.1 rfl (Nat.le_of_ble_eq_true rfl) ⟨nb_le hu hc1, nb_le hw hk1⟩ (nb_le hu hc1) (nb_le hw hk1) dX4_items_42 (fun v S1 H locs hf hM => ?_)
  obtain ⟨rfl, hf⟩ := hf
  generalize S1 = S_18 at hf hM
  have hu := nb_sub hu hc1
  have hw := nb_sub hw hk1
  refine W.eq (g2 := F0 m _ _ []) rfl ?_
  refine lv_goto (tgt := 0) hx hb dX4_items_45 rfl ?_
  exact Hk0 S_18 (bc - c_16) (bk - k_17) x0 x1 x2 x3 _ _ _ _ _ hf hu hw hM hl
noncomputable def fX4_items_18 (N : Nat) (self : (Nat → hH → Prop) → (hH → Prop) → hH → Nat → Nat → Nat → Nat → Int32 → Int32 → Prop) (Qt : Nat → hH → Prop) (Qr : hH → Prop) (k0 : hH → Nat → Nat → Nat → Nat → Int32 → Int32 → Prop) (S : hH) (bc bk : Nat) (x0 : Nat) (x1 : Nat) (x2 : Int32) (x3 : Int32) : Prop :=
  ∃ w_6, (hObj 4 S x0) = some w_6 ∧
  ∃ c_7 k_8 : Nat, c_7 ≤ bc ∧ k_8 ≤ bk ∧ fX4_isWord N 0 Qt (fun v_10 S_9 =>
  ((v_10 = 0) → (
    ∃ w_11, (hObj 4 S_9 x0) = some w_11 ∧
    ∃ c_12 k_13 : Nat, c_12 ≤ (bc - c_7) ∧ k_13 ≤ (bk - k_8) ∧ fX4_loop N self Qt (fun v_15 S_14 =>
    fX4_items_42 N self Qt Qr k0 S_14 ((bc - c_7) - c_12) ((bk - k_8) - k_13) x0 x1 x2 x3 v_15 x1) S_9 c_12 k_13 x0 x2 x3))
  ∧ (¬ (v_10 = 0) → (
    ∃ w_19, (hObj 4 S_9 x0) = some w_19 ∧
    ∃ c_20 k_21 : Nat, c_20 ≤ (bc - c_7) ∧ k_21 ≤ (bk - k_8) ∧ fX4_line N Qt (fun v_23 S_22 =>
    fX4_items_42 N self Qt Qr k0 S_22 ((bc - c_7) - c_20) ((bk - k_8) - k_21) x0 x1 x2 x3 v_23 x1) S_9 c_20 k_21 x0 x2))) S c_7 k_8 x0
theorem bX4_items_18 {N : Nat} (X : CallFix p m c cX4_items 4 s args lw_all RX4) (hr : meth.sig.returnType = none) (hlk : meth.locks = false) (hne : c.exceptionTable.isEmpty = true) (hin : meth.name = yX4_items.name) (hA : ∀ x, s.heap.size ≤ x → A x) (hO : OLD K A s s.heap) (hRf : ORF K s) {dep : Nat} {self : (Nat → hH → Prop) → (hH → Prop) → hH → Nat → Nat → Nat → Nat → Int32 → Int32 → Prop} (Hself : ∀ (Qt : Nat → hH → Prop) (Qr : hH → Prop) (S : hH) (bc bk : Nat) (x0 x1 : Nat) (x2 x3 : Int32) {sz : Nat}, self Qt Qr S bc bk x0 x1 x2 x3 → MetT l yX4_items (ws_ yX4_items cX4_items 4 none) (rmN dep bc bk) (NPre D dA K sz S [.ref x0, .ref x1, .int x2, .int x3]) (NPost D dA (NA S sz) (nqV Qr) Qt) bc bk (NA S sz)) {mc ms : Nat} {Qt : Nat → hH → Prop} {Qr : hH → Prop} {k0 : hH → Nat → Nat → Nat → Nat → Int32 → Int32 → Prop} (Hk0 : ∀ (S : hH) (bc bk : Nat) (x0 : Nat) (x1 : Nat) (x2 : Int32) (x3 : Int32) (H : Heap) (locs : List Loc) (u w : Nat) (ls : Array Slot), k0 S bc bk x0 x1 x2 x3 → u + bc = mc → w + bk = ms → HX D dA [] S A s H locs → lv_has ls 4 [(0, .ref x0), (1, .ref x1), (2, .int x2), (3, .int x3)] → W p l e (rmN (dep + 28) mc ms) s m args below meth c H locs u w (MQT below (NPost D dA A (nqV Qr) Qt) args s mc ms A) (F0 m 0 ls [])) : ∀ (S : hH) (bc bk : Nat) (x0 : Nat) (x1 : Nat) (x2 : Int32) (x3 : Int32) (H : Heap) (locs : List Loc) (u w : Nat) (ls : Array Slot), fX4_items_18 N self Qt Qr k0 S bc bk x0 x1 x2 x3 → u + bc = mc → w + bk = ms → HX D dA [] S A s H locs → lv_has ls 4 [(0, .ref x0), (1, .ref x1), (2, .int x2), (3, .int x3)] → W p l e (rmN (dep + 28) mc ms) s m args below meth c H locs u w (MQT below (NPost D dA A (nqV Qr) Qt) args s mc ms A) (F0 m 18 ls []) := by
  have hx := X.1
  have hb := X.2.1
  intro S bc bk x0 x1 x2 x3 H locs u w ls hf hu hw hM hl
  unfold fX4_items_18 at hf
  refine lv_aload_n hx hb dX4_items_18 rfl (lv_at hl 1 rfl) ?_
  refine lv_aload_n hx hb dX4_items_19 rfl (lv_at hl 0 rfl) ?_
  refine va_ldcS hx hb X.2.2.2.1 hRf.1 dX4_items_20 ?_
  obtain ⟨w_6, ho, hf⟩ := hf
  obtain ⟨c_7, k_8, hc1, hk1, hf⟩ := hf
  refine n_cV (C := RX4) (T := TX4) (N := 9) (As := [.ref (K.1 0)]) (rest := [.ref x1]) X hM hA hO hRf rfl ho (metX4_isWord l D dA K N 0 (by decide) Qt _ S c_7 k_8 x0 hf) (cwV 1 X.2.2.2.2 gX4_120 rfl rfl rfl ⟨rfl, hX4_isWord⟩ (rmN_le (by omega) (Nat.le_of_ble_eq_true rfl))) hne hlk rfl hl.1 rfl (Nat.le_of_ble_eq_true rfl) ⟨nb_le hu hc1, nb_le hw hk1⟩ (nb_le hu hc1) (nb_le hw hk1) dX4_items_22 (fun v S1 H locs hf hM => ?_)
  obtain ⟨v_10, rfl, hf⟩ := hf
  generalize S1 = S_9 at hf hM
  have hu := nb_sub hu hc1
  have hw := nb_sub hw hk1
  refine W.eq (g2 := F0 m _ _ [.int v_10, .ref x1]) rfl ?_
  refine lv_if_eq (tgt := 36) hx hb dX4_items_25 rfl (fun cnd => ?_) (fun cnd => ?_)
  · have hf := hf.1 cnd
    refine lv_aload_n hx hb dX4_items_36 rfl (lv_at hl 0 rfl) ?_
    refine lv_iload_n hx hb dX4_items_37 rfl (lv_at hl 2 rfl) ?_
    refine lv_iload_n hx hb dX4_items_38 rfl (lv_at hl 3 rfl) ?_
    obtain ⟨w_11, ho, hf⟩ := hf
    obtain ⟨c_12, k_13, hc1, hk1, hf⟩ := hf
    refine n_cV (C := RX4) (T := TX4) (N := 9) (As := [.int x2, .int x3]) (rest := [.ref x1]) X hM hA hO hRf rfl ho (metX4_loop l D dA K N dep self Hself Qt _ S_9 c_12 k_13 x0 x2 x3 hf) (cwV 2 X.2.2.2.2 gX4_131 rfl rfl rfl ⟨rfl, hX4_loop⟩ (rmN_le (by omega) (Nat.le_of_ble_eq_true rfl))) hne hlk rfl hl.1 rfl (Nat.le_of_ble_eq_true rfl) ⟨nb_le hu hc1, nb_le hw hk1⟩ (nb_le hu hc1) (nb_le hw hk1) dX4_items_39 (fun v S1 H locs hf hM => ?_)
    obtain ⟨v_15, rfl, hf⟩ := hf
    generalize S1 = S_14 at hf hM
    have hu := nb_sub hu hc1
    have hw := nb_sub hw hk1
    refine W.eq (g2 := F0 m _ _ [.ref v_15, .ref x1]) rfl ?_
    exact bX4_items_42 X hr hlk hne hin hA hO hRf Hself Hk0 S_14 ((bc - c_7) - c_12) ((bk - k_8) - k_13) x0 x1 x2 x3 v_15 x1 _ _ _ _ _ hf hu hw hM hl
  · have hf := hf.2 cnd
    refine lv_aload_n hx hb dX4_items_28 rfl (lv_at hl 0 rfl) ?_
    refine lv_iload_n hx hb dX4_items_29 rfl (lv_at hl 2 rfl) ?_
    obtain ⟨w_19, ho, hf⟩ := hf
    obtain ⟨c_20, k_21, hc1, hk1, hf⟩ := hf
    refine n_cV (C := RX4) (T := TX4) (N := 9) (As := [.int x2]) (rest := [.ref x1]) X hM hA hO hRf rfl ho (metX4_line l D dA K N Qt _ S_9 c_20 k_21 x0 x2 hf) (cwV 1 X.2.2.2.2 gX4_128 rfl rfl rfl ⟨rfl, hX4_line⟩ (rmN_le (by omega) (Nat.le_of_ble_eq_true rfl))) hne hlk rfl hl.1 rfl (Nat.le_of_ble_eq_true rfl) ⟨nb_le hu hc1, nb_le hw hk1⟩ (nb_le hu hc1) (nb_le hw hk1) dX4_items_30 (fun v S1 H locs hf hM => ?_)
    obtain ⟨v_23, rfl, hf⟩ := hf
    generalize S1 = S_22 at hf hM
    have hu := nb_sub hu hc1
    have hw := nb_sub hw hk1
    refine W.eq (g2 := F0 m _ _ [.ref v_23, .ref x1]) rfl ?_
    refine lv_goto (tgt := 42) hx hb dX4_items_33 rfl ?_
    exact bX4_items_42 X hr hlk hne hin hA hO hRf Hself Hk0 S_22 ((bc - c_7) - c_20) ((bk - k_8) - k_21) x0 x1 x2 x3 v_23 x1 _ _ _ _ _ hf hu hw hM hl
noncomputable def fX4_items_0 (N : Nat) (self : (Nat → hH → Prop) → (hH → Prop) → hH → Nat → Nat → Nat → Nat → Int32 → Int32 → Prop) (Qt : Nat → hH → Prop) (Qr : hH → Prop) : Nat → hH → Nat → Nat → Nat → Nat → Int32 → Int32 → Prop
  | 0, _, _, _, _, _, _, _ => False
  | n + 1, S, bc, bk, x0, x1, x2, x3 =>
    ∃ w_1, (hObj 4 S x0) = some w_1 ∧
    ∃ c_2 k_3 : Nat, c_2 ≤ bc ∧ k_3 ≤ bk ∧ fX4_isWord N 0 Qt (fun v_5 S_4 =>
    ((¬ v_5 = 0) → (
      fX4_items_18 N self Qt Qr (fX4_items_0 N self Qt Qr n) S_4 (bc - c_2) (bk - k_3) x0 x1 x2 x3))
    ∧ (¬ (¬ v_5 = 0) → (
      ∃ w_24, (hObj 4 S_4 x0) = some w_24 ∧
      ∃ c_25 k_26 : Nat, c_25 ≤ (bc - c_2) ∧ k_26 ≤ (bk - k_3) ∧ fX4_isWord N 1 Qt (fun v_28 S_27 =>
      ((v_28 = 0) → (
        Qr S_27))
      ∧ (¬ (v_28 = 0) → (
        fX4_items_18 N self Qt Qr (fX4_items_0 N self Qt Qr n) S_27 ((bc - c_2) - c_25) ((bk - k_3) - k_26) x0 x1 x2 x3))) S_4 c_25 k_26 x0))) S c_2 k_3 x0
theorem bX4_items_0 {N : Nat} (X : CallFix p m c cX4_items 4 s args lw_all RX4) (hr : meth.sig.returnType = none) (hlk : meth.locks = false) (hne : c.exceptionTable.isEmpty = true) (hin : meth.name = yX4_items.name) (hA : ∀ x, s.heap.size ≤ x → A x) (hO : OLD K A s s.heap) (hRf : ORF K s) {dep : Nat} {self : (Nat → hH → Prop) → (hH → Prop) → hH → Nat → Nat → Nat → Nat → Int32 → Int32 → Prop} (Hself : ∀ (Qt : Nat → hH → Prop) (Qr : hH → Prop) (S : hH) (bc bk : Nat) (x0 x1 : Nat) (x2 x3 : Int32) {sz : Nat}, self Qt Qr S bc bk x0 x1 x2 x3 → MetT l yX4_items (ws_ yX4_items cX4_items 4 none) (rmN dep bc bk) (NPre D dA K sz S [.ref x0, .ref x1, .int x2, .int x3]) (NPost D dA (NA S sz) (nqV Qr) Qt) bc bk (NA S sz)) {mc ms : Nat} {Qt : Nat → hH → Prop} {Qr : hH → Prop} : ∀ (n : Nat) (S : hH) (bc bk : Nat) (x0 : Nat) (x1 : Nat) (x2 : Int32) (x3 : Int32) (H : Heap) (locs : List Loc) (u w : Nat) (ls : Array Slot), fX4_items_0 N self Qt Qr n S bc bk x0 x1 x2 x3 → u + bc = mc → w + bk = ms → HX D dA [] S A s H locs → lv_has ls 4 [(0, .ref x0), (1, .ref x1), (2, .int x2), (3, .int x3)] → W p l e (rmN (dep + 28) mc ms) s m args below meth c H locs u w (MQT below (NPost D dA A (nqV Qr) Qt) args s mc ms A) (F0 m 0 ls []) := by
  have hx := X.1
  have hb := X.2.1
  intro n
  induction n with
  | zero =>
    intro S bc bk x0 x1 x2 x3 H locs u w ls hf hu hw hM hl
    rw [fX4_items_0] at hf
    exact hf.elim
  | succ n ih =>
    intro S bc bk x0 x1 x2 x3 H locs u w ls hf hu hw hM hl
    rw [fX4_items_0] at hf
    refine lv_aload_n hx hb dX4_items_0 rfl (lv_at hl 0 rfl) ?_
    refine va_ldcS hx hb X.2.2.2.1 hRf.1 dX4_items_1 ?_
    obtain ⟨w_1, ho, hf⟩ := hf
    obtain ⟨c_2, k_3, hc1, hk1, hf⟩ := hf
    refine n_cV (C := RX4) (T := TX4) (N := 9) (As := [.ref (K.1 0)]) (rest := []) X hM hA hO hRf rfl ho (metX4_isWord l D dA K N 0 (by decide) Qt _ S c_2 k_3 x0 hf) (cwV 1 X.2.2.2.2 gX4_120 rfl rfl rfl ⟨rfl, hX4_isWord⟩ (rmN_le (by omega) (Nat.le_of_ble_eq_true rfl))) hne hlk rfl hl.1 rfl (Nat.le_of_ble_eq_true rfl) ⟨nb_le hu hc1, nb_le hw hk1⟩ (nb_le hu hc1) (nb_le hw hk1) dX4_items_3 (fun v S1 H locs hf hM => ?_)
    obtain ⟨v_5, rfl, hf⟩ := hf
    generalize S1 = S_4 at hf hM
    have hu := nb_sub hu hc1
    have hw := nb_sub hw hk1
    refine W.eq (g2 := F0 m _ _ [.int v_5]) rfl ?_
    refine lv_if_ne (tgt := 18) hx hb dX4_items_6 rfl (fun cnd => ?_) (fun cnd => ?_)
    · have hf := hf.1 cnd
      exact bX4_items_18 X hr hlk hne hin hA hO hRf Hself ih S_4 (bc - c_2) (bk - k_3) x0 x1 x2 x3 _ _ _ _ _ hf hu hw hM hl
    · have hf := hf.2 (not_not_intro cnd)
      refine lv_aload_n hx hb dX4_items_9 rfl (lv_at hl 0 rfl) ?_
      refine va_ldcS hx hb X.2.2.2.1 hRf.2.1 dX4_items_10 ?_
      obtain ⟨w_24, ho, hf⟩ := hf
      obtain ⟨c_25, k_26, hc1, hk1, hf⟩ := hf
      refine n_cV (C := RX4) (T := TX4) (N := 9) (As := [.ref (K.1 1)]) (rest := []) X hM hA hO hRf rfl ho (metX4_isWord l D dA K N 1 (by decide) Qt _ S_4 c_25 k_26 x0 hf) (cwV 1 X.2.2.2.2 gX4_120 rfl rfl rfl ⟨rfl, hX4_isWord⟩ (rmN_le (by omega) (Nat.le_of_ble_eq_true rfl))) hne hlk rfl hl.1 rfl (Nat.le_of_ble_eq_true rfl) ⟨nb_le hu hc1, nb_le hw hk1⟩ (nb_le hu hc1) (nb_le hw hk1) dX4_items_12 (fun v S1 H locs hf hM => ?_)
      obtain ⟨v_28, rfl, hf⟩ := hf
      generalize S1 = S_27 at hf hM
      have hu := nb_sub hu hc1
      have hw := nb_sub hw hk1
      refine W.eq (g2 := F0 m _ _ [.int v_28]) rfl ?_
      refine lv_if_eq (tgt := 48) hx hb dX4_items_15 rfl (fun cnd => ?_) (fun cnd => ?_)
      · have hf := hf.1 cnd
        exact n_vret X hr hlk hM (nb_u hu) (nb_u hw) hf dX4_items_48
      · have hf := hf.2 cnd
        exact bX4_items_18 X hr hlk hne hin hA hO hRf Hself ih S_27 ((bc - c_2) - c_25) ((bk - k_3) - k_26) x0 x1 x2 x3 _ _ _ _ _ hf hu hw hM hl
noncomputable def fX4_items (N : Nat) (self : (Nat → hH → Prop) → (hH → Prop) → hH → Nat → Nat → Nat → Nat → Int32 → Int32 → Prop) (Qt : Nat → hH → Prop) (Qr : hH → Prop) (S : hH) (bc bk : Nat) (x0 : Nat) (x1 : Nat) (x2 : Int32) (x3 : Int32) : Prop :=
  fX4_items_0 N self Qt Qr N S bc bk x0 x1 x2 x3
theorem metX4_items (l : Launch) (D : va_G) (dA : Nat → ClassId) (K : oK) (N : Nat) (dep : Nat) (self : (Nat → hH → Prop) → (hH → Prop) → hH → Nat → Nat → Nat → Nat → Int32 → Int32 → Prop) (Hself : ∀ (Qt : Nat → hH → Prop) (Qr : hH → Prop) (S : hH) (bc bk : Nat) (x0 x1 : Nat) (x2 x3 : Int32) {sz : Nat}, self Qt Qr S bc bk x0 x1 x2 x3 → MetT l yX4_items (ws_ yX4_items cX4_items 4 none) (rmN dep bc bk) (NPre D dA K sz S [.ref x0, .ref x1, .int x2, .int x3]) (NPost D dA (NA S sz) (nqV Qr) Qt) bc bk (NA S sz)) (Qt : Nat → hH → Prop) (Qr : hH → Prop) (S : hH) (bc bk : Nat) (x0 : Nat) (x1 : Nat) (x2 : Int32) (x3 : Int32) {sz : Nat} (hf : fX4_items N self Qt Qr S bc bk x0 x1 x2 x3) : MetT l yX4_items (ws_ yX4_items cX4_items 4 none) (rmN (dep + 28) bc bk) (NPre D dA K sz S [.ref x0, .ref x1, .int x2, .int x3]) (NPost D dA (NA S sz) (nqV Qr) Qt) bc bk (NA S sz) := by
  refine n_ofW rfl (by decide) (Nat.le_of_ble_eq_true rfl) (fun A p e s m args below meth c X hr hlk hne hin hA hO hRf hM ls hl => ?_)
  have hl : lv_has ls 4 [(0, .ref x0), (1, .ref x1), (2, .int x2), (3, .int x3)] := hl
  have hx := X.1
  have hb := X.2.1
  have hu : 0 + bc = bc := Nat.zero_add bc
  have hw : 0 + bk = bk := Nat.zero_add bk
  unfold fX4_items at hf
  exact bX4_items_0 X hr hlk hne hin hA hO hRf Hself N S bc bk x0 x1 x2 x3 _ _ _ _ _ hf hu hw hM hl
theorem hX4_items2 : yX4_items.cls ≠ "java/lang/invoke/MethodHandle" ∧ yX4_items.cls ≠ "java/lang/invoke/VarHandle" ∧ (parseMethodDescriptor yX4_items.desc).map (fun d => d.parameters.length) = some 3 := by decide +kernel

noncomputable def fX4_itemsD (N : Nat) : Nat → (Nat → hH → Prop) → (hH → Prop) → hH → Nat → Nat → Nat → Nat → Int32 → Int32 → Prop
  | 0 => fun _ _ _ _ _ _ _ _ _ => False
  | d + 1 => fX4_items N (fX4_itemsD N d)
theorem metX4_itemsD (l : Launch) (D : va_G) (dA : Nat → ClassId) (K : oK) (N : Nat) : ∀ d : Nat, ∀ (Qt : Nat → hH → Prop) (Qr : hH → Prop) (S : hH) (bc bk : Nat) (x0 x1 : Nat) (x2 x3 : Int32) {sz : Nat}, fX4_itemsD N d Qt Qr S bc bk x0 x1 x2 x3 → MetT l yX4_items (ws_ yX4_items cX4_items 4 none) (rmN (28 * d) bc bk) (NPre D dA K sz S [.ref x0, .ref x1, .int x2, .int x3]) (NPost D dA (NA S sz) (nqV Qr) Qt) bc bk (NA S sz) := by
  intro d
  induction d with
  | zero => intro Qt Qr S bc bk x0 x1 x2 x3 sz h; exact h.elim
  | succ d ih => intro Qt Qr S bc bk x0 x1 x2 x3 sz h; exact metX4_items l D dA K N (28 * d) (fX4_itemsD N d) ih Qt Qr S bc bk x0 x1 x2 x3 h
theorem gX4_140 : GoodIn lw_all (wsV RX4 140 RX7 yX7_steps (ws_ yX7_steps cX7_steps 4 (some .long))) := lw_V q414 q415 q416 q71 q422
noncomputable def fX4_all_49 (N : Nat) (Qt : Nat → hH → Prop) (Qr : Nat → hH → Prop) (S : hH) (bc bk : Nat) (x0 : Nat) (x1 : Nat) (t0 : Int32) (t1 : Nat) : Prop :=
  ∃ w_17, (hObj 4 S t1) = some w_17 ∧
  ∃ c_18 k_19 : Nat, c_18 ≤ bc ∧ k_19 ≤ bk ∧ fX4_must Qt (fun S_20 =>
  Qr x1 S_20) S c_18 k_19 t1 t0 (6 : Int32)
theorem bX4_all_49 {N : Nat} (X : CallFix p m c cX4_all 2 s args lw_all RX4) (hr : meth.sig.returnType = (some (.object "EventCounters$Block"))) (hlk : meth.locks = false) (hne : c.exceptionTable.isEmpty = true) (hin : meth.name = yX4_all.name) (hA : ∀ x, s.heap.size ≤ x → A x) (hO : OLD K A s s.heap) (hRf : ORF K s) {mc ms : Nat} {Qt : Nat → hH → Prop} {Qr : Nat → hH → Prop} : ∀ (S : hH) (bc bk : Nat) (x0 : Nat) (x1 : Nat) (t0 : Int32) (t1 : Nat) (H : Heap) (locs : List Loc) (u w : Nat) (ls : Array Slot), fX4_all_49 N Qt Qr S bc bk x0 x1 t0 t1 → u + bc = mc → w + bk = ms → HX D dA [] S A s H locs → lv_has ls 2 [(0, .ref x0), (1, .ref x1)] → W p l e (rmN 169 mc ms) s m args below meth c H locs u w (MQT below (NPost D dA A (nqR Qr) Qt) args s mc ms A) (F0 m 49 ls [.int t0, .ref t1]) := by
  have hx := X.1
  have hb := X.2.1
  intro S bc bk x0 x1 t0 t1 H locs u w ls hf hu hw hM hl
  unfold fX4_all_49 at hf
  refine lv_bipush (v := 6) hx hb dX4_all_49 (by decide) ?_
  obtain ⟨w_17, ho, hf⟩ := hf
  obtain ⟨c_18, k_19, hc1, hk1, hf⟩ := hf
  refine n_cV (C := RX4) (T := TX4) (N := 9) (As := [.int t0, .int (6 : Int32)]) (rest := []) X hM hA hO hRf rfl ho (metX4_must l D dA K Qt _ S c_18 k_19 t1 t0 (6 : Int32) hf) (cwV 2 X.2.2.2.2 gX4_74 rfl rfl rfl ⟨rfl, hX4_must⟩ (rmN_le (Nat.le_of_ble_eq_true rfl) (Nat.le_of_ble_eq_true rfl))) hne hlk rfl hl.1 rfl (Nat.le_of_ble_eq_true rfl) ⟨nb_le hu hc1, nb_le hw hk1⟩ (nb_le hu hc1) (nb_le hw hk1) dX4_all_51 (fun v S1 H locs hf hM => ?_)
  obtain ⟨rfl, hf⟩ := hf
  generalize S1 = S_20 at hf hM
  have hu := nb_sub hu hc1
  have hw := nb_sub hw hk1
  refine W.eq (g2 := F0 m _ _ []) rfl ?_
  refine lv_aload_n hx hb dX4_all_54 rfl (lv_at hl 1 rfl) ?_
  exact n_aret X hr hlk hM (nb_u hu) (nb_u hw) hf dX4_all_55
noncomputable def fX4_all_28 (N : Nat) (Qt : Nat → hH → Prop) (Qr : Nat → hH → Prop) (S : hH) (bc bk : Nat) (x0 : Nat) (x1 : Nat) (t0 : Int32) (t1 : Nat) : Prop :=
  ∃ w_11, (hObj 4 S t1) = some w_11 ∧
  ∃ c_12 k_13 : Nat, c_12 ≤ bc ∧ k_13 ≤ bk ∧ fX4_must Qt (fun S_14 =>
  ∃ w_16, (hObj 6 S_14 x1) = some w_16 ∧
  ∃ v_15, (fX7_steps N S_14 (fV_steps N S_14 8) x1) = some v_15 ∧
  ((0 < (lg_cmp v_15 (6000 : Int64))) → (
    fX4_all_49 N Qt Qr S_14 (bc - c_12) (bk - k_13) x0 x1 (0 : Int32) x0))
  ∧ (¬ (0 < (lg_cmp v_15 (6000 : Int64))) → (
    fX4_all_49 N Qt Qr S_14 (bc - c_12) (bk - k_13) x0 x1 (1 : Int32) x0))) S c_12 k_13 t1 t0 (2 : Int32)
theorem bX4_all_28 {N : Nat} (X : CallFix p m c cX4_all 2 s args lw_all RX4) (hr : meth.sig.returnType = (some (.object "EventCounters$Block"))) (hlk : meth.locks = false) (hne : c.exceptionTable.isEmpty = true) (hin : meth.name = yX4_all.name) (hA : ∀ x, s.heap.size ≤ x → A x) (hO : OLD K A s s.heap) (hRf : ORF K s) {mc ms : Nat} {Qt : Nat → hH → Prop} {Qr : Nat → hH → Prop} : ∀ (S : hH) (bc bk : Nat) (x0 : Nat) (x1 : Nat) (t0 : Int32) (t1 : Nat) (H : Heap) (locs : List Loc) (u w : Nat) (ls : Array Slot), fX4_all_28 N Qt Qr S bc bk x0 x1 t0 t1 → u + bc = mc → w + bk = ms → HX D dA [] S A s H locs → lv_has ls 2 [(0, .ref x0), (1, .ref x1)] → W p l e (rmN 169 mc ms) s m args below meth c H locs u w (MQT below (NPost D dA A (nqR Qr) Qt) args s mc ms A) (F0 m 28 ls [.int t0, .ref t1]) := by
  have hx := X.1
  have hb := X.2.1
  intro S bc bk x0 x1 t0 t1 H locs u w ls hf hu hw hM hl
  unfold fX4_all_28 at hf
  refine lv_iconst (v := 2) hx hb dX4_all_28 (by decide) ?_
  obtain ⟨w_11, ho, hf⟩ := hf
  obtain ⟨c_12, k_13, hc1, hk1, hf⟩ := hf
  refine n_cV (C := RX4) (T := TX4) (N := 9) (As := [.int t0, .int (2 : Int32)]) (rest := []) X hM hA hO hRf rfl ho (metX4_must l D dA K Qt _ S c_12 k_13 t1 t0 (2 : Int32) hf) (cwV 2 X.2.2.2.2 gX4_74 rfl rfl rfl ⟨rfl, hX4_must⟩ (rmN_le (Nat.le_of_ble_eq_true rfl) (Nat.le_of_ble_eq_true rfl))) hne hlk rfl hl.1 rfl (Nat.le_of_ble_eq_true rfl) ⟨nb_le hu hc1, nb_le hw hk1⟩ (nb_le hu hc1) (nb_le hw hk1) dX4_all_29 (fun v S1 H locs hf hM => ?_)
  obtain ⟨rfl, hf⟩ := hf
  generalize S1 = S_14 at hf hM
  have hu := nb_sub hu hc1
  have hw := nb_sub hw hk1
  refine W.eq (g2 := F0 m _ _ []) rfl ?_
  refine lv_aload_n hx hb dX4_all_32 rfl (lv_at hl 0 rfl) ?_
  refine lv_aload_n hx hb dX4_all_33 rfl (lv_at hl 1 rfl) ?_
  obtain ⟨w_16, ho, hf⟩ := hf
  obtain ⟨v_15, h, hf⟩ := hf
  refine h_cR (C := RX7) (T := TX7) (N := 2) (v := .long v_15) (As := []) (rest := [.ref x0]) X hM rfl ho (metX7_steps l D dA N S_14 16 (fV_steps N S_14 8) (vV_steps l D dA N S_14 8) x1 _ h) (cwV 0 X.2.2.2.2 gX4_140 rfl rfl rfl hX7_steps (rmN_leL (Nat.le_of_ble_eq_true rfl) (Nat.le_of_ble_eq_true rfl))) rfl hl.1 rfl (Nat.le_of_ble_eq_true rfl) ⟨nb_u hu, nb_u hw⟩ dX4_all_34 ?_
  refine lv_ldc2 (own := RX4) (v := 6000) hx hb X.2.2.2.1 (X.2.2.2.2 _ q431) dX4_all_37 ?_
  refine W.lcmp hx hb dX4_all_40 ?_
  refine lv_if_gt (tgt := 48) hx hb dX4_all_41 rfl (fun cnd => ?_) (fun cnd => ?_)
  · have hf := hf.1 cnd
    refine lv_iconst (v := 0) hx hb dX4_all_48 (by decide) ?_
    exact bX4_all_49 X hr hlk hne hin hA hO hRf  S_14 (bc - c_12) (bk - k_13) x0 x1 (0 : Int32) x0 _ _ _ _ _ hf hu hw hM hl
  · have hf := hf.2 cnd
    refine lv_iconst (v := 1) hx hb dX4_all_44 (by decide) ?_
    refine lv_goto (tgt := 49) hx hb dX4_all_45 rfl ?_
    exact bX4_all_49 X hr hlk hne hin hA hO hRf  S_14 (bc - c_12) (bk - k_13) x0 x1 (1 : Int32) x0 _ _ _ _ _ hf hu hw hM hl
noncomputable def fX4_all (N : Nat) (Qt : Nat → hH → Prop) (Qr : Nat → hH → Prop) (S : hH) (bc bk : Nat) (x0 : Nat) : Prop :=
  1 ≤ bc ∧ 2 ≤ bk ∧ ∀ q_1 : Nat, S q_1 = none →
  ec_lt (va_up S q_1 (some (.inr (6, [.null, .int 0])))) fun S_2 =>
  ∃ c_3 k_4 : Nat, c_3 ≤ (bc - 1) ∧ k_4 ≤ (bk - 2) ∧ fX7_init (fun _ _ => False) (fun S_5 =>
  ∃ w_6, (hObj 4 S_5 x0) = some w_6 ∧
  ∃ c_7 k_8 : Nat, c_7 ≤ ((bc - 1) - c_3) ∧ k_8 ≤ ((bk - 2) - k_4) ∧ fX4_itemsD N 6 Qt (fun S_9 =>
  ∃ v_10, (hI 4 S_9 x0 7) = some v_10 ∧
  ((¬ v_10 = 0) → (
    fX4_all_28 N Qt Qr S_9 (((bc - 1) - c_3) - c_7) (((bk - 2) - k_4) - k_8) x0 q_1 (0 : Int32) x0))
  ∧ (¬ (¬ v_10 = 0) → (
    fX4_all_28 N Qt Qr S_9 (((bc - 1) - c_3) - c_7) (((bk - 2) - k_4) - k_8) x0 q_1 (1 : Int32) x0))) S_5 c_7 k_8 x0 q_1 (0 : Int32) (1 : Int32)) S_2 c_3 k_4 q_1
theorem metX4_all (l : Launch) (D : va_G) (dA : Nat → ClassId) (K : oK) (N : Nat) (Qt : Nat → hH → Prop) (Qr : Nat → hH → Prop) (S : hH) (bc bk : Nat) (x0 : Nat) {sz : Nat} (hf : fX4_all N Qt Qr S bc bk x0) : MetT l yX4_all (ws_ yX4_all cX4_all 2 (some (.object "EventCounters$Block"))) (rmN 169 bc bk) (NPre D dA K sz S [.ref x0]) (NPost D dA (NA S sz) (nqR Qr) Qt) bc bk (NA S sz) := by
  refine n_ofW rfl (by decide) (Nat.le_of_ble_eq_true rfl) (fun A p e s m args below meth c X hr hlk hne hin hA hO hRf hM ls hl => ?_)
  have hl : lv_has ls 2 [(0, .ref x0)] := hl
  have hx := X.1
  have hb := X.2.1
  have hu : 0 + bc = bc := Nat.zero_add bc
  have hw : 0 + bk = bk := Nat.zero_add bk
  unfold fX4_all at hf
  obtain ⟨hb1, hb2, hf⟩ := hf
  refine n_new (C := RX7) (T := TX7) (N := 2) (ci := 6) (fs := [.null, .int 0]) tyX7 tyX7_ok X hM hA in_X7 q260 q261 q71 rfl (fun j hj => by rcases (show j = 0 ∨ j = 1 by omega) with rfl | rfl <;> rfl) (nb_le hu hb1) (nb_le hw hb2) dX4_all_0 (fun q_1 H hq hM => ?_)
  have hf := hf q_1 hq
  obtain ⟨S_2, eS⟩ : ∃ z : hH, z = va_up S q_1 (some (.inr (6, [.null, .int 0]))) := ⟨_, rfl⟩
  rw [← eS] at hM
  have hf := ec_lt_p eS hf
  have hu := nb_sub hu hb1
  have hw := nb_sub hw hb2
  refine lv_dup hx hb dX4_all_3 rfl ?_
  obtain ⟨c_3, k_4, hc1, hk1, hf⟩ := hf
  refine n_cIN (As := []) (rest := [.ref q_1]) X hM hA hO hRf (metX7_init l D dA K (fun _ _ => False) _ S_2 c_3 k_4 q_1 hf) ⟨va_cnB (host := "EventCounters") 0 X.2.2.2.2 (lw_meth q264) rfl rfl rfl (xn_at hM.2.1 15 rfl) (X.2.2.2.2 _ q71) hX7_init (rmN_le (Nat.le_of_ble_eq_true rfl) (Nat.le_of_ble_eq_true rfl)), rfl, X.2.2.2.2 _ q263⟩ hne hlk rfl hl.1 rfl (Nat.le_of_ble_eq_true rfl) ⟨nb_le hu hc1, nb_le hw hk1⟩ (nb_le hu hc1) (nb_le hw hk1) dX4_all_4 (fun v S1 H locs hf hM => ?_)
  obtain ⟨rfl, hf⟩ := hf
  generalize S1 = S_5 at hf hM
  have hu := nb_sub hu hc1
  have hw := nb_sub hw hk1
  refine W.eq (g2 := F0 m _ _ [.ref q_1]) rfl ?_
  refine lv_astore_n (lv' := [(1, .ref q_1), (0, .ref x0)]) hx hb dX4_all_7 rfl hl (by decide) rfl (fun ls hl => ?_)
  refine lv_aload_n hx hb dX4_all_8 rfl (lv_at hl 1 rfl) ?_
  refine lv_aload_n hx hb dX4_all_9 rfl (lv_at hl 0 rfl) ?_
  refine lv_iconst (v := 0) hx hb dX4_all_10 (by decide) ?_
  refine lv_iconst (v := 1) hx hb dX4_all_11 (by decide) ?_
  obtain ⟨w_6, ho, hf⟩ := hf
  obtain ⟨c_7, k_8, hc1, hk1, hf⟩ := hf
  refine n_cV (C := RX4) (T := TX4) (N := 9) (As := [.ref q_1, .int (0 : Int32), .int (1 : Int32)]) (rest := []) X hM hA hO hRf rfl ho (metX4_itemsD l D dA K N 6  Qt _ S_5 c_7 k_8 x0 q_1 (0 : Int32) (1 : Int32) hf) (cwV 3 X.2.2.2.2 gX4_114 rfl rfl rfl ⟨rfl, hX4_items⟩ (rmN_le (Nat.le_of_ble_eq_true rfl) (Nat.le_of_ble_eq_true rfl))) hne hlk rfl hl.1 rfl (Nat.le_of_ble_eq_true rfl) ⟨nb_le hu hc1, nb_le hw hk1⟩ (nb_le hu hc1) (nb_le hw hk1) dX4_all_12 (fun v S1 H locs hf hM => ?_)
  obtain ⟨rfl, hf⟩ := hf
  generalize S1 = S_9 at hf hM
  have hu := nb_sub hu hc1
  have hw := nb_sub hw hk1
  refine W.eq (g2 := F0 m _ _ []) rfl ?_
  refine lv_aload_n hx hb dX4_all_15 rfl (lv_at hl 1 rfl) ?_
  refine lv_aload_n hx hb dX4_all_16 rfl (lv_at hl 1 rfl) ?_
  obtain ⟨v_10, h, hf⟩ := hf
  refine h_getv (v := .int v_10) (C := RX4) (T := TX4) (N := 9) (ci := 4) (k := 7) X hM in_X4 rfl (by decide) q235 rfl (hI_i h) dX4_all_17 ?_
  refine lv_if_ne (tgt := 27) hx hb dX4_all_20 rfl (fun cnd => ?_) (fun cnd => ?_)
  · have hf := hf.1 cnd
    refine lv_iconst (v := 0) hx hb dX4_all_27 (by decide) ?_
    exact bX4_all_28 X hr hlk hne hin hA hO hRf  S_9 (((bc - 1) - c_3) - c_7) (((bk - 2) - k_4) - k_8) x0 q_1 (0 : Int32) x0 _ _ _ _ _ hf hu hw hM (lv_sub hl [1, 0] rfl)
  · have hf := hf.2 (not_not_intro cnd)
    refine lv_iconst (v := 1) hx hb dX4_all_23 (by decide) ?_
    refine lv_goto (tgt := 28) hx hb dX4_all_24 rfl ?_
    exact bX4_all_28 X hr hlk hne hin hA hO hRf  S_9 (((bc - 1) - c_3) - c_7) (((bk - 2) - k_4) - k_8) x0 q_1 (1 : Int32) x0 _ _ _ _ _ hf hu hw hM (lv_sub hl [1, 0] rfl)
theorem hX4_all : yX4_all.cls ≠ "java/lang/invoke/MethodHandle" ∧ yX4_all.cls ≠ "java/lang/invoke/VarHandle" ∧ (parseMethodDescriptor yX4_all.desc).map (fun d => d.parameters.length) = some 0 := by decide +kernel

noncomputable def fX4_init (N : Nat) (Qt : Nat → hH → Prop) (Qr : hH → Prop) (S : hH) (bc bk : Nat) (x0 : Nat) (x1 : Nat) : Prop :=
  1 ≤ bc ∧ 16 ≤ bk ∧ ∀ q_1 : Nat, S q_1 = none →
  ec_lt (va_up S q_1 (some (.inl (4, 16, .inr (fun _ => none))))) fun S_2 =>
  ∃ h_3, (hPut 4 S_2 x0 1 (.ref q_1)) = some h_3 ∧
  1 ≤ (bc - 1) ∧ 2 ≤ (bk - 16) ∧ ∀ q_4 : Nat, h_3 q_4 = none →
  ec_lt (va_up h_3 q_4 (some (.inl (5, 2, .inr (fun _ => none))))) fun S_5 =>
  ∃ h_6, (hPut 4 S_5 x0 3 (.ref q_4)) = some h_6 ∧
  ∃ h_7, (hPut 4 h_6 x0 0 (.ref x1)) = some h_7 ∧
  ∃ w_8, (hObj 4 h_7 x0) = some w_8 ∧
  ∃ c_9 k_10 : Nat, c_9 ≤ ((bc - 1) - 1) ∧ k_10 ≤ ((bk - 16) - 2) ∧ fX4_next N Qt (fun S_11 =>
  Qr S_11) h_7 c_9 k_10 x0
theorem metX4_init (l : Launch) (D : va_G) (dA : Nat → ClassId) (K : oK) (N : Nat) (Qt : Nat → hH → Prop) (Qr : hH → Prop) (S : hH) (bc bk : Nat) (x0 : Nat) (x1 : Nat) {sz : Nat} (hf : fX4_init N Qt Qr S bc bk x0 x1) : MetT l yX4_init (ws_ yX4_init cX4_init 2 none) (rmN 7 bc bk) (NPre D dA K sz S [.ref x0, .ref x1]) (NPost D dA (NA S sz) (nqV Qr) Qt) bc bk (NA S sz) := by
  refine n_ofW rfl (by decide) (Nat.le_of_ble_eq_true rfl) (fun A p e s m args below meth c X hr hlk hne hin hA hO hRf hM ls hl => ?_)
  have hl : lv_has ls 2 [(0, .ref x0), (1, .ref x1)] := hl
  have hx := X.1
  have hb := X.2.1
  have hu : 0 + bc = bc := Nat.zero_add bc
  have hw : 0 + bk = bk := Nat.zero_add bk
  unfold fX4_init at hf
  refine lv_aload_n hx hb dX4_init_0 rfl (lv_at hl 0 rfl) ?_
  refine W.objInit hx hb X.2.2.2.1 (X.2.2.2.2 _ q110) (X.2.2.2.2 _ q111) (X.2.2.2.2 _ q112) rfl (X.2.2.1.trans hl.1.symm).symm rfl dX4_init_1 (Nat.le_of_ble_eq_true rfl) (Nat.le_of_ble_eq_true rfl) ?_
  refine W.eq (g2 := F0 m _ _ []) rfl ?_
  refine lv_aload_n hx hb dX4_init_4 rfl (lv_at hl 0 rfl) ?_
  refine lv_bipush (v := 16) hx hb dX4_init_5 (by decide) ?_
  obtain ⟨hb1, hb2, hf⟩ := hf
  refine n_anew (t := 4) X hM hA rfl q113 hM.2.1.2.1 (by decide) (by decide) (by decide) (nb_le hu hb1) (nb_le hw hb2) dX4_init_7 (fun q_1 H hq hM => ?_)
  have hf := hf q_1 hq
  obtain ⟨S_2, eS⟩ : ∃ z : hH, z = va_up S q_1 (some (.inl (4, 16, .inr (fun _ => none)))) := ⟨_, rfl⟩
  rw [← eS] at hM
  have hf := ec_lt_p eS hf
  have hu := nb_sub hu hb1
  have hw := nb_sub hw hb2
  obtain ⟨h_3, h, hf⟩ := hf
  refine h_putF (C := RX4) (T := TX4) (N := 9) (ci := 4) (k := 1) (ty := (.array (.object "EventCounters$Line"))) tyX4 tyX4_ok nmX4 X hM in_X4 rfl (by decide) q225 rfl rfl hin (by decide +kernel) rfl rfl h dX4_init_10 (fun H locs hM => ?_)
  refine lv_aload_n hx hb dX4_init_13 rfl (lv_at hl 0 rfl) ?_
  refine lv_iconst (v := 2) hx hb dX4_init_14 (by decide) ?_
  obtain ⟨hb1, hb2, hf⟩ := hf
  refine n_anew (t := 5) X hM hA rfl q115 hM.2.1.2.2.1 (by decide) (by decide) (by decide) (nb_le hu hb1) (nb_le hw hb2) dX4_init_15 (fun q_4 H hq hM => ?_)
  have hf := hf q_4 hq
  obtain ⟨S_5, eS⟩ : ∃ z : hH, z = va_up h_3 q_4 (some (.inl (5, 2, .inr (fun _ => none)))) := ⟨_, rfl⟩
  rw [← eS] at hM
  have hf := ec_lt_p eS hf
  have hu := nb_sub hu hb1
  have hw := nb_sub hw hb2
  obtain ⟨h_6, h, hf⟩ := hf
  refine h_put (C := RX4) (T := TX4) (N := 9) (ci := 4) (k := 3) (ty := (.array (.object "EventCounters$Loop"))) tyX4 tyX4_ok nmX4 X hM in_X4 rfl (by decide) q229 rfl rfl (by decide +kernel) rfl rfl h dX4_init_18 (fun H locs hM => ?_)
  refine lv_aload_n hx hb dX4_init_21 rfl (lv_at hl 0 rfl) ?_
  refine lv_aload_n hx hb dX4_init_22 rfl (lv_at hl 1 rfl) ?_
  obtain ⟨h_7, h, hf⟩ := hf
  refine h_putF (C := RX4) (T := TX4) (N := 9) (ci := 4) (k := 0) (ty := (.array .byte)) tyX4 tyX4_ok nmX4 X hM in_X4 rfl (by decide) q224 rfl rfl hin (by decide +kernel) rfl rfl h dX4_init_23 (fun H locs hM => ?_)
  refine lv_aload_n hx hb dX4_init_26 rfl (lv_at hl 0 rfl) ?_
  obtain ⟨w_8, ho, hf⟩ := hf
  obtain ⟨c_9, k_10, hc1, hk1, hf⟩ := hf
  refine n_cV (C := RX4) (T := TX4) (N := 9) (As := []) (rest := []) X hM hA hO hRf rfl ho (metX4_next l D dA K N Qt _ h_7 c_9 k_10 x0 hf) (cwV 0 X.2.2.2.2 gX4_27 rfl rfl rfl ⟨rfl, hX4_next⟩ (rmN_le (Nat.le_of_ble_eq_true rfl) (Nat.le_of_ble_eq_true rfl))) hne hlk rfl hl.1 rfl (Nat.le_of_ble_eq_true rfl) ⟨nb_le hu hc1, nb_le hw hk1⟩ (nb_le hu hc1) (nb_le hw hk1) dX4_init_27 (fun v S1 H locs hf hM => ?_)
  obtain ⟨rfl, hf⟩ := hf
  generalize S1 = S_11 at hf hM
  have hu := nb_sub hu hc1
  have hw := nb_sub hw hk1
  refine W.eq (g2 := F0 m _ _ []) rfl ?_
  exact n_vret X hr hlk hM (nb_u hu) (nb_u hw) hf dX4_init_30
theorem hX4_init : yX4_init.cls ≠ "java/lang/invoke/MethodHandle" ∧ yX4_init.cls ≠ "java/lang/invoke/VarHandle" ∧ (parseMethodDescriptor yX4_init.desc).map (fun d => d.parameters.length) = some 1 := by decide +kernel
end
