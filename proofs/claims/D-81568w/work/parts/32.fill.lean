set_option maxRecDepth 100000
def XPreS (D : va_G) (dA : Nat → ClassId) (o : Nat) (q : Nat → Nat) (S : sX) (as : List Value) : Array Value → State → Prop := fun a U => a = as.toArray ∧ va_K D vwCl (tyX dA) U ∧ XN U ∧ HH D dA (WX o q dA S) S.2.2.2 (fun _ => True) U.heap
section FROWS
variable {p : Program} {l : Launch} {e : Env} {R : Room} {s : State} {m : MethodId} {args : Array Value} {below : List Frame} {meth : Method} {c : Code} {H : Heap} {locs : List Loc} {cells slots : Nat} {Q : State → Prop}
variable {cc bytes : ByteArray} {nL maxL pc idx n : Nat} {ls : Array Slot} {rest st As : List Value} {y : MethodName} {ret : Option FieldType} {rm : Room} {own : String}
variable {D : va_G} {dA : Nat → ClassId} {o : Nat} {q : Nat → Nat} {S S1 : sX} {A : Nat → Prop}
theorem f_alen {v : Int32} {a k N t : Nat} {f : Nat → Int32} {ty : FieldType} (X : CallFix p m c cc nL s args lw_all own) (hM : XW D dA o q S A s H locs) (ha : ∀ L : hRw, (hws dA (WX o q dA S) L)[k]? = some (a, .inl (dA t, N, .inl f))) (ht : (tyX dA)[t]? = some (dA t, ty)) (hv : Int32.ofNat N = v) (hdg : decode cc pc = .ok (.arraylength, 1))
    (kk : W p l e R s m args below meth c H locs cells slots Q (F0 m (pc + 1) ls (.int v :: rest))) : W p l e R s m args below meth c H locs cells slots Q (F0 m pc ls (.ref a :: rest)) := by
  obtain ⟨hK, -, ⟨L, hi, hP, hD⟩, hS⟩ := hM
  exact va_alen X.1 X.2.1 hK hP k t (ha L) ht hv hdg kk
theorem f_iast {i v : Int32} {a k0 k N : Nat} (X : CallFix p m c cc nL s args lw_all own) (hM : XW D dA o q S A s H locs) (ha : ∀ L : hRw, (hws dA (WX o q dA S) L)[k0]? = some (a, .inl (dA 0, N, .inl (S.2.1 k)))) (hw : ∀ (L : hRw) (j : Nat) (v : Int32), (hws dA (WX o q dA S) L).set k0 (a, .inl (dA 0, N, .inl (upd (S.2.1 k) j v))) = hws dA (WX o q dA (xA S k j v)) L) (h : ex_as S k N i v = some S1) (hdg : decode cc pc = .ok (.iastore, 1))
    (kk : ∀ (H1 : Heap) (locs1 : List Loc), XW D dA o q S1 A s H1 locs1 → W p l e R s m args below meth c H1 locs1 cells slots Q (F0 m (pc + 1) ls rest)) : W p l e R s m args below meth c H locs cells slots Q (F0 m pc ls (.int v :: .int i :: .ref a :: rest)) := by
  obtain ⟨h1, h2⟩ := ex_as_i h
  subst h2
  obtain ⟨hK, hN, ⟨L, hi, hP, hD⟩, hS⟩ := hM
  exact va_iast X.1 X.2.1 hK hP hD hS k0 0 (ha L) rfl h1 hdg (fun H1 locs1 hP1 hD1 hS1 => kk H1 locs1 ⟨hK, hN, ⟨L, hi, by rw [← hw]; exact hP1, by rw [← hw]; exact hD1⟩, hS1⟩)
theorem f_vret (X : CallFix p m c cc nL s args lw_all own) (hr : meth.sig.returnType = none) (hlk : meth.locks = false) (hM : XW D dA o q S A s H locs) (hdg : decode cc pc = .ok (.return_, 1)) : W p l e R s m args below meth c H locs cells slots (MQ below (XPost D dA o q A none S) args s cells slots A) (F0 m pc ls []) :=
  W.vret X.1 X.2.1 hr (fun t ht _ => ⟨rfl, by rw [ht]; exact hM.2.2.1, hM.2.2.2.F ht⟩) hM.2.2.2.2.2 hdg hlk
theorem XPreS.blind {as : List Value} : FrameBlind (XPreS D dA o q S as) := fun a U g mk z => ⟨z.1, va_K.moved (u := U) (U := U.calling g mk a) (Vm.Alike.refl U.vm) z.2.1, XN.same (u := U) rfl z.2.2.1, z.2.2.2⟩
theorem f_pre (hM : XW D dA o q S A s H locs) : PreS s H (XPreS D dA o q S As) As := by
  obtain ⟨hK, hN, hh, hS⟩ := hM
  exact ⟨XPreS.blind, fun U hU hW => ⟨rfl, va_K.moved hW.alike hK, XN.warm hW hN, by rw [hU]; exact hh.weaken (fun _ _ => trivial)⟩⟩
theorem f_cSv (X : CallFix p m c cc nL s args lw_all own) (hM : XW D dA o q S A s H locs) (hmet : Met l y (ws_ y bytes maxL ret) rm (XPreS D dA o q S As) (XPost D dA o q (XA o q S.2.2.2) none S1) 0 0 (XA o q S.2.2.2)) (cw : CallB R s args own idx y bytes maxL ret (ws_ y bytes maxL ret) rm 0 0 n ∧ (Cond.static y).before args s = true)
    (hn : As.length = n) (hsize : ls.size = nL) (hst : st = As.reverse ++ rest) (hroom : (rest.map fun v => v.category).sum ≤ 8) (hcs : cells ≤ R.cells ∧ slots ≤ R.slots) (hdg : decode cc pc = .ok (.invokestatic idx, 3)) (kk : ∀ (H1 : Heap) (locs1 : List Loc), XW D dA o q S1 A s H1 locs1 → W p l e R s m args below meth c H1 locs1 cells slots Q (F0 m (pc + 3) ls rest)) : W p l e R s m args below meth c H locs cells slots Q (F0 m pc ls st) := by
  subst hst
  intro T hT Xs
  obtain ⟨v', st₀, t, T', L, h0, X', hL, e1, ⟨hv, hP, hz, hk⟩, stp⟩ := W.runS (As := As) (rest := rest) X hmet cw (f_pre hM) (g := F0 m pc ls (As.reverse ++ rest)) rfl hn hsize rfl (lv_room hroom) hdg hcs T hT Xs
  cases hv
  rw [h0] at hz hk
  obtain ⟨hK, hN, ⟨L0, hi, hP0, hD⟩, hS⟩ := hM
  have hin : ∀ a, XA o q S.2.2.2 a → A a := fun a z => XA_in hi hD z
  obtain ⟨t2, a1, b1⟩ := kk T'.heap (locs ++ L) ⟨hK, hN, by rw [e1]; exact hP.weaken hin, Nat.le_trans hS.1 (by rw [e1]; exact hz), fun x h1 h2 => by rw [e1, hk x (Nat.lt_of_lt_of_le h1 hS.1) (fun z => h2 (hin x z))]; exact hS.2.1 x h1 h2, fun x hx => by
    rcases List.mem_append.mp hx with h | h
    · exact hS.2.2 x h
    · exact hin _ (hL x h)⟩ T' rfl X'
  exact ⟨t2, stp t2 a1, b1⟩
theorem f_ofW {v : Option Value} (hc : y.cls = own) (hpl : plainName own = true) (hlen : (lg_sl As).length ≤ maxL)
    (body : ∀ (A : Nat → Prop) (p : Program) (e : Env) (s : State) (m : MethodId) (args : Array Value) (below : List Frame) (meth : Method) (c : Code), CallFix p m c bytes maxL s args lw_all own → meth.sig.returnType = ret → meth.locks = false → XW D dA o q S A s s.heap [] → ∀ ls : Array Slot, lv_has ls maxL (lv_args 0 As) → W p l e rm s m args below meth c s.heap [] 0 0 (MQ below (XPost D dA o q A v S1) args s 0 0 A) (F0 m 0 ls [])) :
    Met l y (ws_ y bytes maxL ret) rm (XPreS D dA o q S As) (XPost D dA o q (XA o q S.2.2.2) v S1) 0 0 (XA o q S.2.2.2) := by
  refine Met.ofW (cc := bytes) (maxL := maxL) (ret := ret) (by rw [hc]; exact hpl) rfl ?_
  intro p e s m args below meth c s₁ B hml hv
  have hts := atoms_spec (ws := ws_ y bytes maxL ret) B.pre
  have hts : ∀ w ∈ lw_all, w.before _ s = true := fun w h => hts w (List.mem_cons_of_mem _ h)
  have hl := lv_entry As hlen
  have hown := findClass_of_methodNamed B.named
  rw [hc] at hown
  obtain ⟨rfl, hK, hN, L, hi, hP, hD⟩ := hv
  rw [lg_entry_eq]
  exact body _ p e s m _ below meth c ⟨B.exec, B.bytes, hml, hown, hts⟩ B.returns B.notSynchronized ⟨hK, hN, ⟨L, hi, hP, XA_self hi hD⟩, va_S.rf⟩ _ hl
end FROWS
set_option maxRecDepth 100000
set_option maxHeartbeats 2000000
set_option linter.unusedVariables false
section
variable {p : Program} {l : Launch} {e : Env} {s : State} {m : MethodId} {args : Array Value} {below : List Frame} {meth : Method} {c : Code}
variable {D : va_G} {dA : Nat → ClassId} {o : Nat} {q : Nat → Nat} {A : Nat → Prop}
noncomputable def fJ7_fill10_5 (N : Nat) : Nat → sX → Int32 → Int32 → Int32 → Option sX
  | 0, _, _, _, _ => none
  | n + 1, S, x1, x2, x3 =>
    if x3 ≤ x2 then (
      some S)
    else (
      (ex_as S 10 8 x2 x1).bind fun S_1 =>
      ec_lt (x2 + (1 : Int32)) fun x2_2 =>
      (fJ7_fill10_5 N n) S_1 x1 x2_2 x3)
theorem bJ7_fill10_5 {N : Nat} (X : CallFix p m c cJ7_fill 4 s args lw_all RJ7) (hr : meth.sig.returnType = none) (hlk : meth.locks = false) {Sr : sX} : ∀ (n : Nat) (S : sX) (x1 : Int32) (x2 : Int32) (x3 : Int32) (H : Heap) (locs : List Loc) (ls : Array Slot), fJ7_fill10_5 N n S x1 x2 x3 = some Sr → XW D dA o q S A s H locs → lv_has ls 4 [(0, .ref (q 10)), (1, .int x1), (2, .int x2), (3, .int x3)] → W p l e (rmL 0) s m args below meth c H locs 0 0 (MQ below (XPost D dA o q A none Sr) args s 0 0 A) (F0 m 5 ls []) := by
  have hx := X.1
  have hb := X.2.1
  intro n
  induction n with
  | zero =>
    intro S x1 x2 x3 H locs ls hf hM hl
    rw [fJ7_fill10_5] at hf
    cases hf
  | succ n ih =>
    intro S x1 x2 x3 H locs ls hf hM hl
    rw [fJ7_fill10_5] at hf
    refine lv_iload_n hx hb dJ7_fill_5 rfl (lv_at hl 2 rfl) ?_
    refine lv_iload_n hx hb dJ7_fill_6 rfl (lv_at hl 3 rfl) ?_
    refine lv_icmp_ge (tgt := 20) hx hb dJ7_fill_7 rfl (fun cnd => ?_) (fun cnd => ?_)
    · have hf := ec_t cnd hf
      obtain rfl := Option.some.inj hf
      exact f_vret X hr hlk hM dJ7_fill_20
    · have hf := ec_f cnd hf
      refine lv_aload_n hx hb dJ7_fill_10 rfl (lv_at hl 0 rfl) ?_
      refine lv_iload_n hx hb dJ7_fill_11 rfl (lv_at hl 2 rfl) ?_
      refine lv_iload_n hx hb dJ7_fill_12 rfl (lv_at hl 1 rfl) ?_
      obtain ⟨S_1, h, hf⟩ := ec_bi hf
      refine f_iast X hM wxa10 wxs10 h dJ7_fill_13 (fun H locs hM => ?_)
      refine e_inc (w := 1) (f := fun v => [(2, .int v), (0, .ref (q 10)), (1, .int x1), (3, .int x3)]) hx hb dJ7_fill_14 hl (k := 2) rfl (by decide) (by decide) (fun _ => rfl) (fun x2_2 ex ls hl => ?_)
      have hf := ec_lt_i ex hf
      refine lv_goto (tgt := 5) hx hb dJ7_fill_17 rfl ?_
      exact ih S_1 x1 x2_2 x3 _ _ _ hf hM (lv_sub hl [1, 2, 0, 3] rfl)
noncomputable def fJ7_fill10 (N : Nat) (S : sX) (x1 : Int32) : Option sX :=
  fJ7_fill10_5 N N S x1 (0 : Int32) (8 : Int32)
theorem metJ7_fill10 (l : Launch) (D : va_G) (dA : Nat → ClassId) (o : Nat) (q : Nat → Nat) (N : Nat) (S : sX) (x1 : Int32) (Sr : sX) (hf : fJ7_fill10 N S x1 = some Sr) : Met l yJ7_fill (ws_ yJ7_fill cJ7_fill 4 none) (rmL 0) (XPreS D dA o q S [.ref (q 10), .int x1]) (XPost D dA o q (XA o q S.2.2.2) none Sr) 0 0 (XA o q S.2.2.2) := by
  refine f_ofW rfl (by decide) (Nat.le_of_ble_eq_true rfl) (fun A p e s m args below meth c X hr hlk hM ls hl => ?_)
  have hl : lv_has ls 4 [(0, .ref (q 10)), (1, .int x1)] := hl
  have hx := X.1
  have hb := X.2.1
  unfold fJ7_fill10 at hf
  refine lv_iconst (v := 0) hx hb dJ7_fill_0 (by decide) ?_
  refine lv_istore_n (lv' := [(2, .int (0 : Int32)), (0, .ref (q 10)), (1, .int x1)]) hx hb dJ7_fill_1 rfl hl (by decide) rfl (fun ls hl => ?_)
  refine lv_aload_n hx hb dJ7_fill_2 rfl (lv_at hl 1 rfl) ?_
  refine f_alen (v := 8) (t := 0) X hM wxa10 rfl (by decide) dJ7_fill_3 ?_
  refine lv_istore_n (lv' := [(3, .int (8 : Int32)), (2, .int (0 : Int32)), (0, .ref (q 10)), (1, .int x1)]) hx hb dJ7_fill_4 rfl hl (by decide) rfl (fun ls hl => ?_)
  exact bJ7_fill10_5 X hr hlk  N S x1 (0 : Int32) (8 : Int32) _ _ _ hf hM (lv_sub hl [2, 3, 1, 0] rfl)
theorem hJ7_fill10 : yJ7_fill.cls ≠ "java/lang/invoke/MethodHandle" ∧ yJ7_fill.cls ≠ "java/lang/invoke/VarHandle" ∧ (parseMethodDescriptor yJ7_fill.desc).map (fun d => d.parameters.length) = some 2 := by decide +kernel

noncomputable def fJ7_fill20_5 (N : Nat) : Nat → sX → Int32 → Int32 → Int32 → Option sX
  | 0, _, _, _, _ => none
  | n + 1, S, x1, x2, x3 =>
    if x3 ≤ x2 then (
      some S)
    else (
      (ex_as S 20 16 x2 x1).bind fun S_1 =>
      ec_lt (x2 + (1 : Int32)) fun x2_2 =>
      (fJ7_fill20_5 N n) S_1 x1 x2_2 x3)
theorem bJ7_fill20_5 {N : Nat} (X : CallFix p m c cJ7_fill 4 s args lw_all RJ7) (hr : meth.sig.returnType = none) (hlk : meth.locks = false) {Sr : sX} : ∀ (n : Nat) (S : sX) (x1 : Int32) (x2 : Int32) (x3 : Int32) (H : Heap) (locs : List Loc) (ls : Array Slot), fJ7_fill20_5 N n S x1 x2 x3 = some Sr → XW D dA o q S A s H locs → lv_has ls 4 [(0, .ref (q 20)), (1, .int x1), (2, .int x2), (3, .int x3)] → W p l e (rmL 0) s m args below meth c H locs 0 0 (MQ below (XPost D dA o q A none Sr) args s 0 0 A) (F0 m 5 ls []) := by
  have hx := X.1
  have hb := X.2.1
  intro n
  induction n with
  | zero =>
    intro S x1 x2 x3 H locs ls hf hM hl
    rw [fJ7_fill20_5] at hf
    cases hf
  | succ n ih =>
    intro S x1 x2 x3 H locs ls hf hM hl
    rw [fJ7_fill20_5] at hf
    refine lv_iload_n hx hb dJ7_fill_5 rfl (lv_at hl 2 rfl) ?_
    refine lv_iload_n hx hb dJ7_fill_6 rfl (lv_at hl 3 rfl) ?_
    refine lv_icmp_ge (tgt := 20) hx hb dJ7_fill_7 rfl (fun cnd => ?_) (fun cnd => ?_)
    · have hf := ec_t cnd hf
      obtain rfl := Option.some.inj hf
      exact f_vret X hr hlk hM dJ7_fill_20
    · have hf := ec_f cnd hf
      refine lv_aload_n hx hb dJ7_fill_10 rfl (lv_at hl 0 rfl) ?_
      refine lv_iload_n hx hb dJ7_fill_11 rfl (lv_at hl 2 rfl) ?_
      refine lv_iload_n hx hb dJ7_fill_12 rfl (lv_at hl 1 rfl) ?_
      obtain ⟨S_1, h, hf⟩ := ec_bi hf
      refine f_iast X hM wxa20 wxs20 h dJ7_fill_13 (fun H locs hM => ?_)
      refine e_inc (w := 1) (f := fun v => [(2, .int v), (0, .ref (q 20)), (1, .int x1), (3, .int x3)]) hx hb dJ7_fill_14 hl (k := 2) rfl (by decide) (by decide) (fun _ => rfl) (fun x2_2 ex ls hl => ?_)
      have hf := ec_lt_i ex hf
      refine lv_goto (tgt := 5) hx hb dJ7_fill_17 rfl ?_
      exact ih S_1 x1 x2_2 x3 _ _ _ hf hM (lv_sub hl [1, 2, 0, 3] rfl)
noncomputable def fJ7_fill20 (N : Nat) (S : sX) (x1 : Int32) : Option sX :=
  fJ7_fill20_5 N N S x1 (0 : Int32) (16 : Int32)
theorem metJ7_fill20 (l : Launch) (D : va_G) (dA : Nat → ClassId) (o : Nat) (q : Nat → Nat) (N : Nat) (S : sX) (x1 : Int32) (Sr : sX) (hf : fJ7_fill20 N S x1 = some Sr) : Met l yJ7_fill (ws_ yJ7_fill cJ7_fill 4 none) (rmL 0) (XPreS D dA o q S [.ref (q 20), .int x1]) (XPost D dA o q (XA o q S.2.2.2) none Sr) 0 0 (XA o q S.2.2.2) := by
  refine f_ofW rfl (by decide) (Nat.le_of_ble_eq_true rfl) (fun A p e s m args below meth c X hr hlk hM ls hl => ?_)
  have hl : lv_has ls 4 [(0, .ref (q 20)), (1, .int x1)] := hl
  have hx := X.1
  have hb := X.2.1
  unfold fJ7_fill20 at hf
  refine lv_iconst (v := 0) hx hb dJ7_fill_0 (by decide) ?_
  refine lv_istore_n (lv' := [(2, .int (0 : Int32)), (0, .ref (q 20)), (1, .int x1)]) hx hb dJ7_fill_1 rfl hl (by decide) rfl (fun ls hl => ?_)
  refine lv_aload_n hx hb dJ7_fill_2 rfl (lv_at hl 1 rfl) ?_
  refine f_alen (v := 16) (t := 0) X hM wxa20 rfl (by decide) dJ7_fill_3 ?_
  refine lv_istore_n (lv' := [(3, .int (16 : Int32)), (2, .int (0 : Int32)), (0, .ref (q 20)), (1, .int x1)]) hx hb dJ7_fill_4 rfl hl (by decide) rfl (fun ls hl => ?_)
  exact bJ7_fill20_5 X hr hlk  N S x1 (0 : Int32) (16 : Int32) _ _ _ hf hM (lv_sub hl [2, 3, 1, 0] rfl)
theorem hJ7_fill20 : yJ7_fill.cls ≠ "java/lang/invoke/MethodHandle" ∧ yJ7_fill.cls ≠ "java/lang/invoke/VarHandle" ∧ (parseMethodDescriptor yJ7_fill.desc).map (fun d => d.parameters.length) = some 2 := by decide +kernel

theorem gX0_44 : GoodIn lw_all (va_wsS RX0 44 yJ7_fill (ws_ yJ7_fill cJ7_fill 4 none)) := lw_S q454 q455 q78 q456
noncomputable def fX0_laySamples_124 (N : Nat) (k24 : sX → Int32 → Int32 → Int32 → Int32 → Int32 → Option sX) (S : sX) (x1 : Int32) (x2 : Int32) (x4 : Int32) (x5 : Int32) (x6 : Int32) : Option sX :=
  ec_lt (x6 + (1 : Int32)) fun x6_12 =>
  k24 S x1 x2 x4 x5 x6_12
theorem bX0_laySamples_124 {N : Nat} (X : CallFix p m c cX0_laySamples 8 s args lw_all RX0) (hr : meth.sig.returnType = none) (hlk : meth.locks = false) {Sr : sX} {k24 : sX → Int32 → Int32 → Int32 → Int32 → Int32 → Option sX} (Hk24 : ∀ (S : sX) (x1 : Int32) (x2 : Int32) (x4 : Int32) (x5 : Int32) (x6 : Int32) (H : Heap) (locs : List Loc) (ls : Array Slot), k24 S x1 x2 x4 x5 x6 = some Sr → XW D dA o q S A s H locs → lv_has ls 8 [(0, .ref o), (1, .int x1), (2, .int x2), (4, .int x4), (5, .int x5), (6, .int x6)] → W p l e (rmL 1) s m args below meth c H locs 0 0 (MQ below (XPost D dA o q A none Sr) args s 0 0 A) (F0 m 24 ls [])) : ∀ (S : sX) (x1 : Int32) (x2 : Int32) (x4 : Int32) (x5 : Int32) (x6 : Int32) (H : Heap) (locs : List Loc) (ls : Array Slot), fX0_laySamples_124 N k24 S x1 x2 x4 x5 x6 = some Sr → XW D dA o q S A s H locs → lv_has ls 8 [(0, .ref o), (1, .int x1), (2, .int x2), (4, .int x4), (5, .int x5), (6, .int x6)] → W p l e (rmL 1) s m args below meth c H locs 0 0 (MQ below (XPost D dA o q A none Sr) args s 0 0 A) (F0 m 124 ls []) := by
  have hx := X.1
  have hb := X.2.1
  intro S x1 x2 x4 x5 x6 H locs ls hf hM hl
  unfold fX0_laySamples_124 at hf
  refine e_inc (w := 1) (f := fun v => [(6, .int v), (0, .ref o), (1, .int x1), (2, .int x2), (4, .int x4), (5, .int x5)]) hx hb dX0_laySamples_124 hl (k := 5) rfl (by decide) (by decide) (fun _ => rfl) (fun x6_12 ex ls hl => ?_)
  have hf := ec_lt_i ex hf
  refine lv_goto (tgt := 24) hx hb dX0_laySamples_127 rfl ?_
  exact Hk24 S x1 x2 x4 x5 x6_12 _ _ _ hf hM (lv_sub hl [1, 2, 3, 4, 5, 0] rfl)
noncomputable def fX0_laySamples_24 (N : Nat) : Nat → sX → Int32 → Int32 → Int32 → Int32 → Int32 → Option sX
  | 0, _, _, _, _, _, _ => none
  | n + 1, S, x1, x2, x4, x5, x6 =>
    if (S.1 8) ≤ x6 then (
      some S)
    else (
      (hAi 0 S.2.2.2 (S.2.2.1 7) x6).bind fun v_4 =>
      (hAr 4 S.2.2.2 (S.2.2.1 3) v_4).bind fun v_5 =>
      (hR 7 S.2.2.2 v_5 3).bind fun v_6 =>
      (hAi 0 S.2.2.2 v_6 x1).bind fun v_7 =>
      ec_lt (x5 + v_7) fun x5_8 =>
      (ec_dv x5_8 x2).bind fun v_9 =>
      (ec_rm x5_8 x2).bind fun v_10 =>
      if (S.1 8) ≤ (x6 + x4) then (
        ec_lt (xI S 22 ((S.1 22) + v_9)) fun S_11 =>
        fX0_laySamples_124 N (fX0_laySamples_24 N n) S_11 x1 x2 x4 v_10 x6)
      else (
        (hAi 0 S.2.2.2 (S.2.2.1 7) (x6 + x4)).bind fun v_13 =>
        (ec_ag (S.2.1 20) 16 v_13).bind fun v_14 =>
        (ex_as S 20 16 v_13 (v_14 + v_9)).bind fun S_15 =>
        ec_lt (xI S_15 21 ((S_15.1 21) + v_9)) fun S_16 =>
        fX0_laySamples_124 N (fX0_laySamples_24 N n) S_16 x1 x2 x4 v_10 x6))
theorem bX0_laySamples_24 {N : Nat} (X : CallFix p m c cX0_laySamples 8 s args lw_all RX0) (hr : meth.sig.returnType = none) (hlk : meth.locks = false) {Sr : sX} : ∀ (n : Nat) (S : sX) (x1 : Int32) (x2 : Int32) (x4 : Int32) (x5 : Int32) (x6 : Int32) (H : Heap) (locs : List Loc) (ls : Array Slot), fX0_laySamples_24 N n S x1 x2 x4 x5 x6 = some Sr → XW D dA o q S A s H locs → lv_has ls 8 [(0, .ref o), (1, .int x1), (2, .int x2), (4, .int x4), (5, .int x5), (6, .int x6)] → W p l e (rmL 1) s m args below meth c H locs 0 0 (MQ below (XPost D dA o q A none Sr) args s 0 0 A) (F0 m 24 ls []) := by
  have hx := X.1
  have hb := X.2.1
  intro n
  induction n with
  | zero =>
    intro S x1 x2 x4 x5 x6 H locs ls hf hM hl
    rw [fX0_laySamples_24] at hf
    cases hf
  | succ n ih =>
    intro S x1 x2 x4 x5 x6 H locs ls hf hM hl
    rw [fX0_laySamples_24] at hf
    refine lv_iload hx hb dX0_laySamples_24 (lv_at hl 5 rfl) ?_
    refine lv_aload_n hx hb dX0_laySamples_26 rfl (lv_at hl 0 rfl) ?_
    refine x_get (v := .int (S.1 8)) X hM 8 (by decide) q776 rfl rfl dX0_laySamples_27 ?_
    refine lv_icmp_ge (tgt := 130) hx hb dX0_laySamples_30 rfl (fun cnd => ?_) (fun cnd => ?_)
    · have hf := ec_t cnd hf
      obtain rfl := Option.some.inj hf
      exact x_vret X hr hlk hM dX0_laySamples_130
    · have hf := ec_f cnd hf
      refine lv_iload hx hb dX0_laySamples_33 (lv_at hl 4 rfl) ?_
      refine lv_aload_n hx hb dX0_laySamples_35 rfl (lv_at hl 0 rfl) ?_
      refine x_get (v := .ref (S.2.2.1 3)) X hM 3 (by decide) q771 rfl rfl dX0_laySamples_36 ?_
      refine lv_aload_n hx hb dX0_laySamples_39 rfl (lv_at hl 0 rfl) ?_
      refine x_get (v := .ref (S.2.2.1 7)) X hM 7 (by decide) q775 rfl rfl dX0_laySamples_40 ?_
      refine lv_iload hx hb dX0_laySamples_43 (lv_at hl 5 rfl) ?_
      obtain ⟨v_4, h, hf⟩ := ec_bi hf
      refine h_iald X hM h dX0_laySamples_45 ?_
      obtain ⟨v_5, h, hf⟩ := ec_bi hf
      refine h_aald (t := 4) X hM rfl rfl h dX0_laySamples_46 ?_
      obtain ⟨v_6, h, hf⟩ := ec_bi hf
      refine h_getvN (v := .ref v_6) (C := RX8) (T := TX8) (N := 5) (ci := 7) (k := 3) (host := "EventCounters") X hM in_X8 rfl (by decide) (xn_at hM.2.1 20 rfl) rfl (hR_i h) dX0_laySamples_47 ?_
      refine lv_iload_n hx hb dX0_laySamples_50 rfl (lv_at hl 1 rfl) ?_
      obtain ⟨v_7, h, hf⟩ := ec_bi hf
      refine h_iald X hM h dX0_laySamples_51 ?_
      refine lv_iadd hx hb dX0_laySamples_52 ?_
      refine lv_topi (fun x5_8 ex => ?_)
      have hf := ec_lt_i ex hf
      refine lv_istore (lv' := [(5, .int x5_8), (0, .ref o), (1, .int x1), (2, .int x2), (4, .int x4), (6, .int x6)]) hx hb dX0_laySamples_53 hl (by decide) rfl (fun ls hl => ?_)
      refine lv_iload hx hb dX0_laySamples_55 (lv_at hl 0 rfl) ?_
      refine lv_iload_n hx hb dX0_laySamples_57 rfl (lv_at hl 3 rfl) ?_
      obtain ⟨v_9, h, hf⟩ := ec_bi hf
      refine e_dv hx hb h dX0_laySamples_58 ?_
      refine lv_istore (lv' := [(7, .int v_9), (5, .int x5_8), (0, .ref o), (1, .int x1), (2, .int x2), (4, .int x4), (6, .int x6)]) hx hb dX0_laySamples_59 hl (by decide) rfl (fun ls hl => ?_)
      refine lv_iload hx hb dX0_laySamples_61 (lv_at hl 1 rfl) ?_
      refine lv_iload_n hx hb dX0_laySamples_63 rfl (lv_at hl 4 rfl) ?_
      obtain ⟨v_10, h, hf⟩ := ec_bi hf
      refine e_rm hx hb h dX0_laySamples_64 ?_
      refine lv_istore (lv' := [(5, .int v_10), (7, .int v_9), (0, .ref o), (1, .int x1), (2, .int x2), (4, .int x4), (6, .int x6)]) hx hb dX0_laySamples_65 hl (by decide) rfl (fun ls hl => ?_)
      refine lv_iload hx hb dX0_laySamples_67 (lv_at hl 6 rfl) ?_
      refine lv_iload hx hb dX0_laySamples_69 (lv_at hl 5 rfl) ?_
      refine lv_iadd hx hb dX0_laySamples_71 ?_
      refine lv_aload_n hx hb dX0_laySamples_72 rfl (lv_at hl 2 rfl) ?_
      refine x_get (v := .int (S.1 8)) X hM 8 (by decide) q776 rfl rfl dX0_laySamples_73 ?_
      refine lv_icmp_ge (tgt := 113) hx hb dX0_laySamples_76 rfl (fun cnd => ?_) (fun cnd => ?_)
      · have hf := ec_t cnd hf
        refine lv_aload_n hx hb dX0_laySamples_113 rfl (lv_at hl 2 rfl) ?_
        refine lv_dup hx hb dX0_laySamples_114 rfl ?_
        refine x_get (v := .int (S.1 22)) X hM 22 (by decide) q790 rfl rfl dX0_laySamples_115 ?_
        refine lv_iload hx hb dX0_laySamples_118 (lv_at hl 1 rfl) ?_
        refine lv_iadd hx hb dX0_laySamples_120 ?_
        refine x_puti X hM 22 (by decide) q790 rfl rfl xfd22 (wxi22 _) dX0_laySamples_121 (fun S_11 H locs eS hM => ?_)
        have hf := ec_lt_i eS hf
        exact bX0_laySamples_124 X hr hlk ih S_11 x1 x2 x4 v_10 x6 _ _ _ hf hM (lv_sub hl [2, 3, 4, 5, 0, 6] rfl)
      · have hf := ec_f cnd hf
        refine lv_aload_n hx hb dX0_laySamples_79 rfl (lv_at hl 2 rfl) ?_
        refine x_get (v := .ref (q 20)) X hM 20 (by decide) q788 rfl rfl dX0_laySamples_80 ?_
        refine lv_aload_n hx hb dX0_laySamples_83 rfl (lv_at hl 2 rfl) ?_
        refine x_get (v := .ref (S.2.2.1 7)) X hM 7 (by decide) q775 rfl rfl dX0_laySamples_84 ?_
        refine lv_iload hx hb dX0_laySamples_87 (lv_at hl 6 rfl) ?_
        refine lv_iload hx hb dX0_laySamples_89 (lv_at hl 5 rfl) ?_
        refine lv_iadd hx hb dX0_laySamples_91 ?_
        obtain ⟨v_13, h, hf⟩ := ec_bi hf
        refine h_iald X hM h dX0_laySamples_92 ?_
        refine lv_dup2_11 hx hb dX0_laySamples_93 rfl rfl ?_
        obtain ⟨v_14, h, hf⟩ := ec_bi hf
        refine x_iald X hM wxa20 h dX0_laySamples_94 ?_
        refine lv_iload hx hb dX0_laySamples_95 (lv_at hl 1 rfl) ?_
        refine lv_iadd hx hb dX0_laySamples_97 ?_
        obtain ⟨S_15, h, hf⟩ := ec_bi hf
        refine x_iast X hM wxa20 wxs20 h dX0_laySamples_98 (fun H locs hM => ?_)
        refine lv_aload_n hx hb dX0_laySamples_99 rfl (lv_at hl 2 rfl) ?_
        refine lv_dup hx hb dX0_laySamples_100 rfl ?_
        refine x_get (v := .int (S_15.1 21)) X hM 21 (by decide) q789 rfl rfl dX0_laySamples_101 ?_
        refine lv_iload hx hb dX0_laySamples_104 (lv_at hl 1 rfl) ?_
        refine lv_iadd hx hb dX0_laySamples_106 ?_
        refine x_puti X hM 21 (by decide) q789 rfl rfl xfd21 (wxi21 _) dX0_laySamples_107 (fun S_16 H locs eS hM => ?_)
        have hf := ec_lt_i eS hf
        refine lv_goto (tgt := 124) hx hb dX0_laySamples_110 rfl ?_
        exact bX0_laySamples_124 X hr hlk ih S_16 x1 x2 x4 v_10 x6 _ _ _ hf hM (lv_sub hl [2, 3, 4, 5, 0, 6] rfl)
noncomputable def fX0_laySamples (N : Nat) (S : sX) (x1 : Int32) (x2 : Int32) (x3 : Int32) (x4 : Int32) : Option sX :=
  (fJ7_fill20 N S (0 : Int32)).bind fun S_1 =>
  ec_lt (xI S_1 21 (0 : Int32)) fun S_2 =>
  ec_lt (xI S_2 22 (0 : Int32)) fun S_3 =>
  fX0_laySamples_24 N N S_3 x1 x2 x4 x3 (0 : Int32)
theorem metX0_laySamples (l : Launch) (D : va_G) (dA : Nat → ClassId) (o : Nat) (q : Nat → Nat) (N : Nat) (S : sX) (x1 : Int32) (x2 : Int32) (x3 : Int32) (x4 : Int32) (Sr : sX) (hf : fX0_laySamples N S x1 x2 x3 x4 = some Sr) : Met l yX0_laySamples (ws_ yX0_laySamples cX0_laySamples 8 none) (rmL 1) (XPre D dA o q S [.int x1, .int x2, .int x3, .int x4]) (XPost D dA o q (XA o q S.2.2.2) none Sr) 0 0 (XA o q S.2.2.2) := by
  refine x_ofW rfl (Nat.le_of_ble_eq_true rfl) (fun A p e s m args below meth c X hr hlk hM ls hl => ?_)
  have hl : lv_has ls 8 [(0, .ref o), (1, .int x1), (2, .int x2), (3, .int x3), (4, .int x4)] := hl
  have hx := X.1
  have hb := X.2.1
  unfold fX0_laySamples at hf
  refine lv_aload_n hx hb dX0_laySamples_0 rfl (lv_at hl 0 rfl) ?_
  refine x_get (v := .ref (q 20)) X hM 20 (by decide) q788 rfl rfl dX0_laySamples_1 ?_
  refine lv_iconst (v := 0) hx hb dX0_laySamples_4 (by decide) ?_
  obtain ⟨S_1, h, hf⟩ := ec_bi hf
  refine f_cSv (As := [.ref (q 20), .int (0 : Int32)]) (rest := []) X hM (metJ7_fill20 l D dA o q N S (0 : Int32) _ h) (va_cwS 2 X.2.2.2.2 gX0_44 rfl rfl rfl hJ7_fill20 (rm_le (Nat.le_of_ble_eq_true rfl) (Nat.le_of_ble_eq_true rfl))) rfl hl.1 rfl (Nat.le_of_ble_eq_true rfl) ⟨Nat.zero_le _, Nat.zero_le _⟩ dX0_laySamples_5 (fun H locs hM => ?_)
  refine lv_aload_n hx hb dX0_laySamples_8 rfl (lv_at hl 0 rfl) ?_
  refine lv_iconst (v := 0) hx hb dX0_laySamples_9 (by decide) ?_
  refine x_puti X hM 21 (by decide) q789 rfl rfl xfd21 (wxi21 _) dX0_laySamples_10 (fun S_2 H locs eS hM => ?_)
  have hf := ec_lt_i eS hf
  refine lv_aload_n hx hb dX0_laySamples_13 rfl (lv_at hl 0 rfl) ?_
  refine lv_iconst (v := 0) hx hb dX0_laySamples_14 (by decide) ?_
  refine x_puti X hM 22 (by decide) q790 rfl rfl xfd22 (wxi22 _) dX0_laySamples_15 (fun S_3 H locs eS hM => ?_)
  have hf := ec_lt_i eS hf
  refine lv_iload_n hx hb dX0_laySamples_18 rfl (lv_at hl 3 rfl) ?_
  refine lv_istore (lv' := [(5, .int x3), (0, .ref o), (1, .int x1), (2, .int x2), (3, .int x3), (4, .int x4)]) hx hb dX0_laySamples_19 hl (by decide) rfl (fun ls hl => ?_)
  refine lv_iconst (v := 0) hx hb dX0_laySamples_21 (by decide) ?_
  refine lv_istore (lv' := [(6, .int (0 : Int32)), (5, .int x3), (0, .ref o), (1, .int x1), (2, .int x2), (3, .int x3), (4, .int x4)]) hx hb dX0_laySamples_22 hl (by decide) rfl (fun ls hl => ?_)
  exact bX0_laySamples_24 X hr hlk  N S_3 x1 x2 x4 x3 (0 : Int32) _ _ _ hf hM (lv_sub hl [2, 3, 4, 6, 1, 0] rfl)
theorem hX0_laySamples : yX0_laySamples.cls = RX0 ∧ yX0_laySamples.cls ≠ "java/lang/invoke/MethodHandle" ∧ yX0_laySamples.cls ≠ "java/lang/invoke/VarHandle" ∧ (parseMethodDescriptor yX0_laySamples.desc).map (fun d => d.parameters.length) = some 4 := by decide +kernel

theorem gX0_278 : GoodIn lw_all (wsV RX0 278 RX0 yX0_laySamples (ws_ yX0_laySamples cX0_laySamples 8 none)) := lw_V q664 q666 qs22 q60 q667
noncomputable def fX0_shows_20 (N : Nat) (S : sX) : Option (Int32 × sX) :=
  some ((-1 : Int32), S)
theorem bX0_shows_20 {N : Nat} (X : CallFix p m c cX0_shows 6 s args lw_all RX0) (hr : meth.sig.returnType = (some .int)) (hlk : meth.locks = false) {res : Int32} {Sr : sX} : ∀ (S : sX) (H : Heap) (locs : List Loc) (ls : Array Slot), fX0_shows_20 N S = some (res, Sr) → XW D dA o q S A s H locs → lv_has ls 6 [(0, .ref o)] → W p l e (rmL 3) s m args below meth c H locs 0 0 (MQ below (XPost D dA o q A (some (.int res)) Sr) args s 0 0 A) (F0 m 20 ls []) := by
  have hx := X.1
  have hb := X.2.1
  intro S H locs ls hf hM hl
  unfold fX0_shows_20 at hf
  refine lv_iconst (v := -1) hx hb dX0_shows_20 (by decide) ?_
  obtain ⟨rfl, rfl⟩ := Prod.mk.inj (Option.some.inj hf)
  exact x_iret X hr hlk hM dX0_shows_21
noncomputable def fX0_shows (N : Nat) (S : sX) (x1 : Int32) (x2 : Int32) (x3 : Int32) (x4 : Int32) (x5 : Int32) : Option (Int32 × sX) :=
  (fX0_isSample x1 x2 x3 x4).bind fun v_1 =>
  if v_1 = 0 then (
    fX0_shows_20 N S)
  else (
    (fX0_isLine S x5).bind fun v_2 =>
    if ¬ v_2 = 0 then (
      (fX0_laySamples N S x1 x2 x3 x4).bind fun S_3 =>
      (ec_ag (S_3.2.1 20) 16 x5).bind fun v_4 =>
      some (v_4, S_3))
    else (
      fX0_shows_20 N S))
theorem metX0_shows (l : Launch) (D : va_G) (dA : Nat → ClassId) (o : Nat) (q : Nat → Nat) (N : Nat) (S : sX) (x1 : Int32) (x2 : Int32) (x3 : Int32) (x4 : Int32) (x5 : Int32) (res : Int32) (Sr : sX) (hf : fX0_shows N S x1 x2 x3 x4 x5 = some (res, Sr)) : Met l yX0_shows (ws_ yX0_shows cX0_shows 6 (some .int)) (rmL 3) (XPre D dA o q S [.int x1, .int x2, .int x3, .int x4, .int x5]) (XPost D dA o q (XA o q S.2.2.2) (some (.int res)) Sr) 0 0 (XA o q S.2.2.2) := by
  refine x_ofW rfl (Nat.le_of_ble_eq_true rfl) (fun A p e s m args below meth c X hr hlk hM ls hl => ?_)
  have hl : lv_has ls 6 [(0, .ref o), (1, .int x1), (2, .int x2), (3, .int x3), (4, .int x4), (5, .int x5)] := hl
  have hx := X.1
  have hb := X.2.1
  unfold fX0_shows at hf
  refine lv_iload_n hx hb dX0_shows_0 rfl (lv_at hl 1 rfl) ?_
  refine lv_iload_n hx hb dX0_shows_1 rfl (lv_at hl 2 rfl) ?_
  refine lv_iload_n hx hb dX0_shows_2 rfl (lv_at hl 3 rfl) ?_
  refine lv_iload hx hb dX0_shows_3 (lv_at hl 4 rfl) ?_
  obtain ⟨v_1, h, hf⟩ := ec_bi hf
  refine e_cS (v := .int v_1) (As := [.int x1, .int x2, .int x3, .int x4]) (rest := []) X (metX0_isSample l x1 x2 x3 x4 _ h) (va_cwS 4 X.2.2.2.2 gX0_274 rfl rfl rfl hX0_isSample (rm_le (Nat.le_of_ble_eq_true rfl) (Nat.le_of_ble_eq_true rfl))) rfl hl.1 rfl (Nat.le_of_ble_eq_true rfl) ⟨Nat.zero_le _, Nat.zero_le _⟩ dX0_shows_5 ?_
  refine lv_if_eq (tgt := 20) hx hb dX0_shows_8 rfl (fun cnd => ?_) (fun cnd => ?_)
  · have hf := ec_t cnd hf
    exact bX0_shows_20 X hr hlk  S _ _ _ hf hM (lv_sub hl [0] rfl)
  · have hf := ec_f cnd hf
    refine lv_aload_n hx hb dX0_shows_11 rfl (lv_at hl 0 rfl) ?_
    refine lv_iload hx hb dX0_shows_12 (lv_at hl 5 rfl) ?_
    obtain ⟨v_2, h, hf⟩ := ec_bi hf
    refine x_cR (v := .int v_2) (As := [.int x5]) (rest := []) X hM (metX0_isLine l D dA o q S x5 _ h) (cwV 1 X.2.2.2.2 gX0_114 rfl rfl rfl hX0_isLine (rm_le (Nat.le_of_ble_eq_true rfl) (Nat.le_of_ble_eq_true rfl))) rfl hl.1 rfl (Nat.le_of_ble_eq_true rfl) ⟨Nat.zero_le _, Nat.zero_le _⟩ dX0_shows_14 ?_
    refine lv_if_ne (tgt := 22) hx hb dX0_shows_17 rfl (fun cnd => ?_) (fun cnd => ?_)
    · have hf := ec_t cnd hf
      refine lv_aload_n hx hb dX0_shows_22 rfl (lv_at hl 0 rfl) ?_
      refine lv_iload_n hx hb dX0_shows_23 rfl (lv_at hl 1 rfl) ?_
      refine lv_iload_n hx hb dX0_shows_24 rfl (lv_at hl 2 rfl) ?_
      refine lv_iload_n hx hb dX0_shows_25 rfl (lv_at hl 3 rfl) ?_
      refine lv_iload hx hb dX0_shows_26 (lv_at hl 4 rfl) ?_
      obtain ⟨S_3, h, hf⟩ := ec_bi hf
      refine x_cWv (As := [.int x1, .int x2, .int x3, .int x4]) (rest := []) X hM (metX0_laySamples l D dA o q N S x1 x2 x3 x4 _ h) (cwV 4 X.2.2.2.2 gX0_278 rfl rfl rfl hX0_laySamples (rm_le (Nat.le_of_ble_eq_true rfl) (Nat.le_of_ble_eq_true rfl))) rfl hl.1 rfl (Nat.le_of_ble_eq_true rfl) ⟨Nat.zero_le _, Nat.zero_le _⟩ dX0_shows_28 (fun H locs hM => ?_)
      refine lv_aload_n hx hb dX0_shows_31 rfl (lv_at hl 0 rfl) ?_
      refine x_get (v := .ref (q 20)) X hM 20 (by decide) q788 rfl rfl dX0_shows_32 ?_
      refine lv_iload hx hb dX0_shows_35 (lv_at hl 5 rfl) ?_
      obtain ⟨v_4, h, hf⟩ := ec_bi hf
      refine x_iald X hM wxa20 h dX0_shows_37 ?_
      obtain ⟨rfl, rfl⟩ := Prod.mk.inj (Option.some.inj hf)
      exact x_iret X hr hlk hM dX0_shows_38
    · have hf := ec_f (not_not_intro cnd) hf
      exact bX0_shows_20 X hr hlk  S _ _ _ hf hM (lv_sub hl [0] rfl)
theorem hX0_shows : yX0_shows.cls = RX0 ∧ yX0_shows.cls ≠ "java/lang/invoke/MethodHandle" ∧ yX0_shows.cls ≠ "java/lang/invoke/VarHandle" ∧ (parseMethodDescriptor yX0_shows.desc).map (fun d => d.parameters.length) = some 5 := by decide +kernel

noncomputable def fX0_samples_24 (N : Nat) (S : sX) : Option (Int32 × sX) :=
  some ((-1 : Int32), S)
theorem bX0_samples_24 {N : Nat} (X : CallFix p m c cX0_samples 10 s args lw_all RX0) (hr : meth.sig.returnType = (some .int)) (hlk : meth.locks = false) {res : Int32} {Sr : sX} : ∀ (S : sX) (H : Heap) (locs : List Loc) (ls : Array Slot), fX0_samples_24 N S = some (res, Sr) → XW D dA o q S A s H locs → lv_has ls 10 [(0, .ref o)] → W p l e (rmL 3) s m args below meth c H locs 0 0 (MQ below (XPost D dA o q A (some (.int res)) Sr) args s 0 0 A) (F0 m 24 ls []) := by
  have hx := X.1
  have hb := X.2.1
  intro S H locs ls hf hM hl
  unfold fX0_samples_24 at hf
  refine lv_iconst (v := -1) hx hb dX0_samples_24 (by decide) ?_
  obtain ⟨rfl, rfl⟩ := Prod.mk.inj (Option.some.inj hf)
  exact x_iret X hr hlk hM dX0_samples_25
noncomputable def fX0_samples_138 (N : Nat) (k48 : sX → Int32 → Int32 → Int32 → Int32 → Int32 → Int32 → Option (Int32 × sX)) (S : sX) (x1 : Int32) (x5 : Int32) (x6 : Int32) (x7 : Int32) (x9 : Int32) (t0 : Int32) : Option (Int32 × sX) :=
  ec_lt (x9 + (1 : Int32)) fun x9_10 =>
  k48 S x1 x5 x6 x7 t0 x9_10
theorem bX0_samples_138 {N : Nat} (X : CallFix p m c cX0_samples 10 s args lw_all RX0) (hr : meth.sig.returnType = (some .int)) (hlk : meth.locks = false) {res : Int32} {Sr : sX} {k48 : sX → Int32 → Int32 → Int32 → Int32 → Int32 → Int32 → Option (Int32 × sX)} (Hk48 : ∀ (S : sX) (x1 : Int32) (x5 : Int32) (x6 : Int32) (x7 : Int32) (x8 : Int32) (x9 : Int32) (H : Heap) (locs : List Loc) (ls : Array Slot), k48 S x1 x5 x6 x7 x8 x9 = some (res, Sr) → XW D dA o q S A s H locs → lv_has ls 10 [(0, .ref o), (1, .int x1), (5, .int x5), (6, .int x6), (7, .int x7), (8, .int x8), (9, .int x9)] → W p l e (rmL 3) s m args below meth c H locs 0 0 (MQ below (XPost D dA o q A (some (.int res)) Sr) args s 0 0 A) (F0 m 48 ls [])) : ∀ (S : sX) (x1 : Int32) (x5 : Int32) (x6 : Int32) (x7 : Int32) (x9 : Int32) (t0 : Int32) (H : Heap) (locs : List Loc) (ls : Array Slot), fX0_samples_138 N k48 S x1 x5 x6 x7 x9 t0 = some (res, Sr) → XW D dA o q S A s H locs → lv_has ls 10 [(0, .ref o), (1, .int x1), (5, .int x5), (6, .int x6), (7, .int x7), (9, .int x9)] → W p l e (rmL 3) s m args below meth c H locs 0 0 (MQ below (XPost D dA o q A (some (.int res)) Sr) args s 0 0 A) (F0 m 138 ls [.int t0]) := by
  have hx := X.1
  have hb := X.2.1
  intro S x1 x5 x6 x7 x9 t0 H locs ls hf hM hl
  unfold fX0_samples_138 at hf
  refine lv_istore (lv' := [(8, .int t0), (0, .ref o), (1, .int x1), (5, .int x5), (6, .int x6), (7, .int x7), (9, .int x9)]) hx hb dX0_samples_138 hl (by decide) rfl (fun ls hl => ?_)
  refine e_inc (w := 1) (f := fun v => [(9, .int v), (8, .int t0), (0, .ref o), (1, .int x1), (5, .int x5), (6, .int x6), (7, .int x7)]) hx hb dX0_samples_140 hl (k := 6) rfl (by decide) (by decide) (fun _ => rfl) (fun x9_10 ex ls hl => ?_)
  have hf := ec_lt_i ex hf
  refine lv_goto (tgt := 48) hx hb dX0_samples_143 rfl ?_
  exact Hk48 S x1 x5 x6 x7 t0 x9_10 _ _ _ hf hM (lv_sub hl [2, 3, 4, 5, 6, 1, 0] rfl)
noncomputable def fX0_samples_128 (N : Nat) (k48 : sX → Int32 → Int32 → Int32 → Int32 → Int32 → Int32 → Option (Int32 × sX)) (S : sX) (x1 : Int32) (x5 : Int32) (x6 : Int32) (x7 : Int32) (x8 : Int32) (x9 : Int32) (t0 : Int32) (t1 : Int32) : Option (Int32 × sX) :=
  if t1 ≤ t0 then (
    fX0_samples_138 N k48 S x1 x5 x6 x7 x9 x8)
  else (
    fX0_samples_138 N k48 S x1 x5 x6 x7 x9 x9)
theorem bX0_samples_128 {N : Nat} (X : CallFix p m c cX0_samples 10 s args lw_all RX0) (hr : meth.sig.returnType = (some .int)) (hlk : meth.locks = false) {res : Int32} {Sr : sX} {k48 : sX → Int32 → Int32 → Int32 → Int32 → Int32 → Int32 → Option (Int32 × sX)} (Hk48 : ∀ (S : sX) (x1 : Int32) (x5 : Int32) (x6 : Int32) (x7 : Int32) (x8 : Int32) (x9 : Int32) (H : Heap) (locs : List Loc) (ls : Array Slot), k48 S x1 x5 x6 x7 x8 x9 = some (res, Sr) → XW D dA o q S A s H locs → lv_has ls 10 [(0, .ref o), (1, .int x1), (5, .int x5), (6, .int x6), (7, .int x7), (8, .int x8), (9, .int x9)] → W p l e (rmL 3) s m args below meth c H locs 0 0 (MQ below (XPost D dA o q A (some (.int res)) Sr) args s 0 0 A) (F0 m 48 ls [])) : ∀ (S : sX) (x1 : Int32) (x5 : Int32) (x6 : Int32) (x7 : Int32) (x8 : Int32) (x9 : Int32) (t0 : Int32) (t1 : Int32) (H : Heap) (locs : List Loc) (ls : Array Slot), fX0_samples_128 N k48 S x1 x5 x6 x7 x8 x9 t0 t1 = some (res, Sr) → XW D dA o q S A s H locs → lv_has ls 10 [(0, .ref o), (1, .int x1), (5, .int x5), (6, .int x6), (7, .int x7), (8, .int x8), (9, .int x9)] → W p l e (rmL 3) s m args below meth c H locs 0 0 (MQ below (XPost D dA o q A (some (.int res)) Sr) args s 0 0 A) (F0 m 128 ls [.int t0, .int t1]) := by
  have hx := X.1
  have hb := X.2.1
  intro S x1 x5 x6 x7 x8 x9 t0 t1 H locs ls hf hM hl
  unfold fX0_samples_128 at hf
  refine lv_icmp_le (tgt := 136) hx hb dX0_samples_128 rfl (fun cnd => ?_) (fun cnd => ?_)
  · have hf := ec_t cnd hf
    refine lv_iload hx hb dX0_samples_136 (lv_at hl 5 rfl) ?_
    exact bX0_samples_138 X hr hlk Hk48 S x1 x5 x6 x7 x9 x8 _ _ _ hf hM (lv_sub hl [0, 1, 2, 3, 4, 6] rfl)
  · have hf := ec_f cnd hf
    refine lv_iload hx hb dX0_samples_131 (lv_at hl 6 rfl) ?_
    refine lv_goto (tgt := 138) hx hb dX0_samples_133 rfl ?_
    exact bX0_samples_138 X hr hlk Hk48 S x1 x5 x6 x7 x9 x9 _ _ _ hf hM (lv_sub hl [0, 1, 2, 3, 4, 6] rfl)
noncomputable def fX0_samples_100 (N : Nat) (k48 : sX → Int32 → Int32 → Int32 → Int32 → Int32 → Int32 → Option (Int32 × sX)) (S : sX) (x1 : Int32) (x5 : Int32) (x6 : Int32) (x8 : Int32) (x9 : Int32) (t0 : Int32) (t1 : Int32) : Option (Int32 × sX) :=
  ec_lt (t1 ||| t0) fun x7_7 =>
  (ec_ag (S.2.1 20) 16 x9).bind fun v_8 =>
  if ¬ x8 = (-4 : Int32) then (
    (ec_ag (S.2.1 20) 16 x8).bind fun v_9 =>
    fX0_samples_128 N k48 S x1 x5 x6 x7_7 x8 x9 v_9 v_8)
  else (
    fX0_samples_128 N k48 S x1 x5 x6 x7_7 x8 x9 (0 : Int32) v_8)
theorem bX0_samples_100 {N : Nat} (X : CallFix p m c cX0_samples 10 s args lw_all RX0) (hr : meth.sig.returnType = (some .int)) (hlk : meth.locks = false) {res : Int32} {Sr : sX} {k48 : sX → Int32 → Int32 → Int32 → Int32 → Int32 → Int32 → Option (Int32 × sX)} (Hk48 : ∀ (S : sX) (x1 : Int32) (x5 : Int32) (x6 : Int32) (x7 : Int32) (x8 : Int32) (x9 : Int32) (H : Heap) (locs : List Loc) (ls : Array Slot), k48 S x1 x5 x6 x7 x8 x9 = some (res, Sr) → XW D dA o q S A s H locs → lv_has ls 10 [(0, .ref o), (1, .int x1), (5, .int x5), (6, .int x6), (7, .int x7), (8, .int x8), (9, .int x9)] → W p l e (rmL 3) s m args below meth c H locs 0 0 (MQ below (XPost D dA o q A (some (.int res)) Sr) args s 0 0 A) (F0 m 48 ls [])) : ∀ (S : sX) (x1 : Int32) (x5 : Int32) (x6 : Int32) (x8 : Int32) (x9 : Int32) (t0 : Int32) (t1 : Int32) (H : Heap) (locs : List Loc) (ls : Array Slot), fX0_samples_100 N k48 S x1 x5 x6 x8 x9 t0 t1 = some (res, Sr) → XW D dA o q S A s H locs → lv_has ls 10 [(0, .ref o), (1, .int x1), (5, .int x5), (6, .int x6), (8, .int x8), (9, .int x9)] → W p l e (rmL 3) s m args below meth c H locs 0 0 (MQ below (XPost D dA o q A (some (.int res)) Sr) args s 0 0 A) (F0 m 100 ls [.int t0, .int t1]) := by
  have hx := X.1
  have hb := X.2.1
  intro S x1 x5 x6 x8 x9 t0 t1 H locs ls hf hM hl
  unfold fX0_samples_100 at hf
  refine lv_ior hx hb dX0_samples_100 ?_
  refine lv_topi (fun x7_7 ex => ?_)
  have hf := ec_lt_i ex hf
  refine lv_istore (lv' := [(7, .int x7_7), (0, .ref o), (1, .int x1), (5, .int x5), (6, .int x6), (8, .int x8), (9, .int x9)]) hx hb dX0_samples_101 hl (by decide) rfl (fun ls hl => ?_)
  refine lv_aload_n hx hb dX0_samples_103 rfl (lv_at hl 1 rfl) ?_
  refine x_get (v := .ref (q 20)) X hM 20 (by decide) q788 rfl rfl dX0_samples_104 ?_
  refine lv_iload hx hb dX0_samples_107 (lv_at hl 6 rfl) ?_
  obtain ⟨v_8, h, hf⟩ := ec_bi hf
  refine x_iald X hM wxa20 h dX0_samples_109 ?_
  refine lv_iload hx hb dX0_samples_110 (lv_at hl 5 rfl) ?_
  refine lv_bipush (v := -4) hx hb dX0_samples_112 (by decide) ?_
  refine lv_icmp_ne (tgt := 121) hx hb dX0_samples_114 rfl (fun cnd => ?_) (fun cnd => ?_)
  · have hf := ec_t cnd hf
    refine lv_aload_n hx hb dX0_samples_121 rfl (lv_at hl 1 rfl) ?_
    refine x_get (v := .ref (q 20)) X hM 20 (by decide) q788 rfl rfl dX0_samples_122 ?_
    refine lv_iload hx hb dX0_samples_125 (lv_at hl 5 rfl) ?_
    obtain ⟨v_9, h, hf⟩ := ec_bi hf
    refine x_iald X hM wxa20 h dX0_samples_127 ?_
    exact bX0_samples_128 X hr hlk Hk48 S x1 x5 x6 x7_7 x8 x9 v_9 v_8 _ _ _ hf hM (lv_sub hl [1, 2, 3, 4, 0, 5, 6] rfl)
  · have hf := ec_f (not_not_intro cnd) hf
    refine lv_iconst (v := 0) hx hb dX0_samples_117 (by decide) ?_
    refine lv_goto (tgt := 128) hx hb dX0_samples_118 rfl ?_
    exact bX0_samples_128 X hr hlk Hk48 S x1 x5 x6 x7_7 x8 x9 (0 : Int32) v_8 _ _ _ hf hM (lv_sub hl [1, 2, 3, 4, 0, 5, 6] rfl)
noncomputable def fX0_samples_77 (N : Nat) (k48 : sX → Int32 → Int32 → Int32 → Int32 → Int32 → Int32 → Option (Int32 × sX)) (S : sX) (x1 : Int32) (x5 : Int32) (x7 : Int32) (x8 : Int32) (x9 : Int32) (t0 : Int32) (t1 : Int32) : Option (Int32 × sX) :=
  ec_lt (t1 ||| t0) fun x6_5 =>
  (fX0_made S x9 x1).bind fun v_6 =>
  if v_6 ≤ 0 then (
    fX0_samples_100 N k48 S x1 x5 x6_5 x8 x9 (0 : Int32) x7)
  else (
    fX0_samples_100 N k48 S x1 x5 x6_5 x8 x9 ((1 : Int32) <<< (x9 &&& 31)) x7)
theorem bX0_samples_77 {N : Nat} (X : CallFix p m c cX0_samples 10 s args lw_all RX0) (hr : meth.sig.returnType = (some .int)) (hlk : meth.locks = false) {res : Int32} {Sr : sX} {k48 : sX → Int32 → Int32 → Int32 → Int32 → Int32 → Int32 → Option (Int32 × sX)} (Hk48 : ∀ (S : sX) (x1 : Int32) (x5 : Int32) (x6 : Int32) (x7 : Int32) (x8 : Int32) (x9 : Int32) (H : Heap) (locs : List Loc) (ls : Array Slot), k48 S x1 x5 x6 x7 x8 x9 = some (res, Sr) → XW D dA o q S A s H locs → lv_has ls 10 [(0, .ref o), (1, .int x1), (5, .int x5), (6, .int x6), (7, .int x7), (8, .int x8), (9, .int x9)] → W p l e (rmL 3) s m args below meth c H locs 0 0 (MQ below (XPost D dA o q A (some (.int res)) Sr) args s 0 0 A) (F0 m 48 ls [])) : ∀ (S : sX) (x1 : Int32) (x5 : Int32) (x7 : Int32) (x8 : Int32) (x9 : Int32) (t0 : Int32) (t1 : Int32) (H : Heap) (locs : List Loc) (ls : Array Slot), fX0_samples_77 N k48 S x1 x5 x7 x8 x9 t0 t1 = some (res, Sr) → XW D dA o q S A s H locs → lv_has ls 10 [(0, .ref o), (1, .int x1), (5, .int x5), (7, .int x7), (8, .int x8), (9, .int x9)] → W p l e (rmL 3) s m args below meth c H locs 0 0 (MQ below (XPost D dA o q A (some (.int res)) Sr) args s 0 0 A) (F0 m 77 ls [.int t0, .int t1]) := by
  have hx := X.1
  have hb := X.2.1
  intro S x1 x5 x7 x8 x9 t0 t1 H locs ls hf hM hl
  unfold fX0_samples_77 at hf
  refine lv_ior hx hb dX0_samples_77 ?_
  refine lv_topi (fun x6_5 ex => ?_)
  have hf := ec_lt_i ex hf
  refine lv_istore (lv' := [(6, .int x6_5), (0, .ref o), (1, .int x1), (5, .int x5), (7, .int x7), (8, .int x8), (9, .int x9)]) hx hb dX0_samples_78 hl (by decide) rfl (fun ls hl => ?_)
  refine lv_iload hx hb dX0_samples_80 (lv_at hl 4 rfl) ?_
  refine lv_aload_n hx hb dX0_samples_82 rfl (lv_at hl 1 rfl) ?_
  refine lv_iload hx hb dX0_samples_83 (lv_at hl 6 rfl) ?_
  refine lv_iload_n hx hb dX0_samples_85 rfl (lv_at hl 2 rfl) ?_
  obtain ⟨v_6, h, hf⟩ := ec_bi hf
  refine x_cR (v := .int v_6) (As := [.int x9, .int x1]) (rest := [.int x7]) X hM (metX0_made l D dA o q S x9 x1 _ h) (cwV 2 X.2.2.2.2 gX0_163 rfl rfl rfl hX0_made (rm_le (Nat.le_of_ble_eq_true rfl) (Nat.le_of_ble_eq_true rfl))) rfl hl.1 rfl (Nat.le_of_ble_eq_true rfl) ⟨Nat.zero_le _, Nat.zero_le _⟩ dX0_samples_86 ?_
  refine lv_if_le (tgt := 99) hx hb dX0_samples_89 rfl (fun cnd => ?_) (fun cnd => ?_)
  · have hf := ec_t cnd hf
    refine lv_iconst (v := 0) hx hb dX0_samples_99 (by decide) ?_
    exact bX0_samples_100 X hr hlk Hk48 S x1 x5 x6_5 x8 x9 (0 : Int32) x7 _ _ _ hf hM (lv_sub hl [1, 2, 3, 0, 5, 6] rfl)
  · have hf := ec_f cnd hf
    refine lv_iconst (v := 1) hx hb dX0_samples_92 (by decide) ?_
    refine lv_iload hx hb dX0_samples_93 (lv_at hl 6 rfl) ?_
    refine lv_ishl hx hb dX0_samples_95 ?_
    refine lv_goto (tgt := 100) hx hb dX0_samples_96 rfl ?_
    exact bX0_samples_100 X hr hlk Hk48 S x1 x5 x6_5 x8 x9 ((1 : Int32) <<< (x9 &&& 31)) x7 _ _ _ hf hM (lv_sub hl [1, 2, 3, 0, 5, 6] rfl)
noncomputable def fX0_samples_48 (N : Nat) (kx146 : sX → Int32 → Int32 → Int32 → Int32 → Option (Int32 × sX)) : Nat → sX → Int32 → Int32 → Int32 → Int32 → Int32 → Int32 → Option (Int32 × sX)
  | 0, _, _, _, _, _, _, _ => none
  | n + 1, S, x1, x5, x6, x7, x8, x9 =>
    if (S.1 4) ≤ x9 then (
      kx146 S x5 x6 x7 x8)
    else (
      (ec_ag (S.2.1 20) 16 x9).bind fun v_4 =>
      if v_4 ≤ 0 then (
        fX0_samples_77 N (fX0_samples_48 N kx146 n) S x1 x5 x7 x8 x9 (0 : Int32) x6)
      else (
        fX0_samples_77 N (fX0_samples_48 N kx146 n) S x1 x5 x7 x8 x9 ((1 : Int32) <<< (x9 &&& 31)) x6))
theorem bX0_samples_48 {N : Nat} (X : CallFix p m c cX0_samples 10 s args lw_all RX0) (hr : meth.sig.returnType = (some .int)) (hlk : meth.locks = false) {res : Int32} {Sr : sX} {kx146 : sX → Int32 → Int32 → Int32 → Int32 → Option (Int32 × sX)} (Hkx146 : ∀ (S : sX) (x5 : Int32) (x6 : Int32) (x7 : Int32) (x8 : Int32) (H : Heap) (locs : List Loc) (ls : Array Slot), kx146 S x5 x6 x7 x8 = some (res, Sr) → XW D dA o q S A s H locs → lv_has ls 10 [(0, .ref o), (5, .int x5), (6, .int x6), (7, .int x7), (8, .int x8)] → W p l e (rmL 3) s m args below meth c H locs 0 0 (MQ below (XPost D dA o q A (some (.int res)) Sr) args s 0 0 A) (F0 m 146 ls [])) : ∀ (n : Nat) (S : sX) (x1 : Int32) (x5 : Int32) (x6 : Int32) (x7 : Int32) (x8 : Int32) (x9 : Int32) (H : Heap) (locs : List Loc) (ls : Array Slot), fX0_samples_48 N kx146 n S x1 x5 x6 x7 x8 x9 = some (res, Sr) → XW D dA o q S A s H locs → lv_has ls 10 [(0, .ref o), (1, .int x1), (5, .int x5), (6, .int x6), (7, .int x7), (8, .int x8), (9, .int x9)] → W p l e (rmL 3) s m args below meth c H locs 0 0 (MQ below (XPost D dA o q A (some (.int res)) Sr) args s 0 0 A) (F0 m 48 ls []) := by
  have hx := X.1
  have hb := X.2.1
  intro n
  induction n with
  | zero =>
    intro S x1 x5 x6 x7 x8 x9 H locs ls hf hM hl
    rw [fX0_samples_48] at hf
    cases hf
  | succ n ih =>
    intro S x1 x5 x6 x7 x8 x9 H locs ls hf hM hl
    rw [fX0_samples_48] at hf
    refine lv_iload hx hb dX0_samples_48 (lv_at hl 6 rfl) ?_
    refine lv_aload_n hx hb dX0_samples_50 rfl (lv_at hl 0 rfl) ?_
    refine x_get (v := .int (S.1 4)) X hM 4 (by decide) q772 rfl rfl dX0_samples_51 ?_
    refine lv_icmp_ge (tgt := 146) hx hb dX0_samples_54 rfl (fun cnd => ?_) (fun cnd => ?_)
    · have hf := ec_t cnd hf
      exact Hkx146 S x5 x6 x7 x8 _ _ _ hf hM (lv_sub hl [0, 2, 3, 4, 5] rfl)
    · have hf := ec_f cnd hf
      refine lv_iload hx hb dX0_samples_57 (lv_at hl 3 rfl) ?_
      refine lv_aload_n hx hb dX0_samples_59 rfl (lv_at hl 0 rfl) ?_
      refine x_get (v := .ref (q 20)) X hM 20 (by decide) q788 rfl rfl dX0_samples_60 ?_
      refine lv_iload hx hb dX0_samples_63 (lv_at hl 6 rfl) ?_
      obtain ⟨v_4, h, hf⟩ := ec_bi hf
      refine x_iald X hM wxa20 h dX0_samples_65 ?_
      refine lv_if_le (tgt := 76) hx hb dX0_samples_66 rfl (fun cnd => ?_) (fun cnd => ?_)
      · have hf := ec_t cnd hf
        refine lv_iconst (v := 0) hx hb dX0_samples_76 (by decide) ?_
        exact bX0_samples_77 X hr hlk ih S x1 x5 x7 x8 x9 (0 : Int32) x6 _ _ _ hf hM (lv_sub hl [0, 1, 2, 4, 5, 6] rfl)
      · have hf := ec_f cnd hf
        refine lv_iconst (v := 1) hx hb dX0_samples_69 (by decide) ?_
        refine lv_iload hx hb dX0_samples_70 (lv_at hl 6 rfl) ?_
        refine lv_ishl hx hb dX0_samples_72 ?_
        refine lv_goto (tgt := 77) hx hb dX0_samples_73 rfl ?_
        exact bX0_samples_77 X hr hlk ih S x1 x5 x7 x8 x9 ((1 : Int32) <<< (x9 &&& 31)) x6 _ _ _ hf hM (lv_sub hl [0, 1, 2, 4, 5, 6] rfl)
noncomputable def fX0_samples (N : Nat) (S : sX) (x1 : Int32) (x2 : Int32) (x3 : Int32) (x4 : Int32) (x5 : Int32) : Option (Int32 × sX) :=
  (fX0_isSample x1 x2 x3 x4).bind fun v_1 =>
  if v_1 = 0 then (
    fX0_samples_24 N S)
  else (
    (fX0_isIn (x5.toInt64) (0 : Int64) (5 : Int64)).bind fun v_2 =>
    if ¬ v_2 = 0 then (
      (fX0_laySamples N S x1 x2 x3 x4).bind fun S_3 =>
      fX0_samples_48 N (fun S_11 x5_12 x6_13 x7_14 x8_15 =>
        if x5_12 = (0 : Int32) then (
          some (((S_11.1 21) + (S_11.1 22)), S_11))
        else if x5_12 = (1 : Int32) then (
          some ((S_11.1 22), S_11))
        else if x5_12 = (2 : Int32) then (
          some (x6_13, S_11))
        else if x5_12 = (3 : Int32) then (
          some ((x7_14 &&& (x6_13 ^^^ (-1 : Int32))), S_11))
        else if x5_12 = (4 : Int32) then (
          some ((x6_13 &&& (x7_14 ^^^ (-1 : Int32))), S_11))
        else (
          some (x8_15, S_11))) N S_3 x1 x5 (0 : Int32) (0 : Int32) (-4 : Int32) (0 : Int32))
    else (
      fX0_samples_24 N S))
theorem metX0_samples (l : Launch) (D : va_G) (dA : Nat → ClassId) (o : Nat) (q : Nat → Nat) (N : Nat) (S : sX) (x1 : Int32) (x2 : Int32) (x3 : Int32) (x4 : Int32) (x5 : Int32) (res : Int32) (Sr : sX) (hf : fX0_samples N S x1 x2 x3 x4 x5 = some (res, Sr)) : Met l yX0_samples (ws_ yX0_samples cX0_samples 10 (some .int)) (rmL 3) (XPre D dA o q S [.int x1, .int x2, .int x3, .int x4, .int x5]) (XPost D dA o q (XA o q S.2.2.2) (some (.int res)) Sr) 0 0 (XA o q S.2.2.2) := by
  refine x_ofW rfl (Nat.le_of_ble_eq_true rfl) (fun A p e s m args below meth c X hr hlk hM ls hl => ?_)
  have hl : lv_has ls 10 [(0, .ref o), (1, .int x1), (2, .int x2), (3, .int x3), (4, .int x4), (5, .int x5)] := hl
  have hx := X.1
  have hb := X.2.1
  unfold fX0_samples at hf
  refine lv_iload_n hx hb dX0_samples_0 rfl (lv_at hl 1 rfl) ?_
  refine lv_iload_n hx hb dX0_samples_1 rfl (lv_at hl 2 rfl) ?_
  refine lv_iload_n hx hb dX0_samples_2 rfl (lv_at hl 3 rfl) ?_
  refine lv_iload hx hb dX0_samples_3 (lv_at hl 4 rfl) ?_
  obtain ⟨v_1, h, hf⟩ := ec_bi hf
  refine e_cS (v := .int v_1) (As := [.int x1, .int x2, .int x3, .int x4]) (rest := []) X (metX0_isSample l x1 x2 x3 x4 _ h) (va_cwS 4 X.2.2.2.2 gX0_274 rfl rfl rfl hX0_isSample (rm_le (Nat.le_of_ble_eq_true rfl) (Nat.le_of_ble_eq_true rfl))) rfl hl.1 rfl (Nat.le_of_ble_eq_true rfl) ⟨Nat.zero_le _, Nat.zero_le _⟩ dX0_samples_5 ?_
  refine lv_if_eq (tgt := 24) hx hb dX0_samples_8 rfl (fun cnd => ?_) (fun cnd => ?_)
  · have hf := ec_t cnd hf
    exact bX0_samples_24 X hr hlk  S _ _ _ hf hM (lv_sub hl [0] rfl)
  · have hf := ec_f cnd hf
    refine lv_iload hx hb dX0_samples_11 (lv_at hl 5 rfl) ?_
    refine lv_i2l hx hb dX0_samples_13 rfl ?_
    refine lv_lconst (v := 0) hx hb dX0_samples_14 (by decide) ?_
    refine lv_ldc2 (own := RX0) (v := 5) hx hb X.2.2.2.1 (X.2.2.2.2 _ q672) dX0_samples_15 ?_
    obtain ⟨v_2, h, hf⟩ := ec_bi hf
    refine e_cS (v := .int v_2) (As := [.long (x5.toInt64), .long (0 : Int64), .long (5 : Int64)]) (rest := []) X (metX0_isIn l (x5.toInt64) (0 : Int64) (5 : Int64) _ h) (va_cwS 3 X.2.2.2.2 gX0_21 rfl rfl rfl hX0_isIn (rm_le (Nat.le_of_ble_eq_true rfl) (Nat.le_of_ble_eq_true rfl))) rfl hl.1 rfl (Nat.le_of_ble_eq_true rfl) ⟨Nat.zero_le _, Nat.zero_le _⟩ dX0_samples_18 ?_
    refine lv_if_ne (tgt := 26) hx hb dX0_samples_21 rfl (fun cnd => ?_) (fun cnd => ?_)
    · have hf := ec_t cnd hf
      refine lv_aload_n hx hb dX0_samples_26 rfl (lv_at hl 0 rfl) ?_
      refine lv_iload_n hx hb dX0_samples_27 rfl (lv_at hl 1 rfl) ?_
      refine lv_iload_n hx hb dX0_samples_28 rfl (lv_at hl 2 rfl) ?_
      refine lv_iload_n hx hb dX0_samples_29 rfl (lv_at hl 3 rfl) ?_
      refine lv_iload hx hb dX0_samples_30 (lv_at hl 4 rfl) ?_
      obtain ⟨S_3, h, hf⟩ := ec_bi hf
      refine x_cWv (As := [.int x1, .int x2, .int x3, .int x4]) (rest := []) X hM (metX0_laySamples l D dA o q N S x1 x2 x3 x4 _ h) (cwV 4 X.2.2.2.2 gX0_278 rfl rfl rfl hX0_laySamples (rm_le (Nat.le_of_ble_eq_true rfl) (Nat.le_of_ble_eq_true rfl))) rfl hl.1 rfl (Nat.le_of_ble_eq_true rfl) ⟨Nat.zero_le _, Nat.zero_le _⟩ dX0_samples_32 (fun H locs hM => ?_)
      refine lv_iconst (v := 0) hx hb dX0_samples_35 (by decide) ?_
      refine lv_istore (lv' := [(6, .int (0 : Int32)), (0, .ref o), (1, .int x1), (2, .int x2), (3, .int x3), (4, .int x4), (5, .int x5)]) hx hb dX0_samples_36 hl (by decide) rfl (fun ls hl => ?_)
      refine lv_iconst (v := 0) hx hb dX0_samples_38 (by decide) ?_
      refine lv_istore (lv' := [(7, .int (0 : Int32)), (6, .int (0 : Int32)), (0, .ref o), (1, .int x1), (2, .int x2), (3, .int x3), (4, .int x4), (5, .int x5)]) hx hb dX0_samples_39 hl (by decide) rfl (fun ls hl => ?_)
      refine lv_bipush (v := -4) hx hb dX0_samples_41 (by decide) ?_
      refine lv_istore (lv' := [(8, .int (-4 : Int32)), (7, .int (0 : Int32)), (6, .int (0 : Int32)), (0, .ref o), (1, .int x1), (2, .int x2), (3, .int x3), (4, .int x4), (5, .int x5)]) hx hb dX0_samples_43 hl (by decide) rfl (fun ls hl => ?_)
      refine lv_iconst (v := 0) hx hb dX0_samples_45 (by decide) ?_
      refine lv_istore (lv' := [(9, .int (0 : Int32)), (8, .int (-4 : Int32)), (7, .int (0 : Int32)), (6, .int (0 : Int32)), (0, .ref o), (1, .int x1), (2, .int x2), (3, .int x3), (4, .int x4), (5, .int x5)]) hx hb dX0_samples_46 hl (by decide) rfl (fun ls hl => ?_)
      exact bX0_samples_48 X hr hlk (fun S_11 x5_12 x6_13 x7_14 x8_15 H locs ls hf hM hl => by
        refine lv_iload hx hb dX0_samples_146 (lv_at hl 1 rfl) ?_
        by_cases c0 : x5_12 = (0 : Int32)
        · have hf := ec_t c0 hf
          refine lv_tableIn (off := 36) (tgt := 184) hx hb dX0_samples_148 (by rw [c0]; decide) (by rw [c0]; decide) (by rw [c0]; rfl) rfl ?_
          refine lv_aload_n hx hb dX0_samples_184 rfl (lv_at hl 0 rfl) ?_
          refine x_get (v := .int (S_11.1 21)) X hM 21 (by decide) q789 rfl rfl dX0_samples_185 ?_
          refine lv_aload_n hx hb dX0_samples_188 rfl (lv_at hl 0 rfl) ?_
          refine x_get (v := .int (S_11.1 22)) X hM 22 (by decide) q790 rfl rfl dX0_samples_189 ?_
          refine lv_iadd hx hb dX0_samples_192 ?_
          obtain ⟨rfl, rfl⟩ := Prod.mk.inj (Option.some.inj hf)
          exact x_iret X hr hlk hM dX0_samples_193
        have hf := ec_f c0 hf
        by_cases c1 : x5_12 = (1 : Int32)
        · have hf := ec_t c1 hf
          refine lv_tableIn (off := 46) (tgt := 194) hx hb dX0_samples_148 (by rw [c1]; decide) (by rw [c1]; decide) (by rw [c1]; rfl) rfl ?_
          refine lv_aload_n hx hb dX0_samples_194 rfl (lv_at hl 0 rfl) ?_
          refine x_get (v := .int (S_11.1 22)) X hM 22 (by decide) q790 rfl rfl dX0_samples_195 ?_
          obtain ⟨rfl, rfl⟩ := Prod.mk.inj (Option.some.inj hf)
          exact x_iret X hr hlk hM dX0_samples_198
        have hf := ec_f c1 hf
        by_cases c2 : x5_12 = (2 : Int32)
        · have hf := ec_t c2 hf
          refine lv_tableIn (off := 51) (tgt := 199) hx hb dX0_samples_148 (by rw [c2]; decide) (by rw [c2]; decide) (by rw [c2]; rfl) rfl ?_
          refine lv_iload hx hb dX0_samples_199 (lv_at hl 2 rfl) ?_
          obtain ⟨rfl, rfl⟩ := Prod.mk.inj (Option.some.inj hf)
          exact x_iret X hr hlk hM dX0_samples_201
        have hf := ec_f c2 hf
        by_cases c3 : x5_12 = (3 : Int32)
        · have hf := ec_t c3 hf
          refine lv_tableIn (off := 54) (tgt := 202) hx hb dX0_samples_148 (by rw [c3]; decide) (by rw [c3]; decide) (by rw [c3]; rfl) rfl ?_
          refine lv_iload hx hb dX0_samples_202 (lv_at hl 3 rfl) ?_
          refine lv_iload hx hb dX0_samples_204 (lv_at hl 2 rfl) ?_
          refine lv_iconst (v := -1) hx hb dX0_samples_206 (by decide) ?_
          refine lv_ixor hx hb dX0_samples_207 ?_
          refine lv_iand hx hb dX0_samples_208 ?_
          obtain ⟨rfl, rfl⟩ := Prod.mk.inj (Option.some.inj hf)
          exact x_iret X hr hlk hM dX0_samples_209
        have hf := ec_f c3 hf
        by_cases c4 : x5_12 = (4 : Int32)
        · have hf := ec_t c4 hf
          refine lv_tableIn (off := 62) (tgt := 210) hx hb dX0_samples_148 (by rw [c4]; decide) (by rw [c4]; decide) (by rw [c4]; rfl) rfl ?_
          refine lv_iload hx hb dX0_samples_210 (lv_at hl 2 rfl) ?_
          refine lv_iload hx hb dX0_samples_212 (lv_at hl 3 rfl) ?_
          refine lv_iconst (v := -1) hx hb dX0_samples_214 (by decide) ?_
          refine lv_ixor hx hb dX0_samples_215 ?_
          refine lv_iand hx hb dX0_samples_216 ?_
          obtain ⟨rfl, rfl⟩ := Prod.mk.inj (Option.some.inj hf)
          exact x_iret X hr hlk hM dX0_samples_217
        have hf := ec_f c4 hf
        refine lv_tableOut (tgt := 218) hx hb dX0_samples_148 (by
          have a0 := ec_ne (z := 0) (by decide) c0
          have a1 := ec_ne (z := 1) (by decide) c1
          have a2 := ec_ne (z := 2) (by decide) c2
          have a3 := ec_ne (z := 3) (by decide) c3
          have a4 := ec_ne (z := 4) (by decide) c4
          omega) rfl ?_
        refine lv_iload hx hb dX0_samples_218 (lv_at hl 4 rfl) ?_
        obtain ⟨rfl, rfl⟩ := Prod.mk.inj (Option.some.inj hf)
        exact x_iret X hr hlk hM dX0_samples_220) N S_3 x1 x5 (0 : Int32) (0 : Int32) (-4 : Int32) (0 : Int32) _ _ _ hf hM (lv_sub hl [4, 5, 9, 3, 2, 1, 0] rfl)
    · have hf := ec_f (not_not_intro cnd) hf
      exact bX0_samples_24 X hr hlk  S _ _ _ hf hM (lv_sub hl [0] rfl)
theorem hX0_samples : yX0_samples.cls = RX0 ∧ yX0_samples.cls ≠ "java/lang/invoke/MethodHandle" ∧ yX0_samples.cls ≠ "java/lang/invoke/VarHandle" ∧ (parseMethodDescriptor yX0_samples.desc).map (fun d => d.parameters.length) = some 5 := by decide +kernel

theorem gX0_288 : GoodIn lw_all (wsV RX0 288 RX0 yX0_apart (ws_ yX0_apart cX0_apart 5 (some .long))) := lw_V q679 q681 qs23 q60 q682
noncomputable def fX0_far_22 (N : Nat) (S : sX) : Option (Int64 × sX) :=
  some ((-1 : Int64), S)
theorem bX0_far_22 {N : Nat} (X : CallFix p m c cX0_far 6 s args lw_all RX0) (hr : meth.sig.returnType = (some .long)) (hlk : meth.locks = false) {res : Int64} {Sr : sX} : ∀ (S : sX) (H : Heap) (locs : List Loc) (ls : Array Slot), fX0_far_22 N S = some (res, Sr) → XW D dA o q S A s H locs → lv_has ls 6 [(0, .ref o)] → W p l e (rmL 3) s m args below meth c H locs 0 0 (MQ below (XPost D dA o q A (some (.long res)) Sr) args s 0 0 A) (F0 m 22 ls []) := by
  have hx := X.1
  have hb := X.2.1
  intro S H locs ls hf hM hl
  unfold fX0_far_22 at hf
  refine lv_ldc2 (own := RX0) (v := -1) hx hb X.2.2.2.1 (X.2.2.2.2 _ q677) dX0_far_22 ?_
  obtain ⟨rfl, rfl⟩ := Prod.mk.inj (Option.some.inj hf)
  exact x_lret X hr hlk hM dX0_far_25
noncomputable def fX0_far (N : Nat) (S : sX) (x1 : Int32) (x2 : Int32) (x3 : Int32) (x4 : Int32) (x5 : Int32) : Option (Int64 × sX) :=
  (fX0_isSample x1 x2 x3 x4).bind fun v_1 =>
  if v_1 = 0 then (
    fX0_far_22 N S)
  else (
    (fX0_isIn (x5.toInt64) (0 : Int64) (1 : Int64)).bind fun v_2 =>
    if ¬ v_2 = 0 then (
      (fX0_laySamples N S x1 x2 x3 x4).bind fun S_3 =>
      if ¬ (S_3.1 21) = 0 then (
        (fX0_apart N S_3 x1).bind fun v_4 =>
        (ec_ag (S_3.2.1 10) 8 x1).bind fun v_5 =>
        (fX0_lowest N v_4 (((S_3.1 21).toInt64) * (v_5.toInt64)) x5).bind fun v_6 =>
        some (v_6, S_3))
      else (
        some ((-4 : Int64), S_3)))
    else (
      fX0_far_22 N S))
theorem metX0_far (l : Launch) (D : va_G) (dA : Nat → ClassId) (o : Nat) (q : Nat → Nat) (N : Nat) (S : sX) (x1 : Int32) (x2 : Int32) (x3 : Int32) (x4 : Int32) (x5 : Int32) (res : Int64) (Sr : sX) (hf : fX0_far N S x1 x2 x3 x4 x5 = some (res, Sr)) : Met l yX0_far (ws_ yX0_far cX0_far 6 (some .long)) (rmL 3) (XPre D dA o q S [.int x1, .int x2, .int x3, .int x4, .int x5]) (XPost D dA o q (XA o q S.2.2.2) (some (.long res)) Sr) 0 0 (XA o q S.2.2.2) := by
  refine x_ofW rfl (Nat.le_of_ble_eq_true rfl) (fun A p e s m args below meth c X hr hlk hM ls hl => ?_)
  have hl : lv_has ls 6 [(0, .ref o), (1, .int x1), (2, .int x2), (3, .int x3), (4, .int x4), (5, .int x5)] := hl
  have hx := X.1
  have hb := X.2.1
  unfold fX0_far at hf
  refine lv_iload_n hx hb dX0_far_0 rfl (lv_at hl 1 rfl) ?_
  refine lv_iload_n hx hb dX0_far_1 rfl (lv_at hl 2 rfl) ?_
  refine lv_iload_n hx hb dX0_far_2 rfl (lv_at hl 3 rfl) ?_
  refine lv_iload hx hb dX0_far_3 (lv_at hl 4 rfl) ?_
  obtain ⟨v_1, h, hf⟩ := ec_bi hf
  refine e_cS (v := .int v_1) (As := [.int x1, .int x2, .int x3, .int x4]) (rest := []) X (metX0_isSample l x1 x2 x3 x4 _ h) (va_cwS 4 X.2.2.2.2 gX0_274 rfl rfl rfl hX0_isSample (rm_le (Nat.le_of_ble_eq_true rfl) (Nat.le_of_ble_eq_true rfl))) rfl hl.1 rfl (Nat.le_of_ble_eq_true rfl) ⟨Nat.zero_le _, Nat.zero_le _⟩ dX0_far_5 ?_
  refine lv_if_eq (tgt := 22) hx hb dX0_far_8 rfl (fun cnd => ?_) (fun cnd => ?_)
  · have hf := ec_t cnd hf
    exact bX0_far_22 X hr hlk  S _ _ _ hf hM (lv_sub hl [0] rfl)
  · have hf := ec_f cnd hf
    refine lv_iload hx hb dX0_far_11 (lv_at hl 5 rfl) ?_
    refine lv_i2l hx hb dX0_far_13 rfl ?_
    refine lv_lconst (v := 0) hx hb dX0_far_14 (by decide) ?_
    refine lv_lconst (v := 1) hx hb dX0_far_15 (by decide) ?_
    obtain ⟨v_2, h, hf⟩ := ec_bi hf
    refine e_cS (v := .int v_2) (As := [.long (x5.toInt64), .long (0 : Int64), .long (1 : Int64)]) (rest := []) X (metX0_isIn l (x5.toInt64) (0 : Int64) (1 : Int64) _ h) (va_cwS 3 X.2.2.2.2 gX0_21 rfl rfl rfl hX0_isIn (rm_le (Nat.le_of_ble_eq_true rfl) (Nat.le_of_ble_eq_true rfl))) rfl hl.1 rfl (Nat.le_of_ble_eq_true rfl) ⟨Nat.zero_le _, Nat.zero_le _⟩ dX0_far_16 ?_
    refine lv_if_ne (tgt := 26) hx hb dX0_far_19 rfl (fun cnd => ?_) (fun cnd => ?_)
    · have hf := ec_t cnd hf
      refine lv_aload_n hx hb dX0_far_26 rfl (lv_at hl 0 rfl) ?_
      refine lv_iload_n hx hb dX0_far_27 rfl (lv_at hl 1 rfl) ?_
      refine lv_iload_n hx hb dX0_far_28 rfl (lv_at hl 2 rfl) ?_
      refine lv_iload_n hx hb dX0_far_29 rfl (lv_at hl 3 rfl) ?_
      refine lv_iload hx hb dX0_far_30 (lv_at hl 4 rfl) ?_
      obtain ⟨S_3, h, hf⟩ := ec_bi hf
      refine x_cWv (As := [.int x1, .int x2, .int x3, .int x4]) (rest := []) X hM (metX0_laySamples l D dA o q N S x1 x2 x3 x4 _ h) (cwV 4 X.2.2.2.2 gX0_278 rfl rfl rfl hX0_laySamples (rm_le (Nat.le_of_ble_eq_true rfl) (Nat.le_of_ble_eq_true rfl))) rfl hl.1 rfl (Nat.le_of_ble_eq_true rfl) ⟨Nat.zero_le _, Nat.zero_le _⟩ dX0_far_32 (fun H locs hM => ?_)
      refine lv_aload_n hx hb dX0_far_35 rfl (lv_at hl 0 rfl) ?_
      refine x_get (v := .int (S_3.1 21)) X hM 21 (by decide) q789 rfl rfl dX0_far_36 ?_
      refine lv_if_ne (tgt := 48) hx hb dX0_far_39 rfl (fun cnd => ?_) (fun cnd => ?_)
      · have hf := ec_t cnd hf
        refine lv_aload_n hx hb dX0_far_48 rfl (lv_at hl 0 rfl) ?_
        refine lv_iload_n hx hb dX0_far_49 rfl (lv_at hl 1 rfl) ?_
        obtain ⟨v_4, h, hf⟩ := ec_bi hf
        refine x_cR (v := .long v_4) (As := [.int x1]) (rest := []) X hM (metX0_apart l D dA o q N S_3 x1 _ h) (cwV 1 X.2.2.2.2 gX0_288 rfl rfl rfl hX0_apart (rm_le (Nat.le_of_ble_eq_true rfl) (Nat.le_of_ble_eq_true rfl))) rfl hl.1 rfl (Nat.le_of_ble_eq_true rfl) ⟨Nat.zero_le _, Nat.zero_le _⟩ dX0_far_50 ?_
        refine lv_aload_n hx hb dX0_far_53 rfl (lv_at hl 0 rfl) ?_
        refine x_get (v := .int (S_3.1 21)) X hM 21 (by decide) q789 rfl rfl dX0_far_54 ?_
        refine lv_i2l hx hb dX0_far_57 rfl ?_
        refine lv_aload_n hx hb dX0_far_58 rfl (lv_at hl 0 rfl) ?_
        refine x_get (v := .ref (q 10)) X hM 10 (by decide) q778 rfl rfl dX0_far_59 ?_
        refine lv_iload_n hx hb dX0_far_62 rfl (lv_at hl 1 rfl) ?_
        obtain ⟨v_5, h, hf⟩ := ec_bi hf
        refine x_iald X hM wxa10 h dX0_far_63 ?_
        refine lv_i2l hx hb dX0_far_64 rfl ?_
        refine lv_lmul hx hb dX0_far_65 ?_
        refine lv_iload hx hb dX0_far_66 (lv_at hl 5 rfl) ?_
        obtain ⟨v_6, h, hf⟩ := ec_bi hf
        refine e_cS (v := .long v_6) (As := [.long v_4, .long (((S_3.1 21).toInt64) * (v_5.toInt64)), .int x5]) (rest := []) X (metX0_lowest l N v_4 (((S_3.1 21).toInt64) * (v_5.toInt64)) x5 _ h) (va_cwS 3 X.2.2.2.2 gX0_128 rfl rfl rfl hX0_lowest (rm_le (Nat.le_of_ble_eq_true rfl) (Nat.le_of_ble_eq_true rfl))) rfl hl.1 rfl (Nat.le_of_ble_eq_true rfl) ⟨Nat.zero_le _, Nat.zero_le _⟩ dX0_far_68 ?_
        obtain ⟨rfl, rfl⟩ := Prod.mk.inj (Option.some.inj hf)
        exact x_lret X hr hlk hM dX0_far_71
      · have hf := ec_f (not_not_intro cnd) hf
        refine lv_ldc2 (own := RX0) (v := -4) hx hb X.2.2.2.1 (X.2.2.2.2 _ q678) dX0_far_42 ?_
        refine lv_goto (tgt := 71) hx hb dX0_far_45 rfl ?_
        obtain ⟨rfl, rfl⟩ := Prod.mk.inj (Option.some.inj hf)
        exact x_lret X hr hlk hM dX0_far_71
    · have hf := ec_f (not_not_intro cnd) hf
      exact bX0_far_22 X hr hlk  S _ _ _ hf hM (lv_sub hl [0] rfl)
theorem hX0_far : yX0_far.cls = RX0 ∧ yX0_far.cls ≠ "java/lang/invoke/MethodHandle" ∧ yX0_far.cls ≠ "java/lang/invoke/VarHandle" ∧ (parseMethodDescriptor yX0_far.desc).map (fun d => d.parameters.length) = some 5 := by decide +kernel

noncomputable def fX0_truest_35 (N : Nat) (S : sX) : Option (Int32 × sX) :=
  some ((-1 : Int32), S)
theorem bX0_truest_35 {N : Nat} (X : CallFix p m c cX0_truest 13 s args lw_all RX0) (hr : meth.sig.returnType = (some .int)) (hlk : meth.locks = false) {res : Int32} {Sr : sX} : ∀ (S : sX) (H : Heap) (locs : List Loc) (ls : Array Slot), fX0_truest_35 N S = some (res, Sr) → XW D dA o q S A s H locs → lv_has ls 13 [(0, .ref o)] → W p l e (rmL 3) s m args below meth c H locs 0 0 (MQ below (XPost D dA o q A (some (.int res)) Sr) args s 0 0 A) (F0 m 35 ls []) := by
  have hx := X.1
  have hb := X.2.1
  intro S H locs ls hf hM hl
  unfold fX0_truest_35 at hf
  refine lv_iconst (v := -1) hx hb dX0_truest_35 (by decide) ?_
  obtain ⟨rfl, rfl⟩ := Prod.mk.inj (Option.some.inj hf)
  exact x_iret X hr hlk hM dX0_truest_36
noncomputable def fX0_truest_119 (N : Nat) (k50 : sX → Int32 → Int32 → Int32 → Int32 → Int64 → Int64 → Int32 → Option (Int32 × sX)) (S : sX) (x1 : Int32) (x3 : Int32) (x4 : Int32) (x5 : Int32) (x6 : Int64) (x8 : Int64) (x10 : Int32) : Option (Int32 × sX) :=
  ec_lt (x10 + (1 : Int32)) fun x10_5 =>
  k50 S x1 x3 x4 x5 x6 x8 x10_5
theorem bX0_truest_119 {N : Nat} (X : CallFix p m c cX0_truest 13 s args lw_all RX0) (hr : meth.sig.returnType = (some .int)) (hlk : meth.locks = false) {res : Int32} {Sr : sX} {k50 : sX → Int32 → Int32 → Int32 → Int32 → Int64 → Int64 → Int32 → Option (Int32 × sX)} (Hk50 : ∀ (S : sX) (x1 : Int32) (x3 : Int32) (x4 : Int32) (x5 : Int32) (x6 : Int64) (x8 : Int64) (x10 : Int32) (H : Heap) (locs : List Loc) (ls : Array Slot), k50 S x1 x3 x4 x5 x6 x8 x10 = some (res, Sr) → XW D dA o q S A s H locs → lv_has ls 13 [(0, .ref o), (1, .int x1), (3, .int x3), (4, .int x4), (5, .int x5), (6, .long x6), (8, .long x8), (10, .int x10)] → W p l e (rmL 3) s m args below meth c H locs 0 0 (MQ below (XPost D dA o q A (some (.int res)) Sr) args s 0 0 A) (F0 m 50 ls [])) : ∀ (S : sX) (x1 : Int32) (x3 : Int32) (x4 : Int32) (x5 : Int32) (x6 : Int64) (x8 : Int64) (x10 : Int32) (H : Heap) (locs : List Loc) (ls : Array Slot), fX0_truest_119 N k50 S x1 x3 x4 x5 x6 x8 x10 = some (res, Sr) → XW D dA o q S A s H locs → lv_has ls 13 [(0, .ref o), (1, .int x1), (3, .int x3), (4, .int x4), (5, .int x5), (6, .long x6), (8, .long x8), (10, .int x10)] → W p l e (rmL 3) s m args below meth c H locs 0 0 (MQ below (XPost D dA o q A (some (.int res)) Sr) args s 0 0 A) (F0 m 119 ls []) := by
  have hx := X.1
  have hb := X.2.1
  intro S x1 x3 x4 x5 x6 x8 x10 H locs ls hf hM hl
  unfold fX0_truest_119 at hf
  refine e_inc (w := 1) (f := fun v => [(10, .int v), (0, .ref o), (1, .int x1), (3, .int x3), (4, .int x4), (5, .int x5), (6, .long x6), (8, .long x8)]) hx hb dX0_truest_119 hl (k := 7) rfl (by decide) (by decide) (fun _ => rfl) (fun x10_5 ex ls hl => ?_)
  have hf := ec_lt_i ex hf
  refine lv_goto (tgt := 50) hx hb dX0_truest_122 rfl ?_
  exact Hk50 S x1 x3 x4 x5 x6 x8 x10_5 _ _ _ hf hM (lv_sub hl [1, 2, 3, 4, 5, 6, 7, 0] rfl)
noncomputable def fX0_truest_104 (N : Nat) (k50 : sX → Int32 → Int32 → Int32 → Int32 → Int64 → Int64 → Int32 → Option (Int32 × sX)) (S : sX) (x1 : Int32) (x3 : Int32) (x4 : Int32) (x10 : Int32) (x11 : Int64) : Option (Int32 × sX) :=
  ec_lt ((S.1 21).toInt64) fun x8_6 =>
  fX0_truest_119 N k50 S x1 x3 x4 x10 x11 x8_6 x10
theorem bX0_truest_104 {N : Nat} (X : CallFix p m c cX0_truest 13 s args lw_all RX0) (hr : meth.sig.returnType = (some .int)) (hlk : meth.locks = false) {res : Int32} {Sr : sX} {k50 : sX → Int32 → Int32 → Int32 → Int32 → Int64 → Int64 → Int32 → Option (Int32 × sX)} (Hk50 : ∀ (S : sX) (x1 : Int32) (x3 : Int32) (x4 : Int32) (x5 : Int32) (x6 : Int64) (x8 : Int64) (x10 : Int32) (H : Heap) (locs : List Loc) (ls : Array Slot), k50 S x1 x3 x4 x5 x6 x8 x10 = some (res, Sr) → XW D dA o q S A s H locs → lv_has ls 13 [(0, .ref o), (1, .int x1), (3, .int x3), (4, .int x4), (5, .int x5), (6, .long x6), (8, .long x8), (10, .int x10)] → W p l e (rmL 3) s m args below meth c H locs 0 0 (MQ below (XPost D dA o q A (some (.int res)) Sr) args s 0 0 A) (F0 m 50 ls [])) : ∀ (S : sX) (x1 : Int32) (x3 : Int32) (x4 : Int32) (x10 : Int32) (x11 : Int64) (H : Heap) (locs : List Loc) (ls : Array Slot), fX0_truest_104 N k50 S x1 x3 x4 x10 x11 = some (res, Sr) → XW D dA o q S A s H locs → lv_has ls 13 [(0, .ref o), (1, .int x1), (3, .int x3), (4, .int x4), (10, .int x10), (11, .long x11)] → W p l e (rmL 3) s m args below meth c H locs 0 0 (MQ below (XPost D dA o q A (some (.int res)) Sr) args s 0 0 A) (F0 m 104 ls []) := by
  have hx := X.1
  have hb := X.2.1
  intro S x1 x3 x4 x10 x11 H locs ls hf hM hl
  unfold fX0_truest_104 at hf
  refine lv_iload hx hb dX0_truest_104 (lv_at hl 4 rfl) ?_
  refine lv_istore (lv' := [(5, .int x10), (0, .ref o), (1, .int x1), (3, .int x3), (4, .int x4), (10, .int x10), (11, .long x11)]) hx hb dX0_truest_106 hl (by decide) rfl (fun ls hl => ?_)
  refine lv_lload hx hb dX0_truest_108 (lv_at hl 6 rfl) ?_
  refine lv_lstore (lv' := [(6, .long x11), (5, .int x10), (0, .ref o), (1, .int x1), (3, .int x3), (4, .int x4), (10, .int x10), (11, .long x11)]) hx hb dX0_truest_110 hl (by decide) rfl (fun ls hl => ?_)
  refine lv_aload_n hx hb dX0_truest_112 rfl (lv_at hl 2 rfl) ?_
  refine x_get (v := .int (S.1 21)) X hM 21 (by decide) q789 rfl rfl dX0_truest_113 ?_
  refine lv_i2l hx hb dX0_truest_116 rfl ?_
  refine lv_topl (fun x8_6 ex => ?_)
  have hf := ec_lt_i ex hf
  refine lv_lstore (lv' := [(8, .long x8_6), (6, .long x11), (5, .int x10), (0, .ref o), (1, .int x1), (3, .int x3), (4, .int x4), (10, .int x10), (11, .long x11)]) hx hb dX0_truest_117 hl (by decide) rfl (fun ls hl => ?_)
  exact bX0_truest_119 X hr hlk Hk50 S x1 x3 x4 x10 x11 x8_6 x10 _ _ _ hf hM (lv_sub hl [3, 4, 5, 6, 2, 1, 0, 7] rfl)
noncomputable def fX0_truest_50 (N : Nat) (kx125 : sX → Int32 → Option (Int32 × sX)) : Nat → sX → Int32 → Int32 → Int32 → Int32 → Int64 → Int64 → Int32 → Option (Int32 × sX)
  | 0, _, _, _, _, _, _, _, _ => none
  | n + 1, S, x1, x3, x4, x5, x6, x8, x10 =>
    if x3 < x10 then (
      kx125 S x5)
    else (
      (fX0_laySamples N S x1 x10 (0 : Int32) x4).bind fun S_3 =>
      (fX0_apart N S_3 x1).bind fun v_4 =>
      if (S_3.1 21) ≤ 0 then (
        fX0_truest_119 N (fX0_truest_50 N kx125 n) S_3 x1 x3 x4 x5 x6 x8 x10)
      else (
        if x5 = (-4 : Int32) then (
          fX0_truest_104 N (fX0_truest_50 N kx125 n) S_3 x1 x3 x4 x10 v_4)
        else (
          if 0 ≤ (lg_cmp (v_4 * x8) (x6 * ((S_3.1 21).toInt64))) then (
            fX0_truest_119 N (fX0_truest_50 N kx125 n) S_3 x1 x3 x4 x5 x6 x8 x10)
          else (
            fX0_truest_104 N (fX0_truest_50 N kx125 n) S_3 x1 x3 x4 x10 v_4))))
theorem bX0_truest_50 {N : Nat} (X : CallFix p m c cX0_truest 13 s args lw_all RX0) (hr : meth.sig.returnType = (some .int)) (hlk : meth.locks = false) {res : Int32} {Sr : sX} {kx125 : sX → Int32 → Option (Int32 × sX)} (Hkx125 : ∀ (S : sX) (x5 : Int32) (H : Heap) (locs : List Loc) (ls : Array Slot), kx125 S x5 = some (res, Sr) → XW D dA o q S A s H locs → lv_has ls 13 [(0, .ref o), (5, .int x5)] → W p l e (rmL 3) s m args below meth c H locs 0 0 (MQ below (XPost D dA o q A (some (.int res)) Sr) args s 0 0 A) (F0 m 125 ls [])) : ∀ (n : Nat) (S : sX) (x1 : Int32) (x3 : Int32) (x4 : Int32) (x5 : Int32) (x6 : Int64) (x8 : Int64) (x10 : Int32) (H : Heap) (locs : List Loc) (ls : Array Slot), fX0_truest_50 N kx125 n S x1 x3 x4 x5 x6 x8 x10 = some (res, Sr) → XW D dA o q S A s H locs → lv_has ls 13 [(0, .ref o), (1, .int x1), (3, .int x3), (4, .int x4), (5, .int x5), (6, .long x6), (8, .long x8), (10, .int x10)] → W p l e (rmL 3) s m args below meth c H locs 0 0 (MQ below (XPost D dA o q A (some (.int res)) Sr) args s 0 0 A) (F0 m 50 ls []) := by
  have hx := X.1
  have hb := X.2.1
  intro n
  induction n with
  | zero =>
    intro S x1 x3 x4 x5 x6 x8 x10 H locs ls hf hM hl
    rw [fX0_truest_50] at hf
    cases hf
  | succ n ih =>
    intro S x1 x3 x4 x5 x6 x8 x10 H locs ls hf hM hl
    rw [fX0_truest_50] at hf
    refine lv_iload hx hb dX0_truest_50 (lv_at hl 7 rfl) ?_
    refine lv_iload_n hx hb dX0_truest_52 rfl (lv_at hl 2 rfl) ?_
    refine lv_icmp_gt (tgt := 125) hx hb dX0_truest_53 rfl (fun cnd => ?_) (fun cnd => ?_)
    · have hf := ec_t cnd hf
      exact Hkx125 S x5 _ _ _ hf hM (lv_sub hl [0, 4] rfl)
    · have hf := ec_f cnd hf
      refine lv_aload_n hx hb dX0_truest_56 rfl (lv_at hl 0 rfl) ?_
      refine lv_iload_n hx hb dX0_truest_57 rfl (lv_at hl 1 rfl) ?_
      refine lv_iload hx hb dX0_truest_58 (lv_at hl 7 rfl) ?_
      refine lv_iconst (v := 0) hx hb dX0_truest_60 (by decide) ?_
      refine lv_iload hx hb dX0_truest_61 (lv_at hl 3 rfl) ?_
      obtain ⟨S_3, h, hf⟩ := ec_bi hf
      refine x_cWv (As := [.int x1, .int x10, .int (0 : Int32), .int x4]) (rest := []) X hM (metX0_laySamples l D dA o q N S x1 x10 (0 : Int32) x4 _ h) (cwV 4 X.2.2.2.2 gX0_278 rfl rfl rfl hX0_laySamples (rm_le (Nat.le_of_ble_eq_true rfl) (Nat.le_of_ble_eq_true rfl))) rfl hl.1 rfl (Nat.le_of_ble_eq_true rfl) ⟨Nat.zero_le _, Nat.zero_le _⟩ dX0_truest_63 (fun H locs hM => ?_)
      refine lv_aload_n hx hb dX0_truest_66 rfl (lv_at hl 0 rfl) ?_
      refine lv_iload_n hx hb dX0_truest_67 rfl (lv_at hl 1 rfl) ?_
      obtain ⟨v_4, h, hf⟩ := ec_bi hf
      refine x_cR (v := .long v_4) (As := [.int x1]) (rest := []) X hM (metX0_apart l D dA o q N S_3 x1 _ h) (cwV 1 X.2.2.2.2 gX0_288 rfl rfl rfl hX0_apart (rm_le (Nat.le_of_ble_eq_true rfl) (Nat.le_of_ble_eq_true rfl))) rfl hl.1 rfl (Nat.le_of_ble_eq_true rfl) ⟨Nat.zero_le _, Nat.zero_le _⟩ dX0_truest_68 ?_
      refine lv_lstore (lv' := [(11, .long v_4), (0, .ref o), (1, .int x1), (3, .int x3), (4, .int x4), (5, .int x5), (6, .long x6), (8, .long x8), (10, .int x10)]) hx hb dX0_truest_71 hl (by decide) rfl (fun ls hl => ?_)
      refine lv_aload_n hx hb dX0_truest_73 rfl (lv_at hl 1 rfl) ?_
      refine x_get (v := .int (S_3.1 21)) X hM 21 (by decide) q789 rfl rfl dX0_truest_74 ?_
      refine lv_if_le (tgt := 119) hx hb dX0_truest_77 rfl (fun cnd => ?_) (fun cnd => ?_)
      · have hf := ec_t cnd hf
        exact bX0_truest_119 X hr hlk ih S_3 x1 x3 x4 x5 x6 x8 x10 _ _ _ hf hM (lv_sub hl [1, 2, 3, 4, 5, 6, 7, 8] rfl)
      · have hf := ec_f cnd hf
        refine lv_iload hx hb dX0_truest_80 (lv_at hl 5 rfl) ?_
        refine lv_bipush (v := -4) hx hb dX0_truest_82 (by decide) ?_
        refine lv_icmp_eq (tgt := 104) hx hb dX0_truest_84 rfl (fun cnd => ?_) (fun cnd => ?_)
        · have hf := ec_t cnd hf
          exact bX0_truest_104 X hr hlk ih S_3 x1 x3 x4 x10 v_4 _ _ _ hf hM (lv_sub hl [1, 2, 3, 4, 8, 0] rfl)
        · have hf := ec_f cnd hf
          refine lv_lload hx hb dX0_truest_87 (lv_at hl 0 rfl) ?_
          refine lv_lload hx hb dX0_truest_89 (lv_at hl 7 rfl) ?_
          refine lv_lmul hx hb dX0_truest_91 ?_
          refine lv_lload hx hb dX0_truest_92 (lv_at hl 6 rfl) ?_
          refine lv_aload_n hx hb dX0_truest_94 rfl (lv_at hl 1 rfl) ?_
          refine x_get (v := .int (S_3.1 21)) X hM 21 (by decide) q789 rfl rfl dX0_truest_95 ?_
          refine lv_i2l hx hb dX0_truest_98 rfl ?_
          refine lv_lmul hx hb dX0_truest_99 ?_
          refine W.lcmp hx hb dX0_truest_100 ?_
          refine lv_if_ge (tgt := 119) hx hb dX0_truest_101 rfl (fun cnd => ?_) (fun cnd => ?_)
          · have hf := ec_t cnd hf
            exact bX0_truest_119 X hr hlk ih S_3 x1 x3 x4 x5 x6 x8 x10 _ _ _ hf hM (lv_sub hl [1, 2, 3, 4, 5, 6, 7, 8] rfl)
          · have hf := ec_f cnd hf
            exact bX0_truest_104 X hr hlk ih S_3 x1 x3 x4 x10 v_4 _ _ _ hf hM (lv_sub hl [1, 2, 3, 4, 8, 0] rfl)
noncomputable def fX0_truest (N : Nat) (S : sX) (x1 : Int32) (x2 : Int32) (x3 : Int32) (x4 : Int32) : Option (Int32 × sX) :=
  (fX0_isSample x1 x2 (0 : Int32) x4).bind fun v_1 =>
  if v_1 = 0 then (
    fX0_truest_35 N S)
  else (
    (fX0_isIn (x3.toInt64) (x2.toInt64) ((if ((x2 + (200 : Int32)) - (1 : Int32)) < (9999 : Int32) then ((x2 + (200 : Int32)) - (1 : Int32)) else (9999 : Int32)).toInt64)).bind fun v_2 =>
    if ¬ v_2 = 0 then (
      fX0_truest_50 N (fun S_7 x5_8 =>
        some (x5_8, S_7)) N S x1 x3 x4 (-4 : Int32) (0 : Int64) (1 : Int64) x2)
    else (
      fX0_truest_35 N S))
theorem metX0_truest (l : Launch) (D : va_G) (dA : Nat → ClassId) (o : Nat) (q : Nat → Nat) (N : Nat) (S : sX) (x1 : Int32) (x2 : Int32) (x3 : Int32) (x4 : Int32) (res : Int32) (Sr : sX) (hf : fX0_truest N S x1 x2 x3 x4 = some (res, Sr)) : Met l yX0_truest (ws_ yX0_truest cX0_truest 13 (some .int)) (rmL 3) (XPre D dA o q S [.int x1, .int x2, .int x3, .int x4]) (XPost D dA o q (XA o q S.2.2.2) (some (.int res)) Sr) 0 0 (XA o q S.2.2.2) := by
  refine x_ofW rfl (Nat.le_of_ble_eq_true rfl) (fun A p e s m args below meth c X hr hlk hM ls hl => ?_)
  have hl : lv_has ls 13 [(0, .ref o), (1, .int x1), (2, .int x2), (3, .int x3), (4, .int x4)] := hl
  have hx := X.1
  have hb := X.2.1
  unfold fX0_truest at hf
  refine lv_iload_n hx hb dX0_truest_0 rfl (lv_at hl 1 rfl) ?_
  refine lv_iload_n hx hb dX0_truest_1 rfl (lv_at hl 2 rfl) ?_
  refine lv_iconst (v := 0) hx hb dX0_truest_2 (by decide) ?_
  refine lv_iload hx hb dX0_truest_3 (lv_at hl 4 rfl) ?_
  obtain ⟨v_1, h, hf⟩ := ec_bi hf
  refine e_cS (v := .int v_1) (As := [.int x1, .int x2, .int (0 : Int32), .int x4]) (rest := []) X (metX0_isSample l x1 x2 (0 : Int32) x4 _ h) (va_cwS 4 X.2.2.2.2 gX0_274 rfl rfl rfl hX0_isSample (rm_le (Nat.le_of_ble_eq_true rfl) (Nat.le_of_ble_eq_true rfl))) rfl hl.1 rfl (Nat.le_of_ble_eq_true rfl) ⟨Nat.zero_le _, Nat.zero_le _⟩ dX0_truest_5 ?_
  refine lv_if_eq (tgt := 35) hx hb dX0_truest_8 rfl (fun cnd => ?_) (fun cnd => ?_)
  · have hf := ec_t cnd hf
    exact bX0_truest_35 X hr hlk  S _ _ _ hf hM (lv_sub hl [0] rfl)
  · have hf := ec_f cnd hf
    refine lv_iload_n hx hb dX0_truest_11 rfl (lv_at hl 3 rfl) ?_
    refine lv_i2l hx hb dX0_truest_12 rfl ?_
    refine lv_iload_n hx hb dX0_truest_13 rfl (lv_at hl 2 rfl) ?_
    refine lv_i2l hx hb dX0_truest_14 rfl ?_
    refine lv_sipush (v := 9999) hx hb dX0_truest_15 (by decide) ?_
    refine lv_iload_n hx hb dX0_truest_18 rfl (lv_at hl 2 rfl) ?_
    refine lv_sipush (v := 200) hx hb dX0_truest_19 (by decide) ?_
    refine lv_iadd hx hb dX0_truest_22 ?_
    refine lv_iconst (v := 1) hx hb dX0_truest_23 (by decide) ?_
    refine lv_isub hx hb dX0_truest_24 ?_
    refine va_mmin (own := RX0) hx hb (X.2.2.1.trans hl.1.symm) X.2.2.2.1 (X.2.2.2.2 _ q626) (X.2.2.2.2 _ q627) (X.2.2.2.2 _ q79) (X.2.2.2.2 _ q628) (Nat.le_of_ble_eq_true rfl) (Nat.le_of_ble_eq_true rfl) (Nat.zero_le _) (Nat.zero_le _) dX0_truest_25 ?_
    refine lv_i2l hx hb dX0_truest_28 rfl ?_
    obtain ⟨v_2, h, hf⟩ := ec_bi hf
    refine e_cS (v := .int v_2) (As := [.long (x3.toInt64), .long (x2.toInt64), .long ((if ((x2 + (200 : Int32)) - (1 : Int32)) < (9999 : Int32) then ((x2 + (200 : Int32)) - (1 : Int32)) else (9999 : Int32)).toInt64)]) (rest := []) X (metX0_isIn l (x3.toInt64) (x2.toInt64) ((if ((x2 + (200 : Int32)) - (1 : Int32)) < (9999 : Int32) then ((x2 + (200 : Int32)) - (1 : Int32)) else (9999 : Int32)).toInt64) _ h) (va_cwS 3 X.2.2.2.2 gX0_21 rfl rfl rfl hX0_isIn (rm_le (Nat.le_of_ble_eq_true rfl) (Nat.le_of_ble_eq_true rfl))) rfl hl.1 rfl (Nat.le_of_ble_eq_true rfl) ⟨Nat.zero_le _, Nat.zero_le _⟩ dX0_truest_29 ?_
    refine lv_if_ne (tgt := 37) hx hb dX0_truest_32 rfl (fun cnd => ?_) (fun cnd => ?_)
    · have hf := ec_t cnd hf
      refine lv_bipush (v := -4) hx hb dX0_truest_37 (by decide) ?_
      refine lv_istore (lv' := [(5, .int (-4 : Int32)), (0, .ref o), (1, .int x1), (2, .int x2), (3, .int x3), (4, .int x4)]) hx hb dX0_truest_39 hl (by decide) rfl (fun ls hl => ?_)
      refine lv_lconst (v := 0) hx hb dX0_truest_41 (by decide) ?_
      refine lv_lstore (lv' := [(6, .long (0 : Int64)), (5, .int (-4 : Int32)), (0, .ref o), (1, .int x1), (2, .int x2), (3, .int x3), (4, .int x4)]) hx hb dX0_truest_42 hl (by decide) rfl (fun ls hl => ?_)
      refine lv_lconst (v := 1) hx hb dX0_truest_44 (by decide) ?_
      refine lv_lstore (lv' := [(8, .long (1 : Int64)), (6, .long (0 : Int64)), (5, .int (-4 : Int32)), (0, .ref o), (1, .int x1), (2, .int x2), (3, .int x3), (4, .int x4)]) hx hb dX0_truest_45 hl (by decide) rfl (fun ls hl => ?_)
      refine lv_iload_n hx hb dX0_truest_47 rfl (lv_at hl 5 rfl) ?_
      refine lv_istore (lv' := [(10, .int x2), (8, .long (1 : Int64)), (6, .long (0 : Int64)), (5, .int (-4 : Int32)), (0, .ref o), (1, .int x1), (2, .int x2), (3, .int x3), (4, .int x4)]) hx hb dX0_truest_48 hl (by decide) rfl (fun ls hl => ?_)
      exact bX0_truest_50 X hr hlk (fun S_7 x5_8 H locs ls hf hM hl => by
        refine lv_iload hx hb dX0_truest_125 (lv_at hl 1 rfl) ?_
        obtain ⟨rfl, rfl⟩ := Prod.mk.inj (Option.some.inj hf)
        exact x_iret X hr hlk hM dX0_truest_127) N S x1 x3 x4 (-4 : Int32) (0 : Int64) (1 : Int64) x2 _ _ _ hf hM (lv_sub hl [4, 5, 7, 8, 3, 2, 1, 0] rfl)
    · have hf := ec_f (not_not_intro cnd) hf
      exact bX0_truest_35 X hr hlk  S _ _ _ hf hM (lv_sub hl [0] rfl)
theorem hX0_truest : yX0_truest.cls = RX0 ∧ yX0_truest.cls ≠ "java/lang/invoke/MethodHandle" ∧ yX0_truest.cls ≠ "java/lang/invoke/VarHandle" ∧ (parseMethodDescriptor yX0_truest.desc).map (fun d => d.parameters.length) = some 4 := by decide +kernel

theorem gX0_29 : GoodIn lw_all (wsV RX0 29 RX7 yX7_lays (ws_ yX7_lays cX7_lays 5 (some .int))) := lw_V q437 q438 q439 q71 q445
noncomputable def fX0_lays_64 (N : Nat) (kx99 : sX → Int32 → Option sX) : Nat → sX → Int32 → Nat → Int32 → Option sX
  | 0, _, _, _, _ => none
  | n + 1, S, x2, x3, x4 =>
    if (8 : Int32) ≤ x4 then (
      kx99 S x2)
    else (
      (ec_ag (S.2.1 10) 8 x4).bind fun v_12 =>
      (hI 7 S.2.2.2 x3 4).bind fun v_13 =>
      (hR 7 S.2.2.2 x3 3).bind fun v_14 =>
      (hAi 0 S.2.2.2 v_14 x4).bind fun v_15 =>
      (ex_as S 10 8 x4 (v_12 + (v_13 * v_15))).bind fun S_16 =>
      ec_lt (x4 + (1 : Int32)) fun x4_17 =>
      (fX0_lays_64 N kx99 n) S_16 x2 x3 x4_17)
theorem bX0_lays_64 {N : Nat} (X : CallFix p m c cX0_lays 5 s args lw_all RX0) (hr : meth.sig.returnType = none) (hlk : meth.locks = false) {Sr : sX} {kx99 : sX → Int32 → Option sX} (Hkx99 : ∀ (S : sX) (x2 : Int32) (H : Heap) (locs : List Loc) (ls : Array Slot), kx99 S x2 = some Sr → XW D dA o q S A s H locs → lv_has ls 5 [(0, .ref o), (2, .int x2)] → W p l e (rmL 162) s m args below meth c H locs 0 0 (MQ below (XPost D dA o q A none Sr) args s 0 0 A) (F0 m 99 ls [])) : ∀ (n : Nat) (S : sX) (x2 : Int32) (x3 : Nat) (x4 : Int32) (H : Heap) (locs : List Loc) (ls : Array Slot), fX0_lays_64 N kx99 n S x2 x3 x4 = some Sr → XW D dA o q S A s H locs → lv_has ls 5 [(0, .ref o), (2, .int x2), (3, .ref x3), (4, .int x4)] → W p l e (rmL 162) s m args below meth c H locs 0 0 (MQ below (XPost D dA o q A none Sr) args s 0 0 A) (F0 m 64 ls []) := by
  have hx := X.1
  have hb := X.2.1
  intro n
  induction n with
  | zero =>
    intro S x2 x3 x4 H locs ls hf hM hl
    rw [fX0_lays_64] at hf
    cases hf
  | succ n ih =>
    intro S x2 x3 x4 H locs ls hf hM hl
    rw [fX0_lays_64] at hf
    refine lv_iload hx hb dX0_lays_64 (lv_at hl 3 rfl) ?_
    refine lv_bipush (v := 8) hx hb dX0_lays_66 (by decide) ?_
    refine lv_icmp_ge (tgt := 99) hx hb dX0_lays_68 rfl (fun cnd => ?_) (fun cnd => ?_)
    · have hf := ec_t cnd hf
      exact Hkx99 S x2 _ _ _ hf hM (lv_sub hl [0, 1] rfl)
    · have hf := ec_f cnd hf
      refine lv_aload_n hx hb dX0_lays_71 rfl (lv_at hl 0 rfl) ?_
      refine x_get (v := .ref (q 10)) X hM 10 (by decide) q778 rfl rfl dX0_lays_72 ?_
      refine lv_iload hx hb dX0_lays_75 (lv_at hl 3 rfl) ?_
      refine lv_dup2_11 hx hb dX0_lays_77 rfl rfl ?_
      obtain ⟨v_12, h, hf⟩ := ec_bi hf
      refine x_iald X hM wxa10 h dX0_lays_78 ?_
      refine lv_aload_n hx hb dX0_lays_79 rfl (lv_at hl 2 rfl) ?_
      obtain ⟨v_13, h, hf⟩ := ec_bi hf
      refine h_getvN (v := .int v_13) (C := RX8) (T := TX8) (N := 5) (ci := 7) (k := 4) (host := "EventCounters") X hM in_X8 rfl (by decide) (xn_at hM.2.1 22 rfl) rfl (hI_i h) dX0_lays_80 ?_
      refine lv_aload_n hx hb dX0_lays_83 rfl (lv_at hl 2 rfl) ?_
      obtain ⟨v_14, h, hf⟩ := ec_bi hf
      refine h_getvN (v := .ref v_14) (C := RX8) (T := TX8) (N := 5) (ci := 7) (k := 3) (host := "EventCounters") X hM in_X8 rfl (by decide) (xn_at hM.2.1 20 rfl) rfl (hR_i h) dX0_lays_84 ?_
      refine lv_iload hx hb dX0_lays_87 (lv_at hl 3 rfl) ?_
      obtain ⟨v_15, h, hf⟩ := ec_bi hf
      refine h_iald X hM h dX0_lays_89 ?_
      refine lv_imul hx hb dX0_lays_90 ?_
      refine lv_iadd hx hb dX0_lays_91 ?_
      obtain ⟨S_16, h, hf⟩ := ec_bi hf
      refine x_iast X hM wxa10 wxs10 h dX0_lays_92 (fun H locs hM => ?_)
      refine e_inc (w := 1) (f := fun v => [(4, .int v), (0, .ref o), (2, .int x2), (3, .ref x3)]) hx hb dX0_lays_93 hl (k := 3) rfl (by decide) (by decide) (fun _ => rfl) (fun x4_17 ex ls hl => ?_)
      have hf := ec_lt_i ex hf
      refine lv_goto (tgt := 64) hx hb dX0_lays_96 rfl ?_
      exact ih S_16 x2 x3 x4_17 _ _ _ hf hM (lv_sub hl [1, 2, 3, 0] rfl)
noncomputable def fX0_lays_28 (N : Nat) : Nat → sX → Int32 → Option sX
  | 0, _, _ => none
  | n + 1, S, x2 =>
    if (S.1 4) ≤ x2 then (
      some S)
    else (
      (hAr 4 S.2.2.2 (S.2.2.1 3) x2).bind fun v_8 =>
      (hI 7 S.2.2.2 v_8 4).bind fun v_9 =>
      (hI 7 S.2.2.2 v_8 2).bind fun v_10 =>
      ec_lt (xI S 9 ((S.1 9) + (v_9 * v_10))) fun S_11 =>
      fX0_lays_64 N (fun S_18 x2_19 =>
        ec_lt (x2_19 + (1 : Int32)) fun x2_20 =>
        (fX0_lays_28 N n) S_18 x2_20) N S_11 x2 v_8 (0 : Int32))
theorem bX0_lays_28 {N : Nat} (X : CallFix p m c cX0_lays 5 s args lw_all RX0) (hr : meth.sig.returnType = none) (hlk : meth.locks = false) {Sr : sX} : ∀ (n : Nat) (S : sX) (x2 : Int32) (H : Heap) (locs : List Loc) (ls : Array Slot), fX0_lays_28 N n S x2 = some Sr → XW D dA o q S A s H locs → lv_has ls 5 [(0, .ref o), (2, .int x2)] → W p l e (rmL 162) s m args below meth c H locs 0 0 (MQ below (XPost D dA o q A none Sr) args s 0 0 A) (F0 m 28 ls []) := by
  have hx := X.1
  have hb := X.2.1
  intro n
  induction n with
  | zero =>
    intro S x2 H locs ls hf hM hl
    rw [fX0_lays_28] at hf
    cases hf
  | succ n ih =>
    intro S x2 H locs ls hf hM hl
    rw [fX0_lays_28] at hf
    refine lv_iload_n hx hb dX0_lays_28 rfl (lv_at hl 1 rfl) ?_
    refine lv_aload_n hx hb dX0_lays_29 rfl (lv_at hl 0 rfl) ?_
    refine x_get (v := .int (S.1 4)) X hM 4 (by decide) q772 rfl rfl dX0_lays_30 ?_
    refine lv_icmp_ge (tgt := 105) hx hb dX0_lays_33 rfl (fun cnd => ?_) (fun cnd => ?_)
    · have hf := ec_t cnd hf
      obtain rfl := Option.some.inj hf
      exact x_vret X hr hlk hM dX0_lays_105
    · have hf := ec_f cnd hf
      refine lv_aload_n hx hb dX0_lays_36 rfl (lv_at hl 0 rfl) ?_
      refine x_get (v := .ref (S.2.2.1 3)) X hM 3 (by decide) q771 rfl rfl dX0_lays_37 ?_
      refine lv_iload_n hx hb dX0_lays_40 rfl (lv_at hl 1 rfl) ?_
      obtain ⟨v_8, h, hf⟩ := ec_bi hf
      refine h_aald (t := 4) X hM rfl rfl h dX0_lays_41 ?_
      refine lv_astore_n (lv' := [(3, .ref v_8), (0, .ref o), (2, .int x2)]) hx hb dX0_lays_42 rfl hl (by decide) rfl (fun ls hl => ?_)
      refine lv_aload_n hx hb dX0_lays_43 rfl (lv_at hl 1 rfl) ?_
      refine lv_dup hx hb dX0_lays_44 rfl ?_
      refine x_get (v := .int (S.1 9)) X hM 9 (by decide) q777 rfl rfl dX0_lays_45 ?_
      refine lv_aload_n hx hb dX0_lays_48 rfl (lv_at hl 0 rfl) ?_
      obtain ⟨v_9, h, hf⟩ := ec_bi hf
      refine h_getvN (v := .int v_9) (C := RX8) (T := TX8) (N := 5) (ci := 7) (k := 4) (host := "EventCounters") X hM in_X8 rfl (by decide) (xn_at hM.2.1 22 rfl) rfl (hI_i h) dX0_lays_49 ?_
      refine lv_aload_n hx hb dX0_lays_52 rfl (lv_at hl 0 rfl) ?_
      obtain ⟨v_10, h, hf⟩ := ec_bi hf
      refine h_getvN (v := .int v_10) (C := RX8) (T := TX8) (N := 5) (ci := 7) (k := 2) (host := "EventCounters") X hM in_X8 rfl (by decide) (xn_at hM.2.1 19 rfl) rfl (hI_i h) dX0_lays_53 ?_
      refine lv_imul hx hb dX0_lays_56 ?_
      refine lv_iadd hx hb dX0_lays_57 ?_
      refine x_puti X hM 9 (by decide) q777 rfl rfl xfd9 (wxi9 _) dX0_lays_58 (fun S_11 H locs eS hM => ?_)
      have hf := ec_lt_i eS hf
      refine lv_iconst (v := 0) hx hb dX0_lays_61 (by decide) ?_
      refine lv_istore (lv' := [(4, .int (0 : Int32)), (3, .ref v_8), (0, .ref o), (2, .int x2)]) hx hb dX0_lays_62 hl (by decide) rfl (fun ls hl => ?_)
      exact bX0_lays_64 X hr hlk (fun S_18 x2_19 H locs ls hf hM hl => by
        refine e_inc (w := 1) (f := fun v => [(2, .int v), (0, .ref o)]) hx hb dX0_lays_99 hl (k := 1) rfl (by decide) (by decide) (fun _ => rfl) (fun x2_20 ex ls hl => ?_)
        have hf := ec_lt_i ex hf
        refine lv_goto (tgt := 28) hx hb dX0_lays_102 rfl ?_
        exact ih S_18 x2_20 _ _ _ hf hM (lv_sub hl [1, 0] rfl)) N S_11 x2 v_8 (0 : Int32) _ _ _ hf hM (lv_sub hl [2, 3, 1, 0] rfl)
noncomputable def fX0_lays (N : Nat) (S : sX) (x1 : Nat) : Option sX :=
  (hObj 6 S.2.2.2 x1).bind fun w_1 =>
  ec_b2 (fX7_lays N S.2.2.2 (fV_lays N 8) x1 (S.2.2.1 7) (0 : Int32)) fun v_2 h_3 =>
  ec_lt (xH S h_3) fun S_4 =>
  ec_lt (xI S_4 8 v_2) fun S_5 =>
  ec_lt (xI S_5 9 (0 : Int32)) fun S_6 =>
  (fJ7_fill10 N S_6 (0 : Int32)).bind fun S_7 =>
  fX0_lays_28 N N S_7 (0 : Int32)
theorem metX0_lays (l : Launch) (D : va_G) (dA : Nat → ClassId) (o : Nat) (q : Nat → Nat) (N : Nat) (S : sX) (x1 : Nat) (Sr : sX) (hf : fX0_lays N S x1 = some Sr) : Met l yX0_lays (ws_ yX0_lays cX0_lays 5 none) (rmL 162) (XPre D dA o q S [.ref x1]) (XPost D dA o q (XA o q S.2.2.2) none Sr) 0 0 (XA o q S.2.2.2) := by
  refine x_ofW rfl (Nat.le_of_ble_eq_true rfl) (fun A p e s m args below meth c X hr hlk hM ls hl => ?_)
  have hl : lv_has ls 5 [(0, .ref o), (1, .ref x1)] := hl
  have hx := X.1
  have hb := X.2.1
  unfold fX0_lays at hf
  refine lv_aload_n hx hb dX0_lays_0 rfl (lv_at hl 0 rfl) ?_
  refine lv_aload_n hx hb dX0_lays_1 rfl (lv_at hl 1 rfl) ?_
  refine lv_aload_n hx hb dX0_lays_2 rfl (lv_at hl 0 rfl) ?_
  refine x_get (v := .ref (S.2.2.1 7)) X hM 7 (by decide) q775 rfl rfl dX0_lays_3 ?_
  refine lv_iconst (v := 0) hx hb dX0_lays_6 (by decide) ?_
  obtain ⟨w_1, ho, hf⟩ := ec_bi hf
  obtain ⟨v_2, h_3, h, hf⟩ := ec_b2i hf
  refine h_cVW (C := RX7) (T := TX7) (N := 2) (v := .int v_2) (As := [.ref (S.2.2.1 7), .int (0 : Int32)]) (rest := [.ref o]) X hM rfl ho (metX7_lays l D dA N S.2.2.2 160 (fV_lays N 8) (vV_lays l D dA N 8) x1 (S.2.2.1 7) (0 : Int32) _ _ h) (cwV 2 X.2.2.2.2 gX0_29 rfl rfl rfl hX7_lays (rm_le (Nat.le_of_ble_eq_true rfl) (Nat.le_of_ble_eq_true rfl))) rfl hl.1 rfl (Nat.le_of_ble_eq_true rfl) ⟨Nat.zero_le _, Nat.zero_le _⟩ dX0_lays_7 (fun H locs hM => ?_)
  obtain ⟨S_4, eS, hM⟩ := x_nm hM
  have hf := ec_lt_i eS hf
  refine x_puti X hM 8 (by decide) q776 rfl rfl xfd8 (wxi8 _) dX0_lays_10 (fun S_5 H locs eS hM => ?_)
  have hf := ec_lt_i eS hf
  refine lv_aload_n hx hb dX0_lays_13 rfl (lv_at hl 0 rfl) ?_
  refine lv_iconst (v := 0) hx hb dX0_lays_14 (by decide) ?_
  refine x_puti X hM 9 (by decide) q777 rfl rfl xfd9 (wxi9 _) dX0_lays_15 (fun S_6 H locs eS hM => ?_)
  have hf := ec_lt_i eS hf
  refine lv_aload_n hx hb dX0_lays_18 rfl (lv_at hl 0 rfl) ?_
  refine x_get (v := .ref (q 10)) X hM 10 (by decide) q778 rfl rfl dX0_lays_19 ?_
  refine lv_iconst (v := 0) hx hb dX0_lays_22 (by decide) ?_
  obtain ⟨S_7, h, hf⟩ := ec_bi hf
  refine f_cSv (As := [.ref (q 10), .int (0 : Int32)]) (rest := []) X hM (metJ7_fill10 l D dA o q N S_6 (0 : Int32) _ h) (va_cwS 2 X.2.2.2.2 gX0_44 rfl rfl rfl hJ7_fill10 (rm_le (Nat.le_of_ble_eq_true rfl) (Nat.le_of_ble_eq_true rfl))) rfl hl.1 rfl (Nat.le_of_ble_eq_true rfl) ⟨Nat.zero_le _, Nat.zero_le _⟩ dX0_lays_23 (fun H locs hM => ?_)
  refine lv_iconst (v := 0) hx hb dX0_lays_26 (by decide) ?_
  refine lv_istore_n (lv' := [(2, .int (0 : Int32)), (0, .ref o), (1, .ref x1)]) hx hb dX0_lays_27 rfl hl (by decide) rfl (fun ls hl => ?_)
  exact bX0_lays_28 X hr hlk  N S_7 (0 : Int32) _ _ _ hf hM (lv_sub hl [1, 0] rfl)
theorem hX0_lays : yX0_lays.cls = RX0 ∧ yX0_lays.cls ≠ "java/lang/invoke/MethodHandle" ∧ yX0_lays.cls ≠ "java/lang/invoke/VarHandle" ∧ (parseMethodDescriptor yX0_lays.desc).map (fun d => d.parameters.length) = some 1 := by decide +kernel
end
