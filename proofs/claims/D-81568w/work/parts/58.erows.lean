/-! THE MACHINE'S OWN EXCEPTIONS in a walk: caught by a row of the method, or leaving it -/
set_option maxRecDepth 100000
def ncL : List (String × String) := [("[B", "[S"), ("[B", "[I"), ("[S", "[B"), ("[S", "[I"), ("[I", "[B"), ("[I", "[S"), ("java/lang/ArrayIndexOutOfBoundsException", "java/lang/NullPointerException"), ("java/lang/ArrayIndexOutOfBoundsException", "java/lang/ClassCastException"), ("java/lang/ClassCastException", "java/lang/NullPointerException")]
def NCS (U : State) : Prop := ∀ z ∈ ncL, va_Nc z.1 z.2 U
theorem NCS.moved {u U : State} (hvm : u.vm.Alike U.vm) (h : NCS u) : NCS U := fun z hz => (h z hz).moved hvm
theorem NCS.at {U : State} (h : NCS U) {C T : String} (i : Nat) (e : ncL[i]? = some (C, T)) : va_Nc C T U := h (C, T) (List.mem_of_getElem? e)
/-- what such a walk knows of the start -/
def EX (K : oK) (A : Nat → Prop) (l : Launch) (s : State) : Prop := (∀ x, s.heap.size ≤ x → A x) ∧ OLD K A s s.heap ∧ OZ A s s.heap ∧ (∀ x, A x → ∀ cell, s.heap[x]? = some cell → cell.vm.isStatics = false) ∧ NCS s ∧ ∀ e : Env, l.admits e → e.platform.stackTraces = false
section EROWS
variable {p : Program} {l : Launch} {e : Env} {R : Room} {s : State} {m : MethodId} {args : Array Value} {below : List Frame} {meth : Method} {c : Code} {H : Heap} {locs : List Loc} {u w mc ms B : Nat} {Q : State → Prop}
variable {cc : ByteArray} {nL pc hpc idx n : Nat} {ls : Array Slot} {rest st : List Value} {own : String} {Qo : Array Value → State → Outcome → State → Prop}
variable {D : va_G} {dA : Nat → ClassId} {K : oK} {F : va_W} {S : hH} {A : Nat → Prop} {cls : String} {names : List String}
theorem HX.grow (hM : HX D dA F S A s H locs) (hA : ∀ x, s.heap.size ≤ x → A x) {H1 : Heap} {locs1 : List Loc} (h1 : ∀ a : Nat, a < H.size → H1[a]? = H[a]?) (h2 : H.size ≤ H1.size) (h3 : ∀ y ∈ locs1, y ∈ locs ∨ H.size ≤ y.base) : HX D dA F S A s H1 locs1 := by
  obtain ⟨hK, hN, ⟨L, hi, hP, hD⟩, hS⟩ := hM
  exact ⟨hK, hN, ⟨L, hi, fun k q hq => (hP k q hq).kept (h1 _ (hP k q hq).lt), hD⟩, Nat.le_trans hS.1 h2, fun q h4 h5 => by rw [h1 q (Nat.lt_of_lt_of_le h4 hS.1)]; exact hS.2.1 q h4 h5, fun y hy => (h3 y hy).elim (fun h => hS.2.2 y h) (fun h => hA _ (Nat.le_trans hS.1 h))⟩
/-- the instruction at hand throws -/
def ThN (p : Program) (l : Launch) (e : Env) (R : Room) (s : State) (m : MethodId) (args : Array Value) (below : List Frame) (meth : Method) (c : Code) (H : Heap) (locs : List Loc) (u w : Nat) (pc : Nat) (ls : Array Slot) (st rest : List Value) : Prop :=
  ∀ T : State, T.heap = H → Stand p l e R s m args below meth c T locs u w → ∀ target, Steps p.tables e below ((T.setTop (F0 m pc ls rest)).pushFrame (.throwNew "java/lang/NullPointerException" none none)) target → Steps p.tables e below (T.setTop (F0 m pc ls st)) target
def ThM (p : Program) (l : Launch) (e : Env) (R : Room) (s : State) (m : MethodId) (args : Array Value) (below : List Frame) (meth : Method) (c : Code) (H : Heap) (locs : List Loc) (u w : Nat) (cls : String) (B : Nat) (pc : Nat) (ls : Array Slot) (st rest : List Value) : Prop :=
  ∀ T : State, T.heap = H → Stand p l e R s m args below meth c T locs u w → ∃ (T1 : State) (text : String), T1.heap = H ∧ Stand p l e R s m args below meth c T1 locs u w ∧ (text == notModelled) = false ∧ (stringBytes (stringToUtf16 text)).size ≤ B ∧ ∀ target, Steps p.tables e below ((T1.setTop (F0 m pc ls rest)).pushFrame (.throwNew cls (some text) none)) target → Steps p.tables e below (T.setTop (F0 m pc ls st)) target
theorem e_npe (X : CallFix p m c cc nL s args lw_all own) (hM : HX D dA F S A s H locs) (hE : EX K A l s) (hsize : ls.size = nL) (ht : ThN p l e R s m args below meth c H locs u w pc ls st rest)
    (hR1 : 7 < R.frames) (hR2 : (rest.map fun v => v.category).sum + 10240 ≤ R.locals) (hR3 : u + 1 ≤ R.cells) (hR4 : w + 8 ≤ R.slots)
    (htab : e.platform.magicAccessors = ({} : Platform).magicAccessors → ∀ cE, s.vm.findClass "java/lang/NullPointerException" = some cE → cTab e.platform s m.cls pc cE hpc c.exceptionTable.toList)
    (k : ∀ (a : Nat) (H1 : Heap) (locs1 : List Loc), HX D dA F S A s H1 locs1 → W p l e R s m args below meth c H1 locs1 (u + 1) (w + 8) Q (F0 m hpc ls [.ref a])) : W p l e R s m args below meth c H locs u w Q (F0 m pc ls st) := by
  intro T hT XS
  obtain ⟨hA, hO, hZ, hst, hnc, htr⟩ := hE
  have hpl : e.platform.magicAccessors = ({} : Platform).magicAccessors := by rw [XS.admits.platform]
  obtain ⟨U, locs', ce, X2, b1, b2, b3, b4, b5, b6, go⟩ := v_npe XS X.1 (htr e XS.admits) (at_npe X.2.2.2.2 hM.2.1 hO hZ) (fun x hx cell hc => hst x.base (hM.2.2.2.2.2 x hx) cell hc) (g := F0 m pc ls rest) rfl (hsize.trans X.2.2.1.symm) hR1 (by show 2 * 0 + (rest.map fun v => v.category).sum + 10240 ≤ R.locals; omega) hR3 hR4
  obtain ⟨vm', X3, go2⟩ := c_caught X2 T.heap.size (g := F0 m pc ls rest) (hpc := hpc) rfl b5 b6 (Vm.classAt_of_findClass b4) (htab hpl _ b4)
  have hM2 : HX D dA F S A s U.heap locs' := hM.grow hA (fun a ha => by rw [b2 a (by rw [hT]; exact ha), hT]) (by rw [← hT]; exact b3) (fun y hy => (b1 y hy).imp id (fun h => by rw [h, hT]; exact Nat.le_refl _))
  obtain ⟨t2, a1, b⟩ := k T.heap.size U.heap locs' hM2 (U.setVm vm') rfl X3
  exact ⟨t2, ht T hT XS t2 (go t2 (go2 t2 a1)), b⟩
theorem e_msg (X : CallFix p m c cc nL s args lw_all own) (hM : HX D dA F S A s H locs) (hE : EX K A l s) (hsize : ls.size = nL) (ht : ThM p l e R s m args below meth c H locs u w cls B pc ls st rest)
    (hfit : Bundle.fit cls = true ∧ (∀ n ∈ names, Bundle.fit n = true) ∧ (cls == "java/lang/StackOverflowError") = false ∧ (cls == "java/lang/OutOfMemoryError") = false ∧ names.length ≤ 3) (hat : ∀ a ∈ Bundle.messageArmAtoms cls names, a.before args s = true) (hB : B ≤ 100000)
    (hR1 : 7 < R.frames) (hR2 : (rest.map fun v => v.category).sum + 10240 ≤ R.locals) (hR3 : u + 3 ≤ R.cells) (hR4 : w + (B + 10) ≤ R.slots)
    (htab : e.platform.magicAccessors = ({} : Platform).magicAccessors → ∀ cE, s.vm.findClass cls = some cE → cTab e.platform s m.cls pc cE hpc c.exceptionTable.toList)
    (k : ∀ (a : Nat) (H1 : Heap) (locs1 : List Loc), HX D dA F S A s H1 locs1 → W p l e R s m args below meth c H1 locs1 (u + 3) (w + (B + 10)) Q (F0 m hpc ls [.ref a])) : W p l e R s m args below meth c H locs u w Q (F0 m pc ls st) := by
  intro T hT XS
  obtain ⟨hA, hO, hZ, hst, hnc, htr⟩ := hE
  have hpl : e.platform.magicAccessors = ({} : Platform).magicAccessors := by rw [XS.admits.platform]
  obtain ⟨T1, text, hT1, XT, hx1, hx2, go0⟩ := ht T hT XS
  obtain ⟨U, locs', ce, n', b0, X2, b1, b2, b3, b4, b5, b6, go⟩ := v_msg XT X.1 (htr e XS.admits) hfit.1 hfit.2.1 hfit.2.2.1 hfit.2.2.2.1 hat (fun x hx cell hc => hst x.base (hM.2.2.2.2.2 x hx) cell hc) hx1
    (by rw [Launch.admits_arrayLengthLimit XS.admits]; omega) (by rw [Launch.admits_maxHeapBytes XS.admits]; simp only [componentBytes]; omega) (g := F0 m pc ls rest) rfl (hsize.trans X.2.2.1.symm) (by have := hfit.2.2.2.2; omega) (by show 2 * 0 + (rest.map fun v => v.category).sum + 10240 ≤ R.locals; omega) (by have := hfit.2.2.2.2; omega) hR3 (by omega)
  obtain ⟨vm', X3, go2⟩ := c_caught X2 (T1.heap.size + 2) (g := F0 m pc ls rest) (hpc := hpc) rfl b5 b6 (Vm.classAt_of_findClass b4) (htab hpl _ b4)
  have hM2 : HX D dA F S A s U.heap locs' := hM.grow hA (fun a ha => by rw [b2 a (by rw [hT1]; exact ha), hT1]) (by rw [← hT1]; omega) (fun y hy => (b1 y hy).imp id (fun h => by rw [h, hT1]; omega))
  obtain ⟨t2, a1, b⟩ := W.widen (Nat.le_refl _) (by omega : n' ≤ w + (B + 10)) (k (T1.heap.size + 2) U.heap locs' hM2) (U.setVm vm') rfl X3
  exact ⟨t2, go0 t2 (go t2 (go2 t2 a1)), b⟩
theorem e_msgL (X : CallFix p m c cc nL s args lw_all own) (hM : HX D dA F S A s H locs) (hE : EX K A l s) (hsize : ls.size = nL) (ht : ThM p l e R s m args below meth c H locs u w cls B pc ls st rest)
    (hfit : Bundle.fit cls = true ∧ (∀ n ∈ names, Bundle.fit n = true) ∧ (cls == "java/lang/StackOverflowError") = false ∧ (cls == "java/lang/OutOfMemoryError") = false ∧ names.length ≤ 3) (hat : ∀ a ∈ Bundle.messageArmAtoms cls names, a.before args s = true) (hB : B ≤ 100000)
    (hR1 : 7 < R.frames) (hR2 : (rest.map fun v => v.category).sum + 10240 ≤ R.locals) (hR3 : u + 3 ≤ R.cells) (hR4 : w + (B + 10) ≤ R.slots) (hne : c.exceptionTable.isEmpty = true) (hlk : meth.locks = false) (hcc : u + 3 ≤ mc) (hss : w + (B + 10) ≤ ms)
    (kt : ∀ (a : Nat) (ce : Cell) (H1 : Heap) (locs1 : List Loc), HX D dA F S A s H1 locs1 → H1[a]? = some ce → ce.vm.isStatics = false → s.vm.findClass cls = some ce.cls → ∀ t' : State, t'.heap = H1 → s.WarmedH t'.vm → Qo args s (.threw a) t') : W p l e R s m args below meth c H locs u w (MQT below Qo args s mc ms A) (F0 m pc ls st) := by
  intro T hT XS
  obtain ⟨hA, hO, hZ, hst, hnc, htr⟩ := hE
  obtain ⟨T1, text, hT1, XT, hx1, hx2, go0⟩ := ht T hT XS
  obtain ⟨U, locs', ce, n', b0, X2, b1, b2, b3, b4, b5, b6, go⟩ := v_msg XT X.1 (htr e XS.admits) hfit.1 hfit.2.1 hfit.2.2.1 hfit.2.2.2.1 hat (fun x hx cell hc => hst x.base (hM.2.2.2.2.2 x hx) cell hc) hx1
    (by rw [Launch.admits_arrayLengthLimit XS.admits]; omega) (by rw [Launch.admits_maxHeapBytes XS.admits]; simp only [componentBytes]; omega) (g := F0 m pc ls rest) rfl (hsize.trans X.2.2.1.symm) (by have := hfit.2.2.2.2; omega) (by show 2 * 0 + (rest.map fun v => v.category).sum + 10240 ≤ R.locals; omega) (by have := hfit.2.2.2.2; omega) hR3 (by omega)
  have hM2 : HX D dA F S A s U.heap locs' := hM.grow hA (fun a ha => by rw [b2 a (by rw [hT1]; exact ha), hT1]) (by rw [← hT1]; omega) (fun y hy => (b1 y hy).imp id (fun h => by rw [h, hT1]; omega))
  obtain ⟨hs2, hrun, hend, hW, hsame⟩ := X2.leaveThrown (T1.heap.size + 2) (g := F0 m pc ls rest) rfl rfl rfl (noH hne pc) hlk
  exact ⟨_, go0 _ (go _ hs2), .threw (T1.heap.size + 2), hrun, hend, kt _ ce U.heap locs' hM2 b5 b6 b4 _ rfl hW, locs', ⟨hW, hsame.mono hcc (by omega)⟩, hM2.2.2.2.2.2⟩
/-- an array of the abstract heap -/
theorem h_arr (hM : HX D dA F S A s H locs) {a t n : Nat} {ty : FieldType} {f : Nat → Int32} (ha : S a = some (.inl (t, n, .inl f))) (hty : (tyX dA)[t]? = some (dA t, ty)) : ∃ cell : Cell, H[a]? = some cell ∧ s.isArrayOf cell ty ∧ cell.slots.size = n ∧ cell.vm.isStatics = false ∧ cell.cls = dA t := by
  obtain ⟨hK, hN, ⟨L, hi, hP, hD⟩, hS⟩ := hM
  obtain ⟨j, hj⟩ := hh_at hi ha
  exact ⟨_, hP _ _ (hws_r hj), (hK.2 t _ hty).1 n (fun j => .int (f j)), arrV_size _ _ _, rfl, rfl⟩
def ixT (j : Int32) (k : Nat) : String := toString "Index " ++ toString j ++ toString " out of bounds for length " ++ toString k
theorem th_of {st0 : List Value} {j : Int32} (hn : n < 2 ^ 31) (hg : ∀ T : State, T.heap = H → Stand p l e R s m args below meth c T locs u w → ∃ k : Nat, k = n ∧ ∀ target, Steps p.tables e below ((T.setTop (F0 m pc ls rest)).pushFrame (.throwNew "java/lang/ArrayIndexOutOfBoundsException" (some (ixT j k)) none)) target → Steps p.tables e below (T.setTop (F0 m pc ls st0)) target) :
    ThM p l e R s m args below meth c H locs u w "java/lang/ArrayIndexOutOfBoundsException" 212 pc ls st0 rest := fun T hT XS => by
  obtain ⟨k, hk, hgo⟩ := hg T hT XS
  subst hk
  exact ⟨T, _, hT, XS, index_text_modelled j k, index_text_bytes j hn, hgo⟩
theorem th_iald {a n : Nat} {f : Nat → Int32} {j : Int32} (X : CallFix p m c cc nL s args lw_all own) (hM : HX D dA F S A s H locs) (ha : S a = some (.inl (0, n, .inl f))) (hout : j < 0 ∨ n ≤ j.toNatClampNeg) (hn : n < 2 ^ 31) (hdg : decode cc pc = .ok (.iaload, 1)) : ThM p l e R s m args below meth c H locs u w "java/lang/ArrayIndexOutOfBoundsException" 212 pc ls (.int j :: .ref a :: rest) rest := by
  obtain ⟨cell, h1, h2, h3, -⟩ := h_arr (ty := .int) hM ha rfl
  exact th_of (j := j) hn (fun T hT XS => ⟨cell.slots.size, h3, XS.ialoadOut X.1 (by rw [hT]; exact h1) h2 (by rw [h3]; exact hout) (g := F0 m pc ls (.int j :: .ref a :: rest)) rfl (rest := rest) rfl (by rw [X.2.1]; exact hdg)⟩)
theorem th_iast {a n : Nat} {f : Nat → Int32} {j v : Int32} (X : CallFix p m c cc nL s args lw_all own) (hM : HX D dA F S A s H locs) (ha : S a = some (.inl (0, n, .inl f))) (hout : j < 0 ∨ n ≤ j.toNatClampNeg) (hn : n < 2 ^ 31) (hdg : decode cc pc = .ok (.iastore, 1)) : ThM p l e R s m args below meth c H locs u w "java/lang/ArrayIndexOutOfBoundsException" 212 pc ls (.int v :: .int j :: .ref a :: rest) rest := by
  obtain ⟨cell, h1, h2, h3, -⟩ := h_arr (ty := .int) hM ha rfl
  exact th_of (j := j) hn (fun T hT XS => ⟨cell.slots.size, h3, XS.iastoreOut X.1 (by rw [hT]; exact h1) h2 (by rw [h3]; exact hout) (g := F0 m pc ls (.int v :: .int j :: .ref a :: rest)) rfl (rest := rest) rfl (by rw [X.2.1]; exact hdg)⟩)
theorem th_bald {a n : Nat} {f : Nat → Int32} {j : Int32} (X : CallFix p m c cc nL s args lw_all own) (hM : HX D dA F S A s H locs) (ha : S a = some (.inl (2, n, .inl f))) (hout : j < 0 ∨ n ≤ j.toNatClampNeg) (hn : n < 2 ^ 31) (hdg : decode cc pc = .ok (.baload, 1)) : ThM p l e R s m args below meth c H locs u w "java/lang/ArrayIndexOutOfBoundsException" 212 pc ls (.int j :: .ref a :: rest) rest := by
  obtain ⟨cell, h1, h2, h3, -⟩ := h_arr (ty := .byte) hM ha rfl
  exact th_of (j := j) hn (fun T hT XS => ⟨cell.slots.size, h3, XS.baloadOut X.1 (by rw [hT]; exact h1) h2 (by rw [h3]; exact hout) (g := F0 m pc ls (.int j :: .ref a :: rest)) rfl (rest := rest) rfl (by rw [X.2.1]; exact hdg)⟩)
theorem th_bast {a n : Nat} {f : Nat → Int32} {j v : Int32} (X : CallFix p m c cc nL s args lw_all own) (hM : HX D dA F S A s H locs) (ha : S a = some (.inl (2, n, .inl f))) (hout : j < 0 ∨ n ≤ j.toNatClampNeg) (hn : n < 2 ^ 31) (hdg : decode cc pc = .ok (.bastore, 1)) : ThM p l e R s m args below meth c H locs u w "java/lang/ArrayIndexOutOfBoundsException" 212 pc ls (.int v :: .int j :: .ref a :: rest) rest := by
  obtain ⟨cell, h1, h2, h3, -⟩ := h_arr (ty := .byte) hM ha rfl
  exact th_of (j := j) hn (fun T hT XS => ⟨cell.slots.size, h3, XS.bastoreOut X.1 (by rw [hT]; exact h1) h2 (by rw [h3]; exact hout) (g := F0 m pc ls (.int v :: .int j :: .ref a :: rest)) rfl (rest := rest) rfl (by rw [X.2.1]; exact hdg)⟩)
theorem th_sald {a n : Nat} {f : Nat → Int32} {j : Int32} (X : CallFix p m c cc nL s args lw_all own) (hM : HX D dA F S A s H locs) (ha : S a = some (.inl (3, n, .inl f))) (hout : j < 0 ∨ n ≤ j.toNatClampNeg) (hn : n < 2 ^ 31) (hdg : decode cc pc = .ok (.saload, 1)) : ThM p l e R s m args below meth c H locs u w "java/lang/ArrayIndexOutOfBoundsException" 212 pc ls (.int j :: .ref a :: rest) rest := by
  obtain ⟨cell, h1, h2, h3, -⟩ := h_arr (ty := .short) hM ha rfl
  exact th_of (j := j) hn (fun T hT XS => ⟨cell.slots.size, h3, XS.saloadOut X.1 (by rw [hT]; exact h1) h2 (by rw [h3]; exact hout) (g := F0 m pc ls (.int j :: .ref a :: rest)) rfl (rest := rest) rfl (by rw [X.2.1]; exact hdg)⟩)
theorem th_sast {a n : Nat} {f : Nat → Int32} {j v : Int32} (X : CallFix p m c cc nL s args lw_all own) (hM : HX D dA F S A s H locs) (ha : S a = some (.inl (3, n, .inl f))) (hout : j < 0 ∨ n ≤ j.toNatClampNeg) (hn : n < 2 ^ 31) (hdg : decode cc pc = .ok (.sastore, 1)) : ThM p l e R s m args below meth c H locs u w "java/lang/ArrayIndexOutOfBoundsException" 212 pc ls (.int v :: .int j :: .ref a :: rest) rest := by
  obtain ⟨cell, h1, h2, h3, -⟩ := h_arr (ty := .short) hM ha rfl
  exact th_of (j := j) hn (fun T hT XS => ⟨cell.slots.size, h3, XS.sastoreOut X.1 (by rw [hT]; exact h1) h2 (by rw [h3]; exact hout) (g := F0 m pc ls (.int v :: .int j :: .ref a :: rest)) rfl (rest := rest) rfl (by rw [X.2.1]; exact hdg)⟩)
theorem th_neg {n : Int32} {at0 : ArrayType} (X : CallFix p m c cc nL s args lw_all own) (hn : n < 0) (hdg : decode cc pc = .ok (.newarray at0, 2)) : ThM p l e R s m args below meth c H locs u w "java/lang/NegativeArraySizeException" 44 pc ls (.int n :: rest) rest := fun T hT XS =>
  ⟨T, toString n, hT, XS, negative_text_modelled hn, negative_text_bytes n, fun target h => XS.newarrayNegative X.1 (g := F0 m pc ls (.int n :: rest)) rfl hn (rest := rest) rfl (by rw [X.2.1]; exact hdg) target h⟩
theorem th_len (X : CallFix p m c cc nL s args lw_all own) (hdg : decode cc pc = .ok (.arraylength, 1)) : ThN p l e R s m args below meth c H locs u w pc ls (.null :: rest) rest := fun T hT XS target h => XS.arraylengthNull X.1 (g := F0 m pc ls (.null :: rest)) rfl (rest := rest) rfl (by rw [X.2.1]; exact hdg) target h
theorem th_iasN {v j : Int32} (X : CallFix p m c cc nL s args lw_all own) (hdg : decode cc pc = .ok (.iastore, 1)) : ThN p l e R s m args below meth c H locs u w pc ls (.int v :: .int j :: .null :: rest) rest := fun T hT XS target h => XS.iastoreNull X.1 (g := F0 m pc ls (.int v :: .int j :: .null :: rest)) rfl (rest := rest) rfl (by rw [X.2.1]; exact hdg) target h
end EROWS
