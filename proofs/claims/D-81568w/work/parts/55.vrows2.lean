/-! THE MACHINE'S OWN EXCEPTIONS WITH A MESSAGE, up to the note over the frame (traces off) -/
set_option maxRecDepth 100000
section VROWS2
variable {p : Program} {l : Launch} {e : Env} {R : Room} {s : State} {m : MethodId} {args : Array Value} {below : List Frame} {meth : Method} {c : Code} {V : State} {locs : List Loc} {cells slots : Nat}
set_option maxHeartbeats 1000000 in
theorem v_msg (X : Stand p l e R s m args below meth c V locs cells slots) (hexec : p.tables.exec = Jvm.exec) (htr : e.platform.stackTraces = false) {cls : String} {names : List String} {text : String} (hcls : Bundle.fit cls = true) (hnames : ∀ n ∈ names, Bundle.fit n = true) (hsoe : (cls == "java/lang/StackOverflowError") = false) (hoom : (cls == "java/lang/OutOfMemoryError") = false)
    (h : ∀ a ∈ Bundle.messageArmAtoms cls names, a.before args s = true) (hlocs : ∀ x ∈ locs, ∀ cell, s.heap[x.base]? = some cell → cell.vm.isStatics = false) (htext : (text == notModelled) = false) (hlimit : ¬ (stringBytes (stringToUtf16 text)).size > e.platform.arrayLengthLimit) (hheap : ¬ (stringBytes (stringToUtf16 text)).size * componentBytes .byte > e.platform.maxHeapBytes)
    {g : JFrame} (hg : g.method = m) (hsize : g.locals.size = c.maxLocals) (hRframes : names.length + 4 < R.frames) (hRlocals : 2 * g.monitorRoom + (g.stack.map fun v => v.category).sum + 10240 ≤ R.locals) (hshort : 13 * names.length + 55 ≤ 10240) (hRcells : cells + 3 ≤ R.cells) (hRslots : slots + ((stringBytes (stringToUtf16 text)).size + 4 + 6) ≤ R.slots) :
    ∃ (U : State) (locs' : List Loc) (ce : Cell) (n' : Nat), n' ≤ slots + ((stringBytes (stringToUtf16 text)).size + 4 + 6) ∧ Stand p l e R s m args below meth c U locs' (cells + 3) n' ∧ (∀ y ∈ locs', y ∈ locs ∨ y.base = V.heap.size + 2) ∧ (∀ a0 : Nat, a0 < V.heap.size → U.heap[a0]? = V.heap[a0]?) ∧ V.heap.size + 3 ≤ U.heap.size ∧ s.vm.findClass cls = some ce.cls ∧ U.heap[V.heap.size + 2]? = some ce ∧ ce.vm.isStatics = false ∧
      ∀ target, Steps p.tables e below ((U.setTop g).pushFrame (.throwing (V.heap.size + 2))) target → Steps p.tables e below ((V.setTop g).pushFrame (.throwNew cls (some text) none)) target := by
  have ow : e.platform.frameOwnsMonitors = true := by rw [X.admits.platform]
  have fz : e.platform.finalization = false := by rw [X.admits.platform]
  have pl : e.platform.magicAccessors = ({} : Platform).magicAccessors := by rw [X.admits.platform]
  have w : ∀ x, x ∈ Bundle.messageArmAtoms cls names → x.holds args s none s [] = true := fun x hx => h x hx
  obtain ⟨T, Z0, L, -, Y⟩ := ThrowableC.of_atoms (args := args) ow fz pl (fun x hx => h x (by simp [Bundle.messageArmAtoms, hx]))
  obtain ⟨Z, M, LZ, LM, hnZ⟩ := Init0T.ofS_atoms (args := args) pl L Y (fun x hx => h x (by simp [Bundle.messageArmAtoms, hx]))
  obtain ⟨P1, Ps, hlen, L1, hL, m1, l1, l2⟩ := Bundle.chainS (args := args) pl hnZ names cls hcls hnames (fun x hx => h x (by simp [Bundle.messageArmAtoms, hx]))
  obtain ⟨Zs, LZs, hn4, hfv, hfc⟩ := StringT.of_atoms (args := args) (fun x hx => h x (by simp [Bundle.messageArmAtoms, hx]))
  have hfound : s.vm.findClass cls = some P1.m.cls := findClass_of_methodNamed m1
  obtain ⟨c1, kX, hc1, hk, hord, -, -, hn6⟩ := Cond.instantiable_spec (w (.instantiable cls 6) (by simp [Bundle.messageArmAtoms]))
  cases Option.some.inj (hc1.symm.trans hfound)
  have hinit := Cond.initialized_spec hfound hk (w (.initialized cls) (by simp [Bundle.messageArmAtoms]))
  have hctor : kX.findMethod "<init>" "(Ljava/lang/String;)V" = some P1.m.idx := findMethod_of_methodNamed m1 hk
  have hsel0 : selectMethod e.platform s.vm P1.m.cls T.fill0 = .method T.fill0 := by
    obtain ⟨c2, r2, mm, q1, q2, q3, q4, -⟩ := Cond.selects_spec (w (.selects cls Bundle.tFill0 Bundle.tFill0) (by simp [Bundle.messageArmAtoms]))
    cases Option.some.inj (q1.symm.trans hfound)
    cases Option.some.inj (q2.symm.trans (State.methodFound?_of_named Y.fill0 (by decide)))
    cases Option.some.inj (q3.symm.trans Y.fill0)
    rw [Launch.admits_selectMethod X.admits]; exact q4
  have hselF : selectMethod e.platform s.vm P1.m.cls T.fill = .method T.fill := by
    obtain ⟨c2, r2, mm, q1, q2, q3, q4, -⟩ := Cond.selects_spec (w (.selects cls Bundle.tFill Bundle.tFill) (by simp [Bundle.messageArmAtoms]))
    cases Option.some.inj (q1.symm.trans hfound)
    cases Option.some.inj (q2.symm.trans (State.methodFound?_of_named Y.fill (by decide)))
    cases Option.some.inj (q3.symm.trans Y.fill)
    rw [Launch.admits_selectMethod X.admits]; exact q4
  obtain ⟨cs0, hcs0, hiss⟩ := Y.statics
  obtain ⟨u0, hu0⟩ := Cond.staticRefV Y.unassigned L.unassignedStatic L.statics hcs0 hiss (w (.isRef (.static Bundle.tN "UNASSIGNED_STACK" Bundle.steD)) (by simp [Bundle.messageArmAtoms]))
  obtain ⟨sen, hsen⟩ := Cond.staticRefV Y.sentinel L.sentinelStatic L.statics hcs0 hiss (w (.isRef (.static Bundle.tN "SUPPRESSED_SENTINEL" Bundle.listD)) (by simp [Bundle.messageArmAtoms]))
  obtain ⟨ci198, i198, fB, b1, b2, b3, b4, -, hnB, htB, hffB⟩ := Cond.ownField (t := .object "java/lang/Object") Y.found L.cls (by decide +kernel) (w (.fieldLink Bundle.tN 198 Bundle.tN "backtrace" "Ljava/lang/Object;") (by simp [Bundle.messageArmAtoms])) (w (.lays Bundle.tN Bundle.tN "backtrace" "Ljava/lang/Object;") (by simp [Bundle.messageArmAtoms])) e.platform pl
  obtain ⟨cS, hcS, heS, -, hkeep⟩ := X.same.2.2.2.2.2 T.aS cs0 hcs0
  have hcS : V.heap[T.aS]? = some cS := hcS
  have hno : ∀ i, (⟨T.aS, i⟩ : Loc) ∉ locs := fun i hm => by
    have := hlocs _ hm cs0 hcs0
    rw [hiss] at this; cases this
  have hkn : cS.vm ≠ .unknown := by
    rw [heS]; intro hu
    rw [show cs0.vm = .unknown from hu] at hiss
    cases hiss
  obtain ⟨iM, hffM⟩ := Y.msg
  obtain ⟨tyC, dC, hdC, hdnC⟩ := Cond.laysAt hfound hk Y.cause (w (.lays cls Bundle.tN "cause" "Ljava/lang/Throwable;") (by simp [Bundle.messageArmAtoms]))
  obtain ⟨tyS, dS, hdS, hdnS⟩ := Cond.laysAt hfound hk Y.stack (w (.lays cls Bundle.tN "stackTrace" Bundle.steD) (by simp [Bundle.messageArmAtoms]))
  obtain ⟨tyP, dP, hdP, hdnP⟩ := Cond.laysAt hfound hk Y.supp (w (.lays cls Bundle.tN "suppressedExceptions" Bundle.listD) (by simp [Bundle.messageArmAtoms]))
  obtain ⟨tyM, dM, hdM, hdnM⟩ := Cond.laysAt hfound hk hffM (w (.lays cls Bundle.tN "detailMessage" "Ljava/lang/String;") (by simp [Bundle.messageArmAtoms]))
  obtain ⟨tyB, dB, hdB, hdnB⟩ := Cond.laysAt hfound hk hffB (w (.lays cls Bundle.tN "backtrace" "Ljava/lang/Object;") (by simp [Bundle.messageArmAtoms]))
  have bC := Cond.laysApart hdB hdC hdnB hdnC (by rw [hnB, Y.causeName]; decide)
  have bS := Cond.laysApart hdB hdS hdnB hdnS (by rw [hnB, Y.stackName]; decide)
  have bP := Cond.laysApart hdB hdP hdnB hdnP (by rw [hnB, Y.suppName]; decide)
  have hskip : SkipFacts T e.platform s (fun u => u) u0 ((preparedCellV T.toThrowableT (freshCell P1.m.cls kX) (V.heap.size + 2) u0 sen).withEntry V.cur) :=
    ⟨{ ci198 := ci198, i198 := i198, fBack := fB }, ⟨b1, b2, b3, b4⟩, by
      have := fresh_default (c := P1.m.cls) tyB
      rw [htB] at this
      simpa [preparedCellV, Cell.setSlot, Cell.withEntry, Array.getElem?_setIfInBounds, bC, bS, bP, bC.symm, bS.symm, bP.symm, defaultValue] using this, fun _ _ => rfl⟩
  have hA : At V g.method c below := by rw [hg]; exact X.here
  obtain ⟨hbe, hfw⟩ := X.vmMayThrow hsize (.throwNew cls (some text) none) (fun f hf => by cases hf) rfl hRlocals
  have hfr : V.frames.length + Ps.length + 4 < (e.platform.stackLimits V.me).1 := by have := X.framesAbove hRframes; rw [hlen]; omega
  have hwd : (stackUse (.java g :: V.frames.tail)).2 + 13 * Ps.length + 55 ≤ (e.platform.stackLimits V.me).2 := by have := X.stackAbove hsize (K := 13 * names.length + 55) (by omega); rw [hlen]; omega
  have hsl : V.slotsUsed + (stringBytes (stringToUtf16 text)).size + Zs.kS.instanceTypes.size + kX.instanceTypes.size ≤ e.platform.maxSlots := by have := X.slotsAbove hRslots; rw [hn4, hn6]; omega
  obtain ⟨vm', hW', st⟩ := Steps.vmThrowsMessageColdByV p (s₀ := s) (S := V) (g := g) hA hexec T L Z LZ M LM X.warmed (t := V.cur) rfl Zs LZs P1 L1 Ps hL l1 l2 hsoe hoom hfound hk hinit hord hctor
    (Launch.admits_hotImplicitExceptions X.admits) hbe hfw htext hlimit hheap (X.cellsAbove hRcells) hsl (hfv _) (hfc _)
    (Nn := fun u => u) heapOnly_id (fun _ _ => rfl) (fun _ => rfl) (fun u x y => setCell_twice _ _ _ _) (fun _ => Nat.le_refl _) (cN := ((preparedCellV T.toThrowableT (freshCell P1.m.cls kX) (V.heap.size + 2) u0 sen).withEntry V.cur))
    hsel0 hcS hkn (by rw [hkeep _ (hno _)]; exact hu0) (Takes.of_laid hk hord tyS (by rw [Y.stackType]; exact fits_refV_array _ u0)) (fun _ hu => hu) (fun _ hu => hu) rfl rfl rfl (by simp [preparedCellV, Cell.setSlot, Cell.withEntry]) hskip (fun _ _ hA hW _ hroom _ hrest => L.nativeOff p htr hA hW hroom hrest) hselF (by rw [hkeep _ (hno _)]; exact hsen)
    (Takes.of_laid hk hord tyC (by rw [Y.causeType]; rfl)) (Takes.of_laid hk hord tyP (by rw [Y.suppType]; exact fits_refV_object _ sen)) (Takes.of_laid hk hord tyM (by rw [Y.msgType]; rfl)) Y.objLocals rfl hfr hwd
  rw [plainBareV_eq T.toThrowableT (V.heap.size + 2) u0 sen (.ref (V.heap.size + 1)) V.cur rfl rfl] at st
  obtain ⟨-, -, w3, w4, w5, -, -⟩ := withThrown_facts e.platform V Zs text P1.m.cls kX
  have X3 := ((X.pushed (bytesOf Zs.cB (stringToUtf16 text))).pushed (stringAt Zs.cS Zs.kS Zs.fv Zs.fc (stringToUtf16 text) V.heap.size)).pushed (freshCell P1.m.cls kX)
  rw [← withString_eq] at X3
  have X4 := X3.noted hW'
  have ha : (V.heap.size + 2) < ((withThrown V Zs text P1.m.cls kX).setVm vm').heap.size := by show _ < (withThrown V Zs text P1.m.cls kX).heap.size; rw [w3]; omega
  have hcell : ((withThrown V Zs text P1.m.cls kX).setVm vm').heap[(V.heap.size + 2)]? = some (freshCell P1.m.cls kX) := w4
  have X5 := ((((X4.stored hcell T.fCause.slot (.ref (V.heap.size + 2))).storedAgain ha T.fStack.slot u0.v).storedAgain ha T.fSupp.slot sen.v).storedAgain ha T.fStack.slot u0.v).storedAgain ha T.fMsg.slot (.ref (V.heap.size + 1))
  have z1 : (bytesOf Zs.cB (stringToUtf16 text)).slots.size = (stringBytes (stringToUtf16 text)).size := by
    rw [(Cell.writeAll_facts _ _).2.2]; simp [bytes0]
  have z2 : (stringAt Zs.cS Zs.kS Zs.fv Zs.fc (stringToUtf16 text) V.heap.size).slots.size = 4 := by simp [string0, Cell.setSlot, hn4]
  have z3 : (freshCell P1.m.cls kX).slots.size = 6 := by simp [hn6]
  refine ⟨_, _, _, _, ?_, X5, ?_, ?_, ?_, hfound, heapAt_setCell_self _ ha, rfl, fun target ht => st target ?_⟩
  · rw [z1, z2, z3]; omega
  · intro y hy
    simp only [List.append_assoc, List.mem_append, List.mem_cons, List.not_mem_nil, or_false] at hy
    rcases hy with hy | rfl | rfl | rfl | rfl | rfl
    · exact Or.inl hy
    all_goals exact Or.inr rfl
  · intro a0 h0
    rw [State.heap_setCell_other (by omega : V.heap.size + 2 ≠ a0)]
    show (withThrown V Zs text P1.m.cls kX).heap[a0]? = _
    exact w5 a0 h0
  · rw [size_setCell]
    show V.heap.size + 3 ≤ (withThrown V Zs text P1.m.cls kX).heap.size
    rw [w3]
    exact Nat.le_refl _
  · rw [X.tail]
    rw [v_push X5] at ht
    exact ht
end VROWS2
