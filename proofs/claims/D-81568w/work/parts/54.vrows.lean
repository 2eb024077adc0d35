/-! THE MACHINE'S OWN EXCEPTIONS, thrown in a frame that may catch them: up to the note over the frame (traces off) -/
set_option maxRecDepth 100000
section VROWS
variable {p : Program} {l : Launch} {e : Env} {R : Room} {s : State} {m : MethodId} {args : Array Value} {below : List Frame} {meth : Method} {c : Code} {V : State} {locs : List Loc} {cells slots : Nat}
theorem v_push (X : Stand p l e R s m args below meth c V locs cells slots) (g : JFrame) (a : Addr) : (V.setTop g).pushFrame (.throwing a) = V.setFrames (.throwing a :: .java g :: below) := by
  have h := X.here
  obtain ⟨g₀, hg⟩ := Option.isSome_iff_exists.mp h.top
  obtain ⟨r, hr⟩ := State.topJava?_eq_some.mp hg
  have hf : (V.setTop g).frames = .java g :: V.frames.tail := State.frames_setTop' g h.top
  rw [State.pushFrame, hf, X.tail, State.setTop_of_frames _ hr, State.setFrames_setFrames]
set_option maxHeartbeats 1000000 in
theorem v_npe (X : Stand p l e R s m args below meth c V locs cells slots) (hexec : p.tables.exec = Jvm.exec) (htr : e.platform.stackTraces = false) {n : Nat} (h : ∀ a ∈ Bundle.npeArmAtoms n, a.before args s = true) (hlocs : ∀ x ∈ locs, ∀ cell, s.heap[x.base]? = some cell → cell.vm.isStatics = false)
    {g : JFrame} (hg : g.method = m) (hsize : g.locals.size = c.maxLocals) (hRframes : 7 < R.frames) (hRlocals : 2 * g.monitorRoom + (g.stack.map fun v => v.category).sum + 10240 ≤ R.locals) (hRcells : cells + 1 ≤ R.cells) (hRslots : slots + n ≤ R.slots) :
    ∃ (U : State) (locs' : List Loc) (ce : Cell), Stand p l e R s m args below meth c U locs' (cells + 1) (slots + n) ∧ (∀ y ∈ locs', y ∈ locs ∨ y.base = V.heap.size) ∧ (∀ a0 : Nat, a0 < V.heap.size → U.heap[a0]? = V.heap[a0]?) ∧ V.heap.size ≤ U.heap.size ∧ s.vm.findClass Bundle.nN = some ce.cls ∧ U.heap[V.heap.size]? = some ce ∧ ce.vm.isStatics = false ∧
      ∀ target, Steps p.tables e below ((U.setTop g).pushFrame (.throwing V.heap.size)) target → Steps p.tables e below ((V.setTop g).pushFrame (.throwNew "java/lang/NullPointerException" none none)) target := by
  have ow : e.platform.frameOwnsMonitors = true := by rw [X.admits.platform]
  have fz : e.platform.finalization = false := by rw [X.admits.platform]
  have pl : e.platform.magicAccessors = ({} : Platform).magicAccessors := by rw [X.admits.platform]
  have pc2 : e.platform.arrayCloneIsPublic = true := by rw [X.admits.platform]
  have w : ∀ x, x ∈ Bundle.npeArmAtoms n → x.holds args s none s [] = true := fun x hx => h x hx
  obtain ⟨T, Z, L, LZ, Y⟩ := ThrowableC.of_atoms (args := args) ow fz pl (fun x hx => h x (by simp [Bundle.npeArmAtoms, hx]))
  obtain ⟨N, LN, hcN, hnF, hordN, hffS⟩ := NpeC.of_atoms (args := args) pl pc2 L Y (fun x hx => h x (by simp [Bundle.npeArmAtoms, hx]))
  obtain ⟨P1, L1, m1, u1⟩ := PassC.of_atoms (args := args) (s := s) pl (X := Bundle.nN) (Y := Bundle.rN) (by decide) (by decide) LibCode.NullPointerException.Init0.at_0 LibCode.NullPointerException.Init0.at_1 LibCode.NullPointerException.Init0.at_4 (fun x hx => h x (by simp [Bundle.npeArmAtoms, hx]))
  obtain ⟨P2, L2, m2, u2⟩ := PassC.of_atoms (args := args) (s := s) pl (X := Bundle.rN) (Y := Bundle.eN) (by decide) (by decide) LibCode.RuntimeException.Init0.at_0 LibCode.RuntimeException.Init0.at_1 LibCode.RuntimeException.Init0.at_4 (fun x hx => h x (by simp [Bundle.npeArmAtoms, hx]))
  obtain ⟨P3, L3, m3, u3⟩ := PassC.of_atoms (args := args) (s := s) pl (X := Bundle.eN) (Y := Bundle.tN) (by decide) (by decide) LibCode.Exception.Init0.at_0 LibCode.Exception.Init0.at_1 LibCode.Exception.Init0.at_4 (fun x hx => h x (by simp [Bundle.npeArmAtoms, hx]))
  have hfound : s.vm.findClass Bundle.nN = some P1.m.cls := findClass_of_methodNamed m1
  have ecl : N.cN = P1.m.cls := Option.some.inj (hcN.symm.trans hfound)
  have hk : s.vm.classes[P1.m.cls]? = some N.kN := by rw [← ecl]; exact LN.cls
  have hinit := Cond.initialized_spec hfound hk (w (.initialized Bundle.nN) (by simp [Bundle.npeArmAtoms]))
  have hctor : N.kN.findMethod "<init>" "()V" = some P1.m.idx := findMethod_of_methodNamed m1 hk
  obtain ⟨c1, k1, hc1, hk1, -, -, -, hn⟩ := Cond.instantiable_spec (w (.instantiable Bundle.nN n) (by simp [Bundle.npeArmAtoms]))
  cases Option.some.inj (hc1.symm.trans hfound)
  cases Option.some.inj (hk1.symm.trans hk)
  have l1 : P1.sup = P2.m := Option.some.inj (u1.symm.trans m2)
  have l2 : P2.sup = P3.m := Option.some.inj (u2.symm.trans m3)
  have l3 : P3.sup = Z.m T.toThrowableT := Option.some.inj (u3.symm.trans Y.init0)
  have hsel0 : selectMethod e.platform s.vm P1.m.cls T.fill0 = .method T.fill0 := by
    obtain ⟨c2, r2, mm, q1, q2, q3, q4, -⟩ := Cond.selects_spec (w (.selects Bundle.nN Bundle.tFill0 Bundle.tFill0) (by simp [Bundle.npeArmAtoms]))
    cases Option.some.inj (q1.symm.trans hfound)
    cases Option.some.inj (q2.symm.trans (State.methodFound?_of_named Y.fill0 (by decide)))
    cases Option.some.inj (q3.symm.trans Y.fill0)
    rw [Launch.admits_selectMethod X.admits]; exact q4
  have hselF : selectMethod e.platform s.vm P1.m.cls T.fill = .method N.fill := by
    obtain ⟨c2, r2, mm, q1, q2, q3, q4, -⟩ := Cond.selects_spec (w (.selects Bundle.nN Bundle.tFill Bundle.nFill) (by simp [Bundle.npeArmAtoms]))
    cases Option.some.inj (q1.symm.trans hfound)
    cases Option.some.inj (q2.symm.trans (State.methodFound?_of_named Y.fill (by decide)))
    cases Option.some.inj (q3.symm.trans hnF)
    rw [Launch.admits_selectMethod X.admits]; exact q4
  obtain ⟨cs0, hcs0, hiss⟩ := Y.statics
  obtain ⟨u0, hu0⟩ := Cond.staticRefV Y.unassigned L.unassignedStatic L.statics hcs0 hiss (w (.isRef (.static Bundle.tN "UNASSIGNED_STACK" Bundle.steD)) (by simp [Bundle.npeArmAtoms]))
  obtain ⟨sen, hsen⟩ := Cond.staticRefV Y.sentinel L.sentinelStatic L.statics hcs0 hiss (w (.isRef (.static Bundle.tN "SUPPRESSED_SENTINEL" Bundle.listD)) (by simp [Bundle.npeArmAtoms]))
  obtain ⟨ci198, i198, fB, b1, b2, b3, b4, -, hnB, htB, hffB⟩ := Cond.ownField (t := .object "java/lang/Object") Y.found L.cls (by decide +kernel) (w (.fieldLink Bundle.tN 198 Bundle.tN "backtrace" Bundle.objD) (by simp [Bundle.npeArmAtoms])) (w (.lays Bundle.tN Bundle.tN "backtrace" Bundle.objD) (by simp [Bundle.npeArmAtoms])) e.platform pl
  obtain ⟨cS, hcS, heS, -, hkeep⟩ := X.same.2.2.2.2.2 T.aS cs0 hcs0
  have hcS : V.heap[T.aS]? = some cS := hcS
  have hno : ∀ i, (⟨T.aS, i⟩ : Loc) ∉ locs := fun i hm => by
    have := hlocs _ hm cs0 hcs0
    rw [hiss] at this; cases this
  have hkn : cS.vm ≠ .unknown := by
    rw [heS]; intro hu
    rw [show cs0.vm = .unknown from hu] at hiss
    cases hiss
  obtain ⟨tyC, dC, hdC, hdnC⟩ := Cond.laysAt hfound hk Y.cause (w (.lays Bundle.nN Bundle.tN "cause" "Ljava/lang/Throwable;") (by simp [Bundle.npeArmAtoms]))
  obtain ⟨tyS, dS, hdS, hdnS⟩ := Cond.laysAt hfound hk Y.stack (w (.lays Bundle.nN Bundle.tN "stackTrace" Bundle.steD) (by simp [Bundle.npeArmAtoms]))
  obtain ⟨tyP, dP, hdP, hdnP⟩ := Cond.laysAt hfound hk Y.supp (w (.lays Bundle.nN Bundle.tN "suppressedExceptions" Bundle.listD) (by simp [Bundle.npeArmAtoms]))
  obtain ⟨tyX, dX, hdX, hdnX⟩ := Cond.laysAt hfound hk hffS (w (.lays Bundle.nN Bundle.nN "extendedMessageState" "I") (by simp [Bundle.npeArmAtoms, Bundle.npeAtoms]))
  have hnX : N.fState.name = "extendedMessageState" := (State.fieldFound?_type hffS (t := .int) (by decide +kernel)).1
  obtain ⟨tyB, dB, hdB, hdnB⟩ := Cond.laysAt hfound hk hffB (w (.lays Bundle.nN Bundle.tN "backtrace" Bundle.objD) (by simp [Bundle.npeArmAtoms]))
  have bC := Cond.laysApart hdB hdC hdnB hdnC (by rw [hnB, Y.causeName]; decide)
  have bS := Cond.laysApart hdB hdS hdnB hdnS (by rw [hnB, Y.stackName]; decide)
  have bP := Cond.laysApart hdB hdP hdnB hdnP (by rw [hnB, Y.suppName]; decide)
  have bX := Cond.laysApart hdB hdX hdnB hdnX (by rw [hnB, hnX]; decide)
  have hskip : SkipFacts T e.platform s (fun u => u) u0 ((npeCell N.toNpeT (preparedCellV T.toThrowableT (freshCell P1.m.cls N.kN) V.heap.size u0 sen) V.cur).withEntry V.cur) :=
    ⟨{ ci198 := ci198, i198 := i198, fBack := fB }, ⟨b1, b2, b3, b4⟩, by
      have := fresh_default (c := P1.m.cls) tyB
      rw [htB] at this
      simpa [npeCell, preparedCellV, Cell.setSlot, Cell.withEntry, Array.getElem?_setIfInBounds, bC, bS, bP, bX, bC.symm, bS.symm, bP.symm, bX.symm, defaultValue] using this, fun _ _ => rfl⟩
  have hA : At V g.method c below := by rw [hg]; exact X.here
  obtain ⟨hbe, hfw⟩ := X.vmMayThrow hsize (.throwNew "java/lang/NullPointerException" none none) (fun f hf => by cases hf) rfl hRlocals
  have hfr : V.frames.length + [P2, P3].length + 5 < (e.platform.stackLimits V.me).1 := by have := X.framesAbove hRframes; simp; omega
  have hwd : (stackUse (.java g :: V.frames.tail)).2 + 13 * [P2, P3].length + 68 ≤ (e.platform.stackLimits V.me).2 := by have := X.stackAbove hsize (K := 13 * 2 + 68) (by omega); simp; omega
  obtain ⟨vm', hW', st⟩ := Steps.vmThrowsNpeColdByV p (s₀ := s) (S := V) (g := g) hA hexec T L Z LZ N LN X.warmed (t := V.cur) rfl P1 L1 [P2, P3] (fun P hP => by
      simp only [List.mem_cons, List.not_mem_nil, or_false] at hP
      rcases hP with rfl | rfl
      · exact L2
      · exact L3) l1 ⟨l2, l3, trivial⟩ hfound hk hinit hordN hctor
    (Launch.admits_hotImplicitExceptions X.admits) hbe hfw (X.cellsAbove hRcells) (X.slotsAbove (by rw [hn]; exact hRslots))
    (Nn := fun u => u) heapOnly_id (fun _ _ => rfl) (fun _ => rfl) (fun u x y => setCell_twice _ _ _ _) (fun _ => Nat.le_refl _) (cN := ((npeCell N.toNpeT (preparedCellV T.toThrowableT (freshCell P1.m.cls N.kN) V.heap.size u0 sen) V.cur).withEntry V.cur))
    hsel0 hcS hkn (by rw [hkeep _ (hno _)]; exact hu0) (by rw [fresh_default tyX, LN.stateInt]; rfl)
    (Cond.laysApart hdC hdX hdnC hdnX (by rw [Y.causeName, hnX]; decide)) (Cond.laysApart hdS hdX hdnS hdnX (by rw [Y.stackName, hnX]; decide)) (Cond.laysApart hdP hdX hdnP hdnX (by rw [Y.suppName, hnX]; decide))
    (Takes.of_laid hk hordN tyS (by rw [Y.stackType]; exact fits_refV_array _ u0)) (Takes.of_laid hk hordN tyX (by rw [LN.stateInt]; rfl)) (fun _ hu => hu) (fun _ hu => hu) rfl rfl rfl (by simp [npeCell, preparedCellV, Cell.setSlot, Cell.withEntry]) hskip (fun _ _ hA hW _ hroom _ hrest => L.nativeOff p htr hA hW hroom hrest) hselF (by rw [hkeep _ (hno _)]; exact hsen)
    (Takes.of_laid hk hordN tyC (by rw [Y.causeType]; rfl)) (Takes.of_laid hk hordN tyP (by rw [Y.suppType]; exact fits_refV_object _ sen)) Y.objLocals rfl hfr hwd
  rw [npeBareV_eq T.toThrowableT N.toNpeT V.heap.size u0 sen V.cur rfl rfl] at st
  have X2 := (X.pushed (freshCell P1.m.cls N.kN)).noted hW'
  have hsz : ((V.pushCell (freshCell P1.m.cls N.kN)).setVm vm').heap.size = V.heap.size + 1 := State.heap_size_pushCell _ _
  have ha : V.heap.size < ((V.pushCell (freshCell P1.m.cls N.kN)).setVm vm').heap.size := by rw [hsz]; omega
  have hcell : ((V.pushCell (freshCell P1.m.cls N.kN)).setVm vm').heap[V.heap.size]? = some (freshCell P1.m.cls N.kN) := State.heap_pushCell_size V (freshCell P1.m.cls N.kN)
  have X3 := ((((X2.stored hcell T.fCause.slot (.ref V.heap.size)).storedAgain ha T.fStack.slot u0.v).storedAgain ha T.fSupp.slot sen.v).storedAgain ha N.fState.slot (.int 1)).storedAgain ha T.fStack.slot u0.v
  have hsl : (freshCell P1.m.cls N.kN).slots.size = n := by simp [hn]
  rw [hsl] at X3
  refine ⟨_, _, _, X3, ?_, ?_, ?_, ?_, heapAt_setCell_self _ ha, ?_, fun target ht => st target ?_⟩
  · intro y hy
    simp only [List.append_assoc, List.mem_append, List.mem_cons, List.not_mem_nil, or_false] at hy
    rcases hy with hy | rfl | rfl | rfl | rfl | rfl
    · exact Or.inl hy
    all_goals exact Or.inr rfl
  · intro a0 h0
    rw [State.heap_setCell_other (by omega : V.heap.size ≠ a0)]
    show (V.heap.push _)[a0]? = _
    rw [Array.getElem?_push, if_neg (by omega)]
  · rw [size_setCell]
    omega
  · exact hfound
  · rfl
  · rw [X.tail]
    rw [v_push X3] at ht
    exact ht
end VROWS
