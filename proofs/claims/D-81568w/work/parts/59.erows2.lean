/-! CASTS THAT FAIL; TABLES OF HANDLERS; contracts of the methods in which the machine may throw -/
set_option maxRecDepth 100000
theorem find_more {vm : Vm} {name : String} {c : ClassId} (h : vm.findClass name = some c) : ∃ k, vm.classes[c]? = some k ∧ k.name = name ∧ k.hidden = none ∧ k.loader = none := by
  obtain ⟨hlt, hp, _⟩ := Array.findIdx?_eq_some_iff_getElem.mp h
  refine ⟨vm.classes[c], by simp [hlt], ?_⟩
  simp only [Bool.and_eq_true, beq_iff_eq] at hp
  exact ⟨hp.1.1.1, by simpa using hp.1.1.2, by simpa using hp.2⟩
def castText (a b w : String) : String := "class " ++ a ++ " cannot be cast to class " ++ b ++ " (" ++ (a ++ " and " ++ b ++ " are in " ++ (w ++ " of loader " ++ "'bootstrap'")) ++ ")"
theorem cast_text {vm : Vm} {ks kt : Class} {n1 n2 : String} (a1 : ks.name = n1) (a2 : ks.hidden = none) (a3 : ks.loader = none) (a4 : ∃ x y, ks.kind = .array x y) (b1 : kt.name = n2) (b2 : kt.hidden = none) (b3 : kt.loader = none) (b4 : ∃ x y, kt.kind = .array x y)
    (h1 : (withoutBrackets n1).length = 1) (h2 : (withoutBrackets n2).length = 1) (d1 : dotted n1 = n1) (d2 : dotted n2 = n2) : ∃ w : String, (w = "module java.base" ∨ w = "unnamed module") ∧ Op.checkcast.message vm ks kt = castText n1 n2 w := by
  have s1 : ks.shown = n1 := by unfold Class.shown; rw [a2, a1]; exact d1
  have s2 : kt.shown = n2 := by unfold Class.shown; rw [b2, b1]; exact d2
  have p1 : ks.ofPrimitives = true := by obtain ⟨x, y, e⟩ := a4; unfold Class.ofPrimitives; rw [e, a1]; simp [h1]
  have p2 : kt.ofPrimitives = true := by obtain ⟨x, y, e⟩ := b4; unfold Class.ofPrimitives; rw [e, b1]; simp [h2]
  have m1 : vm.moduleOf ks = vm.modules.find? (·.name == "java.base") := by unfold Vm.moduleOf; rw [if_pos p1]
  have m2 : vm.moduleOf kt = vm.modules.find? (·.name == "java.base") := by unfold Vm.moduleOf; rw [if_pos p2]
  have hs : vm.sameModule ks kt = true := by
    unfold Vm.sameModule
    rw [m1, m2]
    cases vm.modules.find? (·.name == "java.base") with
    | none => simp [a3, b3]
    | some x => simp
  have hh : ∃ w : String, (w = "module java.base" ∨ w = "unnamed module") ∧ vm.home ks = w ++ " of loader " ++ "'bootstrap'" := by
    unfold Vm.home
    rw [m1, a3]
    cases hc : vm.modules.find? (·.name == "java.base") with
    | none => exact ⟨"unnamed module", Or.inr rfl, rfl⟩
    | some x =>
      have hx : x.name = "java.base" := by simpa using List.find?_some hc
      refine ⟨"module java.base", Or.inl rfl, ?_⟩
      show "module " ++ x.name ++ " of loader " ++ "'bootstrap'" = _
      rw [hx]
      decide +kernel
  obtain ⟨w, hw, hh⟩ := hh
  refine ⟨w, hw, ?_⟩
  unfold Op.checkcast.message Vm.homes
  rw [if_pos hs, s1, s2, hh]
  rfl
/-- tables of handlers, as they are printed -/
def cTabL (pl : Platform) (s0 : State) (d : ClassId) (pc : Nat) (th : ClassId) (hpc : Nat) : List (Nat × Nat × Nat × Nat) → Prop
  | [] => False
  | x :: t => (¬ (x.1 ≤ pc ∧ pc < x.2.1) ∧ cTabL pl s0 d pc th hpc t) ∨ ((x.1 ≤ pc ∧ pc < x.2.1) ∧ x.2.2.2 ≠ 0 ∧ ∃ cc : ClassId, s0.vm.ClassLinks pl d x.2.2.2 cc ∧ ((s0.vm.assignable th cc = true ∧ x.2.2.1 = hpc) ∨ (s0.vm.assignable th cc = false ∧ cTabL pl s0 d pc th hpc t)))
theorem cTab_of {pl : Platform} {s0 : State} {d : ClassId} {pc : Nat} {th : ClassId} {hpc : Nat} : ∀ rows : List ExceptionTableEntry, cTabL pl s0 d pc th hpc (rows.map (fun h => (h.startPc, h.endPc, h.handlerPc, h.catchType))) → cTab pl s0 d pc th hpc rows
  | [], h => h
  | x :: t, h => by
    rw [List.map_cons] at h
    rcases h with ⟨h1, h2⟩ | ⟨h1, h0, cc, hl, h2⟩
    · exact Or.inl ⟨by simpa [covers] using h1, cTab_of t h2⟩
    · refine Or.inr ⟨by simpa [covers] using h1, h0, cc, hl, ?_⟩
      rcases h2 with h2 | ⟨h2, h3⟩
      · exact Or.inl h2
      · exact Or.inr ⟨h2, cTab_of t h3⟩
section EROWS2
variable {p : Program} {l : Launch} {e : Env} {R : Room} {s : State} {m : MethodId} {args : Array Value} {below : List Frame} {meth : Method} {c : Code} {H : Heap} {locs : List Loc} {u w mc ms c1 k1 B : Nat} {Q : State → Prop}
variable {cc bytes : ByteArray} {nL maxL pc hpc idx n : Nat} {ls : Array Slot} {rest st As : List Value} {own C : String} {y : MethodName} {ret : Option FieldType} {rm : Room} {hh : List (Nat × Nat × Nat × Nat)} {free : Addr → Prop} {ws Ts : List Cond}
variable {D : va_G} {dA : Nat → ClassId} {K : oK} {F : va_W} {S S1 : hH} {A : Nat → Prop} {cls : String} {g : JFrame} {Pc : Array Value → State → Prop} {Qc : Array Value → State → Outcome → State → Prop}
theorem l_hit {name : String} {x : Nat × Nat × Nat × Nat} {t : List (Nat × Nat × Nat × Nat)} {th cT : ClassId} (hpl : e.platform.magicAccessors = ({} : Platform).magicAccessors) (hown : s.vm.findClass own = some m.cls) (hx : x.1 ≤ pc ∧ pc < x.2.1) (h0 : x.2.2.2 ≠ 0) (hlink : (Cond.classLink own x.2.2.2 name).before args s = true) (hcT : s.vm.findClass name = some cT) (hfit : s.vm.assignable th cT = true) (hh : x.2.2.1 = hpc) : cTabL e.platform s m.cls pc th hpc (x :: t) := by
  obtain ⟨c', hc', hcl⟩ := Cond.classLink_spec hown hlink e.platform hpl
  cases hcT.symm.trans hc'
  exact Or.inr ⟨hx, h0, cT, hcl, Or.inl ⟨hfit, hh⟩⟩
theorem l_pass {C name : String} {x : Nat × Nat × Nat × Nat} {t : List (Nat × Nat × Nat × Nat)} {th : ClassId} (hpl : e.platform.magicAccessors = ({} : Platform).magicAccessors) (hown : s.vm.findClass own = some m.cls) (hx : x.1 ≤ pc ∧ pc < x.2.1) (h0 : x.2.2.2 ≠ 0) (hlink : (Cond.classLink own x.2.2.2 name).before args s = true) (hth : s.vm.findClass C = some th) (hnc : va_Nc C name s) (ht : cTabL e.platform s m.cls pc th hpc t) : cTabL e.platform s m.cls pc th hpc (x :: t) := by
  obtain ⟨c1, c2, g1, g2, g3⟩ := hnc
  cases hth.symm.trans g1
  obtain ⟨c', hc', hcl⟩ := Cond.classLink_spec hown hlink e.platform hpl
  cases g2.symm.trans hc'
  exact Or.inr ⟨hx, h0, c2, hcl, Or.inr ⟨g3, ht⟩⟩
theorem l_skip {x : Nat × Nat × Nat × Nat} {t : List (Nat × Nat × Nat × Nat)} {th : ClassId} (hx : ¬ (x.1 ≤ pc ∧ pc < x.2.1)) (ht : cTabL e.platform s m.cls pc th hpc t) : cTabL e.platform s m.cls pc th hpc (x :: t) := Or.inl ⟨hx, ht⟩
theorem v_castNo {T : State} (X : Stand p l e R s m args below meth c T locs u w) (hexec : p.tables.exec = Jvm.exec) {name : String} {index : Nat} (hown : s.vm.findClass own = some m.cls) (hlink : (Cond.classLink own index name).before args s = true)
    {a : Addr} {cell : Cell} {cT : ClassId} (hcell : T.heap[a]? = some cell) (hobj : cell.vm.isStatics = false) (hcT : s.vm.findClass name = some cT) (hasg : s.vm.assignable cell.cls cT = false) {nm1 : String} (hcS : s.vm.findClass nm1 = some cell.cls)
    {g : JFrame} (hg : g.method = m) {rest : List Value} (hstack : g.stack = .ref a :: rest) (hdg : decode c.code g.pc = .ok (.checkcast index, 3)) :
    ∃ (vm' : Vm) (ks kt : Class), s.WarmedH vm' ∧ Stand p l e R s m args below meth c (T.setVm vm') locs u w ∧ vm'.classes[cell.cls]? = some ks ∧ vm'.classes[cT]? = some kt ∧
      ∀ target, Steps p.tables e below (((T.setVm vm').setTop g).pushFrame (.throwNew "java/lang/ClassCastException" (some (Op.checkcast.message vm' ks kt)) none)) target → Steps p.tables e below (T.setTop g) target := by
  have hpl : e.platform.magicAccessors = ({} : Platform).magicAccessors := by rw [X.admits.platform]
  obtain ⟨c', hc', hcl⟩ := Cond.classLink_spec hown hlink e.platform hpl
  cases hcT.symm.trans hc'
  obtain ⟨dk, _, _, kt, hd, _, _, _, _, hkt, _, hopen⟩ := hcl.here
  have hcl₀ := X.warmed.classLinks hcl
  have hW' : s.WarmedH (T.vm.noted m.cls index (.cls cT)) := X.warmed.noted hd hopen (State.rightAt_cls hcl)
  obtain ⟨ks, hks, -⟩ := Vm.findClass_spec hcS
  obtain ⟨ks', hks', -⟩ := hW'.alike.2.2 _ _ hks
  obtain ⟨kt', hkt', -⟩ := hW'.alike.2.2 _ _ hkt
  refine ⟨_, ks', kt', hW', X.noted hW', hks', hkt', fun target hrest => ?_⟩
  subst hg
  jvm_step X.here [hexec, hdg, Op.checkcast.wp_cold (e := e) (s := T) (f := g) X.here.top hstack (resolveClass_links e.toSetting hcl₀) hcl₀.ready,
    Op.checkcast.wp_ready (e := e) (s := T.setVm (T.vm.noted g.method.cls index (.cls cT))) (f := g) X.here.top hcl₀.ready hstack]
  refine ⟨cell, hcell, VmData.noStatics_of hobj, ks', hks', kt', hkt', ?_⟩
  have h1 : (T.vm.noted g.method.cls index (Resolved.cls cT)).assignable cell.cls cT = false := by rw [hW'.alike.assignable]; exact hasg
  simp only [h1]
  exact hrest
theorem th_castG {a n t1 t2 : Nat} {f : Nat → Int32} {n1 n2 : String} {ty1 ty2 : FieldType} (X : CallFix p m c cc nL s args lw_all own) (hM : HX D dA F S A s H locs) (ha : S a = some (.inl (t1, n, .inl f))) (hty1 : (tyX dA)[t1]? = some (dA t1, ty1)) (hty2 : (tyX dA)[t2]? = some (dA t2, ty2)) (hf1 : s.vm.findClass n1 = some (dA t1)) (hf2 : s.vm.findClass n2 = some (dA t2)) (hnc : va_Nc n1 n2 s)
    (hl1 : (withoutBrackets n1).length = 1) (hl2 : (withoutBrackets n2).length = 1) (d1 : dotted n1 = n1) (d2 : dotted n2 = n2) (htx : ∀ w, (w = "module java.base" ∨ w = "unnamed module") → (castText n1 n2 w == notModelled) = false ∧ (stringBytes (stringToUtf16 (castText n1 n2 w))).size ≤ 590)
    (hlink : Cond.classLink own idx n2 ∈ lw_all) (hdg : decode cc pc = .ok (.checkcast idx, 3)) : ThM p l e R s m args below meth c H locs u w "java/lang/ClassCastException" 590 pc ls (.ref a :: rest) (.ref a :: rest) := by
  intro T hT XS
  obtain ⟨cell, h1, h2, h3, h4, h5⟩ := h_arr hM ha hty1
  obtain ⟨c1, c2, g1, g2, g3⟩ := hnc
  cases hf1.symm.trans g1
  cases hf2.symm.trans g2
  obtain ⟨vm', ks, kt, hW, XN', hks, hkt, go⟩ := v_castNo XS X.1 X.2.2.2.1 (X.2.2.2.2 _ hlink) (by rw [hT]; exact h1) h4 hf2 (by rw [h5]; exact g3) (nm1 := n1) (by rw [h5]; exact hf1) (g := F0 m pc ls (.ref a :: rest)) rfl (rest := rest) rfl (by rw [X.2.1]; exact hdg)
  rw [h5] at hks
  obtain ⟨k1, e1, q1, q2, q3⟩ := find_more (vm := vm') (name := n1) (c := dA t1) (by rw [hW.alike.findClass]; exact hf1)
  obtain ⟨k2, e2, r1, r2, r3⟩ := find_more (vm := vm') (name := n2) (c := dA t2) (by rw [hW.alike.findClass]; exact hf2)
  obtain rfl := Option.some.inj (hks.symm.trans e1)
  obtain rfl := Option.some.inj (hkt.symm.trans e2)
  have kind1 : ∃ x y, ks.kind = .array x y := by
    obtain ⟨-, k0, hk0, comp, hkd⟩ := h2
    rw [h5] at hk0
    obtain ⟨k', hk', he⟩ := hW.alike.2.2 _ _ hk0
    obtain rfl := Option.some.inj (hks.symm.trans hk')
    exact ⟨comp, ty1, by rw [he]; exact hkd⟩
  have kind2 : ∃ x y, kt.kind = .array x y := by
    obtain ⟨-, k0, hk0, comp, hkd⟩ := (hM.1.2 t2 _ hty2).1 0 (fun _ => .int 0)
    obtain ⟨k', hk', he⟩ := hW.alike.2.2 _ _ hk0
    obtain rfl := Option.some.inj (hkt.symm.trans hk')
    exact ⟨comp, ty2, by rw [he]; exact hkd⟩
  obtain ⟨w0, hw0, hmsg⟩ := cast_text (vm := vm') q1 q2 q3 kind1 r1 r2 r3 kind2 hl1 hl2 d1 d2
  rw [hmsg] at go
  exact ⟨T.setVm vm', castText n1 n2 w0, hT, XN', (htx w0 hw0).1, (htx w0 hw0).2, go⟩
theorem t_runS (S0 : CallFix p m c cc nL s args Ts own) (hM : MetT l y ws rm Pc Qc mc ms free) (cw : CallB R s args own idx y bytes maxL ret ws rm mc ms n ∧ (Cond.static y).before args s = true) (hp : PreS s H Pc As)
    (hg : g.method = m) (hn : As.length = n) (hsize : g.locals.size = nL) (hstack : g.stack = As.reverse ++ rest) (hW : 2 * g.monitorRoom + (rest.map fun v => v.category).sum ≤ 8) (hdg : decode cc g.pc = .ok (.invokestatic idx, 3)) (hf : u + mc ≤ R.cells ∧ w + ms ≤ R.slots) :
    RunT p l e R s m args below meth c H locs u w mc ms g rest (Qc As.toArray) free := by
  have hK := t_back (p := p) (e := e) (below := below) cw.1 hM hp.1
  obtain ⟨⟨-, -, -, -, -, -, hcode, hini, hy, hlen, hl⟩, hstt⟩ := cw
  obtain ⟨hx, hb, hml, ho, -⟩ := S0
  intro T hT X
  obtain ⟨mk, hnamed⟩ := Cond.code_named hcode
  obtain ⟨methM, cM, hmethM, -, -, -, -, -, -, hsigM⟩ := Cond.code_spec hnamed hcode
  have hstatic : methM.isStatic = true := Cond.static_spec hnamed hmethM hstt
  obtain ⟨kP, hkP, -⟩ := className_of_methodNamed hnamed
  have hinitP : kP.init = .initialized := Cond.initialized_spec (findClass_of_methodNamed hnamed) hkP hini
  obtain ⟨vm₁, X₁, hstep₁⟩ := X.invokestatic hx ho hl hnamed hmethM hstatic hkP hinitP hy (g := g) hg (argsL := As) (rest := rest) (hn.trans (hlen _ hsigM)) hstack (by rw [hb]; exact hdg)
  obtain ⟨o, t, L, T', ⟨⟨g', mk', hq⟩, hL⟩, X', e1, e2, hs⟩ := hK m meth c ⟨T.setVm vm₁, locs, u, w⟩ { g with stack := rest } (.invokestatic idx) mk As.toArray X₁ hg (hsize.trans hml.symm) (by rw [hb]; exact hdg) hW (X₁.named hnamed) ⟨hf.1, hf.2, hp.2 (T.setVm vm₁) hT X₁.warmed⟩
  refine ⟨o, _, t, L, T', ?_, hq, hL, X', e1, e2, ?_⟩
  · exact hT
  · rcases hs with ⟨v, rfl, hs⟩ | ⟨x, rfl, hs⟩
    · exact Or.inl ⟨v, rfl, fun target h => hstep₁ _ fun acts => by rw [doInvoke_state]; exact hs.trans h⟩
    · exact Or.inr ⟨x, rfl, fun target h => hstep₁ _ fun acts => by rw [doInvoke_state]; exact hs.trans h⟩
end EROWS2
