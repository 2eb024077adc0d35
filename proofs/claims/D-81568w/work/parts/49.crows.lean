/-! CATCHING with catch types that may be unresolved yet: the search notes what it resolves -/
set_option maxRecDepth 100000
section CROWS
theorem c_row {Q : Handler → Pre} {E : CtlPost} {e : Env} {d : Bool} {acts : List Action} {S : State} {f : JFrame} {a : Addr} {x : ExceptionTableEntry} {t : List ExceptionTableEntry} {cc : ClassId} {cell : Cell} (hx : covers x f.pc = true) (h0 : x.catchType ≠ 0)
    (hl : S.vm.ClassLinks e.platform f.method.cls x.catchType cc) (hcell : S.heap[a]? = some cell) (hobj : ∀ k, cell.vm ≠ .statics k) (hk : ∃ k, S.vm.classes[cell.cls]? = some k) (hc : ∃ k, S.vm.classes[cc]? = some k) :
    wp (findHandler.go f a (x :: t)) Q E e d acts S ↔ if S.vm.assignable cell.cls cc = true then Q (.found x.handlerPc) d acts (S.setVm (S.vm.noted f.method.cls x.catchType (.cls cc))) else wp (findHandler.go f a t) Q E e d acts (S.setVm (S.vm.noted f.method.cls x.catchType (.cls cc))) := by
  obtain ⟨g1, g2⟩ := (resolveClass_links e.toSetting hl).op (op := VmOp.resolveClass f.method.cls x.catchType) rfl
  have al : S.vm.Alike (S.vm.noted f.method.cls x.catchType (.cls cc)) := (Vm.Alike.refl S.vm).noted _ _ _
  obtain ⟨k1, hk1⟩ := hk
  obtain ⟨k2, hk2⟩ := hc
  obtain ⟨k3, hk3, -⟩ := al.2.2 _ _ hk1
  obtain ⟨k4, hk4, -⟩ := al.2.2 _ _ hk2
  simp only [covers] at hx
  cases hfit : S.vm.assignable cell.cls cc with
  | false =>
    have hf2 : (S.vm.noted f.method.cls x.catchType (.cls cc)).assignable cell.cls cc = false := by rw [al.assignable]; exact hfit
    simp [findHandler.go, hx, h0, g1, g2, hcell, hobj, hk3, hk4, hf2, VmOp.dirties, VmOp.acts]
  | true =>
    have hf2 : (S.vm.noted f.method.cls x.catchType (.cls cc)).assignable cell.cls cc = true := by rw [al.assignable]; exact hfit
    simp [findHandler.go, hx, h0, g1, g2, hcell, hobj, hk3, hk4, hf2, VmOp.dirties, VmOp.acts]
/-- the table catches an object of the class th, thrown at pc, at hpc -/
def cTab (pl : Platform) (s0 : State) (d : ClassId) (pc : Nat) (th : ClassId) (hpc : Nat) : List ExceptionTableEntry → Prop
  | [] => False
  | x :: t => (covers x pc = false ∧ cTab pl s0 d pc th hpc t) ∨ (covers x pc = true ∧ x.catchType ≠ 0 ∧ ∃ cc : ClassId, s0.vm.ClassLinks pl d x.catchType cc ∧ ((s0.vm.assignable th cc = true ∧ x.handlerPc = hpc) ∨ (s0.vm.assignable th cc = false ∧ cTab pl s0 d pc th hpc t)))
theorem c_find {e : Env} {s0 : State} {f : JFrame} {a : Addr} {cell : Cell} {hpc : Nat} (hobj : ∀ k, cell.vm ≠ .statics k) (hk0 : ∃ k, s0.vm.classes[cell.cls]? = some k) : ∀ (rows : List ExceptionTableEntry) (S : State), s0.WarmedH S.vm → S.heap[a]? = some cell → cTab e.platform s0 f.method.cls f.pc cell.cls hpc rows →
    ∃ vm', s0.WarmedH vm' ∧ ∀ (Q : Handler → Pre) (E : CtlPost) (d : Bool) (acts : List Action), wp (findHandler.go f a rows) Q E e d acts S ↔ Q (.found hpc) d acts (S.setVm vm') := by
  obtain ⟨k0, hk0⟩ := hk0
  intro rows
  induction rows with
  | nil => intro S _ _ h; exact h.elim
  | cons x t ih =>
    intro S hW hcell h
    rcases h with ⟨h1, h2⟩ | ⟨h1, h0, cc, hl, h2⟩
    · obtain ⟨vm', g1, g2⟩ := ih S hW hcell h2
      exact ⟨vm', g1, fun Q E d acts => (W.findHandler_go_skip h1).trans (g2 Q E d acts)⟩
    · obtain ⟨k1, hk1, -⟩ := hW.alike.2.2 _ _ hk0
      obtain ⟨dk, _, _, kt, hd, _, _, _, _, hkt, _, hopen⟩ := hl.here
      obtain ⟨k2, hk2, -⟩ := hW.alike.2.2 _ _ hkt
      have hW2 := hW.noted hd hopen (State.rightAt_cls hl)
      have hr := fun (Q : Handler → Pre) (E : CtlPost) (d : Bool) (acts : List Action) => c_row (Q := Q) (E := E) (d := d) (acts := acts) (t := t) h1 h0 (hW.classLinks hl) hcell hobj ⟨k1, hk1⟩ ⟨k2, hk2⟩
      rcases h2 with ⟨h3, h4⟩ | ⟨h3, h4⟩
      · refine ⟨_, hW2, fun Q E d acts => ?_⟩
        rw [hr Q E d acts, if_pos (by rw [hW.alike.assignable]; exact h3), h4]
      · obtain ⟨vm', g1, g2⟩ := ih (S.setVm (S.vm.noted f.method.cls x.catchType (.cls cc))) hW2 hcell h4
        refine ⟨vm', g1, fun Q E d acts => ?_⟩
        rw [hr Q E d acts, if_neg (by rw [hW.alike.assignable, h3]; decide)]
        exact g2 Q E d acts
theorem c_step {e : Env} {S : State} {a : Addr} {f : JFrame} {r : List Frame} {pc : Nat} {vm' : Vm} (hfind : ∀ (Q : Handler → Pre) (E : CtlPost) (d : Bool) (acts : List Action), wp (findHandler f a) Q E e d acts S ↔ Q (.found pc) d acts (S.setVm vm')) :
    (stepThrowing e S a (.java f :: r)).Is ((S.setVm vm').setFrames (.java { f with pc := pc, stack := [.ref a] } :: r)) [] := by
  simp only [stepThrowing, searchFrame, vmDo]
  generalize hr : Sem.go _ e false [] S = res
  obtain ⟨as, rfl, ha⟩ := Sem.eq_ok_of hr (a := Handler.found pc) (s' := S.setVm vm') (acts' := []) (by simp [hfind _ _ _ _])
  exact ⟨rfl, ha⟩
variable {p : Program} {l : Launch} {e : Env} {R : Room} {s : State} {m : MethodId} {args : Array Value} {below : List Frame} {meth : Method} {c : Code} {T : State} {locs : List Loc} {cells slots : Nat}
theorem c_caught (X : Stand p l e R s m args below meth c T locs cells slots) (a : Addr) {g : JFrame} (hg : g.method = m) {cell : Cell} {hpc : Nat} (hcell : T.heap[a]? = some cell) (hobj : cell.vm.isStatics = false) (hk0 : ∃ k, s.vm.classes[cell.cls]? = some k) (htab : cTab e.platform s m.cls g.pc cell.cls hpc c.exceptionTable.toList) :
    ∃ vm', Stand p l e R s m args below meth c (T.setVm vm') locs cells slots ∧ ∀ target, Steps p.tables e below ((T.setVm vm').setTop { g with pc := hpc, stack := [.ref a] }) target → Steps p.tables e below ((T.setTop g).pushFrame (.throwing a)) target := by
  subst hg
  obtain ⟨vm', hW', hf⟩ := c_find (e := e) (f := g) (a := a) (VmData.ne_statics_of hobj) hk0 c.exceptionTable.toList ((T.setTop g).pushFrame (.throwing a)) (by rw [Stand.throwing_vm]; exact X.warmed) (by rw [Stand.throwing_heap]; exact hcell) htab
  refine ⟨vm', X.noted hW', fun target hrest => ?_⟩
  have h : At T g.method c below := X.here
  obtain ⟨hgo, hw⟩ := h.throwing a
  refine Steps.head hgo hw ?_
  rw [stepThread_throwing (frames_entered h.top _), (c_step (S := (T.setTop g).pushFrame (.throwing a)) (pc := hpc) (vm' := vm') (fun Q E d acts => (W.findHandler_eq (by rw [Stand.throwing_vm]; exact X.method') X.code).trans (hf Q E d acts))).1]
  obtain ⟨g₀, hg0⟩ := Option.isSome_iff_exists.mp h.top
  obtain ⟨r, hr⟩ := State.topJava?_eq_some.mp hg0
  have hr' : (T.setVm vm').frames = .java g₀ :: r := hr
  rw [State.setTop_of_frames _ hr'] at hrest
  rw [State.pushFrame, State.setTop_of_frames _ hr, State.setFrames_setFrames, hr]
  rw [show (T.setFrames (Frame.throwing a :: (T.setFrames (Frame.java g :: r)).frames)).setVm vm' = (T.setVm vm').setFrames (Frame.throwing a :: (T.setFrames (Frame.java g :: r)).frames) from rfl, State.setFrames_setFrames]
  exact hrest
/-- a row that catches the class C itself or one above it; a row that lets it pass -/
theorem c_hit {own name : String} {x : ExceptionTableEntry} {t : List ExceptionTableEntry} {pc hpc : Nat} {th cT : ClassId} (hpl : e.platform.magicAccessors = ({} : Platform).magicAccessors) (hown : s.vm.findClass own = some m.cls) (hx : covers x pc = true) (h0 : x.catchType ≠ 0) (hlink : (Cond.classLink own x.catchType name).before args s = true) (hcT : s.vm.findClass name = some cT) (hfit : s.vm.assignable th cT = true) (hh : x.handlerPc = hpc) : cTab e.platform s m.cls pc th hpc (x :: t) := by
  obtain ⟨c', hc', hcl⟩ := Cond.classLink_spec hown hlink e.platform hpl
  cases hcT.symm.trans hc'
  exact Or.inr ⟨hx, h0, cT, hcl, Or.inl ⟨hfit, hh⟩⟩
theorem c_pass {own name : String} {x : ExceptionTableEntry} {t : List ExceptionTableEntry} {pc hpc : Nat} {th cT : ClassId} (hpl : e.platform.magicAccessors = ({} : Platform).magicAccessors) (hown : s.vm.findClass own = some m.cls) (h0 : x.catchType ≠ 0) (hlink : (Cond.classLink own x.catchType name).before args s = true) (hcT : s.vm.findClass name = some cT) (hfit : s.vm.assignable th cT = false) (ht : cTab e.platform s m.cls pc th hpc t) : cTab e.platform s m.cls pc th hpc (x :: t) := by
  obtain ⟨c', hc', hcl⟩ := Cond.classLink_spec hown hlink e.platform hpl
  cases hcT.symm.trans hc'
  by_cases hx : covers x pc = true
  · exact Or.inr ⟨hx, h0, cT, hcl, Or.inr ⟨hfit, ht⟩⟩
  · exact Or.inl ⟨by simpa using hx, ht⟩
end CROWS
