/-! THROWING: contracts whose method may return or throw; calls of such; athrow; a caller without handlers passes the exception on -/
set_option maxRecDepth 100000
def FEnd (first t : State) (L : List Loc) (k n : Nat) : Prop := first.WarmedH t.vm ∧ first.sameButNew ({ t with vm := first.vm } : State) L k n
def MQT (below : List Frame) (Qc : Array Value → State → Outcome → State → Prop) (a : Array Value) (s : State) (mc ms : Nat) (free : Addr → Prop) : State → Prop := fun t =>
  ∃ o, t.status = .running ∧ Ended t below o ∧ Qc a s o t ∧ ∃ L, FEnd s t L mc ms ∧ ∀ q ∈ L, free q.base
def MetT (l : Launch) (y : MethodName) (ws : List Cond) (rm : Room) (Pc : Array Value → State → Prop) (Qc : Array Value → State → Outcome → State → Prop) (mc ms : Nat) (free : Addr → Prop) : Prop :=
  MetFree l y (headSpec ws rm) Pc (fun _ _ _ _ _ => True) (fun a st o t => Qc a st o t ∧ ∃ L, FEnd st t L mc ms ∧ ∀ q ∈ L, free q.base)
section TROWS
variable {p : Program} {l : Launch} {e : Env} {R : Room} {s : State} {m : MethodId} {args : Array Value} {below : List Frame} {meth : Method} {c : Code} {H : Heap} {locs : List Loc} {cells slots : Nat} {Q : State → Prop}
variable {y : MethodName} {ws ws' : List Cond} {rm : Room} {Pc : Array Value → State → Prop} {Qc : Array Value → State → Outcome → State → Prop} {mc ms : Nat} {free : Addr → Prop} {cc bytes : ByteArray} {maxL nL pc n idx : Nat} {ret : Option FieldType}
variable {Ts : List Cond} {own C : String} {b : Addr} {As rest st : List Value} {g : JFrame} {ls : Array Slot}
theorem W.mono {Q' : State → Prop} (h : W p l e R s m args below meth c H locs cells slots Q g) (hq : ∀ t, Q t → Q' t) : W p l e R s m args below meth c H locs cells slots Q' g := by
  intro T hT X
  obtain ⟨t, a1, b1⟩ := h T hT X
  exact ⟨t, a1, hq t b1⟩
theorem W.toT (h : W p l e R s m args below meth c H locs cells slots (MQ below Qc args s mc ms free) g) : W p l e R s m args below meth c H locs cells slots (MQT below Qc args s mc ms free) g :=
  h.mono (fun t ⟨o, h1, h2, h3, L, h4, h5⟩ => ⟨o, h1, h2, h3, L, ⟨h4.2.1, h4.2.2⟩, h5⟩)
theorem MetT.ofW (hy : plainName y.cls = true) (hw : ws = Cond.code y cc maxL ret :: ws')
    (body : ∀ p e s m args below meth c s₁, BodyLoose p l y (headSpec ws rm) cc maxL ret e s m args below meth c s₁ → c.maxLocals = maxL → c.exceptionTable.isEmpty = true → Pc args s →
      W p l e (headSpec ws rm).room s m args below meth c s.heap [] 0 0 (MQT below Qc args s mc ms free) (entryFrame m args maxL)) : MetT l y ws rm Pc Qc mc ms free := by
  refine MetFree.of_bodyS (code := cc) (maxLocals := maxL) (ret := ret) hy ?_ ?_
  · intro args s m h hn
    obtain ⟨meth, c, h1, h2, h3, h4, h5, h6, -, -⟩ := Cond.code_spec hn (atoms_spec (ws := ws) h _ (by rw [hw]; exact List.mem_cons_self))
    exact ⟨meth, c, h1, h2, h3, h4, h5, h6⟩
  · intro p e s m args below meth c s₁ B hml hP _
    have hh0 : s₁.heap = s.heap := by rw [B.state]; rfl
    have hne : c.exceptionTable.isEmpty = true := B.noHandlers (atoms_spec (ws := ws) B.pre _ (by rw [hw]; exact List.mem_cons_self))
    obtain ⟨t, a1, o, b1, b2, b3⟩ := body p e s m args below meth c s₁ B hml hne hP s₁ hh0 (Stand.of_body B)
    exact ⟨t, o, a1, b1, b2, ⟨b3.1, b3.2⟩⟩
theorem noH (hne : c.exceptionTable.isEmpty = true) (pc : Nat) : ∀ x ∈ c.exceptionTable.toList, covers x pc = false := by
  intro x hx
  have h : c.exceptionTable = #[] := by simpa using hne
  rw [h] at hx
  cases hx
theorem W.athrow {a : Nat} (hexec : p.tables.exec = Jvm.exec) (hb : c.code = cc) (hne : c.exceptionTable.isEmpty = true) (hlk : meth.locks = false) (hq : ∀ t : State, t.heap = H → s.WarmedH t.vm → Qc args s (.threw a) t) (hf : ∀ q ∈ locs, free q.base) (hdg : decode cc pc = .ok (.athrow, 1)) :
    W p l e R s m args below meth c H locs cells slots (MQT below Qc args s cells slots free) (F0 m pc ls (.ref a :: rest)) := by
  intro T hT X
  obtain ⟨hst, hrun, hend, hW, hsame⟩ := X.athrowLeaves hexec (g := F0 m pc ls (.ref a :: rest)) rfl rfl rfl (noH hne pc) rfl (by rw [hb]; exact hdg) hlk
  exact ⟨_, hst, .threw a, hrun, hend, hq _ hT hW, locs, ⟨hW, hsame⟩, hf⟩
theorem heap_setTop (T : State) (g : JFrame) : (T.setTop g).heap = T.heap := by simp [State.setFrames, State.setTop, State.modifyTopJava]
theorem vm_setTop (T : State) (g : JFrame) : (T.setTop g).vm = T.vm := by simp [State.setFrames, State.setTop, State.modifyTopJava]
def BackT (l : Launch) (R : Room) (p : Program) (e : Env) (below : List Frame) (s : State) (sargs : Array Value) (y : MethodName) (len W mc ms : Nat) (Pre : Pt → Array Value → Prop) (Post : Pt → Array Value → Outcome → State → List Loc → Prop) : Prop :=
  ∀ (m : MethodId) (meth : Method) (c : Code) (A : Pt) (g : JFrame) (ig : Instr) (mk : MethodId) (a : Array Value), Stand p l e R s m sargs below meth c A.U A.locs A.cells A.slots → g.method = m → g.locals.size = c.maxLocals → decode c.code g.pc = .ok (ig, len) →
    2 * g.monitorRoom + (g.stack.map fun v => v.category).sum ≤ W → A.U.methodNamed? y = some mk → Pre A a →
    ∃ (o : Outcome) (t : State) (L : List Loc) (T' : State), Post A a o t L ∧ Stand p l e R s m sargs below meth c T' (A.locs ++ L) (A.cells + mc) (A.slots + ms) ∧ T'.heap = t.heap ∧ T'.vm = t.vm ∧
      ((∃ v, o = .returned v ∧ Steps p.tables e below (doInvoke e (A.U.setTop g) [] mk a).1 (T'.setTop { g with pc := g.pc + len, stack := v.toList ++ g.stack })) ∨
       (∃ x, o = .threw x ∧ Steps p.tables e below (doInvoke e (A.U.setTop g) [] mk a).1 ((T'.setTop g).pushFrame (.throwing x))))
theorem backT_of {sargs : Array Value} {len W : Nat} (hM : MetT l y ws rm Pc Qc mc ms free) (hblind : FrameBlind Pc) (hrc : rm.cells = mc) (hrs : rm.slots = ms)
    (hframes : rm.frames + 1 ≤ R.frames) (hlocals : W + (maxL + 11) + rm.locals ≤ R.locals)
    (hws : ∀ w ∈ ws, ∀ a' U, s.WarmedH U.vm → w.before a' U = true) (hcode : Cond.code y bytes maxL ret ∈ ws) (hinit : ∀ a' U, s.WarmedH U.vm → (Cond.initialized y.cls).before a' U = true) :
    BackT l R p e below s sargs y len W mc ms (PreOf R mc ms Pc) (fun A a o t L => (∃ (g : JFrame) (mk : MethodId), Qc a (A.U.calling g mk a) o t) ∧ ∀ q ∈ L, free q.base) := by
  intro m meth c A g ig mk a X hg hsize hdg hW hn hp
  obtain ⟨hp1, hp2, hp3⟩ := hp
  obtain ⟨U, Ls, c0, s0⟩ := A
  dsimp only [Pt.U, Pt.locs, Pt.cells, Pt.slots] at hp1 hp2 hp3 X hn ⊢
  have h2 : (Cond.code y bytes maxL ret).before a U = true := hws _ hcode _ _ X.warmed
  have h3 := hinit a U X.warmed
  have h1 : (headSpec ws rm).pre.before a U = true := atoms_intro fun w hw => hws w hw _ _ X.warmed
  obtain ⟨methY, cY, hmY, hcY, -, hlY, -, -, -, -⟩ := Cond.code_spec hn h2
  obtain ⟨kY, hkY, -⟩ := className_of_methodNamed hn
  have hinitY : kY.init = .initialized := Cond.initialized_spec (findClass_of_methodNamed hn) hkY h3
  have h : At U g.method c below := by rw [hg]; exact X.here
  have happ : (headSpec ws rm).appliesLoose y e.platform (U.calling g mk a) = true :=
    Spec.appliesLoose_calling (g := g) h hdg hn hkY hinitY
      (X.room_calling (g := g) (R' := rm) hsize hmY hcY hframes (by rw [hlY]; omega) (by rw [hrc]; exact hp1) (by rw [hrs]; exact hp2)) h1
  obtain ⟨mid, hmid⟩ := h.above
  have hfr : (U.setTop g).frames = (.java g :: mid) ++ below := by rw [State.frames_setTop' g h.top, hmid]; rfl
  obtain ⟨o, s₂, hsteps, -, hend, hq, L, hFE, hL⟩ := Steps.callFree hM p X.admits X.cas X.clock (acts := []) hfr happ (hblind _ _ _ _ hp3) trivial
  rw [State.frames_setTop' g h.top, X.tail] at hend
  have hFE : FEnd (U.calling g mk a) s₂ L mc ms := hFE
  have hq : Qc a (U.calling g mk a) o s₂ := hq
  cases o with
  | returned v =>
    obtain ⟨T', X', -, -, ht⟩ := X.outOf hg hdg hend hFE.1 hFE.2
    refine ⟨.returned v, s₂, L, T', ⟨⟨g, mk, hq⟩, hL⟩, X', ?_, ?_, Or.inl ⟨v, rfl, ?_⟩⟩
    · rw [ht, heap_setTop]
    · rw [ht, vm_setTop]
    · rw [← ht]; exact hsteps
  | threw x =>
    obtain ⟨T', X', -, -, ht⟩ := X.outOfThrown hg hend hFE.1 hFE.2
    refine ⟨.threw x, s₂, L, T', ⟨⟨g, mk, hq⟩, hL⟩, X', ?_, ?_, Or.inr ⟨x, rfl, ?_⟩⟩
    · rw [ht, Stand.throwing_heap]
    · rw [ht, Stand.throwing_vm]
    · rw [← ht]; exact hsteps
/-- what a call gives that may throw -/
def RunT (p : Program) (l : Launch) (e : Env) (R : Room) (s : State) (m : MethodId) (args : Array Value) (below : List Frame) (meth : Method) (c : Code) (H : Heap) (locs : List Loc) (cells slots mc ms : Nat) (g : JFrame) (rest : List Value) (Qa : State → Outcome → State → Prop) (free : Addr → Prop) : Prop :=
  ∀ T : State, T.heap = H → Stand p l e R s m args below meth c T locs cells slots → ∃ (o : Outcome) (st₀ t : State) (L : List Loc) (T' : State), st₀.heap = H ∧ Qa st₀ o t ∧ (∀ q ∈ L, free q.base) ∧ Stand p l e R s m args below meth c T' (locs ++ L) (cells + mc) (slots + ms) ∧ T'.heap = t.heap ∧ T'.vm = t.vm ∧
    ((∃ v, o = .returned v ∧ Goes p e below T g T' { g with pc := g.pc + 3, stack := v.toList ++ rest }) ∨
     (∃ x, o = .threw x ∧ ∀ tg, Steps p.tables e below ((T'.setTop { g with stack := rest }).pushFrame (.throwing x)) tg → Steps p.tables e below (T.setTop g) tg))
theorem t_back (cb : CallB R s args own idx y bytes maxL ret ws rm mc ms n) (hM : MetT l y ws rm Pc Qc mc ms free) (hbl : FrameBlind Pc) : BackT l R p e below s args y 3 8 mc ms (PreOf R mc ms Pc) (fun A a o t L => (∃ (g : JFrame) (mk : MethodId), Qc a (A.U.calling g mk a) o t) ∧ ∀ q ∈ L, free q.base) := by
  obtain ⟨hrc, hrs, hfr, hlo, hws, hcw, -, hini, -⟩ := cb
  exact backT_of (bytes := bytes) (maxL := maxL) (ret := ret) hM hbl hrc hrs hfr hlo hws hcw (fun a' U hW => word_at hW (Or.inl (by first | rfl | simp [Cond.onTables, Cond.keeps, Cond.steady])) hini)
theorem t_runV (S : CallFix p m c cc nL s args Ts own) (hM : MetT l y ws rm Pc Qc mc ms free) (cw : CallW R s args own C idx y bytes maxL ret ws rm mc ms n) (hp : PreV s H C b Pc As)
    (hg : g.method = m) (hn : As.length = n) (hsize : g.locals.size = nL) (hstack : g.stack = As.reverse ++ .ref b :: rest) (hW : 2 * g.monitorRoom + (rest.map fun v => v.category).sum ≤ 8) (hdg : decode cc g.pc = .ok (.invokevirtual idx, 3)) (hf : cells + mc ≤ R.cells ∧ slots + ms ≤ R.slots) :
    RunT p l e R s m args below meth c H locs cells slots mc ms g rest (Qc (Value.ref b :: As).toArray) free := by
  have hK := t_back (p := p) (e := e) (below := below) cw.1 hM hp.1
  obtain ⟨⟨-, -, -, -, -, -, hcode, -, hy, hlen, hl⟩, hin, hse⟩ := cw
  obtain ⟨hx, hb, hml, ho, -⟩ := S
  obtain ⟨-, ⟨cellB, hcB, hoB, hclB⟩, hPc⟩ := hp
  intro T hT X
  obtain ⟨mk, methM, hnamed, hmethM, hstM, habM⟩ := Cond.instanceMethod_spec hin
  obtain ⟨methM', cM, hmethM', -, -, -, -, -, -, hsigM⟩ := Cond.code_spec hnamed hcode
  cases hmethM.symm.trans hmethM'
  obtain ⟨c2, r2, m2, q1, q2, q3, q4, kP, hkP, hkPi⟩ := Cond.selects_spec hse
  cases hclB.symm.trans q1
  cases (State.methodFound?_of_named hnamed hy).symm.trans q2
  cases hnamed.symm.trans q3
  have hselP : selectMethod e.platform s.vm cellB.cls mk = .method mk := by rw [Launch.admits_selectMethod X.admits]; exact q4
  obtain ⟨vm₁, X₁, hstep₁⟩ := X.invokevirtual hx ho hl hnamed hmethM hstM hkP hkPi hy (a := b) (cell := cellB) (by rw [hT]; exact hcB)
    (fun z h => by rw [h] at hoB; cases hoB) hselP hmethM habM hkP hkPi (g := g) hg (argsL := As) (rest := rest) (hn.trans (hlen _ hsigM)) hstack (by rw [hb]; exact hdg)
  obtain ⟨o, t, L, T', ⟨⟨g', mk', hq⟩, hL⟩, X', e1, e2, hs⟩ := hK m meth c ⟨T.setVm vm₁, locs, cells, slots⟩ { g with stack := rest } (.invokevirtual idx) mk (Value.ref b :: As).toArray X₁ hg (hsize.trans hml.symm) (by rw [hb]; exact hdg) hW (X₁.named hnamed) ⟨hf.1, hf.2, hPc (T.setVm vm₁) hT X₁.warmed⟩
  refine ⟨o, _, t, L, T', ?_, hq, hL, X', e1, e2, ?_⟩
  · exact hT
  · rcases hs with ⟨v, rfl, hs⟩ | ⟨x, rfl, hs⟩
    · exact Or.inl ⟨v, rfl, fun target h => hstep₁ _ fun acts => by rw [doInvoke_state]; exact hs.trans h⟩
    · exact Or.inr ⟨x, rfl, fun target h => hstep₁ _ fun acts => by rw [doInvoke_state]; exact hs.trans h⟩
theorem t_runI (S : CallFix p m c cc nL s args Ts own) (hM : MetT l y ws rm Pc Qc mc ms free) (cw : CallB R s args own idx y bytes maxL none ws rm mc ms n ∧ y.name = "<init>" ∧ (Cond.instanceMethod y).before args s = true) (hp : PreS s H Pc (.ref b :: As))
    (hg : g.method = m) (hn : As.length = n) (hsize : g.locals.size = nL) (hstack : g.stack = As.reverse ++ .ref b :: rest) (hW : 2 * g.monitorRoom + (rest.map fun v => v.category).sum ≤ 8) (hdg : decode cc g.pc = .ok (.invokespecial idx, 3)) (hf : cells + mc ≤ R.cells ∧ slots + ms ≤ R.slots) :
    RunT p l e R s m args below meth c H locs cells slots mc ms g rest (Qc (Value.ref b :: As).toArray) free := by
  have hK := t_back (p := p) (e := e) (below := below) cw.1 hM hp.1
  obtain ⟨⟨-, -, -, -, -, -, hcode, -, hy, hlen, hl⟩, hy1, hin⟩ := cw
  obtain ⟨hx, hb, hml, ho, -⟩ := S
  intro T hT X
  subst hg
  have hpl : e.platform.magicAccessors = ({} : Platform).magicAccessors := by rw [X.admits.platform]
  obtain ⟨mk, methM, cM, kP, vm₁, hnamed, hmethM, hcodeM, -, hlocalsM, -, hkP, -, hW₁, hstep₁⟩ := Steps.initColdArgs (e := e) X.here hx X.warmed hpl ho hy1 hy hl hin hcode (f := g) rfl (fun sig h => hn.trans (hlen sig h)) hstack (by rw [hb]; exact hdg)
  have X₁ := X.noted hW₁
  obtain ⟨o, t, L, T', ⟨⟨g', mk', hq⟩, hL⟩, X', e1, e2, hs⟩ := hK g.method meth c ⟨T.setVm vm₁, locs, cells, slots⟩ { g with stack := rest } (.invokespecial idx) mk (Value.ref b :: As).toArray X₁ rfl (hsize.trans hml.symm) (by rw [hb]; exact hdg) hW (X₁.named hnamed) ⟨hf.1, hf.2, hp.2 (T.setVm vm₁) hT X₁.warmed⟩
  refine ⟨o, _, t, L, T', ?_, hq, hL, X', e1, e2, ?_⟩
  · exact hT
  · rcases hs with ⟨v, rfl, hs⟩ | ⟨x, rfl, hs⟩
    · exact Or.inl ⟨v, rfl, fun target h => hstep₁ _ fun acts => by rw [doInvoke_state]; exact hs.trans h⟩
    · exact Or.inr ⟨x, rfl, fun target h => hstep₁ _ fun acts => by rw [doInvoke_state]; exact hs.trans h⟩
/-- such a call in a method without handlers: it comes back, or the method throws what it threw -/
theorem t_call {Qa : State → Outcome → State → Prop} {Qo : Array Value → State → Outcome → State → Prop} {mc0 ms0 : Nat} {free0 : Addr → Prop} (hr : RunT p l e R s m args below meth c H locs cells slots mc ms (F0 m pc ls st) rest Qa free) (hne : c.exceptionTable.isEmpty = true) (hlk : meth.locks = false)
    (hc : cells + mc ≤ mc0) (hs : slots + ms ≤ ms0)
    (kr : ∀ (v : Option Value) (st₀ t : State) (L : List Loc), st₀.heap = H → s.WarmedH t.vm → Qa st₀ (.returned v) t → (∀ q ∈ L, free q.base) → W p l e R s m args below meth c t.heap (locs ++ L) (cells + mc) (slots + ms) (MQT below Qo args s mc0 ms0 free0) (F0 m (pc + 3) ls (v.toList ++ rest)))
    (kt : ∀ (x : Nat) (st₀ t : State) (L : List Loc), st₀.heap = H → Qa st₀ (.threw x) t → (∀ q ∈ L, free q.base) → (∀ t' : State, t'.heap = t.heap → s.WarmedH t'.vm → Qo args s (.threw x) t') ∧ ∀ q ∈ locs ++ L, free0 q.base) :
    W p l e R s m args below meth c H locs cells slots (MQT below Qo args s mc0 ms0 free0) (F0 m pc ls st) := by
  intro T hT X
  obtain ⟨o, st₀, t, L, T', h0, hq, hL, X', e1, e2, hcase⟩ := hr T hT X
  rcases hcase with ⟨v, rfl, hgo⟩ | ⟨x, rfl, hgo⟩
  · obtain ⟨t2, a1, b1⟩ := kr v st₀ t L h0 (by rw [← e2]; exact X'.warmed) hq hL T' e1 X'
    exact ⟨t2, hgo t2 a1, b1⟩
  · obtain ⟨k1, k2⟩ := kt x st₀ t L h0 hq hL
    obtain ⟨hst, hrun, hend, hW, hsame⟩ := X'.leaveThrown x (g := { F0 m pc ls st with stack := rest }) rfl rfl rfl (noH hne pc) hlk
    exact ⟨_, hgo _ hst, .threw x, hrun, hend, k1 _ e1 hW, locs ++ L, ⟨hW, hsame.mono hc hs⟩, k2⟩
end TROWS
