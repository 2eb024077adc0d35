/-! THE COMPONENT'S METHODS THAT MAKE CELLS (kind Y): the world of X with budgets; they return, whatever is thrown inside -/
set_option maxRecDepth 100000
def YA (o : Nat) (q : Nat → Nat) (h : hH) (sz : Nat) : Nat → Prop := fun a => a ∈ XL o q ∨ (∃ x, h a = some x) ∨ sz ≤ a
def YPre (D : va_G) (dA : Nat → ClassId) (K : oK) (sz o : Nat) (q : Nat → Nat) (S : sX) (as : List Value) : Array Value → State → Prop := fun a U => a = (Value.ref o :: as).toArray ∧ U.heap.size = sz ∧ va_K D vwCl (tyX dA) U ∧ XN U ∧ OLD K (YA o q S.2.2.2 sz) U U.heap ∧ ORF K U ∧ HH D dA (WX o q dA S) S.2.2.2 (fun _ => True) U.heap
def YPost (D : va_G) (dA : Nat → ClassId) (o : Nat) (q : Nat → Nat) (A : Nat → Prop) (Qr : Option Value → sX → Prop) : Array Value → State → Outcome → State → Prop := fun _ st oc t =>
  (∃ (v : Option Value) (S : sX), oc = .returned v ∧ Qr v S ∧ HH D dA (WX o q dA S) S.2.2.2 A t.heap) ∧ va_F A st t
def yqI (Q : Int32 → sX → Prop) : Option Value → sX → Prop := fun v S => ∃ r : Int32, v = some (.int r) ∧ Q r S
/-- bytes out of a table into a new array -/
def hCpb (f : Nat → Int32) (n0 : Nat) (S : hH) (a : Nat) (n : Int32) (S1 : hH) : Prop := ∃ (n1 : Nat) (g : Nat → Int32), S a = some (.inl (2, n1, .inl g)) ∧ ¬ n < 0 ∧ n.toNatClampNeg ≤ n0 ∧ n.toNatClampNeg ≤ n1 ∧ (∀ i, i < n.toNatClampNeg → fits .byte (.int (f i)) = true) ∧ S1 = va_up S a (some (.inl (2, n1, .inl (va_cpy f g 0 0 n.toNatClampNeg))))
section YROWS
variable {p : Program} {l : Launch} {e : Env} {R : Room} {s : State} {m : MethodId} {args : Array Value} {below : List Frame} {meth : Method} {c : Code} {H : Heap} {locs : List Loc} {u w mc ms c1 k1 : Nat} {Q : State → Prop}
variable {cc bytes : ByteArray} {nL maxL pc idx n : Nat} {ls : Array Slot} {rest st As : List Value} {y : MethodName} {ret : Option FieldType} {rm : Room} {own C : String} {hh : List (Nat × Nat × Nat × Nat)}
variable {D : va_G} {dA : Nat → ClassId} {K : oK} {o : Nat} {q : Nat → Nat} {S S1 : sX} {A : Nat → Prop} {Qr : Option Value → sX → Prop}
theorem y_putr {v k : Nat} {ty : FieldType} (X : CallFix p m c cc nL s args lw_all RX0) (hM : XW D dA o q S A s H locs) (hk : k < 28) (hlink : Cond.fieldLink RX0 idx RX0 (TX0 k).2.1 (TX0 k).2.2.1 ∈ lw_all) (hR : (TX0 k).1 = RX0) (hfin : (TX0 k).2.2.2 = false) (hd : parseFieldDescriptor (TX0 k).2.2.1 = some ty) (hn : narrow ty (.ref v) = .ref v) (hfit : fits ty (.ref v) = true) (hw : ∀ L : hRw, (hws dA (WX o q dA S) L).set 0 (o, .inr (0, (xF q S).set k (.ref v))) = hws dA (WX o q dA (xR S k v)) L) (hdg : decode cc pc = .ok (.putfield idx, 3))
    (kk : ∀ (S1 : sX) (H1 : Heap) (locs1 : List Loc), S1 = xR S k v → XW D dA o q S1 A s H1 locs1 → W p l e R s m args below meth c H1 locs1 u w Q (F0 m (pc + 3) ls rest)) : W p l e R s m args below meth c H locs u w Q (F0 m pc ls (.ref v :: .ref o :: rest)) := by
  obtain ⟨hK, hN, ⟨L, hi, hP, hD⟩, hS⟩ := hM
  exact va_put (D := D) (ci := 0) (v := .ref v) (ty := ty) (C := RX0) (T := TX0) (N := 28) X.1 X.2.1 X.2.2.2.2 in_X0 tyX0 tyX0_ok nmX0 X.2.2.2.1 hK hP hD hS 0 rfl rfl k hk (X.2.2.2.2 _ hlink) (fun x h9 => by rw [hR] at h9; exact h9) hfin hd hn hfit hk hdg (fun H1 locs1 hP1 hD1 hS1 => kk _ H1 locs1 rfl ⟨hK, hN, ⟨L, hi, by rw [← hw]; exact hP1, by rw [← hw]; exact hD1⟩, hS1⟩)
theorem y_copyb {n : Int32} {a a0 k0 n0 : Nat} {f : Nat → Int32} {F : va_W} {h h1 : hH} (X : CallFix p m c cc nL s args lw_all own) (hM : HX D dA F h A s H locs) (ha : ∀ L : hRw, (hws dA F L)[k0]? = some (a0, .inl (dA 2, n0, .inl f))) (hsize : ls.size = nL) (hlink : Cond.methodLink own idx arraycopyName ∈ lw_all) (hnat : Cond.native arraycopyName ∈ lw_all) (hstat : Cond.static arraycopyName ∈ lw_all) (hini : Cond.initialized "java/lang/System" ∈ lw_all) (hc : hCpb f n0 h a n h1)
    (hframes : 1 ≤ R.frames) (hlocals : (rest.map fun v => v.category).sum + (nativeFrameWords "java/lang/System" "arraycopy" 5 + 11) ≤ R.locals) (hdg : decode cc pc = .ok (.invokestatic idx, 3))
    (kk : ∀ (H1 : Heap) (locs1 : List Loc), HX D dA F h1 A s H1 locs1 → W p l e R s m args below meth c H1 locs1 u w Q (F0 m (pc + 3) ls rest)) : W p l e R s m args below meth c H locs u w Q (F0 m pc ls (.int n :: .int 0 :: .ref a :: .int 0 :: .ref a0 :: rest)) := by
  obtain ⟨n1, g, e1, h0, h2, h3, h4, rfl⟩ := hc
  obtain ⟨hK, hN, ⟨L, hi, hP, hD⟩, hS⟩ := hM
  obtain ⟨j1, hj1⟩ := hh_at hi e1
  have hz : (0 : Int32).toNatClampNeg = 0 := by decide
  exact va_copyi X.1 X.2.1 (X.2.2.1.trans hsize.symm) X.2.2.2.1 (X.2.2.2.2 _ hlink) (X.2.2.2.2 _ hnat) (X.2.2.2.2 _ hstat) (X.2.2.2.2 _ hini) hK hP hD hS _ _ 2 2 (ha L) (hws_r hj1) rfl rfl rfl (sp := 0) (dp := 0) (n := n) (by decide) (by decide) h0 (by rw [hz, Nat.zero_add]; exact h2) (by rw [hz, Nat.zero_add]; exact h3) (fun i hi2 => by rw [hz, Nat.zero_add]; exact h4 i hi2) hframes hlocals hdg (fun H1 locs1 hP1 hD1 hS1 => kk H1 locs1 ⟨hK, hN, ⟨_, hIs_set hi hD hj1 _, by rw [← hws_set]; exact hP1, by rw [← hws_set]; exact hD1⟩, hS1⟩)
theorem y_iret {v : Int32} {Q0 : Int32 → sX → Prop} (X : CallFix p m c cc nL s args lw_all RX0) (hr : meth.sig.returnType = some .int) (hlk : meth.locks = false) (hM : XW D dA o q S A s H locs) (hu : u ≤ mc) (hw : w ≤ ms) (hq : Q0 v S) (hdg : decode cc pc = .ok (.ireturn, 1)) : W p l e R s m args below meth c H locs u w (MQT below (YPost D dA o q A (yqI Q0)) args s mc ms A) (F0 m pc ls [.int v]) :=
  W.widen hu hw (W.toT (W.iret X.1 X.2.1 hr (fun t ht _ => ⟨⟨_, S, rfl, ⟨v, rfl, hq⟩, by rw [ht]; exact hM.2.2.1⟩, hM.2.2.2.F ht⟩) hM.2.2.2.2.2 hdg hlk))
theorem YA_self {L : hRw} {sz : Nat} (hi : hIs S.2.2.2 L) (hD : va_D (fun _ => True) (hws dA (WX o q dA S) L)) : va_D (YA o q S.2.2.2 sz) (hws dA (WX o q dA S) L) := (XA_self hi hD).weaken (fun _ _ _ z => z.elim Or.inl (fun z => Or.inr (Or.inl z)))
/-- a contract of this kind out of its walk: the method has handlers -/
theorem y_ofH {sz : Nat} (hc : y.cls = RX0) (hlen : (lg_sl (.ref o :: As)).length ≤ maxL)
    (body : ∀ (A : Nat → Prop) (p : Program) (e : Env) (s : State) (m : MethodId) (args : Array Value) (below : List Frame) (meth : Method) (c : Code), CallFix p m c bytes maxL s args lw_all RX0 → meth.sig.returnType = ret → meth.locks = false → c.exceptionTable.toList.map (fun h => (h.startPc, h.endPc, h.handlerPc, h.catchType)) = hh → (∀ x, s.heap.size ≤ x → A x) → OLD K A s s.heap → ORF K s → XW D dA o q S A s s.heap [] → ∀ ls : Array Slot, lv_has ls maxL (lv_args 0 (.ref o :: As)) → W p l e rm s m args below meth c s.heap [] 0 0 (MQT below (YPost D dA o q A Qr) args s mc ms A) (F0 m 0 ls [])) :
    Met l y (wsW_ y bytes maxL ret hh) rm (YPre D dA K sz o q S As) (YPost D dA o q (YA o q S.2.2.2 sz) Qr) mc ms (YA o q S.2.2.2 sz) := by
  refine MetT.toMet (MetFree.of_bodyS (code := bytes) (maxLocals := maxL) (ret := ret) (by rw [hc]; decide) ?_ ?_) ?_
  · intro args s m h hn
    obtain ⟨m9, meth, c, hn9, h1, h2, h3, h4, -, h5, h6, -⟩ := Cond.codeWith_spec (atoms_spec (ws := wsW_ y bytes maxL ret hh) h _ List.mem_cons_self)
    cases hn.symm.trans hn9
    exact ⟨meth, c, h1, h2, h3, h4, h5, h6⟩
  · intro p e s m args below meth c s₁ B hml hv _
    have hh0 : s₁.heap = s.heap := by rw [B.state]; rfl
    have hts := atoms_spec (ws := wsW_ y bytes maxL ret hh) B.pre
    obtain ⟨m9, meth9, c9, hn9, h1, h2, -, -, htb, -⟩ := Cond.codeWith_spec (hts _ List.mem_cons_self)
    cases B.named.symm.trans hn9
    cases B.method.symm.trans h1
    cases (Stand.of_body B).code.symm.trans h2
    have hts : ∀ w ∈ lw_all, w.before _ s = true := fun w h => hts w (List.mem_cons_of_mem _ h)
    have hl := lv_entry (.ref o :: As) hlen
    have hown := findClass_of_methodNamed B.named
    rw [hc] at hown
    obtain ⟨rfl, rfl, hK, hN, hO, hRf, L, hi, hP, hD⟩ := hv
    have hW := body _ p e s m _ below meth c ⟨B.exec, B.bytes, hml, hown, hts⟩ B.returns B.notSynchronized htb (fun x hx => Or.inr (Or.inr hx)) hO hRf ⟨hK, hN, ⟨L, hi, hP, YA_self hi hD⟩, va_S.rf⟩ _ hl
    rw [← lg_entry_eq] at hW
    obtain ⟨t, a1, oc, b1, b2, b3⟩ := hW s₁ hh0 (Stand.of_body B)
    exact ⟨t, oc, a1, b1, b2, ⟨b3.1, b3.2⟩⟩
  · rintro a st x t ⟨⟨v, S', h, -⟩, -⟩
    cases h
end YROWS
