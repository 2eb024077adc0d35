/-! CONTRACTS of the methods in which the machine may throw; rows of sheets -/
set_option maxRecDepth 100000
abbrev rmE (n c k : Nat) : Room := { frames := n, cells := c, slots := k, locals := 40 * n + 11000 }
theorem rmE_le {i j L a b d f : Nat} (h : i + 1 ≤ j) (hm : L ≤ 21) : (rmE i a b).frames + 1 ≤ (rmE j d f).frames ∧ 8 + (L + 11) + (rmE i a b).locals ≤ (rmE j d f).locals := ⟨h, by show 8 + (L + 11) + (40 * i + 11000) ≤ 40 * j + 11000; omega⟩
theorem rmE_leL {i j L d f : Nat} (h : i + 1 ≤ j) (hm : L ≤ 21) : (rmL i).frames + 1 ≤ (rmE j d f).frames ∧ 8 + (L + 11) + (rmL i).locals ≤ (rmE j d f).locals := ⟨h, by show 8 + (L + 11) + 40 * i ≤ 40 * j + 11000; omega⟩
theorem va_nostat {D : va_G} {cl : List vw_C} {ws : va_W} {H : Heap} (hP : va_P D cl ws H) {k : Nat} {z : Nat × va_E} (hk : ws[k]? = some z) {cell : Cell} (hc : H[z.1]? = some cell) : cell.vm.isStatics = false := by
  have h := hP k z hk
  obtain ⟨a, x | x⟩ := z
  · have h : H[a]? = some (vp_cell x.1 x.2) := h
    obtain rfl := Option.some.inj (h.symm.trans hc)
    obtain ⟨c0, n, f | f | f | f | f⟩ := x <;> rfl
  · obtain ⟨r, -, c2, g1, -, g3, -⟩ := h
    obtain rfl := Option.some.inj (g1.symm.trans hc)
    rw [g3]; rfl
def EPre (D : va_G) (dA : Nat → ClassId) (K : oK) (sz o : Nat) (q : Nat → Nat) (S : sX) (as : List Value) : Array Value → State → Prop := fun a U => YPre D dA K sz o q S as a U ∧ OZ (YA o q S.2.2.2 sz) U U.heap ∧ NCS U
/-- methods over the abstract heap alone, which return or throw a machine's exception of the class cE -/
def UPre (D : va_G) (dA : Nat → ClassId) (K : oK) (cls : String) (cE : ClassId) (sz : Nat) (h : hH) (as : List Value) : Array Value → State → Prop := fun a U => NPre D dA K sz h as a U ∧ OZ (NA h sz) U U.heap ∧ NCS U ∧ U.vm.findClass cls = some cE
def UPost (D : va_G) (dA : Nat → ClassId) (cE : ClassId) (A : Nat → Prop) (Qr : Option Value → hH → Prop) (Qt : hH → Prop) : Array Value → State → Outcome → State → Prop := fun _ st oc t =>
  ((∃ (v : Option Value) (h : hH), oc = .returned v ∧ Qr v h ∧ HH D dA [] h A t.heap) ∨ (∃ (x : Nat) (ce : Cell) (h : hH), oc = .threw x ∧ Qt h ∧ t.heap[x]? = some ce ∧ ce.vm.isStatics = false ∧ ce.cls = cE ∧ HH D dA [] h A t.heap)) ∧ va_F A st t
/-- the kind of a sheet's row: none, or an array of ints, bytes, shorts -/
def rowT (h : hH) (r : Option Nat) : Option (Option Nat) := match r with
  | none => some none
  | some a => match h a with
    | some (.inl (t, _, .inl _)) => if t = 0 ∨ t = 2 ∨ t = 3 then some (some t) else none
    | _ => none
def nmT (t : Nat) : String := if t = 2 then "[B" else if t = 3 then "[S" else "[I"
theorem rowT_n {h : hH} {r : Option Nat} (e : rowT h r = some none) : r = none := by
  cases r with
  | none => rfl
  | some a =>
    unfold rowT at e
    dsimp only at e
    split at e
    · split at e
      · cases e
      · cases e
    · cases e
theorem rowT_s {h : hH} {r : Option Nat} {t : Nat} (e : rowT h r = some (some t)) : ∃ (a n : Nat) (f : Nat → Int32), r = some a ∧ h a = some (.inl (t, n, .inl f)) ∧ (t = 0 ∨ t = 2 ∨ t = 3) := by
  cases r with
  | none => cases e
  | some a =>
    unfold rowT at e
    dsimp only at e
    split at e
    · rename_i t' n f hz
      split at e
      · rename_i ht
        cases e
        exact ⟨a, n, f, rfl, hz, ht⟩
      · cases e
    · cases e
section ECONT
variable {p : Program} {l : Launch} {e : Env} {R : Room} {s : State} {m : MethodId} {args : Array Value} {below : List Frame} {meth : Method} {c : Code} {H : Heap} {locs : List Loc} {u w mc ms c1 k1 B : Nat} {Q : State → Prop}
variable {cc bytes : ByteArray} {nL maxL pc hpc idx n : Nat} {ls : Array Slot} {rest st As : List Value} {own C cls : String} {y : MethodName} {ret : Option FieldType} {rm : Room} {hh : List (Nat × Nat × Nat × Nat)}
variable {D : va_G} {dA : Nat → ClassId} {K : oK} {F : va_W} {h h1 : hH} {A : Nat → Prop} {o : Nat} {q : Nat → Nat} {S S1 : sX} {Qr : Option Value → sX → Prop} {Qu : Option Value → hH → Prop} {Qt : hH → Prop} {cE : ClassId}
theorem YPre.blind {sz : Nat} {as : List Value} : FrameBlind (YPre D dA K sz o q S as) := fun a U g mk z => ⟨z.1, z.2.1, va_K.moved (u := U) (U := U.calling g mk a) (Vm.Alike.refl U.vm) z.2.2.1, XN.same (u := U) rfl z.2.2.2.1, OLD.moved (u := U) (U := U.calling g mk a) (Vm.Alike.refl U.vm) z.2.2.2.2.1, ORF.same (u := U) rfl z.2.2.2.2.2.1, z.2.2.2.2.2.2⟩
theorem EPre.blind {sz : Nat} {as : List Value} : FrameBlind (EPre D dA K sz o q S as) := fun a U g mk z => ⟨YPre.blind a U g mk z.1, ⟨LZ.moved (u := U) (U := U.calling g mk a) (Vm.Alike.refl U.vm) z.2.1.1, LZ.moved (u := U) (U := U.calling g mk a) (Vm.Alike.refl U.vm) z.2.1.2⟩, NCS.moved (u := U) (U := U.calling g mk a) (Vm.Alike.refl U.vm) z.2.2⟩
theorem UPre.blind {sz : Nat} {as : List Value} : FrameBlind (UPre D dA K cls cE sz h as) := fun a U g mk z => ⟨NPre.blind a U g mk z.1, ⟨LZ.moved (u := U) (U := U.calling g mk a) (Vm.Alike.refl U.vm) z.2.1.1, LZ.moved (u := U) (U := U.calling g mk a) (Vm.Alike.refl U.vm) z.2.1.2⟩, NCS.moved (u := U) (U := U.calling g mk a) (Vm.Alike.refl U.vm) z.2.2.1, z.2.2.2⟩
theorem EX_ofY {sz : Nat} {L : hRw} (htr : ∀ e : Env, l.admits e → e.platform.stackTraces = false) (hs : s.heap.size = sz) (hO : OLD K (YA o q S.2.2.2 sz) s s.heap) (hZ : OZ (YA o q S.2.2.2 sz) s s.heap) (hnc : NCS s) (hi : hIs S.2.2.2 L) (hP : va_P D vwCl (hws dA (WX o q dA S) L) s.heap) : EX K (YA o q S.2.2.2 sz) l s := by
  refine ⟨fun x hx => Or.inr (Or.inr (by omega)), hO, hZ, fun x hx cell hc => ?_, hnc, htr⟩
  rcases hx with hx | ⟨v, hx⟩ | hx
  · have e : (WX o q dA S).map Prod.fst = XL o q := rfl
    rw [← e] at hx
    obtain ⟨z, hz, rfl⟩ := List.mem_map.mp hx
    obtain ⟨k, hk⟩ := List.getElem?_of_mem hz
    refine va_nostat hP (k := k) (z := z) ?_ hc
    unfold hws
    rw [List.getElem?_append_left (List.getElem?_eq_some_iff.mp hk).1]
    exact hk
  · obtain ⟨j, hj⟩ := hh_at hi hx
    exact va_nostat hP (hws_r hj) hc
  · exact absurd (Array.getElem?_eq_some_iff.mp hc).1 (by omega)
theorem EX_ofN {sz : Nat} {L : hRw} (htr : ∀ e : Env, l.admits e → e.platform.stackTraces = false) (hs : s.heap.size = sz) (hO : OLD K (NA h sz) s s.heap) (hZ : OZ (NA h sz) s s.heap) (hnc : NCS s) (hi : hIs h L) (hP : va_P D vwCl (hws dA [] L) s.heap) : EX K (NA h sz) l s := by
  refine ⟨fun x hx => Or.inr (by omega), hO, hZ, fun x hx cell hc => ?_, hnc, htr⟩
  rcases hx with ⟨v, hx⟩ | hx
  · obtain ⟨j, hj⟩ := hh_at hi hx
    exact va_nostat hP (hws_r hj) hc
  · exact absurd (Array.getElem?_eq_some_iff.mp hc).1 (by omega)
theorem y_ofE {sz : Nat} (htr : ∀ e : Env, l.admits e → e.platform.stackTraces = false) (hc : y.cls = RX0) (hlen : (lg_sl (.ref o :: As)).length ≤ maxL)
    (body : ∀ (A : Nat → Prop) (p : Program) (e : Env) (s : State) (m : MethodId) (args : Array Value) (below : List Frame) (meth : Method) (c : Code), CallFix p m c bytes maxL s args lw_all RX0 → meth.sig.returnType = ret → meth.locks = false → c.exceptionTable.toList.map (fun h => (h.startPc, h.endPc, h.handlerPc, h.catchType)) = hh → EX K A l s → ORF K s → XW D dA o q S A s s.heap [] → ∀ ls : Array Slot, lv_has ls maxL (lv_args 0 (.ref o :: As)) → W p l e rm s m args below meth c s.heap [] 0 0 (MQT below (YPost D dA o q A Qr) args s mc ms A) (F0 m 0 ls [])) :
    Met l y (wsW_ y bytes maxL ret hh) rm (EPre D dA K sz o q S As) (YPost D dA o q (YA o q S.2.2.2 sz) Qr) mc ms (YA o q S.2.2.2 sz) := by
  refine MetT.toMet (MetFree.of_bodyS (code := bytes) (maxLocals := maxL) (ret := ret) (by rw [hc]; decide) ?_ ?_) ?_
  · intro args s m h hn
    obtain ⟨m9, meth, c, hn9, h1, h2, h3, h4, -, h5, h6, -⟩ := Cond.codeWith_spec (atoms_spec (ws := wsW_ y bytes maxL ret hh) h _ List.mem_cons_self)
    cases hn.symm.trans hn9
    exact ⟨meth, c, h1, h2, h3, h4, h5, h6⟩
  · intro p e s m args below meth c s₁ B hml hv _
    have hh0 : s₁.heap = s.heap := by rw [B.state]; rfl
    have hts := atoms_spec (ws := wsW_ y bytes maxL ret hh) B.pre
    obtain ⟨m9, meth9, c9, hn9, h1, h2, -, -, htb, -⟩ := Cond.codeWith_spec (hts _ List.mem_cons_self)
    cases B.named.symm.trans hn9
    cases B.method.symm.trans h1
    cases (Stand.of_body B).code.symm.trans h2
    have hts : ∀ w ∈ lw_all, w.before _ s = true := fun w h => hts w (List.mem_cons_of_mem _ h)
    have hl := lv_entry (.ref o :: As) hlen
    have hown := findClass_of_methodNamed B.named
    rw [hc] at hown
    obtain ⟨⟨rfl, rfl, hK, hN, hO, hRf, L, hi, hP, hD⟩, hZ, hnc⟩ := hv
    have hW := body _ p e s m _ below meth c ⟨B.exec, B.bytes, hml, hown, hts⟩ B.returns B.notSynchronized htb (EX_ofY htr rfl hO hZ hnc hi hP) hRf ⟨hK, hN, ⟨L, hi, hP, YA_self hi hD⟩, va_S.rf⟩ _ hl
    rw [← lg_entry_eq] at hW
    obtain ⟨t, a1, oc, b1, b2, b3⟩ := hW s₁ hh0 (Stand.of_body B)
    exact ⟨t, oc, a1, b1, b2, ⟨b3.1, b3.2⟩⟩
  · rintro a st x t ⟨⟨v, S', h, -⟩, -⟩
    cases h
theorem u_ofW {sz : Nat} (htr : ∀ e : Env, l.admits e → e.platform.stackTraces = false) (hc : y.cls = own) (hpl : plainName own = true) (hlen : (lg_sl As).length ≤ maxL)
    (body : ∀ (A : Nat → Prop) (p : Program) (e : Env) (s : State) (m : MethodId) (args : Array Value) (below : List Frame) (meth : Method) (c : Code), CallFix p m c bytes maxL s args lw_all own → meth.sig.returnType = ret → meth.locks = false → c.exceptionTable.isEmpty = true → EX K A l s → s.vm.findClass cls = some cE → HX D dA [] h A s s.heap [] → ∀ ls : Array Slot, lv_has ls maxL (lv_args 0 As) → W p l e rm s m args below meth c s.heap [] 0 0 (MQT below (UPost D dA cE A Qu Qt) args s mc ms A) (F0 m 0 ls [])) :
    MetT l y (ws_ y bytes maxL ret) rm (UPre D dA K cls cE sz h As) (UPost D dA cE (NA h sz) Qu Qt) mc ms (NA h sz) := by
  refine MetT.ofW (cc := bytes) (maxL := maxL) (ret := ret) (by rw [hc]; exact hpl) rfl ?_
  intro p e s m args below meth c s₁ B hml hne hv
  have hts := atoms_spec (ws := ws_ y bytes maxL ret) B.pre
  have hts : ∀ w ∈ lw_all, w.before _ s = true := fun w h => hts w (List.mem_cons_of_mem _ h)
  have hl := lv_entry As hlen
  have hown := findClass_of_methodNamed B.named
  rw [hc] at hown
  obtain ⟨⟨rfl, rfl, hK, hN, hO, hRf, L, hi, hP, hD⟩, hZ, hnc, hcE⟩ := hv
  rw [lg_entry_eq]
  refine body _ p e s m _ below meth c ⟨B.exec, B.bytes, hml, hown, hts⟩ B.returns B.notSynchronized hne (EX_ofN htr rfl hO hZ hnc hi hP) hcE ⟨hK, hN, ⟨L, hi, hP, hD.1, fun k z hk => ?_⟩, va_S.rf⟩ _ hl
  unfold hws at hk
  rw [List.nil_append, List.getElem?_map] at hk
  cases hw : L[k]? with
  | none => rw [hw] at hk; cases hk
  | some w =>
    rw [hw] at hk
    cases hk
    exact Or.inl ⟨w.2, (hi _ _).mpr (List.mem_of_getElem? hw)⟩
theorem u_pre (hM : HX D dA F h A s H locs) (hE : EX K A l s) (hRf : ORF K s) (hcE : s.vm.findClass cls = some cE) : ∀ U : State, U.heap = H → s.WarmedH U.vm → UPre D dA K cls cE H.size h As As.toArray U := fun U hU hW =>
  ⟨p_pre hM hE.1 hE.2.1 hRf rfl U hU hW, by rw [hU]; exact ⟨((hE.2.2.1.1.kept hM.2.2.2.2.1).narrow (fun q hq => NA_in hM hE.1 hq)).moved hW.alike, ((hE.2.2.1.2.kept hM.2.2.2.2.1).narrow (fun q hq => NA_in hM hE.1 hq)).moved hW.alike⟩, hE.2.2.2.2.1.moved hW.alike, by rw [hW.alike.findClass]; exact hcE⟩
/-- a call whose exceptions a row of the method catches -/
theorem u_call {a0 : Array Value} (hM : HX D dA F h A s H locs) (hA : ∀ x, s.heap.size ≤ x → A x) (hr : RunT p l e R s m args below meth c H locs u w c1 k1 (F0 m pc ls st) rest (UPost D dA cE (NA h H.size) Qu Qt a0) (NA h H.size)) (hcE : s.vm.findClass cls = some cE)
    (htab : e.platform.magicAccessors = ({} : Platform).magicAccessors → ∀ c0, s.vm.findClass cls = some c0 → cTab e.platform s m.cls pc c0 hpc c.exceptionTable.toList)
    (kr : ∀ (v : Option Value) (h1 : hH) (H1 : Heap) (locs1 : List Loc), Qu v h1 → HX D dA F h1 A s H1 locs1 → W p l e R s m args below meth c H1 locs1 (u + c1) (w + k1) Q (F0 m (pc + 3) ls (v.toList ++ rest)))
    (kt : ∀ (a : Nat) (h1 : hH) (H1 : Heap) (locs1 : List Loc), Qt h1 → HX D dA F h1 A s H1 locs1 → W p l e R s m args below meth c H1 locs1 (u + c1) (w + k1) Q (F0 m hpc ls [.ref a])) :
    W p l e R s m args below meth c H locs u w Q (F0 m pc ls st) := by
  have hin : ∀ a, NA h H.size a → A a := fun a h => NA_in hM hA h
  obtain ⟨hK, hN, ⟨L0, hi, hP0, hD⟩, hS⟩ := hM
  intro T hT X
  obtain ⟨o, st₀, t, L, T', h0', ⟨hq, hF⟩, hL, X', e1, e2, hcase⟩ := hr T hT X
  obtain ⟨hz, hk⟩ := hF
  rw [h0'] at hz hk
  have hS2 : va_S A s.heap t.heap (locs ++ L) := ⟨Nat.le_trans hS.1 hz, fun x h1 h2 => by rw [hk x (Nat.lt_of_lt_of_le h1 hS.1) (fun z => h2 (hin x z))]; exact hS.2.1 x h1 h2, fun x hx => by
    rcases List.mem_append.mp hx with h | h
    · exact hS.2.2 x h
    · exact hin _ (hL x h)⟩
  rcases hcase with ⟨v, rfl, hgo⟩ | ⟨x, rfl, hgo⟩
  · rcases hq with ⟨v', h', q1, q2, q3⟩ | ⟨x', ce, h', q1, q2, q3⟩
    · cases q1
      obtain ⟨t2, a1, b1⟩ := kr v h' t.heap (locs ++ L) q2 ⟨hK, hN, nn_frame hi hP0 hD hin hk q3, hS2⟩ T' e1 X'
      exact ⟨t2, hgo t2 a1, b1⟩
    · cases q1
  · rcases hq with ⟨v', h', q1, q2, q3⟩ | ⟨x', ce, h', q1, q2, q3, q4, q5, q6⟩
    · cases q1
    · cases q1
      have hpl : e.platform.magicAccessors = ({} : Platform).magicAccessors := by rw [X'.admits.platform]
      obtain ⟨vm', XV, stV⟩ := c_caught X' x (g := { F0 m pc ls st with stack := rest }) (hpc := hpc) rfl (by rw [e1]; exact q3) q4 (by rw [q5]; exact Vm.classAt_of_findClass hcE) (by rw [q5]; exact htab hpl _ hcE)
      obtain ⟨t2, a1, b1⟩ := kt x h' t.heap (locs ++ L) q2 ⟨hK, hN, nn_frame hi hP0 hD hin hk q6, hS2⟩ (T'.setVm vm') e1 XV
      exact ⟨t2, hgo t2 (stV t2 a1), b1⟩
theorem u_iret {v : Int32} {Q0 : Int32 → hH → Prop} (X : CallFix p m c cc nL s args lw_all own) (hr : meth.sig.returnType = some .int) (hlk : meth.locks = false) (hM : HX D dA [] h A s H locs) (hu : u ≤ mc) (hw : w ≤ ms) (hq : Q0 v h) (hdg : decode cc pc = .ok (.ireturn, 1)) : W p l e R s m args below meth c H locs u w (MQT below (UPost D dA cE A (nqI Q0) Qt) args s mc ms A) (F0 m pc ls [.int v]) :=
  W.widen hu hw (W.toT (W.iret X.1 X.2.1 hr (fun t ht _ => ⟨Or.inl ⟨_, h, rfl, ⟨v, rfl, hq⟩, by rw [ht]; exact hM.2.2.1⟩, hM.2.2.2.F ht⟩) hM.2.2.2.2.2 hdg hlk))
theorem u_aret {v : Nat} {cn : String} {Q0 : Nat → hH → Prop} (X : CallFix p m c cc nL s args lw_all own) (hr : meth.sig.returnType = some (.object cn)) (hlk : meth.locks = false) (hM : HX D dA [] h A s H locs) (hu : u ≤ mc) (hw : w ≤ ms) (hq : Q0 v h) (hdg : decode cc pc = .ok (.areturn, 1)) : W p l e R s m args below meth c H locs u w (MQT below (UPost D dA cE A (nqR Q0) Qt) args s mc ms A) (F0 m pc ls [.ref v]) :=
  W.widen hu hw (W.toT (W.aret X.1 X.2.1 hr (Or.inl ⟨cn, rfl⟩) (Or.inr ⟨v, rfl⟩) (fun t ht _ => ⟨Or.inl ⟨_, h, rfl, ⟨v, rfl, hq⟩, by rw [ht]; exact hM.2.2.1⟩, hM.2.2.2.F ht⟩) hM.2.2.2.2.2 hdg hlk))
theorem u_throw (X : CallFix p m c cc nL s args lw_all own) (hM : HX D dA [] h A s H locs) (hE : EX K A l s) (hcE : s.vm.findClass cls = some cE) {names : List String} (hsize : ls.size = nL) (ht : ThM p l e R s m args below meth c H locs u w cls B pc ls st rest)
    (hfit : Bundle.fit cls = true ∧ (∀ n ∈ names, Bundle.fit n = true) ∧ (cls == "java/lang/StackOverflowError") = false ∧ (cls == "java/lang/OutOfMemoryError") = false ∧ names.length ≤ 3) (hat : ∀ a ∈ Bundle.messageArmAtoms cls names, a.before args s = true) (hB : B ≤ 100000)
    (hR1 : 7 < R.frames) (hR2 : (rest.map fun v => v.category).sum + 10240 ≤ R.locals) (hR3 : u + 3 ≤ R.cells) (hR4 : w + (B + 10) ≤ R.slots) (hne : c.exceptionTable.isEmpty = true) (hlk : meth.locks = false) (hcc : u + 3 ≤ mc) (hss : w + (B + 10) ≤ ms) (hq : Qt h) : W p l e R s m args below meth c H locs u w (MQT below (UPost D dA cE A Qu Qt) args s mc ms A) (F0 m pc ls st) :=
  e_msgL X hM hE hsize ht hfit hat hB hR1 hR2 hR3 hR4 hne hlk hcc hss (fun a ce H1 locs1 hM1 g1 g2 g3 t' ht' _ => ⟨Or.inr ⟨a, ce, h, rfl, hq, by rw [ht']; exact g1, g2, Option.some.inj (g3.symm.trans hcE), by rw [ht']; exact hM1.2.2.1⟩, hM1.2.2.2.F ht'⟩)
/-- the classes of the rows -/
theorem rt_find (hK : va_K D vwCl (tyX dA) s) {t : Nat} (ht : t = 0 ∨ t = 2 ∨ t = 3) : s.vm.findClass (nmT t) = some (dA t) ∧ ∃ ty : FieldType, (tyX dA)[t]? = some (dA t, ty) := by
  rcases ht with rfl | rfl | rfl
  · exact ⟨(hK.2 0 _ rfl).2, _, rfl⟩
  · exact ⟨(hK.2 2 _ rfl).2, _, rfl⟩
  · exact ⟨(hK.2 3 _ rfl).2, _, rfl⟩
theorem rt_nc (hn : NCS s) {t t' : Nat} (ht : t = 0 ∨ t = 2 ∨ t = 3) (ht' : t' = 0 ∨ t' = 2 ∨ t' = 3) (hne : t' ≠ t) : va_Nc (nmT t') (nmT t) s := by
  rcases ht with rfl | rfl | rfl <;> rcases ht' with rfl | rfl | rfl
  · exact absurd rfl hne
  · exact hn.at 1 rfl
  · exact hn.at 3 rfl
  · exact hn.at 4 rfl
  · exact absurd rfl hne
  · exact hn.at 2 rfl
  · exact hn.at 5 rfl
  · exact hn.at 0 rfl
  · exact absurd rfl hne
theorem rt_cell (hM : HX D dA F h A s H locs) {a t n : Nat} {f : Nat → Int32} (ha : h a = some (.inl (t, n, .inl f))) (ht : t = 0 ∨ t = 2 ∨ t = 3) : ∃ cell : Cell, H[a]? = some cell ∧ cell.vm.isStatics = false ∧ s.vm.findClass (nmT t) = some cell.cls := by
  obtain ⟨h1, ty, h2⟩ := rt_find hM.1 ht
  obtain ⟨cell, g1, -, -, g4, g5⟩ := h_arr hM ha h2
  exact ⟨cell, g1, g4, by rw [g5]; exact h1⟩
theorem e_inst {r τ : Option Nat} {t : Nat} (X : CallFix p m c cc nL s args lw_all own) (hM : HX D dA F h A s H locs) (hn : NCS s) (hr : rowT h r = some τ) (ht : t = 0 ∨ t = 2 ∨ t = 3) (hlink : Cond.classLink own idx (nmT t) ∈ lw_all) (hdg : decode cc pc = .ok (.instanceof idx, 3))
    (k : W p l e R s m args below meth c H locs u w Q (F0 m (pc + 3) ls (.int (if τ = some t then 1 else 0) :: rest))) : W p l e R s m args below meth c H locs u w Q (F0 m pc ls (va_rf r :: rest)) := by
  cases τ with
  | none =>
    cases rowT_n hr
    exact lv_instN X.1 X.2.1 hdg k
  | some t' =>
    obtain ⟨a, n, f, rfl, ha, ht'⟩ := rowT_s hr
    by_cases htt : t' = t
    · subst htt
      rw [if_pos rfl] at k
      exact va_instE X.1 X.2.1 X.2.2.2.1 (X.2.2.2.2 _ hlink) (rt_cell hM ha ht') hdg k
    · rw [if_neg (fun z => htt (Option.some.inj z))] at k
      exact va_instNo X.1 X.2.1 X.2.2.2.1 (X.2.2.2.2 _ hlink) (rt_nc hn ht ht' htt) (rt_cell hM ha ht') hdg k
theorem e_castY {r τ : Option Nat} {t : Nat} (X : CallFix p m c cc nL s args lw_all own) (hM : HX D dA F h A s H locs) (hr : rowT h r = some τ) (hτ : τ = none ∨ τ = some t) (hlink : Cond.classLink own idx (nmT t) ∈ lw_all) (hdg : decode cc pc = .ok (.checkcast idx, 3))
    (k : W p l e R s m args below meth c H locs u w Q (F0 m (pc + 3) ls (va_rf r :: rest))) : W p l e R s m args below meth c H locs u w Q (F0 m pc ls (va_rf r :: rest)) := by
  rcases hτ with rfl | rfl
  · cases rowT_n hr
    exact lv_castN X.1 X.2.1 hdg k
  · obtain ⟨a, n, f, rfl, ha, ht'⟩ := rowT_s hr
    exact va_castE X.1 X.2.1 X.2.2.2.1 (X.2.2.2.2 _ hlink) (rt_cell hM ha ht') hdg k
theorem th_cast {r τ : Option Nat} {t : Nat} (X : CallFix p m c cc nL s args lw_all own) (hM : HX D dA F h A s H locs) (hn : NCS s) (hr : rowT h r = some τ) (hτ : ¬ (τ = none ∨ τ = some t)) (ht : t = 0 ∨ t = 2 ∨ t = 3) (hlink : Cond.classLink own idx (nmT t) ∈ lw_all) (hdg : decode cc pc = .ok (.checkcast idx, 3)) :
    ThM p l e R s m args below meth c H locs u w "java/lang/ClassCastException" 590 pc ls (va_rf r :: rest) (va_rf r :: rest) := by
  cases τ with
  | none => exact absurd (Or.inl rfl) hτ
  | some t' =>
    have htt : t' ≠ t := fun z => hτ (Or.inr (by rw [z]))
    obtain ⟨a, n, f, rfl, ha, ht'⟩ := rowT_s hr
    obtain ⟨f1, ty1, g1⟩ := rt_find hM.1 ht'
    obtain ⟨f2, ty2, g2⟩ := rt_find hM.1 ht
    have h9 : ∀ a b : Nat, (a = 0 ∨ a = 2 ∨ a = 3) → (b = 0 ∨ b = 2 ∨ b = 3) → ∀ w, (w = "module java.base" ∨ w = "unnamed module") → (castText (nmT a) (nmT b) w == notModelled) = false ∧ (stringBytes (stringToUtf16 (castText (nmT a) (nmT b) w))).size ≤ 590 := by
      intro a b ha hb w hw
      rcases ha with rfl | rfl | rfl <;> rcases hb with rfl | rfl | rfl <;> rcases hw with rfl | rfl <;> exact ⟨by decide +kernel, by decide +kernel⟩
    have h8 : ∀ a : Nat, (a = 0 ∨ a = 2 ∨ a = 3) → (withoutBrackets (nmT a)).length = 1 ∧ dotted (nmT a) = nmT a := by
      intro a ha
      rcases ha with rfl | rfl | rfl <;> exact ⟨by decide +kernel, by decide +kernel⟩
    exact th_castG X hM ha g1 g2 f1 f2 (rt_nc hn ht ht' htt) (h8 _ ht').1 (h8 _ ht).1 (h8 _ ht').2 (h8 _ ht).2 (h9 _ _ ht' ht) hlink hdg
theorem e_iast {a n : Nat} {f : Nat → Int32} {i v : Int32} (X : CallFix p m c cc nL s args lw_all own) (hM : HX D dA F h A s H locs) (ha : h a = some (.inl (0, n, .inl f))) (hin : ¬ (i < 0 ∨ n ≤ i.toNatClampNeg)) (hdg : decode cc pc = .ok (.iastore, 1))
    (kk : ∀ (H1 : Heap) (locs1 : List Loc), HX D dA F (va_up h a (some (.inl (0, n, .inl (upd f i.toNatClampNeg v))))) A s H1 locs1 → W p l e R s m args below meth c H1 locs1 u w Q (F0 m (pc + 1) ls rest)) : W p l e R s m args below meth c H locs u w Q (F0 m pc ls (.int v :: .int i :: .ref a :: rest)) := by
  obtain ⟨hK, hN, ⟨L, hi, hP, hD⟩, hS⟩ := hM
  obtain ⟨j, hj⟩ := hh_at hi ha
  exact va_iast X.1 X.2.1 hK hP hD hS _ 0 (hws_r hj) rfl hin hdg (fun H1 locs1 hP1 hD1 hS1 => kk H1 locs1 ⟨hK, hN, ⟨_, hIs_set hi hD hj _, by rw [← hws_set]; exact hP1, by rw [← hws_set]; exact hD1⟩, hS1⟩)
theorem e_iald {a n : Nat} {f : Nat → Int32} {i : Int32} (X : CallFix p m c cc nL s args lw_all own) (hM : HX D dA F h A s H locs) (ha : h a = some (.inl (0, n, .inl f))) (hin : ¬ (i < 0 ∨ n ≤ i.toNatClampNeg)) (hdg : decode cc pc = .ok (.iaload, 1))
    (kk : W p l e R s m args below meth c H locs u w Q (F0 m (pc + 1) ls (.int (f i.toNatClampNeg) :: rest))) : W p l e R s m args below meth c H locs u w Q (F0 m pc ls (.int i :: .ref a :: rest)) := by
  obtain ⟨hK, -, ⟨L, hi, hP, hD⟩, hS⟩ := hM
  obtain ⟨j, hj⟩ := hh_at hi ha
  exact va_iald X.1 X.2.1 hK hP _ 0 (hws_r hj) rfl hin hdg kk
theorem e_bast {a n : Nat} {f : Nat → Int32} {i v : Int32} (X : CallFix p m c cc nL s args lw_all own) (hM : HX D dA F h A s H locs) (ha : h a = some (.inl (2, n, .inl f))) (hin : ¬ (i < 0 ∨ n ≤ i.toNatClampNeg)) (hdg : decode cc pc = .ok (.bastore, 1))
    (kk : ∀ (H1 : Heap) (locs1 : List Loc), HX D dA F (va_up h a (some (.inl (2, n, .inl (upd f i.toNatClampNeg (vp_nar .byte v)))))) A s H1 locs1 → W p l e R s m args below meth c H1 locs1 u w Q (F0 m (pc + 1) ls rest)) : W p l e R s m args below meth c H locs u w Q (F0 m pc ls (.int v :: .int i :: .ref a :: rest)) := by
  obtain ⟨hK, hN, ⟨L, hi, hP, hD⟩, hS⟩ := hM
  obtain ⟨j, hj⟩ := hh_at hi ha
  exact va_bast X.1 X.2.1 hK hP hD hS _ 2 (hws_r hj) rfl hin hdg (fun H1 locs1 hP1 hD1 hS1 => kk H1 locs1 ⟨hK, hN, ⟨_, hIs_set hi hD hj _, by rw [← hws_set]; exact hP1, by rw [← hws_set]; exact hD1⟩, hS1⟩)
theorem e_bald {a n : Nat} {f : Nat → Int32} {i : Int32} (X : CallFix p m c cc nL s args lw_all own) (hM : HX D dA F h A s H locs) (ha : h a = some (.inl (2, n, .inl f))) (hin : ¬ (i < 0 ∨ n ≤ i.toNatClampNeg)) (hdg : decode cc pc = .ok (.baload, 1))
    (kk : W p l e R s m args below meth c H locs u w Q (F0 m (pc + 1) ls (.int (f i.toNatClampNeg) :: rest))) : W p l e R s m args below meth c H locs u w Q (F0 m pc ls (.int i :: .ref a :: rest)) := by
  obtain ⟨hK, -, ⟨L, hi, hP, hD⟩, hS⟩ := hM
  obtain ⟨j, hj⟩ := hh_at hi ha
  exact va_bald X.1 X.2.1 hK hP _ 2 (hws_r hj) rfl hin hdg kk
theorem e_sast {a n : Nat} {f : Nat → Int32} {i v : Int32} (X : CallFix p m c cc nL s args lw_all own) (hM : HX D dA F h A s H locs) (ha : h a = some (.inl (3, n, .inl f))) (hin : ¬ (i < 0 ∨ n ≤ i.toNatClampNeg)) (hdg : decode cc pc = .ok (.sastore, 1))
    (kk : ∀ (H1 : Heap) (locs1 : List Loc), HX D dA F (va_up h a (some (.inl (3, n, .inl (upd f i.toNatClampNeg (vp_nar .short v)))))) A s H1 locs1 → W p l e R s m args below meth c H1 locs1 u w Q (F0 m (pc + 1) ls rest)) : W p l e R s m args below meth c H locs u w Q (F0 m pc ls (.int v :: .int i :: .ref a :: rest)) := by
  obtain ⟨hK, hN, ⟨L, hi, hP, hD⟩, hS⟩ := hM
  obtain ⟨j, hj⟩ := hh_at hi ha
  exact va_sast X.1 X.2.1 hK hP hD hS _ 3 (hws_r hj) rfl hin hdg (fun H1 locs1 hP1 hD1 hS1 => kk H1 locs1 ⟨hK, hN, ⟨_, hIs_set hi hD hj _, by rw [← hws_set]; exact hP1, by rw [← hws_set]; exact hD1⟩, hS1⟩)
theorem e_sald {a n : Nat} {f : Nat → Int32} {i : Int32} (X : CallFix p m c cc nL s args lw_all own) (hM : HX D dA F h A s H locs) (ha : h a = some (.inl (3, n, .inl f))) (hin : ¬ (i < 0 ∨ n ≤ i.toNatClampNeg)) (hdg : decode cc pc = .ok (.saload, 1))
    (kk : W p l e R s m args below meth c H locs u w Q (F0 m (pc + 1) ls (.int (f i.toNatClampNeg) :: rest))) : W p l e R s m args below meth c H locs u w Q (F0 m pc ls (.int i :: .ref a :: rest)) := by
  obtain ⟨hK, -, ⟨L, hi, hP, hD⟩, hS⟩ := hM
  obtain ⟨j, hj⟩ := hh_at hi ha
  exact va_sald X.1 X.2.1 hK hP _ 3 (hws_r hj) rfl hin hdg kk
theorem n_news {n : Int32} {N' : Nat} (X : CallFix p m c cc nL s args lw_all own) (hM : HX D dA F h A s H locs) (hA : ∀ x, s.heap.size ≤ x → A x) (harr : Cond.arrayClass .short ∈ lw_all) (hn : ¬ n < 0) (hN : n.toNatClampNeg = N') (hbytes : N' * 2 ≤ 536870912) (hcells : u + 1 ≤ R.cells) (hslots : w + N' ≤ R.slots) (hdg : decode cc pc = .ok (.newarray .short, 2))
    (kk : ∀ (q : Nat) (H1 : Heap), h q = none → HX D dA F (va_up h q (some (.inl (3, N', .inl (fun _ => 0))))) A s H1 locs → W p l e R s m args below meth c H1 locs (u + 1) (w + N') Q (F0 m (pc + 2) ls (.ref q :: rest))) : W p l e R s m args below meth c H locs u w Q (F0 m pc ls (.int n :: rest)) := by
  obtain ⟨hK, hN, ⟨L, hi, hP, hD⟩, hS⟩ := hM
  refine va_newa (atype := .short) (ty := .short) (a0 := (N', .inl (fun _ => 0))) X.1 X.2.1 (X.2.2.2.2 _ harr) rfl hK hP hD hS hA (fun cA => by rw [vp_cell_i]; rfl) hn (by assumption) hbytes hcells hslots hdg (fun q cA H1 hK1 hP1 hD1 hS1 => ?_)
  have e1 : cA = dA 3 := Option.some.inj (Eq.trans (Eq.symm (hK1.2 10 _ rfl).2) (hK.2 3 _ rfl).2)
  subst e1
  obtain ⟨h1, h2, h3⟩ := hIs_push (dA := dA) (x := .inl (3, N', .inl (fun _ => 0))) hi hD1
  exact kk q H1 h1 ⟨hK, by assumption, ⟨_, h2, by rw [← h3]; exact hP1, by rw [← h3]; exact hD1⟩, hS1⟩
end ECONT
