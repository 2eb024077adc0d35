/-! METHODS THAT MAKE CELLS AND MAY THROW, over the abstract heap alone: their pure side is a predicate (what holds of every outcome) -/
set_option maxRecDepth 100000
theorem ec_lt_p {α : Type} {a x : α} {f : α → Prop} (h : x = a) (hf : ec_lt a f) : f x := by subst h; exact hf
abbrev rmN (n c k : Nat) : Room := { frames := n, cells := c, slots := k, locals := 40 * n }
def NA (h : hH) (sz : Nat) : Nat → Prop := fun a => (∃ x, h a = some x) ∨ sz ≤ a
/-- what lies outside: statics that are read, the three texts that are read -/
abbrev oK : Type := (Nat → Nat) × (Nat → Nat)
def OLD (K : oK) (A : Nat → Prop) (U : State) (H : Heap) : Prop :=
  va_Zq "java/lang/Throwable" "UNASSIGNED_STACK" "[Ljava/lang/StackTraceElement;" A U H ∧ va_Zq "java/lang/Throwable" "SUPPRESSED_SENTINEL" "Ljava/util/List;" A U H ∧
  va_Z "java/lang/String" "COMPACT_STRINGS" "Z" (.int 1) A U H ∧ va_Zq "jdk/internal/util/Preconditions" "SIOOBE_FORMATTER" "Ljava/util/function/BiFunction;" A U H ∧
  vk_S 3 [4, 4, 3] [[108, 105, 110, 101], [108, 111, 111, 112], [101, 110, 100]] K.1 K.2 A U H
def ORF (K : oK) (U : State) : Prop := vk_R "EventCounters$Reader" 124 "line" (K.1 0) U ∧ vk_R "EventCounters$Reader" 126 "loop" (K.1 1) U ∧ vk_R "EventCounters$Reader" 118 "end" (K.1 2) U
theorem OLD.moved {K : oK} {A : Nat → Prop} {u U : State} {H : Heap} (hvm : u.vm.Alike U.vm) (h : OLD K A u H) : OLD K A U H := ⟨h.1.moved hvm, h.2.1.moved hvm, h.2.2.1.moved hvm, h.2.2.2.1.moved hvm, h.2.2.2.2.moved hvm⟩
theorem OLD.kept {K : oK} {A : Nat → Prop} {U : State} {H H1 : Heap} (h : OLD K A U H) (hq : ∀ a : Nat, a < H.size → ¬ A a → H1[a]? = H[a]?) : OLD K A U H1 := ⟨h.1.kept hq, h.2.1.kept hq, h.2.2.1.kept hq, h.2.2.2.1.kept hq, h.2.2.2.2.kept hq⟩
theorem OLD.narrow {K : oK} {A B : Nat → Prop} {U : State} {H : Heap} (h : OLD K A U H) (hAB : ∀ q, B q → A q) : OLD K B U H := ⟨h.1.narrow hAB, h.2.1.narrow hAB, h.2.2.1.narrow hAB, h.2.2.2.1.narrow hAB, h.2.2.2.2.narrow hAB⟩
theorem ORF.warm {K : oK} {s U : State} (hW : s.WarmedH U.vm) (h : ORF K s) : ORF K U := ⟨h.1.warm hW, h.2.1.warm hW, h.2.2.warm hW⟩
theorem ORF.same {K : oK} {u U : State} (e : U.vm = u.vm) (h : ORF K u) : ORF K U := ⟨h.1.same e, h.2.1.same e, h.2.2.same e⟩
def NPre (D : va_G) (dA : Nat → ClassId) (K : oK) (sz : Nat) (h : hH) (as : List Value) : Array Value → State → Prop := fun a U => a = as.toArray ∧ U.heap.size = sz ∧ va_K D vwCl (tyX dA) U ∧ XN U ∧ OLD K (NA h sz) U U.heap ∧ ORF K U ∧ HH D dA [] h (fun _ => True) U.heap
def NPost (D : va_G) (dA : Nat → ClassId) (A : Nat → Prop) (Qr : Option Value → hH → Prop) (Qt : Nat → hH → Prop) : Array Value → State → Outcome → State → Prop := fun _ st oc t =>
  ((∃ (v : Option Value) (h : hH), oc = .returned v ∧ Qr v h ∧ HH D dA [] h A t.heap) ∨ (∃ (x : Nat) (h : hH), oc = .threw x ∧ Qt x h ∧ HH D dA [] h A t.heap)) ∧ va_F A st t
def nqI (Q : Int32 → hH → Prop) : Option Value → hH → Prop := fun v h => ∃ r : Int32, v = some (.int r) ∧ Q r h
def nqR (Q : Nat → hH → Prop) : Option Value → hH → Prop := fun v h => ∃ r : Nat, v = some (.ref r) ∧ Q r h
def nqV (Q : hH → Prop) : Option Value → hH → Prop := fun v h => v = none ∧ Q h
section NROWS
variable {p : Program} {l : Launch} {e : Env} {R : Room} {s : State} {m : MethodId} {args : Array Value} {below : List Frame} {meth : Method} {c : Code} {H : Heap} {locs : List Loc} {u w mc ms c1 k1 : Nat} {Q : State → Prop}
variable {cc bytes : ByteArray} {nL maxL pc idx n : Nat} {ls : Array Slot} {rest st As : List Value} {y : MethodName} {ret : Option FieldType} {rm : Room} {own C : String} {T : u_T} {N ci b : Nat}
variable {D : va_G} {dA : Nat → ClassId} {K : oK} {S S1 : hH} {A : Nat → Prop} {Qr Qr1 : Option Value → hH → Prop} {Qt : Nat → hH → Prop}
theorem NPre.blind {sz : Nat} {as : List Value} : FrameBlind (NPre D dA K sz S as) := fun a U g mk z => ⟨z.1, z.2.1, va_K.moved (u := U) (U := U.calling g mk a) (Vm.Alike.refl U.vm) z.2.2.1, XN.same (u := U) rfl z.2.2.2.1, OLD.moved (u := U) (U := U.calling g mk a) (Vm.Alike.refl U.vm) z.2.2.2.2.1, ORF.same (u := U) rfl z.2.2.2.2.2.1, z.2.2.2.2.2.2⟩
theorem NA_in {F : va_W} (hM : HX D dA F S A s H locs) (hA : ∀ x, s.heap.size ≤ x → A x) {a : Nat} (h : NA S H.size a) : A a := by
  obtain ⟨hK, hN, ⟨L, hi, hP, hD⟩, hS⟩ := hM
  rcases h with ⟨x, h⟩ | h
  · obtain ⟨j, hj⟩ := hh_at hi h
    exact hD.2 _ _ (hws_r hj)
  · exact hA a (Nat.le_trans hS.1 h)
theorem n_call {a0 : Array Value} (hM : HX D dA [] S A s H locs) (hA : ∀ x, s.heap.size ≤ x → A x) (hr : RunT p l e R s m args below meth c H locs u w c1 k1 (F0 m pc ls st) rest (NPost D dA (NA S H.size) Qr1 Qt a0) (NA S H.size)) (hne : c.exceptionTable.isEmpty = true) (hlk : meth.locks = false) (hc : u + c1 ≤ mc) (hs : w + k1 ≤ ms)
    (kr : ∀ (v : Option Value) (S1 : hH) (H1 : Heap) (locs1 : List Loc), Qr1 v S1 → HX D dA [] S1 A s H1 locs1 → W p l e R s m args below meth c H1 locs1 (u + c1) (w + k1) (MQT below (NPost D dA A Qr Qt) args s mc ms A) (F0 m (pc + 3) ls (v.toList ++ rest))) :
    W p l e R s m args below meth c H locs u w (MQT below (NPost D dA A Qr Qt) args s mc ms A) (F0 m pc ls st) := by
  have hin : ∀ a, NA S H.size a → A a := fun a h => NA_in hM hA h
  obtain ⟨hK, hN, hh, hS⟩ := hM
  have key : ∀ (st₀ t : State) (L : List Loc), st₀.heap = H → va_F (NA S H.size) st₀ t → (∀ q ∈ L, NA S H.size q.base) → va_S A s.heap t.heap (locs ++ L) := fun st₀ t L h0 hF hL => by
    obtain ⟨hz, hk⟩ := hF
    rw [h0] at hz hk
    exact ⟨Nat.le_trans hS.1 hz, fun x h1 h2 => by rw [hk x (Nat.lt_of_lt_of_le h1 hS.1) (fun z => h2 (hin x z))]; exact hS.2.1 x h1 h2, fun x hx => by
      rcases List.mem_append.mp hx with h | h
      · exact hS.2.2 x h
      · exact hin _ (hL x h)⟩
  refine t_call hr hne hlk hc hs ?_ ?_
  · intro v st₀ t L h0 hW hq hL
    obtain ⟨hq, hF⟩ := hq
    rcases hq with ⟨v', h', e1, h1, h2⟩ | ⟨x, h', e1, h1, h2⟩
    · cases e1
      exact kr v h' t.heap (locs ++ L) h1 ⟨hK, hN, h2.weaken hin, key st₀ t L h0 hF hL⟩
    · cases e1
  · intro x st₀ t L h0 hq hL
    obtain ⟨hq, hF⟩ := hq
    rcases hq with ⟨v', h', e1, h1, h2⟩ | ⟨x', h', e1, h1, h2⟩
    · cases e1
    · cases e1
      have hS2 := key st₀ t L h0 hF hL
      exact ⟨fun t' ht' _ => ⟨Or.inr ⟨x, h', rfl, h1, by rw [ht']; exact h2.weaken hin⟩, hS2.F ht'⟩, hS2.2.2⟩
theorem n_pre {sz : Nat} (hM : HX D dA [] S A s H locs) (hA : ∀ x, s.heap.size ≤ x → A x) (hO : OLD K A s s.heap) (hRf : ORF K s) (hz : H.size = sz) : ∀ U : State, U.heap = H → s.WarmedH U.vm → NPre D dA K sz S As As.toArray U := fun U hU hW => ⟨rfl, by rw [hU]; exact hz, va_K.moved hW.alike hM.1, XN.warm hW hM.2.1, by rw [hU]; exact OLD.moved hW.alike ((hO.kept hM.2.2.2.2.1).narrow (fun q hq => NA_in hM hA (by rw [hz]; exact hq))), hRf.warm hW, by rw [hU]; exact hM.2.2.1.weaken (fun _ _ => trivial)⟩
/-- calls through an object, of a constructor -/
theorem n_cV {fs : List Value} (X : CallFix p m c cc nL s args lw_all own) (hM : HX D dA [] S A s H locs) (hA : ∀ x, s.heap.size ≤ x → A x) (hO : OLD K A s s.heap) (hRf : ORF K s) (hc : vwCl[ci]? = some (C, T, N)) (ho : hObj ci S b = some fs) (hmet : MetT l y (ws_ y bytes maxL ret) rm (NPre D dA K H.size S (.ref b :: As)) (NPost D dA (NA S H.size) Qr1 Qt) c1 k1 (NA S H.size)) (cw : CallW R s args own C idx y bytes maxL ret (ws_ y bytes maxL ret) rm c1 k1 n)
    (hne : c.exceptionTable.isEmpty = true) (hlk : meth.locks = false) (hn : As.length = n) (hsize : ls.size = nL) (hst : st = As.reverse ++ .ref b :: rest) (hroom : (rest.map fun v => v.category).sum ≤ 8) (hR : u + c1 ≤ R.cells ∧ w + k1 ≤ R.slots) (hcc : u + c1 ≤ mc) (hss : w + k1 ≤ ms) (hdg : decode cc pc = .ok (.invokevirtual idx, 3))
    (kr : ∀ (v : Option Value) (S1 : hH) (H1 : Heap) (locs1 : List Loc), Qr1 v S1 → HX D dA [] S1 A s H1 locs1 → W p l e R s m args below meth c H1 locs1 (u + c1) (w + k1) (MQT below (NPost D dA A Qr Qt) args s mc ms A) (F0 m (pc + 3) ls (v.toList ++ rest))) :
    W p l e R s m args below meth c H locs u w (MQT below (NPost D dA A Qr Qt) args s mc ms A) (F0 m pc ls st) := by
  subst hst
  exact n_call hM hA (t_runV (As := As) (rest := rest) X hmet cw ⟨NPre.blind, h_recv hM hc (hObj_i ho), n_pre hM hA hO hRf rfl⟩ rfl hn hsize rfl (lv_room hroom) hdg hR) hne hlk hcc hss kr
theorem n_cI (X : CallFix p m c cc nL s args lw_all own) (hM : HX D dA [] S A s H locs) (hA : ∀ x, s.heap.size ≤ x → A x) (hO : OLD K A s s.heap) (hRf : ORF K s) (hmet : MetT l y (ws_ y bytes maxL none) rm (NPre D dA K H.size S (.ref b :: As)) (NPost D dA (NA S H.size) Qr1 Qt) c1 k1 (NA S H.size)) (cw : CallB R s args own idx y bytes maxL none (ws_ y bytes maxL none) rm c1 k1 n ∧ y.name = "<init>" ∧ (Cond.instanceMethod y).before args s = true)
    (hne : c.exceptionTable.isEmpty = true) (hlk : meth.locks = false) (hn : As.length = n) (hsize : ls.size = nL) (hst : st = As.reverse ++ .ref b :: rest) (hroom : (rest.map fun v => v.category).sum ≤ 8) (hR : u + c1 ≤ R.cells ∧ w + k1 ≤ R.slots) (hcc : u + c1 ≤ mc) (hss : w + k1 ≤ ms) (hdg : decode cc pc = .ok (.invokespecial idx, 3))
    (kr : ∀ (v : Option Value) (S1 : hH) (H1 : Heap) (locs1 : List Loc), Qr1 v S1 → HX D dA [] S1 A s H1 locs1 → W p l e R s m args below meth c H1 locs1 (u + c1) (w + k1) (MQT below (NPost D dA A Qr Qt) args s mc ms A) (F0 m (pc + 3) ls (v.toList ++ rest))) :
    W p l e R s m args below meth c H locs u w (MQT below (NPost D dA A Qr Qt) args s mc ms A) (F0 m pc ls st) := by
  subst hst
  exact n_call hM hA (t_runI (As := As) (rest := rest) X hmet cw ⟨NPre.blind, n_pre hM hA hO hRf rfl⟩ rfl hn hsize rfl (lv_room hroom) hdg hR) hne hlk hcc hss kr
theorem n_ofW {sz : Nat} (hc : y.cls = own) (hpl : plainName own = true) (hlen : (lg_sl As).length ≤ maxL)
    (body : ∀ (A : Nat → Prop) (p : Program) (e : Env) (s : State) (m : MethodId) (args : Array Value) (below : List Frame) (meth : Method) (c : Code), CallFix p m c bytes maxL s args lw_all own → meth.sig.returnType = ret → meth.locks = false → c.exceptionTable.isEmpty = true → meth.name = y.name → (∀ x, s.heap.size ≤ x → A x) → OLD K A s s.heap → ORF K s → HX D dA [] S A s s.heap [] → ∀ ls : Array Slot, lv_has ls maxL (lv_args 0 As) → W p l e rm s m args below meth c s.heap [] 0 0 (MQT below (NPost D dA A Qr Qt) args s mc ms A) (F0 m 0 ls [])) :
    MetT l y (ws_ y bytes maxL ret) rm (NPre D dA K sz S As) (NPost D dA (NA S sz) Qr Qt) mc ms (NA S sz) := by
  refine MetT.ofW (cc := bytes) (maxL := maxL) (ret := ret) (by rw [hc]; exact hpl) rfl ?_
  intro p e s m args below meth c s₁ B hml hne hv
  have hts := atoms_spec (ws := ws_ y bytes maxL ret) B.pre
  have hts : ∀ w ∈ lw_all, w.before _ s = true := fun w h => hts w (List.mem_cons_of_mem _ h)
  have hl := lv_entry As hlen
  have hown := findClass_of_methodNamed B.named
  rw [hc] at hown
  obtain ⟨rfl, rfl, hK, hN, hO, hRf, L, hi, hP, hD⟩ := hv
  rw [lg_entry_eq]
  refine body _ p e s m _ below meth c ⟨B.exec, B.bytes, hml, hown, hts⟩ B.returns B.notSynchronized hne (name_of_methodNamed B.named B.method).1 (fun x hx => Or.inr hx) hO hRf ⟨hK, hN, ⟨L, hi, hP, hD.1, fun k z hk => ?_⟩, va_S.rf⟩ _ hl
  unfold hws at hk
  rw [List.nil_append, List.getElem?_map] at hk
  cases hw : L[k]? with
  | none => rw [hw] at hk; cases hk
  | some w =>
    rw [hw] at hk
    cases hk
    exact Or.inl ⟨w.2, (hi _ _).mpr (List.mem_of_getElem? hw)⟩
theorem n_iret {v : Int32} {Q0 : Int32 → hH → Prop} (X : CallFix p m c cc nL s args lw_all own) (hr : meth.sig.returnType = some .int) (hlk : meth.locks = false) (hM : HX D dA [] S A s H locs) (hu : u ≤ mc) (hw : w ≤ ms) (hq : Q0 v S) (hdg : decode cc pc = .ok (.ireturn, 1)) : W p l e R s m args below meth c H locs u w (MQT below (NPost D dA A (nqI Q0) Qt) args s mc ms A) (F0 m pc ls [.int v]) :=
  W.widen hu hw (W.toT (W.iret X.1 X.2.1 hr (fun t ht _ => ⟨Or.inl ⟨_, S, rfl, ⟨v, rfl, hq⟩, by rw [ht]; exact hM.2.2.1⟩, hM.2.2.2.F ht⟩) hM.2.2.2.2.2 hdg hlk))
theorem n_zret {v : Int32} {Q0 : Int32 → hH → Prop} (X : CallFix p m c cc nL s args lw_all own) (hr : meth.sig.returnType = some .boolean) (hlk : meth.locks = false) (hM : HX D dA [] S A s H locs) (hu : u ≤ mc) (hw : w ≤ ms) (hn : narrow .boolean (.int v) = .int v) (hq : Q0 v S) (hdg : decode cc pc = .ok (.ireturn, 1)) : W p l e R s m args below meth c H locs u w (MQT below (NPost D dA A (nqI Q0) Qt) args s mc ms A) (F0 m pc ls [.int v]) :=
  W.widen hu hw (W.toT (W.zret X.1 X.2.1 hr hn (fun t ht _ => ⟨Or.inl ⟨_, S, rfl, ⟨v, rfl, hq⟩, by rw [ht]; exact hM.2.2.1⟩, hM.2.2.2.F ht⟩) hM.2.2.2.2.2 hdg hlk))
theorem n_aret {v : Nat} {cn : String} {Q0 : Nat → hH → Prop} (X : CallFix p m c cc nL s args lw_all own) (hr : meth.sig.returnType = some (.object cn)) (hlk : meth.locks = false) (hM : HX D dA [] S A s H locs) (hu : u ≤ mc) (hw : w ≤ ms) (hq : Q0 v S) (hdg : decode cc pc = .ok (.areturn, 1)) : W p l e R s m args below meth c H locs u w (MQT below (NPost D dA A (nqR Q0) Qt) args s mc ms A) (F0 m pc ls [.ref v]) :=
  W.widen hu hw (W.toT (W.aret X.1 X.2.1 hr (Or.inl ⟨cn, rfl⟩) (Or.inr ⟨v, rfl⟩) (fun t ht _ => ⟨Or.inl ⟨_, S, rfl, ⟨v, rfl, hq⟩, by rw [ht]; exact hM.2.2.1⟩, hM.2.2.2.F ht⟩) hM.2.2.2.2.2 hdg hlk))
theorem n_vret {Q0 : hH → Prop} (X : CallFix p m c cc nL s args lw_all own) (hr : meth.sig.returnType = none) (hlk : meth.locks = false) (hM : HX D dA [] S A s H locs) (hu : u ≤ mc) (hw : w ≤ ms) (hq : Q0 S) (hdg : decode cc pc = .ok (.return_, 1)) : W p l e R s m args below meth c H locs u w (MQT below (NPost D dA A (nqV Q0) Qt) args s mc ms A) (F0 m pc ls []) :=
  W.widen hu hw (W.toT (W.vret X.1 X.2.1 hr (fun t ht _ => ⟨Or.inl ⟨_, S, rfl, ⟨rfl, hq⟩, by rw [ht]; exact hM.2.2.1⟩, hM.2.2.2.F ht⟩) hM.2.2.2.2.2 hdg hlk))
theorem n_athrow {a : Nat} (X : CallFix p m c cc nL s args lw_all own) (hne : c.exceptionTable.isEmpty = true) (hlk : meth.locks = false) (hM : HX D dA [] S A s H locs) (hu : u ≤ mc) (hw : w ≤ ms) (hq : Qt a S) (hdg : decode cc pc = .ok (.athrow, 1)) : W p l e R s m args below meth c H locs u w (MQT below (NPost D dA A Qr Qt) args s mc ms A) (F0 m pc ls (.ref a :: rest)) :=
  W.widen hu hw (W.athrow X.1 X.2.1 hne hlk (fun t ht _ => ⟨Or.inr ⟨a, S, rfl, hq, by rw [ht]; exact hM.2.2.1⟩, hM.2.2.2.F ht⟩) hM.2.2.2.2.2 hdg)
/-- a new cell in the abstract heap -/
theorem hIs_push {F : va_W} {L : hRw} {q : Nat} {x : hC} (hi : hIs S L) (hD : va_D A (hws dA F L ++ [(q, hcv dA x)])) : S q = none ∧ hIs (va_up S q (some x)) (L ++ [(q, x)]) ∧ hws dA F L ++ [(q, hcv dA x)] = hws dA F (L ++ [(q, x)]) := by
  have hl : (hws dA F L ++ [(q, hcv dA x)])[(hws dA F L).length]? = some (q, hcv dA x) := by rw [List.getElem?_append_right (Nat.le_refl _), Nat.sub_self]; rfl
  have hno : ∀ z, (q, z) ∉ L := fun z hz => by
    obtain ⟨j, hj⟩ := List.getElem?_of_mem hz
    have h1 := hws_r (dA := dA) (F := F) hj
    have hlt : F.length + j < (hws dA F L).length := (List.getElem?_eq_some_iff.mp h1).1
    have h2 : (hws dA F L ++ [(q, hcv dA x)])[F.length + j]? = some (q, hcv dA z) := by rw [List.getElem?_append_left hlt]; exact h1
    have h3 := hD.1 _ _ _ _ h2 hl rfl
    omega
  have hn : S q = none := by
    cases h : S q with
    | none => rfl
    | some z => exact absurd ((hi q z).mp h) (hno z)
  refine ⟨hn, ?_, ?_⟩
  · intro a z
    unfold va_up
    by_cases ha : a = q
    · rw [if_pos ha]
      subst ha
      constructor
      · intro h
        cases h
        exact List.mem_append_right _ List.mem_cons_self
      · intro h
        rcases List.mem_append.mp h with h | h
        · exact absurd h (hno z)
        · simp only [List.mem_cons, List.not_mem_nil, or_false] at h
          cases h
          rfl
    · rw [if_neg ha, hi a z]
      constructor
      · exact fun h => List.mem_append_left _ h
      · intro h
        rcases List.mem_append.mp h with h | h
        · exact h
        · simp only [List.mem_cons, List.not_mem_nil, or_false] at h
          cases h
          exact absurd rfl ha
  · unfold hws
    rw [List.map_append, List.append_assoc]
    rfl
theorem n_new {F : va_W} {fs : List Value} (ty : Nat → FieldType) (hty : ∀ k, k < N → parseFieldDescriptor (T k).2.2.1 = some (ty k)) (X : CallFix p m c cc nL s args lw_all own) (hM : HX D dA F S A s H locs) (hA : ∀ x, s.heap.size ≤ x → A x) (hin : ∀ w ∈ u_ws C T N, w ∈ lw_all) (hcl : Cond.classLink own idx C ∈ lw_all) (hinst : Cond.instantiable C N ∈ lw_all) (hini : Cond.initialized C ∈ lw_all) (hc : vwCl[ci]? = some (C, T, N)) (hfs : ∀ j, j < N → defaultValue (ty j) = vp_V fs j) (hcells : u + 1 ≤ R.cells) (hslots : w + N ≤ R.slots) (hdg : decode cc pc = .ok (.new idx, 3))
    (kk : ∀ (q : Nat) (H1 : Heap), S q = none → HX D dA F (va_up S q (some (.inr (ci, fs)))) A s H1 locs → W p l e R s m args below meth c H1 locs (u + 1) (w + N) Q (F0 m (pc + 3) ls (.ref q :: rest))) : W p l e R s m args below meth c H locs u w Q (F0 m pc ls rest) := by
  obtain ⟨hK, hN, ⟨L, hi, hP, hD⟩, hS⟩ := hM
  refine va_new (ci := ci) (fs := fs) (C := C) (T := T) (N := N) X.1 X.2.1 X.2.2.2.2 hin ty hty X.2.2.2.1 (X.2.2.2.2 _ hcl) (X.2.2.2.2 _ hinst) (X.2.2.2.2 _ hini) hK hP hD hS hA hc hfs hcells hslots hdg (fun q H1 hP1 hD1 hS1 => ?_)
  obtain ⟨h1, h2, h3⟩ := hIs_push (dA := dA) (x := .inr (ci, fs)) hi hD1
  exact kk q H1 h1 ⟨hK, hN, ⟨_, h2, by rw [← h3]; exact hP1, by rw [← h3]; exact hD1⟩, hS1⟩
end NROWS
