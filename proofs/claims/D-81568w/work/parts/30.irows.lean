set_option maxRecDepth 100000
def bFld (h : hH) (a k : Nat) : Option Value := match h a with
  | some (.inr z) => if z.1 = 6 ∨ z.1 = 8 then z.2[k]? else none
  | _ => none
def bI (h : hH) (a k : Nat) : Option Int32 := match bFld h a k with
  | some (.int v) => some v
  | _ => none
def bR (h : hH) (a k : Nat) : Option Nat := match bFld h a k with
  | some (.ref v) => some v
  | _ => none
theorem bFld_i {h : hH} {a k : Nat} {v : Value} (e : bFld h a k = some v) : ∃ fs : List Value, (h a = some (.inr (6, fs)) ∨ h a = some (.inr (8, fs))) ∧ fs[k]? = some v := by
  unfold bFld at e
  split at e
  · rename_i z hz
    by_cases hc : z.1 = 6 ∨ z.1 = 8
    · rw [if_pos hc] at e
      refine ⟨z.2, ?_, e⟩
      rcases hc with hc | hc
      · exact Or.inl (by rw [hz, ← hc])
      · exact Or.inr (by rw [hz, ← hc])
    · rw [if_neg hc] at e; cases e
  · cases e
theorem bI_i {h : hH} {a k : Nat} {v : Int32} (e : bI h a k = some v) : ∃ fs : List Value, (h a = some (.inr (6, fs)) ∨ h a = some (.inr (8, fs))) ∧ fs[k]? = some (.int v) := by
  unfold bI at e
  split at e
  · rename_i w hw
    cases e
    exact bFld_i hw
  · cases e
theorem bR_i {h : hH} {a k : Nat} {v : Nat} (e : bR h a k = some v) : ∃ fs : List Value, (h a = some (.inr (6, fs)) ∨ h a = some (.inr (8, fs))) ∧ fs[k]? = some (.ref v) := by
  unfold bR at e
  split at e
  · rename_i w hw
    cases e
    exact bFld_i hw
  · cases e
theorem tx97 : ∀ k, k < 2 → TX9 k = TX7 k
  | 0, _ => rfl
  | 1, _ => rfl
theorem lw_U {own : String} {idx : Nat} {C owner : String} {x y : MethodName} {b : ByteArray} {L : Nat} {r : Option FieldType} (h1 : Cond.methodLink own idx x ∈ lw_all) (h2 : Cond.sameMethod x.cls owner x.name x.desc ∈ lw_all) (h3 : Cond.selects C x y ∈ lw_all) (h4 : Cond.instanceMethod y ∈ lw_all) (h5 : Cond.initialized y.cls ∈ lw_all) (h6 : Cond.code y b L r ∈ lw_all) : GoodIn lw_all (va_wsU own idx C owner x y (ws_ y b L r)) := by
  refine lw_app ?_ (lw_meth h6)
  intro w hw
  simp only [List.mem_cons, List.not_mem_nil, or_false] at hw
  rcases hw with e | e | e | e | e
  · rw [e]; exact h1
  · rw [e]; exact h2
  · rw [e]; exact h3
  · rw [e]; exact h4
  · rw [e]; exact h5
theorem lw_SU {own : String} {idx : Nat} {y : MethodName} {b : ByteArray} {L : Nat} {r : Option FieldType} (h1 : Cond.methodLink own idx y ∈ lw_all) (h2 : Cond.sameMethod y.cls y.cls y.name y.desc ∈ lw_all) (h3 : Cond.superclass own y.cls ∈ lw_all) (h4 : Cond.instanceMethod y ∈ lw_all) (h5 : Cond.initialized y.cls ∈ lw_all) (h6 : Cond.code y b L r ∈ lw_all) : GoodIn lw_all (va_wsSU own idx y (ws_ y b L r)) := by
  refine lw_app ?_ (lw_meth h6)
  intro w hw
  simp only [List.mem_cons, List.not_mem_nil, or_false] at hw
  rcases hw with e | e | e | e | e
  · rw [e]; exact h1
  · rw [e]; exact h2
  · rw [e]; exact h3
  · rw [e]; exact h4
  · rw [e]; exact h5
def HA (h : hH) : Nat → Prop := fun a => ∃ x, h a = some x
def HPost (D : va_G) (dA : Nat → ClassId) (A : Nat → Prop) (v : Option Value) (h : hH) : Array Value → State → Outcome → State → Prop := fun _ st oc t => oc = .returned v ∧ HH D dA [] h A t.heap ∧ va_F A st t
theorem hh_frame {D : va_G} {dA : Nat → ClassId} {F : va_W} {h h1 : hH} {A : Nat → Prop} {H H1 : Heap} {L : hRw} (hI : hIs h L) (hP : va_P D vwCl (hws dA F L) H) (hD : va_D A (hws dA F L)) (hk : ∀ x : Nat, x < H.size → ¬ HA h x → H1[x]? = H[x]?) (hh1 : HH D dA [] h1 (HA h) H1) : HH D dA F h1 A H1 := by
  obtain ⟨L1, i1, p1, d1⟩ := hh1
  have hF : ∀ (k : Nat) (z : Nat × va_E), F[k]? = some z → (hws dA F L)[k]? = some z := fun k z hz => by
    unfold hws
    rw [List.getElem?_append_left (List.getElem?_eq_some_iff.mp hz).1]
    exact hz
  have hFn : ∀ (k : Nat) (z : Nat × va_E), F[k]? = some z → ¬ HA h z.1 := fun k z hz hx => by
    obtain ⟨x, hx⟩ := hx
    obtain ⟨j, hj⟩ := hh_at hI hx
    have h1 := hD.1 k (F.length + j) z _ (hF k z hz) (hws_r hj) rfl
    have h2 := (List.getElem?_eq_some_iff.mp hz).1
    omega
  have hLA : ∀ a, HA h a → A a := fun a hx => by
    obtain ⟨x, hx⟩ := hx
    obtain ⟨j, hj⟩ := hh_at hI hx
    exact hD.2 _ _ (hws_r hj)
  have eF : hws dA F L1 = F ++ hws dA [] L1 := rfl
  refine ⟨L1, i1, ?_, ?_⟩
  · rw [eF]
    exact va_P.app (fun k z hz => (hP k z (hF k z hz)).kept (hk _ (hP k z (hF k z hz)).lt (hFn k z hz))) p1
  · rw [eF]
    exact va_D.app ⟨fun i j x y hx hy hxy => hD.1 i j x y (hF i x hx) (hF j y hy) hxy, fun k z hz => hD.2 k z (hF k z hz)⟩ (d1.weaken (fun _ _ _ w => hLA _ w)) (fun i j x y hx hy hxy => hFn i x hx (by rw [hxy]; exact d1.2 j y hy))
section IROWS
variable {p : Program} {l : Launch} {e : Env} {R : Room} {s : State} {m : MethodId} {args : Array Value} {below : List Frame} {meth : Method} {c : Code} {H : Heap} {locs : List Loc} {cells slots : Nat} {Q : State → Prop}
variable {cc bytes : ByteArray} {nL maxL pc idx n : Nat} {ls : Array Slot} {rest st As : List Value} {x y : MethodName} {ret : Option FieldType} {rm : Room} {own owner : String}
variable {D : va_G} {dA : Nat → ClassId} {F : va_W} {h h1 : hH} {A : Nat → Prop} {C : String} {T : u_T} {N ci k a : Nat}
theorem h_getB {v : Value} (X : CallFix p m c cc nL s args lw_all RX7) (hX : HX D dA F h A s H locs) (hk : k < 2) (hlink : Cond.fieldLink RX7 idx RX7 (TX7 k).2.1 (TX7 k).2.2.1 ∈ lw_all) (hR : (TX7 k).1 = RX7) (hv : ∃ fs : List Value, (h a = some (.inr (6, fs)) ∨ h a = some (.inr (8, fs))) ∧ fs[k]? = some v) (hdg : decode cc pc = .ok (.getfield idx, 3))
    (kk : W p l e R s m args below meth c H locs cells slots Q (F0 m (pc + 3) ls (v :: rest))) : W p l e R s m args below meth c H locs cells slots Q (F0 m pc ls (.ref a :: rest)) := by
  obtain ⟨fs, e1 | e1, e2⟩ := hv
  · exact h_getv (C := RX7) (T := TX7) (N := 2) (ci := 6) X hX in_X7 rfl hk hlink hR ⟨fs, e1, e2⟩ hdg kk
  · exact h_getv (C := RX9) (T := TX9) (N := 5) (ci := 8) X hX in_X9 rfl (by omega) (by rw [tx97 k hk]; exact hlink) (by rw [tx97 k hk]; exact hR) ⟨fs, e1, e2⟩ hdg kk
theorem h_cU {v : Value} {fs : List Value} (X : CallFix p m c cc nL s args lw_all own) (hX : HX D dA F h A s H locs) (hc : vwCl[ci]? = some (C, T, N)) (e1 : h a = some (.inr (ci, fs))) (hmet : Met l y (ws_ y bytes maxL ret) rm (HPre D dA h (.ref a :: As)) (k2_QcV v) 0 0 (fun _ => False)) (cw : va_CU R s args own C owner idx x y bytes maxL ret (ws_ y bytes maxL ret) rm 0 0 n)
    (hn : As.length = n) (hsize : ls.size = nL) (hst : st = As.reverse ++ .ref a :: rest) (hroom : (rest.map fun v => v.category).sum ≤ 8) (hcs : cells ≤ R.cells ∧ slots ≤ R.slots) (hdg : decode cc pc = .ok (.invokevirtual idx, 3)) (kk : W p l e R s m args below meth c H locs cells slots Q (F0 m (pc + 3) ls (v :: rest))) : W p l e R s m args below meth c H locs cells slots Q (F0 m pc ls st) := by
  subst hst
  exact W.callV (r := v) (va_Run.run (va_runU (As := As) (rest := rest) X hmet cw (h_pre hX hc e1) rfl hn hsize rfl (lv_room hroom) hdg hcs)) kk
theorem h_cSU {v : Value} {fs : List Value} (X : CallFix p m c cc nL s args lw_all own) (hX : HX D dA F h A s H locs) (hc : vwCl[ci]? = some (C, T, N)) (e1 : h a = some (.inr (ci, fs))) (hmet : Met l y (ws_ y bytes maxL ret) rm (HPre D dA h (.ref a :: As)) (k2_QcV v) 0 0 (fun _ => False)) (cw : va_CS R s args own idx y bytes maxL ret (ws_ y bytes maxL ret) rm 0 0 n)
    (hn : As.length = n) (hsize : ls.size = nL) (hst : st = As.reverse ++ .ref a :: rest) (hroom : (rest.map fun v => v.category).sum ≤ 8) (hcs : cells ≤ R.cells ∧ slots ≤ R.slots) (hdg : decode cc pc = .ok (.invokespecial idx, 3)) (kk : W p l e R s m args below meth c H locs cells slots Q (F0 m (pc + 3) ls (v :: rest))) : W p l e R s m args below meth c H locs cells slots Q (F0 m pc ls st) := by
  subst hst
  exact W.callV (r := v) (va_Run.run (va_runSU (As := As) (rest := rest) (hX.1.1 ci _ hc).2 X hmet cw (h_pre hX hc e1) rfl hn hsize rfl (lv_room hroom) hdg hcs)) kk
theorem h_afterW {v : Option Value} {a0 : Array Value} (hX : HX D dA F h A s H locs) (hr : va_Run p l e R s m args below meth c H locs cells slots 0 0 (F0 m pc ls st) rest (HPost D dA (HA h) v h1 a0) (HA h))
    (kk : ∀ (H1 : Heap) (locs1 : List Loc), HX D dA F h1 A s H1 locs1 → W p l e R s m args below meth c H1 locs1 cells slots Q (F0 m (pc + 3) ls (v.toList ++ rest))) : W p l e R s m args below meth c H locs cells slots Q (F0 m pc ls st) := by
  intro T hT Xs
  obtain ⟨v', st₀, t, T', L, h0, X', hL, e1, e2, ⟨hv, hP, hz, hk⟩, stp⟩ := hr T hT Xs
  cases hv
  rw [h0] at hz hk
  obtain ⟨hK, hN, ⟨L0, hi, hP0, hD⟩, hS⟩ := hX
  have hin : ∀ a, HA h a → A a := fun a hx => by
    obtain ⟨x, hx⟩ := hx
    obtain ⟨j, hj⟩ := hh_at hi hx
    exact hD.2 _ _ (hws_r hj)
  obtain ⟨t2, a1, b1⟩ := kk T'.heap (locs ++ L) ⟨hK, hN, by rw [e1]; exact hh_frame hi hP0 hD hk hP, Nat.le_trans hS.1 (by rw [e1]; exact hz), fun x h1 h2 => by rw [e1, hk x (Nat.lt_of_lt_of_le h1 hS.1) (fun z => h2 (hin x z))]; exact hS.2.1 x h1 h2, fun x hx => by
    rcases List.mem_append.mp hx with h | h
    · exact hS.2.2 x h
    · exact hin _ (hL x h)⟩ T' rfl X'
  exact ⟨t2, stp t2 a1, b1⟩
theorem h_cUW {v : Value} {fs : List Value} (X : CallFix p m c cc nL s args lw_all own) (hX : HX D dA F h A s H locs) (hc : vwCl[ci]? = some (C, T, N)) (e1 : h a = some (.inr (ci, fs))) (hmet : Met l y (ws_ y bytes maxL ret) rm (HPre D dA h (.ref a :: As)) (HPost D dA (HA h) (some v) h1) 0 0 (HA h)) (cw : va_CU R s args own C owner idx x y bytes maxL ret (ws_ y bytes maxL ret) rm 0 0 n)
    (hn : As.length = n) (hsize : ls.size = nL) (hst : st = As.reverse ++ .ref a :: rest) (hroom : (rest.map fun v => v.category).sum ≤ 8) (hcs : cells ≤ R.cells ∧ slots ≤ R.slots) (hdg : decode cc pc = .ok (.invokevirtual idx, 3)) (kk : ∀ (H1 : Heap) (locs1 : List Loc), HX D dA F h1 A s H1 locs1 → W p l e R s m args below meth c H1 locs1 cells slots Q (F0 m (pc + 3) ls (v :: rest))) : W p l e R s m args below meth c H locs cells slots Q (F0 m pc ls st) := by
  subst hst
  exact h_afterW hX (va_runU (As := As) (rest := rest) X hmet cw (h_pre hX hc e1) rfl hn hsize rfl (lv_room hroom) hdg hcs) kk
theorem h_cSUW {v : Value} {fs : List Value} (X : CallFix p m c cc nL s args lw_all own) (hX : HX D dA F h A s H locs) (hc : vwCl[ci]? = some (C, T, N)) (e1 : h a = some (.inr (ci, fs))) (hmet : Met l y (ws_ y bytes maxL ret) rm (HPre D dA h (.ref a :: As)) (HPost D dA (HA h) (some v) h1) 0 0 (HA h)) (cw : va_CS R s args own idx y bytes maxL ret (ws_ y bytes maxL ret) rm 0 0 n)
    (hn : As.length = n) (hsize : ls.size = nL) (hst : st = As.reverse ++ .ref a :: rest) (hroom : (rest.map fun v => v.category).sum ≤ 8) (hcs : cells ≤ R.cells ∧ slots ≤ R.slots) (hdg : decode cc pc = .ok (.invokespecial idx, 3)) (kk : ∀ (H1 : Heap) (locs1 : List Loc), HX D dA F h1 A s H1 locs1 → W p l e R s m args below meth c H1 locs1 cells slots Q (F0 m (pc + 3) ls (v :: rest))) : W p l e R s m args below meth c H locs cells slots Q (F0 m pc ls st) := by
  subst hst
  exact h_afterW hX (va_runSU (As := As) (rest := rest) (hX.1.1 ci _ hc).2 X hmet cw (h_pre hX hc e1) rfl hn hsize rfl (lv_room hroom) hdg hcs) kk
theorem h_cVW {v : Value} {fs : List Value} (X : CallFix p m c cc nL s args lw_all own) (hX : HX D dA F h A s H locs) (hc : vwCl[ci]? = some (C, T, N)) (ho : hObj ci h a = some fs) (hmet : Met l y (ws_ y bytes maxL ret) rm (HPre D dA h (.ref a :: As)) (HPost D dA (HA h) (some v) h1) 0 0 (HA h)) (cw : CallW R s args own C idx y bytes maxL ret (ws_ y bytes maxL ret) rm 0 0 n)
    (hn : As.length = n) (hsize : ls.size = nL) (hst : st = As.reverse ++ .ref a :: rest) (hroom : (rest.map fun v => v.category).sum ≤ 8) (hcs : cells ≤ R.cells ∧ slots ≤ R.slots) (hdg : decode cc pc = .ok (.invokevirtual idx, 3)) (kk : ∀ (H1 : Heap) (locs1 : List Loc), HX D dA F h1 A s H1 locs1 → W p l e R s m args below meth c H1 locs1 cells slots Q (F0 m (pc + 3) ls (v :: rest))) : W p l e R s m args below meth c H locs cells slots Q (F0 m pc ls st) := by
  subst hst
  exact h_afterW hX (va_runV (As := As) (rest := rest) X hmet cw (h_pre hX hc (hObj_i ho)) rfl hn hsize rfl (lv_room hroom) hdg hcs) kk
theorem h_ofW {v : Option Value} (hc : y.cls = own) (hpl : plainName own = true) (hlen : (lg_sl As).length ≤ maxL)
    (body : ∀ (A : Nat → Prop) (p : Program) (e : Env) (s : State) (m : MethodId) (args : Array Value) (below : List Frame) (meth : Method) (c : Code), CallFix p m c bytes maxL s args lw_all own → meth.sig.returnType = ret → meth.locks = false → HX D dA [] h A s s.heap [] → ∀ ls : Array Slot, lv_has ls maxL (lv_args 0 As) → W p l e rm s m args below meth c s.heap [] 0 0 (MQ below (HPost D dA A v h1) args s 0 0 A) (F0 m 0 ls [])) :
    Met l y (ws_ y bytes maxL ret) rm (HPre D dA h As) (HPost D dA (HA h) v h1) 0 0 (HA h) := by
  refine Met.ofW (cc := bytes) (maxL := maxL) (ret := ret) (by rw [hc]; exact hpl) rfl ?_
  intro p e s m args below meth c s₁ B hml hv
  have hts := atoms_spec (ws := ws_ y bytes maxL ret) B.pre
  have hts : ∀ w ∈ lw_all, w.before _ s = true := fun w h => hts w (List.mem_cons_of_mem _ h)
  have hl := lv_entry As hlen
  have hown := findClass_of_methodNamed B.named
  rw [hc] at hown
  obtain ⟨rfl, hK, hN, L, hi, hP, hD⟩ := hv
  rw [lg_entry_eq]
  refine body _ p e s m _ below meth c ⟨B.exec, B.bytes, hml, hown, hts⟩ B.returns B.notSynchronized ⟨hK, hN, ⟨L, hi, hP, hD.1, fun k z hk => ?_⟩, va_S.rf⟩ _ hl
  unfold hws at hk
  rw [List.nil_append, List.getElem?_map] at hk
  cases hw : L[k]? with
  | none => rw [hw] at hk; cases hk
  | some w =>
    rw [hw] at hk
    cases hk
    exact ⟨w.2, (hi _ _).mpr (List.mem_of_getElem? hw)⟩
theorem h_iret {v : Int32} (X : CallFix p m c cc nL s args lw_all own) (hr : meth.sig.returnType = some .int) (hlk : meth.locks = false) (hM : HX D dA [] h A s H locs) (hdg : decode cc pc = .ok (.ireturn, 1)) : W p l e R s m args below meth c H locs cells slots (MQ below (HPost D dA A (some (.int v)) h) args s cells slots A) (F0 m pc ls [.int v]) :=
  W.iret X.1 X.2.1 hr (fun t ht _ => ⟨rfl, by rw [ht]; exact hM.2.2.1, hM.2.2.2.F ht⟩) hM.2.2.2.2.2 hdg hlk
end IROWS
def vm_steps (l : Launch) (D : va_G) (dA : Nat → ClassId) (dep : Nat) (h : hH) (a : Nat) (r : Int64) : Prop := (∃ fs : List Value, h a = some (.inr (7, fs)) ∧ Met l yX8_steps (ws_ yX8_steps cX8_steps 1 (some .long)) (rmL dep) (HPre D dA h [.ref a]) (k2_QcV (.long r)) 0 0 (fun _ => False)) ∨ (∃ fs : List Value, h a = some (.inr (8, fs)) ∧ Met l yX9_steps (ws_ yX9_steps cX9_steps 1 (some .long)) (rmL dep) (HPre D dA h [.ref a]) (k2_QcV (.long r)) 0 0 (fun _ => False))
section
variable {p : Program} {l : Launch} {e : Env} {R : Room} {s : State} {m : MethodId} {args : Array Value} {below : List Frame} {meth : Method} {c : Code} {H : Heap} {locs : List Loc} {cells slots : Nat} {Q : State → Prop} {cc : ByteArray} {nL pc : Nat} {ls : Array Slot} {rest st : List Value} {D : va_G} {dA : Nat → ClassId} {F : va_W} {h h1 : hH} {A : Nat → Prop}
theorem iV_steps {dep lv a : Nat} {r : Int64} (X : CallFix p m c cc nL s args lw_all RX7) (hX : HX D dA F h A s H locs) (hv : vm_steps l D dA dep h a r) (hlv : dep + 1 ≤ lv) (hsize : ls.size = nL) (hst : st = ([] : List Value).reverse ++ .ref a :: rest) (hroom : (rest.map fun v => v.category).sum ≤ 8) (hcs : cells ≤ (rmL lv).cells ∧ slots ≤ (rmL lv).slots) (hdg : decode cc pc = .ok (.invokevirtual 23, 3)) (kk : W p l e (rmL lv) s m args below meth c H locs cells slots Q (F0 m (pc + 3) ls (.long r :: rest))) : W p l e (rmL lv) s m args below meth c H locs cells slots Q (F0 m pc ls st) := by
  rcases hv with ⟨fs, e1, hm⟩ | ⟨fs, e1, hm⟩
  · exact h_cU (owner := "EventCounters$Item") (C := RX8) (T := TX8) (N := 5) (ci := 7) (As := []) (rest := rest) X hX rfl e1 hm (va_cwA 0 X.2.2.2.2 (lw_U (x := ⟨"EventCounters$Item", "steps", "()J"⟩) q423 q425 q427 q428 q76 q429) rfl rfl rfl (xn_at hX.2.1 28 rfl) (by decide +kernel) (rm_le hlv (Nat.le_of_ble_eq_true rfl))) rfl hsize hst hroom hcs hdg kk
  · exact h_cU (owner := "EventCounters$Item") (C := RX9) (T := TX9) (N := 5) (ci := 8) (As := []) (rest := rest) X hX rfl e1 hm (va_cwA 0 X.2.2.2.2 (lw_U (x := ⟨"EventCounters$Item", "steps", "()J"⟩) q423 q425 q430 q419 q77 q420) rfl rfl rfl (xn_at hX.2.1 28 rfl) (by decide +kernel) (rm_le hlv (Nat.le_of_ble_eq_true rfl))) rfl hsize hst hroom hcs hdg kk
end

def vm_lines (l : Launch) (D : va_G) (dA : Nat → ClassId) (dep : Nat) (h : hH) (a : Nat) (r : Int32) : Prop := (∃ fs : List Value, h a = some (.inr (7, fs)) ∧ Met l yX8_lines (ws_ yX8_lines cX8_lines 1 (some .int)) (rmL dep) (HPre D dA h [.ref a]) (k2_QcV (.int r)) 0 0 (fun _ => False)) ∨ (∃ fs : List Value, h a = some (.inr (8, fs)) ∧ Met l yX7_lines (ws_ yX7_lines cX7_lines 3 (some .int)) (rmL dep) (HPre D dA h [.ref a]) (k2_QcV (.int r)) 0 0 (fun _ => False))
section
variable {p : Program} {l : Launch} {e : Env} {R : Room} {s : State} {m : MethodId} {args : Array Value} {below : List Frame} {meth : Method} {c : Code} {H : Heap} {locs : List Loc} {cells slots : Nat} {Q : State → Prop} {cc : ByteArray} {nL pc : Nat} {ls : Array Slot} {rest st : List Value} {D : va_G} {dA : Nat → ClassId} {F : va_W} {h h1 : hH} {A : Nat → Prop}
theorem iV_lines {dep lv a : Nat} {r : Int32} (X : CallFix p m c cc nL s args lw_all RX7) (hX : HX D dA F h A s H locs) (hv : vm_lines l D dA dep h a r) (hlv : dep + 1 ≤ lv) (hsize : ls.size = nL) (hst : st = ([] : List Value).reverse ++ .ref a :: rest) (hroom : (rest.map fun v => v.category).sum ≤ 8) (hcs : cells ≤ (rmL lv).cells ∧ slots ≤ (rmL lv).slots) (hdg : decode cc pc = .ok (.invokevirtual 31, 3)) (kk : W p l e (rmL lv) s m args below meth c H locs cells slots Q (F0 m (pc + 3) ls (.int r :: rest))) : W p l e (rmL lv) s m args below meth c H locs cells slots Q (F0 m pc ls st) := by
  rcases hv with ⟨fs, e1, hm⟩ | ⟨fs, e1, hm⟩
  · exact h_cU (owner := "EventCounters$Item") (C := RX8) (T := TX8) (N := 5) (ci := 7) (As := []) (rest := rest) X hX rfl e1 hm (va_cwA 0 X.2.2.2.2 (lw_U (x := ⟨"EventCounters$Item", "lines", "()I"⟩) q510 q512 q514 q515 q76 q516) rfl rfl rfl (xn_at hX.2.1 31 rfl) (by decide +kernel) (rm_le hlv (Nat.le_of_ble_eq_true rfl))) rfl hsize hst hroom hcs hdg kk
  · exact h_cU (owner := "EventCounters$Item") (C := RX9) (T := TX9) (N := 5) (ci := 8) (As := []) (rest := rest) X hX rfl e1 hm (va_cwA 0 X.2.2.2.2 (lw_U (x := ⟨"EventCounters$Item", "lines", "()I"⟩) q510 q512 q517 q508 q71 q509) rfl rfl rfl (xn_at hX.2.1 31 rfl) (by decide +kernel) (rm_le hlv (Nat.le_of_ble_eq_true rfl))) rfl hsize hst hroom hcs hdg kk
end

def vm_makes (l : Launch) (D : va_G) (dA : Nat → ClassId) (dep : Nat) (h : hH) (a : Nat) (x1 : Int32) (r : Int32) : Prop := (∃ fs : List Value, h a = some (.inr (7, fs)) ∧ Met l yX8_makes (ws_ yX8_makes cX8_makes 2 (some .int)) (rmL dep) (HPre D dA h [.ref a, .int x1]) (k2_QcV (.int r)) 0 0 (fun _ => False)) ∨ (∃ fs : List Value, h a = some (.inr (8, fs)) ∧ Met l yX9_makes (ws_ yX9_makes cX9_makes 2 (some .int)) (rmL dep) (HPre D dA h [.ref a, .int x1]) (k2_QcV (.int r)) 0 0 (fun _ => False))
section
variable {p : Program} {l : Launch} {e : Env} {R : Room} {s : State} {m : MethodId} {args : Array Value} {below : List Frame} {meth : Method} {c : Code} {H : Heap} {locs : List Loc} {cells slots : Nat} {Q : State → Prop} {cc : ByteArray} {nL pc : Nat} {ls : Array Slot} {rest st : List Value} {D : va_G} {dA : Nat → ClassId} {F : va_W} {h h1 : hH} {A : Nat → Prop}
theorem iV_makes {dep lv a : Nat} {x1 : Int32} {r : Int32} (X : CallFix p m c cc nL s args lw_all RX7) (hX : HX D dA F h A s H locs) (hv : vm_makes l D dA dep h a x1 r) (hlv : dep + 1 ≤ lv) (hsize : ls.size = nL) (hst : st = ([.int x1] : List Value).reverse ++ .ref a :: rest) (hroom : (rest.map fun v => v.category).sum ≤ 8) (hcs : cells ≤ (rmL lv).cells ∧ slots ≤ (rmL lv).slots) (hdg : decode cc pc = .ok (.invokevirtual 35, 3)) (kk : W p l e (rmL lv) s m args below meth c H locs cells slots Q (F0 m (pc + 3) ls (.int r :: rest))) : W p l e (rmL lv) s m args below meth c H locs cells slots Q (F0 m pc ls st) := by
  rcases hv with ⟨fs, e1, hm⟩ | ⟨fs, e1, hm⟩
  · exact h_cU (owner := "EventCounters$Item") (C := RX8) (T := TX8) (N := 5) (ci := 7) (As := [.int x1]) (rest := rest) X hX rfl e1 hm (va_cwA 1 X.2.2.2.2 (lw_U (x := ⟨"EventCounters$Item", "makes", "(I)I"⟩) q531 q533 q535 q536 q76 q537) rfl rfl rfl (xn_at hX.2.1 32 rfl) (by decide +kernel) (rm_le hlv (Nat.le_of_ble_eq_true rfl))) rfl hsize hst hroom hcs hdg kk
  · exact h_cU (owner := "EventCounters$Item") (C := RX9) (T := TX9) (N := 5) (ci := 8) (As := [.int x1]) (rest := rest) X hX rfl e1 hm (va_cwA 1 X.2.2.2.2 (lw_U (x := ⟨"EventCounters$Item", "makes", "(I)I"⟩) q531 q533 q538 q539 q77 q540) rfl rfl rfl (xn_at hX.2.1 32 rfl) (by decide +kernel) (rm_le hlv (Nat.le_of_ble_eq_true rfl))) rfl hsize hst hroom hcs hdg kk
end

def vm_lays (l : Launch) (D : va_G) (dA : Nat → ClassId) (dep : Nat) (h : hH) (a : Nat) (x1 : Nat) (x2 : Int32) (r : Int32) (h1 : hH) : Prop := (∃ fs : List Value, h a = some (.inr (7, fs)) ∧ Met l yX8_lays (ws_ yX8_lays cX8_lays 3 (some .int)) (rmL dep) (HPre D dA h [.ref a, .ref x1, .int x2]) (HPost D dA (HA h) (some (.int r)) h1) 0 0 (HA h)) ∨ (∃ fs : List Value, h a = some (.inr (8, fs)) ∧ Met l yX9_lays (ws_ yX9_lays cX9_lays 5 (some .int)) (rmL dep) (HPre D dA h [.ref a, .ref x1, .int x2]) (HPost D dA (HA h) (some (.int r)) h1) 0 0 (HA h))
section
variable {p : Program} {l : Launch} {e : Env} {R : Room} {s : State} {m : MethodId} {args : Array Value} {below : List Frame} {meth : Method} {c : Code} {H : Heap} {locs : List Loc} {cells slots : Nat} {Q : State → Prop} {cc : ByteArray} {nL pc : Nat} {ls : Array Slot} {rest st : List Value} {D : va_G} {dA : Nat → ClassId} {F : va_W} {h h1 : hH} {A : Nat → Prop}
theorem iV_lays {dep lv a : Nat} {x1 : Nat} {x2 : Int32} {r : Int32} (X : CallFix p m c cc nL s args lw_all RX7) (hX : HX D dA F h A s H locs) (hv : vm_lays l D dA dep h a x1 x2 r h1) (hlv : dep + 1 ≤ lv) (hsize : ls.size = nL) (hst : st = ([.ref x1, .int x2] : List Value).reverse ++ .ref a :: rest) (hroom : (rest.map fun v => v.category).sum ≤ 8) (hcs : cells ≤ (rmL lv).cells ∧ slots ≤ (rmL lv).slots) (hdg : decode cc pc = .ok (.invokevirtual 27, 3)) (kk : ∀ (H1 : Heap) (locs1 : List Loc), HX D dA F h1 A s H1 locs1 → W p l e (rmL lv) s m args below meth c H1 locs1 cells slots Q (F0 m (pc + 3) ls (.int r :: rest))) : W p l e (rmL lv) s m args below meth c H locs cells slots Q (F0 m pc ls st) := by
  rcases hv with ⟨fs, e1, hm⟩ | ⟨fs, e1, hm⟩
  · exact h_cUW (owner := "EventCounters$Item") (C := RX8) (T := TX8) (N := 5) (ci := 7) (As := [.ref x1, .int x2]) (rest := rest) X hX rfl e1 hm (va_cwA 2 X.2.2.2.2 (lw_U (x := ⟨"EventCounters$Item", "lays", "([II)I"⟩) q446 q448 q450 q451 q76 q452) rfl rfl rfl (xn_at hX.2.1 29 rfl) (by decide +kernel) (rm_le hlv (Nat.le_of_ble_eq_true rfl))) rfl hsize hst hroom hcs hdg kk
  · exact h_cUW (owner := "EventCounters$Item") (C := RX9) (T := TX9) (N := 5) (ci := 8) (As := [.ref x1, .int x2]) (rest := rest) X hX rfl e1 hm (va_cwA 2 X.2.2.2.2 (lw_U (x := ⟨"EventCounters$Item", "lays", "([II)I"⟩) q446 q448 q453 q442 q77 q443) rfl rfl rfl (xn_at hX.2.1 29 rfl) (by decide +kernel) (rm_le hlv (Nat.le_of_ble_eq_true rfl))) rfl hsize hst hroom hcs hdg kk
end
