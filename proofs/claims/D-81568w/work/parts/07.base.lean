/-! BASE: pure operations of the decompiled functions, and rows over the kit's judgement W that take them -/
set_option maxRecDepth 100000
def ec_lt {α β : Type} (a : α) (f : α → β) : β := f a
def ec_b2 {α β γ : Type} (o : Option (α × β)) (f : α → β → Option γ) : Option γ := match o with
  | none => none
  | some z => f z.1 z.2
def ec_ag (f : Nat → Int32) (n : Nat) (i : Int32) : Option Int32 := if i < 0 ∨ n ≤ i.toNatClampNeg then none else some (f i.toNatClampNeg)
def ec_dv (x y : Int32) : Option Int32 := if y = 0 then none else some (x / y)
def ec_rm (x y : Int32) : Option Int32 := if y = 0 then none else some (x - x / y * y)
def ec_ldv (x y : Int64) : Option Int64 := if y = 0 then none else some (x / y)
def ec_lrm (x y : Int64) : Option Int64 := if y = 0 then none else some (x - x / y * y)
def ec_rz (v : Int32) : Option Int32 := if v = 0 ∨ v = 1 then some v else none
theorem ec_lt_i {α β : Type} {a x : α} {f : α → β} {r : β} (h : x = a) (hf : ec_lt a f = r) : f x = r := by subst h; exact hf
theorem ec_bi {α β : Type} {o : Option α} {f : α → Option β} {r : β} (h : o.bind f = some r) : ∃ a, o = some a ∧ f a = some r := by
  cases o with
  | none => cases h
  | some a => exact ⟨a, rfl, h⟩
theorem ec_b2i {α β γ : Type} {o : Option (α × β)} {f : α → β → Option γ} {r : γ} (h : ec_b2 o f = some r) : ∃ a b, o = some (a, b) ∧ f a b = some r := by
  cases o with
  | none => cases h
  | some z => exact ⟨z.1, z.2, rfl, h⟩
theorem ec_t {c : Prop} {α : Type} {i : Decidable c} {a b r : α} (hc : c) (h : @ite α c i a b = r) : a = r := by rw [if_pos hc] at h; exact h
theorem ec_f {c : Prop} {α : Type} {i : Decidable c} {a b r : α} (hc : ¬ c) (h : @ite α c i a b = r) : b = r := by rw [if_neg hc] at h; exact h
theorem ec_ag_i {f : Nat → Int32} {n : Nat} {i v : Int32} (h : ec_ag f n i = some v) : vp_in i n ∧ f i.toNatClampNeg = v := by
  unfold ec_ag at h
  by_cases hc : i < 0 ∨ n ≤ i.toNatClampNeg
  · rw [if_pos hc] at h; cases h
  · rw [if_neg hc] at h; exact ⟨hc, Option.some.inj h⟩
theorem ec_dv_i {x y v : Int32} (h : ec_dv x y = some v) : ¬ y = 0 ∧ x / y = v := by
  unfold ec_dv at h
  by_cases hc : y = 0
  · rw [if_pos hc] at h; cases h
  · rw [if_neg hc] at h; exact ⟨hc, Option.some.inj h⟩
theorem ec_rm_i {x y v : Int32} (h : ec_rm x y = some v) : ¬ y = 0 ∧ x - x / y * y = v := by
  unfold ec_rm at h
  by_cases hc : y = 0
  · rw [if_pos hc] at h; cases h
  · rw [if_neg hc] at h; exact ⟨hc, Option.some.inj h⟩
theorem ec_ldv_i {x y v : Int64} (h : ec_ldv x y = some v) : ¬ y = 0 ∧ x / y = v := by
  unfold ec_ldv at h
  by_cases hc : y = 0
  · rw [if_pos hc] at h; cases h
  · rw [if_neg hc] at h; exact ⟨hc, Option.some.inj h⟩
theorem ec_lrm_i {x y v : Int64} (h : ec_lrm x y = some v) : ¬ y = 0 ∧ x - x / y * y = v := by
  unfold ec_lrm at h
  by_cases hc : y = 0
  · rw [if_pos hc] at h; cases h
  · rw [if_neg hc] at h; exact ⟨hc, Option.some.inj h⟩
theorem ec_rz_i {v r : Int32} (h : ec_rz v = some r) : narrow .boolean (.int v) = .int v ∧ v = r := by
  unfold ec_rz at h
  by_cases hc : v = 0 ∨ v = 1
  · rw [if_pos hc] at h
    refine ⟨?_, Option.some.inj h⟩
    rcases hc with rfl | rfl <;> rfl
  · rw [if_neg hc] at h; cases h
theorem ec_ne {x k : Int32} {z : Int} (hk : k.toInt = z) (h : ¬ x = k) : x.toInt ≠ z := fun e => h (Int32.toInt_inj.mp (e.trans hk.symm))
abbrev rmL (n : Nat) : Room := { frames := n, cells := 0, slots := 0, locals := 40 * n }
/-- start of a method that takes no heap: its arguments alone -/
def PA (as : List Value) : Array Value → State → Prop := fun a _ => a = as.toArray
section ECW
variable {p : Program} {l : Launch} {e : Env} {R : Room} {s : State} {m : MethodId} {args : Array Value} {below : List Frame} {meth : Method} {c : Code} {H : Heap} {locs : List Loc} {cells slots : Nat} {Q : State → Prop}
variable {cc bytes : ByteArray} {nL maxL pc idx n : Nat} {ls : Array Slot} {rest st As : List Value} {own : String} {y : MethodName} {ret : Option FieldType} {rm : Room}
theorem e_dv {x y v : Int32} (hexec : p.tables.exec = Jvm.exec) (hb : c.code = cc) (h : ec_dv x y = some v) (hdg : decode cc pc = .ok (.idiv, 1)) (k : W p l e R s m args below meth c H locs cells slots Q (F0 m (pc + 1) ls (.int v :: rest))) : W p l e R s m args below meth c H locs cells slots Q (F0 m pc ls (.int y :: .int x :: rest)) := by
  obtain ⟨h1, h2⟩ := ec_dv_i h
  subst h2
  exact lv_idiv hexec hb hdg h1 k
theorem e_rm {x y v : Int32} (hexec : p.tables.exec = Jvm.exec) (hb : c.code = cc) (h : ec_rm x y = some v) (hdg : decode cc pc = .ok (.irem, 1)) (k : W p l e R s m args below meth c H locs cells slots Q (F0 m (pc + 1) ls (.int v :: rest))) : W p l e R s m args below meth c H locs cells slots Q (F0 m pc ls (.int y :: .int x :: rest)) := by
  obtain ⟨h1, h2⟩ := ec_rm_i h
  subst h2
  exact lv_irem hexec hb hdg h1 k
theorem e_ldv {x y v : Int64} (hexec : p.tables.exec = Jvm.exec) (hb : c.code = cc) (h : ec_ldv x y = some v) (hdg : decode cc pc = .ok (.ldiv, 1)) (k : W p l e R s m args below meth c H locs cells slots Q (F0 m (pc + 1) ls (.long v :: rest))) : W p l e R s m args below meth c H locs cells slots Q (F0 m pc ls (.long y :: .long x :: rest)) := by
  obtain ⟨h1, h2⟩ := ec_ldv_i h
  subst h2
  exact lv_ldiv hexec hb hdg h1 k
theorem e_lrm {x y v : Int64} (hexec : p.tables.exec = Jvm.exec) (hb : c.code = cc) (h : ec_lrm x y = some v) (hdg : decode cc pc = .ok (.lrem, 1)) (k : W p l e R s m args below meth c H locs cells slots Q (F0 m (pc + 1) ls (.long v :: rest))) : W p l e R s m args below meth c H locs cells slots Q (F0 m pc ls (.long y :: .long x :: rest)) := by
  obtain ⟨h1, h2⟩ := ec_lrm_i h
  subst h2
  exact lv_lrem hexec hb hdg h1 k
/-- a local grows by a constant: its new value gets a name -/
theorem e_inc {i k : Nat} {z : Int} {x w : Int32} {lv : List (Nat × Value)} {f : Int32 → List (Nat × Value)} (hexec : p.tables.exec = Jvm.exec) (hb : c.code = cc) (hdg : decode cc pc = .ok (.iinc i z, 3)) (h : lv_has ls nL lv) (hk : lv[k]? = some (i, .int x)) (hw : Int32.ofInt z = w) (hn : i < nL) (hl : ∀ v : Int32, (i, Value.int v) :: lv.filter (fun q => !(q.1 == i) && !(q.1 + 1 == i && q.2.category == 2)) = f v)
    (kk : ∀ v : Int32, v = x + w → ∀ ls' : Array Slot, lv_has ls' nL (f v) → W p l e R s m args below meth c H locs cells slots Q (F0 m (pc + 3) ls' rest)) : W p l e R s m args below meth c H locs cells slots Q (F0 m pc ls rest) := by
  subst hw
  exact lv_iinc hexec hb hdg h hk rfl hn (hl _) (fun ls' h' => kk _ rfl ls' h')
/-- a call that leaves the heap as it was: static -/
theorem e_cS {v : Value} (X : CallFix p m c cc nL s args lw_all own) (hM : Met l y (ws_ y bytes maxL ret) rm (PA As) (k2_QcV v) 0 0 (fun _ => False)) (cw : CallB R s args own idx y bytes maxL ret (ws_ y bytes maxL ret) rm 0 0 n ∧ (Cond.static y).before args s = true)
    (hn : As.length = n) (hsize : ls.size = nL) (hst : st = As.reverse ++ rest) (hroom : (rest.map fun v => v.category).sum ≤ 8) (hcs : cells ≤ R.cells ∧ slots ≤ R.slots) (hdg : decode cc pc = .ok (.invokestatic idx, 3)) (kk : W p l e R s m args below meth c H locs cells slots Q (F0 m (pc + 3) ls (v :: rest))) : W p l e R s m args below meth c H locs cells slots Q (F0 m pc ls st) := by
  subst hst
  exact W.callV (r := v) (W.runS (As := As) (rest := rest) X hM cw ⟨fun _ _ _ _ q => q, fun _ _ _ => rfl⟩ rfl hn hsize rfl (lv_room hroom) hdg hcs) kk
/-- a static method's contract out of its walk -/
theorem e_ofS {v : Value} (hy : plainName y.cls = true) (hlen : (lg_sl As).length ≤ maxL)
    (body : ∀ (p : Program) (e : Env) (s : State) (m : MethodId) (args : Array Value) (below : List Frame) (meth : Method) (c : Code), CallFix p m c bytes maxL s args lw_all y.cls → meth.sig.returnType = ret → meth.locks = false → ∀ ls : Array Slot, lv_has ls maxL (lv_args 0 As) → W p l e rm s m args below meth c s.heap [] 0 0 (MQ below (k2_QcV v) args s 0 0 (fun _ => False)) (F0 m 0 ls [])) :
    Met l y (ws_ y bytes maxL ret) rm (PA As) (k2_QcV v) 0 0 (fun _ => False) := by
  refine Met.ofW (cc := bytes) (maxL := maxL) (ret := ret) hy rfl ?_
  intro p e s m args below meth c s₁ B hml hv
  have hts := atoms_spec (ws := ws_ y bytes maxL ret) B.pre
  have hts : ∀ w ∈ lw_all, w.before _ s = true := fun w h => hts w (List.mem_cons_of_mem _ h)
  have hl := lv_entry As hlen
  cases hv
  rw [lg_entry_eq]
  exact body p e s m As.toArray below meth c ⟨B.exec, B.bytes, hml, findClass_of_methodNamed B.named, hts⟩ B.returns B.notSynchronized _ hl
theorem e_iretR {v : Int32} (hexec : p.tables.exec = Jvm.exec) (hb : c.code = cc) (hr : meth.sig.returnType = some .int) (hlk : meth.locks = false) (hdg : decode cc pc = .ok (.ireturn, 1)) : W p l e R s m args below meth c s.heap [] cells slots (MQ below (k2_QcV (.int v)) args s cells slots (fun _ => False)) (F0 m pc ls [.int v]) :=
  W.iret hexec hb hr (fun t ht _ => ⟨rfl, ht⟩) (fun _ h => by cases h) hdg hlk
theorem e_zretR {v : Int32} (hexec : p.tables.exec = Jvm.exec) (hb : c.code = cc) (hr : meth.sig.returnType = some .boolean) (hlk : meth.locks = false) (hn : narrow .boolean (.int v) = .int v) (hdg : decode cc pc = .ok (.ireturn, 1)) : W p l e R s m args below meth c s.heap [] cells slots (MQ below (k2_QcV (.int v)) args s cells slots (fun _ => False)) (F0 m pc ls [.int v]) :=
  W.zret hexec hb hr hn (fun t ht _ => ⟨rfl, ht⟩) (fun _ h => by cases h) hdg hlk
theorem e_lretR {v : Int64} (hexec : p.tables.exec = Jvm.exec) (hb : c.code = cc) (hr : meth.sig.returnType = some .long) (hlk : meth.locks = false) (hdg : decode cc pc = .ok (.lreturn, 1)) : W p l e R s m args below meth c s.heap [] cells slots (MQ below (k2_QcV (.long v)) args s cells slots (fun _ => False)) (F0 m pc ls [.long v]) :=
  W.lret hexec hb hr (fun t ht _ => ⟨rfl, ht⟩) (fun _ h => by cases h) hdg hlk
end ECW
