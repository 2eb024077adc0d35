/-! STATICS' PLACES, kept: what laysStatic and isRef say, out of what is carried -/
set_option maxRecDepth 100000
def LZ (C n d : String) (A : Nat → Prop) (U : State) (H : Heap) : Prop := ∃ (c : ClassId) (k : Class) (i : Nat) (f : Field) (a : Nat) (cell : Cell), U.vm.findClass C = some c ∧ U.fieldFound? C n d = some (c, k, i, f) ∧ f.isStatic = true ∧ k.statics = some a ∧ k.staticTypes[f.slot]? = some f.type ∧ H[a]? = some cell ∧ cell.vm.isStatics = true ∧ cell.cls = c ∧ f.slot < cell.slots.size ∧ ¬ A a
theorem LZ.moved {C n d : String} {A : Nat → Prop} {u U : State} {H : Heap} (hvm : u.vm.Alike U.vm) (h : LZ C n d A u H) : LZ C n d A U H := by
  obtain ⟨c, k, i, f, a, cell, h0, h1, h2, h3, h4, h5⟩ := h
  obtain ⟨k', hi', he⟩ := State.fieldFound?_setVm hvm h1
  exact ⟨c, k', i, f, a, cell, by rw [hvm.findClass]; exact h0, hi', h2, by rw [he]; exact h3, by rw [he]; exact h4, h5⟩
theorem LZ.kept {C n d : String} {A : Nat → Prop} {U : State} {H H1 : Heap} (h : LZ C n d A U H) (hq : ∀ a : Nat, a < H.size → ¬ A a → H1[a]? = H[a]?) : LZ C n d A U H1 := by
  obtain ⟨c, k, i, f, a, cell, h0, h1, h2, h3, h4, h5, h6, h7, h8, h9⟩ := h
  exact ⟨c, k, i, f, a, cell, h0, h1, h2, h3, h4, by rw [hq a (Array.getElem?_eq_some_iff.mp h5).1 h9]; exact h5, h6, h7, h8, h9⟩
theorem LZ.narrow {C n d : String} {A B : Nat → Prop} {U : State} {H : Heap} (h : LZ C n d A U H) (hAB : ∀ q, B q → A q) : LZ C n d B U H := by
  obtain ⟨c, k, i, f, a, cell, h0, h1, h2, h3, h4, h5, h6, h7, h8, h9⟩ := h
  exact ⟨c, k, i, f, a, cell, h0, h1, h2, h3, h4, h5, h6, h7, h8, fun z => h9 (hAB a z)⟩
theorem LZ.of {C n d : String} {A : Nat → Prop} {args : Array Value} {s : State} (h : (Cond.laysStatic C n d).before args s = true) (hA : ∀ a : Nat, a < s.heap.size → ¬ A a) : LZ C n d A s s.heap := by
  obtain ⟨c, k, i, f, a, cell, h0, h1, h2, h3, h5, h6, h7, h8, h4⟩ := Cond.laysStatic_spec h
  exact ⟨c, k, i, f, a, cell, h0, h1, h2, h3, h4, h5, h6, h7, h8, hA a (Array.getElem?_eq_some_iff.mp h5).1⟩
theorem LZ.word {C n d : String} {A : Nat → Prop} {args : Array Value} {s : State} (h : LZ C n d A s s.heap) : (Cond.laysStatic C n d).before args s = true := by
  obtain ⟨c, k, i, f, a, cell, h0, h1, h2, h3, h4, h5, h6, h7, h8, -⟩ := h
  simp [Cond.before, Cond.holds, Cond.value, h0, h1, h2, h3, h4, h5, h6, h7, h8]
theorem at_refZ {C n d : String} {v : Value} {A : Nat → Prop} {args : Array Value} {s : State} (h : va_Z C n d v A s s.heap) : (Term.static C n d).eval args s none [] s = some v := by
  obtain ⟨cf, kf, fi, f, a, cell, h1, h2, h3, h4, h5, h6, h7, h8⟩ := h
  simp [Term.eval, State.fieldNamed?, h1, h2, h4, h5, h6, h7]
theorem at_ref {C n d : String} {A : Nat → Prop} {args : Array Value} {s : State} (h : va_Zq C n d A s s.heap) : (Cond.isRef (.static C n d)).before args s = true := by
  rcases h with h | ⟨t, h⟩
  · simp [Cond.before, Cond.holds, Cond.value, at_refZ (args := args) h]
  · simp [Cond.before, Cond.holds, Cond.value, at_refZ (args := args) h]
