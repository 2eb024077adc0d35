set_option maxRecDepth 100000
abbrev sX : Type := (Nat → Int32) × (Nat → Nat → Int32) × (Nat → Nat) × hH
def xI (S : sX) (k : Nat) (v : Int32) : sX := (va_up S.1 k v, S.2)
def xA (S : sX) (k i : Nat) (v : Int32) : sX := (S.1, va_up S.2.1 k (upd (S.2.1 k) i v), S.2.2)
def xR (S : sX) (k v : Nat) : sX := (S.1, S.2.1, va_up S.2.2.1 k v, S.2.2.2)
def xH (S : sX) (h : hH) : sX := (S.1, S.2.1, S.2.2.1, h)
def ex_as (S : sX) (k n : Nat) (i v : Int32) : Option sX := if i < 0 ∨ n ≤ i.toNatClampNeg then none else some (xA S k i.toNatClampNeg v)
theorem ex_as_i {S S1 : sX} {k n : Nat} {i v : Int32} (h : ex_as S k n i v = some S1) : vp_in i n ∧ xA S k i.toNatClampNeg v = S1 := by
  unfold ex_as at h
  by_cases hc : i < 0 ∨ n ≤ i.toNatClampNeg
  · rw [if_pos hc] at h; cases h
  · rw [if_neg hc] at h; exact ⟨hc, Option.some.inj h⟩
def xF (q : Nat → Nat) (S : sX) : List Value := [.ref (q 0), .int (S.1 1), .int (S.1 2), .ref (S.2.2.1 3), .int (S.1 4), .ref (S.2.2.1 5), .int (S.1 6), .ref (S.2.2.1 7), .int (S.1 8), .int (S.1 9), .ref (q 10), .ref (S.2.2.1 11), .int (S.1 12), .ref (S.2.2.1 13), .ref (q 14), .ref (q 15), .ref (q 16), .int (S.1 17), .int (S.1 18), .int (S.1 19), .ref (q 20), .int (S.1 21), .int (S.1 22), .int (S.1 23), .int (S.1 24), .ref (S.2.2.1 25), .int (S.1 26), .ref (S.2.2.1 27)]
def WX (o : Nat) (q : Nat → Nat) (dA : Nat → ClassId) (S : sX) : va_W := (o, .inr (0, xF q S)) :: [(q 0, .inl (dA 2, 320, .inl (S.2.1 0))), (q 10, .inl (dA 0, 8, .inl (S.2.1 10))), (q 14, .inl (dA 1, 256, .inl (S.2.1 14))), (q 15, .inl (dA 0, 256, .inl (S.2.1 15))), (q 16, .inl (dA 0, 8, .inl (S.2.1 16))), (q 20, .inl (dA 0, 16, .inl (S.2.1 20)))]
def XL (o : Nat) (q : Nat → Nat) : List Nat := [o, q 0, q 10, q 14, q 15, q 16, q 20]
def XA (o : Nat) (q : Nat → Nat) (h : hH) : Nat → Prop := fun a => a ∈ XL o q ∨ ∃ x, h a = some x
abbrev XW (D : va_G) (dA : Nat → ClassId) (o : Nat) (q : Nat → Nat) (S : sX) (A : Nat → Prop) (s : State) (H : Heap) (locs : List Loc) : Prop := HX D dA (WX o q dA S) S.2.2.2 A s H locs
def XPre (D : va_G) (dA : Nat → ClassId) (o : Nat) (q : Nat → Nat) (S : sX) (as : List Value) : Array Value → State → Prop := fun a U => a = (Value.ref o :: as).toArray ∧ va_K D vwCl (tyX dA) U ∧ XN U ∧ HH D dA (WX o q dA S) S.2.2.2 (fun _ => True) U.heap
def XPost (D : va_G) (dA : Nat → ClassId) (o : Nat) (q : Nat → Nat) (A : Nat → Prop) (v : Option Value) (S : sX) : Array Value → State → Outcome → State → Prop := fun _ st oc t => oc = .returned v ∧ HH D dA (WX o q dA S) S.2.2.2 A t.heap ∧ va_F A st t
theorem wxi1 {o : Nat} {q : Nat → Nat} {dA : Nat → ClassId} {S : sX} (v : Int32) (L : hRw) : (hws dA (WX o q dA S) L).set 0 (o, .inr (0, (xF q S).set 1 (.int v))) = hws dA (WX o q dA (xI S 1 v)) L := rfl
theorem wxi2 {o : Nat} {q : Nat → Nat} {dA : Nat → ClassId} {S : sX} (v : Int32) (L : hRw) : (hws dA (WX o q dA S) L).set 0 (o, .inr (0, (xF q S).set 2 (.int v))) = hws dA (WX o q dA (xI S 2 v)) L := rfl
theorem wxi4 {o : Nat} {q : Nat → Nat} {dA : Nat → ClassId} {S : sX} (v : Int32) (L : hRw) : (hws dA (WX o q dA S) L).set 0 (o, .inr (0, (xF q S).set 4 (.int v))) = hws dA (WX o q dA (xI S 4 v)) L := rfl
theorem wxi6 {o : Nat} {q : Nat → Nat} {dA : Nat → ClassId} {S : sX} (v : Int32) (L : hRw) : (hws dA (WX o q dA S) L).set 0 (o, .inr (0, (xF q S).set 6 (.int v))) = hws dA (WX o q dA (xI S 6 v)) L := rfl
theorem wxi8 {o : Nat} {q : Nat → Nat} {dA : Nat → ClassId} {S : sX} (v : Int32) (L : hRw) : (hws dA (WX o q dA S) L).set 0 (o, .inr (0, (xF q S).set 8 (.int v))) = hws dA (WX o q dA (xI S 8 v)) L := rfl
theorem wxi9 {o : Nat} {q : Nat → Nat} {dA : Nat → ClassId} {S : sX} (v : Int32) (L : hRw) : (hws dA (WX o q dA S) L).set 0 (o, .inr (0, (xF q S).set 9 (.int v))) = hws dA (WX o q dA (xI S 9 v)) L := rfl
theorem wxi12 {o : Nat} {q : Nat → Nat} {dA : Nat → ClassId} {S : sX} (v : Int32) (L : hRw) : (hws dA (WX o q dA S) L).set 0 (o, .inr (0, (xF q S).set 12 (.int v))) = hws dA (WX o q dA (xI S 12 v)) L := rfl
theorem wxi17 {o : Nat} {q : Nat → Nat} {dA : Nat → ClassId} {S : sX} (v : Int32) (L : hRw) : (hws dA (WX o q dA S) L).set 0 (o, .inr (0, (xF q S).set 17 (.int v))) = hws dA (WX o q dA (xI S 17 v)) L := rfl
theorem wxi18 {o : Nat} {q : Nat → Nat} {dA : Nat → ClassId} {S : sX} (v : Int32) (L : hRw) : (hws dA (WX o q dA S) L).set 0 (o, .inr (0, (xF q S).set 18 (.int v))) = hws dA (WX o q dA (xI S 18 v)) L := rfl
theorem wxi19 {o : Nat} {q : Nat → Nat} {dA : Nat → ClassId} {S : sX} (v : Int32) (L : hRw) : (hws dA (WX o q dA S) L).set 0 (o, .inr (0, (xF q S).set 19 (.int v))) = hws dA (WX o q dA (xI S 19 v)) L := rfl
theorem wxi21 {o : Nat} {q : Nat → Nat} {dA : Nat → ClassId} {S : sX} (v : Int32) (L : hRw) : (hws dA (WX o q dA S) L).set 0 (o, .inr (0, (xF q S).set 21 (.int v))) = hws dA (WX o q dA (xI S 21 v)) L := rfl
theorem wxi22 {o : Nat} {q : Nat → Nat} {dA : Nat → ClassId} {S : sX} (v : Int32) (L : hRw) : (hws dA (WX o q dA S) L).set 0 (o, .inr (0, (xF q S).set 22 (.int v))) = hws dA (WX o q dA (xI S 22 v)) L := rfl
theorem wxi23 {o : Nat} {q : Nat → Nat} {dA : Nat → ClassId} {S : sX} (v : Int32) (L : hRw) : (hws dA (WX o q dA S) L).set 0 (o, .inr (0, (xF q S).set 23 (.int v))) = hws dA (WX o q dA (xI S 23 v)) L := rfl
theorem wxi24 {o : Nat} {q : Nat → Nat} {dA : Nat → ClassId} {S : sX} (v : Int32) (L : hRw) : (hws dA (WX o q dA S) L).set 0 (o, .inr (0, (xF q S).set 24 (.int v))) = hws dA (WX o q dA (xI S 24 v)) L := rfl
theorem wxi26 {o : Nat} {q : Nat → Nat} {dA : Nat → ClassId} {S : sX} (v : Int32) (L : hRw) : (hws dA (WX o q dA S) L).set 0 (o, .inr (0, (xF q S).set 26 (.int v))) = hws dA (WX o q dA (xI S 26 v)) L := rfl
theorem wxr3 {o : Nat} {q : Nat → Nat} {dA : Nat → ClassId} {S : sX} (v : Nat) (L : hRw) : (hws dA (WX o q dA S) L).set 0 (o, .inr (0, (xF q S).set 3 (.ref v))) = hws dA (WX o q dA (xR S 3 v)) L := rfl
theorem wxr5 {o : Nat} {q : Nat → Nat} {dA : Nat → ClassId} {S : sX} (v : Nat) (L : hRw) : (hws dA (WX o q dA S) L).set 0 (o, .inr (0, (xF q S).set 5 (.ref v))) = hws dA (WX o q dA (xR S 5 v)) L := rfl
theorem xfd1 : parseFieldDescriptor (TX0 1).2.2.1 = some .int := by decide +kernel
theorem xfd2 : parseFieldDescriptor (TX0 2).2.2.1 = some .int := by decide +kernel
theorem xfd4 : parseFieldDescriptor (TX0 4).2.2.1 = some .int := by decide +kernel
theorem xfd6 : parseFieldDescriptor (TX0 6).2.2.1 = some .int := by decide +kernel
theorem xfd8 : parseFieldDescriptor (TX0 8).2.2.1 = some .int := by decide +kernel
theorem xfd9 : parseFieldDescriptor (TX0 9).2.2.1 = some .int := by decide +kernel
theorem xfd12 : parseFieldDescriptor (TX0 12).2.2.1 = some .int := by decide +kernel
theorem xfd17 : parseFieldDescriptor (TX0 17).2.2.1 = some .int := by decide +kernel
theorem xfd18 : parseFieldDescriptor (TX0 18).2.2.1 = some .int := by decide +kernel
theorem xfd19 : parseFieldDescriptor (TX0 19).2.2.1 = some .int := by decide +kernel
theorem xfd21 : parseFieldDescriptor (TX0 21).2.2.1 = some .int := by decide +kernel
theorem xfd22 : parseFieldDescriptor (TX0 22).2.2.1 = some .int := by decide +kernel
theorem xfd23 : parseFieldDescriptor (TX0 23).2.2.1 = some .int := by decide +kernel
theorem xfd24 : parseFieldDescriptor (TX0 24).2.2.1 = some .int := by decide +kernel
theorem xfd26 : parseFieldDescriptor (TX0 26).2.2.1 = some .int := by decide +kernel
theorem wxa0 {o : Nat} {q : Nat → Nat} {dA : Nat → ClassId} {S : sX} (L : hRw) : (hws dA (WX o q dA S) L)[1]? = some (q 0, .inl (dA 2, 320, .inl (S.2.1 0))) := rfl
theorem wxs0 {o : Nat} {q : Nat → Nat} {dA : Nat → ClassId} {S : sX} (L : hRw) (i : Nat) (v : Int32) : (hws dA (WX o q dA S) L).set 1 (q 0, .inl (dA 2, 320, .inl (upd (S.2.1 0) i v))) = hws dA (WX o q dA (xA S 0 i v)) L := rfl
theorem wxa10 {o : Nat} {q : Nat → Nat} {dA : Nat → ClassId} {S : sX} (L : hRw) : (hws dA (WX o q dA S) L)[2]? = some (q 10, .inl (dA 0, 8, .inl (S.2.1 10))) := rfl
theorem wxs10 {o : Nat} {q : Nat → Nat} {dA : Nat → ClassId} {S : sX} (L : hRw) (i : Nat) (v : Int32) : (hws dA (WX o q dA S) L).set 2 (q 10, .inl (dA 0, 8, .inl (upd (S.2.1 10) i v))) = hws dA (WX o q dA (xA S 10 i v)) L := rfl
theorem wxa14 {o : Nat} {q : Nat → Nat} {dA : Nat → ClassId} {S : sX} (L : hRw) : (hws dA (WX o q dA S) L)[3]? = some (q 14, .inl (dA 1, 256, .inl (S.2.1 14))) := rfl
theorem wxs14 {o : Nat} {q : Nat → Nat} {dA : Nat → ClassId} {S : sX} (L : hRw) (i : Nat) (v : Int32) : (hws dA (WX o q dA S) L).set 3 (q 14, .inl (dA 1, 256, .inl (upd (S.2.1 14) i v))) = hws dA (WX o q dA (xA S 14 i v)) L := rfl
theorem wxa15 {o : Nat} {q : Nat → Nat} {dA : Nat → ClassId} {S : sX} (L : hRw) : (hws dA (WX o q dA S) L)[4]? = some (q 15, .inl (dA 0, 256, .inl (S.2.1 15))) := rfl
theorem wxs15 {o : Nat} {q : Nat → Nat} {dA : Nat → ClassId} {S : sX} (L : hRw) (i : Nat) (v : Int32) : (hws dA (WX o q dA S) L).set 4 (q 15, .inl (dA 0, 256, .inl (upd (S.2.1 15) i v))) = hws dA (WX o q dA (xA S 15 i v)) L := rfl
theorem wxa16 {o : Nat} {q : Nat → Nat} {dA : Nat → ClassId} {S : sX} (L : hRw) : (hws dA (WX o q dA S) L)[5]? = some (q 16, .inl (dA 0, 8, .inl (S.2.1 16))) := rfl
theorem wxs16 {o : Nat} {q : Nat → Nat} {dA : Nat → ClassId} {S : sX} (L : hRw) (i : Nat) (v : Int32) : (hws dA (WX o q dA S) L).set 5 (q 16, .inl (dA 0, 8, .inl (upd (S.2.1 16) i v))) = hws dA (WX o q dA (xA S 16 i v)) L := rfl
theorem wxa20 {o : Nat} {q : Nat → Nat} {dA : Nat → ClassId} {S : sX} (L : hRw) : (hws dA (WX o q dA S) L)[6]? = some (q 20, .inl (dA 0, 16, .inl (S.2.1 20))) := rfl
theorem wxs20 {o : Nat} {q : Nat → Nat} {dA : Nat → ClassId} {S : sX} (L : hRw) (i : Nat) (v : Int32) : (hws dA (WX o q dA S) L).set 6 (q 20, .inl (dA 0, 16, .inl (upd (S.2.1 20) i v))) = hws dA (WX o q dA (xA S 20 i v)) L := rfl
section XROWS
variable {p : Program} {l : Launch} {e : Env} {R : Room} {s : State} {m : MethodId} {args : Array Value} {below : List Frame} {meth : Method} {c : Code} {H : Heap} {locs : List Loc} {cells slots : Nat} {Q : State → Prop}
variable {cc bytes : ByteArray} {nL maxL pc idx n : Nat} {ls : Array Slot} {rest st As : List Value} {y : MethodName} {ret : Option FieldType} {rm : Room}
variable {D : va_G} {dA : Nat → ClassId} {o : Nat} {q : Nat → Nat} {S S1 : sX} {A : Nat → Prop}
theorem rm_le {i j L : Nat} (h : i + 1 ≤ j) (hm : L ≤ 21) : (rmL i).frames + 1 ≤ (rmL j).frames ∧ 8 + (L + 11) + (rmL i).locals ≤ (rmL j).locals := ⟨h, by show 8 + (L + 11) + 40 * i ≤ 40 * j; omega⟩
theorem x_get {v : Value} (X : CallFix p m c cc nL s args lw_all RX0) (hM : XW D dA o q S A s H locs) (k : Nat) (hk : k < 28) (hlink : Cond.fieldLink RX0 idx RX0 (TX0 k).2.1 (TX0 k).2.2.1 ∈ lw_all) (hR : (TX0 k).1 = RX0) (hv : (xF q S)[k]? = some v) (hdg : decode cc pc = .ok (.getfield idx, 3))
    (kk : W p l e R s m args below meth c H locs cells slots Q (F0 m (pc + 3) ls (v :: rest))) : W p l e R s m args below meth c H locs cells slots Q (F0 m pc ls (.ref o :: rest)) := by
  obtain ⟨hK, -, ⟨L, hi, hP, hD⟩, hS⟩ := hM
  exact va_get (D := D) (ci := 0) (v := v) (C := RX0) (T := TX0) (N := 28) X.1 X.2.1 X.2.2.2.2 in_X0 X.2.2.2.1 hK hP 0 rfl rfl k hk (X.2.2.2.2 _ hlink) (fun x h9 => by rw [hR] at h9; exact h9) hv hdg kk
theorem x_puti {v : Int32} (X : CallFix p m c cc nL s args lw_all RX0) (hM : XW D dA o q S A s H locs) (k : Nat) (hk : k < 28) (hlink : Cond.fieldLink RX0 idx RX0 (TX0 k).2.1 (TX0 k).2.2.1 ∈ lw_all) (hR : (TX0 k).1 = RX0) (hfin : (TX0 k).2.2.2 = false) (hd : parseFieldDescriptor (TX0 k).2.2.1 = some .int) (hw : ∀ L : hRw, (hws dA (WX o q dA S) L).set 0 (o, .inr (0, (xF q S).set k (.int v))) = hws dA (WX o q dA (xI S k v)) L) (hdg : decode cc pc = .ok (.putfield idx, 3))
    (kk : ∀ (S1 : sX) (H1 : Heap) (locs1 : List Loc), S1 = xI S k v → XW D dA o q S1 A s H1 locs1 → W p l e R s m args below meth c H1 locs1 cells slots Q (F0 m (pc + 3) ls rest)) : W p l e R s m args below meth c H locs cells slots Q (F0 m pc ls (.int v :: .ref o :: rest)) := by
  obtain ⟨hK, hN, ⟨L, hi, hP, hD⟩, hS⟩ := hM
  exact va_put (D := D) (ci := 0) (v := .int v) (ty := .int) (C := RX0) (T := TX0) (N := 28) X.1 X.2.1 X.2.2.2.2 in_X0 tyX0 tyX0_ok nmX0 X.2.2.2.1 hK hP hD hS 0 rfl rfl k hk (X.2.2.2.2 _ hlink) (fun x h9 => by rw [hR] at h9; exact h9) hfin hd rfl rfl hk hdg (fun H1 locs1 hP1 hD1 hS1 => kk _ H1 locs1 rfl ⟨hK, hN, ⟨L, hi, by rw [← hw]; exact hP1, by rw [← hw]; exact hD1⟩, hS1⟩)
theorem x_iald {i v : Int32} {a k N : Nat} {f : Nat → Int32} (X : CallFix p m c cc nL s args lw_all RX0) (hM : XW D dA o q S A s H locs) (ha : ∀ L : hRw, (hws dA (WX o q dA S) L)[k]? = some (a, .inl (dA 0, N, .inl f))) (h : ec_ag f N i = some v) (hdg : decode cc pc = .ok (.iaload, 1))
    (kk : W p l e R s m args below meth c H locs cells slots Q (F0 m (pc + 1) ls (.int v :: rest))) : W p l e R s m args below meth c H locs cells slots Q (F0 m pc ls (.int i :: .ref a :: rest)) := by
  obtain ⟨h1, h2⟩ := ec_ag_i h
  subst h2
  obtain ⟨hK, -, ⟨L, hi, hP, hD⟩, hS⟩ := hM
  exact va_iald X.1 X.2.1 hK hP k 0 (ha L) rfl h1 hdg kk
theorem x_zald {i v : Int32} {a k N : Nat} {f : Nat → Int32} (X : CallFix p m c cc nL s args lw_all RX0) (hM : XW D dA o q S A s H locs) (ha : ∀ L : hRw, (hws dA (WX o q dA S) L)[k]? = some (a, .inl (dA 1, N, .inl f))) (h : ec_ag f N i = some v) (hdg : decode cc pc = .ok (.baload, 1))
    (kk : W p l e R s m args below meth c H locs cells slots Q (F0 m (pc + 1) ls (.int v :: rest))) : W p l e R s m args below meth c H locs cells slots Q (F0 m pc ls (.int i :: .ref a :: rest)) := by
  obtain ⟨h1, h2⟩ := ec_ag_i h
  subst h2
  obtain ⟨hK, -, ⟨L, hi, hP, hD⟩, hS⟩ := hM
  exact va_zald X.1 X.2.1 hK hP k 1 (ha L) rfl h1 hdg kk
theorem x_iast {i v : Int32} {a k0 k N : Nat} (X : CallFix p m c cc nL s args lw_all RX0) (hM : XW D dA o q S A s H locs) (ha : ∀ L : hRw, (hws dA (WX o q dA S) L)[k0]? = some (a, .inl (dA 0, N, .inl (S.2.1 k)))) (hw : ∀ (L : hRw) (j : Nat) (v : Int32), (hws dA (WX o q dA S) L).set k0 (a, .inl (dA 0, N, .inl (upd (S.2.1 k) j v))) = hws dA (WX o q dA (xA S k j v)) L) (h : ex_as S k N i v = some S1) (hdg : decode cc pc = .ok (.iastore, 1))
    (kk : ∀ (H1 : Heap) (locs1 : List Loc), XW D dA o q S1 A s H1 locs1 → W p l e R s m args below meth c H1 locs1 cells slots Q (F0 m (pc + 1) ls rest)) : W p l e R s m args below meth c H locs cells slots Q (F0 m pc ls (.int v :: .int i :: .ref a :: rest)) := by
  obtain ⟨h1, h2⟩ := ex_as_i h
  subst h2
  obtain ⟨hK, hN, ⟨L, hi, hP, hD⟩, hS⟩ := hM
  exact va_iast X.1 X.2.1 hK hP hD hS k0 0 (ha L) rfl h1 hdg (fun H1 locs1 hP1 hD1 hS1 => kk H1 locs1 ⟨hK, hN, ⟨L, hi, by rw [← hw]; exact hP1, by rw [← hw]; exact hD1⟩, hS1⟩)
theorem x_zast {i v : Int32} {a k0 k N : Nat} (X : CallFix p m c cc nL s args lw_all RX0) (hM : XW D dA o q S A s H locs) (ha : ∀ L : hRw, (hws dA (WX o q dA S) L)[k0]? = some (a, .inl (dA 1, N, .inl (S.2.1 k)))) (hw : ∀ (L : hRw) (j : Nat) (v : Int32), (hws dA (WX o q dA S) L).set k0 (a, .inl (dA 1, N, .inl (upd (S.2.1 k) j v))) = hws dA (WX o q dA (xA S k j v)) L) (h : ex_as S k N i (vp_nar .boolean v) = some S1) (hdg : decode cc pc = .ok (.bastore, 1))
    (kk : ∀ (H1 : Heap) (locs1 : List Loc), XW D dA o q S1 A s H1 locs1 → W p l e R s m args below meth c H1 locs1 cells slots Q (F0 m (pc + 1) ls rest)) : W p l e R s m args below meth c H locs cells slots Q (F0 m pc ls (.int v :: .int i :: .ref a :: rest)) := by
  obtain ⟨h1, h2⟩ := ex_as_i h
  subst h2
  obtain ⟨hK, hN, ⟨L, hi, hP, hD⟩, hS⟩ := hM
  exact va_zast X.1 X.2.1 hK hP hD hS k0 1 (ha L) rfl h1 hdg (fun H1 locs1 hP1 hD1 hS1 => kk H1 locs1 ⟨hK, hN, ⟨L, hi, by rw [← hw]; exact hP1, by rw [← hw]; exact hD1⟩, hS1⟩)
theorem x_bast {i v : Int32} {a k0 k N : Nat} (X : CallFix p m c cc nL s args lw_all RX0) (hM : XW D dA o q S A s H locs) (ha : ∀ L : hRw, (hws dA (WX o q dA S) L)[k0]? = some (a, .inl (dA 2, N, .inl (S.2.1 k)))) (hw : ∀ (L : hRw) (j : Nat) (v : Int32), (hws dA (WX o q dA S) L).set k0 (a, .inl (dA 2, N, .inl (upd (S.2.1 k) j v))) = hws dA (WX o q dA (xA S k j v)) L) (h : ex_as S k N i (vp_nar .byte v) = some S1) (hdg : decode cc pc = .ok (.bastore, 1))
    (kk : ∀ (H1 : Heap) (locs1 : List Loc), XW D dA o q S1 A s H1 locs1 → W p l e R s m args below meth c H1 locs1 cells slots Q (F0 m (pc + 1) ls rest)) : W p l e R s m args below meth c H locs cells slots Q (F0 m pc ls (.int v :: .int i :: .ref a :: rest)) := by
  obtain ⟨h1, h2⟩ := ex_as_i h
  subst h2
  obtain ⟨hK, hN, ⟨L, hi, hP, hD⟩, hS⟩ := hM
  exact va_bast X.1 X.2.1 hK hP hD hS k0 2 (ha L) rfl h1 hdg (fun H1 locs1 hP1 hD1 hS1 => kk H1 locs1 ⟨hK, hN, ⟨L, hi, by rw [← hw]; exact hP1, by rw [← hw]; exact hD1⟩, hS1⟩)
/-- behind a write into the abstract heap: the state's new name -/
theorem x_nm {h1 : hH} (hM : HX D dA (WX o q dA S) h1 A s H locs) : ∃ S1 : sX, S1 = xH S h1 ∧ XW D dA o q S1 A s H locs := ⟨_, rfl, hM⟩
theorem XPre.blind {as : List Value} : FrameBlind (XPre D dA o q S as) := fun a U g mk z => ⟨z.1, va_K.moved (u := U) (U := U.calling g mk a) (Vm.Alike.refl U.vm) z.2.1, XN.same (u := U) rfl z.2.2.1, z.2.2.2⟩
theorem x_pre (hM : XW D dA o q S A s H locs) : PreV s H RX0 o (XPre D dA o q S As) As := by
  obtain ⟨hK, hN, hh, hS⟩ := hM
  refine ⟨XPre.blind, ?_, fun U hU hW => ⟨rfl, va_K.moved hW.alike hK, XN.warm hW hN, by rw [hU]; exact hh.weaken (fun _ _ => trivial)⟩⟩
  obtain ⟨L, hi, hP, hD⟩ := hh
  exact va_recv hK hP (ci := 0) (q0 := 0) rfl rfl
theorem x_cR {v : Value} (X : CallFix p m c cc nL s args lw_all RX0) (hM : XW D dA o q S A s H locs) (hmet : Met l y (ws_ y bytes maxL ret) rm (XPre D dA o q S As) (k2_QcV v) 0 0 (fun _ => False)) (cw : CallW R s args RX0 RX0 idx y bytes maxL ret (ws_ y bytes maxL ret) rm 0 0 n)
    (hn : As.length = n) (hsize : ls.size = nL) (hst : st = As.reverse ++ .ref o :: rest) (hroom : (rest.map fun v => v.category).sum ≤ 8) (hcs : cells ≤ R.cells ∧ slots ≤ R.slots) (hdg : decode cc pc = .ok (.invokevirtual idx, 3)) (kk : W p l e R s m args below meth c H locs cells slots Q (F0 m (pc + 3) ls (v :: rest))) : W p l e R s m args below meth c H locs cells slots Q (F0 m pc ls st) := by
  subst hst
  exact W.callV (r := v) (W.runV (As := As) (rest := rest) X hmet cw (x_pre hM) rfl hn hsize rfl (lv_room hroom) hdg hcs) kk
theorem XA_in {L : hRw} (hi : hIs S.2.2.2 L) (hD : va_D A (hws dA (WX o q dA S) L)) {a : Nat} (h : XA o q S.2.2.2 a) : A a := by
  rcases h with h | ⟨x, h⟩
  · obtain ⟨k, hk⟩ := List.getElem?_of_mem h
    have e : (WX o q dA S).map Prod.fst = XL o q := rfl
    rw [← e, List.getElem?_map] at hk
    cases hw : (WX o q dA S)[k]? with
    | none => rw [hw] at hk; cases hk
    | some z =>
      rw [hw] at hk
      have h1 : z.1 = a := Option.some.inj hk
      have hl : k < (WX o q dA S).length := (List.getElem?_eq_some_iff.mp hw).1
      rw [← h1]
      exact hD.2 k z (by unfold hws; rw [List.getElem?_append_left hl]; exact hw)
  · obtain ⟨j, hj⟩ := hh_at hi h
    exact hD.2 _ _ (hws_r hj)
theorem XA_self {L : hRw} {B : Nat → Prop} (hi : hIs S.2.2.2 L) (hD : va_D B (hws dA (WX o q dA S) L)) : va_D (XA o q S.2.2.2) (hws dA (WX o q dA S) L) := by
  refine ⟨hD.1, fun k z hk => ?_⟩
  by_cases hl : k < (WX o q dA S).length
  · unfold hws at hk
    rw [List.getElem?_append_left hl] at hk
    have e : (WX o q dA S).map Prod.fst = XL o q := rfl
    exact Or.inl (by rw [← e]; exact List.mem_map_of_mem (List.mem_of_getElem? hk))
  · unfold hws at hk
    rw [List.getElem?_append_right (Nat.le_of_not_lt hl), List.getElem?_map] at hk
    cases hw : L[k - (WX o q dA S).length]? with
    | none => rw [hw] at hk; cases hk
    | some w =>
      rw [hw] at hk
      cases hk
      exact Or.inr ⟨w.2, (hi _ _).mpr (List.mem_of_getElem? hw)⟩
theorem x_cW {v : Option Value} (X : CallFix p m c cc nL s args lw_all RX0) (hM : XW D dA o q S A s H locs) (hmet : Met l y (ws_ y bytes maxL ret) rm (XPre D dA o q S As) (XPost D dA o q (XA o q S.2.2.2) v S1) 0 0 (XA o q S.2.2.2)) (cw : CallW R s args RX0 RX0 idx y bytes maxL ret (ws_ y bytes maxL ret) rm 0 0 n)
    (hn : As.length = n) (hsize : ls.size = nL) (hst : st = As.reverse ++ .ref o :: rest) (hroom : (rest.map fun v => v.category).sum ≤ 8) (hcs : cells ≤ R.cells ∧ slots ≤ R.slots) (hdg : decode cc pc = .ok (.invokevirtual idx, 3)) (kk : ∀ (H1 : Heap) (locs1 : List Loc), XW D dA o q S1 A s H1 locs1 → W p l e R s m args below meth c H1 locs1 cells slots Q (F0 m (pc + 3) ls (v.toList ++ rest))) : W p l e R s m args below meth c H locs cells slots Q (F0 m pc ls st) := by
  subst hst
  intro T hT Xs
  obtain ⟨v', st₀, t, T', L, h0, X', hL, e1, ⟨hv, hP, hz, hk⟩, stp⟩ := W.runV (As := As) (rest := rest) X hmet cw (x_pre hM) (g := F0 m pc ls (As.reverse ++ .ref o :: rest)) rfl hn hsize rfl (lv_room hroom) hdg hcs T hT Xs
  cases hv
  rw [h0] at hz hk
  obtain ⟨hK, hN, ⟨L0, hi, hP0, hD⟩, hS⟩ := hM
  have hin : ∀ a, XA o q S.2.2.2 a → A a := fun a z => XA_in hi hD z
  obtain ⟨t2, a1, b1⟩ := kk T'.heap (locs ++ L) ⟨hK, hN, by rw [e1]; exact hP.weaken hin, Nat.le_trans hS.1 (by rw [e1]; exact hz), fun x h1 h2 => by rw [e1, hk x (Nat.lt_of_lt_of_le h1 hS.1) (fun z => h2 (hin x z))]; exact hS.2.1 x h1 h2, fun x hx => by
    rcases List.mem_append.mp hx with h | h
    · exact hS.2.2 x h
    · exact hin _ (hL x h)⟩ T' rfl X'
  exact ⟨t2, stp t2 a1, b1⟩
theorem x_cWi {v : Value} (X : CallFix p m c cc nL s args lw_all RX0) (hM : XW D dA o q S A s H locs) (hmet : Met l y (ws_ y bytes maxL ret) rm (XPre D dA o q S As) (XPost D dA o q (XA o q S.2.2.2) (some v) S1) 0 0 (XA o q S.2.2.2)) (cw : CallW R s args RX0 RX0 idx y bytes maxL ret (ws_ y bytes maxL ret) rm 0 0 n)
    (hn : As.length = n) (hsize : ls.size = nL) (hst : st = As.reverse ++ .ref o :: rest) (hroom : (rest.map fun v => v.category).sum ≤ 8) (hcs : cells ≤ R.cells ∧ slots ≤ R.slots) (hdg : decode cc pc = .ok (.invokevirtual idx, 3)) (kk : ∀ (H1 : Heap) (locs1 : List Loc), XW D dA o q S1 A s H1 locs1 → W p l e R s m args below meth c H1 locs1 cells slots Q (F0 m (pc + 3) ls (v :: rest))) : W p l e R s m args below meth c H locs cells slots Q (F0 m pc ls st) :=
  x_cW X hM hmet cw hn hsize hst hroom hcs hdg kk
theorem x_cWv (X : CallFix p m c cc nL s args lw_all RX0) (hM : XW D dA o q S A s H locs) (hmet : Met l y (ws_ y bytes maxL ret) rm (XPre D dA o q S As) (XPost D dA o q (XA o q S.2.2.2) none S1) 0 0 (XA o q S.2.2.2)) (cw : CallW R s args RX0 RX0 idx y bytes maxL ret (ws_ y bytes maxL ret) rm 0 0 n)
    (hn : As.length = n) (hsize : ls.size = nL) (hst : st = As.reverse ++ .ref o :: rest) (hroom : (rest.map fun v => v.category).sum ≤ 8) (hcs : cells ≤ R.cells ∧ slots ≤ R.slots) (hdg : decode cc pc = .ok (.invokevirtual idx, 3)) (kk : ∀ (H1 : Heap) (locs1 : List Loc), XW D dA o q S1 A s H1 locs1 → W p l e R s m args below meth c H1 locs1 cells slots Q (F0 m (pc + 3) ls rest)) : W p l e R s m args below meth c H locs cells slots Q (F0 m pc ls st) :=
  x_cW X hM hmet cw hn hsize hst hroom hcs hdg kk
theorem x_ofR {v : Value} (hc : y.cls = RX0) (hlen : (lg_sl (.ref o :: As)).length ≤ maxL)
    (body : ∀ (p : Program) (e : Env) (s : State) (m : MethodId) (args : Array Value) (below : List Frame) (meth : Method) (c : Code), CallFix p m c bytes maxL s args lw_all RX0 → meth.sig.returnType = ret → meth.locks = false → XW D dA o q S (fun _ => True) s s.heap [] → ∀ ls : Array Slot, lv_has ls maxL (lv_args 0 (.ref o :: As)) → W p l e rm s m args below meth c s.heap [] 0 0 (MQ below (k2_QcV v) args s 0 0 (fun _ => False)) (F0 m 0 ls [])) :
    Met l y (ws_ y bytes maxL ret) rm (XPre D dA o q S As) (k2_QcV v) 0 0 (fun _ => False) := by
  refine Met.ofW (cc := bytes) (maxL := maxL) (ret := ret) (by rw [hc]; decide) rfl ?_
  intro p e s m args below meth c s₁ B hml hv
  have hts := atoms_spec (ws := ws_ y bytes maxL ret) B.pre
  have hts : ∀ w ∈ lw_all, w.before _ s = true := fun w h => hts w (List.mem_cons_of_mem _ h)
  have hl := lv_entry (.ref o :: As) hlen
  have hown := findClass_of_methodNamed B.named
  rw [hc] at hown
  obtain ⟨rfl, hK, hN, hh⟩ := hv
  rw [lg_entry_eq]
  exact body p e s m _ below meth c ⟨B.exec, B.bytes, hml, hown, hts⟩ B.returns B.notSynchronized ⟨hK, hN, hh, va_S.rf⟩ _ hl
theorem x_ofW {v : Option Value} (hc : y.cls = RX0) (hlen : (lg_sl (.ref o :: As)).length ≤ maxL)
    (body : ∀ (A : Nat → Prop) (p : Program) (e : Env) (s : State) (m : MethodId) (args : Array Value) (below : List Frame) (meth : Method) (c : Code), CallFix p m c bytes maxL s args lw_all RX0 → meth.sig.returnType = ret → meth.locks = false → XW D dA o q S A s s.heap [] → ∀ ls : Array Slot, lv_has ls maxL (lv_args 0 (.ref o :: As)) → W p l e rm s m args below meth c s.heap [] 0 0 (MQ below (XPost D dA o q A v S1) args s 0 0 A) (F0 m 0 ls [])) :
    Met l y (ws_ y bytes maxL ret) rm (XPre D dA o q S As) (XPost D dA o q (XA o q S.2.2.2) v S1) 0 0 (XA o q S.2.2.2) := by
  refine Met.ofW (cc := bytes) (maxL := maxL) (ret := ret) (by rw [hc]; decide) rfl ?_
  intro p e s m args below meth c s₁ B hml hv
  have hts := atoms_spec (ws := ws_ y bytes maxL ret) B.pre
  have hts : ∀ w ∈ lw_all, w.before _ s = true := fun w h => hts w (List.mem_cons_of_mem _ h)
  have hl := lv_entry (.ref o :: As) hlen
  have hown := findClass_of_methodNamed B.named
  rw [hc] at hown
  obtain ⟨rfl, hK, hN, L, hi, hP, hD⟩ := hv
  rw [lg_entry_eq]
  exact body _ p e s m _ below meth c ⟨B.exec, B.bytes, hml, hown, hts⟩ B.returns B.notSynchronized ⟨hK, hN, ⟨L, hi, hP, XA_self hi hD⟩, va_S.rf⟩ _ hl
theorem x_iret {v : Int32} (X : CallFix p m c cc nL s args lw_all RX0) (hr : meth.sig.returnType = some .int) (hlk : meth.locks = false) (hM : XW D dA o q S A s H locs) (hdg : decode cc pc = .ok (.ireturn, 1)) : W p l e R s m args below meth c H locs cells slots (MQ below (XPost D dA o q A (some (.int v)) S) args s cells slots A) (F0 m pc ls [.int v]) :=
  W.iret X.1 X.2.1 hr (fun t ht _ => ⟨rfl, by rw [ht]; exact hM.2.2.1, hM.2.2.2.F ht⟩) hM.2.2.2.2.2 hdg hlk
theorem x_zret {v : Int32} (X : CallFix p m c cc nL s args lw_all RX0) (hr : meth.sig.returnType = some .boolean) (hlk : meth.locks = false) (hM : XW D dA o q S A s H locs) (hn : narrow .boolean (.int v) = .int v) (hdg : decode cc pc = .ok (.ireturn, 1)) : W p l e R s m args below meth c H locs cells slots (MQ below (XPost D dA o q A (some (.int v)) S) args s cells slots A) (F0 m pc ls [.int v]) :=
  W.zret X.1 X.2.1 hr hn (fun t ht _ => ⟨rfl, by rw [ht]; exact hM.2.2.1, hM.2.2.2.F ht⟩) hM.2.2.2.2.2 hdg hlk
theorem x_lret {v : Int64} (X : CallFix p m c cc nL s args lw_all RX0) (hr : meth.sig.returnType = some .long) (hlk : meth.locks = false) (hM : XW D dA o q S A s H locs) (hdg : decode cc pc = .ok (.lreturn, 1)) : W p l e R s m args below meth c H locs cells slots (MQ below (XPost D dA o q A (some (.long v)) S) args s cells slots A) (F0 m pc ls [.long v]) :=
  W.lret X.1 X.2.1 hr (fun t ht _ => ⟨rfl, by rw [ht]; exact hM.2.2.1, hM.2.2.2.F ht⟩) hM.2.2.2.2.2 hdg hlk
theorem x_vret (X : CallFix p m c cc nL s args lw_all RX0) (hr : meth.sig.returnType = none) (hlk : meth.locks = false) (hM : XW D dA o q S A s H locs) (hdg : decode cc pc = .ok (.return_, 1)) : W p l e R s m args below meth c H locs cells slots (MQ below (XPost D dA o q A none S) args s cells slots A) (F0 m pc ls []) :=
  W.vret X.1 X.2.1 hr (fun t ht _ => ⟨rfl, by rw [ht]; exact hM.2.2.1, hM.2.2.2.F ht⟩) hM.2.2.2.2.2 hdg hlk
theorem e_ifnn {own : String} {r : Option Nat} {off : Int} {tgt : Nat} (X : CallFix p m c cc nL s args lw_all own) (hdg : decode cc pc = .ok (.ifnonnull off, 3)) (ht : (pc : Int) + off = (tgt : Int)) (ks : ¬ r = none → W p l e R s m args below meth c H locs cells slots Q (F0 m tgt ls rest)) (kn : r = none → W p l e R s m args below meth c H locs cells slots Q (F0 m (pc + 3) ls rest)) : W p l e R s m args below meth c H locs cells slots Q (F0 m pc ls (va_rf r :: rest)) := by
  cases r with
  | none => exact lv_ifnonnullN X.1 X.2.1 hdg (kn rfl)
  | some z => exact lv_ifnonnull X.1 X.2.1 hdg ht (ks (fun h => by cases h))
end XROWS
