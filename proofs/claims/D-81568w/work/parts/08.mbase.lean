abbrev vwCl : List vw_C := [(RX0, TX0, 28), (RX1, TX1, 2), (RX2, TX2, 2), (RX3, TX3, 56), (RX4, TX4, 9), (RX5, TX5, 8), (RX7, TX7, 2), (RX8, TX8, 5), (RX9, TX9, 5)]
/-! THE MODEL's WORLD: one object and its arrays; its state: ints, longs, arrays by the fields' numbers -/
set_option maxRecDepth 100000
abbrev sM : Type := (Nat → Int32) × (Nat → Int64) × (Nat → Nat → Int32)
def mI (S : sM) (k : Nat) (v : Int32) : sM := (va_up S.1 k v, S.2)
def mL (S : sM) (k : Nat) (v : Int64) : sM := (S.1, va_up S.2.1 k v, S.2.2)
def mA (S : sM) (k i : Nat) (v : Int32) : sM := (S.1, S.2.1, va_up S.2.2 k (upd (S.2.2 k) i v))
def ec_as (S : sM) (k n : Nat) (i v : Int32) : Option sM := if i < 0 ∨ n ≤ i.toNatClampNeg then none else some (mA S k i.toNatClampNeg v)
theorem ec_as_i {S S1 : sM} {k n : Nat} {i v : Int32} (h : ec_as S k n i v = some S1) : vp_in i n ∧ mA S k i.toNatClampNeg v = S1 := by
  unfold ec_as at h
  by_cases hc : i < 0 ∨ n ≤ i.toNatClampNeg
  · rw [if_pos hc] at h; cases h
  · rw [if_neg hc] at h; exact ⟨hc, Option.some.inj h⟩
def mF (q : Nat → Nat) (S : sM) : List Value := [.int (S.1 0), .ref (q 1), .ref (q 2), .ref (q 3), .int (S.1 4), .ref (q 5), .ref (q 6), .int (S.1 7), .ref (q 8), .ref (q 9), .int (S.1 10), .int (S.1 11), .ref (q 12), .ref (q 13), .ref (q 14), .int (S.1 15), .ref (q 16), .ref (q 17), .ref (q 18), .int (S.1 19), .ref (q 20), .ref (q 21), .int (S.1 22), .int (S.1 23), .ref (q 24), .int (S.1 25), .int (S.1 26), .int (S.1 27), .int (S.1 28), .int (S.1 29), .int (S.1 30), .int (S.1 31), .ref (q 32), .ref (q 33), .int (S.1 34), .ref (q 35), .int (S.1 36), .ref (q 37), .ref (q 38), .ref (q 39), .ref (q 40), .int (S.1 41), .ref (q 42), .long (S.2.1 43), .long (S.2.1 44), .int (S.1 45), .int (S.1 46), .ref (q 47), .int (S.1 48), .int (S.1 49), .ref (q 50), .ref (q 51), .ref (q 52), .ref (q 53), .ref (q 54), .ref (q 55)]
def WM (o : Nat) (q : Nat → Nat) (d dz : ClassId) (S : sM) : va_W := (o, .inr (3, mF q S)) :: [(q 1, .inl (d, 16, .inl (S.2.2 1))), (q 2, .inl (d, 128, .inl (S.2.2 2))), (q 3, .inl (d, 16, .inl (S.2.2 3))), (q 5, .inl (d, 40, .inl (S.2.2 5))), (q 6, .inl (d, 40, .inl (S.2.2 6))), (q 8, .inl (d, 6000, .inl (S.2.2 8))), (q 9, .inl (d, 16, .inl (S.2.2 9))), (q 12, .inl (d, 16, .inl (S.2.2 12))), (q 13, .inl (d, 128, .inl (S.2.2 13))), (q 14, .inl (d, 16, .inl (S.2.2 14))), (q 16, .inl (d, 40, .inl (S.2.2 16))), (q 17, .inl (d, 40, .inl (S.2.2 17))), (q 18, .inl (d, 5, .inl (S.2.2 18))), (q 20, .inl (d, 100, .inl (S.2.2 20))), (q 21, .inl (d, 100, .inl (S.2.2 21))), (q 24, .inl (d, 320, .inl (S.2.2 24))), (q 32, .inl (d, 40, .inl (S.2.2 32))), (q 33, .inl (d, 40, .inl (S.2.2 33))), (q 35, .inl (d, 128, .inl (S.2.2 35))), (q 37, .inl (d, 4, .inl (S.2.2 37))), (q 38, .inl (d, 4, .inl (S.2.2 38))), (q 39, .inl (d, 256, .inl (S.2.2 39))), (q 40, .inl (dz, 256, .inl (S.2.2 40))), (q 42, .inl (d, 8, .inl (S.2.2 42))), (q 47, .inl (d, 16, .inl (S.2.2 47))), (q 50, .inl (d, 12, .inl (S.2.2 50))), (q 51, .inl (d, 12, .inl (S.2.2 51))), (q 52, .inl (d, 12, .inl (S.2.2 52))), (q 53, .inl (d, 4, .inl (S.2.2 53))), (q 54, .inl (d, 4, .inl (S.2.2 54))), (q 55, .inl (d, 160, .inl (S.2.2 55)))]
def ML (o : Nat) (q : Nat → Nat) : List Nat := [o, q 1, q 2, q 3, q 5, q 6, q 8, q 9, q 12, q 13, q 14, q 16, q 17, q 18, q 20, q 21, q 24, q 32, q 33, q 35, q 37, q 38, q 39, q 40, q 42, q 47, q 50, q 51, q 52, q 53, q 54, q 55]
def AM (o : Nat) (q : Nat → Nat) : Nat → Prop := fun a => a ∈ ML o q
def MG (o : Nat) (q : Nat → Nat) : Prop := ∀ (i j a : Nat), (ML o q)[i]? = some a → (ML o q)[j]? = some a → i = j
theorem WM_D {o : Nat} {q : Nat → Nat} (hG : MG o q) (d dz : ClassId) (S : sM) : va_D (AM o q) (WM o q d dz S) := by
  have e : (WM o q d dz S).map Prod.fst = ML o q := rfl
  have at' : ∀ (k : Nat) (x : Nat × va_E), (WM o q d dz S)[k]? = some x → (ML o q)[k]? = some x.1 := fun k x h => by
    rw [← e, List.getElem?_map, h]; rfl
  exact ⟨fun i j x y hx hy hxy => hG i j x.1 (at' i x hx) (by rw [hxy]; exact at' j y hy), fun k x h => List.mem_of_getElem? (at' k x h)⟩
abbrev tyM (d dz : ClassId) : List (ClassId × FieldType) := [(d, .int), (dz, .boolean)]
def MW (D : va_G) (o : Nat) (q : Nat → Nat) (d dz : ClassId) (S : sM) (s : State) (H : Heap) (locs : List Loc) : Prop := va_K D vwCl (tyM d dz) s ∧ va_P D vwCl (WM o q d dz S) H ∧ va_S (AM o q) s.heap H locs
def MPre (D : va_G) (o : Nat) (q : Nat → Nat) (d dz : ClassId) (S : sM) (as : List Value) : Array Value → State → Prop := fun a U => a = (Value.ref o :: as).toArray ∧ va_K D vwCl (tyM d dz) U ∧ va_P D vwCl (WM o q d dz S) U.heap
def MPost (D : va_G) (o : Nat) (q : Nat → Nat) (d dz : ClassId) (v : Option Value) (S : sM) : Array Value → State → Outcome → State → Prop := fun _ st oc t => oc = .returned v ∧ va_P D vwCl (WM o q d dz S) t.heap ∧ va_F (AM o q) st t
theorem MPre.blind {D : va_G} {o : Nat} {q : Nat → Nat} {d dz : ClassId} {S : sM} {as : List Value} : FrameBlind (MPre D o q d dz S as) := fun a U g mk h => ⟨h.1, va_K.moved (u := U) (U := U.calling g mk a) (Vm.Alike.refl U.vm) h.2.1, h.2.2⟩
theorem wmi0 {o : Nat} {q : Nat → Nat} {d dz : ClassId} {S : sM} (v : Int32) : (WM o q d dz S).set 0 (o, .inr (3, (mF q S).set 0 (.int v))) = WM o q d dz (mI S 0 v) := rfl
theorem wmi4 {o : Nat} {q : Nat → Nat} {d dz : ClassId} {S : sM} (v : Int32) : (WM o q d dz S).set 0 (o, .inr (3, (mF q S).set 4 (.int v))) = WM o q d dz (mI S 4 v) := rfl
theorem wmi7 {o : Nat} {q : Nat → Nat} {d dz : ClassId} {S : sM} (v : Int32) : (WM o q d dz S).set 0 (o, .inr (3, (mF q S).set 7 (.int v))) = WM o q d dz (mI S 7 v) := rfl
theorem wmi10 {o : Nat} {q : Nat → Nat} {d dz : ClassId} {S : sM} (v : Int32) : (WM o q d dz S).set 0 (o, .inr (3, (mF q S).set 10 (.int v))) = WM o q d dz (mI S 10 v) := rfl
theorem wmi11 {o : Nat} {q : Nat → Nat} {d dz : ClassId} {S : sM} (v : Int32) : (WM o q d dz S).set 0 (o, .inr (3, (mF q S).set 11 (.int v))) = WM o q d dz (mI S 11 v) := rfl
theorem wmi15 {o : Nat} {q : Nat → Nat} {d dz : ClassId} {S : sM} (v : Int32) : (WM o q d dz S).set 0 (o, .inr (3, (mF q S).set 15 (.int v))) = WM o q d dz (mI S 15 v) := rfl
theorem wmi19 {o : Nat} {q : Nat → Nat} {d dz : ClassId} {S : sM} (v : Int32) : (WM o q d dz S).set 0 (o, .inr (3, (mF q S).set 19 (.int v))) = WM o q d dz (mI S 19 v) := rfl
theorem wmi22 {o : Nat} {q : Nat → Nat} {d dz : ClassId} {S : sM} (v : Int32) : (WM o q d dz S).set 0 (o, .inr (3, (mF q S).set 22 (.int v))) = WM o q d dz (mI S 22 v) := rfl
theorem wmi23 {o : Nat} {q : Nat → Nat} {d dz : ClassId} {S : sM} (v : Int32) : (WM o q d dz S).set 0 (o, .inr (3, (mF q S).set 23 (.int v))) = WM o q d dz (mI S 23 v) := rfl
theorem wmi25 {o : Nat} {q : Nat → Nat} {d dz : ClassId} {S : sM} (v : Int32) : (WM o q d dz S).set 0 (o, .inr (3, (mF q S).set 25 (.int v))) = WM o q d dz (mI S 25 v) := rfl
theorem wmi26 {o : Nat} {q : Nat → Nat} {d dz : ClassId} {S : sM} (v : Int32) : (WM o q d dz S).set 0 (o, .inr (3, (mF q S).set 26 (.int v))) = WM o q d dz (mI S 26 v) := rfl
theorem wmi27 {o : Nat} {q : Nat → Nat} {d dz : ClassId} {S : sM} (v : Int32) : (WM o q d dz S).set 0 (o, .inr (3, (mF q S).set 27 (.int v))) = WM o q d dz (mI S 27 v) := rfl
theorem wmi28 {o : Nat} {q : Nat → Nat} {d dz : ClassId} {S : sM} (v : Int32) : (WM o q d dz S).set 0 (o, .inr (3, (mF q S).set 28 (.int v))) = WM o q d dz (mI S 28 v) := rfl
theorem wmi29 {o : Nat} {q : Nat → Nat} {d dz : ClassId} {S : sM} (v : Int32) : (WM o q d dz S).set 0 (o, .inr (3, (mF q S).set 29 (.int v))) = WM o q d dz (mI S 29 v) := rfl
theorem wmi30 {o : Nat} {q : Nat → Nat} {d dz : ClassId} {S : sM} (v : Int32) : (WM o q d dz S).set 0 (o, .inr (3, (mF q S).set 30 (.int v))) = WM o q d dz (mI S 30 v) := rfl
theorem wmi31 {o : Nat} {q : Nat → Nat} {d dz : ClassId} {S : sM} (v : Int32) : (WM o q d dz S).set 0 (o, .inr (3, (mF q S).set 31 (.int v))) = WM o q d dz (mI S 31 v) := rfl
theorem wmi34 {o : Nat} {q : Nat → Nat} {d dz : ClassId} {S : sM} (v : Int32) : (WM o q d dz S).set 0 (o, .inr (3, (mF q S).set 34 (.int v))) = WM o q d dz (mI S 34 v) := rfl
theorem wmi36 {o : Nat} {q : Nat → Nat} {d dz : ClassId} {S : sM} (v : Int32) : (WM o q d dz S).set 0 (o, .inr (3, (mF q S).set 36 (.int v))) = WM o q d dz (mI S 36 v) := rfl
theorem wmi41 {o : Nat} {q : Nat → Nat} {d dz : ClassId} {S : sM} (v : Int32) : (WM o q d dz S).set 0 (o, .inr (3, (mF q S).set 41 (.int v))) = WM o q d dz (mI S 41 v) := rfl
theorem wmi45 {o : Nat} {q : Nat → Nat} {d dz : ClassId} {S : sM} (v : Int32) : (WM o q d dz S).set 0 (o, .inr (3, (mF q S).set 45 (.int v))) = WM o q d dz (mI S 45 v) := rfl
theorem wmi46 {o : Nat} {q : Nat → Nat} {d dz : ClassId} {S : sM} (v : Int32) : (WM o q d dz S).set 0 (o, .inr (3, (mF q S).set 46 (.int v))) = WM o q d dz (mI S 46 v) := rfl
theorem wmi48 {o : Nat} {q : Nat → Nat} {d dz : ClassId} {S : sM} (v : Int32) : (WM o q d dz S).set 0 (o, .inr (3, (mF q S).set 48 (.int v))) = WM o q d dz (mI S 48 v) := rfl
theorem wmi49 {o : Nat} {q : Nat → Nat} {d dz : ClassId} {S : sM} (v : Int32) : (WM o q d dz S).set 0 (o, .inr (3, (mF q S).set 49 (.int v))) = WM o q d dz (mI S 49 v) := rfl
theorem wml43 {o : Nat} {q : Nat → Nat} {d dz : ClassId} {S : sM} (v : Int64) : (WM o q d dz S).set 0 (o, .inr (3, (mF q S).set 43 (.long v))) = WM o q d dz (mL S 43 v) := rfl
theorem wml44 {o : Nat} {q : Nat → Nat} {d dz : ClassId} {S : sM} (v : Int64) : (WM o q d dz S).set 0 (o, .inr (3, (mF q S).set 44 (.long v))) = WM o q d dz (mL S 44 v) := rfl
theorem mfd0 : parseFieldDescriptor (TX3 0).2.2.1 = some .int := by decide +kernel
theorem mfd4 : parseFieldDescriptor (TX3 4).2.2.1 = some .int := by decide +kernel
theorem mfd7 : parseFieldDescriptor (TX3 7).2.2.1 = some .int := by decide +kernel
theorem mfd10 : parseFieldDescriptor (TX3 10).2.2.1 = some .int := by decide +kernel
theorem mfd11 : parseFieldDescriptor (TX3 11).2.2.1 = some .int := by decide +kernel
theorem mfd15 : parseFieldDescriptor (TX3 15).2.2.1 = some .int := by decide +kernel
theorem mfd19 : parseFieldDescriptor (TX3 19).2.2.1 = some .int := by decide +kernel
theorem mfd22 : parseFieldDescriptor (TX3 22).2.2.1 = some .int := by decide +kernel
theorem mfd23 : parseFieldDescriptor (TX3 23).2.2.1 = some .int := by decide +kernel
theorem mfd25 : parseFieldDescriptor (TX3 25).2.2.1 = some .int := by decide +kernel
theorem mfd26 : parseFieldDescriptor (TX3 26).2.2.1 = some .int := by decide +kernel
theorem mfd27 : parseFieldDescriptor (TX3 27).2.2.1 = some .int := by decide +kernel
theorem mfd28 : parseFieldDescriptor (TX3 28).2.2.1 = some .int := by decide +kernel
theorem mfd29 : parseFieldDescriptor (TX3 29).2.2.1 = some .int := by decide +kernel
theorem mfd30 : parseFieldDescriptor (TX3 30).2.2.1 = some .int := by decide +kernel
theorem mfd31 : parseFieldDescriptor (TX3 31).2.2.1 = some .int := by decide +kernel
theorem mfd34 : parseFieldDescriptor (TX3 34).2.2.1 = some .int := by decide +kernel
theorem mfd36 : parseFieldDescriptor (TX3 36).2.2.1 = some .int := by decide +kernel
theorem mfd41 : parseFieldDescriptor (TX3 41).2.2.1 = some .int := by decide +kernel
theorem mfd45 : parseFieldDescriptor (TX3 45).2.2.1 = some .int := by decide +kernel
theorem mfd46 : parseFieldDescriptor (TX3 46).2.2.1 = some .int := by decide +kernel
theorem mfd48 : parseFieldDescriptor (TX3 48).2.2.1 = some .int := by decide +kernel
theorem mfd49 : parseFieldDescriptor (TX3 49).2.2.1 = some .int := by decide +kernel
theorem mfd43 : parseFieldDescriptor (TX3 43).2.2.1 = some .long := by decide +kernel
theorem mfd44 : parseFieldDescriptor (TX3 44).2.2.1 = some .long := by decide +kernel
theorem wma1 {o : Nat} {q : Nat → Nat} {d dz : ClassId} {S : sM} : (WM o q d dz S)[1]? = some (q 1, .inl (d, 16, .inl (S.2.2 1))) := rfl
theorem wms1 {o : Nat} {q : Nat → Nat} {d dz : ClassId} {S : sM} (i : Nat) (v : Int32) : (WM o q d dz S).set 1 (q 1, .inl (d, 16, .inl (upd (S.2.2 1) i v))) = WM o q d dz (mA S 1 i v) := rfl
theorem wma2 {o : Nat} {q : Nat → Nat} {d dz : ClassId} {S : sM} : (WM o q d dz S)[2]? = some (q 2, .inl (d, 128, .inl (S.2.2 2))) := rfl
theorem wms2 {o : Nat} {q : Nat → Nat} {d dz : ClassId} {S : sM} (i : Nat) (v : Int32) : (WM o q d dz S).set 2 (q 2, .inl (d, 128, .inl (upd (S.2.2 2) i v))) = WM o q d dz (mA S 2 i v) := rfl
theorem wma3 {o : Nat} {q : Nat → Nat} {d dz : ClassId} {S : sM} : (WM o q d dz S)[3]? = some (q 3, .inl (d, 16, .inl (S.2.2 3))) := rfl
theorem wms3 {o : Nat} {q : Nat → Nat} {d dz : ClassId} {S : sM} (i : Nat) (v : Int32) : (WM o q d dz S).set 3 (q 3, .inl (d, 16, .inl (upd (S.2.2 3) i v))) = WM o q d dz (mA S 3 i v) := rfl
theorem wma5 {o : Nat} {q : Nat → Nat} {d dz : ClassId} {S : sM} : (WM o q d dz S)[4]? = some (q 5, .inl (d, 40, .inl (S.2.2 5))) := rfl
theorem wms5 {o : Nat} {q : Nat → Nat} {d dz : ClassId} {S : sM} (i : Nat) (v : Int32) : (WM o q d dz S).set 4 (q 5, .inl (d, 40, .inl (upd (S.2.2 5) i v))) = WM o q d dz (mA S 5 i v) := rfl
theorem wma6 {o : Nat} {q : Nat → Nat} {d dz : ClassId} {S : sM} : (WM o q d dz S)[5]? = some (q 6, .inl (d, 40, .inl (S.2.2 6))) := rfl
theorem wms6 {o : Nat} {q : Nat → Nat} {d dz : ClassId} {S : sM} (i : Nat) (v : Int32) : (WM o q d dz S).set 5 (q 6, .inl (d, 40, .inl (upd (S.2.2 6) i v))) = WM o q d dz (mA S 6 i v) := rfl
theorem wma8 {o : Nat} {q : Nat → Nat} {d dz : ClassId} {S : sM} : (WM o q d dz S)[6]? = some (q 8, .inl (d, 6000, .inl (S.2.2 8))) := rfl
theorem wms8 {o : Nat} {q : Nat → Nat} {d dz : ClassId} {S : sM} (i : Nat) (v : Int32) : (WM o q d dz S).set 6 (q 8, .inl (d, 6000, .inl (upd (S.2.2 8) i v))) = WM o q d dz (mA S 8 i v) := rfl
theorem wma9 {o : Nat} {q : Nat → Nat} {d dz : ClassId} {S : sM} : (WM o q d dz S)[7]? = some (q 9, .inl (d, 16, .inl (S.2.2 9))) := rfl
theorem wms9 {o : Nat} {q : Nat → Nat} {d dz : ClassId} {S : sM} (i : Nat) (v : Int32) : (WM o q d dz S).set 7 (q 9, .inl (d, 16, .inl (upd (S.2.2 9) i v))) = WM o q d dz (mA S 9 i v) := rfl
theorem wma12 {o : Nat} {q : Nat → Nat} {d dz : ClassId} {S : sM} : (WM o q d dz S)[8]? = some (q 12, .inl (d, 16, .inl (S.2.2 12))) := rfl
theorem wms12 {o : Nat} {q : Nat → Nat} {d dz : ClassId} {S : sM} (i : Nat) (v : Int32) : (WM o q d dz S).set 8 (q 12, .inl (d, 16, .inl (upd (S.2.2 12) i v))) = WM o q d dz (mA S 12 i v) := rfl
theorem wma13 {o : Nat} {q : Nat → Nat} {d dz : ClassId} {S : sM} : (WM o q d dz S)[9]? = some (q 13, .inl (d, 128, .inl (S.2.2 13))) := rfl
theorem wms13 {o : Nat} {q : Nat → Nat} {d dz : ClassId} {S : sM} (i : Nat) (v : Int32) : (WM o q d dz S).set 9 (q 13, .inl (d, 128, .inl (upd (S.2.2 13) i v))) = WM o q d dz (mA S 13 i v) := rfl
theorem wma14 {o : Nat} {q : Nat → Nat} {d dz : ClassId} {S : sM} : (WM o q d dz S)[10]? = some (q 14, .inl (d, 16, .inl (S.2.2 14))) := rfl
theorem wms14 {o : Nat} {q : Nat → Nat} {d dz : ClassId} {S : sM} (i : Nat) (v : Int32) : (WM o q d dz S).set 10 (q 14, .inl (d, 16, .inl (upd (S.2.2 14) i v))) = WM o q d dz (mA S 14 i v) := rfl
theorem wma16 {o : Nat} {q : Nat → Nat} {d dz : ClassId} {S : sM} : (WM o q d dz S)[11]? = some (q 16, .inl (d, 40, .inl (S.2.2 16))) := rfl
theorem wms16 {o : Nat} {q : Nat → Nat} {d dz : ClassId} {S : sM} (i : Nat) (v : Int32) : (WM o q d dz S).set 11 (q 16, .inl (d, 40, .inl (upd (S.2.2 16) i v))) = WM o q d dz (mA S 16 i v) := rfl
theorem wma17 {o : Nat} {q : Nat → Nat} {d dz : ClassId} {S : sM} : (WM o q d dz S)[12]? = some (q 17, .inl (d, 40, .inl (S.2.2 17))) := rfl
theorem wms17 {o : Nat} {q : Nat → Nat} {d dz : ClassId} {S : sM} (i : Nat) (v : Int32) : (WM o q d dz S).set 12 (q 17, .inl (d, 40, .inl (upd (S.2.2 17) i v))) = WM o q d dz (mA S 17 i v) := rfl
theorem wma18 {o : Nat} {q : Nat → Nat} {d dz : ClassId} {S : sM} : (WM o q d dz S)[13]? = some (q 18, .inl (d, 5, .inl (S.2.2 18))) := rfl
theorem wms18 {o : Nat} {q : Nat → Nat} {d dz : ClassId} {S : sM} (i : Nat) (v : Int32) : (WM o q d dz S).set 13 (q 18, .inl (d, 5, .inl (upd (S.2.2 18) i v))) = WM o q d dz (mA S 18 i v) := rfl
theorem wma20 {o : Nat} {q : Nat → Nat} {d dz : ClassId} {S : sM} : (WM o q d dz S)[14]? = some (q 20, .inl (d, 100, .inl (S.2.2 20))) := rfl
theorem wms20 {o : Nat} {q : Nat → Nat} {d dz : ClassId} {S : sM} (i : Nat) (v : Int32) : (WM o q d dz S).set 14 (q 20, .inl (d, 100, .inl (upd (S.2.2 20) i v))) = WM o q d dz (mA S 20 i v) := rfl
theorem wma21 {o : Nat} {q : Nat → Nat} {d dz : ClassId} {S : sM} : (WM o q d dz S)[15]? = some (q 21, .inl (d, 100, .inl (S.2.2 21))) := rfl
theorem wms21 {o : Nat} {q : Nat → Nat} {d dz : ClassId} {S : sM} (i : Nat) (v : Int32) : (WM o q d dz S).set 15 (q 21, .inl (d, 100, .inl (upd (S.2.2 21) i v))) = WM o q d dz (mA S 21 i v) := rfl
theorem wma24 {o : Nat} {q : Nat → Nat} {d dz : ClassId} {S : sM} : (WM o q d dz S)[16]? = some (q 24, .inl (d, 320, .inl (S.2.2 24))) := rfl
theorem wms24 {o : Nat} {q : Nat → Nat} {d dz : ClassId} {S : sM} (i : Nat) (v : Int32) : (WM o q d dz S).set 16 (q 24, .inl (d, 320, .inl (upd (S.2.2 24) i v))) = WM o q d dz (mA S 24 i v) := rfl
theorem wma32 {o : Nat} {q : Nat → Nat} {d dz : ClassId} {S : sM} : (WM o q d dz S)[17]? = some (q 32, .inl (d, 40, .inl (S.2.2 32))) := rfl
theorem wms32 {o : Nat} {q : Nat → Nat} {d dz : ClassId} {S : sM} (i : Nat) (v : Int32) : (WM o q d dz S).set 17 (q 32, .inl (d, 40, .inl (upd (S.2.2 32) i v))) = WM o q d dz (mA S 32 i v) := rfl
theorem wma33 {o : Nat} {q : Nat → Nat} {d dz : ClassId} {S : sM} : (WM o q d dz S)[18]? = some (q 33, .inl (d, 40, .inl (S.2.2 33))) := rfl
theorem wms33 {o : Nat} {q : Nat → Nat} {d dz : ClassId} {S : sM} (i : Nat) (v : Int32) : (WM o q d dz S).set 18 (q 33, .inl (d, 40, .inl (upd (S.2.2 33) i v))) = WM o q d dz (mA S 33 i v) := rfl
theorem wma35 {o : Nat} {q : Nat → Nat} {d dz : ClassId} {S : sM} : (WM o q d dz S)[19]? = some (q 35, .inl (d, 128, .inl (S.2.2 35))) := rfl
theorem wms35 {o : Nat} {q : Nat → Nat} {d dz : ClassId} {S : sM} (i : Nat) (v : Int32) : (WM o q d dz S).set 19 (q 35, .inl (d, 128, .inl (upd (S.2.2 35) i v))) = WM o q d dz (mA S 35 i v) := rfl
theorem wma37 {o : Nat} {q : Nat → Nat} {d dz : ClassId} {S : sM} : (WM o q d dz S)[20]? = some (q 37, .inl (d, 4, .inl (S.2.2 37))) := rfl
theorem wms37 {o : Nat} {q : Nat → Nat} {d dz : ClassId} {S : sM} (i : Nat) (v : Int32) : (WM o q d dz S).set 20 (q 37, .inl (d, 4, .inl (upd (S.2.2 37) i v))) = WM o q d dz (mA S 37 i v) := rfl
theorem wma38 {o : Nat} {q : Nat → Nat} {d dz : ClassId} {S : sM} : (WM o q d dz S)[21]? = some (q 38, .inl (d, 4, .inl (S.2.2 38))) := rfl
theorem wms38 {o : Nat} {q : Nat → Nat} {d dz : ClassId} {S : sM} (i : Nat) (v : Int32) : (WM o q d dz S).set 21 (q 38, .inl (d, 4, .inl (upd (S.2.2 38) i v))) = WM o q d dz (mA S 38 i v) := rfl
theorem wma39 {o : Nat} {q : Nat → Nat} {d dz : ClassId} {S : sM} : (WM o q d dz S)[22]? = some (q 39, .inl (d, 256, .inl (S.2.2 39))) := rfl
theorem wms39 {o : Nat} {q : Nat → Nat} {d dz : ClassId} {S : sM} (i : Nat) (v : Int32) : (WM o q d dz S).set 22 (q 39, .inl (d, 256, .inl (upd (S.2.2 39) i v))) = WM o q d dz (mA S 39 i v) := rfl
theorem wma40 {o : Nat} {q : Nat → Nat} {d dz : ClassId} {S : sM} : (WM o q d dz S)[23]? = some (q 40, .inl (dz, 256, .inl (S.2.2 40))) := rfl
theorem wms40 {o : Nat} {q : Nat → Nat} {d dz : ClassId} {S : sM} (i : Nat) (v : Int32) : (WM o q d dz S).set 23 (q 40, .inl (dz, 256, .inl (upd (S.2.2 40) i v))) = WM o q d dz (mA S 40 i v) := rfl
theorem wma42 {o : Nat} {q : Nat → Nat} {d dz : ClassId} {S : sM} : (WM o q d dz S)[24]? = some (q 42, .inl (d, 8, .inl (S.2.2 42))) := rfl
theorem wms42 {o : Nat} {q : Nat → Nat} {d dz : ClassId} {S : sM} (i : Nat) (v : Int32) : (WM o q d dz S).set 24 (q 42, .inl (d, 8, .inl (upd (S.2.2 42) i v))) = WM o q d dz (mA S 42 i v) := rfl
theorem wma47 {o : Nat} {q : Nat → Nat} {d dz : ClassId} {S : sM} : (WM o q d dz S)[25]? = some (q 47, .inl (d, 16, .inl (S.2.2 47))) := rfl
theorem wms47 {o : Nat} {q : Nat → Nat} {d dz : ClassId} {S : sM} (i : Nat) (v : Int32) : (WM o q d dz S).set 25 (q 47, .inl (d, 16, .inl (upd (S.2.2 47) i v))) = WM o q d dz (mA S 47 i v) := rfl
theorem wma50 {o : Nat} {q : Nat → Nat} {d dz : ClassId} {S : sM} : (WM o q d dz S)[26]? = some (q 50, .inl (d, 12, .inl (S.2.2 50))) := rfl
theorem wms50 {o : Nat} {q : Nat → Nat} {d dz : ClassId} {S : sM} (i : Nat) (v : Int32) : (WM o q d dz S).set 26 (q 50, .inl (d, 12, .inl (upd (S.2.2 50) i v))) = WM o q d dz (mA S 50 i v) := rfl
theorem wma51 {o : Nat} {q : Nat → Nat} {d dz : ClassId} {S : sM} : (WM o q d dz S)[27]? = some (q 51, .inl (d, 12, .inl (S.2.2 51))) := rfl
theorem wms51 {o : Nat} {q : Nat → Nat} {d dz : ClassId} {S : sM} (i : Nat) (v : Int32) : (WM o q d dz S).set 27 (q 51, .inl (d, 12, .inl (upd (S.2.2 51) i v))) = WM o q d dz (mA S 51 i v) := rfl
theorem wma52 {o : Nat} {q : Nat → Nat} {d dz : ClassId} {S : sM} : (WM o q d dz S)[28]? = some (q 52, .inl (d, 12, .inl (S.2.2 52))) := rfl
theorem wms52 {o : Nat} {q : Nat → Nat} {d dz : ClassId} {S : sM} (i : Nat) (v : Int32) : (WM o q d dz S).set 28 (q 52, .inl (d, 12, .inl (upd (S.2.2 52) i v))) = WM o q d dz (mA S 52 i v) := rfl
theorem wma53 {o : Nat} {q : Nat → Nat} {d dz : ClassId} {S : sM} : (WM o q d dz S)[29]? = some (q 53, .inl (d, 4, .inl (S.2.2 53))) := rfl
theorem wms53 {o : Nat} {q : Nat → Nat} {d dz : ClassId} {S : sM} (i : Nat) (v : Int32) : (WM o q d dz S).set 29 (q 53, .inl (d, 4, .inl (upd (S.2.2 53) i v))) = WM o q d dz (mA S 53 i v) := rfl
theorem wma54 {o : Nat} {q : Nat → Nat} {d dz : ClassId} {S : sM} : (WM o q d dz S)[30]? = some (q 54, .inl (d, 4, .inl (S.2.2 54))) := rfl
theorem wms54 {o : Nat} {q : Nat → Nat} {d dz : ClassId} {S : sM} (i : Nat) (v : Int32) : (WM o q d dz S).set 30 (q 54, .inl (d, 4, .inl (upd (S.2.2 54) i v))) = WM o q d dz (mA S 54 i v) := rfl
theorem wma55 {o : Nat} {q : Nat → Nat} {d dz : ClassId} {S : sM} : (WM o q d dz S)[31]? = some (q 55, .inl (d, 160, .inl (S.2.2 55))) := rfl
theorem wms55 {o : Nat} {q : Nat → Nat} {d dz : ClassId} {S : sM} (i : Nat) (v : Int32) : (WM o q d dz S).set 31 (q 55, .inl (d, 160, .inl (upd (S.2.2 55) i v))) = WM o q d dz (mA S 55 i v) := rfl
section MROWS
variable {p : Program} {l : Launch} {e : Env} {R : Room} {s : State} {m : MethodId} {args : Array Value} {below : List Frame} {meth : Method} {c : Code} {H : Heap} {locs : List Loc} {cells slots : Nat} {Q : State → Prop}
variable {cc bytes : ByteArray} {nL maxL pc idx n : Nat} {ls : Array Slot} {rest st As : List Value} {y : MethodName} {ret : Option FieldType} {rm : Room}
variable {D : va_G} {o : Nat} {q : Nat → Nat} {d dz : ClassId} {S S1 : sM}
theorem m_get {v : Value} (X : CallFix p m c cc nL s args lw_all RX3) (hM : MW D o q d dz S s H locs) (k : Nat) (hk : k < 56) (hlink : Cond.fieldLink RX3 idx RX3 (TX3 k).2.1 (TX3 k).2.2.1 ∈ lw_all) (hR : (TX3 k).1 = RX3) (hv : (mF q S)[k]? = some v) (hdg : decode cc pc = .ok (.getfield idx, 3))
    (kk : W p l e R s m args below meth c H locs cells slots Q (F0 m (pc + 3) ls (v :: rest))) : W p l e R s m args below meth c H locs cells slots Q (F0 m pc ls (.ref o :: rest)) :=
  va_get (D := D) (ci := 3) (v := v) (C := RX3) (T := TX3) (N := 56) X.1 X.2.1 X.2.2.2.2 in_X3 X.2.2.2.1 hM.1 hM.2.1 0 rfl rfl k hk (X.2.2.2.2 _ hlink) (fun x h9 => by rw [hR] at h9; exact h9) hv hdg kk
theorem m_puti {v : Int32} (X : CallFix p m c cc nL s args lw_all RX3) (hG : MG o q) (hM : MW D o q d dz S s H locs) (k : Nat) (hk : k < 56) (hlink : Cond.fieldLink RX3 idx RX3 (TX3 k).2.1 (TX3 k).2.2.1 ∈ lw_all) (hR : (TX3 k).1 = RX3) (hfin : (TX3 k).2.2.2 = false) (hd : parseFieldDescriptor (TX3 k).2.2.1 = some .int) (hw : (WM o q d dz S).set 0 (o, .inr (3, (mF q S).set k (.int v))) = WM o q d dz (mI S k v)) (hdg : decode cc pc = .ok (.putfield idx, 3))
    (kk : ∀ (S1 : sM) (H1 : Heap) (locs1 : List Loc), S1 = mI S k v → MW D o q d dz S1 s H1 locs1 → W p l e R s m args below meth c H1 locs1 cells slots Q (F0 m (pc + 3) ls rest)) : W p l e R s m args below meth c H locs cells slots Q (F0 m pc ls (.int v :: .ref o :: rest)) :=
  va_put (D := D) (ci := 3) (v := .int v) (ty := .int) (C := RX3) (T := TX3) (N := 56) X.1 X.2.1 X.2.2.2.2 in_X3 tyX3 tyX3_ok nmX3 X.2.2.2.1 hM.1 hM.2.1 (WM_D hG d dz S) hM.2.2 0 rfl rfl k hk (X.2.2.2.2 _ hlink) (fun x h9 => by rw [hR] at h9; exact h9) hfin hd rfl rfl hk hdg (fun H1 locs1 hP _ hS => kk _ H1 locs1 rfl ⟨hM.1, by rw [← hw]; exact hP, hS⟩)
theorem m_putl {v : Int64} (X : CallFix p m c cc nL s args lw_all RX3) (hG : MG o q) (hM : MW D o q d dz S s H locs) (k : Nat) (hk : k < 56) (hlink : Cond.fieldLink RX3 idx RX3 (TX3 k).2.1 (TX3 k).2.2.1 ∈ lw_all) (hR : (TX3 k).1 = RX3) (hfin : (TX3 k).2.2.2 = false) (hd : parseFieldDescriptor (TX3 k).2.2.1 = some .long) (hw : (WM o q d dz S).set 0 (o, .inr (3, (mF q S).set k (.long v))) = WM o q d dz (mL S k v)) (hdg : decode cc pc = .ok (.putfield idx, 3))
    (kk : ∀ (S1 : sM) (H1 : Heap) (locs1 : List Loc), S1 = mL S k v → MW D o q d dz S1 s H1 locs1 → W p l e R s m args below meth c H1 locs1 cells slots Q (F0 m (pc + 3) ls rest)) : W p l e R s m args below meth c H locs cells slots Q (F0 m pc ls (.long v :: .ref o :: rest)) :=
  va_put (D := D) (ci := 3) (v := .long v) (ty := .long) (C := RX3) (T := TX3) (N := 56) X.1 X.2.1 X.2.2.2.2 in_X3 tyX3 tyX3_ok nmX3 X.2.2.2.1 hM.1 hM.2.1 (WM_D hG d dz S) hM.2.2 0 rfl rfl k hk (X.2.2.2.2 _ hlink) (fun x h9 => by rw [hR] at h9; exact h9) hfin hd rfl rfl hk hdg (fun H1 locs1 hP _ hS => kk _ H1 locs1 rfl ⟨hM.1, by rw [← hw]; exact hP, hS⟩)
theorem m_iald {i v : Int32} {a k N : Nat} {f : Nat → Int32} (X : CallFix p m c cc nL s args lw_all RX3) (hM : MW D o q d dz S s H locs) (ha : (WM o q d dz S)[k]? = some (a, .inl (d, N, .inl f))) (h : ec_ag f N i = some v) (hdg : decode cc pc = .ok (.iaload, 1))
    (kk : W p l e R s m args below meth c H locs cells slots Q (F0 m (pc + 1) ls (.int v :: rest))) : W p l e R s m args below meth c H locs cells slots Q (F0 m pc ls (.int i :: .ref a :: rest)) := by
  obtain ⟨h1, h2⟩ := ec_ag_i h
  subst h2
  exact va_iald X.1 X.2.1 hM.1 hM.2.1 k 0 ha rfl h1 hdg kk
theorem m_zald {i v : Int32} {a k N : Nat} {f : Nat → Int32} (X : CallFix p m c cc nL s args lw_all RX3) (hM : MW D o q d dz S s H locs) (ha : (WM o q d dz S)[k]? = some (a, .inl (dz, N, .inl f))) (h : ec_ag f N i = some v) (hdg : decode cc pc = .ok (.baload, 1))
    (kk : W p l e R s m args below meth c H locs cells slots Q (F0 m (pc + 1) ls (.int v :: rest))) : W p l e R s m args below meth c H locs cells slots Q (F0 m pc ls (.int i :: .ref a :: rest)) := by
  obtain ⟨h1, h2⟩ := ec_ag_i h
  subst h2
  exact va_zald X.1 X.2.1 hM.1 hM.2.1 k 1 ha rfl h1 hdg kk
theorem m_iast {i v : Int32} {a k0 k N : Nat} (X : CallFix p m c cc nL s args lw_all RX3) (hG : MG o q) (hM : MW D o q d dz S s H locs) (ha : (WM o q d dz S)[k0]? = some (a, .inl (d, N, .inl (S.2.2 k)))) (hw : ∀ (j : Nat) (v : Int32), (WM o q d dz S).set k0 (a, .inl (d, N, .inl (upd (S.2.2 k) j v))) = WM o q d dz (mA S k j v)) (h : ec_as S k N i v = some S1) (hdg : decode cc pc = .ok (.iastore, 1))
    (kk : ∀ (H1 : Heap) (locs1 : List Loc), MW D o q d dz S1 s H1 locs1 → W p l e R s m args below meth c H1 locs1 cells slots Q (F0 m (pc + 1) ls rest)) : W p l e R s m args below meth c H locs cells slots Q (F0 m pc ls (.int v :: .int i :: .ref a :: rest)) := by
  obtain ⟨h1, h2⟩ := ec_as_i h
  subst h2
  exact va_iast X.1 X.2.1 hM.1 hM.2.1 (WM_D hG d dz S) hM.2.2 k0 0 ha rfl h1 hdg (fun H1 locs1 hP _ hS => kk H1 locs1 ⟨hM.1, by rw [← hw]; exact hP, hS⟩)
theorem m_zast {i v : Int32} {a k0 k N : Nat} (X : CallFix p m c cc nL s args lw_all RX3) (hG : MG o q) (hM : MW D o q d dz S s H locs) (ha : (WM o q d dz S)[k0]? = some (a, .inl (dz, N, .inl (S.2.2 k)))) (hw : ∀ (j : Nat) (v : Int32), (WM o q d dz S).set k0 (a, .inl (dz, N, .inl (upd (S.2.2 k) j v))) = WM o q d dz (mA S k j v)) (h : ec_as S k N i (vp_nar .boolean v) = some S1) (hdg : decode cc pc = .ok (.bastore, 1))
    (kk : ∀ (H1 : Heap) (locs1 : List Loc), MW D o q d dz S1 s H1 locs1 → W p l e R s m args below meth c H1 locs1 cells slots Q (F0 m (pc + 1) ls rest)) : W p l e R s m args below meth c H locs cells slots Q (F0 m pc ls (.int v :: .int i :: .ref a :: rest)) := by
  obtain ⟨h1, h2⟩ := ec_as_i h
  subst h2
  exact va_zast X.1 X.2.1 hM.1 hM.2.1 (WM_D hG d dz S) hM.2.2 k0 1 ha rfl h1 hdg (fun H1 locs1 hP _ hS => kk H1 locs1 ⟨hM.1, by rw [← hw]; exact hP, hS⟩)
theorem m_pre (hM : MW D o q d dz S s H locs) : PreV s H RX3 o (MPre D o q d dz S As) As := ⟨MPre.blind, va_recv hM.1 hM.2.1 (ci := 3) (q0 := 0) rfl rfl, fun U hU hW => ⟨rfl, va_K.moved hW.alike hM.1, by rw [hU]; exact hM.2.1⟩⟩
/-- a call of a method of the Model that only reads -/
theorem m_cR {v : Value} (X : CallFix p m c cc nL s args lw_all RX3) (hM : MW D o q d dz S s H locs) (hmet : Met l y (ws_ y bytes maxL ret) rm (MPre D o q d dz S As) (k2_QcV v) 0 0 (fun _ => False)) (cw : CallW R s args RX3 RX3 idx y bytes maxL ret (ws_ y bytes maxL ret) rm 0 0 n)
    (hn : As.length = n) (hsize : ls.size = nL) (hst : st = As.reverse ++ .ref o :: rest) (hroom : (rest.map fun v => v.category).sum ≤ 8) (hcs : cells ≤ R.cells ∧ slots ≤ R.slots) (hdg : decode cc pc = .ok (.invokevirtual idx, 3)) (kk : W p l e R s m args below meth c H locs cells slots Q (F0 m (pc + 3) ls (v :: rest))) : W p l e R s m args below meth c H locs cells slots Q (F0 m pc ls st) := by
  subst hst
  exact W.callV (r := v) (W.runV (As := As) (rest := rest) X hmet cw (m_pre hM) rfl hn hsize rfl (lv_room hroom) hdg hcs) kk
/-- a call of a method of the Model that writes -/
theorem m_cW {v : Option Value} (X : CallFix p m c cc nL s args lw_all RX3) (hM : MW D o q d dz S s H locs) (hmet : Met l y (ws_ y bytes maxL ret) rm (MPre D o q d dz S As) (MPost D o q d dz v S1) 0 0 (AM o q)) (cw : CallW R s args RX3 RX3 idx y bytes maxL ret (ws_ y bytes maxL ret) rm 0 0 n)
    (hn : As.length = n) (hsize : ls.size = nL) (hst : st = As.reverse ++ .ref o :: rest) (hroom : (rest.map fun v => v.category).sum ≤ 8) (hcs : cells ≤ R.cells ∧ slots ≤ R.slots) (hdg : decode cc pc = .ok (.invokevirtual idx, 3)) (kk : ∀ (H1 : Heap) (locs1 : List Loc), MW D o q d dz S1 s H1 locs1 → W p l e R s m args below meth c H1 locs1 cells slots Q (F0 m (pc + 3) ls (v.toList ++ rest))) : W p l e R s m args below meth c H locs cells slots Q (F0 m pc ls st) := by
  subst hst
  intro T hT Xs
  obtain ⟨v', st₀, t, T', L, h0, X', hL, e1, ⟨hv, hP, hz, hk⟩, stp⟩ := W.runV (As := As) (rest := rest) X hmet cw (m_pre hM) (g := F0 m pc ls (As.reverse ++ .ref o :: rest)) rfl hn hsize rfl (lv_room hroom) hdg hcs T hT Xs
  cases hv
  rw [h0] at hz hk
  obtain ⟨t2, a1, b1⟩ := kk T'.heap (locs ++ L) ⟨hM.1, by rw [e1]; exact hP, Nat.le_trans hM.2.2.1 (by rw [e1]; exact hz), fun x h1 h2 => by rw [e1, hk x (Nat.lt_of_lt_of_le h1 hM.2.2.1) h2]; exact hM.2.2.2.1 x h1 h2, fun x hx => by
    rcases List.mem_append.mp hx with h | h
    · exact hM.2.2.2.2 x h
    · exact hL x h⟩ T' rfl X'
  exact ⟨t2, stp t2 a1, b1⟩
theorem m_cWi {v : Value} (X : CallFix p m c cc nL s args lw_all RX3) (hM : MW D o q d dz S s H locs) (hmet : Met l y (ws_ y bytes maxL ret) rm (MPre D o q d dz S As) (MPost D o q d dz (some v) S1) 0 0 (AM o q)) (cw : CallW R s args RX3 RX3 idx y bytes maxL ret (ws_ y bytes maxL ret) rm 0 0 n)
    (hn : As.length = n) (hsize : ls.size = nL) (hst : st = As.reverse ++ .ref o :: rest) (hroom : (rest.map fun v => v.category).sum ≤ 8) (hcs : cells ≤ R.cells ∧ slots ≤ R.slots) (hdg : decode cc pc = .ok (.invokevirtual idx, 3)) (kk : ∀ (H1 : Heap) (locs1 : List Loc), MW D o q d dz S1 s H1 locs1 → W p l e R s m args below meth c H1 locs1 cells slots Q (F0 m (pc + 3) ls (v :: rest))) : W p l e R s m args below meth c H locs cells slots Q (F0 m pc ls st) :=
  m_cW X hM hmet cw hn hsize hst hroom hcs hdg kk
theorem m_cWv (X : CallFix p m c cc nL s args lw_all RX3) (hM : MW D o q d dz S s H locs) (hmet : Met l y (ws_ y bytes maxL ret) rm (MPre D o q d dz S As) (MPost D o q d dz none S1) 0 0 (AM o q)) (cw : CallW R s args RX3 RX3 idx y bytes maxL ret (ws_ y bytes maxL ret) rm 0 0 n)
    (hn : As.length = n) (hsize : ls.size = nL) (hst : st = As.reverse ++ .ref o :: rest) (hroom : (rest.map fun v => v.category).sum ≤ 8) (hcs : cells ≤ R.cells ∧ slots ≤ R.slots) (hdg : decode cc pc = .ok (.invokevirtual idx, 3)) (kk : ∀ (H1 : Heap) (locs1 : List Loc), MW D o q d dz S1 s H1 locs1 → W p l e R s m args below meth c H1 locs1 cells slots Q (F0 m (pc + 3) ls rest)) : W p l e R s m args below meth c H locs cells slots Q (F0 m pc ls st) :=
  m_cW X hM hmet cw hn hsize hst hroom hcs hdg kk
/-- contracts out of walks -/
theorem m_ofR {v : Value} (hc : y.cls = RX3) (hlen : (lg_sl (.ref o :: As)).length ≤ maxL)
    (body : ∀ (p : Program) (e : Env) (s : State) (m : MethodId) (args : Array Value) (below : List Frame) (meth : Method) (c : Code), CallFix p m c bytes maxL s args lw_all RX3 → meth.sig.returnType = ret → meth.locks = false → MW D o q d dz S s s.heap [] → ∀ ls : Array Slot, lv_has ls maxL (lv_args 0 (.ref o :: As)) → W p l e rm s m args below meth c s.heap [] 0 0 (MQ below (k2_QcV v) args s 0 0 (fun _ => False)) (F0 m 0 ls [])) :
    Met l y (ws_ y bytes maxL ret) rm (MPre D o q d dz S As) (k2_QcV v) 0 0 (fun _ => False) := by
  refine Met.ofW (cc := bytes) (maxL := maxL) (ret := ret) (by rw [hc]; decide) rfl ?_
  intro p e s m args below meth c s₁ B hml hv
  have hts := atoms_spec (ws := ws_ y bytes maxL ret) B.pre
  have hts : ∀ w ∈ lw_all, w.before _ s = true := fun w h => hts w (List.mem_cons_of_mem _ h)
  have hl := lv_entry (.ref o :: As) hlen
  have hown := findClass_of_methodNamed B.named
  rw [hc] at hown
  obtain ⟨rfl, hK, hP⟩ := hv
  rw [lg_entry_eq]
  exact body p e s m _ below meth c ⟨B.exec, B.bytes, hml, hown, hts⟩ B.returns B.notSynchronized ⟨hK, hP, va_S.rf⟩ _ hl
theorem m_ofW {v : Option Value} (hc : y.cls = RX3) (hlen : (lg_sl (.ref o :: As)).length ≤ maxL)
    (body : ∀ (p : Program) (e : Env) (s : State) (m : MethodId) (args : Array Value) (below : List Frame) (meth : Method) (c : Code), CallFix p m c bytes maxL s args lw_all RX3 → meth.sig.returnType = ret → meth.locks = false → MW D o q d dz S s s.heap [] → ∀ ls : Array Slot, lv_has ls maxL (lv_args 0 (.ref o :: As)) → W p l e rm s m args below meth c s.heap [] 0 0 (MQ below (MPost D o q d dz v S1) args s 0 0 (AM o q)) (F0 m 0 ls [])) :
    Met l y (ws_ y bytes maxL ret) rm (MPre D o q d dz S As) (MPost D o q d dz v S1) 0 0 (AM o q) := by
  refine Met.ofW (cc := bytes) (maxL := maxL) (ret := ret) (by rw [hc]; decide) rfl ?_
  intro p e s m args below meth c s₁ B hml hv
  have hts := atoms_spec (ws := ws_ y bytes maxL ret) B.pre
  have hts : ∀ w ∈ lw_all, w.before _ s = true := fun w h => hts w (List.mem_cons_of_mem _ h)
  have hl := lv_entry (.ref o :: As) hlen
  have hown := findClass_of_methodNamed B.named
  rw [hc] at hown
  obtain ⟨rfl, hK, hP⟩ := hv
  rw [lg_entry_eq]
  exact body p e s m _ below meth c ⟨B.exec, B.bytes, hml, hown, hts⟩ B.returns B.notSynchronized ⟨hK, hP, va_S.rf⟩ _ hl
theorem m_iret {v : Int32} (X : CallFix p m c cc nL s args lw_all RX3) (hr : meth.sig.returnType = some .int) (hlk : meth.locks = false) (hM : MW D o q d dz S s H locs) (hdg : decode cc pc = .ok (.ireturn, 1)) : W p l e R s m args below meth c H locs cells slots (MQ below (MPost D o q d dz (some (.int v)) S) args s cells slots (AM o q)) (F0 m pc ls [.int v]) :=
  W.iret X.1 X.2.1 hr (fun t ht _ => ⟨rfl, by rw [ht]; exact hM.2.1, hM.2.2.F ht⟩) hM.2.2.2.2 hdg hlk
theorem m_zret {v : Int32} (X : CallFix p m c cc nL s args lw_all RX3) (hr : meth.sig.returnType = some .boolean) (hlk : meth.locks = false) (hM : MW D o q d dz S s H locs) (hn : narrow .boolean (.int v) = .int v) (hdg : decode cc pc = .ok (.ireturn, 1)) : W p l e R s m args below meth c H locs cells slots (MQ below (MPost D o q d dz (some (.int v)) S) args s cells slots (AM o q)) (F0 m pc ls [.int v]) :=
  W.zret X.1 X.2.1 hr hn (fun t ht _ => ⟨rfl, by rw [ht]; exact hM.2.1, hM.2.2.F ht⟩) hM.2.2.2.2 hdg hlk
theorem m_lret {v : Int64} (X : CallFix p m c cc nL s args lw_all RX3) (hr : meth.sig.returnType = some .long) (hlk : meth.locks = false) (hM : MW D o q d dz S s H locs) (hdg : decode cc pc = .ok (.lreturn, 1)) : W p l e R s m args below meth c H locs cells slots (MQ below (MPost D o q d dz (some (.long v)) S) args s cells slots (AM o q)) (F0 m pc ls [.long v]) :=
  W.lret X.1 X.2.1 hr (fun t ht _ => ⟨rfl, by rw [ht]; exact hM.2.1, hM.2.2.F ht⟩) hM.2.2.2.2 hdg hlk
theorem m_vret (X : CallFix p m c cc nL s args lw_all RX3) (hr : meth.sig.returnType = none) (hlk : meth.locks = false) (hM : MW D o q d dz S s H locs) (hdg : decode cc pc = .ok (.return_, 1)) : W p l e R s m args below meth c H locs cells slots (MQ below (MPost D o q d dz none S) args s cells slots (AM o q)) (F0 m pc ls []) :=
  W.vret X.1 X.2.1 hr (fun t ht _ => ⟨rfl, by rw [ht]; exact hM.2.1, hM.2.2.F ht⟩) hM.2.2.2.2 hdg hlk
end MROWS
