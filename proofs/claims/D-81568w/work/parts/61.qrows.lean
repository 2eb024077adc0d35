/-! ROWS OF SHEETS in a walk: casts, lengths, stores, and what they throw -/
set_option maxRecDepth 100000
section QROWS
variable {p : Program} {l : Launch} {e : Env} {R : Room} {s : State} {m : MethodId} {args : Array Value} {below : List Frame} {meth : Method} {c : Code} {H : Heap} {locs : List Loc} {u w mc ms : Nat} {Q : State → Prop}
variable {cc : ByteArray} {nL pc hpc hpc2 idx i n : Nat} {ls : Array Slot} {rest : List Value} {own : String} {lv lv' : List (Nat × Value)}
variable {D : va_G} {dA : Nat → ClassId} {K : oK} {F : va_W} {h : hH} {A : Nat → Prop} {r τ : Option Nat} {t : Nat}
theorem lv_astoreQ (hexec : p.tables.exec = Jvm.exec) (hb : c.code = cc) (hdg : decode cc pc = .ok (.astore i, 2)) (h : lv_has ls nL lv) (hn : i < nL) (hl : (i, va_rf r) :: lv.filter (fun q => !(q.1 == i) && !(q.1 + 1 == i && q.2.category == 2)) = lv') (k : ∀ ls' : Array Slot, lv_has ls' nL lv' → W p l e R s m args below meth c H locs u w Q (F0 m (pc + 2) ls' rest)) : W p l e R s m args below meth c H locs u w Q (F0 m pc ls (va_rf r :: rest)) := by
  cases r with
  | none => exact lv_astoreN hexec hb hdg h hn hl k
  | some a => exact lv_astore hexec hb hdg h hn hl k
theorem lv_aloadQ (hexec : p.tables.exec = Jvm.exec) (hb : c.code = cc) (hdg : decode cc pc = .ok (.aload i, 2)) (hl : ls[i]? = some (.val (va_rf r))) (k : W p l e R s m args below meth c H locs u w Q (F0 m (pc + 2) ls (va_rf r :: rest))) : W p l e R s m args below meth c H locs u w Q (F0 m pc ls rest) := by
  cases r with
  | none => exact lv_aloadN hexec hb hdg hl k
  | some a => exact lv_aload hexec hb hdg hl k
theorem fit_ai : Bundle.fit "java/lang/ArrayIndexOutOfBoundsException" = true ∧ (∀ n ∈ ["java/lang/IndexOutOfBoundsException", "java/lang/RuntimeException", "java/lang/Exception"], Bundle.fit n = true) ∧ ("java/lang/ArrayIndexOutOfBoundsException" == "java/lang/StackOverflowError") = false ∧ ("java/lang/ArrayIndexOutOfBoundsException" == "java/lang/OutOfMemoryError") = false ∧ ["java/lang/IndexOutOfBoundsException", "java/lang/RuntimeException", "java/lang/Exception"].length ≤ 3 := by decide +kernel
theorem fit_cc : Bundle.fit "java/lang/ClassCastException" = true ∧ (∀ n ∈ ["java/lang/RuntimeException", "java/lang/Exception"], Bundle.fit n = true) ∧ ("java/lang/ClassCastException" == "java/lang/StackOverflowError") = false ∧ ("java/lang/ClassCastException" == "java/lang/OutOfMemoryError") = false ∧ ["java/lang/RuntimeException", "java/lang/Exception"].length ≤ 3 := by decide +kernel
theorem fit_na : Bundle.fit "java/lang/NegativeArraySizeException" = true ∧ (∀ n ∈ ["java/lang/RuntimeException", "java/lang/Exception"], Bundle.fit n = true) ∧ ("java/lang/NegativeArraySizeException" == "java/lang/StackOverflowError") = false ∧ ("java/lang/NegativeArraySizeException" == "java/lang/OutOfMemoryError") = false ∧ ["java/lang/RuntimeException", "java/lang/Exception"].length ≤ 3 := by decide +kernel
theorem e_castN (X : CallFix p m c cc nL s args lw_all own) (hM : HX D dA F h A s H locs) (hE : EX K A l s) (hsize : ls.size = nL) (hr : rowT h r = some τ) (hτ : ¬ (τ = none ∨ τ = some t)) (ht : t = 0 ∨ t = 2 ∨ t = 3) (hlink : Cond.classLink own idx (nmT t) ∈ lw_all) (hdg : decode cc pc = .ok (.checkcast idx, 3))
    (hR1 : 7 < R.frames) (hR2 : (rest.map fun v => v.category).sum + 10241 ≤ R.locals) (hR3 : u + 3 ≤ R.cells) (hR4 : w + 600 ≤ R.slots)
    (htab : e.platform.magicAccessors = ({} : Platform).magicAccessors → ∀ cE, s.vm.findClass "java/lang/ClassCastException" = some cE → cTab e.platform s m.cls pc cE hpc c.exceptionTable.toList)
    (k : ∀ (a : Nat) (H1 : Heap) (locs1 : List Loc), HX D dA F h A s H1 locs1 → W p l e R s m args below meth c H1 locs1 (u + 3) (w + 600) Q (F0 m hpc ls [.ref a])) : W p l e R s m args below meth c H locs u w Q (F0 m pc ls (va_rf r :: rest)) := by
  have hth := th_cast (p := p) (l := l) (e := e) (R := R) (args := args) (below := below) (meth := meth) (u := u) (w := w) (ls := ls) (rest := rest) X hM hE.2.2.2.2.1 hr hτ ht hlink hdg
  refine e_msg (names := ["java/lang/RuntimeException", "java/lang/Exception"]) (rest := va_rf r :: rest) X hM hE hsize hth fit_cc (at_cce X.2.2.2.2 hM.2.1 hE.2.1 hE.2.2.1) (by decide) hR1 ?_ hR3 hR4 htab k
  have hc : (va_rf r).category = 1 := by cases r <;> rfl
  simp only [List.map_cons, List.sum_cons, hc]
  omega
theorem e_lenQ (X : CallFix p m c cc nL s args lw_all own) (hM : HX D dA F h A s H locs) (hE : EX K A l s) (hsize : ls.size = nL) (hr : rowT h r = some τ) (hτ : τ = none ∨ τ = some t) (hdg : decode cc pc = .ok (.arraylength, 1))
    (hR1 : 7 < R.frames) (hR2 : (rest.map fun v => v.category).sum + 10240 ≤ R.locals) (hR3 : u + 1 ≤ R.cells) (hR4 : w + 8 ≤ R.slots)
    (htab : e.platform.magicAccessors = ({} : Platform).magicAccessors → ∀ cE, s.vm.findClass "java/lang/NullPointerException" = some cE → cTab e.platform s m.cls pc cE hpc c.exceptionTable.toList)
    (kn : r = none → ∀ (a : Nat) (H1 : Heap) (locs1 : List Loc), HX D dA F h A s H1 locs1 → W p l e R s m args below meth c H1 locs1 (u + 1) (w + 8) Q (F0 m hpc ls [.ref a]))
    (ks : ∀ (a n : Nat) (f : Nat → Int32), r = some a → h a = some (.inl (t, n, .inl f)) → W p l e R s m args below meth c H locs u w Q (F0 m (pc + 1) ls (.int (Int32.ofNat n) :: rest))) : W p l e R s m args below meth c H locs u w Q (F0 m pc ls (va_rf r :: rest)) := by
  rcases hτ with rfl | rfl
  · cases rowT_n hr
    exact e_npe (st := .null :: rest) (rest := rest) X hM hE hsize (th_len X hdg) hR1 hR2 hR3 hR4 htab (kn rfl)
  · obtain ⟨a, n, f, rfl, ha, ht⟩ := rowT_s hr
    obtain ⟨-, ty, hty⟩ := rt_find hM.1 ht
    refine h_alen (t := t) (a := a) (v := Int32.ofNat n) X hM hty ?_ hdg (ks a n f rfl ha)
    unfold hLen
    rw [ha]
    simp

theorem e_istQ {v j : Int32} (X : CallFix p m c cc nL s args lw_all own) (hM : HX D dA F h A s H locs) (hE : EX K A l s) (hsize : ls.size = nL) (hr : rowT h r = some τ) (hτ : τ = none ∨ τ = some 0) (hsm : ∀ (a n : Nat) (f : Nat → Int32), r = some a → h a = some (.inl (0, n, .inl f)) → n < 2 ^ 31) (hdg : decode cc pc = .ok (.iastore, 1))
    (hR1 : 7 < R.frames) (hR2 : (rest.map fun v => v.category).sum + 10240 ≤ R.locals) (hR3 : u + 3 ≤ R.cells) (hR4 : w + 600 ≤ R.slots)
    (htab : e.platform.magicAccessors = ({} : Platform).magicAccessors → ∀ cE, s.vm.findClass "java/lang/NullPointerException" = some cE → cTab e.platform s m.cls pc cE hpc c.exceptionTable.toList)
    (htab2 : e.platform.magicAccessors = ({} : Platform).magicAccessors → ∀ cE, s.vm.findClass "java/lang/ArrayIndexOutOfBoundsException" = some cE → cTab e.platform s m.cls pc cE hpc2 c.exceptionTable.toList)
    (kn : r = none → ∀ (a : Nat) (H1 : Heap) (locs1 : List Loc), HX D dA F h A s H1 locs1 → W p l e R s m args below meth c H1 locs1 (u + 1) (w + 8) Q (F0 m hpc ls [.ref a]))
    (ko : ∀ (a n : Nat) (f : Nat → Int32), r = some a → h a = some (.inl (0, n, .inl f)) → (j < 0 ∨ n ≤ j.toNatClampNeg) → ∀ (a : Nat) (H1 : Heap) (locs1 : List Loc), HX D dA F h A s H1 locs1 → W p l e R s m args below meth c H1 locs1 (u + 3) (w + 222) Q (F0 m hpc2 ls [.ref a]))
    (ks : ∀ (a n : Nat) (f : Nat → Int32), r = some a → h a = some (.inl (0, n, .inl f)) → ¬ (j < 0 ∨ n ≤ j.toNatClampNeg) → ∀ (H1 : Heap) (locs1 : List Loc), HX D dA F (va_up h a (some (.inl (0, n, .inl (upd f j.toNatClampNeg v))))) A s H1 locs1 → W p l e R s m args below meth c H1 locs1 u w Q (F0 m (pc + 1) ls rest)) : W p l e R s m args below meth c H locs u w Q (F0 m pc ls (.int v :: .int j :: va_rf r :: rest)) := by
  rcases hτ with rfl | rfl
  · cases rowT_n hr
    exact e_npe (st := .int v :: .int j :: .null :: rest) (rest := rest) X hM hE hsize (th_iasN X hdg) hR1 hR2 (by omega) (by omega) htab (kn rfl)
  · obtain ⟨a, n, f, rfl, ha, ht⟩ := rowT_s hr
    by_cases hout : j < 0 ∨ n ≤ j.toNatClampNeg
    · exact e_msg (st := .int v :: .int j :: .ref a :: rest) (names := ["java/lang/IndexOutOfBoundsException", "java/lang/RuntimeException", "java/lang/Exception"]) (rest := rest) X hM hE hsize (th_iast X hM ha hout (hsm a n f rfl ha) hdg) fit_ai (at_aioobe X.2.2.2.2 hM.2.1 hE.2.1 hE.2.2.1) (by decide) hR1 hR2 hR3 (by omega) htab2 (ko a n f rfl ha hout)
    · exact e_iast X hM ha hout hdg (ks a n f rfl ha hout)
theorem th_basN {v j : Int32} (X : CallFix p m c cc nL s args lw_all own) (hdg : decode cc pc = .ok (.bastore, 1)) : ThN p l e R s m args below meth c H locs u w pc ls (.int v :: .int j :: .null :: rest) rest := fun T hT XS target h => XS.bastoreNull X.1 (g := F0 m pc ls (.int v :: .int j :: .null :: rest)) rfl (rest := rest) rfl (by rw [X.2.1]; exact hdg) target h
theorem e_bstQ {v j : Int32} (X : CallFix p m c cc nL s args lw_all own) (hM : HX D dA F h A s H locs) (hE : EX K A l s) (hsize : ls.size = nL) (hr : rowT h r = some τ) (hτ : τ = none ∨ τ = some 2) (hsm : ∀ (a n : Nat) (f : Nat → Int32), r = some a → h a = some (.inl (2, n, .inl f)) → n < 2 ^ 31) (hdg : decode cc pc = .ok (.bastore, 1))
    (hR1 : 7 < R.frames) (hR2 : (rest.map fun v => v.category).sum + 10240 ≤ R.locals) (hR3 : u + 3 ≤ R.cells) (hR4 : w + 600 ≤ R.slots)
    (htab : e.platform.magicAccessors = ({} : Platform).magicAccessors → ∀ cE, s.vm.findClass "java/lang/NullPointerException" = some cE → cTab e.platform s m.cls pc cE hpc c.exceptionTable.toList)
    (htab2 : e.platform.magicAccessors = ({} : Platform).magicAccessors → ∀ cE, s.vm.findClass "java/lang/ArrayIndexOutOfBoundsException" = some cE → cTab e.platform s m.cls pc cE hpc2 c.exceptionTable.toList)
    (kn : r = none → ∀ (a : Nat) (H1 : Heap) (locs1 : List Loc), HX D dA F h A s H1 locs1 → W p l e R s m args below meth c H1 locs1 (u + 1) (w + 8) Q (F0 m hpc ls [.ref a]))
    (ko : ∀ (a n : Nat) (f : Nat → Int32), r = some a → h a = some (.inl (2, n, .inl f)) → (j < 0 ∨ n ≤ j.toNatClampNeg) → ∀ (a : Nat) (H1 : Heap) (locs1 : List Loc), HX D dA F h A s H1 locs1 → W p l e R s m args below meth c H1 locs1 (u + 3) (w + 222) Q (F0 m hpc2 ls [.ref a]))
    (ks : ∀ (a n : Nat) (f : Nat → Int32), r = some a → h a = some (.inl (2, n, .inl f)) → ¬ (j < 0 ∨ n ≤ j.toNatClampNeg) → ∀ (H1 : Heap) (locs1 : List Loc), HX D dA F (va_up h a (some (.inl (2, n, .inl (upd f j.toNatClampNeg (vp_nar .byte v)))))) A s H1 locs1 → W p l e R s m args below meth c H1 locs1 u w Q (F0 m (pc + 1) ls rest)) : W p l e R s m args below meth c H locs u w Q (F0 m pc ls (.int v :: .int j :: va_rf r :: rest)) := by
  rcases hτ with rfl | rfl
  · cases rowT_n hr
    exact e_npe (st := .int v :: .int j :: .null :: rest) (rest := rest) X hM hE hsize (th_basN X hdg) hR1 hR2 (by omega) (by omega) htab (kn rfl)
  · obtain ⟨a, n, f, rfl, ha, ht⟩ := rowT_s hr
    by_cases hout : j < 0 ∨ n ≤ j.toNatClampNeg
    · exact e_msg (st := .int v :: .int j :: .ref a :: rest) (names := ["java/lang/IndexOutOfBoundsException", "java/lang/RuntimeException", "java/lang/Exception"]) (rest := rest) X hM hE hsize (th_bast X hM ha hout (hsm a n f rfl ha) hdg) fit_ai (at_aioobe X.2.2.2.2 hM.2.1 hE.2.1 hE.2.2.1) (by decide) hR1 hR2 hR3 (by omega) htab2 (ko a n f rfl ha hout)
    · exact e_bast X hM ha hout hdg (ks a n f rfl ha hout)
theorem th_sasN {v j : Int32} (X : CallFix p m c cc nL s args lw_all own) (hdg : decode cc pc = .ok (.sastore, 1)) : ThN p l e R s m args below meth c H locs u w pc ls (.int v :: .int j :: .null :: rest) rest := fun T hT XS target h => XS.sastoreNull X.1 (g := F0 m pc ls (.int v :: .int j :: .null :: rest)) rfl (rest := rest) rfl (by rw [X.2.1]; exact hdg) target h
theorem e_sstQ {v j : Int32} (X : CallFix p m c cc nL s args lw_all own) (hM : HX D dA F h A s H locs) (hE : EX K A l s) (hsize : ls.size = nL) (hr : rowT h r = some τ) (hτ : τ = none ∨ τ = some 3) (hsm : ∀ (a n : Nat) (f : Nat → Int32), r = some a → h a = some (.inl (3, n, .inl f)) → n < 2 ^ 31) (hdg : decode cc pc = .ok (.sastore, 1))
    (hR1 : 7 < R.frames) (hR2 : (rest.map fun v => v.category).sum + 10240 ≤ R.locals) (hR3 : u + 3 ≤ R.cells) (hR4 : w + 600 ≤ R.slots)
    (htab : e.platform.magicAccessors = ({} : Platform).magicAccessors → ∀ cE, s.vm.findClass "java/lang/NullPointerException" = some cE → cTab e.platform s m.cls pc cE hpc c.exceptionTable.toList)
    (htab2 : e.platform.magicAccessors = ({} : Platform).magicAccessors → ∀ cE, s.vm.findClass "java/lang/ArrayIndexOutOfBoundsException" = some cE → cTab e.platform s m.cls pc cE hpc2 c.exceptionTable.toList)
    (kn : r = none → ∀ (a : Nat) (H1 : Heap) (locs1 : List Loc), HX D dA F h A s H1 locs1 → W p l e R s m args below meth c H1 locs1 (u + 1) (w + 8) Q (F0 m hpc ls [.ref a]))
    (ko : ∀ (a n : Nat) (f : Nat → Int32), r = some a → h a = some (.inl (3, n, .inl f)) → (j < 0 ∨ n ≤ j.toNatClampNeg) → ∀ (a : Nat) (H1 : Heap) (locs1 : List Loc), HX D dA F h A s H1 locs1 → W p l e R s m args below meth c H1 locs1 (u + 3) (w + 222) Q (F0 m hpc2 ls [.ref a]))
    (ks : ∀ (a n : Nat) (f : Nat → Int32), r = some a → h a = some (.inl (3, n, .inl f)) → ¬ (j < 0 ∨ n ≤ j.toNatClampNeg) → ∀ (H1 : Heap) (locs1 : List Loc), HX D dA F (va_up h a (some (.inl (3, n, .inl (upd f j.toNatClampNeg (vp_nar .short v)))))) A s H1 locs1 → W p l e R s m args below meth c H1 locs1 u w Q (F0 m (pc + 1) ls rest)) : W p l e R s m args below meth c H locs u w Q (F0 m pc ls (.int v :: .int j :: va_rf r :: rest)) := by
  rcases hτ with rfl | rfl
  · cases rowT_n hr
    exact e_npe (st := .int v :: .int j :: .null :: rest) (rest := rest) X hM hE hsize (th_sasN X hdg) hR1 hR2 (by omega) (by omega) htab (kn rfl)
  · obtain ⟨a, n, f, rfl, ha, ht⟩ := rowT_s hr
    by_cases hout : j < 0 ∨ n ≤ j.toNatClampNeg
    · exact e_msg (st := .int v :: .int j :: .ref a :: rest) (names := ["java/lang/IndexOutOfBoundsException", "java/lang/RuntimeException", "java/lang/Exception"]) (rest := rest) X hM hE hsize (th_sast X hM ha hout (hsm a n f rfl ha) hdg) fit_ai (at_aioobe X.2.2.2.2 hM.2.1 hE.2.1 hE.2.2.1) (by decide) hR1 hR2 hR3 (by omega) htab2 (ko a n f rfl ha hout)
    · exact e_sast X hM ha hout hdg (ks a n f rfl ha hout)
end QROWS
