/-! NEW ARRAYS, STORES OF REFERENCES, COPIES in the abstract heap -/
set_option maxRecDepth 100000
def hAsR (t : Nat) (h : hH) (a : Nat) (i : Int32) (v : Nat) : Option hH := match h a with
  | some (.inl (t', n, .inr f)) => if t' = t ∧ ¬ (i < 0 ∨ n ≤ i.toNatClampNeg) then some (va_up h a (some (.inl (t, n, .inr (va_up f i.toNatClampNeg (some v)))))) else none
  | _ => none
theorem hAsR_i {t : Nat} {h h1 : hH} {a : Nat} {i : Int32} {v : Nat} (e : hAsR t h a i v = some h1) : ∃ (n : Nat) (f : Nat → Option Nat), h a = some (.inl (t, n, .inr f)) ∧ vp_in i n ∧ va_up h a (some (.inl (t, n, .inr (va_up f i.toNatClampNeg (some v))))) = h1 := by
  unfold hAsR at e
  split at e
  · rename_i t' n f hz
    by_cases hc : t' = t ∧ ¬ (i < 0 ∨ n ≤ i.toNatClampNeg)
    · rw [if_pos hc] at e
      obtain ⟨hc, h2⟩ := hc
      subst hc
      exact ⟨n, f, hz, h2, Option.some.inj e⟩
    · rw [if_neg hc] at e; cases e
  · cases e
/-- a copy of n references from a0 at 0 to a1 at 0, each an object of one of the classes ok -/
def hCopy (t : Nat) (ok : Nat → Prop) (h : hH) (a0 a1 : Nat) (n : Int32) (h1 : hH) : Prop :=
  ∃ (n0 n1 : Nat) (f g : Nat → Option Nat), h a0 = some (.inl (t, n0, .inr f)) ∧ h a1 = some (.inl (t, n1, .inr g)) ∧ ¬ n < 0 ∧ n.toNatClampNeg ≤ n0 ∧ n.toNatClampNeg ≤ n1 ∧
    (∀ i : Nat, i < n.toNatClampNeg → ∀ y : Nat, f i = some y → ∃ (ci : Nat) (fs : List Value), ok ci ∧ h y = some (.inr (ci, fs))) ∧ h1 = va_up h a1 (some (.inl (t, n1, .inr (va_cpy f g 0 0 n.toNatClampNeg))))
section AROWS
variable {p : Program} {l : Launch} {e : Env} {R : Room} {s : State} {m : MethodId} {args : Array Value} {below : List Frame} {meth : Method} {c : Code} {H : Heap} {locs : List Loc} {u w : Nat} {Q : State → Prop}
variable {cc : ByteArray} {nL pc idx : Nat} {ls : Array Slot} {rest : List Value} {own C E : String} {T : u_T} {N ci a t v N' : Nat} {n i : Int32}
variable {D : va_G} {dA : Nat → ClassId} {S S1 : hH} {A : Nat → Prop} {F : va_W}
theorem n_newi (X : CallFix p m c cc nL s args lw_all own) (hM : HX D dA F S A s H locs) (hA : ∀ x, s.heap.size ≤ x → A x) (harr : Cond.arrayClass .int ∈ lw_all) (hn : ¬ n < 0) (hN : n.toNatClampNeg = N') (hbytes : N' * 4 ≤ 536870912) (hcells : u + 1 ≤ R.cells) (hslots : w + N' ≤ R.slots) (hdg : decode cc pc = .ok (.newarray .int, 2))
    (kk : ∀ (q : Nat) (H1 : Heap), S q = none → HX D dA F (va_up S q (some (.inl (0, N', .inl (fun _ => 0))))) A s H1 locs → W p l e R s m args below meth c H1 locs (u + 1) (w + N') Q (F0 m (pc + 2) ls (.ref q :: rest))) : W p l e R s m args below meth c H locs u w Q (F0 m pc ls (.int n :: rest)) := by
  obtain ⟨hK, hN, ⟨L, hi, hP, hD⟩, hS⟩ := hM
  refine va_newa (atype := .int) (ty := .int) (a0 := (N', .inl (fun _ => 0))) X.1 X.2.1 (X.2.2.2.2 _ harr) rfl hK hP hD hS hA (fun cA => by rw [vp_cell_i]; rfl) hn (by assumption) hbytes hcells hslots hdg (fun q cA H1 hK1 hP1 hD1 hS1 => ?_)
  have e1 : cA = dA 0 := Option.some.inj (Eq.trans (Eq.symm (hK1.2 10 _ rfl).2) (hK.2 0 _ rfl).2)
  subst e1
  obtain ⟨h1, h2, h3⟩ := hIs_push (dA := dA) (x := .inl (0, N', .inl (fun _ => 0))) hi hD1
  exact kk q H1 h1 ⟨hK, by assumption, ⟨_, h2, by rw [← h3]; exact hP1, by rw [← h3]; exact hD1⟩, hS1⟩
theorem n_newb (X : CallFix p m c cc nL s args lw_all own) (hM : HX D dA F S A s H locs) (hA : ∀ x, s.heap.size ≤ x → A x) (harr : Cond.arrayClass .byte ∈ lw_all) (hn : ¬ n < 0) (hN : n.toNatClampNeg = N') (hbytes : N' * 1 ≤ 536870912) (hcells : u + 1 ≤ R.cells) (hslots : w + N' ≤ R.slots) (hdg : decode cc pc = .ok (.newarray .byte, 2))
    (kk : ∀ (q : Nat) (H1 : Heap), S q = none → HX D dA F (va_up S q (some (.inl (2, N', .inl (fun _ => 0))))) A s H1 locs → W p l e R s m args below meth c H1 locs (u + 1) (w + N') Q (F0 m (pc + 2) ls (.ref q :: rest))) : W p l e R s m args below meth c H locs u w Q (F0 m pc ls (.int n :: rest)) := by
  obtain ⟨hK, hN, ⟨L, hi, hP, hD⟩, hS⟩ := hM
  refine va_newa (atype := .byte) (ty := .byte) (a0 := (N', .inl (fun _ => 0))) X.1 X.2.1 (X.2.2.2.2 _ harr) rfl hK hP hD hS hA (fun cA => by rw [vp_cell_i]; rfl) hn (by assumption) hbytes hcells hslots hdg (fun q cA H1 hK1 hP1 hD1 hS1 => ?_)
  have e1 : cA = dA 2 := Option.some.inj (Eq.trans (Eq.symm (hK1.2 10 _ rfl).2) (hK.2 2 _ rfl).2)
  subst e1
  obtain ⟨h1, h2, h3⟩ := hIs_push (dA := dA) (x := .inl (2, N', .inl (fun _ => 0))) hi hD1
  exact kk q H1 h1 ⟨hK, by assumption, ⟨_, h2, by rw [← h3]; exact hP1, by rw [← h3]; exact hD1⟩, hS1⟩
theorem n_anew (X : CallFix p m c cc nL s args lw_all own) (hM : HX D dA F S A s H locs) (hA : ∀ x, s.heap.size ≤ x → A x) (ht : (tyX dA)[t]? = some (dA t, .object E)) (hcl : Cond.classLink own idx E ∈ lw_all) (hover : va_AO E s) (hn : ¬ n < 0) (hN : n.toNatClampNeg = N') (hbytes : N' * 4 ≤ 536870912) (hcells : u + 1 ≤ R.cells) (hslots : w + N' ≤ R.slots) (hdg : decode cc pc = .ok (.anewarray idx, 3))
    (kk : ∀ (q : Nat) (H1 : Heap), S q = none → HX D dA F (va_up S q (some (.inl (t, N', .inr (fun _ => none))))) A s H1 locs → W p l e R s m args below meth c H1 locs (u + 1) (w + N') Q (F0 m (pc + 3) ls (.ref q :: rest))) : W p l e R s m args below meth c H locs u w Q (F0 m pc ls (.int n :: rest)) := by
  obtain ⟨hK, hN, ⟨L, hi, hP, hD⟩, hS⟩ := hM
  refine va_newq X.1 X.2.1 X.2.2.2.1 (X.2.2.2.2 _ hcl) hover hK hP hD hS hA hn (by assumption) hbytes hcells hslots hdg (fun q cA H1 hK1 hP1 hD1 hS1 => ?_)
  obtain ⟨k1, m1, x1, x2, x3, x4⟩ := (hK1.2 10 _ rfl).2
  obtain ⟨k2, m2, z1, z2, z3, z4⟩ := (hK.2 t _ ht).2
  have e1 : cA = dA t := Option.some.inj (Eq.trans (Eq.symm x4) z4)
  subst e1
  obtain ⟨h1, h2, h3⟩ := hIs_push (dA := dA) (x := .inl (t, N', .inr (fun _ => none))) hi hD1
  exact kk q H1 h1 ⟨hK, by assumption, ⟨_, h2, by rw [← h3]; exact hP1, by rw [← h3]; exact hD1⟩, hS1⟩
/-- a store of an object into an array of just its class, and into one of a class above -/
theorem n_astS {fs : List Value} (X : CallFix p m c cc nL s args lw_all own) (hM : HX D dA F S A s H locs) (ht : (tyX dA)[t]? = some (dA t, .object C)) (hc : vwCl[ci]? = some (C, T, N)) (ho : hObj ci S v = some fs) (h : hAsR t S a i v = some S1) (hdg : decode cc pc = .ok (.aastore, 1))
    (kk : ∀ (H1 : Heap) (locs1 : List Loc), HX D dA F S1 A s H1 locs1 → W p l e R s m args below meth c H1 locs1 u w Q (F0 m (pc + 1) ls rest)) : W p l e R s m args below meth c H locs u w Q (F0 m pc ls (.ref v :: .int i :: .ref a :: rest)) := by
  obtain ⟨n, f, e1, e2, e3⟩ := hAsR_i h
  subst e3
  obtain ⟨hK, hN, ⟨L, hi, hP, hD⟩, hS⟩ := hM
  obtain ⟨j, hj⟩ := hh_at hi e1
  obtain ⟨j2, hj2⟩ := hh_at hi (hObj_i ho)
  exact va_astq (r := (C, T, N)) X.1 X.2.1 hK hP hD hS _ t _ ci (hws_r hj) ht (hws_r hj2) hc e2 hdg (fun H1 locs1 hP1 hD1 hS1 => kk H1 locs1 ⟨hK, hN, ⟨_, hIs_set hi hD hj _, by rw [← hws_set]; exact hP1, by rw [← hws_set]; exact hD1⟩, hS1⟩)
theorem n_astO {fs : List Value} (X : CallFix p m c cc nL s args lw_all own) (hM : HX D dA F S A s H locs) (ht : (tyX dA)[t]? = some (dA t, .object E)) (hca : va_Nw (.castable C E) s) (hc : vwCl[ci]? = some (C, T, N)) (ho : S v = some (.inr (ci, fs))) (h : hAsR t S a i v = some S1) (hdg : decode cc pc = .ok (.aastore, 1))
    (kk : ∀ (H1 : Heap) (locs1 : List Loc), HX D dA F S1 A s H1 locs1 → W p l e R s m args below meth c H1 locs1 u w Q (F0 m (pc + 1) ls rest)) : W p l e R s m args below meth c H locs u w Q (F0 m pc ls (.ref v :: .int i :: .ref a :: rest)) := by
  obtain ⟨n, f, e1, e2, e3⟩ := hAsR_i h
  subst e3
  obtain ⟨hK, hN, ⟨L, hi, hP, hD⟩, hS⟩ := hM
  obtain ⟨j, hj⟩ := hh_at hi e1
  obtain ⟨j2, hj2⟩ := hh_at hi ho
  exact va_astqO (r := (C, T, N)) X.1 X.2.1 hK hP hD hS _ t _ ci (hws_r hj) ht hca (hws_r hj2) hc e2 hdg (fun H1 locs1 hP1 hD1 hS1 => kk H1 locs1 ⟨hK, hN, ⟨_, hIs_set hi hD hj _, by rw [← hws_set]; exact hP1, by rw [← hws_set]; exact hD1⟩, hS1⟩)
theorem n_copy {a0 : Nat} {ok : Nat → Prop} (X : CallFix p m c cc nL s args lw_all own) (hM : HX D dA F S A s H locs) (hsize : ls.size = nL) (hlink : Cond.methodLink own idx arraycopyName ∈ lw_all) (hnat : Cond.native arraycopyName ∈ lw_all) (hstat : Cond.static arraycopyName ∈ lw_all) (hini : Cond.initialized "java/lang/System" ∈ lw_all) (ht : (tyX dA)[t]? = some (dA t, .object E))
    (hok : ∀ k, ok k → ∃ r : vw_C, vwCl[k]? = some r ∧ ∀ comp c0 : ClassId, s.vm.findClass E = some comp → s.vm.findClass r.1 = some c0 → s.vm.assignable c0 comp = true) (h : hCopy t ok S a0 a n S1) (hframes : 1 ≤ R.frames) (hlocals : (rest.map fun v => v.category).sum + (nativeFrameWords "java/lang/System" "arraycopy" 5 + 11) ≤ R.locals) (hdg : decode cc pc = .ok (.invokestatic idx, 3))
    (kk : ∀ (H1 : Heap) (locs1 : List Loc), HX D dA F S1 A s H1 locs1 → W p l e R s m args below meth c H1 locs1 u w Q (F0 m (pc + 3) ls rest)) : W p l e R s m args below meth c H locs u w Q (F0 m pc ls (.int n :: .int 0 :: .ref a :: .int 0 :: .ref a0 :: rest)) := by
  obtain ⟨n0, n1, f, g, e0, e1, h0, h1, h2, h3, rfl⟩ := h
  obtain ⟨hK, hN, ⟨L, hi, hP, hD⟩, hS⟩ := hM
  obtain ⟨j0, hj0⟩ := hh_at hi e0
  obtain ⟨j1, hj1⟩ := hh_at hi e1
  have hz : (0 : Int32).toNatClampNeg = 0 := by decide
  refine va_copyM X.1 X.2.1 (X.2.2.1.trans hsize.symm) X.2.2.2.1 (X.2.2.2.2 _ hlink) (X.2.2.2.2 _ hnat) (X.2.2.2.2 _ hstat) (X.2.2.2.2 _ hini) hK hP hD hS _ _ t t (hws_r hj0) (hws_r hj1) ht ht (sp := 0) (dp := 0) (n := n) (by decide) (by decide) h0 (by rw [hz, Nat.zero_add]; exact h1) (by rw [hz, Nat.zero_add]; exact h2) (fun i hi2 y hy => ?_) hframes hlocals hdg (fun H1 locs1 hP1 hD1 hS1 => kk H1 locs1 ⟨hK, hN, ⟨_, hIs_set hi hD hj1 _, by rw [← hws_set]; exact hP1, by rw [← hws_set]; exact hD1⟩, hS1⟩)
  rw [hz, Nat.zero_add] at hy
  obtain ⟨k, fs, hk, hy2⟩ := h3 i hi2 y hy
  obtain ⟨r, hr1, hr2⟩ := hok k hk
  obtain ⟨j2, hj2⟩ := hh_at hi hy2
  exact va_rAny hK hP (hws_r hj2) hr1 hr2
end AROWS
