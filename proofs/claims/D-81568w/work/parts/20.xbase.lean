/-! THE COMPONENT's WORLD: its object and fixed arrays (a state), all its other cells by an abstract heap -/
set_option maxRecDepth 100000
abbrev hC : Type := (Nat × Nat × ((Nat → Int32) ⊕ (Nat → Option Nat))) ⊕ (Nat × List Value)
abbrev hH : Type := Nat → Option hC
abbrev hRw : Type := List (Nat × hC)
def hcv (dA : Nat → ClassId) (x : hC) : va_E := match x with
  | .inl (t, n, .inl f) => .inl (dA t, n, .inl f)
  | .inl (t, n, .inr f) => .inl (dA t, n, .inr (.inr (.inr (.inr f))))
  | .inr z => .inr z
def hws (dA : Nat → ClassId) (F : va_W) (L : hRw) : va_W := F ++ L.map (fun z => (z.1, hcv dA z.2))
def hIs (h : hH) (L : hRw) : Prop := ∀ (a : Nat) (x : hC), h a = some x ↔ (a, x) ∈ L
def HH (D : va_G) (dA : Nat → ClassId) (F : va_W) (h : hH) (A : Nat → Prop) (H : Heap) : Prop := ∃ L : hRw, hIs h L ∧ va_P D vwCl (hws dA F L) H ∧ va_D A (hws dA F L)
theorem hws_r {dA : Nat → ClassId} {F : va_W} {L : hRw} {j a : Nat} {x : hC} (h : L[j]? = some (a, x)) : (hws dA F L)[F.length + j]? = some (a, hcv dA x) := by
  unfold hws
  rw [List.getElem?_append_right (Nat.le_add_right _ _), Nat.add_sub_cancel_left, List.getElem?_map, h]; rfl
theorem hh_at {h : hH} {L : hRw} {a : Nat} {x : hC} (hi : hIs h L) (e : h a = some x) : ∃ j : Nat, L[j]? = some (a, x) := List.getElem?_of_mem ((hi a x).mp e)
theorem hws_set {dA : Nat → ClassId} {F : va_W} {L : hRw} {j a : Nat} (y : hC) : (hws dA F L).set (F.length + j) (a, hcv dA y) = hws dA F (L.set j (a, y)) := by
  unfold hws
  rw [List.set_append_right _ _ (Nat.le_add_right _ _), Nat.add_sub_cancel_left, List.map_set]
theorem hIs_set {dA : Nat → ClassId} {F : va_W} {A : Nat → Prop} {h : hH} {L : hRw} {j a : Nat} {x : hC} (hi : hIs h L) (hD : va_D A (hws dA F L)) (hj : L[j]? = some (a, x)) (y : hC) : hIs (va_up h a (some y)) (L.set j (a, y)) := by
  have hlt : j < L.length := (List.getElem?_eq_some_iff.mp hj).1
  have hap : ∀ (i : Nat) (b : Nat) (z : hC), L[i]? = some (b, z) → b = a → i = j := fun i b z hz hb => by
    have h1 := hD.1 (F.length + i) (F.length + j) _ _ (hws_r (dA := dA) (F := F) hz) (hws_r (dA := dA) (F := F) hj) hb
    omega
  intro b z
  unfold va_up
  by_cases hb : b = a
  · rw [if_pos hb]
    subst hb
    constructor
    · intro e
      cases e
      exact List.mem_of_getElem? (i := j) (by rw [List.getElem?_set_self hlt])
    · intro e
      obtain ⟨i, hi2⟩ := List.getElem?_of_mem e
      by_cases hij : i = j
      · subst hij
        rw [List.getElem?_set_self hlt] at hi2
        cases hi2
        rfl
      · rw [List.getElem?_set_ne (Ne.symm hij)] at hi2
        exact absurd (hap i b z hi2 rfl) hij
  · rw [if_neg hb, hi b z]
    constructor
    · intro e
      obtain ⟨i, hi2⟩ := List.getElem?_of_mem e
      have hij : i ≠ j := fun q => by
        subst q
        rw [hj] at hi2
        cases hi2
        exact hb rfl
      exact List.mem_of_getElem? (i := i) (by rw [List.getElem?_set_ne (Ne.symm hij)]; exact hi2)
    · intro e
      obtain ⟨i, hi2⟩ := List.getElem?_of_mem e
      by_cases hij : i = j
      · subst hij
        rw [List.getElem?_set_self hlt] at hi2
        cases hi2
        exact absurd rfl hb
      · rw [List.getElem?_set_ne (Ne.symm hij)] at hi2
        exact List.mem_of_getElem? hi2
theorem HH.weaken {D : va_G} {dA : Nat → ClassId} {F : va_W} {h : hH} {A B : Nat → Prop} {H : Heap} (hh : HH D dA F h A H) (hAB : ∀ a, A a → B a) : HH D dA F h B H := by
  obtain ⟨L, h1, h2, h3⟩ := hh
  exact ⟨L, h1, h2, h3.weaken (fun _ _ _ z => hAB _ z)⟩
/-- the abstract heap alone -/
theorem HH.drop {D : va_G} {dA : Nat → ClassId} {F : va_W} {h : hH} {A : Nat → Prop} {H : Heap} (hh : HH D dA F h A H) : HH D dA [] h A H := by
  obtain ⟨L, h1, h2, h3⟩ := hh
  have key : ∀ (k : Nat) (x : Nat × va_E), (hws dA [] L)[k]? = some x → (hws dA F L)[F.length + k]? = some x := fun k x hk => by
    unfold hws at hk ⊢
    rw [List.getElem?_append_right (Nat.le_add_right _ _), Nat.add_sub_cancel_left]
    exact hk
  refine ⟨L, h1, fun k x hk => h2 _ x (key k x hk), fun i j x y hx hy hxy => ?_, fun k x hk => h3.2 _ x (key k x hk)⟩
  have h4 := h3.1 _ _ x y (key i x hx) (key j y hy) hxy
  omega
abbrev tyX (dA : Nat → ClassId) : List (ClassId × FieldType) := [(dA 0, .int), (dA 1, .boolean), (dA 2, .byte), (dA 3, .short), (dA 4, .object "EventCounters$Line"), (dA 5, .object "EventCounters$Loop"), (dA 6, .object "EventCounters$Item"), (dA 7, .object "EventCounters$Counter"), (dA 8, .object "EventCounters$Sheet"), (dA 9, .array .int)]
def xnW : List Cond := [Cond.methodLinkNest "EventCounters$Reader" 66 ⟨"EventCounters", "isIn", "(JJJ)Z"⟩ "EventCounters", Cond.castable "EventCounters$Fault" "EventCounters$Fault", Cond.declares ⟨"java/lang/RuntimeException", "<init>", "()V"⟩, Cond.declares ⟨"java/lang/RuntimeException", "<init>", "(Ljava/lang/String;)V"⟩, Cond.declares ⟨"java/lang/Exception", "<init>", "()V"⟩, Cond.declares ⟨"java/lang/Exception", "<init>", "(Ljava/lang/String;)V"⟩, Cond.declares ⟨"java/lang/Throwable", "<init>", "()V"⟩, Cond.declares ⟨"java/lang/Throwable", "<init>", "(Ljava/lang/String;)V"⟩, Cond.declares ⟨"java/lang/Throwable", "fillInStackTrace", "()Ljava/lang/Throwable;"⟩, Cond.fieldLinkNest "EventCounters" 106 "EventCounters$Fault" "code" "I" "EventCounters", Cond.fieldLinkNest "EventCounters" 109 "EventCounters$Fault" "place" "I" "EventCounters", Cond.fieldLinkNest "EventCounters" 82 "EventCounters$Reader" "lines" "[LEventCounters$Line;" "EventCounters", Cond.fieldLinkNest "EventCounters" 83 "EventCounters$Reader" "many" "I" "EventCounters", Cond.fieldLinkNest "EventCounters" 86 "EventCounters$Reader" "loops" "[LEventCounters$Loop;" "EventCounters", Cond.fieldLinkNest "EventCounters" 91 "EventCounters$Reader" "loopMany" "I" "EventCounters", Cond.methodLinkNest "EventCounters$Reader" 139 ⟨"EventCounters$Block", "<init>", "()V"⟩ "EventCounters", Cond.methodLinkNest "EventCounters$Block" 1 ⟨"EventCounters$Item", "<init>", "()V"⟩ "EventCounters", Cond.methodLinkNest "EventCounters$Line" 3 ⟨"EventCounters$Item", "<init>", "()V"⟩ "EventCounters", Cond.fieldLinkNest "EventCounters" 122 "EventCounters$Line" "deep" "I" "EventCounters", Cond.fieldLinkNest "EventCounters" 62 "EventCounters$Line" "ticks" "I" "EventCounters", Cond.fieldLinkNest "EventCounters" 63 "EventCounters$Line" "events" "[I" "EventCounters", Cond.fieldLinkNest "EventCounters$Reader" 90 "EventCounters$Line" "events" "[I" "EventCounters", Cond.fieldLinkNest "EventCounters" 57 "EventCounters$Line" "times" "I" "EventCounters", Cond.methodLinkNest "EventCounters$Loop" 1 ⟨"EventCounters$Block", "<init>", "()V"⟩ "EventCounters", Cond.fieldLinkNest "EventCounters$Reader" 111 "EventCounters$Loop" "times" "I" "EventCounters", Cond.fieldLinkNest "EventCounters" 135 "EventCounters$Loop" "times" "I" "EventCounters", Cond.fieldLinkNest "EventCounters" 138 "EventCounters$Loop" "deep" "I" "EventCounters", Cond.fieldLinkNest "EventCounters" 142 "EventCounters$Loop" "comes" "I" "EventCounters", Cond.declares ⟨"EventCounters$Item", "steps", "()J"⟩, Cond.declares ⟨"EventCounters$Item", "lays", "([II)I"⟩, Cond.declares ⟨"EventCounters$Block", "lines", "()I"⟩, Cond.declares ⟨"EventCounters$Item", "lines", "()I"⟩, Cond.declares ⟨"EventCounters$Item", "makes", "(I)I"⟩, Cond.methodLinkNest "EventCounters" 317 ⟨"EventCounters$Counter", "<init>", "()V"⟩ "EventCounters", Cond.fieldLinkNest "EventCounters" 187 "EventCounters$Counter" "mask" "I" "EventCounters", Cond.fieldLinkNest "EventCounters" 192 "EventCounters$Counter" "width" "I" "EventCounters", Cond.methodLinkNest "EventCounters" 320 ⟨"EventCounters$Sheet", "<init>", "()V"⟩ "EventCounters", Cond.fieldLinkNest "EventCounters" 329 "EventCounters$Sheet" "row" "Ljava/lang/Object;" "EventCounters", Cond.fieldLinkNest "EventCounters" 333 "EventCounters$Sheet" "size" "I" "EventCounters", Cond.castable "java/lang/NegativeArraySizeException" "java/lang/NegativeArraySizeException", Cond.castable "java/lang/NullPointerException" "java/lang/NullPointerException", Cond.castable "java/lang/RuntimeException" "java/lang/Throwable", Cond.castable "java/lang/ArrayIndexOutOfBoundsException" "java/lang/ArrayIndexOutOfBoundsException", Cond.declares ⟨"java/lang/IndexOutOfBoundsException", "<init>", "()V"⟩, Cond.declares ⟨"java/lang/IndexOutOfBoundsException", "<init>", "(Ljava/lang/String;)V"⟩, Cond.castable "java/lang/ClassCastException" "java/lang/ClassCastException", Cond.castable "EventCounters$Block" "EventCounters$Item", Cond.castable "EventCounters$Line" "EventCounters$Item", Cond.castable "EventCounters$Loop" "EventCounters$Item"]
def XN (U : State) : Prop := (∀ w ∈ xnW, va_Nw w U) ∧ va_AO "EventCounters$Line" U ∧ va_AO "EventCounters$Loop" U ∧ va_AO "EventCounters$Item" U ∧ va_AO "EventCounters$Counter" U ∧ va_AO "EventCounters$Sheet" U
theorem xn_at {U : State} (h : XN U) {w : Cond} (i : Nat) (e : xnW[i]? = some w) : va_Nw w U := h.1 w (List.mem_of_getElem? e)
theorem xn_all {P : Cond → Prop} (h0 : P (Cond.methodLinkNest "EventCounters$Reader" 66 ⟨"EventCounters", "isIn", "(JJJ)Z"⟩ "EventCounters")) (h1 : P (Cond.castable "EventCounters$Fault" "EventCounters$Fault")) (h2 : P (Cond.declares ⟨"java/lang/RuntimeException", "<init>", "()V"⟩)) (h3 : P (Cond.declares ⟨"java/lang/RuntimeException", "<init>", "(Ljava/lang/String;)V"⟩)) (h4 : P (Cond.declares ⟨"java/lang/Exception", "<init>", "()V"⟩)) (h5 : P (Cond.declares ⟨"java/lang/Exception", "<init>", "(Ljava/lang/String;)V"⟩)) (h6 : P (Cond.declares ⟨"java/lang/Throwable", "<init>", "()V"⟩)) (h7 : P (Cond.declares ⟨"java/lang/Throwable", "<init>", "(Ljava/lang/String;)V"⟩)) (h8 : P (Cond.declares ⟨"java/lang/Throwable", "fillInStackTrace", "()Ljava/lang/Throwable;"⟩)) (h9 : P (Cond.fieldLinkNest "EventCounters" 106 "EventCounters$Fault" "code" "I" "EventCounters")) (h10 : P (Cond.fieldLinkNest "EventCounters" 109 "EventCounters$Fault" "place" "I" "EventCounters")) (h11 : P (Cond.fieldLinkNest "EventCounters" 82 "EventCounters$Reader" "lines" "[LEventCounters$Line;" "EventCounters")) (h12 : P (Cond.fieldLinkNest "EventCounters" 83 "EventCounters$Reader" "many" "I" "EventCounters")) (h13 : P (Cond.fieldLinkNest "EventCounters" 86 "EventCounters$Reader" "loops" "[LEventCounters$Loop;" "EventCounters")) (h14 : P (Cond.fieldLinkNest "EventCounters" 91 "EventCounters$Reader" "loopMany" "I" "EventCounters")) (h15 : P (Cond.methodLinkNest "EventCounters$Reader" 139 ⟨"EventCounters$Block", "<init>", "()V"⟩ "EventCounters")) (h16 : P (Cond.methodLinkNest "EventCounters$Block" 1 ⟨"EventCounters$Item", "<init>", "()V"⟩ "EventCounters")) (h17 : P (Cond.methodLinkNest "EventCounters$Line" 3 ⟨"EventCounters$Item", "<init>", "()V"⟩ "EventCounters")) (h18 : P (Cond.fieldLinkNest "EventCounters" 122 "EventCounters$Line" "deep" "I" "EventCounters")) (h19 : P (Cond.fieldLinkNest "EventCounters" 62 "EventCounters$Line" "ticks" "I" "EventCounters")) (h20 : P (Cond.fieldLinkNest "EventCounters" 63 "EventCounters$Line" "events" "[I" "EventCounters")) (h21 : P (Cond.fieldLinkNest "EventCounters$Reader" 90 "EventCounters$Line" "events" "[I" "EventCounters")) (h22 : P (Cond.fieldLinkNest "EventCounters" 57 "EventCounters$Line" "times" "I" "EventCounters")) (h23 : P (Cond.methodLinkNest "EventCounters$Loop" 1 ⟨"EventCounters$Block", "<init>", "()V"⟩ "EventCounters")) (h24 : P (Cond.fieldLinkNest "EventCounters$Reader" 111 "EventCounters$Loop" "times" "I" "EventCounters")) (h25 : P (Cond.fieldLinkNest "EventCounters" 135 "EventCounters$Loop" "times" "I" "EventCounters")) (h26 : P (Cond.fieldLinkNest "EventCounters" 138 "EventCounters$Loop" "deep" "I" "EventCounters")) (h27 : P (Cond.fieldLinkNest "EventCounters" 142 "EventCounters$Loop" "comes" "I" "EventCounters")) (h28 : P (Cond.declares ⟨"EventCounters$Item", "steps", "()J"⟩)) (h29 : P (Cond.declares ⟨"EventCounters$Item", "lays", "([II)I"⟩)) (h30 : P (Cond.declares ⟨"EventCounters$Block", "lines", "()I"⟩)) (h31 : P (Cond.declares ⟨"EventCounters$Item", "lines", "()I"⟩)) (h32 : P (Cond.declares ⟨"EventCounters$Item", "makes", "(I)I"⟩)) (h33 : P (Cond.methodLinkNest "EventCounters" 317 ⟨"EventCounters$Counter", "<init>", "()V"⟩ "EventCounters")) (h34 : P (Cond.fieldLinkNest "EventCounters" 187 "EventCounters$Counter" "mask" "I" "EventCounters")) (h35 : P (Cond.fieldLinkNest "EventCounters" 192 "EventCounters$Counter" "width" "I" "EventCounters")) (h36 : P (Cond.methodLinkNest "EventCounters" 320 ⟨"EventCounters$Sheet", "<init>", "()V"⟩ "EventCounters")) (h37 : P (Cond.fieldLinkNest "EventCounters" 329 "EventCounters$Sheet" "row" "Ljava/lang/Object;" "EventCounters")) (h38 : P (Cond.fieldLinkNest "EventCounters" 333 "EventCounters$Sheet" "size" "I" "EventCounters")) (h39 : P (Cond.castable "java/lang/NegativeArraySizeException" "java/lang/NegativeArraySizeException")) (h40 : P (Cond.castable "java/lang/NullPointerException" "java/lang/NullPointerException")) (h41 : P (Cond.castable "java/lang/RuntimeException" "java/lang/Throwable")) (h42 : P (Cond.castable "java/lang/ArrayIndexOutOfBoundsException" "java/lang/ArrayIndexOutOfBoundsException")) (h43 : P (Cond.declares ⟨"java/lang/IndexOutOfBoundsException", "<init>", "()V"⟩)) (h44 : P (Cond.declares ⟨"java/lang/IndexOutOfBoundsException", "<init>", "(Ljava/lang/String;)V"⟩)) (h45 : P (Cond.castable "java/lang/ClassCastException" "java/lang/ClassCastException")) (h46 : P (Cond.castable "EventCounters$Block" "EventCounters$Item")) (h47 : P (Cond.castable "EventCounters$Line" "EventCounters$Item")) (h48 : P (Cond.castable "EventCounters$Loop" "EventCounters$Item")) : ∀ w ∈ xnW, P w := by
  intro w hw
  simp only [xnW, List.mem_cons, List.not_mem_nil, or_false] at hw
  rcases hw with rfl | rfl | rfl | rfl | rfl | rfl | rfl | rfl | rfl | rfl | rfl | rfl | rfl | rfl | rfl | rfl | rfl | rfl | rfl | rfl | rfl | rfl | rfl | rfl | rfl | rfl | rfl | rfl | rfl | rfl | rfl | rfl | rfl | rfl | rfl | rfl | rfl | rfl | rfl | rfl | rfl | rfl | rfl | rfl | rfl | rfl | rfl | rfl | rfl
  · exact h0
  · exact h1
  · exact h2
  · exact h3
  · exact h4
  · exact h5
  · exact h6
  · exact h7
  · exact h8
  · exact h9
  · exact h10
  · exact h11
  · exact h12
  · exact h13
  · exact h14
  · exact h15
  · exact h16
  · exact h17
  · exact h18
  · exact h19
  · exact h20
  · exact h21
  · exact h22
  · exact h23
  · exact h24
  · exact h25
  · exact h26
  · exact h27
  · exact h28
  · exact h29
  · exact h30
  · exact h31
  · exact h32
  · exact h33
  · exact h34
  · exact h35
  · exact h36
  · exact h37
  · exact h38
  · exact h39
  · exact h40
  · exact h41
  · exact h42
  · exact h43
  · exact h44
  · exact h45
  · exact h46
  · exact h47
  · exact h48
theorem XN.warm {s U : State} (hW : s.WarmedH U.vm) (h : XN s) : XN U := ⟨xn_all (va_Nw.warmM hW (xn_at h 0 rfl)) (va_Nw.warmC hW (xn_at h 1 rfl)) (va_Nw.warmD hW (xn_at h 2 rfl)) (va_Nw.warmD hW (xn_at h 3 rfl)) (va_Nw.warmD hW (xn_at h 4 rfl)) (va_Nw.warmD hW (xn_at h 5 rfl)) (va_Nw.warmD hW (xn_at h 6 rfl)) (va_Nw.warmD hW (xn_at h 7 rfl)) (va_Nw.warmD hW (xn_at h 8 rfl)) (va_Nw.warmF hW (xn_at h 9 rfl)) (va_Nw.warmF hW (xn_at h 10 rfl)) (va_Nw.warmF hW (xn_at h 11 rfl)) (va_Nw.warmF hW (xn_at h 12 rfl)) (va_Nw.warmF hW (xn_at h 13 rfl)) (va_Nw.warmF hW (xn_at h 14 rfl)) (va_Nw.warmM hW (xn_at h 15 rfl)) (va_Nw.warmM hW (xn_at h 16 rfl)) (va_Nw.warmM hW (xn_at h 17 rfl)) (va_Nw.warmF hW (xn_at h 18 rfl)) (va_Nw.warmF hW (xn_at h 19 rfl)) (va_Nw.warmF hW (xn_at h 20 rfl)) (va_Nw.warmF hW (xn_at h 21 rfl)) (va_Nw.warmF hW (xn_at h 22 rfl)) (va_Nw.warmM hW (xn_at h 23 rfl)) (va_Nw.warmF hW (xn_at h 24 rfl)) (va_Nw.warmF hW (xn_at h 25 rfl)) (va_Nw.warmF hW (xn_at h 26 rfl)) (va_Nw.warmF hW (xn_at h 27 rfl)) (va_Nw.warmD hW (xn_at h 28 rfl)) (va_Nw.warmD hW (xn_at h 29 rfl)) (va_Nw.warmD hW (xn_at h 30 rfl)) (va_Nw.warmD hW (xn_at h 31 rfl)) (va_Nw.warmD hW (xn_at h 32 rfl)) (va_Nw.warmM hW (xn_at h 33 rfl)) (va_Nw.warmF hW (xn_at h 34 rfl)) (va_Nw.warmF hW (xn_at h 35 rfl)) (va_Nw.warmM hW (xn_at h 36 rfl)) (va_Nw.warmF hW (xn_at h 37 rfl)) (va_Nw.warmF hW (xn_at h 38 rfl)) (va_Nw.warmC hW (xn_at h 39 rfl)) (va_Nw.warmC hW (xn_at h 40 rfl)) (va_Nw.warmC hW (xn_at h 41 rfl)) (va_Nw.warmC hW (xn_at h 42 rfl)) (va_Nw.warmD hW (xn_at h 43 rfl)) (va_Nw.warmD hW (xn_at h 44 rfl)) (va_Nw.warmC hW (xn_at h 45 rfl)) (va_Nw.warmC hW (xn_at h 46 rfl)) (va_Nw.warmC hW (xn_at h 47 rfl)) (va_Nw.warmC hW (xn_at h 48 rfl)), va_AO.moved hW.alike h.2.1, va_AO.moved hW.alike h.2.2.1, va_AO.moved hW.alike h.2.2.2.1, va_AO.moved hW.alike h.2.2.2.2.1, va_AO.moved hW.alike h.2.2.2.2.2⟩
theorem XN.same {u U : State} (e : u.vm = U.vm) (h : XN u) : XN U := ⟨xn_all (va_Nw.same rfl e (xn_at h 0 rfl)) (va_Nw.same rfl e (xn_at h 1 rfl)) (va_Nw.same rfl e (xn_at h 2 rfl)) (va_Nw.same rfl e (xn_at h 3 rfl)) (va_Nw.same rfl e (xn_at h 4 rfl)) (va_Nw.same rfl e (xn_at h 5 rfl)) (va_Nw.same rfl e (xn_at h 6 rfl)) (va_Nw.same rfl e (xn_at h 7 rfl)) (va_Nw.same rfl e (xn_at h 8 rfl)) (va_Nw.same rfl e (xn_at h 9 rfl)) (va_Nw.same rfl e (xn_at h 10 rfl)) (va_Nw.same rfl e (xn_at h 11 rfl)) (va_Nw.same rfl e (xn_at h 12 rfl)) (va_Nw.same rfl e (xn_at h 13 rfl)) (va_Nw.same rfl e (xn_at h 14 rfl)) (va_Nw.same rfl e (xn_at h 15 rfl)) (va_Nw.same rfl e (xn_at h 16 rfl)) (va_Nw.same rfl e (xn_at h 17 rfl)) (va_Nw.same rfl e (xn_at h 18 rfl)) (va_Nw.same rfl e (xn_at h 19 rfl)) (va_Nw.same rfl e (xn_at h 20 rfl)) (va_Nw.same rfl e (xn_at h 21 rfl)) (va_Nw.same rfl e (xn_at h 22 rfl)) (va_Nw.same rfl e (xn_at h 23 rfl)) (va_Nw.same rfl e (xn_at h 24 rfl)) (va_Nw.same rfl e (xn_at h 25 rfl)) (va_Nw.same rfl e (xn_at h 26 rfl)) (va_Nw.same rfl e (xn_at h 27 rfl)) (va_Nw.same rfl e (xn_at h 28 rfl)) (va_Nw.same rfl e (xn_at h 29 rfl)) (va_Nw.same rfl e (xn_at h 30 rfl)) (va_Nw.same rfl e (xn_at h 31 rfl)) (va_Nw.same rfl e (xn_at h 32 rfl)) (va_Nw.same rfl e (xn_at h 33 rfl)) (va_Nw.same rfl e (xn_at h 34 rfl)) (va_Nw.same rfl e (xn_at h 35 rfl)) (va_Nw.same rfl e (xn_at h 36 rfl)) (va_Nw.same rfl e (xn_at h 37 rfl)) (va_Nw.same rfl e (xn_at h 38 rfl)) (va_Nw.same rfl e (xn_at h 39 rfl)) (va_Nw.same rfl e (xn_at h 40 rfl)) (va_Nw.same rfl e (xn_at h 41 rfl)) (va_Nw.same rfl e (xn_at h 42 rfl)) (va_Nw.same rfl e (xn_at h 43 rfl)) (va_Nw.same rfl e (xn_at h 44 rfl)) (va_Nw.same rfl e (xn_at h 45 rfl)) (va_Nw.same rfl e (xn_at h 46 rfl)) (va_Nw.same rfl e (xn_at h 47 rfl)) (va_Nw.same rfl e (xn_at h 48 rfl)), va_AO.moved (e ▸ Vm.Alike.refl u.vm) h.2.1, va_AO.moved (e ▸ Vm.Alike.refl u.vm) h.2.2.1, va_AO.moved (e ▸ Vm.Alike.refl u.vm) h.2.2.2.1, va_AO.moved (e ▸ Vm.Alike.refl u.vm) h.2.2.2.2.1, va_AO.moved (e ▸ Vm.Alike.refl u.vm) h.2.2.2.2.2⟩
theorem XN.of {A : Array Value} {s : State} (h : ∀ w ∈ lw_tbl, w.before A s = true) : XN s := ⟨xn_all (va_Nw.of rfl (h _ q127)) (va_Nw.of rfl (h _ q136)) (va_Nw.of rfl (h _ q137)) (va_Nw.of rfl (h _ q138)) (va_Nw.of rfl (h _ q139)) (va_Nw.of rfl (h _ q140)) (va_Nw.of rfl (h _ q141)) (va_Nw.of rfl (h _ q142)) (va_Nw.of rfl (h _ q180)) (va_Nw.of rfl (h _ q203)) (va_Nw.of rfl (h _ q205)) (va_Nw.of rfl (h _ q226)) (va_Nw.of rfl (h _ q227)) (va_Nw.of rfl (h _ q230)) (va_Nw.of rfl (h _ q231)) (va_Nw.of rfl (h _ q262)) (va_Nw.of rfl (h _ q265)) (va_Nw.of rfl (h _ q348)) (va_Nw.of rfl (h _ q351)) (va_Nw.of rfl (h _ q353)) (va_Nw.of rfl (h _ q355)) (va_Nw.of rfl (h _ q356)) (va_Nw.of rfl (h _ q358)) (va_Nw.of rfl (h _ q384)) (va_Nw.of rfl (h _ q386)) (va_Nw.of rfl (h _ q387)) (va_Nw.of rfl (h _ q389)) (va_Nw.of rfl (h _ q391)) (va_Nw.of rfl (h _ q424)) (va_Nw.of rfl (h _ q447)) (va_Nw.of rfl (h _ q506)) (va_Nw.of rfl (h _ q511)) (va_Nw.of rfl (h _ q532)) (va_Nw.of rfl (h _ q740)) (va_Nw.of rfl (h _ q745)) (va_Nw.of rfl (h _ q747)) (va_Nw.of rfl (h _ q756)) (va_Nw.of rfl (h _ q760)) (va_Nw.of rfl (h _ q761)) (va_Nw.of rfl (h _ q877)) (va_Nw.of rfl (h _ q914)) (va_Nw.of rfl (h _ q916)) (va_Nw.of rfl (h _ q932)) (va_Nw.of rfl (h _ q933)) (va_Nw.of rfl (h _ q934)) (va_Nw.of rfl (h _ q955)) (va_Nw.of rfl (h _ q1473)) (va_Nw.of rfl (h _ q1474)) (va_Nw.of rfl (h _ q1475)), va_AO.of (h _ q114), va_AO.of (h _ q116), va_AO.of (h _ q270), va_AO.of (h _ q738), va_AO.of (h _ q754)⟩
/-- ops of the abstract heap -/
def hFld (ci : Nat) (h : hH) (a k : Nat) : Option Value := match h a with
  | some (.inr z) => if z.1 = ci then z.2[k]? else none
  | _ => none
def hI (ci : Nat) (h : hH) (a k : Nat) : Option Int32 := match hFld ci h a k with
  | some (.int v) => some v
  | _ => none
def hR (ci : Nat) (h : hH) (a k : Nat) : Option Nat := match hFld ci h a k with
  | some (.ref v) => some v
  | _ => none
def hQ (ci : Nat) (h : hH) (a k : Nat) : Option (Option Nat) := match hFld ci h a k with
  | some (.ref v) => some (some v)
  | some .null => some none
  | _ => none
def hPut (ci : Nat) (h : hH) (a k : Nat) (v : Value) : Option hH := match h a with
  | some (.inr z) => if z.1 = ci ∧ k < z.2.length then some (va_up h a (some (.inr (z.1, z.2.set k v)))) else none
  | _ => none
def hAi (t : Nat) (h : hH) (a : Nat) (i : Int32) : Option Int32 := match h a with
  | some (.inl (t', n, .inl f)) => if t' = t then ec_ag f n i else none
  | _ => none
def hAr (t : Nat) (h : hH) (a : Nat) (i : Int32) : Option Nat := match h a with
  | some (.inl (t', n, .inr f)) => if t' = t ∧ ¬ (i < 0 ∨ n ≤ i.toNatClampNeg) then f i.toNatClampNeg else none
  | _ => none
def hAsI (t : Nat) (h : hH) (a : Nat) (i v : Int32) : Option hH := match h a with
  | some (.inl (t', n, .inl f)) => if t' = t ∧ ¬ (i < 0 ∨ n ≤ i.toNatClampNeg) then some (va_up h a (some (.inl (t, n, .inl (upd f i.toNatClampNeg v))))) else none
  | _ => none
def hLen (t : Nat) (h : hH) (a : Nat) : Option Int32 := match h a with
  | some (.inl (t', n, _)) => if t' = t then some (Int32.ofNat n) else none
  | _ => none
def hObj (ci : Nat) (h : hH) (a : Nat) : Option (List Value) := match h a with
  | some (.inr z) => if z.1 = ci then some z.2 else none
  | _ => none
theorem hFld_i {ci : Nat} {h : hH} {a k : Nat} {v : Value} (e : hFld ci h a k = some v) : ∃ fs : List Value, h a = some (.inr (ci, fs)) ∧ fs[k]? = some v := by
  unfold hFld at e
  split at e
  · rename_i z hz
    by_cases hc : z.1 = ci
    · rw [if_pos hc] at e
      exact ⟨z.2, by rw [hz, ← hc], e⟩
    · rw [if_neg hc] at e; cases e
  · cases e
theorem hI_i {ci : Nat} {h : hH} {a k : Nat} {v : Int32} (e : hI ci h a k = some v) : ∃ fs : List Value, h a = some (.inr (ci, fs)) ∧ fs[k]? = some (.int v) := by
  unfold hI at e
  split at e
  · rename_i w hw
    cases e
    exact hFld_i hw
  · cases e
theorem hR_i {ci : Nat} {h : hH} {a k : Nat} {v : Nat} (e : hR ci h a k = some v) : ∃ fs : List Value, h a = some (.inr (ci, fs)) ∧ fs[k]? = some (.ref v) := by
  unfold hR at e
  split at e
  · rename_i w hw
    cases e
    exact hFld_i hw
  · cases e
theorem hQ_i {ci : Nat} {h : hH} {a k : Nat} {v : Option Nat} (e : hQ ci h a k = some v) : ∃ fs : List Value, h a = some (.inr (ci, fs)) ∧ fs[k]? = some (va_rf v) := by
  unfold hQ at e
  split at e
  · rename_i w hw
    cases e
    exact hFld_i hw
  · rename_i hw
    cases e
    exact hFld_i hw
  · cases e
theorem hPut_i {ci : Nat} {h h1 : hH} {a k : Nat} {v : Value} (e : hPut ci h a k v = some h1) : ∃ fs : List Value, h a = some (.inr (ci, fs)) ∧ k < fs.length ∧ va_up h a (some (.inr (ci, fs.set k v))) = h1 := by
  unfold hPut at e
  split at e
  · rename_i z hz
    by_cases hc : z.1 = ci ∧ k < z.2.length
    · rw [if_pos hc] at e
      refine ⟨z.2, by rw [hz, ← hc.1], hc.2, ?_⟩
      rw [← hc.1]
      exact Option.some.inj e
    · rw [if_neg hc] at e; cases e
  · cases e
theorem hAi_i {t : Nat} {h : hH} {a : Nat} {i v : Int32} (e : hAi t h a i = some v) : ∃ (n : Nat) (f : Nat → Int32), h a = some (.inl (t, n, .inl f)) ∧ vp_in i n ∧ f i.toNatClampNeg = v := by
  unfold hAi at e
  split at e
  · rename_i t' n f hz
    by_cases hc : t' = t
    · rw [if_pos hc] at e
      subst hc
      obtain ⟨h1, h2⟩ := ec_ag_i e
      exact ⟨n, f, hz, h1, h2⟩
    · rw [if_neg hc] at e; cases e
  · cases e
theorem hAr_i {t : Nat} {h : hH} {a : Nat} {i : Int32} {v : Nat} (e : hAr t h a i = some v) : ∃ (n : Nat) (f : Nat → Option Nat), h a = some (.inl (t, n, .inr f)) ∧ vp_in i n ∧ f i.toNatClampNeg = some v := by
  unfold hAr at e
  split at e
  · rename_i t' n f hz
    by_cases hc : t' = t ∧ ¬ (i < 0 ∨ n ≤ i.toNatClampNeg)
    · rw [if_pos hc] at e
      obtain ⟨hc, h2⟩ := hc
      subst hc
      exact ⟨n, f, hz, h2, e⟩
    · rw [if_neg hc] at e; cases e
  · cases e
theorem hAsI_i {t : Nat} {h h1 : hH} {a : Nat} {i v : Int32} (e : hAsI t h a i v = some h1) : ∃ (n : Nat) (f : Nat → Int32), h a = some (.inl (t, n, .inl f)) ∧ vp_in i n ∧ va_up h a (some (.inl (t, n, .inl (upd f i.toNatClampNeg v)))) = h1 := by
  unfold hAsI at e
  split at e
  · rename_i t' n f hz
    by_cases hc : t' = t ∧ ¬ (i < 0 ∨ n ≤ i.toNatClampNeg)
    · rw [if_pos hc] at e
      obtain ⟨hc, h2⟩ := hc
      subst hc
      exact ⟨n, f, hz, h2, Option.some.inj e⟩
    · rw [if_neg hc] at e; cases e
  · cases e
theorem hLen_i {t : Nat} {h : hH} {a : Nat} {v : Int32} (e : hLen t h a = some v) : ∃ (n : Nat) (f : (Nat → Int32) ⊕ (Nat → Option Nat)), h a = some (.inl (t, n, f)) ∧ Int32.ofNat n = v := by
  unfold hLen at e
  split at e
  · rename_i t' n f hz
    by_cases hc : t' = t
    · rw [if_pos hc] at e
      subst hc
      exact ⟨n, f, hz, Option.some.inj e⟩
    · rw [if_neg hc] at e; cases e
  · cases e
theorem hObj_i {ci : Nat} {h : hH} {a : Nat} {fs : List Value} (e : hObj ci h a = some fs) : h a = some (.inr (ci, fs)) := by
  unfold hObj at e
  split at e
  · rename_i z hz
    by_cases hc : z.1 = ci
    · rw [if_pos hc] at e
      cases e
      rw [hz, ← hc]
    · rw [if_neg hc] at e; cases e
  · cases e
/-- what a walk knows of the world -/
def HX (D : va_G) (dA : Nat → ClassId) (F : va_W) (h : hH) (A : Nat → Prop) (s : State) (H : Heap) (locs : List Loc) : Prop := va_K D vwCl (tyX dA) s ∧ XN s ∧ HH D dA F h A H ∧ va_S A s.heap H locs
section HROWS
variable {p : Program} {l : Launch} {e : Env} {R : Room} {s : State} {m : MethodId} {args : Array Value} {below : List Frame} {meth : Method} {c : Code} {H : Heap} {locs : List Loc} {cells slots : Nat} {Q : State → Prop}
variable {cc bytes : ByteArray} {nL maxL pc idx n : Nat} {ls : Array Slot} {rest st As : List Value} {y : MethodName} {ret : Option FieldType} {rm : Room} {own : String}
variable {D : va_G} {dA : Nat → ClassId} {F : va_W} {h h1 : hH} {A : Nat → Prop} {C ref host : String} {T : u_T} {N ci k a t : Nat}
theorem h_getv {v : Value} (X : CallFix p m c cc nL s args lw_all own) (hX : HX D dA F h A s H locs) (hin : ∀ w ∈ u_ws C T N, w ∈ lw_all) (hc : vwCl[ci]? = some (C, T, N)) (hk : k < N) (hlink : Cond.fieldLink own idx ref (T k).2.1 (T k).2.2.1 ∈ lw_all) (hR : (T k).1 = ref) (hv : ∃ fs : List Value, h a = some (.inr (ci, fs)) ∧ fs[k]? = some v) (hdg : decode cc pc = .ok (.getfield idx, 3))
    (kk : W p l e R s m args below meth c H locs cells slots Q (F0 m (pc + 3) ls (v :: rest))) : W p l e R s m args below meth c H locs cells slots Q (F0 m pc ls (.ref a :: rest)) := by
  obtain ⟨fs, e1, e2⟩ := hv
  obtain ⟨hK, -, ⟨L, hi, hP, hD⟩, hS⟩ := hX
  obtain ⟨j, hj⟩ := hh_at hi e1
  exact va_get (D := D) (ci := ci) (v := v) (C := C) (T := T) (N := N) X.1 X.2.1 X.2.2.2.2 hin X.2.2.2.1 hK hP _ (hws_r hj) hc k hk (X.2.2.2.2 _ hlink) (fun x h9 => by rw [hR] at h9; exact h9) e2 hdg kk
theorem h_getvN {v : Value} (X : CallFix p m c cc nL s args lw_all own) (hX : HX D dA F h A s H locs) (hin : ∀ w ∈ u_ws C T N, w ∈ lw_all) (hc : vwCl[ci]? = some (C, T, N)) (hk : k < N) (hlink : va_Nw (Cond.fieldLinkNest own idx ref (T k).2.1 (T k).2.2.1 host) s) (hR : (T k).1 = ref) (hv : ∃ fs : List Value, h a = some (.inr (ci, fs)) ∧ fs[k]? = some v) (hdg : decode cc pc = .ok (.getfield idx, 3))
    (kk : W p l e R s m args below meth c H locs cells slots Q (F0 m (pc + 3) ls (v :: rest))) : W p l e R s m args below meth c H locs cells slots Q (F0 m pc ls (.ref a :: rest)) := by
  obtain ⟨fs, e1, e2⟩ := hv
  obtain ⟨hK, -, ⟨L, hi, hP, hD⟩, hS⟩ := hX
  obtain ⟨j, hj⟩ := hh_at hi e1
  exact va_getN (D := D) (ci := ci) (v := v) (C := C) (T := T) (N := N) X.1 X.2.1 X.2.2.2.2 hin X.2.2.2.1 hK hP _ (hws_r hj) hc k hk (va_Nw.use rfl hlink) (fun x h9 => by rw [hR] at h9; exact h9) e2 hdg kk
theorem h_alen {v : Int32} (X : CallFix p m c cc nL s args lw_all own) (hX : HX D dA F h A s H locs) {ty : FieldType} (ht : (tyX dA)[t]? = some (dA t, ty)) (hv : hLen t h a = some v) (hdg : decode cc pc = .ok (.arraylength, 1))
    (kk : W p l e R s m args below meth c H locs cells slots Q (F0 m (pc + 1) ls (.int v :: rest))) : W p l e R s m args below meth c H locs cells slots Q (F0 m pc ls (.ref a :: rest)) := by
  obtain ⟨n, f, e1, e2⟩ := hLen_i hv
  obtain ⟨hK, -, ⟨L, hi, hP, hD⟩, hS⟩ := hX
  obtain ⟨j, hj⟩ := hh_at hi e1
  cases f with
  | inl f => exact va_alen X.1 X.2.1 hK hP _ t (hws_r hj) ht e2 hdg kk
  | inr f => exact va_alen X.1 X.2.1 hK hP _ t (hws_r hj) ht e2 hdg kk
theorem h_iald {i v : Int32} (X : CallFix p m c cc nL s args lw_all own) (hX : HX D dA F h A s H locs) (hv : hAi 0 h a i = some v) (hdg : decode cc pc = .ok (.iaload, 1))
    (kk : W p l e R s m args below meth c H locs cells slots Q (F0 m (pc + 1) ls (.int v :: rest))) : W p l e R s m args below meth c H locs cells slots Q (F0 m pc ls (.int i :: .ref a :: rest)) := by
  obtain ⟨n, f, e1, e2, e3⟩ := hAi_i hv
  subst e3
  obtain ⟨hK, -, ⟨L, hi, hP, hD⟩, hS⟩ := hX
  obtain ⟨j, hj⟩ := hh_at hi e1
  exact va_iald X.1 X.2.1 hK hP _ 0 (hws_r hj) rfl e2 hdg kk
theorem h_bald {i v : Int32} (X : CallFix p m c cc nL s args lw_all own) (hX : HX D dA F h A s H locs) (hv : hAi 2 h a i = some v) (hdg : decode cc pc = .ok (.baload, 1))
    (kk : W p l e R s m args below meth c H locs cells slots Q (F0 m (pc + 1) ls (.int v :: rest))) : W p l e R s m args below meth c H locs cells slots Q (F0 m pc ls (.int i :: .ref a :: rest)) := by
  obtain ⟨n, f, e1, e2, e3⟩ := hAi_i hv
  subst e3
  obtain ⟨hK, -, ⟨L, hi, hP, hD⟩, hS⟩ := hX
  obtain ⟨j, hj⟩ := hh_at hi e1
  exact va_bald X.1 X.2.1 hK hP _ 2 (hws_r hj) rfl e2 hdg kk
theorem h_aald {i : Int32} {v : Nat} {ty : FieldType} (X : CallFix p m c cc nL s args lw_all own) (hX : HX D dA F h A s H locs) (ht : (tyX dA)[t]? = some (dA t, ty)) (hty : ty.isReference = true) (hv : hAr t h a i = some v) (hdg : decode cc pc = .ok (.aaload, 1))
    (kk : W p l e R s m args below meth c H locs cells slots Q (F0 m (pc + 1) ls (.ref v :: rest))) : W p l e R s m args below meth c H locs cells slots Q (F0 m pc ls (.int i :: .ref a :: rest)) := by
  obtain ⟨n, f, e1, e2, e3⟩ := hAr_i hv
  obtain ⟨hK, -, ⟨L, hi, hP, hD⟩, hS⟩ := hX
  obtain ⟨j, hj⟩ := hh_at hi e1
  have hlt : i.toNatClampNeg < n := Nat.not_le.mp fun q => e2 (Or.inr q)
  exact W.aald (v := .ref v) (ty := ty) X.1 X.2.1 (hP _ _ (hws_r hj)) ((hK.2 t _ ht).1 n (fun j => va_rf (f j))) hty (fun q => by cases q) (by show ¬ (i < 0 ∨ (arrV _ _ _).slots.size ≤ _); rw [arrV_size]; exact e2) (by show (arrV _ _ _).slots[_]? = _; rw [arrV_read _ _ hlt, e3]; rfl) rfl rfl hdg kk
theorem h_putN {v : Value} {ty : FieldType} (ty0 : Nat → FieldType) (hty : ∀ k, k < N → parseFieldDescriptor (T k).2.2.1 = some (ty0 k)) (hnm : ∀ a, a < N → ∀ b, b < N → a ≠ b → (T a).2.1 ≠ (T b).2.1) (X : CallFix p m c cc nL s args lw_all own) (hX : HX D dA F h A s H locs) (hin : ∀ w ∈ u_ws C T N, w ∈ lw_all) (hc : vwCl[ci]? = some (C, T, N)) (hk : k < N) (hlink : va_Nw (Cond.fieldLinkNest own idx ref (T k).2.1 (T k).2.2.1 host) s) (hR : (T k).1 = ref) (hfin : (T k).2.2.2 = false) (hd : parseFieldDescriptor (T k).2.2.1 = some ty) (hn : narrow ty v = v) (hfit : fits ty v = true) (hv : hPut ci h a k v = some h1) (hdg : decode cc pc = .ok (.putfield idx, 3))
    (kk : ∀ (H1 : Heap) (locs1 : List Loc), HX D dA F h1 A s H1 locs1 → W p l e R s m args below meth c H1 locs1 cells slots Q (F0 m (pc + 3) ls rest)) : W p l e R s m args below meth c H locs cells slots Q (F0 m pc ls (v :: .ref a :: rest)) := by
  obtain ⟨fs, e1, e2, e3⟩ := hPut_i hv
  subst e3
  obtain ⟨hK, hN, ⟨L, hi, hP, hD⟩, hS⟩ := hX
  obtain ⟨j, hj⟩ := hh_at hi e1
  exact va_putN (D := D) (ci := ci) (v := v) (ty := ty) (C := C) (T := T) (N := N) X.1 X.2.1 X.2.2.2.2 hin ty0 hty hnm X.2.2.2.1 hK hP hD hS _ (hws_r hj) hc k hk (va_Nw.use rfl hlink) (fun x h9 => by rw [hR] at h9; exact h9) hfin hd hn hfit e2 hdg (fun H1 locs1 hP1 hD1 hS1 => kk H1 locs1 ⟨hK, hN, ⟨_, hIs_set hi hD hj _, by rw [← hws_set]; exact hP1, by rw [← hws_set]; exact hD1⟩, hS1⟩)
theorem h_put {v : Value} {ty : FieldType} (ty0 : Nat → FieldType) (hty : ∀ k, k < N → parseFieldDescriptor (T k).2.2.1 = some (ty0 k)) (hnm : ∀ a, a < N → ∀ b, b < N → a ≠ b → (T a).2.1 ≠ (T b).2.1) (X : CallFix p m c cc nL s args lw_all own) (hX : HX D dA F h A s H locs) (hin : ∀ w ∈ u_ws C T N, w ∈ lw_all) (hc : vwCl[ci]? = some (C, T, N)) (hk : k < N) (hlink : Cond.fieldLink own idx ref (T k).2.1 (T k).2.2.1 ∈ lw_all) (hR : (T k).1 = ref) (hfin : (T k).2.2.2 = false) (hd : parseFieldDescriptor (T k).2.2.1 = some ty) (hn : narrow ty v = v) (hfit : fits ty v = true) (hv : hPut ci h a k v = some h1) (hdg : decode cc pc = .ok (.putfield idx, 3))
    (kk : ∀ (H1 : Heap) (locs1 : List Loc), HX D dA F h1 A s H1 locs1 → W p l e R s m args below meth c H1 locs1 cells slots Q (F0 m (pc + 3) ls rest)) : W p l e R s m args below meth c H locs cells slots Q (F0 m pc ls (v :: .ref a :: rest)) := by
  obtain ⟨fs, e1, e2, e3⟩ := hPut_i hv
  subst e3
  obtain ⟨hK, hN, ⟨L, hi, hP, hD⟩, hS⟩ := hX
  obtain ⟨j, hj⟩ := hh_at hi e1
  exact va_put (D := D) (ci := ci) (v := v) (ty := ty) (C := C) (T := T) (N := N) X.1 X.2.1 X.2.2.2.2 hin ty0 hty hnm X.2.2.2.1 hK hP hD hS _ (hws_r hj) hc k hk (X.2.2.2.2 _ hlink) (fun x h9 => by rw [hR] at h9; exact h9) hfin hd hn hfit e2 hdg (fun H1 locs1 hP1 hD1 hS1 => kk H1 locs1 ⟨hK, hN, ⟨_, hIs_set hi hD hj _, by rw [← hws_set]; exact hP1, by rw [← hws_set]; exact hD1⟩, hS1⟩)
theorem h_iast {i v : Int32} (X : CallFix p m c cc nL s args lw_all own) (hX : HX D dA F h A s H locs) (hv : hAsI 0 h a i v = some h1) (hdg : decode cc pc = .ok (.iastore, 1))
    (kk : ∀ (H1 : Heap) (locs1 : List Loc), HX D dA F h1 A s H1 locs1 → W p l e R s m args below meth c H1 locs1 cells slots Q (F0 m (pc + 1) ls rest)) : W p l e R s m args below meth c H locs cells slots Q (F0 m pc ls (.int v :: .int i :: .ref a :: rest)) := by
  obtain ⟨n, f, e1, e2, e3⟩ := hAsI_i hv
  subst e3
  obtain ⟨hK, hN, ⟨L, hi, hP, hD⟩, hS⟩ := hX
  obtain ⟨j, hj⟩ := hh_at hi e1
  exact va_iast X.1 X.2.1 hK hP hD hS _ 0 (hws_r hj) rfl e2 hdg (fun H1 locs1 hP1 hD1 hS1 => kk H1 locs1 ⟨hK, hN, ⟨_, hIs_set hi hD hj _, by rw [← hws_set]; exact hP1, by rw [← hws_set]; exact hD1⟩, hS1⟩)
/-- a method that takes the abstract heap alone and only reads: start, call, contract -/
def HPre (D : va_G) (dA : Nat → ClassId) (h : hH) (as : List Value) : Array Value → State → Prop := fun a U => a = as.toArray ∧ va_K D vwCl (tyX dA) U ∧ XN U ∧ HH D dA [] h (fun _ => True) U.heap
theorem HPre.blind {as : List Value} : FrameBlind (HPre D dA h as) := fun a U g mk z => ⟨z.1, va_K.moved (u := U) (U := U.calling g mk a) (Vm.Alike.refl U.vm) z.2.1, XN.same (u := U) rfl z.2.2.1, z.2.2.2⟩
theorem h_recv {fs : List Value} (hX : HX D dA F h A s H locs) (hc : vwCl[ci]? = some (C, T, N)) (e1 : h a = some (.inr (ci, fs))) : ∃ cell : Cell, H[a]? = some cell ∧ cell.vm.isStatics = false ∧ s.vm.findClass C = some cell.cls := by
  obtain ⟨hK, -, ⟨L, hi, hP, hD⟩, hS⟩ := hX
  obtain ⟨j, hj⟩ := hh_at hi e1
  exact va_recv hK hP hc (hws_r hj)
theorem h_pre {fs : List Value} (hX : HX D dA F h A s H locs) (hc : vwCl[ci]? = some (C, T, N)) (e1 : h a = some (.inr (ci, fs))) : PreV s H C a (HPre D dA h (.ref a :: As)) As :=
  ⟨HPre.blind, h_recv hX hc e1, fun U hU hW => ⟨rfl, va_K.moved hW.alike hX.1, XN.warm hW hX.2.1, by rw [hU]; exact (hX.2.2.1.drop).weaken (fun _ _ => trivial)⟩⟩
theorem h_cR {v : Value} {fs : List Value} (X : CallFix p m c cc nL s args lw_all own) (hX : HX D dA F h A s H locs) (hc : vwCl[ci]? = some (C, T, N)) (ho : hObj ci h a = some fs) (hmet : Met l y (ws_ y bytes maxL ret) rm (HPre D dA h (.ref a :: As)) (k2_QcV v) 0 0 (fun _ => False)) (cw : CallW R s args own C idx y bytes maxL ret (ws_ y bytes maxL ret) rm 0 0 n)
    (hn : As.length = n) (hsize : ls.size = nL) (hst : st = As.reverse ++ .ref a :: rest) (hroom : (rest.map fun v => v.category).sum ≤ 8) (hcs : cells ≤ R.cells ∧ slots ≤ R.slots) (hdg : decode cc pc = .ok (.invokevirtual idx, 3)) (kk : W p l e R s m args below meth c H locs cells slots Q (F0 m (pc + 3) ls (v :: rest))) : W p l e R s m args below meth c H locs cells slots Q (F0 m pc ls st) := by
  subst hst
  exact W.callV (r := v) (W.runV (As := As) (rest := rest) X hmet cw (h_pre hX hc (hObj_i ho)) rfl hn hsize rfl (lv_room hroom) hdg hcs) kk
theorem h_ofR {v : Value} (hc : y.cls = own) (hpl : plainName own = true) (hlen : (lg_sl As).length ≤ maxL)
    (body : ∀ (p : Program) (e : Env) (s : State) (m : MethodId) (args : Array Value) (below : List Frame) (meth : Method) (c : Code), CallFix p m c bytes maxL s args lw_all own → meth.sig.returnType = ret → meth.locks = false → HX D dA [] h (fun _ => True) s s.heap [] → ∀ ls : Array Slot, lv_has ls maxL (lv_args 0 As) → W p l e rm s m args below meth c s.heap [] 0 0 (MQ below (k2_QcV v) args s 0 0 (fun _ => False)) (F0 m 0 ls [])) :
    Met l y (ws_ y bytes maxL ret) rm (HPre D dA h As) (k2_QcV v) 0 0 (fun _ => False) := by
  refine Met.ofW (cc := bytes) (maxL := maxL) (ret := ret) (by rw [hc]; exact hpl) rfl ?_
  intro p e s m args below meth c s₁ B hml hv
  have hts := atoms_spec (ws := ws_ y bytes maxL ret) B.pre
  have hts : ∀ w ∈ lw_all, w.before _ s = true := fun w h => hts w (List.mem_cons_of_mem _ h)
  have hl := lv_entry As hlen
  have hown := findClass_of_methodNamed B.named
  rw [hc] at hown
  obtain ⟨rfl, hK, hN, hh⟩ := hv
  rw [lg_entry_eq]
  exact body p e s m _ below meth c ⟨B.exec, B.bytes, hml, hown, hts⟩ B.returns B.notSynchronized ⟨hK, hN, hh, va_S.rf⟩ _ hl
end HROWS
