/-! ARRAYS OF ARRAYS of ints, made in one instruction -/
set_option maxRecDepth 100000
def mO (cA : ClassId) (N h0 i : Nat) : Cell := arrV cA N (fun j => va_rf (if j < i then some (h0 + 1 + j) else none))
def mW (T : State) (cA comp : ClassId) (N M : Nat) : Nat → State
  | 0 => T.pushCell (mO cA N T.heap.size 0)
  | i + 1 => ((mW T cA comp N M i).pushCell (arrV comp M (fun _ => .int 0))).setCell T.heap.size (mO cA N T.heap.size (i + 1))
theorem mO_0 (cA : ClassId) (N h0 : Nat) : mO cA N h0 0 = { cls := cA, slots := Array.replicate N .null, vm := .none } := by
  rw [arrV_new]
  unfold mO
  congr 1
theorem mO_set (cA : ClassId) (N h0 i : Nat) : (mO cA N h0 i).setSlot i (.ref (h0 + 1 + i)) = mO cA N h0 (i + 1) := by
  unfold mO
  rw [arrV_store]
  congr 1
  funext j
  unfold updV
  by_cases hj : j = i
  · subst hj
    rw [if_pos rfl, if_pos (Nat.lt_succ_self j)]
    rfl
  · rw [if_neg hj]
    dsimp only
    by_cases hl : j < i
    · rw [if_pos hl, if_pos (Nat.lt_succ_of_lt hl)]
    · rw [if_neg hl, if_neg (by omega)]
theorem mW_facts (T : State) (cA comp : ClassId) (N M : Nat) : ∀ i, (mW T cA comp N M i).heap.size = T.heap.size + 1 + i ∧ (mW T cA comp N M i).heap[T.heap.size]? = some (mO cA N T.heap.size i) ∧ (mW T cA comp N M i).vm = T.vm ∧ (mW T cA comp N M i).slotsUsed = T.slotsUsed + N + i * M ∧
    (∀ x : Nat, x < T.heap.size → (mW T cA comp N M i).heap[x]? = T.heap[x]?) ∧ ∀ j, j < i → (mW T cA comp N M i).heap[T.heap.size + 1 + j]? = some (arrV comp M (fun _ => .int 0))
  | 0 => ⟨by simp [mW], by simp [mW], rfl, by simp [mW, mO, arrV_size], fun x hx => State.heap_pushCell_of_lt _ _ hx, fun j hj => absurd hj (Nat.not_lt_zero j)⟩
  | i + 1 => by
    obtain ⟨a1, a2, a3, a4, a5, a6⟩ := mW_facts T cA comp N M i
    have hlt : T.heap.size < (mW T cA comp N M i).heap.size := by omega
    have hb' : ((mW T cA comp N M i).pushCell (arrV comp M (fun _ => .int 0))).heap[T.heap.size]? = some (mO cA N T.heap.size i) := by rw [State.heap_pushCell_of_lt (h := hlt)]; exact a2
    refine ⟨by simp [mW, State.setCell, a1]; omega, State.heap_setCell_self hb', by simp [mW, a3], by simp [mW, a4, arrV_size, Nat.succ_mul]; omega, fun x hx => ?_, fun j hj => ?_⟩
    · show (((mW T cA comp N M i).pushCell _).setCell T.heap.size _).heap[x]? = _
      have hlt2 : x < (mW T cA comp N M i).heap.size := Nat.lt_trans hx hlt
      rw [State.heap_setCell_other (Nat.ne_of_gt hx), State.heap_pushCell_of_lt (h := hlt2)]
      exact a5 x hx
    · show (((mW T cA comp N M i).pushCell _).setCell T.heap.size _).heap[T.heap.size + 1 + j]? = _
      rw [State.heap_setCell_other (show T.heap.size ≠ T.heap.size + 1 + j by omega)]
      by_cases hji : j < i
      · have hlt2 : T.heap.size + 1 + j < (mW T cA comp N M i).heap.size := by rw [a1]; omega
        rw [State.heap_pushCell_of_lt (h := hlt2)]
        exact a6 j hji
      · have e : j = i := by omega
        subst e
        rw [← a1]
        exact State.heap_pushCell_size _ _
theorem mW_setTop (T : State) (f : JFrame) (cA comp : ClassId) (N M : Nat) : ∀ i, mW (T.setTop f) cA comp N M i = (mW T cA comp N M i).setTop f
  | 0 => rfl
  | i + 1 => by simp only [mW, mW_setTop T f cA comp N M i, State.heap_setTop, State.pushCell_setTop, State.setCell_setTop]
section MROWS
variable {p : Program} {l : Launch} {e : Env} {R : Room} {s : State} {m : MethodId} {args : Array Value} {below : List Frame} {meth : Method} {c : Code} {H : Heap} {locs : List Loc} {u w : Nat} {Q : State → Prop}
variable {cc : ByteArray} {nL pc idx : Nat} {ls : Array Slot} {rest : List Value} {own : String} {D : va_G} {dA : Nat → ClassId} {S : hH} {A : Nat → Prop} {F : va_W} {T : State}
theorem mW_stand (X : Stand p l e R s m args below meth c T locs u w) (cA comp : ClassId) (N M : Nat) : ∀ i, Stand p l e R s m args below meth c (mW T cA comp N M i) (locs ++ (List.range i).map (fun j => (⟨T.heap.size, j⟩ : Loc))) (u + 1 + i) (w + N + i * M)
  | 0 => by
    have h := X.pushed (mO cA N T.heap.size 0)
    rw [show (mO cA N T.heap.size 0).slots.size = N from arrV_size _ _ _] at h
    simpa [mW] using h
  | i + 1 => by
    have Xi := mW_stand X cA comp N M i
    obtain ⟨a1, a2, -⟩ := mW_facts T cA comp N M i
    have hlt : T.heap.size < (mW T cA comp N M i).heap.size := by omega
    have hcell : ((mW T cA comp N M i).pushCell (arrV comp M (fun _ => .int 0))).heap[T.heap.size]? = some (mO cA N T.heap.size i) := by rw [State.heap_pushCell_of_lt (h := hlt)]; exact a2
    have h := (Xi.pushed (arrV comp M (fun _ => .int 0))).stored hcell i (.ref (T.heap.size + 1 + i))
    rw [arrV_size, mO_set] at h
    have e2 : (locs ++ (List.range (i + 1)).map fun j => (⟨T.heap.size, j⟩ : Loc)) = (locs ++ (List.range i).map fun j => (⟨T.heap.size, j⟩ : Loc)) ++ [⟨T.heap.size, i⟩] := by simp [List.range_succ, List.append_assoc]
    rw [e2, show w + N + (i + 1) * M = w + N + i * M + M by rw [Nat.succ_mul]; omega]
    exact h
theorem m_newA {E : CtlPost} {d : Bool} {acts : List Action} {S0 : State} {c0 comp : ClassId} {k : Class} {type : FieldType} {len : Nat} {init : Value} (hk : S0.vm.classes[c0]? = some k) (hkind : k.kind = .array comp type) (hlimit : ¬ len > e.platform.arrayLengthLimit) (hheap : ¬ len * componentBytes type > e.platform.maxHeapBytes) (hfit : fits type init = true) {Qw : Addr → Pre}
    (h1 : S0.heap.size < e.platform.maxCells) (h2 : S0.slotsUsed + len ≤ e.platform.maxSlots) (hq : ∀ acts', Qw S0.heap.size d acts' (S0.pushCell (arrV c0 len (fun _ => init)))) : wp (Jvm.newArray c0 len init) Qw E e d acts S0 := by
  refine W.newArray_of hk hkind hlimit hheap h1 h2 hfit (fun acts' => ?_)
  rw [show ({ cls := c0, slots := Array.replicate len init } : Cell) = arrV c0 len (fun _ => init) from arrV_new c0 len init]
  exact hq acts'
set_option maxHeartbeats 1000000 in
theorem v_multi (X : Stand p l e R s m args below meth c T locs u w) (hexec : p.tables.exec = Jvm.exec) {index N M : Nat} {cA comp cc0 : ClassId} {kA kC : Class} (hown : s.vm.findClass own = some m.cls) (hlink : (Cond.classLink own index "[[I").before args s = true) (hA : s.vm.findClass "[[I" = some cA) (hkA : s.vm.classes[cA]? = some kA) (hkindA : kA.kind = .array comp (.array .int)) (hkC : s.vm.classes[comp]? = some kC) (hkindC : kC.kind = .array cc0 .int)
    {a b : Int32} (ha : ¬ a < 0) (hb : ¬ b < 0) (hN : a.toNatClampNeg = N) (hM : b.toNatClampNeg = M) (hsm : N ≤ 1000 ∧ M ≤ 1000) (hcells : u + (1 + N) ≤ R.cells) (hslots : w + (N + N * M) ≤ R.slots)
    {g : JFrame} (hg : g.method = m) (hstack : g.stack = .int b :: .int a :: rest) (hdg : decode c.code g.pc = .ok (.multianewarray index 2, 4)) :
    ∃ vm₁ : Vm, s.WarmedH vm₁ ∧ Stand p l e R s m args below meth c (mW (T.setVm vm₁) cA comp N M N) (locs ++ (List.range N).map (fun j => (⟨T.heap.size, j⟩ : Loc))) (u + 1 + N) (w + N + N * M) ∧
      ∀ target, Steps p.tables e below ((mW (T.setVm vm₁) cA comp N M N).setTop { g with pc := g.pc + 4, stack := .ref T.heap.size :: rest }) target → Steps p.tables e below (T.setTop g) target := by
  subst hg
  subst hN
  subst hM
  have hpl : e.platform.magicAccessors = ({} : Platform).magicAccessors := by rw [X.admits.platform]
  obtain ⟨c0, hfc0, hcl⟩ := Cond.classLink_spec hown hlink e.platform hpl
  cases hA.symm.trans hfc0
  obtain ⟨hg₁, hwarm₁, hready₁⟩ := State.classEntry (e := e) X.warmed hcl
  generalize T.vm.noted g.method.cls index (.cls cA) = vm₁ at hg₁ hwarm₁ hready₁
  obtain ⟨kA₁, hkA₁, heA⟩ := hwarm₁.alike.2.2 _ _ hkA
  obtain ⟨kC₁, hkC₁, heC⟩ := hwarm₁.alike.2.2 _ _ hkC
  have hkindA₁ : kA₁.kind = .array comp (.array .int) := by rw [heA]; exact hkindA
  have hkindC₁ : kC₁.kind = .array cc0 .int := by rw [heC]; exact hkindC
  have X₁ := X.noted hwarm₁
  obtain ⟨hr1, hr2⟩ := X.roomAbove hcells hslots
  have XF := mW_stand X₁ cA comp a.toNatClampNeg b.toNatClampNeg a.toNatClampNeg
  refine ⟨vm₁, hwarm₁, XF, fun target hrest => ?_⟩
  have hl1 : ¬ a.toNatClampNeg > e.platform.arrayLengthLimit := by rw [Launch.admits_arrayLengthLimit X.admits]; omega
  have hh1 : ¬ a.toNatClampNeg * componentBytes (.array .int) > e.platform.maxHeapBytes := by
    rw [Launch.admits_maxHeapBytes X.admits]; show ¬ a.toNatClampNeg * 4 > 536870912; omega
  have hl2 : ¬ b.toNatClampNeg > e.platform.arrayLengthLimit := by rw [Launch.admits_arrayLengthLimit X.admits]; omega
  have hh2 : ¬ b.toNatClampNeg * componentBytes .int > e.platform.maxHeapBytes := by rw [Launch.admits_maxHeapBytes X.admits]; show ¬ b.toNatClampNeg * 4 > 536870912; omega
  jvm_step X.here [hexec, hdg]
  simp only [Op.multianewarray.sem, wp_bind', W.resolveClassAt_links (State.method?_setTop g X.here.top) hg₁]
  rw [W.popN, if_neg (by decide)]
  refine ⟨g, State.topJava?_setTop' (s := T.setVm vm₁) g X.here.top, [.int a, .int b], rest, rfl, hstack, ?_⟩
  simp only [List.mapM_cons, List.mapM_nil, wp_bind', wp_pure']
  have eS : ((T.setTop g).setVm vm₁).setTop { g with stack := rest } = (T.setVm vm₁).setTop { g with stack := rest } := by
    show ((T.setVm vm₁).setTop g).setTop _ = _
    rw [State.setTop_setTop]
  rw [eS]
  have hfind : ([b].find? (· < 0)) = none := by simp [hb]
  rw [Op.multianewarray.make]
  simp only [wp_bind', W.ite, ha, if_false, wp_pure', W.theClass, State.vm_setTop, State.vm_setVm, hkA₁, hkindA₁, Option.some.injEq, exists_eq_left']
  refine m_newA (k := kA₁) hkA₁ hkindA₁ hl1 hh1 rfl (by show T.heap.size < _; omega) (by show T.slotsUsed + _ ≤ _; have := Nat.zero_le (a.toNatClampNeg * b.toNatClampNeg); omega) (fun acts' => ?_)
  simp only [hfind]
  rw [ite_self, wp_bind', Std.Legacy.Range.forIn_eq_forIn_range']
  have hsz : ([:a.toNatClampNeg] : Std.Legacy.Range).size = a.toNatClampNeg := by simp [Std.Legacy.Range.size]
  rw [hsz]
  show wp (forIn (List.range' 0 a.toNatClampNeg 1) PUnit.unit _) _ _ e _ _ _
  have key : ∀ i, (mW ((T.setVm vm₁).setTop { g with stack := rest }) cA comp a.toNatClampNeg b.toNatClampNeg i) = (mW (T.setVm vm₁) cA comp a.toNatClampNeg b.toNatClampNeg i).setTop { g with stack := rest } := mW_setTop _ _ _ _ _ _
  refine wp_forIn_inv (fun rs s' => ∃ i, i ≤ a.toNatClampNeg ∧ rs = List.range' i (a.toNatClampNeg - i) ∧ s' = (mW (T.setVm vm₁) cA comp a.toNatClampNeg b.toNatClampNeg i).setTop { g with stack := rest }) _ _ ⟨0, Nat.zero_le _, rfl, ?_⟩ ?_ ?_
  · show ((T.setVm vm₁).setTop _).pushCell _ = _
    rw [State.pushCell_setTop]
    congr 1
  · rintro x rs s' d' acts' Q' ⟨i, hi, hl, rfl⟩ hnext
    have hlt : i < a.toNatClampNeg := by
      rcases Nat.lt_or_ge i a.toNatClampNeg with h | h
      · exact h
      · rw [show a.toNatClampNeg - i = 0 from by omega] at hl; simp at hl
    obtain ⟨rfl, hrs⟩ : x = i ∧ rs = List.range' (i + 1) (a.toNatClampNeg - (i + 1)) := by
      rw [show a.toNatClampNeg - i = (a.toNatClampNeg - (i + 1)) + 1 from by omega, List.range'_succ] at hl
      exact ⟨(List.cons.inj hl).1, (List.cons.inj hl).2⟩
    obtain ⟨f1, f2, f3, f4, -⟩ := mW_facts (T.setVm vm₁) cA comp a.toNatClampNeg b.toNatClampNeg x
    have f1 : (mW (T.setVm vm₁) cA comp a.toNatClampNeg b.toNatClampNeg x).heap.size = T.heap.size + 1 + x := f1
    have f4 : (mW (T.setVm vm₁) cA comp a.toNatClampNeg b.toNatClampNeg x).slotsUsed = T.slotsUsed + a.toNatClampNeg + x * b.toNatClampNeg := f4
    have hmul : x * b.toNatClampNeg + b.toNatClampNeg ≤ a.toNatClampNeg * b.toNatClampNeg := by
      have := Nat.mul_le_mul_right b.toNatClampNeg (show x + 1 ≤ a.toNatClampNeg from hlt)
      rw [Nat.succ_mul] at this; exact this
    simp only [wp_bind']
    rw [Op.multianewarray.make]
    simp only [wp_bind', W.ite, hb, if_false, wp_pure', W.theClass, State.vm_setTop, f3, State.vm_setVm, hkC₁, hkindC₁, Option.some.injEq, exists_eq_left']
    refine m_newA (k := kC₁) (by rw [State.vm_setTop, f3]; exact hkC₁) hkindC₁ hl2 hh2 rfl (by rw [State.heap_setTop, f1]; omega) (by rw [State.slotsUsed_setTop, f4]; omega) (fun acts2 => ?_)
    have hlt0 : T.heap.size < (mW (T.setVm vm₁) cA comp a.toNatClampNeg b.toNatClampNeg x).heap.size := by rw [f1]; omega
    simp only [wp_bind', W.writeLoc, wp_pure']
    refine ⟨mO cA a.toNatClampNeg T.heap.size x, ?_, (fun hq => by cases hq), (by unfold mO; rw [arrV_size]; exact hlt), ?_, hnext _ _ _ ⟨x + 1, hlt, hrs, ?_⟩⟩
    · rw [State.pushCell_setTop, State.heap_setTop]
      show ((mW (T.setVm vm₁) cA comp a.toNatClampNeg b.toNatClampNeg x).pushCell _).heap[T.heap.size]? = _
      rw [State.heap_pushCell_of_lt (h := hlt0)]; exact f2
    · show State.fitsSlot _ cA .none x _ = true
      simp [State.fitsSlot, State.slotType?, f3, hkA₁, hkindA₁]
      rfl
    · simp only [State.pushCell_setTop, State.setCell_setTop, State.heap_setTop]
      rw [f1, mO_set]
      rfl
  · rintro s' d' acts' ⟨i, hi, hl, rfl⟩
    have hiN : i = a.toNatClampNeg := by
      rcases Nat.lt_or_ge i a.toNatClampNeg with h | h
      · rw [show a.toNatClampNeg - i = (a.toNatClampNeg - (i + 1)) + 1 from by omega, List.range'_succ] at hl; cases hl
      · omega
    subst hiN
    simp only [wp_pure', wp_bind', W.mark, W.pushRef, State.topJava?_setTop' _ XF.here.top, Option.some.injEq, exists_eq_left', State.setTop_setTop, State.heap_setTop]
    intro acts
    simp [jvm, XF.here.top]
    exact hrest
/-- the abstract heap with an array of N arrays of M ints at q, q + 1 .. q + N -/
def mUp (S : hH) (q N M : Nat) : hH := fun a => if a = q then some (.inl (9, N, .inr (fun j => if j < N then some (q + 1 + j) else none))) else if q < a ∧ a ≤ q + N then some (.inl (0, M, .inl (fun _ => 0))) else S a
def MK (dA : Nat → ClassId) (U : State) : Prop := ∃ kA : Class, U.vm.classes[dA 9]? = some kA ∧ kA.kind = .array (dA 0) (.array .int)
theorem MK.moved {U U' : State} (hvm : U.vm.Alike U'.vm) (h : MK dA U) : MK dA U' := by
  obtain ⟨k, h1, h2⟩ := h
  obtain ⟨k', hk', he⟩ := hvm.2.2 _ _ h1
  exact ⟨k', hk', by rw [he]; exact h2⟩
theorem n_multi {a b : Int32} {N M : Nat} (X : CallFix p m c cc nL s args lw_all own) (hM : HX D dA F S A s H locs) (hA : ∀ x, s.heap.size ≤ x → A x) (hk : MK dA s) (hlink : Cond.classLink own idx "[[I" ∈ lw_all) (ha : ¬ a < 0) (hb : ¬ b < 0) (hN : a.toNatClampNeg = N) (hMM : b.toNatClampNeg = M) (hsm : N ≤ 1000 ∧ M ≤ 1000) (hcells : u + (1 + N) ≤ R.cells) (hslots : w + (N + N * M) ≤ R.slots) (hdg : decode cc pc = .ok (.multianewarray idx 2, 4))
    (kk : ∀ (q : Nat) (H1 : Heap) (locs1 : List Loc), (∀ z, q ≤ z → S z = none) → HX D dA F (mUp S q N M) A s H1 locs1 → W p l e R s m args below meth c H1 locs1 (u + (1 + N)) (w + (N + N * M)) Q (F0 m (pc + 4) ls (.ref q :: rest))) : W p l e R s m args below meth c H locs u w Q (F0 m pc ls (.int b :: .int a :: rest)) := by
  intro T hT XS
  obtain ⟨hK, hNw, ⟨L, hi, hP, hD⟩, hS⟩ := hM
  obtain ⟨kA, hk1, hk2⟩ := hk
  obtain ⟨-, kC, hkC, comp0, hkindC⟩ := (hK.2 0 _ rfl).1 0 (fun _ => .int 0)
  have hkC : s.vm.classes[dA 0]? = some kC := hkC
  obtain ⟨vm₁, hW, XV, go⟩ := v_multi XS X.1 (N := N) (M := M) X.2.2.2.1 (X.2.2.2.2 _ hlink) (hK.2 9 _ rfl).2 hk1 hk2 hkC hkindC ha hb hN hMM hsm hcells hslots (g := F0 m pc ls (.int b :: .int a :: rest)) rfl (rest := rest) rfl (by rw [X.2.1]; exact hdg)
  obtain ⟨f1, f2, -, -, f5, f6⟩ := mW_facts (T.setVm vm₁) (dA 9) (dA 0) N M N
  generalize mW (T.setVm vm₁) (dA 9) (dA 0) N M N = U at XV go f1 f2 f5 f6
  have hTs : (T.setVm vm₁).heap = H := hT
  rw [hTs] at f1 f2 f5 f6
  have hfree : ∀ z, H.size ≤ z → S z = none := fun z hz => by
    cases h : S z with
    | none => rfl
    | some x =>
      obtain ⟨j, hj⟩ := hh_at hi h
      exact absurd (hP _ _ (hws_r hj)).lt (by show ¬ z < H.size; omega)
  have hnew : ∀ j, j < N + 1 → ∃ x, (((H.size, (.inl (9, N, .inr (fun j => if j < N then some (H.size + 1 + j) else none)) : hC)) :: (List.range N).map (fun j => (H.size + 1 + j, (.inl (0, M, .inl (fun _ => 0)) : hC))))[j]? = some x) ∧ x.1 = H.size + j := fun j hj => by
    cases j with
    | zero => exact ⟨_, rfl, rfl⟩
    | succ j =>
      refine ⟨(H.size + 1 + j, .inl (0, M, .inl (fun _ => 0))), ?_, by show H.size + 1 + j = _; omega⟩
      rw [List.getElem?_cons_succ, List.getElem?_map, List.getElem?_range (by omega)]
      rfl
  have hM2 : HX D dA F (mUp S H.size N M) A s U.heap (locs ++ (List.range N).map (fun j => (⟨T.heap.size, j⟩ : Loc))) := by
    refine ⟨hK, hNw, ⟨L ++ ((H.size, .inl (9, N, .inr (fun j => if j < N then some (H.size + 1 + j) else none))) :: (List.range N).map (fun j => (H.size + 1 + j, .inl (0, M, .inl (fun _ => 0))))), ?_, ?_, ?_⟩, ?_, ?_, ?_⟩
    · intro z x
      unfold mUp
      by_cases h1 : z = H.size
      · subst h1
        rw [if_pos rfl]
        constructor
        · intro h
          cases h
          exact List.mem_append_right _ List.mem_cons_self
        · intro h
          rcases List.mem_append.mp h with h | h
          · have := (hi _ _).mpr h
            rw [hfree _ (Nat.le_refl _)] at this
            cases this
          · rcases List.mem_cons.mp h with h | h
            · cases h; rfl
            · obtain ⟨j, -, hj⟩ := List.mem_map.mp h
              have := congrArg Prod.fst hj
              simp only at this
              omega
      · rw [if_neg h1]
        by_cases h2 : H.size < z ∧ z ≤ H.size + N
        · rw [if_pos h2]
          constructor
          · intro h
            cases h
            exact List.mem_append_right _ (List.mem_cons_of_mem _ (List.mem_map.mpr ⟨z - H.size - 1, List.mem_range.mpr (by omega), by rw [show H.size + 1 + (z - H.size - 1) = z by omega]⟩))
          · intro h
            rcases List.mem_append.mp h with h | h
            · have := (hi _ _).mpr h
              rw [hfree _ (by omega)] at this
              cases this
            · rcases List.mem_cons.mp h with h | h
              · exact absurd (congrArg Prod.fst h) h1
              · obtain ⟨j, -, hj⟩ := List.mem_map.mp h
                cases hj
                rfl
        · rw [if_neg h2, hi z x]
          constructor
          · exact fun h => List.mem_append_left _ h
          · intro h
            rcases List.mem_append.mp h with h | h
            · exact h
            · rcases List.mem_cons.mp h with h | h
              · exact absurd (congrArg Prod.fst h) h1
              · obtain ⟨j, hj0, hj⟩ := List.mem_map.mp h
                have h3 := congrArg Prod.fst hj
                simp only at h3
                have := List.mem_range.mp hj0
                exact absurd ⟨by omega, by omega⟩ h2
    · rw [show hws dA F (L ++ ((H.size, .inl (9, N, .inr (fun j => if j < N then some (H.size + 1 + j) else none))) :: (List.range N).map (fun j => (H.size + 1 + j, .inl (0, M, .inl (fun _ => 0)))))) = hws dA F L ++ ((H.size, .inl (9, N, .inr (fun j => if j < N then some (H.size + 1 + j) else none))) :: (List.range N).map (fun j => (H.size + 1 + j, (.inl (0, M, .inl (fun _ => 0)) : hC)))).map (fun z => (z.1, hcv dA z.2)) by unfold hws; rw [List.map_append, List.append_assoc]]
      refine va_P.app (fun k z hz => (hP k z hz).kept (f5 _ (hP k z hz).lt)) (fun k z hz => ?_)
      cases k with
      | zero =>
        cases hz
        exact f2
      | succ k =>
        rw [List.map_cons, List.getElem?_cons_succ, List.map_map, List.getElem?_map] at hz
        have hkN : k < N := by
          by_cases hk : k < N
          · exact hk
          · rw [List.getElem?_eq_none (by rw [List.length_range]; omega)] at hz; cases hz
        rw [List.getElem?_range hkN] at hz
        cases hz
        exact f6 k hkN
    · rw [show hws dA F (L ++ ((H.size, .inl (9, N, .inr (fun j => if j < N then some (H.size + 1 + j) else none))) :: (List.range N).map (fun j => (H.size + 1 + j, .inl (0, M, .inl (fun _ => 0)))))) = hws dA F L ++ ((H.size, .inl (9, N, .inr (fun j => if j < N then some (H.size + 1 + j) else none))) :: (List.range N).map (fun j => (H.size + 1 + j, (.inl (0, M, .inl (fun _ => 0)) : hC)))).map (fun z => (z.1, hcv dA z.2)) by unfold hws; rw [List.map_append, List.append_assoc]]
      have hat : ∀ (k : Nat) (z : Nat × va_E), ((((H.size, .inl (9, N, .inr (fun j => if j < N then some (H.size + 1 + j) else none))) :: (List.range N).map (fun j => (H.size + 1 + j, (.inl (0, M, .inl (fun _ => 0)) : hC)))).map (fun z => (z.1, hcv dA z.2)))[k]? = some z) → z.1 = H.size + k := fun k z hz => by
        have hk : k < N + 1 := by
          have := (List.getElem?_eq_some_iff.mp hz).1
          simpa using this
        obtain ⟨x, h1, h2⟩ := hnew k hk
        rw [List.getElem?_map, h1] at hz
        cases hz
        exact h2
      refine va_D.app hD ⟨fun i j x y hx hy hxy => ?_, fun k z hz => hA _ (by rw [hat k z hz]; exact Nat.le_trans hS.1 (Nat.le_add_right _ _))⟩ (fun i j x y hx hy hxy => ?_)
      · have h1 := hat i x hx
        have h2 := hat j y hy
        omega
      · have h1 := (hP i x hx).lt
        have h2 := hat j y hy
        omega
    · exact Nat.le_trans hS.1 (by omega)
    · intro q h1 h2
      rw [f5 q (Nat.lt_of_lt_of_le h1 hS.1)]
      exact hS.2.1 q h1 h2
    · intro y hy
      rcases List.mem_append.mp hy with h | h
      · exact hS.2.2 y h
      · obtain ⟨j, -, rfl⟩ := List.mem_map.mp h
        exact hA _ (by show s.heap.size ≤ T.heap.size; rw [hT]; exact hS.1)
  have XV2 : Stand p l e R s m args below meth c U (locs ++ (List.range N).map (fun j => (⟨T.heap.size, j⟩ : Loc))) (u + (1 + N)) (w + (N + N * M)) := by
    rw [show u + (1 + N) = u + 1 + N by omega, show w + (N + N * M) = w + N + N * M by omega]
    exact XV
  obtain ⟨t2, a1, b1⟩ := kk H.size U.heap _ hfree hM2 U rfl XV2
  refine ⟨t2, go t2 ?_, b1⟩
  rw [hT]
  exact a1
end MROWS
