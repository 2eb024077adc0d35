/-! more rows for methods that make cells: nest mates' calls, final fields, budgets -/
set_option maxRecDepth 100000
theorem nb_sub {u b m d : Nat} (h : u + b = m) (h1 : d ≤ b) : (u + d) + (b - d) = m := by omega
theorem nb_le {u b m d : Nat} (h : u + b = m) (h1 : d ≤ b) : u + d ≤ m := by omega
theorem nb_u {u b m : Nat} (h : u + b = m) : u ≤ m := by omega
theorem rmN_le {i j L a b d f : Nat} (h : i + 1 ≤ j) (hm : L ≤ 21) : (rmN i a b).frames + 1 ≤ (rmN j d f).frames ∧ 8 + (L + 11) + (rmN i a b).locals ≤ (rmN j d f).locals := ⟨h, by show 8 + (L + 11) + 40 * i ≤ 40 * j; omega⟩
theorem rmN_leL {i j L d f : Nat} (h : i + 1 ≤ j) (hm : L ≤ 21) : (rmL i).frames + 1 ≤ (rmN j d f).frames ∧ 8 + (L + 11) + (rmL i).locals ≤ (rmN j d f).locals := ⟨h, by show 8 + (L + 11) + 40 * i ≤ 40 * j; omega⟩
theorem MetT.toMet {l : Launch} {y : MethodName} {ws : List Cond} {rm : Room} {Pc : Array Value → State → Prop} {Qc : Array Value → State → Outcome → State → Prop} {mc ms : Nat} {free : Addr → Prop} (h : MetT l y ws rm Pc Qc mc ms free) (hq : ∀ a st x t, ¬ Qc a st (.threw x) t) : Met l y ws rm Pc Qc mc ms free := by
  intro p e ha hc hk s m args below hf happ hP hK
  obtain ⟨n, o, h1, h2, h3, h4, L, h5, h6⟩ := h p e ha hc hk s m args below hf happ hP hK
  cases o with
  | returned v => exact ⟨n, .returned v, h1, h2, h3, h4, L, ⟨⟨v, rfl⟩, h5.1, h5.2⟩, h6⟩
  | threw x => exact absurd h4 (hq _ _ _ _)
section NROWS2
variable {p : Program} {l : Launch} {e : Env} {R : Room} {s : State} {m : MethodId} {args : Array Value} {below : List Frame} {meth : Method} {c : Code} {H : Heap} {locs : List Loc} {u w mc ms c1 k1 : Nat} {Q : State → Prop}
variable {cc bytes : ByteArray} {nL maxL pc idx n : Nat} {ls : Array Slot} {rest st As : List Value} {y : MethodName} {ret : Option FieldType} {rm : Room} {own C host ref : String} {T : u_T} {N ci b k a : Nat}
variable {D : va_G} {dA : Nat → ClassId} {K : oK} {S S1 : hH} {A : Nat → Prop} {F : va_W} {Qr Qr1 : Option Value → hH → Prop} {Qt : Nat → hH → Prop}
theorem RunT.of {g : JFrame} {Qa Qb : State → Outcome → State → Prop} {free : Addr → Prop} (h : va_Run p l e R s m args below meth c H locs u w c1 k1 g rest Qa free) (hq : ∀ st o t, Qa st o t → Qb st o t) : RunT p l e R s m args below meth c H locs u w c1 k1 g rest Qb free := by
  intro T hT X
  obtain ⟨v, st₀, t, T', L, h0, X', hL, e1, e2, hqa, st⟩ := h T hT X
  exact ⟨.returned v, st₀, t, L, T', h0, hq _ _ _ hqa, hL, X', e1, e2, Or.inl ⟨v, rfl, st⟩⟩
theorem NPost.noThrow {a : Array Value} {st : State} {x : Nat} {t : State} : ¬ NPost D dA A Qr (fun _ _ => False) a st (.threw x) t := by
  rintro ⟨⟨v, h, e1, -⟩ | ⟨x, h, -, h1, -⟩, -⟩
  · cases e1
  · exact h1
theorem NPost.anyT {a : Array Value} {st : State} {o : Outcome} {t : State} (h : NPost D dA A Qr (fun _ _ => False) a st o t) : NPost D dA A Qr Qt a st o t := by
  obtain ⟨h1 | ⟨x, h, -, h1, -⟩, h2⟩ := h
  · exact ⟨Or.inl h1, h2⟩
  · exact h1.elim
/-- a nest mate's constructor, that throws nothing -/
theorem n_cIN (X : CallFix p m c cc nL s args lw_all own) (hM : HX D dA [] S A s H locs) (hA : ∀ x, s.heap.size ≤ x → A x) (hO : OLD K A s s.heap) (hRf : ORF K s) (hmet : MetT l y (ws_ y bytes maxL none) rm (NPre D dA K H.size S (.ref b :: As)) (NPost D dA (NA S H.size) Qr1 (fun _ _ => False)) c1 k1 (NA S H.size)) (cw : va_CN R s args own idx y host bytes maxL none (ws_ y bytes maxL none) rm c1 k1 n ∧ y.name = "<init>" ∧ (Cond.instanceMethod y).before args s = true)
    (hne : c.exceptionTable.isEmpty = true) (hlk : meth.locks = false) (hn : As.length = n) (hsize : ls.size = nL) (hst : st = As.reverse ++ .ref b :: rest) (hroom : (rest.map fun v => v.category).sum ≤ 8) (hR : u + c1 ≤ R.cells ∧ w + k1 ≤ R.slots) (hcc : u + c1 ≤ mc) (hss : w + k1 ≤ ms) (hdg : decode cc pc = .ok (.invokespecial idx, 3))
    (kr : ∀ (v : Option Value) (S1 : hH) (H1 : Heap) (locs1 : List Loc), Qr1 v S1 → HX D dA [] S1 A s H1 locs1 → W p l e R s m args below meth c H1 locs1 (u + c1) (w + k1) (MQT below (NPost D dA A Qr Qt) args s mc ms A) (F0 m (pc + 3) ls (v.toList ++ rest))) :
    W p l e R s m args below meth c H locs u w (MQT below (NPost D dA A Qr Qt) args s mc ms A) (F0 m pc ls st) := by
  subst hst
  exact n_call hM hA (RunT.of (va_runIN (As := As) (rest := rest) X (hmet.toMet (fun _ _ _ _ => NPost.noThrow)) cw ⟨NPre.blind, n_pre hM hA hO hRf rfl⟩ rfl hn hsize rfl (lv_room hroom) hdg hR) (fun _ _ _ h => NPost.anyT h)) hne hlk hcc hss kr
/-- a nest mate's static method that takes no heap -/
theorem e_cSN {v : Value} (X : CallFix p m c cc nL s args lw_all own) (hM : Met l y (ws_ y bytes maxL ret) rm (PA As) (k2_QcV v) 0 0 (fun _ => False)) (cw : va_CN R s args own idx y host bytes maxL ret (ws_ y bytes maxL ret) rm 0 0 n ∧ (Cond.static y).before args s = true ∧ True)
    (hn : As.length = n) (hsize : ls.size = nL) (hst : st = As.reverse ++ rest) (hroom : (rest.map fun v => v.category).sum ≤ 8) (hcs : u ≤ R.cells ∧ w ≤ R.slots) (hdg : decode cc pc = .ok (.invokestatic idx, 3)) (kk : W p l e R s m args below meth c H locs u w Q (F0 m (pc + 3) ls (v :: rest))) : W p l e R s m args below meth c H locs u w Q (F0 m pc ls st) := by
  subst hst
  exact W.callV (r := v) (va_Run.run (va_runSN (As := As) (rest := rest) X hM cw ⟨fun _ _ _ _ q => q, fun _ _ _ => rfl⟩ rfl hn hsize rfl (lv_room hroom) hdg hcs)) kk
theorem h_putF {v : Value} {ty : FieldType} (ty0 : Nat → FieldType) (hty : ∀ k, k < N → parseFieldDescriptor (T k).2.2.1 = some (ty0 k)) (hnm : ∀ a, a < N → ∀ b, b < N → a ≠ b → (T a).2.1 ≠ (T b).2.1) (X : CallFix p m c cc nL s args lw_all own) (hX : HX D dA F S A s H locs) (hin : ∀ w ∈ u_ws C T N, w ∈ lw_all) (hc : vwCl[ci]? = some (C, T, N)) (hk : k < N) (hlink : Cond.fieldLink own idx own (T k).2.1 (T k).2.2.1 ∈ lw_all) (hR : (T k).1 = own) (hfin : (T k).2.2.2 = true) (hin2 : meth.name = "<init>") (hd : parseFieldDescriptor (T k).2.2.1 = some ty) (hn : narrow ty v = v) (hfit : fits ty v = true) (hv : hPut ci S a k v = some S1) (hdg : decode cc pc = .ok (.putfield idx, 3))
    (kk : ∀ (H1 : Heap) (locs1 : List Loc), HX D dA F S1 A s H1 locs1 → W p l e R s m args below meth c H1 locs1 u w Q (F0 m (pc + 3) ls rest)) : W p l e R s m args below meth c H locs u w Q (F0 m pc ls (v :: .ref a :: rest)) := by
  obtain ⟨fs, e1, e2, e3⟩ := hPut_i hv
  subst e3
  obtain ⟨hK, hN, ⟨L, hi, hP, hD⟩, hS⟩ := hX
  obtain ⟨j, hj⟩ := hh_at hi e1
  exact va_putF (D := D) (ci := ci) (v := v) (ty := ty) (C := C) (T := T) (N := N) X.1 X.2.1 X.2.2.2.2 hin ty0 hty hnm X.2.2.2.1 hK hP hD hS _ (hws_r hj) hc k hk (X.2.2.2.2 _ hlink) (fun x h9 => by rw [hR] at h9; exact h9) hfin hin2 hR hd hn hfit e2 hdg (fun H1 locs1 hP1 hD1 hS1 => kk H1 locs1 ⟨hK, hN, ⟨_, hIs_set hi hD hj _, by rw [← hws_set]; exact hP1, by rw [← hws_set]; exact hD1⟩, hS1⟩)
/-- a call on a Block that may be a Loop -/
theorem n_cVB (X : CallFix p m c cc nL s args lw_all own) (hM : HX D dA [] S A s H locs) (hA : ∀ x, s.heap.size ≤ x → A x) (hO : OLD K A s s.heap) (hRf : ORF K s) (ho : (∃ fs, S b = some (.inr (6, fs))) ∨ (∃ fs, S b = some (.inr (8, fs)))) (hmet : MetT l y (ws_ y bytes maxL ret) rm (NPre D dA K H.size S (.ref b :: As)) (NPost D dA (NA S H.size) Qr1 Qt) c1 k1 (NA S H.size)) (cw6 : CallW R s args own RX7 idx y bytes maxL ret (ws_ y bytes maxL ret) rm c1 k1 n) (se8 : (Cond.selects RX9 y y).before args s = true)
    (hne : c.exceptionTable.isEmpty = true) (hlk : meth.locks = false) (hn : As.length = n) (hsize : ls.size = nL) (hst : st = As.reverse ++ .ref b :: rest) (hroom : (rest.map fun v => v.category).sum ≤ 8) (hR : u + c1 ≤ R.cells ∧ w + k1 ≤ R.slots) (hcc : u + c1 ≤ mc) (hss : w + k1 ≤ ms) (hdg : decode cc pc = .ok (.invokevirtual idx, 3))
    (kr : ∀ (v : Option Value) (S1 : hH) (H1 : Heap) (locs1 : List Loc), Qr1 v S1 → HX D dA [] S1 A s H1 locs1 → W p l e R s m args below meth c H1 locs1 (u + c1) (w + k1) (MQT below (NPost D dA A Qr Qt) args s mc ms A) (F0 m (pc + 3) ls (v.toList ++ rest))) :
    W p l e R s m args below meth c H locs u w (MQT below (NPost D dA A Qr Qt) args s mc ms A) (F0 m pc ls st) := by
  rcases ho with ⟨fs, ho⟩ | ⟨fs, ho⟩
  · exact n_cV (C := RX7) (T := TX7) (N := 2) (ci := 6) (fs := fs) X hM hA hO hRf rfl (by unfold hObj; rw [ho]; exact if_pos rfl) hmet cw6 hne hlk hn hsize hst hroom hR hcc hss hdg kr
  · exact n_cV (C := RX9) (T := TX9) (N := 5) (ci := 8) (fs := fs) X hM hA hO hRf rfl (by unfold hObj; rw [ho]; exact if_pos rfl) hmet ⟨cw6.1, cw6.2.1, se8⟩ hne hlk hn hsize hst hroom hR hcc hss hdg kr
end NROWS2
