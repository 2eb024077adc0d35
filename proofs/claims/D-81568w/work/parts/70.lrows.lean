/-! THE LAW's ROWS: both objects in one world; calls of either -/
set_option maxRecDepth 100000
theorem nd_iff {ws : va_W} : (∀ (i j : Nat) (p q : Nat × va_E), ws[i]? = some p → ws[j]? = some q → p.1 = q.1 → i = j) ↔ (ws.map Prod.fst).Nodup := by
  unfold List.Nodup
  rw [List.pairwise_iff_getElem]
  constructor
  · intro h i j hi hj hij e
    rw [List.getElem_map, List.getElem_map] at e
    have hi' : i < ws.length := by simpa using hi
    have hj' : j < ws.length := by simpa using hj
    have := h i j ws[i] ws[j] (List.getElem?_eq_getElem hi') (List.getElem?_eq_getElem hj') e
    omega
  · intro h i j p q hp hq e
    obtain ⟨hi, rfl⟩ := List.getElem?_eq_some_iff.mp hp
    obtain ⟨hj, rfl⟩ := List.getElem?_eq_some_iff.mp hq
    have hi' : i < (ws.map Prod.fst).length := by simpa using hi
    have hj' : j < (ws.map Prod.fst).length := by simpa using hj
    rcases Nat.lt_trichotomy i j with hlt | rfl | hlt
    · exact absurd (by rw [List.getElem_map, List.getElem_map]; exact e) (h i j hi' hj' hlt)
    · rfl
    · exact absurd (by rw [List.getElem_map, List.getElem_map]; exact e.symm) (h j i hj' hi' hlt)
theorem vd_iff {A : Nat → Prop} {ws : va_W} : va_D A ws ↔ (ws.map Prod.fst).Nodup ∧ ∀ z ∈ ws, A z.1 := by
  constructor
  · intro h
    refine ⟨nd_iff.mp h.1, fun z hz => ?_⟩
    obtain ⟨k, hk⟩ := List.getElem?_of_mem hz
    exact h.2 k z hk
  · intro h
    exact ⟨nd_iff.mpr h.1, fun k z hk => h.2 z (List.mem_of_getElem? hk)⟩
theorem vp_iff {D : va_G} {cl : List vw_C} {ws : va_W} {H : Heap} : va_P D cl ws H ↔ ∀ z ∈ ws, va_at D cl z H := by
  constructor
  · intro h z hz
    obtain ⟨k, hk⟩ := List.getElem?_of_mem hz
    exact h k z hk
  · intro h k z hk
    exact h z (List.mem_of_getElem? hk)
section LROWS
variable {p : Program} {l : Launch} {e : Env} {R : Room} {s : State} {m : MethodId} {args : Array Value} {below : List Frame} {meth : Method} {c : Code} {H H1 : Heap} {locs : List Loc} {u w mc ms : Nat} {Q : State → Prop}
variable {cc bytes : ByteArray} {nL maxL pc idx n : Nat} {ls : Array Slot} {rest st As : List Value} {own : String} {y : MethodName} {ret : Option FieldType} {rm : Room} {hh : List (Nat × Nat × Nat × Nat)}
variable {D : va_G} {dA : Nat → ClassId} {K : oK} {F F1 G : va_W} {h h1 : hH} {A B : Nat → Prop} {o oM : Nat} {q qM : Nat → Nat} {S S1 : sX} {M M1 : sM} {Qr : Option Value → sX → Prop}
theorem HH.left (hh : HH D dA (F ++ G) h A H) : HH D dA F h A H := by
  obtain ⟨L, i, P, Dd⟩ := hh
  have hsub : (hws dA F L).Sublist (hws dA (F ++ G) L) := List.Sublist.append (List.sublist_append_left F G) (List.Sublist.refl _)
  exact ⟨L, i, vp_iff.mpr (fun z hz => vp_iff.mp P z (hsub.subset hz)), vd_iff.mpr ⟨(vd_iff.mp Dd).1.sublist (hsub.map _), fun z hz => (vd_iff.mp Dd).2 z (hsub.subset hz)⟩⟩
theorem HX.left (hM : HX D dA (F ++ G) h A s H locs) : HX D dA F h A s H locs := ⟨hM.1, hM.2.1, hM.2.2.1.left, hM.2.2.2⟩
theorem l_apart (hh : HH D dA (F ++ G) h A H) {a : Nat} (ha : a ∈ G.map Prod.fst) : a ∉ F.map Prod.fst ∧ h a = none ∧ a < H.size ∧ A a := by
  obtain ⟨L, i, P, Dd⟩ := hh
  obtain ⟨z, hz, rfl⟩ := List.mem_map.mp ha
  have hzw : z ∈ hws dA (F ++ G) L := List.mem_append_left _ (List.mem_append_right _ hz)
  have hnd := (vd_iff.mp Dd).1
  unfold hws at hnd
  rw [List.map_append, List.map_append, List.append_assoc, List.nodup_append] at hnd
  obtain ⟨-, n2, n3⟩ := hnd
  rw [List.nodup_append] at n2
  refine ⟨fun hF => n3 z.1 hF z.1 (List.mem_append_left _ (List.mem_map_of_mem hz)) rfl, ?_, (vp_iff.mp P z hzw).lt, (vd_iff.mp Dd).2 z hzw⟩
  cases hc : h z.1 with
  | none => rfl
  | some x =>
    refine absurd rfl (n2.2.2 z.1 (List.mem_map_of_mem hz) z.1 ?_)
    rw [List.map_map]
    exact List.mem_map.mpr ⟨(z.1, x), (i _ _).mp hc, rfl⟩
theorem l_frame (hh : HH D dA (F ++ G) h A H) (hh1 : HH D dA F1 h1 B H1) (hBA : ∀ a, B a → A a) (hB : ∀ a, B a → a ∉ G.map Prod.fst) (hk : ∀ a ∈ G.map Prod.fst, H1[a]? = H[a]?) : HH D dA (F1 ++ G) h1 A H1 := by
  obtain ⟨L, i, P, Dd⟩ := hh
  obtain ⟨L1, i1, P1, D1⟩ := hh1
  have hnd := (vd_iff.mp Dd).1
  unfold hws at hnd
  rw [List.map_append, List.map_append, List.append_assoc, List.nodup_append] at hnd
  obtain ⟨-, n2, -⟩ := hnd
  rw [List.nodup_append] at n2
  have hperm : (hws dA (F1 ++ G) L1).Perm (hws dA F1 L1 ++ G) := by
    unfold hws
    rw [List.append_assoc, List.append_assoc]
    exact List.Perm.append_left F1 List.perm_append_comm
  refine ⟨L1, i1, vp_iff.mpr (fun z hz => ?_), vd_iff.mpr ⟨?_, fun z hz => ?_⟩⟩
  · rcases List.mem_append.mp (hperm.subset hz) with hz | hz
    · exact vp_iff.mp P1 z hz
    · have hzw : z ∈ hws dA (F ++ G) L := List.mem_append_left _ (List.mem_append_right _ hz)
      exact (vp_iff.mp P z hzw).kept (hk _ (List.mem_map_of_mem hz))
  · rw [(hperm.map Prod.fst).nodup_iff, List.map_append, List.nodup_append]
    refine ⟨(vd_iff.mp D1).1, n2.1, fun a ha b hb hab => ?_⟩
    subst hab
    obtain ⟨z, hz, rfl⟩ := List.mem_map.mp ha
    exact hB _ ((vd_iff.mp D1).2 z hz) hb
  · rcases List.mem_append.mp (hperm.subset hz) with hz | hz
    · exact hBA _ ((vd_iff.mp D1).2 z hz)
    · exact (vd_iff.mp Dd).2 z (List.mem_append_left _ (List.mem_append_right _ hz))
/-- one cell of the abstract heap, to the named ones -/
theorem HH.take {a : Nat} {x : hC} (hh : HH D dA F h A H) (ha : h a = some x) : HH D dA (F ++ [(a, hcv dA x)]) (va_up h a none) A H := by
  obtain ⟨L, i, P, Dd⟩ := hh
  obtain ⟨s0, t0, rfl⟩ := List.append_of_mem ((i _ _).mp ha)
  have hp : ((a, x) :: (s0 ++ t0)).Perm (s0 ++ (a, x) :: t0) := List.perm_middle.symm
  generalize hL : s0 ++ (a, x) :: t0 = L at i P Dd hp
  have hperm : (hws dA (F ++ [(a, hcv dA x)]) ((s0 ++ t0))).Perm (hws dA F L) := by
    unfold hws
    rw [List.append_assoc]
    exact List.Perm.append_left F (hp.map (fun z : Nat × hC => (z.1, hcv dA z.2)))
  have hndL : (L.map Prod.fst).Nodup := by
    have := (vd_iff.mp Dd).1
    unfold hws at this
    rw [List.map_append, List.nodup_append] at this
    have h2 := this.2.1
    rw [List.map_map] at h2
    exact h2
  have hnd2 : (((a, x) :: (s0 ++ t0)).map Prod.fst).Nodup := (hp.map Prod.fst).nodup_iff.mpr hndL
  rw [List.map_cons, List.nodup_cons] at hnd2
  refine ⟨(s0 ++ t0), fun b z => ?_, vp_iff.mpr (fun z hz => vp_iff.mp P z (hperm.subset hz)), vd_iff.mpr ⟨(hperm.map Prod.fst).nodup_iff.mpr (vd_iff.mp Dd).1, fun z hz => (vd_iff.mp Dd).2 z (hperm.subset hz)⟩⟩
  unfold va_up
  by_cases hb : b = a
  · subst hb
    rw [if_pos rfl]
    constructor
    · intro hc; cases hc
    · intro hc; exact absurd (List.mem_map.mpr ⟨_, hc, rfl⟩) hnd2.1
  · rw [if_neg hb, i b z]
    constructor
    · intro hc
      rcases List.mem_cons.mp (hp.symm.subset hc) with hc | hc
      · exact absurd (congrArg Prod.fst hc) hb
      · exact hc
    · intro hc
      exact hp.subset (List.mem_cons_of_mem _ hc)
theorem YA_in {sz : Nat} (hM : HX D dA (WX o q dA S ++ G) S.2.2.2 A s H locs) (hA : ∀ x, s.heap.size ≤ x → A x) (hz : H.size = sz) {a : Nat} (ha : YA o q S.2.2.2 sz a) : A a := by
  obtain ⟨L, i, P, Dd⟩ := hM.2.2.1
  rcases ha with ha | ⟨x, ha⟩ | ha
  · have e : (WX o q dA S).map Prod.fst = XL o q := rfl
    rw [← e] at ha
    obtain ⟨z, hz, rfl⟩ := List.mem_map.mp ha
    exact (vd_iff.mp Dd).2 z (List.mem_append_left _ (List.mem_append_left _ hz))
  · obtain ⟨j, hj⟩ := hh_at i ha
    exact (vd_iff.mp Dd).2 (a, hcv dA x) (List.mem_append_right _ (List.mem_map.mpr ⟨(a, x), List.mem_of_getElem? hj, rfl⟩))
  · exact hA a (Nat.le_trans hM.2.2.2.1 (by rw [hz]; exact ha))
theorem YA_off {sz : Nat} (hM : HX D dA (WX o q dA S ++ G) S.2.2.2 A s H locs) (hz : H.size = sz) {a : Nat} (ha : YA o q S.2.2.2 sz a) : a ∉ G.map Prod.fst := fun hg => by
  obtain ⟨h1, h2, h3, -⟩ := l_apart hM.2.2.1 hg
  rcases ha with ha | ⟨x, ha⟩ | ha
  · exact h1 ha
  · rw [h2] at ha; cases ha
  · omega
theorem l_xR {v : Value} (X : CallFix p m c cc nL s args lw_all own) (hM : HX D dA (WX o q dA S ++ G) S.2.2.2 A s H locs) (hmet : Met l y (ws_ y bytes maxL ret) rm (XPre D dA o q S As) (k2_QcV v) 0 0 (fun _ => False)) (cw : CallW R s args own RX0 idx y bytes maxL ret (ws_ y bytes maxL ret) rm 0 0 n)
    (hn : As.length = n) (hsize : ls.size = nL) (hst : st = As.reverse ++ .ref o :: rest) (hroom : (rest.map fun v => v.category).sum ≤ 8) (hcs : u ≤ R.cells ∧ w ≤ R.slots) (hdg : decode cc pc = .ok (.invokevirtual idx, 3)) (kk : W p l e R s m args below meth c H locs u w Q (F0 m (pc + 3) ls (v :: rest))) : W p l e R s m args below meth c H locs u w Q (F0 m pc ls st) := by
  subst hst
  exact W.callV (r := v) (W.runV (As := As) (rest := rest) X hmet cw (x_pre hM.left) rfl hn hsize rfl (lv_room hroom) hdg hcs) kk
/-- what a call leaves that writes the component's cells and new ones alone -/
theorem l_after {sz : Nat} {t : State} (hM : HX D dA (WX o q dA S ++ G) S.2.2.2 A s H []) (hA : ∀ x, s.heap.size ≤ x → A x) (hz : H.size = sz) (hP : HH D dA (WX o q dA S1) S1.2.2.2 (YA o q S.2.2.2 sz) t.heap) (hs : H.size ≤ t.heap.size) (hk : ∀ x : Nat, x < H.size → ¬ YA o q S.2.2.2 sz x → t.heap[x]? = H[x]?) : HX D dA (WX o q dA S1 ++ G) S1.2.2.2 A s t.heap [] :=
  ⟨hM.1, hM.2.1, l_frame hM.2.2.1 hP (fun a ha => YA_in hM hA hz ha) (fun a ha => YA_off hM hz ha) (fun a ha => hk a (l_apart hM.2.2.1 ha).2.2.1 (fun hy => YA_off hM hz hy ha)), Nat.le_trans hM.2.2.2.1 hs, fun x h1 h2 => by rw [hk x (Nat.lt_of_lt_of_le h1 hM.2.2.2.1) (fun hy => h2 (YA_in hM hA hz hy))]; exact hM.2.2.2.2.1 x h1 h2, fun x hx => by cases hx⟩
theorem l_xW {v : Value} (X : CallFix p m c cc nL s args lw_all own) (hM : HX D dA (WX o q dA S ++ G) S.2.2.2 A s H []) (hA : ∀ x, A x ↔ s.heap.size ≤ x) (hmet : Met l y (ws_ y bytes maxL ret) rm (XPre D dA o q S As) (XPost D dA o q (XA o q S.2.2.2) (some v) S1) 0 0 (XA o q S.2.2.2)) (cw : CallW R s args own RX0 idx y bytes maxL ret (ws_ y bytes maxL ret) rm 0 0 n)
    (hn : As.length = n) (hsize : ls.size = nL) (hst : st = As.reverse ++ .ref o :: rest) (hroom : (rest.map fun v => v.category).sum ≤ 8) (hcs : u ≤ R.cells ∧ w ≤ R.slots) (hdg : decode cc pc = .ok (.invokevirtual idx, 3)) (kk : ∀ H1 : Heap, HX D dA (WX o q dA S1 ++ G) S1.2.2.2 A s H1 [] → W p l e R s m args below meth c H1 [] u w Q (F0 m (pc + 3) ls (v :: rest))) : W p l e R s m args below meth c H [] u w Q (F0 m pc ls st) := by
  subst hst
  intro T hT Xs
  obtain ⟨v', st₀, t, T', L, h0, X', hL, e1, ⟨hv, hP, hz, hk⟩, stp⟩ := W.runV (As := As) (rest := rest) X hmet cw (x_pre hM.left) (g := F0 m pc ls (As.reverse ++ .ref o :: rest)) rfl hn hsize rfl (lv_room hroom) hdg hcs T hT Xs
  cases hv
  rw [h0] at hz hk
  have hsub : ∀ a, XA o q S.2.2.2 a → YA o q S.2.2.2 H.size a := fun a z => z.elim Or.inl (fun z => Or.inr (Or.inl z))
  have hM2 := l_after hM (fun x hx => (hA x).mpr hx) rfl (hP.weaken hsub) hz (fun x h1 h2 => hk x h1 (fun z => h2 (hsub x z)))
  obtain ⟨t2, a1, b1⟩ := kk t.heap hM2 T' e1 (Stand.forget (extra := L) X' (fun x hx => (hA _).mp (YA_in hM (fun x hx => (hA x).mpr hx) rfl (hsub _ (hL x hx)))))
  exact ⟨t2, stp t2 a1, b1⟩
theorem l_preY {As : List Value} (hM : HX D dA (WX o q dA S ++ G) S.2.2.2 A s H locs) (hA : ∀ x, s.heap.size ≤ x → A x) (hO : OLD K A s s.heap) (hRf : ORF K s) : PreV s H RX0 o (YPre D dA K H.size o q S As) As :=
  ⟨YPre.blind, (x_pre (As := As) hM.left).2.1, fun U hU hW => ⟨rfl, by rw [hU], va_K.moved hW.alike hM.1, XN.warm hW hM.2.1, by rw [hU]; exact OLD.moved hW.alike ((hO.kept hM.2.2.2.2.1).narrow (fun q hq => YA_in hM hA rfl hq)), hRf.warm hW, by rw [hU]; exact hM.2.2.1.left.weaken (fun _ _ => trivial)⟩⟩
theorem l_preE {As : List Value} (hM : HX D dA (WX o q dA S ++ G) S.2.2.2 A s H locs) (hA : ∀ x, s.heap.size ≤ x → A x) (hO : OLD K A s s.heap) (hRf : ORF K s) (hZ : OZ A s s.heap) (hnc : NCS s) : PreV s H RX0 o (EPre D dA K H.size o q S As) As :=
  ⟨EPre.blind, (x_pre (As := As) hM.left).2.1, fun U hU hW => ⟨(l_preY hM hA hO hRf).2.2 U hU hW, by rw [hU]; exact ⟨((hZ.1.kept hM.2.2.2.2.1).narrow (fun q hq => YA_in hM hA rfl hq)).moved hW.alike, ((hZ.2.kept hM.2.2.2.2.1).narrow (fun q hq => YA_in hM hA rfl hq)).moved hW.alike⟩, hnc.moved hW.alike⟩⟩
theorem l_xY {Pc : Array Value → State → Prop} (X : CallFix p m c cc nL s args lw_all own) (hM : HX D dA (WX o q dA S ++ G) S.2.2.2 A s H []) (hA : ∀ x, A x ↔ s.heap.size ≤ x) (hmet : Met l y (wsW_ y bytes maxL ret hh) rm Pc (YPost D dA o q (YA o q S.2.2.2 H.size) Qr) mc ms (YA o q S.2.2.2 H.size)) (cw : CWH R s args own RX0 idx y bytes maxL ret hh rm mc ms n) (hp : PreV s H RX0 o Pc As)
    (hn : As.length = n) (hsize : ls.size = nL) (hst : st = As.reverse ++ .ref o :: rest) (hroom : (rest.map fun v => v.category).sum ≤ 8) (hcs : u + mc ≤ R.cells ∧ w + ms ≤ R.slots) (hdg : decode cc pc = .ok (.invokevirtual idx, 3)) (kk : ∀ (v : Option Value) (S1 : sX) (H1 : Heap), Qr v S1 → HX D dA (WX o q dA S1 ++ G) S1.2.2.2 A s H1 [] → W p l e R s m args below meth c H1 [] (u + mc) (w + ms) Q (F0 m (pc + 3) ls (v.toList ++ rest))) : W p l e R s m args below meth c H [] u w Q (F0 m pc ls st) := by
  subst hst
  intro T hT Xs
  obtain ⟨v', st₀, t, T', L, h0, X', hL, e1, -, ⟨⟨v2, S1, hv, hq, hP⟩, hz, hk⟩, stp⟩ := w_runH (As := As) (rest := rest) X hmet cw hp (g := F0 m pc ls (As.reverse ++ .ref o :: rest)) rfl hn hsize rfl (lv_room hroom) hdg hcs T hT Xs
  cases hv
  rw [h0] at hz hk
  have hM2 := l_after hM (fun x hx => (hA x).mpr hx) rfl hP hz hk
  obtain ⟨t2, a1, b1⟩ := kk v' S1 t.heap hq hM2 T' e1 (Stand.forget (extra := L) X' (fun x hx => (hA _).mp (YA_in hM (fun x hx => (hA x).mpr hx) rfl (hL x hx))))
  exact ⟨t2, stp t2 a1, b1⟩
/-- the Model's calls -/
theorem l_mP (hM : HX D dA (F ++ WM oM qM (dA 0) (dA 1) M) h A s H locs) : va_P D vwCl (WM oM qM (dA 0) (dA 1) M) H := by
  obtain ⟨L, i, P, Dd⟩ := hM.2.2.1
  exact vp_iff.mpr (fun z hz => vp_iff.mp P z (List.mem_append_left _ (List.mem_append_right _ hz)))
theorem l_mK (hK : va_K D vwCl (tyX dA) s) : va_K D vwCl (tyM (dA 0) (dA 1)) s := ⟨hK.1, fun k z hz => by
  match k, hz with
  | 0, hz => cases hz; exact hK.2 0 _ rfl
  | 1, hz => cases hz; exact hK.2 1 _ rfl
  | k + 2, hz => cases hz⟩
theorem l_preM {As : List Value} (hM : HX D dA (F ++ WM oM qM (dA 0) (dA 1) M) h A s H locs) : PreV s H RX3 oM (MPre D oM qM (dA 0) (dA 1) M As) As :=
  ⟨MPre.blind, va_recv (l_mK hM.1) (l_mP hM) (ci := 3) (q0 := 0) rfl rfl, fun U hU hW => ⟨rfl, va_K.moved hW.alike (l_mK hM.1), by rw [hU]; exact l_mP hM⟩⟩
theorem l_mR {v : Value} (X : CallFix p m c cc nL s args lw_all own) (hM : HX D dA (F ++ WM oM qM (dA 0) (dA 1) M) h A s H locs) (hmet : Met l y (ws_ y bytes maxL ret) rm (MPre D oM qM (dA 0) (dA 1) M As) (k2_QcV v) 0 0 (fun _ => False)) (cw : CallW R s args own RX3 idx y bytes maxL ret (ws_ y bytes maxL ret) rm 0 0 n)
    (hn : As.length = n) (hsize : ls.size = nL) (hst : st = As.reverse ++ .ref oM :: rest) (hroom : (rest.map fun v => v.category).sum ≤ 8) (hcs : u ≤ R.cells ∧ w ≤ R.slots) (hdg : decode cc pc = .ok (.invokevirtual idx, 3)) (kk : W p l e R s m args below meth c H locs u w Q (F0 m (pc + 3) ls (v :: rest))) : W p l e R s m args below meth c H locs u w Q (F0 m pc ls st) := by
  subst hst
  exact W.callV (r := v) (W.runV (As := As) (rest := rest) X hmet cw (l_preM hM) rfl hn hsize rfl (lv_room hroom) hdg hcs) kk
theorem l_mG (hM : HX D dA (F ++ WM oM qM (dA 0) (dA 1) M) h A s H locs) : MG oM qM := by
  obtain ⟨L, i, P, Dd⟩ := hM.2.2.1
  have hnd := (vd_iff.mp Dd).1
  unfold hws at hnd
  rw [List.map_append, List.map_append, List.append_assoc, List.nodup_append] at hnd
  have n2 := hnd.2.1
  rw [List.nodup_append] at n2
  have e : (WM oM qM (dA 0) (dA 1) M).map Prod.fst = ML oM qM := rfl
  have h1 := nd_iff.mpr n2.1
  intro a b x ha hb
  rw [← e, List.getElem?_map] at ha hb
  obtain ⟨z, hz, rfl⟩ := Option.map_eq_some_iff.mp ha
  obtain ⟨z2, hz2, he⟩ := Option.map_eq_some_iff.mp hb
  exact h1 a b z z2 hz hz2 he.symm
theorem l_mW {v : Value} (X : CallFix p m c cc nL s args lw_all own) (hM : HX D dA (F ++ WM oM qM (dA 0) (dA 1) M) h A s H []) (hA : ∀ x, A x ↔ s.heap.size ≤ x) (hmet : Met l y (ws_ y bytes maxL ret) rm (MPre D oM qM (dA 0) (dA 1) M As) (MPost D oM qM (dA 0) (dA 1) (some v) M1) 0 0 (AM oM qM)) (cw : CallW R s args own RX3 idx y bytes maxL ret (ws_ y bytes maxL ret) rm 0 0 n)
    (hn : As.length = n) (hsize : ls.size = nL) (hst : st = As.reverse ++ .ref oM :: rest) (hroom : (rest.map fun v => v.category).sum ≤ 8) (hcs : u ≤ R.cells ∧ w ≤ R.slots) (hdg : decode cc pc = .ok (.invokevirtual idx, 3)) (kk : ∀ H1 : Heap, HX D dA (F ++ WM oM qM (dA 0) (dA 1) M1) h A s H1 [] → W p l e R s m args below meth c H1 [] u w Q (F0 m (pc + 3) ls (v :: rest))) : W p l e R s m args below meth c H [] u w Q (F0 m pc ls st) := by
  subst hst
  intro T hT Xs
  obtain ⟨v', st₀, t, T', L, h0, X', hL, e1, ⟨hv, hP1, hz, hk⟩, stp⟩ := W.runV (As := As) (rest := rest) X hmet cw (l_preM hM) (g := F0 m pc ls (As.reverse ++ .ref oM :: rest)) rfl hn hsize rfl (lv_room hroom) hdg hcs T hT Xs
  cases hv
  rw [h0] at hz hk
  have eM : ∀ M : sM, (WM oM qM (dA 0) (dA 1) M).map Prod.fst = ML oM qM := fun _ => rfl
  have hAM : ∀ x, AM oM qM x → A x := fun x hx => by
    have hx : x ∈ ML oM qM := hx
    rw [← eM M] at hx
    exact (l_apart hM.2.2.1 hx).2.2.2
  have hM2 : HX D dA (F ++ WM oM qM (dA 0) (dA 1) M1) h A s t.heap [] := by
    obtain ⟨hK, hN, ⟨L0, i, P, Dd⟩, hS⟩ := hM
    have hnd := (vd_iff.mp Dd).1
    have hws1 : (hws dA (F ++ WM oM qM (dA 0) (dA 1) M1) L0).map Prod.fst = (hws dA (F ++ WM oM qM (dA 0) (dA 1) M) L0).map Prod.fst := by
      unfold hws
      rw [List.map_append, List.map_append, List.map_append, List.map_append, eM, eM]
    have hoff : ∀ z : Nat × va_E, z ∈ F ∨ z ∈ L0.map (fun z => (z.1, hcv dA z.2)) → z.1 ∉ ML oM qM := fun z hz hm => by
      rw [← eM M] at hm
      have h3 := hnd
      unfold hws at h3
      rw [List.map_append, List.map_append, List.append_assoc, List.nodup_append] at h3
      rcases hz with hz | hz
      · exact h3.2.2 z.1 (List.mem_map_of_mem hz) z.1 (List.mem_append_left _ hm) rfl
      · have h4 := h3.2.1
        rw [List.nodup_append] at h4
        exact h4.2.2 z.1 hm z.1 (List.mem_map_of_mem hz) rfl
    refine ⟨hK, hN, ⟨L0, i, vp_iff.mpr (fun z hz => ?_), vd_iff.mpr ⟨by rw [hws1]; exact hnd, fun z hz => ?_⟩⟩, Nat.le_trans hS.1 hz, fun x h1 h2 => by rw [hk x (Nat.lt_of_lt_of_le h1 hS.1) (fun hy => h2 (hAM x hy))]; exact hS.2.1 x h1 h2, fun x hx => by cases hx⟩
    · have key : ∀ z ∈ hws dA (F ++ WM oM qM (dA 0) (dA 1) M) L0, z.1 ∉ ML oM qM → va_at D vwCl z t.heap := fun z hz hn => (vp_iff.mp P z hz).kept (hk _ (vp_iff.mp P z hz).lt hn)
      unfold hws at hz
      rcases List.mem_append.mp hz with hz | hz
      · rcases List.mem_append.mp hz with hz | hz
        · exact key z (List.mem_append_left _ (List.mem_append_left _ hz)) (hoff z (Or.inl hz))
        · exact vp_iff.mp hP1 z hz
      · exact key z (List.mem_append_right _ hz) (hoff z (Or.inr hz))
    · have hz2 : z.1 ∈ (hws dA (F ++ WM oM qM (dA 0) (dA 1) M) L0).map Prod.fst := by rw [← hws1]; exact List.mem_map_of_mem hz
      obtain ⟨z3, h3, h4⟩ := List.mem_map.mp hz2
      rw [← h4]
      exact (vd_iff.mp Dd).2 z3 h3
  obtain ⟨t2, a1, b1⟩ := kk t.heap hM2 T' e1 (Stand.forget (extra := L) X' (fun x hx => (hA _).mp (hAM _ (hL x hx))))
  exact ⟨t2, stp t2 a1, b1⟩
end LROWS
