/-! CATCHING: calls of throwing methods out of the component's own methods, whose rows catch -/
set_option maxRecDepth 100000
theorem nn_frame {D : va_G} {dA : Nat → ClassId} {F : va_W} {h h1 : hH} {A : Nat → Prop} {H H1 : Heap} {L : hRw} (hI : hIs h L) (hP : va_P D vwCl (hws dA F L) H) (hD : va_D A (hws dA F L)) (hin : ∀ a, NA h H.size a → A a) (hk : ∀ x : Nat, x < H.size → ¬ NA h H.size x → H1[x]? = H[x]?) (hh1 : HH D dA [] h1 (NA h H.size) H1) : HH D dA F h1 A H1 := by
  obtain ⟨L1, i1, p1, d1⟩ := hh1
  have hF : ∀ (k : Nat) (z : Nat × va_E), F[k]? = some z → (hws dA F L)[k]? = some z := fun k z hz => by
    unfold hws
    rw [List.getElem?_append_left (List.getElem?_eq_some_iff.mp hz).1]
    exact hz
  have hFn : ∀ (k : Nat) (z : Nat × va_E), F[k]? = some z → ¬ NA h H.size z.1 := fun k z hz hx => by
    rcases hx with ⟨x, hx⟩ | hx
    · obtain ⟨j, hj⟩ := hh_at hI hx
      have h1 := hD.1 k (F.length + j) z _ (hF k z hz) (hws_r hj) rfl
      have h2 := (List.getElem?_eq_some_iff.mp hz).1
      omega
    · exact absurd (hP k z (hF k z hz)).lt (Nat.not_lt.mpr hx)
  have eF : hws dA F L1 = F ++ hws dA [] L1 := rfl
  refine ⟨L1, i1, ?_, ?_⟩
  · rw [eF]
    exact va_P.app (fun k z hz => (hP k z (hF k z hz)).kept (hk _ (hP k z (hF k z hz)).lt (hFn k z hz))) p1
  · rw [eF]
    exact va_D.app ⟨fun i j x y hx hy hxy => hD.1 i j x y (hF i x hx) (hF j y hy) hxy, fun k z hz => hD.2 k z (hF k z hz)⟩ (d1.weaken (fun _ _ _ w => hin _ w)) (fun i j x y hx hy hxy => hFn i x hx (by rw [hxy]; exact d1.2 j y hy))
section PROWS
variable {p : Program} {l : Launch} {e : Env} {R : Room} {s : State} {m : MethodId} {args : Array Value} {below : List Frame} {meth : Method} {c : Code} {H : Heap} {locs : List Loc} {u w mc ms c1 k1 : Nat} {Q : State → Prop}
variable {cc bytes : ByteArray} {nL maxL pc idx n : Nat} {ls : Array Slot} {rest st As : List Value} {y : MethodName} {ret : Option FieldType} {rm : Room} {own C : String} {T : u_T} {N ci b : Nat}
variable {D : va_G} {dA : Nat → ClassId} {K : oK} {F : va_W} {S S1 : hH} {A : Nat → Prop} {Qr1 : Option Value → hH → Prop} {Qt1 : Nat → hH → Prop}
theorem p_pre {sz : Nat} (hM : HX D dA F S A s H locs) (hA : ∀ x, s.heap.size ≤ x → A x) (hO : OLD K A s s.heap) (hRf : ORF K s) (hz : H.size = sz) : ∀ U : State, U.heap = H → s.WarmedH U.vm → NPre D dA K sz S As As.toArray U := fun U hU hW => ⟨rfl, by rw [hU]; exact hz, va_K.moved hW.alike hM.1, XN.warm hW hM.2.1, by rw [hU]; exact OLD.moved hW.alike ((hO.kept hM.2.2.2.2.1).narrow (fun q hq => NA_in hM hA (by rw [hz]; exact hq))), hRf.warm hW, by rw [hU]; exact (hM.2.2.1.drop).weaken (fun _ _ => trivial)⟩
/-- a call whose exceptions are caught by the method's one row -/
theorem p_call {a0 : Array Value} {x0 : ExceptionTableEntry} (hM : HX D dA F S A s H locs) (hA : ∀ x, s.heap.size ≤ x → A x) (hr : RunT p l e R s m args below meth c H locs u w c1 k1 (F0 m pc ls st) rest (NPost D dA (NA S H.size) Qr1 Qt1 a0) (NA S H.size))
    (hown : s.vm.findClass own = some m.cls) (htb : c.exceptionTable.toList = [x0]) (hx : covers x0 pc = true) (h0 : x0.catchType ≠ 0) (hlink : (Cond.classLink own x0.catchType RX5).before args s = true)
    (kr : ∀ (v : Option Value) (S1 : hH) (H1 : Heap) (locs1 : List Loc), Qr1 v S1 → HX D dA F S1 A s H1 locs1 → W p l e R s m args below meth c H1 locs1 (u + c1) (w + k1) Q (F0 m (pc + 3) ls (v.toList ++ rest)))
    (kt : ∀ (a : Nat) (S1 : hH) (H1 : Heap) (locs1 : List Loc), Qt1 a S1 → HX D dA F S1 A s H1 locs1 → (∃ fs, S1 a = some (.inr (5, fs))) ∧ W p l e R s m args below meth c H1 locs1 (u + c1) (w + k1) Q (F0 m x0.handlerPc ls [.ref a])) :
    W p l e R s m args below meth c H locs u w Q (F0 m pc ls st) := by
  have hin : ∀ a, NA S H.size a → A a := fun a h => NA_in hM hA h
  obtain ⟨hK, hN, ⟨L0, hi, hP0, hD⟩, hS⟩ := hM
  intro T hT X
  obtain ⟨o, st₀, t, L, T', h0', ⟨hq, hF⟩, hL, X', e1, e2, hcase⟩ := hr T hT X
  obtain ⟨hz, hk⟩ := hF
  rw [h0'] at hz hk
  have hS2 : va_S A s.heap t.heap (locs ++ L) := ⟨Nat.le_trans hS.1 hz, fun x h1 h2 => by rw [hk x (Nat.lt_of_lt_of_le h1 hS.1) (fun z => h2 (hin x z))]; exact hS.2.1 x h1 h2, fun x hx => by
    rcases List.mem_append.mp hx with h | h
    · exact hS.2.2 x h
    · exact hin _ (hL x h)⟩
  rcases hcase with ⟨v, rfl, hgo⟩ | ⟨x, rfl, hgo⟩
  · rcases hq with ⟨v', h', q1, q2, q3⟩ | ⟨x', h', q1, q2, q3⟩
    · cases q1
      obtain ⟨t2, a1, b1⟩ := kr v h' t.heap (locs ++ L) q2 ⟨hK, hN, nn_frame hi hP0 hD hin hk q3, hS2⟩ T' e1 X'
      exact ⟨t2, hgo t2 a1, b1⟩
    · cases q1
  · rcases hq with ⟨v', h', q1, q2, q3⟩ | ⟨x', h', q1, q2, q3⟩
    · cases q1
    · cases q1
      have hM2 : HX D dA F h' A s t.heap (locs ++ L) := ⟨hK, hN, nn_frame hi hP0 hD hin hk q3, hS2⟩
      obtain ⟨⟨fs, hfs⟩, hW⟩ := kt x h' t.heap (locs ++ L) q2 hM2
      obtain ⟨cell, g1, g2, g3⟩ := h_recv (C := RX5) (T := TX5) (N := 8) (ci := 5) hM2 rfl hfs
      have hcl := (hK.1 5 (RX5, TX5, 8) rfl).2
      have ec := Option.some.inj (hcl.1.symm.trans g3)
      have hpl : e.platform.magicAccessors = ({} : Platform).magicAccessors := by rw [X'.admits.platform]
      obtain ⟨vm', XV, stV⟩ := c_caught X' x (g := { F0 m pc ls st with stack := rest }) (hpc := x0.handlerPc) rfl (by rw [e1]; exact g1) g2 (Vm.classAt_of_findClass g3) (by rw [htb]; exact c_hit hpl hown hx h0 hlink g3 (by rw [← ec]; exact va_assign hcl) rfl)
      obtain ⟨t2, a1, b1⟩ := hW (T'.setVm vm') e1 XV
      exact ⟨t2, hgo t2 (stV t2 a1), b1⟩
end PROWS
