set_option maxRecDepth 100000
def CPre (D : va_G) (dA : Nat → ClassId) (K : oK) (sz : Nat) (h : hH) (as : List Value) : Array Value → State → Prop := fun a U => NPre D dA K sz h as a U ∧ MK dA U
section
variable {p : Program} {l : Launch} {e : Env} {R : Room} {s : State} {m : MethodId} {args : Array Value} {below : List Frame} {meth : Method} {c : Code} {H : Heap} {locs : List Loc} {u w mc ms : Nat} {Q : State → Prop} {cc bytes : ByteArray} {nL maxL pc : Nat} {ls : Array Slot} {rest As : List Value} {own : String} {y : MethodName} {ret : Option FieldType} {rm : Room} {D : va_G} {dA : Nat → ClassId} {K : oK} {S S1 : hH} {A : Nat → Prop} {F : va_W} {n : Int32} {N' : Nat} {Qr : Option Value → hH → Prop} {Qt : Nat → hH → Prop}
theorem CPre.blind {sz : Nat} {as : List Value} : FrameBlind (CPre D dA K sz S as) := fun a U g mk z => ⟨NPre.blind a U g mk z.1, MK.moved (U := U) (U' := U.calling g mk a) (Vm.Alike.refl U.vm) z.2⟩
theorem n_newz (X : CallFix p m c cc nL s args lw_all own) (hM : HX D dA F S A s H locs) (hA : ∀ x, s.heap.size ≤ x → A x) (harr : Cond.arrayClass .boolean ∈ lw_all) (hn : ¬ n < 0) (hN : n.toNatClampNeg = N') (hbytes : N' * 1 ≤ 536870912) (hcells : u + 1 ≤ R.cells) (hslots : w + N' ≤ R.slots) (hdg : decode cc pc = .ok (.newarray .boolean, 2))
    (kk : ∀ (q : Nat) (H1 : Heap), S q = none → HX D dA F (va_up S q (some (.inl (1, N', .inl (fun _ => 0))))) A s H1 locs → W p l e R s m args below meth c H1 locs (u + 1) (w + N') Q (F0 m (pc + 2) ls (.ref q :: rest))) : W p l e R s m args below meth c H locs u w Q (F0 m pc ls (.int n :: rest)) := by
  obtain ⟨hK, hN, ⟨L, hi, hP, hD⟩, hS⟩ := hM
  refine va_newa (atype := .boolean) (ty := .boolean) (a0 := (N', .inl (fun _ => 0))) X.1 X.2.1 (X.2.2.2.2 _ harr) rfl hK hP hD hS hA (fun cA => by rw [vp_cell_i]; rfl) hn (by assumption) hbytes hcells hslots hdg (fun q cA H1 hK1 hP1 hD1 hS1 => ?_)
  have e1 : cA = dA 1 := Option.some.inj (Eq.trans (Eq.symm (hK1.2 10 _ rfl).2) (hK.2 1 _ rfl).2)
  subst e1
  obtain ⟨h1, h2, h3⟩ := hIs_push (dA := dA) (x := .inl (1, N', .inl (fun _ => 0))) hi hD1
  exact kk q H1 h1 ⟨hK, by assumption, ⟨_, h2, by rw [← h3]; exact hP1, by rw [← h3]; exact hD1⟩, hS1⟩
theorem c_ofW {sz : Nat} (hc : y.cls = own) (hpl : plainName own = true) (hlen : (lg_sl As).length ≤ maxL)
    (body : ∀ (A : Nat → Prop) (p : Program) (e : Env) (s : State) (m : MethodId) (args : Array Value) (below : List Frame) (meth : Method) (c : Code), CallFix p m c bytes maxL s args lw_all own → meth.sig.returnType = ret → meth.locks = false → c.exceptionTable.isEmpty = true → meth.name = y.name → (∀ x, s.heap.size ≤ x → A x) → OLD K A s s.heap → ORF K s → MK dA s → HX D dA [] S A s s.heap [] → ∀ ls : Array Slot, lv_has ls maxL (lv_args 0 As) → W p l e rm s m args below meth c s.heap [] 0 0 (MQT below (NPost D dA A Qr Qt) args s mc ms A) (F0 m 0 ls [])) :
    MetT l y (ws_ y bytes maxL ret) rm (CPre D dA K sz S As) (NPost D dA (NA S sz) Qr Qt) mc ms (NA S sz) := by
  refine MetT.ofW (cc := bytes) (maxL := maxL) (ret := ret) (by rw [hc]; exact hpl) rfl ?_
  intro p e s m args below meth c s₁ B hml hne hv
  have hts := atoms_spec (ws := ws_ y bytes maxL ret) B.pre
  have hts : ∀ w ∈ lw_all, w.before _ s = true := fun w h => hts w (List.mem_cons_of_mem _ h)
  have hl := lv_entry As hlen
  have hown := findClass_of_methodNamed B.named
  rw [hc] at hown
  obtain ⟨⟨rfl, rfl, hK, hN, hO, hRf, L, hi, hP, hD⟩, hmk⟩ := hv
  rw [lg_entry_eq]
  refine body _ p e s m _ below meth c ⟨B.exec, B.bytes, hml, hown, hts⟩ B.returns B.notSynchronized hne (name_of_methodNamed B.named B.method).1 (fun x hx => Or.inr hx) hO hRf hmk ⟨hK, hN, ⟨L, hi, hP, hD.1, fun k z hk => ?_⟩, va_S.rf⟩ _ hl
  unfold hws at hk
  rw [List.nil_append, List.getElem?_map] at hk
  cases hw : L[k]? with
  | none => rw [hw] at hk; cases hk
  | some w =>
    rw [hw] at hk
    cases hk
    exact Or.inl ⟨w.2, (hi _ _).mpr (List.mem_of_getElem? hw)⟩
end
set_option maxRecDepth 100000
set_option maxHeartbeats 2000000
set_option linter.unusedVariables false
section
variable {p : Program} {l : Launch} {e : Env} {s : State} {m : MethodId} {args : Array Value} {below : List Frame} {meth : Method} {c : Code}
variable {D : va_G} {dA : Nat → ClassId} {o : Nat} {q : Nat → Nat} {A : Nat → Prop}
variable {K : oK}
noncomputable def fX1_init (Qt : Nat → hH → Prop) (Qr : hH → Prop) (S : hH) (bc bk : Nat) (x0 : Nat) : Prop :=
  ∃ h_1, (hPut 1 S x0 0 (.int (255 : Int32))) = some h_1 ∧
  ∃ h_2, (hPut 1 h_1 x0 1 (.int (8 : Int32))) = some h_2 ∧
  Qr h_2
theorem metX1_init (l : Launch) (D : va_G) (dA : Nat → ClassId) (K : oK) (Qt : Nat → hH → Prop) (Qr : hH → Prop) (S : hH) (bc bk : Nat) (x0 : Nat) {sz : Nat} (hf : fX1_init Qt Qr S bc bk x0) : MetT l yX1_init (ws_ yX1_init cX1_init 1 none) (rmN 1 bc bk) (NPre D dA K sz S [.ref x0]) (NPost D dA (NA S sz) (nqV Qr) Qt) bc bk (NA S sz) := by
  refine n_ofW rfl (by decide) (Nat.le_of_ble_eq_true rfl) (fun A p e s m args below meth c X hr hlk hne hin hA hO hRf hM ls hl => ?_)
  have hl : lv_has ls 1 [(0, .ref x0)] := hl
  have hx := X.1
  have hb := X.2.1
  have hu : 0 + bc = bc := Nat.zero_add bc
  have hw : 0 + bk = bk := Nat.zero_add bk
  unfold fX1_init at hf
  refine lv_aload_n hx hb dX1_init_0 rfl (lv_at hl 0 rfl) ?_
  refine W.objInit hx hb X.2.2.2.1 (X.2.2.2.2 _ q743) (X.2.2.2.2 _ q111) (X.2.2.2.2 _ q112) rfl (X.2.2.1.trans hl.1.symm).symm rfl dX1_init_1 (Nat.le_of_ble_eq_true rfl) (Nat.le_of_ble_eq_true rfl) ?_
  refine W.eq (g2 := F0 m _ _ []) rfl ?_
  refine lv_aload_n hx hb dX1_init_4 rfl (lv_at hl 0 rfl) ?_
  refine lv_sipush (v := 255) hx hb dX1_init_5 (by decide) ?_
  obtain ⟨h_1, h, hf⟩ := hf
  refine h_put (C := RX1) (T := TX1) (N := 2) (ci := 1) (k := 0) (ty := .int) tyX1 tyX1_ok nmX1 X hM in_X1 rfl (by decide) q744 rfl rfl (by decide +kernel) rfl rfl h dX1_init_8 (fun H locs hM => ?_)
  refine lv_aload_n hx hb dX1_init_11 rfl (lv_at hl 0 rfl) ?_
  refine lv_bipush (v := 8) hx hb dX1_init_12 (by decide) ?_
  obtain ⟨h_2, h, hf⟩ := hf
  refine h_put (C := RX1) (T := TX1) (N := 2) (ci := 1) (k := 1) (ty := .int) tyX1 tyX1_ok nmX1 X hM in_X1 rfl (by decide) q746 rfl rfl (by decide +kernel) rfl rfl h dX1_init_14 (fun H locs hM => ?_)
  exact n_vret X hr hlk hM (nb_u hu) (nb_u hw) hf dX1_init_17
theorem hX1_init : yX1_init.cls ≠ "java/lang/invoke/MethodHandle" ∧ yX1_init.cls ≠ "java/lang/invoke/VarHandle" ∧ (parseMethodDescriptor yX1_init.desc).map (fun d => d.parameters.length) = some 0 := by decide +kernel

noncomputable def fX2_init (Qt : Nat → hH → Prop) (Qr : hH → Prop) (S : hH) (bc bk : Nat) (x0 : Nat) : Prop :=
  Qr S
theorem metX2_init (l : Launch) (D : va_G) (dA : Nat → ClassId) (K : oK) (Qt : Nat → hH → Prop) (Qr : hH → Prop) (S : hH) (bc bk : Nat) (x0 : Nat) {sz : Nat} (hf : fX2_init Qt Qr S bc bk x0) : MetT l yX2_init (ws_ yX2_init cX2_init 1 none) (rmN 1 bc bk) (NPre D dA K sz S [.ref x0]) (NPost D dA (NA S sz) (nqV Qr) Qt) bc bk (NA S sz) := by
  refine n_ofW rfl (by decide) (Nat.le_of_ble_eq_true rfl) (fun A p e s m args below meth c X hr hlk hne hin hA hO hRf hM ls hl => ?_)
  have hl : lv_has ls 1 [(0, .ref x0)] := hl
  have hx := X.1
  have hb := X.2.1
  have hu : 0 + bc = bc := Nat.zero_add bc
  have hw : 0 + bk = bk := Nat.zero_add bk
  unfold fX2_init at hf
  refine lv_aload_n hx hb dX2_init_0 rfl (lv_at hl 0 rfl) ?_
  refine W.objInit hx hb X.2.2.2.1 (X.2.2.2.2 _ q759) (X.2.2.2.2 _ q111) (X.2.2.2.2 _ q112) rfl (X.2.2.1.trans hl.1.symm).symm rfl dX2_init_1 (Nat.le_of_ble_eq_true rfl) (Nat.le_of_ble_eq_true rfl) ?_
  refine W.eq (g2 := F0 m _ _ []) rfl ?_
  exact n_vret X hr hlk hM (nb_u hu) (nb_u hw) hf dX2_init_4
theorem hX2_init : yX2_init.cls ≠ "java/lang/invoke/MethodHandle" ∧ yX2_init.cls ≠ "java/lang/invoke/VarHandle" ∧ (parseMethodDescriptor yX2_init.desc).map (fun d => d.parameters.length) = some 0 := by decide +kernel

noncomputable def fX0_init (Qt : Nat → hH → Prop) (Qr : hH → Prop) (S : hH) (bc bk : Nat) (x0 : Nat) : Prop :=
  1 ≤ bc ∧ 320 ≤ bk ∧ ∀ q_1 : Nat, S q_1 = none →
  ec_lt (va_up S q_1 (some (.inl (2, 320, .inl (fun _ => 0))))) fun S_2 =>
  ∃ h_3, (hPut 0 S_2 x0 0 (.ref q_1)) = some h_3 ∧
  1 ≤ (bc - 1) ∧ 16 ≤ (bk - 320) ∧ ∀ q_4 : Nat, h_3 q_4 = none →
  ec_lt (va_up h_3 q_4 (some (.inl (4, 16, .inr (fun _ => none))))) fun S_5 =>
  ∃ h_6, (hPut 0 S_5 x0 3 (.ref q_4)) = some h_6 ∧
  1 ≤ ((bc - 1) - 1) ∧ 2 ≤ ((bk - 320) - 16) ∧ ∀ q_7 : Nat, h_6 q_7 = none →
  ec_lt (va_up h_6 q_7 (some (.inl (5, 2, .inr (fun _ => none))))) fun S_8 =>
  ∃ h_9, (hPut 0 S_8 x0 5 (.ref q_7)) = some h_9 ∧
  1 ≤ (((bc - 1) - 1) - 1) ∧ 6000 ≤ (((bk - 320) - 16) - 2) ∧ ∀ q_10 : Nat, h_9 q_10 = none →
  ec_lt (va_up h_9 q_10 (some (.inl (0, 6000, .inl (fun _ => 0))))) fun S_11 =>
  ∃ h_12, (hPut 0 S_11 x0 7 (.ref q_10)) = some h_12 ∧
  1 ≤ ((((bc - 1) - 1) - 1) - 1) ∧ 8 ≤ ((((bk - 320) - 16) - 2) - 6000) ∧ ∀ q_13 : Nat, h_12 q_13 = none →
  ec_lt (va_up h_12 q_13 (some (.inl (0, 8, .inl (fun _ => 0))))) fun S_14 =>
  ∃ h_15, (hPut 0 S_14 x0 10 (.ref q_13)) = some h_15 ∧
  17 ≤ (((((bc - 1) - 1) - 1) - 1) - 1) ∧ 144 ≤ (((((bk - 320) - 16) - 2) - 6000) - 8) ∧ ∀ q_16 : Nat, (∀ z, q_16 ≤ z → h_15 z = none) →
  ec_lt (mUp h_15 q_16 16 8) fun S_17 =>
  ∃ h_18, (hPut 0 S_17 x0 11 (.ref q_16)) = some h_18 ∧
  ∃ h_19, (hPut 0 h_18 x0 12 (.int (2 : Int32))) = some h_19 ∧
  1 ≤ ((((((bc - 1) - 1) - 1) - 1) - 1) - 17) ∧ 4 ≤ ((((((bk - 320) - 16) - 2) - 6000) - 8) - 144) ∧ ∀ q_20 : Nat, h_19 q_20 = none →
  ec_lt (va_up h_19 q_20 (some (.inl (7, 4, .inr (fun _ => none))))) fun S_21 =>
  1 ≤ (((((((bc - 1) - 1) - 1) - 1) - 1) - 17) - 1) ∧ 2 ≤ (((((((bk - 320) - 16) - 2) - 6000) - 8) - 144) - 4) ∧ ∀ q_22 : Nat, S_21 q_22 = none →
  ec_lt (va_up S_21 q_22 (some (.inr (1, [.int 0, .int 0])))) fun S_23 =>
  ∃ c_24 k_25 : Nat, c_24 ≤ ((((((((bc - 1) - 1) - 1) - 1) - 1) - 17) - 1) - 1) ∧ k_25 ≤ ((((((((bk - 320) - 16) - 2) - 6000) - 8) - 144) - 4) - 2) ∧ fX1_init (fun _ _ => False) (fun S_26 =>
  ∃ w_28, (hObj 1 S_26 q_22) = some w_28 ∧
  ∃ h_27, (hAsR 7 S_26 q_20 (0 : Int32) q_22) = some h_27 ∧
  1 ≤ (((((((((bc - 1) - 1) - 1) - 1) - 1) - 17) - 1) - 1) - c_24) ∧ 2 ≤ (((((((((bk - 320) - 16) - 2) - 6000) - 8) - 144) - 4) - 2) - k_25) ∧ ∀ q_29 : Nat, h_27 q_29 = none →
  ec_lt (va_up h_27 q_29 (some (.inr (1, [.int 0, .int 0])))) fun S_30 =>
  ∃ c_31 k_32 : Nat, c_31 ≤ ((((((((((bc - 1) - 1) - 1) - 1) - 1) - 17) - 1) - 1) - c_24) - 1) ∧ k_32 ≤ ((((((((((bk - 320) - 16) - 2) - 6000) - 8) - 144) - 4) - 2) - k_25) - 2) ∧ fX1_init (fun _ _ => False) (fun S_33 =>
  ∃ w_35, (hObj 1 S_33 q_29) = some w_35 ∧
  ∃ h_34, (hAsR 7 S_33 q_20 (1 : Int32) q_29) = some h_34 ∧
  1 ≤ (((((((((((bc - 1) - 1) - 1) - 1) - 1) - 17) - 1) - 1) - c_24) - 1) - c_31) ∧ 2 ≤ (((((((((((bk - 320) - 16) - 2) - 6000) - 8) - 144) - 4) - 2) - k_25) - 2) - k_32) ∧ ∀ q_36 : Nat, h_34 q_36 = none →
  ec_lt (va_up h_34 q_36 (some (.inr (1, [.int 0, .int 0])))) fun S_37 =>
  ∃ c_38 k_39 : Nat, c_38 ≤ ((((((((((((bc - 1) - 1) - 1) - 1) - 1) - 17) - 1) - 1) - c_24) - 1) - c_31) - 1) ∧ k_39 ≤ ((((((((((((bk - 320) - 16) - 2) - 6000) - 8) - 144) - 4) - 2) - k_25) - 2) - k_32) - 2) ∧ fX1_init (fun _ _ => False) (fun S_40 =>
  ∃ w_42, (hObj 1 S_40 q_36) = some w_42 ∧
  ∃ h_41, (hAsR 7 S_40 q_20 (2 : Int32) q_36) = some h_41 ∧
  1 ≤ (((((((((((((bc - 1) - 1) - 1) - 1) - 1) - 17) - 1) - 1) - c_24) - 1) - c_31) - 1) - c_38) ∧ 2 ≤ (((((((((((((bk - 320) - 16) - 2) - 6000) - 8) - 144) - 4) - 2) - k_25) - 2) - k_32) - 2) - k_39) ∧ ∀ q_43 : Nat, h_41 q_43 = none →
  ec_lt (va_up h_41 q_43 (some (.inr (1, [.int 0, .int 0])))) fun S_44 =>
  ∃ c_45 k_46 : Nat, c_45 ≤ ((((((((((((((bc - 1) - 1) - 1) - 1) - 1) - 17) - 1) - 1) - c_24) - 1) - c_31) - 1) - c_38) - 1) ∧ k_46 ≤ ((((((((((((((bk - 320) - 16) - 2) - 6000) - 8) - 144) - 4) - 2) - k_25) - 2) - k_32) - 2) - k_39) - 2) ∧ fX1_init (fun _ _ => False) (fun S_47 =>
  ∃ w_49, (hObj 1 S_47 q_43) = some w_49 ∧
  ∃ h_48, (hAsR 7 S_47 q_20 (3 : Int32) q_43) = some h_48 ∧
  ∃ h_50, (hPut 0 h_48 x0 13 (.ref q_20)) = some h_50 ∧
  1 ≤ (((((((((((((((bc - 1) - 1) - 1) - 1) - 1) - 17) - 1) - 1) - c_24) - 1) - c_31) - 1) - c_38) - 1) - c_45) ∧ 256 ≤ (((((((((((((((bk - 320) - 16) - 2) - 6000) - 8) - 144) - 4) - 2) - k_25) - 2) - k_32) - 2) - k_39) - 2) - k_46) ∧ ∀ q_51 : Nat, h_50 q_51 = none →
  ec_lt (va_up h_50 q_51 (some (.inl (1, 256, .inl (fun _ => 0))))) fun S_52 =>
  ∃ h_53, (hPut 0 S_52 x0 14 (.ref q_51)) = some h_53 ∧
  1 ≤ ((((((((((((((((bc - 1) - 1) - 1) - 1) - 1) - 17) - 1) - 1) - c_24) - 1) - c_31) - 1) - c_38) - 1) - c_45) - 1) ∧ 256 ≤ ((((((((((((((((bk - 320) - 16) - 2) - 6000) - 8) - 144) - 4) - 2) - k_25) - 2) - k_32) - 2) - k_39) - 2) - k_46) - 256) ∧ ∀ q_54 : Nat, h_53 q_54 = none →
  ec_lt (va_up h_53 q_54 (some (.inl (0, 256, .inl (fun _ => 0))))) fun S_55 =>
  ∃ h_56, (hPut 0 S_55 x0 15 (.ref q_54)) = some h_56 ∧
  1 ≤ (((((((((((((((((bc - 1) - 1) - 1) - 1) - 1) - 17) - 1) - 1) - c_24) - 1) - c_31) - 1) - c_38) - 1) - c_45) - 1) - 1) ∧ 8 ≤ (((((((((((((((((bk - 320) - 16) - 2) - 6000) - 8) - 144) - 4) - 2) - k_25) - 2) - k_32) - 2) - k_39) - 2) - k_46) - 256) - 256) ∧ ∀ q_57 : Nat, h_56 q_57 = none →
  ec_lt (va_up h_56 q_57 (some (.inl (0, 8, .inl (fun _ => 0))))) fun S_58 =>
  ∃ h_59, (hPut 0 S_58 x0 16 (.ref q_57)) = some h_59 ∧
  1 ≤ ((((((((((((((((((bc - 1) - 1) - 1) - 1) - 1) - 17) - 1) - 1) - c_24) - 1) - c_31) - 1) - c_38) - 1) - c_45) - 1) - 1) - 1) ∧ 16 ≤ ((((((((((((((((((bk - 320) - 16) - 2) - 6000) - 8) - 144) - 4) - 2) - k_25) - 2) - k_32) - 2) - k_39) - 2) - k_46) - 256) - 256) - 8) ∧ ∀ q_60 : Nat, h_59 q_60 = none →
  ec_lt (va_up h_59 q_60 (some (.inl (0, 16, .inl (fun _ => 0))))) fun S_61 =>
  ∃ h_62, (hPut 0 S_61 x0 20 (.ref q_60)) = some h_62 ∧
  13 ≤ (((((((((((((((((((bc - 1) - 1) - 1) - 1) - 1) - 17) - 1) - 1) - c_24) - 1) - c_31) - 1) - c_38) - 1) - c_45) - 1) - 1) - 1) - 1) ∧ 48 ≤ (((((((((((((((((((bk - 320) - 16) - 2) - 6000) - 8) - 144) - 4) - 2) - k_25) - 2) - k_32) - 2) - k_39) - 2) - k_46) - 256) - 256) - 8) - 16) ∧ ∀ q_63 : Nat, (∀ z, q_63 ≤ z → h_62 z = none) →
  ec_lt (mUp h_62 q_63 12 3) fun S_64 =>
  ∃ h_65, (hPut 0 S_64 x0 25 (.ref q_63)) = some h_65 ∧
  1 ≤ ((((((((((((((((((((bc - 1) - 1) - 1) - 1) - 1) - 17) - 1) - 1) - c_24) - 1) - c_31) - 1) - c_38) - 1) - c_45) - 1) - 1) - 1) - 1) - 13) ∧ 4 ≤ ((((((((((((((((((((bk - 320) - 16) - 2) - 6000) - 8) - 144) - 4) - 2) - k_25) - 2) - k_32) - 2) - k_39) - 2) - k_46) - 256) - 256) - 8) - 16) - 48) ∧ ∀ q_66 : Nat, h_65 q_66 = none →
  ec_lt (va_up h_65 q_66 (some (.inl (8, 4, .inr (fun _ => none))))) fun S_67 =>
  1 ≤ (((((((((((((((((((((bc - 1) - 1) - 1) - 1) - 1) - 17) - 1) - 1) - c_24) - 1) - c_31) - 1) - c_38) - 1) - c_45) - 1) - 1) - 1) - 1) - 13) - 1) ∧ 2 ≤ (((((((((((((((((((((bk - 320) - 16) - 2) - 6000) - 8) - 144) - 4) - 2) - k_25) - 2) - k_32) - 2) - k_39) - 2) - k_46) - 256) - 256) - 8) - 16) - 48) - 4) ∧ ∀ q_68 : Nat, S_67 q_68 = none →
  ec_lt (va_up S_67 q_68 (some (.inr (2, [.null, .int 0])))) fun S_69 =>
  ∃ c_70 k_71 : Nat, c_70 ≤ ((((((((((((((((((((((bc - 1) - 1) - 1) - 1) - 1) - 17) - 1) - 1) - c_24) - 1) - c_31) - 1) - c_38) - 1) - c_45) - 1) - 1) - 1) - 1) - 13) - 1) - 1) ∧ k_71 ≤ ((((((((((((((((((((((bk - 320) - 16) - 2) - 6000) - 8) - 144) - 4) - 2) - k_25) - 2) - k_32) - 2) - k_39) - 2) - k_46) - 256) - 256) - 8) - 16) - 48) - 4) - 2) ∧ fX2_init (fun _ _ => False) (fun S_72 =>
  ∃ w_74, (hObj 2 S_72 q_68) = some w_74 ∧
  ∃ h_73, (hAsR 8 S_72 q_66 (0 : Int32) q_68) = some h_73 ∧
  1 ≤ (((((((((((((((((((((((bc - 1) - 1) - 1) - 1) - 1) - 17) - 1) - 1) - c_24) - 1) - c_31) - 1) - c_38) - 1) - c_45) - 1) - 1) - 1) - 1) - 13) - 1) - 1) - c_70) ∧ 2 ≤ (((((((((((((((((((((((bk - 320) - 16) - 2) - 6000) - 8) - 144) - 4) - 2) - k_25) - 2) - k_32) - 2) - k_39) - 2) - k_46) - 256) - 256) - 8) - 16) - 48) - 4) - 2) - k_71) ∧ ∀ q_75 : Nat, h_73 q_75 = none →
  ec_lt (va_up h_73 q_75 (some (.inr (2, [.null, .int 0])))) fun S_76 =>
  ∃ c_77 k_78 : Nat, c_77 ≤ ((((((((((((((((((((((((bc - 1) - 1) - 1) - 1) - 1) - 17) - 1) - 1) - c_24) - 1) - c_31) - 1) - c_38) - 1) - c_45) - 1) - 1) - 1) - 1) - 13) - 1) - 1) - c_70) - 1) ∧ k_78 ≤ ((((((((((((((((((((((((bk - 320) - 16) - 2) - 6000) - 8) - 144) - 4) - 2) - k_25) - 2) - k_32) - 2) - k_39) - 2) - k_46) - 256) - 256) - 8) - 16) - 48) - 4) - 2) - k_71) - 2) ∧ fX2_init (fun _ _ => False) (fun S_79 =>
  ∃ w_81, (hObj 2 S_79 q_75) = some w_81 ∧
  ∃ h_80, (hAsR 8 S_79 q_66 (1 : Int32) q_75) = some h_80 ∧
  1 ≤ (((((((((((((((((((((((((bc - 1) - 1) - 1) - 1) - 1) - 17) - 1) - 1) - c_24) - 1) - c_31) - 1) - c_38) - 1) - c_45) - 1) - 1) - 1) - 1) - 13) - 1) - 1) - c_70) - 1) - c_77) ∧ 2 ≤ (((((((((((((((((((((((((bk - 320) - 16) - 2) - 6000) - 8) - 144) - 4) - 2) - k_25) - 2) - k_32) - 2) - k_39) - 2) - k_46) - 256) - 256) - 8) - 16) - 48) - 4) - 2) - k_71) - 2) - k_78) ∧ ∀ q_82 : Nat, h_80 q_82 = none →
  ec_lt (va_up h_80 q_82 (some (.inr (2, [.null, .int 0])))) fun S_83 =>
  ∃ c_84 k_85 : Nat, c_84 ≤ ((((((((((((((((((((((((((bc - 1) - 1) - 1) - 1) - 1) - 17) - 1) - 1) - c_24) - 1) - c_31) - 1) - c_38) - 1) - c_45) - 1) - 1) - 1) - 1) - 13) - 1) - 1) - c_70) - 1) - c_77) - 1) ∧ k_85 ≤ ((((((((((((((((((((((((((bk - 320) - 16) - 2) - 6000) - 8) - 144) - 4) - 2) - k_25) - 2) - k_32) - 2) - k_39) - 2) - k_46) - 256) - 256) - 8) - 16) - 48) - 4) - 2) - k_71) - 2) - k_78) - 2) ∧ fX2_init (fun _ _ => False) (fun S_86 =>
  ∃ w_88, (hObj 2 S_86 q_82) = some w_88 ∧
  ∃ h_87, (hAsR 8 S_86 q_66 (2 : Int32) q_82) = some h_87 ∧
  1 ≤ (((((((((((((((((((((((((((bc - 1) - 1) - 1) - 1) - 1) - 17) - 1) - 1) - c_24) - 1) - c_31) - 1) - c_38) - 1) - c_45) - 1) - 1) - 1) - 1) - 13) - 1) - 1) - c_70) - 1) - c_77) - 1) - c_84) ∧ 2 ≤ (((((((((((((((((((((((((((bk - 320) - 16) - 2) - 6000) - 8) - 144) - 4) - 2) - k_25) - 2) - k_32) - 2) - k_39) - 2) - k_46) - 256) - 256) - 8) - 16) - 48) - 4) - 2) - k_71) - 2) - k_78) - 2) - k_85) ∧ ∀ q_89 : Nat, h_87 q_89 = none →
  ec_lt (va_up h_87 q_89 (some (.inr (2, [.null, .int 0])))) fun S_90 =>
  ∃ c_91 k_92 : Nat, c_91 ≤ ((((((((((((((((((((((((((((bc - 1) - 1) - 1) - 1) - 1) - 17) - 1) - 1) - c_24) - 1) - c_31) - 1) - c_38) - 1) - c_45) - 1) - 1) - 1) - 1) - 13) - 1) - 1) - c_70) - 1) - c_77) - 1) - c_84) - 1) ∧ k_92 ≤ ((((((((((((((((((((((((((((bk - 320) - 16) - 2) - 6000) - 8) - 144) - 4) - 2) - k_25) - 2) - k_32) - 2) - k_39) - 2) - k_46) - 256) - 256) - 8) - 16) - 48) - 4) - 2) - k_71) - 2) - k_78) - 2) - k_85) - 2) ∧ fX2_init (fun _ _ => False) (fun S_93 =>
  ∃ w_95, (hObj 2 S_93 q_89) = some w_95 ∧
  ∃ h_94, (hAsR 8 S_93 q_66 (3 : Int32) q_89) = some h_94 ∧
  ∃ h_96, (hPut 0 h_94 x0 27 (.ref q_66)) = some h_96 ∧
  Qr h_96) S_90 c_91 k_92 q_89) S_83 c_84 k_85 q_82) S_76 c_77 k_78 q_75) S_69 c_70 k_71 q_68) S_44 c_45 k_46 q_43) S_37 c_38 k_39 q_36) S_30 c_31 k_32 q_29) S_23 c_24 k_25 q_22
theorem metX0_init (l : Launch) (D : va_G) (dA : Nat → ClassId) (K : oK) (Qt : Nat → hH → Prop) (Qr : hH → Prop) (S : hH) (bc bk : Nat) (x0 : Nat) {sz : Nat} (hf : fX0_init Qt Qr S bc bk x0) : MetT l yX0_init (ws_ yX0_init cX0_init 1 none) (rmN 2 bc bk) (CPre D dA K sz S [.ref x0]) (NPost D dA (NA S sz) (nqV Qr) Qt) bc bk (NA S sz) := by
  refine c_ofW rfl (by decide) (Nat.le_of_ble_eq_true rfl) (fun A p e s m args below meth c X hr hlk hne hin hA hO hRf hMK hM ls hl => ?_)
  have hl : lv_has ls 1 [(0, .ref x0)] := hl
  have hx := X.1
  have hb := X.2.1
  have hu : 0 + bc = bc := Nat.zero_add bc
  have hw : 0 + bk = bk := Nat.zero_add bk
  unfold fX0_init at hf
  refine lv_aload_n hx hb dX0_init_0 rfl (lv_at hl 0 rfl) ?_
  refine W.objInit hx hb X.2.2.2.1 (X.2.2.2.2 _ q732) (X.2.2.2.2 _ q111) (X.2.2.2.2 _ q112) rfl (X.2.2.1.trans hl.1.symm).symm rfl dX0_init_1 (Nat.le_of_ble_eq_true rfl) (Nat.le_of_ble_eq_true rfl) ?_
  refine W.eq (g2 := F0 m _ _ []) rfl ?_
  refine lv_aload_n hx hb dX0_init_4 rfl (lv_at hl 0 rfl) ?_
  refine lv_sipush (v := 320) hx hb dX0_init_5 (by decide) ?_
  obtain ⟨hb1, hb2, hf⟩ := hf
  refine n_newb X hM hA q223 (by decide) (by decide) (by decide) (nb_le hu hb1) (nb_le hw hb2) dX0_init_8 (fun q_1 H hq hM => ?_)
  have hf := hf q_1 hq
  obtain ⟨S_2, eS⟩ : ∃ z : hH, z = va_up S q_1 (some (.inl (2, 320, .inl (fun _ => 0)))) := ⟨_, rfl⟩
  rw [← eS] at hM
  have hf := ec_lt_p eS hf
  have hu := nb_sub hu hb1
  have hw := nb_sub hw hb2
  obtain ⟨h_3, h, hf⟩ := hf
  refine h_putF (C := RX0) (T := TX0) (N := 28) (ci := 0) (k := 0) (ty := (.array .byte)) tyX0 tyX0_ok nmX0 X hM in_X0 rfl (by decide) q768 rfl rfl hin (by decide +kernel) rfl rfl h dX0_init_10 (fun H locs hM => ?_)
  refine lv_aload_n hx hb dX0_init_13 rfl (lv_at hl 0 rfl) ?_
  refine lv_bipush (v := 16) hx hb dX0_init_14 (by decide) ?_
  obtain ⟨hb1, hb2, hf⟩ := hf
  refine n_anew (t := 4) X hM hA rfl q733 hM.2.1.2.1 (by decide) (by decide) (by decide) (nb_le hu hb1) (nb_le hw hb2) dX0_init_16 (fun q_4 H hq hM => ?_)
  have hf := hf q_4 hq
  obtain ⟨S_5, eS⟩ : ∃ z : hH, z = va_up h_3 q_4 (some (.inl (4, 16, .inr (fun _ => none)))) := ⟨_, rfl⟩
  rw [← eS] at hM
  have hf := ec_lt_p eS hf
  have hu := nb_sub hu hb1
  have hw := nb_sub hw hb2
  obtain ⟨h_6, h, hf⟩ := hf
  refine h_put (C := RX0) (T := TX0) (N := 28) (ci := 0) (k := 3) (ty := (.array (.object "EventCounters$Line"))) tyX0 tyX0_ok nmX0 X hM in_X0 rfl (by decide) q771 rfl rfl (by decide +kernel) rfl rfl h dX0_init_19 (fun H locs hM => ?_)
  refine lv_aload_n hx hb dX0_init_22 rfl (lv_at hl 0 rfl) ?_
  refine lv_iconst (v := 2) hx hb dX0_init_23 (by decide) ?_
  obtain ⟨hb1, hb2, hf⟩ := hf
  refine n_anew (t := 5) X hM hA rfl q734 hM.2.1.2.2.1 (by decide) (by decide) (by decide) (nb_le hu hb1) (nb_le hw hb2) dX0_init_24 (fun q_7 H hq hM => ?_)
  have hf := hf q_7 hq
  obtain ⟨S_8, eS⟩ : ∃ z : hH, z = va_up h_6 q_7 (some (.inl (5, 2, .inr (fun _ => none)))) := ⟨_, rfl⟩
  rw [← eS] at hM
  have hf := ec_lt_p eS hf
  have hu := nb_sub hu hb1
  have hw := nb_sub hw hb2
  obtain ⟨h_9, h, hf⟩ := hf
  refine h_put (C := RX0) (T := TX0) (N := 28) (ci := 0) (k := 5) (ty := (.array (.object "EventCounters$Loop"))) tyX0 tyX0_ok nmX0 X hM in_X0 rfl (by decide) q773 rfl rfl (by decide +kernel) rfl rfl h dX0_init_27 (fun H locs hM => ?_)
  refine lv_aload_n hx hb dX0_init_30 rfl (lv_at hl 0 rfl) ?_
  refine lv_sipush (v := 6000) hx hb dX0_init_31 (by decide) ?_
  obtain ⟨hb1, hb2, hf⟩ := hf
  refine n_newi X hM hA q370 (by decide) (by decide) (by decide) (nb_le hu hb1) (nb_le hw hb2) dX0_init_34 (fun q_10 H hq hM => ?_)
  have hf := hf q_10 hq
  obtain ⟨S_11, eS⟩ : ∃ z : hH, z = va_up h_9 q_10 (some (.inl (0, 6000, .inl (fun _ => 0)))) := ⟨_, rfl⟩
  rw [← eS] at hM
  have hf := ec_lt_p eS hf
  have hu := nb_sub hu hb1
  have hw := nb_sub hw hb2
  obtain ⟨h_12, h, hf⟩ := hf
  refine h_putF (C := RX0) (T := TX0) (N := 28) (ci := 0) (k := 7) (ty := (.array .int)) tyX0 tyX0_ok nmX0 X hM in_X0 rfl (by decide) q775 rfl rfl hin (by decide +kernel) rfl rfl h dX0_init_36 (fun H locs hM => ?_)
  refine lv_aload_n hx hb dX0_init_39 rfl (lv_at hl 0 rfl) ?_
  refine lv_bipush (v := 8) hx hb dX0_init_40 (by decide) ?_
  obtain ⟨hb1, hb2, hf⟩ := hf
  refine n_newi X hM hA q370 (by decide) (by decide) (by decide) (nb_le hu hb1) (nb_le hw hb2) dX0_init_42 (fun q_13 H hq hM => ?_)
  have hf := hf q_13 hq
  obtain ⟨S_14, eS⟩ : ∃ z : hH, z = va_up h_12 q_13 (some (.inl (0, 8, .inl (fun _ => 0)))) := ⟨_, rfl⟩
  rw [← eS] at hM
  have hf := ec_lt_p eS hf
  have hu := nb_sub hu hb1
  have hw := nb_sub hw hb2
  obtain ⟨h_15, h, hf⟩ := hf
  refine h_putF (C := RX0) (T := TX0) (N := 28) (ci := 0) (k := 10) (ty := (.array .int)) tyX0 tyX0_ok nmX0 X hM in_X0 rfl (by decide) q778 rfl rfl hin (by decide +kernel) rfl rfl h dX0_init_44 (fun H locs hM => ?_)
  refine lv_aload_n hx hb dX0_init_47 rfl (lv_at hl 0 rfl) ?_
  refine lv_bipush (v := 16) hx hb dX0_init_48 (by decide) ?_
  refine lv_bipush (v := 8) hx hb dX0_init_50 (by decide) ?_
  obtain ⟨hb1, hb2, hf⟩ := hf
  refine n_multi (N := 16) (M := 8) X hM hA hMK q735 (by decide) (by decide) (by decide) (by decide) (by decide) (nb_le hu hb1) (nb_le hw hb2) dX0_init_52 (fun q_16 H locs hq hM => ?_)
  have hf := hf q_16 hq
  obtain ⟨S_17, eS⟩ : ∃ z : hH, z = mUp h_15 q_16 16 8 := ⟨_, rfl⟩
  rw [← eS] at hM
  have hf := ec_lt_p eS hf
  have hu := nb_sub hu hb1
  have hw := nb_sub hw hb2
  obtain ⟨h_18, h, hf⟩ := hf
  refine h_putF (C := RX0) (T := TX0) (N := 28) (ci := 0) (k := 11) (ty := (.array (.array .int))) tyX0 tyX0_ok nmX0 X hM in_X0 rfl (by decide) q779 rfl rfl hin (by decide +kernel) rfl rfl h dX0_init_56 (fun H locs hM => ?_)
  refine lv_aload_n hx hb dX0_init_59 rfl (lv_at hl 0 rfl) ?_
  refine lv_iconst (v := 2) hx hb dX0_init_60 (by decide) ?_
  obtain ⟨h_19, h, hf⟩ := hf
  refine h_put (C := RX0) (T := TX0) (N := 28) (ci := 0) (k := 12) (ty := .int) tyX0 tyX0_ok nmX0 X hM in_X0 rfl (by decide) q780 rfl rfl (by decide +kernel) rfl rfl h dX0_init_61 (fun H locs hM => ?_)
  refine lv_aload_n hx hb dX0_init_64 rfl (lv_at hl 0 rfl) ?_
  refine lv_iconst (v := 4) hx hb dX0_init_65 (by decide) ?_
  obtain ⟨hb1, hb2, hf⟩ := hf
  refine n_anew (t := 7) X hM hA rfl q737 hM.2.1.2.2.2.2.1 (by decide) (by decide) (by decide) (nb_le hu hb1) (nb_le hw hb2) dX0_init_66 (fun q_20 H hq hM => ?_)
  have hf := hf q_20 hq
  obtain ⟨S_21, eS⟩ : ∃ z : hH, z = va_up h_19 q_20 (some (.inl (7, 4, .inr (fun _ => none)))) := ⟨_, rfl⟩
  rw [← eS] at hM
  have hf := ec_lt_p eS hf
  have hu := nb_sub hu hb1
  have hw := nb_sub hw hb2
  refine lv_dup hx hb dX0_init_69 rfl ?_
  refine lv_iconst (v := 0) hx hb dX0_init_70 (by decide) ?_
  obtain ⟨hb1, hb2, hf⟩ := hf
  refine n_new (C := RX1) (T := TX1) (N := 2) (ci := 1) (fs := [.int 0, .int 0]) tyX1 tyX1_ok X hM hA in_X1 q737 q739 q61 rfl (fun j hj => by rcases (show j = 0 ∨ j = 1 by omega) with rfl | rfl <;> rfl) (nb_le hu hb1) (nb_le hw hb2) dX0_init_71 (fun q_22 H hq hM => ?_)
  have hf := hf q_22 hq
  obtain ⟨S_23, eS⟩ : ∃ z : hH, z = va_up S_21 q_22 (some (.inr (1, [.int 0, .int 0]))) := ⟨_, rfl⟩
  rw [← eS] at hM
  have hf := ec_lt_p eS hf
  have hu := nb_sub hu hb1
  have hw := nb_sub hw hb2
  refine lv_dup hx hb dX0_init_74 rfl ?_
  obtain ⟨c_24, k_25, hc1, hk1, hf⟩ := hf
  refine n_cIN (As := []) (rest := [.ref q_22, .int (0 : Int32), .ref q_20, .ref q_20, .ref x0]) X hM hA hO hRf (metX1_init l D dA K (fun _ _ => False) _ S_23 c_24 k_25 q_22 hf) ⟨va_cnB (host := "EventCounters") 0 X.2.2.2.2 (lw_meth q742) rfl rfl rfl (xn_at hM.2.1 33 rfl) (X.2.2.2.2 _ q61) hX1_init (rmN_le (Nat.le_of_ble_eq_true rfl) (Nat.le_of_ble_eq_true rfl)), rfl, X.2.2.2.2 _ q741⟩ hne hlk rfl hl.1 rfl (Nat.le_of_ble_eq_true rfl) ⟨nb_le hu hc1, nb_le hw hk1⟩ (nb_le hu hc1) (nb_le hw hk1) dX0_init_75 (fun v S1 H locs hf hM => ?_)
  obtain ⟨rfl, hf⟩ := hf
  generalize S1 = S_26 at hf hM
  have hu := nb_sub hu hc1
  have hw := nb_sub hw hk1
  refine W.eq (g2 := F0 m _ _ [.ref q_22, .int (0 : Int32), .ref q_20, .ref q_20, .ref x0]) rfl ?_
  obtain ⟨w_28, ho, hf⟩ := hf
  obtain ⟨h_27, h, hf⟩ := hf
  refine n_astS (C := RX1) (T := TX1) (N := 2) (ci := 1) (t := 7) X hM rfl rfl ho h dX0_init_78 (fun H locs hM => ?_)
  refine lv_dup hx hb dX0_init_79 rfl ?_
  refine lv_iconst (v := 1) hx hb dX0_init_80 (by decide) ?_
  obtain ⟨hb1, hb2, hf⟩ := hf
  refine n_new (C := RX1) (T := TX1) (N := 2) (ci := 1) (fs := [.int 0, .int 0]) tyX1 tyX1_ok X hM hA in_X1 q737 q739 q61 rfl (fun j hj => by rcases (show j = 0 ∨ j = 1 by omega) with rfl | rfl <;> rfl) (nb_le hu hb1) (nb_le hw hb2) dX0_init_81 (fun q_29 H hq hM => ?_)
  have hf := hf q_29 hq
  obtain ⟨S_30, eS⟩ : ∃ z : hH, z = va_up h_27 q_29 (some (.inr (1, [.int 0, .int 0]))) := ⟨_, rfl⟩
  rw [← eS] at hM
  have hf := ec_lt_p eS hf
  have hu := nb_sub hu hb1
  have hw := nb_sub hw hb2
  refine lv_dup hx hb dX0_init_84 rfl ?_
  obtain ⟨c_31, k_32, hc1, hk1, hf⟩ := hf
  refine n_cIN (As := []) (rest := [.ref q_29, .int (1 : Int32), .ref q_20, .ref q_20, .ref x0]) X hM hA hO hRf (metX1_init l D dA K (fun _ _ => False) _ S_30 c_31 k_32 q_29 hf) ⟨va_cnB (host := "EventCounters") 0 X.2.2.2.2 (lw_meth q742) rfl rfl rfl (xn_at hM.2.1 33 rfl) (X.2.2.2.2 _ q61) hX1_init (rmN_le (Nat.le_of_ble_eq_true rfl) (Nat.le_of_ble_eq_true rfl)), rfl, X.2.2.2.2 _ q741⟩ hne hlk rfl hl.1 rfl (Nat.le_of_ble_eq_true rfl) ⟨nb_le hu hc1, nb_le hw hk1⟩ (nb_le hu hc1) (nb_le hw hk1) dX0_init_85 (fun v S1 H locs hf hM => ?_)
  obtain ⟨rfl, hf⟩ := hf
  generalize S1 = S_33 at hf hM
  have hu := nb_sub hu hc1
  have hw := nb_sub hw hk1
  refine W.eq (g2 := F0 m _ _ [.ref q_29, .int (1 : Int32), .ref q_20, .ref q_20, .ref x0]) rfl ?_
  obtain ⟨w_35, ho, hf⟩ := hf
  obtain ⟨h_34, h, hf⟩ := hf
  refine n_astS (C := RX1) (T := TX1) (N := 2) (ci := 1) (t := 7) X hM rfl rfl ho h dX0_init_88 (fun H locs hM => ?_)
  refine lv_dup hx hb dX0_init_89 rfl ?_
  refine lv_iconst (v := 2) hx hb dX0_init_90 (by decide) ?_
  obtain ⟨hb1, hb2, hf⟩ := hf
  refine n_new (C := RX1) (T := TX1) (N := 2) (ci := 1) (fs := [.int 0, .int 0]) tyX1 tyX1_ok X hM hA in_X1 q737 q739 q61 rfl (fun j hj => by rcases (show j = 0 ∨ j = 1 by omega) with rfl | rfl <;> rfl) (nb_le hu hb1) (nb_le hw hb2) dX0_init_91 (fun q_36 H hq hM => ?_)
  have hf := hf q_36 hq
  obtain ⟨S_37, eS⟩ : ∃ z : hH, z = va_up h_34 q_36 (some (.inr (1, [.int 0, .int 0]))) := ⟨_, rfl⟩
  rw [← eS] at hM
  have hf := ec_lt_p eS hf
  have hu := nb_sub hu hb1
  have hw := nb_sub hw hb2
  refine lv_dup hx hb dX0_init_94 rfl ?_
  obtain ⟨c_38, k_39, hc1, hk1, hf⟩ := hf
  refine n_cIN (As := []) (rest := [.ref q_36, .int (2 : Int32), .ref q_20, .ref q_20, .ref x0]) X hM hA hO hRf (metX1_init l D dA K (fun _ _ => False) _ S_37 c_38 k_39 q_36 hf) ⟨va_cnB (host := "EventCounters") 0 X.2.2.2.2 (lw_meth q742) rfl rfl rfl (xn_at hM.2.1 33 rfl) (X.2.2.2.2 _ q61) hX1_init (rmN_le (Nat.le_of_ble_eq_true rfl) (Nat.le_of_ble_eq_true rfl)), rfl, X.2.2.2.2 _ q741⟩ hne hlk rfl hl.1 rfl (Nat.le_of_ble_eq_true rfl) ⟨nb_le hu hc1, nb_le hw hk1⟩ (nb_le hu hc1) (nb_le hw hk1) dX0_init_95 (fun v S1 H locs hf hM => ?_)
  obtain ⟨rfl, hf⟩ := hf
  generalize S1 = S_40 at hf hM
  have hu := nb_sub hu hc1
  have hw := nb_sub hw hk1
  refine W.eq (g2 := F0 m _ _ [.ref q_36, .int (2 : Int32), .ref q_20, .ref q_20, .ref x0]) rfl ?_
  obtain ⟨w_42, ho, hf⟩ := hf
  obtain ⟨h_41, h, hf⟩ := hf
  refine n_astS (C := RX1) (T := TX1) (N := 2) (ci := 1) (t := 7) X hM rfl rfl ho h dX0_init_98 (fun H locs hM => ?_)
  refine lv_dup hx hb dX0_init_99 rfl ?_
  refine lv_iconst (v := 3) hx hb dX0_init_100 (by decide) ?_
  obtain ⟨hb1, hb2, hf⟩ := hf
  refine n_new (C := RX1) (T := TX1) (N := 2) (ci := 1) (fs := [.int 0, .int 0]) tyX1 tyX1_ok X hM hA in_X1 q737 q739 q61 rfl (fun j hj => by rcases (show j = 0 ∨ j = 1 by omega) with rfl | rfl <;> rfl) (nb_le hu hb1) (nb_le hw hb2) dX0_init_101 (fun q_43 H hq hM => ?_)
  have hf := hf q_43 hq
  obtain ⟨S_44, eS⟩ : ∃ z : hH, z = va_up h_41 q_43 (some (.inr (1, [.int 0, .int 0]))) := ⟨_, rfl⟩
  rw [← eS] at hM
  have hf := ec_lt_p eS hf
  have hu := nb_sub hu hb1
  have hw := nb_sub hw hb2
  refine lv_dup hx hb dX0_init_104 rfl ?_
  obtain ⟨c_45, k_46, hc1, hk1, hf⟩ := hf
  refine n_cIN (As := []) (rest := [.ref q_43, .int (3 : Int32), .ref q_20, .ref q_20, .ref x0]) X hM hA hO hRf (metX1_init l D dA K (fun _ _ => False) _ S_44 c_45 k_46 q_43 hf) ⟨va_cnB (host := "EventCounters") 0 X.2.2.2.2 (lw_meth q742) rfl rfl rfl (xn_at hM.2.1 33 rfl) (X.2.2.2.2 _ q61) hX1_init (rmN_le (Nat.le_of_ble_eq_true rfl) (Nat.le_of_ble_eq_true rfl)), rfl, X.2.2.2.2 _ q741⟩ hne hlk rfl hl.1 rfl (Nat.le_of_ble_eq_true rfl) ⟨nb_le hu hc1, nb_le hw hk1⟩ (nb_le hu hc1) (nb_le hw hk1) dX0_init_105 (fun v S1 H locs hf hM => ?_)
  obtain ⟨rfl, hf⟩ := hf
  generalize S1 = S_47 at hf hM
  have hu := nb_sub hu hc1
  have hw := nb_sub hw hk1
  refine W.eq (g2 := F0 m _ _ [.ref q_43, .int (3 : Int32), .ref q_20, .ref q_20, .ref x0]) rfl ?_
  obtain ⟨w_49, ho, hf⟩ := hf
  obtain ⟨h_48, h, hf⟩ := hf
  refine n_astS (C := RX1) (T := TX1) (N := 2) (ci := 1) (t := 7) X hM rfl rfl ho h dX0_init_108 (fun H locs hM => ?_)
  obtain ⟨h_50, h, hf⟩ := hf
  refine h_putF (C := RX0) (T := TX0) (N := 28) (ci := 0) (k := 13) (ty := (.array (.object "EventCounters$Counter"))) tyX0 tyX0_ok nmX0 X hM in_X0 rfl (by decide) q781 rfl rfl hin (by decide +kernel) rfl rfl h dX0_init_109 (fun H locs hM => ?_)
  refine lv_aload_n hx hb dX0_init_112 rfl (lv_at hl 0 rfl) ?_
  refine lv_sipush (v := 256) hx hb dX0_init_113 (by decide) ?_
  obtain ⟨hb1, hb2, hf⟩ := hf
  refine n_newz X hM hA q767 (by decide) (by decide) (by decide) (nb_le hu hb1) (nb_le hw hb2) dX0_init_116 (fun q_51 H hq hM => ?_)
  have hf := hf q_51 hq
  obtain ⟨S_52, eS⟩ : ∃ z : hH, z = va_up h_50 q_51 (some (.inl (1, 256, .inl (fun _ => 0)))) := ⟨_, rfl⟩
  rw [← eS] at hM
  have hf := ec_lt_p eS hf
  have hu := nb_sub hu hb1
  have hw := nb_sub hw hb2
  obtain ⟨h_53, h, hf⟩ := hf
  refine h_putF (C := RX0) (T := TX0) (N := 28) (ci := 0) (k := 14) (ty := (.array .boolean)) tyX0 tyX0_ok nmX0 X hM in_X0 rfl (by decide) q782 rfl rfl hin (by decide +kernel) rfl rfl h dX0_init_118 (fun H locs hM => ?_)
  refine lv_aload_n hx hb dX0_init_121 rfl (lv_at hl 0 rfl) ?_
  refine lv_sipush (v := 256) hx hb dX0_init_122 (by decide) ?_
  obtain ⟨hb1, hb2, hf⟩ := hf
  refine n_newi X hM hA q370 (by decide) (by decide) (by decide) (nb_le hu hb1) (nb_le hw hb2) dX0_init_125 (fun q_54 H hq hM => ?_)
  have hf := hf q_54 hq
  obtain ⟨S_55, eS⟩ : ∃ z : hH, z = va_up h_53 q_54 (some (.inl (0, 256, .inl (fun _ => 0)))) := ⟨_, rfl⟩
  rw [← eS] at hM
  have hf := ec_lt_p eS hf
  have hu := nb_sub hu hb1
  have hw := nb_sub hw hb2
  obtain ⟨h_56, h, hf⟩ := hf
  refine h_putF (C := RX0) (T := TX0) (N := 28) (ci := 0) (k := 15) (ty := (.array .int)) tyX0 tyX0_ok nmX0 X hM in_X0 rfl (by decide) q783 rfl rfl hin (by decide +kernel) rfl rfl h dX0_init_127 (fun H locs hM => ?_)
  refine lv_aload_n hx hb dX0_init_130 rfl (lv_at hl 0 rfl) ?_
  refine lv_bipush (v := 8) hx hb dX0_init_131 (by decide) ?_
  obtain ⟨hb1, hb2, hf⟩ := hf
  refine n_newi X hM hA q370 (by decide) (by decide) (by decide) (nb_le hu hb1) (nb_le hw hb2) dX0_init_133 (fun q_57 H hq hM => ?_)
  have hf := hf q_57 hq
  obtain ⟨S_58, eS⟩ : ∃ z : hH, z = va_up h_56 q_57 (some (.inl (0, 8, .inl (fun _ => 0)))) := ⟨_, rfl⟩
  rw [← eS] at hM
  have hf := ec_lt_p eS hf
  have hu := nb_sub hu hb1
  have hw := nb_sub hw hb2
  obtain ⟨h_59, h, hf⟩ := hf
  refine h_putF (C := RX0) (T := TX0) (N := 28) (ci := 0) (k := 16) (ty := (.array .int)) tyX0 tyX0_ok nmX0 X hM in_X0 rfl (by decide) q784 rfl rfl hin (by decide +kernel) rfl rfl h dX0_init_135 (fun H locs hM => ?_)
  refine lv_aload_n hx hb dX0_init_138 rfl (lv_at hl 0 rfl) ?_
  refine lv_bipush (v := 16) hx hb dX0_init_139 (by decide) ?_
  obtain ⟨hb1, hb2, hf⟩ := hf
  refine n_newi X hM hA q370 (by decide) (by decide) (by decide) (nb_le hu hb1) (nb_le hw hb2) dX0_init_141 (fun q_60 H hq hM => ?_)
  have hf := hf q_60 hq
  obtain ⟨S_61, eS⟩ : ∃ z : hH, z = va_up h_59 q_60 (some (.inl (0, 16, .inl (fun _ => 0)))) := ⟨_, rfl⟩
  rw [← eS] at hM
  have hf := ec_lt_p eS hf
  have hu := nb_sub hu hb1
  have hw := nb_sub hw hb2
  obtain ⟨h_62, h, hf⟩ := hf
  refine h_putF (C := RX0) (T := TX0) (N := 28) (ci := 0) (k := 20) (ty := (.array .int)) tyX0 tyX0_ok nmX0 X hM in_X0 rfl (by decide) q788 rfl rfl hin (by decide +kernel) rfl rfl h dX0_init_143 (fun H locs hM => ?_)
  refine lv_aload_n hx hb dX0_init_146 rfl (lv_at hl 0 rfl) ?_
  refine lv_bipush (v := 12) hx hb dX0_init_147 (by decide) ?_
  refine lv_iconst (v := 3) hx hb dX0_init_149 (by decide) ?_
  obtain ⟨hb1, hb2, hf⟩ := hf
  refine n_multi (N := 12) (M := 3) X hM hA hMK q735 (by decide) (by decide) (by decide) (by decide) (by decide) (nb_le hu hb1) (nb_le hw hb2) dX0_init_150 (fun q_63 H locs hq hM => ?_)
  have hf := hf q_63 hq
  obtain ⟨S_64, eS⟩ : ∃ z : hH, z = mUp h_62 q_63 12 3 := ⟨_, rfl⟩
  rw [← eS] at hM
  have hf := ec_lt_p eS hf
  have hu := nb_sub hu hb1
  have hw := nb_sub hw hb2
  obtain ⟨h_65, h, hf⟩ := hf
  refine h_putF (C := RX0) (T := TX0) (N := 28) (ci := 0) (k := 25) (ty := (.array (.array .int))) tyX0 tyX0_ok nmX0 X hM in_X0 rfl (by decide) q793 rfl rfl hin (by decide +kernel) rfl rfl h dX0_init_154 (fun H locs hM => ?_)
  refine lv_aload_n hx hb dX0_init_157 rfl (lv_at hl 0 rfl) ?_
  refine lv_iconst (v := 4) hx hb dX0_init_158 (by decide) ?_
  obtain ⟨hb1, hb2, hf⟩ := hf
  refine n_anew (t := 8) X hM hA rfl q753 hM.2.1.2.2.2.2.2 (by decide) (by decide) (by decide) (nb_le hu hb1) (nb_le hw hb2) dX0_init_159 (fun q_66 H hq hM => ?_)
  have hf := hf q_66 hq
  obtain ⟨S_67, eS⟩ : ∃ z : hH, z = va_up h_65 q_66 (some (.inl (8, 4, .inr (fun _ => none)))) := ⟨_, rfl⟩
  rw [← eS] at hM
  have hf := ec_lt_p eS hf
  have hu := nb_sub hu hb1
  have hw := nb_sub hw hb2
  refine lv_dup hx hb dX0_init_162 rfl ?_
  refine lv_iconst (v := 0) hx hb dX0_init_163 (by decide) ?_
  obtain ⟨hb1, hb2, hf⟩ := hf
  refine n_new (C := RX2) (T := TX2) (N := 2) (ci := 2) (fs := [.null, .int 0]) tyX2 tyX2_ok X hM hA in_X2 q753 q755 q62 rfl (fun j hj => by rcases (show j = 0 ∨ j = 1 by omega) with rfl | rfl <;> rfl) (nb_le hu hb1) (nb_le hw hb2) dX0_init_164 (fun q_68 H hq hM => ?_)
  have hf := hf q_68 hq
  obtain ⟨S_69, eS⟩ : ∃ z : hH, z = va_up S_67 q_68 (some (.inr (2, [.null, .int 0]))) := ⟨_, rfl⟩
  rw [← eS] at hM
  have hf := ec_lt_p eS hf
  have hu := nb_sub hu hb1
  have hw := nb_sub hw hb2
  refine lv_dup hx hb dX0_init_167 rfl ?_
  obtain ⟨c_70, k_71, hc1, hk1, hf⟩ := hf
  refine n_cIN (As := []) (rest := [.ref q_68, .int (0 : Int32), .ref q_66, .ref q_66, .ref x0]) X hM hA hO hRf (metX2_init l D dA K (fun _ _ => False) _ S_69 c_70 k_71 q_68 hf) ⟨va_cnB (host := "EventCounters") 0 X.2.2.2.2 (lw_meth q758) rfl rfl rfl (xn_at hM.2.1 36 rfl) (X.2.2.2.2 _ q62) hX2_init (rmN_le (Nat.le_of_ble_eq_true rfl) (Nat.le_of_ble_eq_true rfl)), rfl, X.2.2.2.2 _ q757⟩ hne hlk rfl hl.1 rfl (Nat.le_of_ble_eq_true rfl) ⟨nb_le hu hc1, nb_le hw hk1⟩ (nb_le hu hc1) (nb_le hw hk1) dX0_init_168 (fun v S1 H locs hf hM => ?_)
  obtain ⟨rfl, hf⟩ := hf
  generalize S1 = S_72 at hf hM
  have hu := nb_sub hu hc1
  have hw := nb_sub hw hk1
  refine W.eq (g2 := F0 m _ _ [.ref q_68, .int (0 : Int32), .ref q_66, .ref q_66, .ref x0]) rfl ?_
  obtain ⟨w_74, ho, hf⟩ := hf
  obtain ⟨h_73, h, hf⟩ := hf
  refine n_astS (C := RX2) (T := TX2) (N := 2) (ci := 2) (t := 8) X hM rfl rfl ho h dX0_init_171 (fun H locs hM => ?_)
  refine lv_dup hx hb dX0_init_172 rfl ?_
  refine lv_iconst (v := 1) hx hb dX0_init_173 (by decide) ?_
  obtain ⟨hb1, hb2, hf⟩ := hf
  refine n_new (C := RX2) (T := TX2) (N := 2) (ci := 2) (fs := [.null, .int 0]) tyX2 tyX2_ok X hM hA in_X2 q753 q755 q62 rfl (fun j hj => by rcases (show j = 0 ∨ j = 1 by omega) with rfl | rfl <;> rfl) (nb_le hu hb1) (nb_le hw hb2) dX0_init_174 (fun q_75 H hq hM => ?_)
  have hf := hf q_75 hq
  obtain ⟨S_76, eS⟩ : ∃ z : hH, z = va_up h_73 q_75 (some (.inr (2, [.null, .int 0]))) := ⟨_, rfl⟩
  rw [← eS] at hM
  have hf := ec_lt_p eS hf
  have hu := nb_sub hu hb1
  have hw := nb_sub hw hb2
  refine lv_dup hx hb dX0_init_177 rfl ?_
  obtain ⟨c_77, k_78, hc1, hk1, hf⟩ := hf
  refine n_cIN (As := []) (rest := [.ref q_75, .int (1 : Int32), .ref q_66, .ref q_66, .ref x0]) X hM hA hO hRf (metX2_init l D dA K (fun _ _ => False) _ S_76 c_77 k_78 q_75 hf) ⟨va_cnB (host := "EventCounters") 0 X.2.2.2.2 (lw_meth q758) rfl rfl rfl (xn_at hM.2.1 36 rfl) (X.2.2.2.2 _ q62) hX2_init (rmN_le (Nat.le_of_ble_eq_true rfl) (Nat.le_of_ble_eq_true rfl)), rfl, X.2.2.2.2 _ q757⟩ hne hlk rfl hl.1 rfl (Nat.le_of_ble_eq_true rfl) ⟨nb_le hu hc1, nb_le hw hk1⟩ (nb_le hu hc1) (nb_le hw hk1) dX0_init_178 (fun v S1 H locs hf hM => ?_)
  obtain ⟨rfl, hf⟩ := hf
  generalize S1 = S_79 at hf hM
  have hu := nb_sub hu hc1
  have hw := nb_sub hw hk1
  refine W.eq (g2 := F0 m _ _ [.ref q_75, .int (1 : Int32), .ref q_66, .ref q_66, .ref x0]) rfl ?_
  obtain ⟨w_81, ho, hf⟩ := hf
  obtain ⟨h_80, h, hf⟩ := hf
  refine n_astS (C := RX2) (T := TX2) (N := 2) (ci := 2) (t := 8) X hM rfl rfl ho h dX0_init_181 (fun H locs hM => ?_)
  refine lv_dup hx hb dX0_init_182 rfl ?_
  refine lv_iconst (v := 2) hx hb dX0_init_183 (by decide) ?_
  obtain ⟨hb1, hb2, hf⟩ := hf
  refine n_new (C := RX2) (T := TX2) (N := 2) (ci := 2) (fs := [.null, .int 0]) tyX2 tyX2_ok X hM hA in_X2 q753 q755 q62 rfl (fun j hj => by rcases (show j = 0 ∨ j = 1 by omega) with rfl | rfl <;> rfl) (nb_le hu hb1) (nb_le hw hb2) dX0_init_184 (fun q_82 H hq hM => ?_)
  have hf := hf q_82 hq
  obtain ⟨S_83, eS⟩ : ∃ z : hH, z = va_up h_80 q_82 (some (.inr (2, [.null, .int 0]))) := ⟨_, rfl⟩
  rw [← eS] at hM
  have hf := ec_lt_p eS hf
  have hu := nb_sub hu hb1
  have hw := nb_sub hw hb2
  refine lv_dup hx hb dX0_init_187 rfl ?_
  obtain ⟨c_84, k_85, hc1, hk1, hf⟩ := hf
  refine n_cIN (As := []) (rest := [.ref q_82, .int (2 : Int32), .ref q_66, .ref q_66, .ref x0]) X hM hA hO hRf (metX2_init l D dA K (fun _ _ => False) _ S_83 c_84 k_85 q_82 hf) ⟨va_cnB (host := "EventCounters") 0 X.2.2.2.2 (lw_meth q758) rfl rfl rfl (xn_at hM.2.1 36 rfl) (X.2.2.2.2 _ q62) hX2_init (rmN_le (Nat.le_of_ble_eq_true rfl) (Nat.le_of_ble_eq_true rfl)), rfl, X.2.2.2.2 _ q757⟩ hne hlk rfl hl.1 rfl (Nat.le_of_ble_eq_true rfl) ⟨nb_le hu hc1, nb_le hw hk1⟩ (nb_le hu hc1) (nb_le hw hk1) dX0_init_188 (fun v S1 H locs hf hM => ?_)
  obtain ⟨rfl, hf⟩ := hf
  generalize S1 = S_86 at hf hM
  have hu := nb_sub hu hc1
  have hw := nb_sub hw hk1
  refine W.eq (g2 := F0 m _ _ [.ref q_82, .int (2 : Int32), .ref q_66, .ref q_66, .ref x0]) rfl ?_
  obtain ⟨w_88, ho, hf⟩ := hf
  obtain ⟨h_87, h, hf⟩ := hf
  refine n_astS (C := RX2) (T := TX2) (N := 2) (ci := 2) (t := 8) X hM rfl rfl ho h dX0_init_191 (fun H locs hM => ?_)
  refine lv_dup hx hb dX0_init_192 rfl ?_
  refine lv_iconst (v := 3) hx hb dX0_init_193 (by decide) ?_
  obtain ⟨hb1, hb2, hf⟩ := hf
  refine n_new (C := RX2) (T := TX2) (N := 2) (ci := 2) (fs := [.null, .int 0]) tyX2 tyX2_ok X hM hA in_X2 q753 q755 q62 rfl (fun j hj => by rcases (show j = 0 ∨ j = 1 by omega) with rfl | rfl <;> rfl) (nb_le hu hb1) (nb_le hw hb2) dX0_init_194 (fun q_89 H hq hM => ?_)
  have hf := hf q_89 hq
  obtain ⟨S_90, eS⟩ : ∃ z : hH, z = va_up h_87 q_89 (some (.inr (2, [.null, .int 0]))) := ⟨_, rfl⟩
  rw [← eS] at hM
  have hf := ec_lt_p eS hf
  have hu := nb_sub hu hb1
  have hw := nb_sub hw hb2
  refine lv_dup hx hb dX0_init_197 rfl ?_
  obtain ⟨c_91, k_92, hc1, hk1, hf⟩ := hf
  refine n_cIN (As := []) (rest := [.ref q_89, .int (3 : Int32), .ref q_66, .ref q_66, .ref x0]) X hM hA hO hRf (metX2_init l D dA K (fun _ _ => False) _ S_90 c_91 k_92 q_89 hf) ⟨va_cnB (host := "EventCounters") 0 X.2.2.2.2 (lw_meth q758) rfl rfl rfl (xn_at hM.2.1 36 rfl) (X.2.2.2.2 _ q62) hX2_init (rmN_le (Nat.le_of_ble_eq_true rfl) (Nat.le_of_ble_eq_true rfl)), rfl, X.2.2.2.2 _ q757⟩ hne hlk rfl hl.1 rfl (Nat.le_of_ble_eq_true rfl) ⟨nb_le hu hc1, nb_le hw hk1⟩ (nb_le hu hc1) (nb_le hw hk1) dX0_init_198 (fun v S1 H locs hf hM => ?_)
  obtain ⟨rfl, hf⟩ := hf
  generalize S1 = S_93 at hf hM
  have hu := nb_sub hu hc1
  have hw := nb_sub hw hk1
  refine W.eq (g2 := F0 m _ _ [.ref q_89, .int (3 : Int32), .ref q_66, .ref q_66, .ref x0]) rfl ?_
  obtain ⟨w_95, ho, hf⟩ := hf
  obtain ⟨h_94, h, hf⟩ := hf
  refine n_astS (C := RX2) (T := TX2) (N := 2) (ci := 2) (t := 8) X hM rfl rfl ho h dX0_init_201 (fun H locs hM => ?_)
  obtain ⟨h_96, h, hf⟩ := hf
  refine h_putF (C := RX0) (T := TX0) (N := 28) (ci := 0) (k := 27) (ty := (.array (.object "EventCounters$Sheet"))) tyX0 tyX0_ok nmX0 X hM in_X0 rfl (by decide) q795 rfl rfl hin (by decide +kernel) rfl rfl h dX0_init_202 (fun H locs hM => ?_)
  exact n_vret X hr hlk hM (nb_u hu) (nb_u hw) hf dX0_init_205
theorem hX0_init : yX0_init.cls ≠ "java/lang/invoke/MethodHandle" ∧ yX0_init.cls ≠ "java/lang/invoke/VarHandle" ∧ (parseMethodDescriptor yX0_init.desc).map (fun d => d.parameters.length) = some 0 := by decide +kernel

noncomputable def fX3_freshN_2 (N : Nat) (Qt : Nat → hH → Prop) (Qr : hH → Prop) : Nat → hH → Nat → Nat → Nat → Int32 → Prop
  | 0, _, _, _, _, _ => False
  | n + 1, S, bc, bk, x0, x1 =>
    (((4 : Int32) ≤ x1) → (
      Qr S))
    ∧ (¬ ((4 : Int32) ≤ x1) → (
      ∃ v_1, (hR 3 S x0 37) = some v_1 ∧
      ∃ h_2, (hAsI 0 S v_1 x1 (255 : Int32)) = some h_2 ∧
      ∃ v_3, (hR 3 h_2 x0 38) = some v_3 ∧
      ∃ h_4, (hAsI 0 h_2 v_3 x1 (8 : Int32)) = some h_4 ∧
      ec_lt (x1 + (1 : Int32)) fun x1_5 =>
      (fX3_freshN_2 N Qt Qr n) h_4 bc bk x0 x1_5))
theorem bX3_freshN_2 {N : Nat} (X : CallFix p m c cX3_freshCounters 2 s args lw_all RX3) (hr : meth.sig.returnType = none) (hlk : meth.locks = false) (hne : c.exceptionTable.isEmpty = true) (hin : meth.name = yX3_freshCounters.name) (hA : ∀ x, s.heap.size ≤ x → A x) (hO : OLD K A s s.heap) (hRf : ORF K s) {mc ms : Nat} {Qt : Nat → hH → Prop} {Qr : hH → Prop} : ∀ (n : Nat) (S : hH) (bc bk : Nat) (x0 : Nat) (x1 : Int32) (H : Heap) (locs : List Loc) (u w : Nat) (ls : Array Slot), fX3_freshN_2 N Qt Qr n S bc bk x0 x1 → u + bc = mc → w + bk = ms → HX D dA [] S A s H locs → lv_has ls 2 [(0, .ref x0), (1, .int x1)] → W p l e (rmN 0 mc ms) s m args below meth c H locs u w (MQT below (NPost D dA A (nqV Qr) Qt) args s mc ms A) (F0 m 2 ls []) := by
  have hx := X.1
  have hb := X.2.1
  intro n
  induction n with
  | zero =>
    intro S bc bk x0 x1 H locs u w ls hf hu hw hM hl
    rw [fX3_freshN_2] at hf
    exact hf.elim
  | succ n ih =>
    intro S bc bk x0 x1 H locs u w ls hf hu hw hM hl
    rw [fX3_freshN_2] at hf
    refine lv_iload_n hx hb dX3_freshCounters_2 rfl (lv_at hl 1 rfl) ?_
    refine lv_iconst (v := 4) hx hb dX3_freshCounters_3 (by decide) ?_
    refine lv_icmp_ge (tgt := 30) hx hb dX3_freshCounters_4 rfl (fun cnd => ?_) (fun cnd => ?_)
    · have hf := hf.1 cnd
      exact n_vret X hr hlk hM (nb_u hu) (nb_u hw) hf dX3_freshCounters_30
    · have hf := hf.2 cnd
      refine lv_aload_n hx hb dX3_freshCounters_7 rfl (lv_at hl 0 rfl) ?_
      obtain ⟨v_1, h, hf⟩ := hf
      refine h_getv (v := .ref v_1) (C := RX3) (T := TX3) (N := 56) (ci := 3) (k := 37) X hM in_X3 rfl (by decide) q1011 rfl (hR_i h) dX3_freshCounters_8 ?_
      refine lv_iload_n hx hb dX3_freshCounters_11 rfl (lv_at hl 1 rfl) ?_
      refine lv_sipush (v := 255) hx hb dX3_freshCounters_12 (by decide) ?_
      obtain ⟨h_2, h, hf⟩ := hf
      refine h_iast X hM h dX3_freshCounters_15 (fun H locs hM => ?_)
      refine lv_aload_n hx hb dX3_freshCounters_16 rfl (lv_at hl 0 rfl) ?_
      obtain ⟨v_3, h, hf⟩ := hf
      refine h_getv (v := .ref v_3) (C := RX3) (T := TX3) (N := 56) (ci := 3) (k := 38) X hM in_X3 rfl (by decide) q1012 rfl (hR_i h) dX3_freshCounters_17 ?_
      refine lv_iload_n hx hb dX3_freshCounters_20 rfl (lv_at hl 1 rfl) ?_
      refine lv_bipush (v := 8) hx hb dX3_freshCounters_21 (by decide) ?_
      obtain ⟨h_4, h, hf⟩ := hf
      refine h_iast X hM h dX3_freshCounters_23 (fun H locs hM => ?_)
      refine e_inc (w := 1) (f := fun v => [(1, .int v), (0, .ref x0)]) hx hb dX3_freshCounters_24 hl (k := 1) rfl (by decide) (by decide) (fun _ => rfl) (fun x1_5 ex ls hl => ?_)
      have hf := ec_lt_p ex hf
      refine lv_goto (tgt := 2) hx hb dX3_freshCounters_27 rfl ?_
      exact ih h_4 bc bk x0 x1_5 _ _ _ _ _ hf hu hw hM (lv_sub hl [1, 0] rfl)
noncomputable def fX3_freshN (N : Nat) (Qt : Nat → hH → Prop) (Qr : hH → Prop) (S : hH) (bc bk : Nat) (x0 : Nat) : Prop :=
  fX3_freshN_2 N Qt Qr N S bc bk x0 (0 : Int32)
theorem metX3_freshN (l : Launch) (D : va_G) (dA : Nat → ClassId) (K : oK) (N : Nat) (Qt : Nat → hH → Prop) (Qr : hH → Prop) (S : hH) (bc bk : Nat) (x0 : Nat) {sz : Nat} (hf : fX3_freshN N Qt Qr S bc bk x0) : MetT l yX3_freshCounters (ws_ yX3_freshCounters cX3_freshCounters 2 none) (rmN 0 bc bk) (NPre D dA K sz S [.ref x0]) (NPost D dA (NA S sz) (nqV Qr) Qt) bc bk (NA S sz) := by
  refine n_ofW rfl (by decide) (Nat.le_of_ble_eq_true rfl) (fun A p e s m args below meth c X hr hlk hne hin hA hO hRf hM ls hl => ?_)
  have hl : lv_has ls 2 [(0, .ref x0)] := hl
  have hx := X.1
  have hb := X.2.1
  have hu : 0 + bc = bc := Nat.zero_add bc
  have hw : 0 + bk = bk := Nat.zero_add bk
  unfold fX3_freshN at hf
  refine lv_iconst (v := 0) hx hb dX3_freshCounters_0 (by decide) ?_
  refine lv_istore_n (lv' := [(1, .int (0 : Int32)), (0, .ref x0)]) hx hb dX3_freshCounters_1 rfl hl (by decide) rfl (fun ls hl => ?_)
  exact bX3_freshN_2 X hr hlk hne hin hA hO hRf  N S bc bk x0 (0 : Int32) _ _ _ _ _ hf hu hw hM (lv_sub hl [1, 0] rfl)
theorem hX3_freshN : yX3_freshCounters.cls ≠ "java/lang/invoke/MethodHandle" ∧ yX3_freshCounters.cls ≠ "java/lang/invoke/VarHandle" ∧ (parseMethodDescriptor yX3_freshCounters.desc).map (fun d => d.parameters.length) = some 0 := by decide +kernel

noncomputable def fX3_init_262 (N : Nat) (Qt : Nat → hH → Prop) (Qr : hH → Prop) (kx281 : hH → Nat → Nat → Nat → Prop) : Nat → hH → Nat → Nat → Nat → Int32 → Prop
  | 0, _, _, _, _, _ => False
  | n + 1, S, bc, bk, x0, x1 =>
    (((4 : Int32) ≤ x1) → (
      kx281 S bc bk x0))
    ∧ (¬ ((4 : Int32) ≤ x1) → (
      ∃ v_95, (hR 3 S x0 53) = some v_95 ∧
      ∃ h_96, (hAsI 0 S v_95 x1 (-4 : Int32)) = some h_96 ∧
      ec_lt (x1 + (1 : Int32)) fun x1_97 =>
      (fX3_init_262 N Qt Qr kx281 n) h_96 bc bk x0 x1_97))
theorem bX3_init_262 {N : Nat} (X : CallFix p m c cX3_init 2 s args lw_all RX3) (hr : meth.sig.returnType = none) (hlk : meth.locks = false) (hne : c.exceptionTable.isEmpty = true) (hin : meth.name = yX3_init.name) (hA : ∀ x, s.heap.size ≤ x → A x) (hO : OLD K A s s.heap) (hRf : ORF K s) {mc ms : Nat} {Qt : Nat → hH → Prop} {Qr : hH → Prop} {kx281 : hH → Nat → Nat → Nat → Prop} (Hkx281 : ∀ (S : hH) (bc bk : Nat) (x0 : Nat) (H : Heap) (locs : List Loc) (u w : Nat) (ls : Array Slot), kx281 S bc bk x0 → u + bc = mc → w + bk = ms → HX D dA [] S A s H locs → lv_has ls 2 [(0, .ref x0)] → W p l e (rmN 1 mc ms) s m args below meth c H locs u w (MQT below (NPost D dA A (nqV Qr) Qt) args s mc ms A) (F0 m 281 ls [])) : ∀ (n : Nat) (S : hH) (bc bk : Nat) (x0 : Nat) (x1 : Int32) (H : Heap) (locs : List Loc) (u w : Nat) (ls : Array Slot), fX3_init_262 N Qt Qr kx281 n S bc bk x0 x1 → u + bc = mc → w + bk = ms → HX D dA [] S A s H locs → lv_has ls 2 [(0, .ref x0), (1, .int x1)] → W p l e (rmN 1 mc ms) s m args below meth c H locs u w (MQT below (NPost D dA A (nqV Qr) Qt) args s mc ms A) (F0 m 262 ls []) := by
  have hx := X.1
  have hb := X.2.1
  intro n
  induction n with
  | zero =>
    intro S bc bk x0 x1 H locs u w ls hf hu hw hM hl
    rw [fX3_init_262] at hf
    exact hf.elim
  | succ n ih =>
    intro S bc bk x0 x1 H locs u w ls hf hu hw hM hl
    rw [fX3_init_262] at hf
    refine lv_iload_n hx hb dX3_init_262 rfl (lv_at hl 1 rfl) ?_
    refine lv_iconst (v := 4) hx hb dX3_init_263 (by decide) ?_
    refine lv_icmp_ge (tgt := 281) hx hb dX3_init_264 rfl (fun cnd => ?_) (fun cnd => ?_)
    · have hf := hf.1 cnd
      exact Hkx281 S bc bk x0 _ _ _ _ _ hf hu hw hM (lv_sub hl [0] rfl)
    · have hf := hf.2 cnd
      refine lv_aload_n hx hb dX3_init_267 rfl (lv_at hl 0 rfl) ?_
      obtain ⟨v_95, h, hf⟩ := hf
      refine h_getv (v := .ref v_95) (C := RX3) (T := TX3) (N := 56) (ci := 3) (k := 53) X hM in_X3 rfl (by decide) q1027 rfl (hR_i h) dX3_init_268 ?_
      refine lv_iload_n hx hb dX3_init_271 rfl (lv_at hl 1 rfl) ?_
      refine lv_bipush (v := -4) hx hb dX3_init_272 (by decide) ?_
      obtain ⟨h_96, h, hf⟩ := hf
      refine h_iast X hM h dX3_init_274 (fun H locs hM => ?_)
      refine e_inc (w := 1) (f := fun v => [(1, .int v), (0, .ref x0)]) hx hb dX3_init_275 hl (k := 1) rfl (by decide) (by decide) (fun _ => rfl) (fun x1_97 ex ls hl => ?_)
      have hf := ec_lt_p ex hf
      refine lv_goto (tgt := 262) hx hb dX3_init_278 rfl ?_
      exact ih h_96 bc bk x0 x1_97 _ _ _ _ _ hf hu hw hM (lv_sub hl [1, 0] rfl)
noncomputable def fX3_init (N : Nat) (Qt : Nat → hH → Prop) (Qr : hH → Prop) (S : hH) (bc bk : Nat) (x0 : Nat) : Prop :=
  1 ≤ bc ∧ 16 ≤ bk ∧ ∀ q_1 : Nat, S q_1 = none →
  ec_lt (va_up S q_1 (some (.inl (0, 16, .inl (fun _ => 0))))) fun S_2 =>
  ∃ h_3, (hPut 3 S_2 x0 1 (.ref q_1)) = some h_3 ∧
  1 ≤ (bc - 1) ∧ 128 ≤ (bk - 16) ∧ ∀ q_4 : Nat, h_3 q_4 = none →
  ec_lt (va_up h_3 q_4 (some (.inl (0, 128, .inl (fun _ => 0))))) fun S_5 =>
  ∃ h_6, (hPut 3 S_5 x0 2 (.ref q_4)) = some h_6 ∧
  1 ≤ ((bc - 1) - 1) ∧ 16 ≤ ((bk - 16) - 128) ∧ ∀ q_7 : Nat, h_6 q_7 = none →
  ec_lt (va_up h_6 q_7 (some (.inl (0, 16, .inl (fun _ => 0))))) fun S_8 =>
  ∃ h_9, (hPut 3 S_8 x0 3 (.ref q_7)) = some h_9 ∧
  1 ≤ (((bc - 1) - 1) - 1) ∧ 40 ≤ (((bk - 16) - 128) - 16) ∧ ∀ q_10 : Nat, h_9 q_10 = none →
  ec_lt (va_up h_9 q_10 (some (.inl (0, 40, .inl (fun _ => 0))))) fun S_11 =>
  ∃ h_12, (hPut 3 S_11 x0 5 (.ref q_10)) = some h_12 ∧
  1 ≤ ((((bc - 1) - 1) - 1) - 1) ∧ 40 ≤ ((((bk - 16) - 128) - 16) - 40) ∧ ∀ q_13 : Nat, h_12 q_13 = none →
  ec_lt (va_up h_12 q_13 (some (.inl (0, 40, .inl (fun _ => 0))))) fun S_14 =>
  ∃ h_15, (hPut 3 S_14 x0 6 (.ref q_13)) = some h_15 ∧
  1 ≤ (((((bc - 1) - 1) - 1) - 1) - 1) ∧ 6000 ≤ (((((bk - 16) - 128) - 16) - 40) - 40) ∧ ∀ q_16 : Nat, h_15 q_16 = none →
  ec_lt (va_up h_15 q_16 (some (.inl (0, 6000, .inl (fun _ => 0))))) fun S_17 =>
  ∃ h_18, (hPut 3 S_17 x0 8 (.ref q_16)) = some h_18 ∧
  1 ≤ ((((((bc - 1) - 1) - 1) - 1) - 1) - 1) ∧ 16 ≤ ((((((bk - 16) - 128) - 16) - 40) - 40) - 6000) ∧ ∀ q_19 : Nat, h_18 q_19 = none →
  ec_lt (va_up h_18 q_19 (some (.inl (0, 16, .inl (fun _ => 0))))) fun S_20 =>
  ∃ h_21, (hPut 3 S_20 x0 9 (.ref q_19)) = some h_21 ∧
  1 ≤ (((((((bc - 1) - 1) - 1) - 1) - 1) - 1) - 1) ∧ 16 ≤ (((((((bk - 16) - 128) - 16) - 40) - 40) - 6000) - 16) ∧ ∀ q_22 : Nat, h_21 q_22 = none →
  ec_lt (va_up h_21 q_22 (some (.inl (0, 16, .inl (fun _ => 0))))) fun S_23 =>
  ∃ h_24, (hPut 3 S_23 x0 12 (.ref q_22)) = some h_24 ∧
  1 ≤ ((((((((bc - 1) - 1) - 1) - 1) - 1) - 1) - 1) - 1) ∧ 128 ≤ ((((((((bk - 16) - 128) - 16) - 40) - 40) - 6000) - 16) - 16) ∧ ∀ q_25 : Nat, h_24 q_25 = none →
  ec_lt (va_up h_24 q_25 (some (.inl (0, 128, .inl (fun _ => 0))))) fun S_26 =>
  ∃ h_27, (hPut 3 S_26 x0 13 (.ref q_25)) = some h_27 ∧
  1 ≤ (((((((((bc - 1) - 1) - 1) - 1) - 1) - 1) - 1) - 1) - 1) ∧ 16 ≤ (((((((((bk - 16) - 128) - 16) - 40) - 40) - 6000) - 16) - 16) - 128) ∧ ∀ q_28 : Nat, h_27 q_28 = none →
  ec_lt (va_up h_27 q_28 (some (.inl (0, 16, .inl (fun _ => 0))))) fun S_29 =>
  ∃ h_30, (hPut 3 S_29 x0 14 (.ref q_28)) = some h_30 ∧
  1 ≤ ((((((((((bc - 1) - 1) - 1) - 1) - 1) - 1) - 1) - 1) - 1) - 1) ∧ 40 ≤ ((((((((((bk - 16) - 128) - 16) - 40) - 40) - 6000) - 16) - 16) - 128) - 16) ∧ ∀ q_31 : Nat, h_30 q_31 = none →
  ec_lt (va_up h_30 q_31 (some (.inl (0, 40, .inl (fun _ => 0))))) fun S_32 =>
  ∃ h_33, (hPut 3 S_32 x0 16 (.ref q_31)) = some h_33 ∧
  1 ≤ (((((((((((bc - 1) - 1) - 1) - 1) - 1) - 1) - 1) - 1) - 1) - 1) - 1) ∧ 40 ≤ (((((((((((bk - 16) - 128) - 16) - 40) - 40) - 6000) - 16) - 16) - 128) - 16) - 40) ∧ ∀ q_34 : Nat, h_33 q_34 = none →
  ec_lt (va_up h_33 q_34 (some (.inl (0, 40, .inl (fun _ => 0))))) fun S_35 =>
  ∃ h_36, (hPut 3 S_35 x0 17 (.ref q_34)) = some h_36 ∧
  1 ≤ ((((((((((((bc - 1) - 1) - 1) - 1) - 1) - 1) - 1) - 1) - 1) - 1) - 1) - 1) ∧ 5 ≤ ((((((((((((bk - 16) - 128) - 16) - 40) - 40) - 6000) - 16) - 16) - 128) - 16) - 40) - 40) ∧ ∀ q_37 : Nat, h_36 q_37 = none →
  ec_lt (va_up h_36 q_37 (some (.inl (0, 5, .inl (fun _ => 0))))) fun S_38 =>
  ∃ h_39, (hPut 3 S_38 x0 18 (.ref q_37)) = some h_39 ∧
  1 ≤ (((((((((((((bc - 1) - 1) - 1) - 1) - 1) - 1) - 1) - 1) - 1) - 1) - 1) - 1) - 1) ∧ 100 ≤ (((((((((((((bk - 16) - 128) - 16) - 40) - 40) - 6000) - 16) - 16) - 128) - 16) - 40) - 40) - 5) ∧ ∀ q_40 : Nat, h_39 q_40 = none →
  ec_lt (va_up h_39 q_40 (some (.inl (0, 100, .inl (fun _ => 0))))) fun S_41 =>
  ∃ h_42, (hPut 3 S_41 x0 20 (.ref q_40)) = some h_42 ∧
  1 ≤ ((((((((((((((bc - 1) - 1) - 1) - 1) - 1) - 1) - 1) - 1) - 1) - 1) - 1) - 1) - 1) - 1) ∧ 100 ≤ ((((((((((((((bk - 16) - 128) - 16) - 40) - 40) - 6000) - 16) - 16) - 128) - 16) - 40) - 40) - 5) - 100) ∧ ∀ q_43 : Nat, h_42 q_43 = none →
  ec_lt (va_up h_42 q_43 (some (.inl (0, 100, .inl (fun _ => 0))))) fun S_44 =>
  ∃ h_45, (hPut 3 S_44 x0 21 (.ref q_43)) = some h_45 ∧
  1 ≤ (((((((((((((((bc - 1) - 1) - 1) - 1) - 1) - 1) - 1) - 1) - 1) - 1) - 1) - 1) - 1) - 1) - 1) ∧ 320 ≤ (((((((((((((((bk - 16) - 128) - 16) - 40) - 40) - 6000) - 16) - 16) - 128) - 16) - 40) - 40) - 5) - 100) - 100) ∧ ∀ q_46 : Nat, h_45 q_46 = none →
  ec_lt (va_up h_45 q_46 (some (.inl (0, 320, .inl (fun _ => 0))))) fun S_47 =>
  ∃ h_48, (hPut 3 S_47 x0 24 (.ref q_46)) = some h_48 ∧
  1 ≤ ((((((((((((((((bc - 1) - 1) - 1) - 1) - 1) - 1) - 1) - 1) - 1) - 1) - 1) - 1) - 1) - 1) - 1) - 1) ∧ 40 ≤ ((((((((((((((((bk - 16) - 128) - 16) - 40) - 40) - 6000) - 16) - 16) - 128) - 16) - 40) - 40) - 5) - 100) - 100) - 320) ∧ ∀ q_49 : Nat, h_48 q_49 = none →
  ec_lt (va_up h_48 q_49 (some (.inl (0, 40, .inl (fun _ => 0))))) fun S_50 =>
  ∃ h_51, (hPut 3 S_50 x0 32 (.ref q_49)) = some h_51 ∧
  1 ≤ (((((((((((((((((bc - 1) - 1) - 1) - 1) - 1) - 1) - 1) - 1) - 1) - 1) - 1) - 1) - 1) - 1) - 1) - 1) - 1) ∧ 40 ≤ (((((((((((((((((bk - 16) - 128) - 16) - 40) - 40) - 6000) - 16) - 16) - 128) - 16) - 40) - 40) - 5) - 100) - 100) - 320) - 40) ∧ ∀ q_52 : Nat, h_51 q_52 = none →
  ec_lt (va_up h_51 q_52 (some (.inl (0, 40, .inl (fun _ => 0))))) fun S_53 =>
  ∃ h_54, (hPut 3 S_53 x0 33 (.ref q_52)) = some h_54 ∧
  1 ≤ ((((((((((((((((((bc - 1) - 1) - 1) - 1) - 1) - 1) - 1) - 1) - 1) - 1) - 1) - 1) - 1) - 1) - 1) - 1) - 1) - 1) ∧ 128 ≤ ((((((((((((((((((bk - 16) - 128) - 16) - 40) - 40) - 6000) - 16) - 16) - 128) - 16) - 40) - 40) - 5) - 100) - 100) - 320) - 40) - 40) ∧ ∀ q_55 : Nat, h_54 q_55 = none →
  ec_lt (va_up h_54 q_55 (some (.inl (0, 128, .inl (fun _ => 0))))) fun S_56 =>
  ∃ h_57, (hPut 3 S_56 x0 35 (.ref q_55)) = some h_57 ∧
  ∃ h_58, (hPut 3 h_57 x0 36 (.int (2 : Int32))) = some h_58 ∧
  1 ≤ (((((((((((((((((((bc - 1) - 1) - 1) - 1) - 1) - 1) - 1) - 1) - 1) - 1) - 1) - 1) - 1) - 1) - 1) - 1) - 1) - 1) - 1) ∧ 4 ≤ (((((((((((((((((((bk - 16) - 128) - 16) - 40) - 40) - 6000) - 16) - 16) - 128) - 16) - 40) - 40) - 5) - 100) - 100) - 320) - 40) - 40) - 128) ∧ ∀ q_59 : Nat, h_58 q_59 = none →
  ec_lt (va_up h_58 q_59 (some (.inl (0, 4, .inl (fun _ => 0))))) fun S_60 =>
  ∃ h_61, (hPut 3 S_60 x0 37 (.ref q_59)) = some h_61 ∧
  1 ≤ ((((((((((((((((((((bc - 1) - 1) - 1) - 1) - 1) - 1) - 1) - 1) - 1) - 1) - 1) - 1) - 1) - 1) - 1) - 1) - 1) - 1) - 1) - 1) ∧ 4 ≤ ((((((((((((((((((((bk - 16) - 128) - 16) - 40) - 40) - 6000) - 16) - 16) - 128) - 16) - 40) - 40) - 5) - 100) - 100) - 320) - 40) - 40) - 128) - 4) ∧ ∀ q_62 : Nat, h_61 q_62 = none →
  ec_lt (va_up h_61 q_62 (some (.inl (0, 4, .inl (fun _ => 0))))) fun S_63 =>
  ∃ h_64, (hPut 3 S_63 x0 38 (.ref q_62)) = some h_64 ∧
  1 ≤ (((((((((((((((((((((bc - 1) - 1) - 1) - 1) - 1) - 1) - 1) - 1) - 1) - 1) - 1) - 1) - 1) - 1) - 1) - 1) - 1) - 1) - 1) - 1) - 1) ∧ 256 ≤ (((((((((((((((((((((bk - 16) - 128) - 16) - 40) - 40) - 6000) - 16) - 16) - 128) - 16) - 40) - 40) - 5) - 100) - 100) - 320) - 40) - 40) - 128) - 4) - 4) ∧ ∀ q_65 : Nat, h_64 q_65 = none →
  ec_lt (va_up h_64 q_65 (some (.inl (0, 256, .inl (fun _ => 0))))) fun S_66 =>
  ∃ h_67, (hPut 3 S_66 x0 39 (.ref q_65)) = some h_67 ∧
  1 ≤ ((((((((((((((((((((((bc - 1) - 1) - 1) - 1) - 1) - 1) - 1) - 1) - 1) - 1) - 1) - 1) - 1) - 1) - 1) - 1) - 1) - 1) - 1) - 1) - 1) - 1) ∧ 256 ≤ ((((((((((((((((((((((bk - 16) - 128) - 16) - 40) - 40) - 6000) - 16) - 16) - 128) - 16) - 40) - 40) - 5) - 100) - 100) - 320) - 40) - 40) - 128) - 4) - 4) - 256) ∧ ∀ q_68 : Nat, h_67 q_68 = none →
  ec_lt (va_up h_67 q_68 (some (.inl (1, 256, .inl (fun _ => 0))))) fun S_69 =>
  ∃ h_70, (hPut 3 S_69 x0 40 (.ref q_68)) = some h_70 ∧
  1 ≤ (((((((((((((((((((((((bc - 1) - 1) - 1) - 1) - 1) - 1) - 1) - 1) - 1) - 1) - 1) - 1) - 1) - 1) - 1) - 1) - 1) - 1) - 1) - 1) - 1) - 1) - 1) ∧ 8 ≤ (((((((((((((((((((((((bk - 16) - 128) - 16) - 40) - 40) - 6000) - 16) - 16) - 128) - 16) - 40) - 40) - 5) - 100) - 100) - 320) - 40) - 40) - 128) - 4) - 4) - 256) - 256) ∧ ∀ q_71 : Nat, h_70 q_71 = none →
  ec_lt (va_up h_70 q_71 (some (.inl (0, 8, .inl (fun _ => 0))))) fun S_72 =>
  ∃ h_73, (hPut 3 S_72 x0 42 (.ref q_71)) = some h_73 ∧
  1 ≤ ((((((((((((((((((((((((bc - 1) - 1) - 1) - 1) - 1) - 1) - 1) - 1) - 1) - 1) - 1) - 1) - 1) - 1) - 1) - 1) - 1) - 1) - 1) - 1) - 1) - 1) - 1) - 1) ∧ 16 ≤ ((((((((((((((((((((((((bk - 16) - 128) - 16) - 40) - 40) - 6000) - 16) - 16) - 128) - 16) - 40) - 40) - 5) - 100) - 100) - 320) - 40) - 40) - 128) - 4) - 4) - 256) - 256) - 8) ∧ ∀ q_74 : Nat, h_73 q_74 = none →
  ec_lt (va_up h_73 q_74 (some (.inl (0, 16, .inl (fun _ => 0))))) fun S_75 =>
  ∃ h_76, (hPut 3 S_75 x0 47 (.ref q_74)) = some h_76 ∧
  1 ≤ (((((((((((((((((((((((((bc - 1) - 1) - 1) - 1) - 1) - 1) - 1) - 1) - 1) - 1) - 1) - 1) - 1) - 1) - 1) - 1) - 1) - 1) - 1) - 1) - 1) - 1) - 1) - 1) - 1) ∧ 12 ≤ (((((((((((((((((((((((((bk - 16) - 128) - 16) - 40) - 40) - 6000) - 16) - 16) - 128) - 16) - 40) - 40) - 5) - 100) - 100) - 320) - 40) - 40) - 128) - 4) - 4) - 256) - 256) - 8) - 16) ∧ ∀ q_77 : Nat, h_76 q_77 = none →
  ec_lt (va_up h_76 q_77 (some (.inl (0, 12, .inl (fun _ => 0))))) fun S_78 =>
  ∃ h_79, (hPut 3 S_78 x0 50 (.ref q_77)) = some h_79 ∧
  1 ≤ ((((((((((((((((((((((((((bc - 1) - 1) - 1) - 1) - 1) - 1) - 1) - 1) - 1) - 1) - 1) - 1) - 1) - 1) - 1) - 1) - 1) - 1) - 1) - 1) - 1) - 1) - 1) - 1) - 1) - 1) ∧ 12 ≤ ((((((((((((((((((((((((((bk - 16) - 128) - 16) - 40) - 40) - 6000) - 16) - 16) - 128) - 16) - 40) - 40) - 5) - 100) - 100) - 320) - 40) - 40) - 128) - 4) - 4) - 256) - 256) - 8) - 16) - 12) ∧ ∀ q_80 : Nat, h_79 q_80 = none →
  ec_lt (va_up h_79 q_80 (some (.inl (0, 12, .inl (fun _ => 0))))) fun S_81 =>
  ∃ h_82, (hPut 3 S_81 x0 51 (.ref q_80)) = some h_82 ∧
  1 ≤ (((((((((((((((((((((((((((bc - 1) - 1) - 1) - 1) - 1) - 1) - 1) - 1) - 1) - 1) - 1) - 1) - 1) - 1) - 1) - 1) - 1) - 1) - 1) - 1) - 1) - 1) - 1) - 1) - 1) - 1) - 1) ∧ 12 ≤ (((((((((((((((((((((((((((bk - 16) - 128) - 16) - 40) - 40) - 6000) - 16) - 16) - 128) - 16) - 40) - 40) - 5) - 100) - 100) - 320) - 40) - 40) - 128) - 4) - 4) - 256) - 256) - 8) - 16) - 12) - 12) ∧ ∀ q_83 : Nat, h_82 q_83 = none →
  ec_lt (va_up h_82 q_83 (some (.inl (0, 12, .inl (fun _ => 0))))) fun S_84 =>
  ∃ h_85, (hPut 3 S_84 x0 52 (.ref q_83)) = some h_85 ∧
  1 ≤ ((((((((((((((((((((((((((((bc - 1) - 1) - 1) - 1) - 1) - 1) - 1) - 1) - 1) - 1) - 1) - 1) - 1) - 1) - 1) - 1) - 1) - 1) - 1) - 1) - 1) - 1) - 1) - 1) - 1) - 1) - 1) - 1) ∧ 4 ≤ ((((((((((((((((((((((((((((bk - 16) - 128) - 16) - 40) - 40) - 6000) - 16) - 16) - 128) - 16) - 40) - 40) - 5) - 100) - 100) - 320) - 40) - 40) - 128) - 4) - 4) - 256) - 256) - 8) - 16) - 12) - 12) - 12) ∧ ∀ q_86 : Nat, h_85 q_86 = none →
  ec_lt (va_up h_85 q_86 (some (.inl (0, 4, .inl (fun _ => 0))))) fun S_87 =>
  ∃ h_88, (hPut 3 S_87 x0 53 (.ref q_86)) = some h_88 ∧
  1 ≤ (((((((((((((((((((((((((((((bc - 1) - 1) - 1) - 1) - 1) - 1) - 1) - 1) - 1) - 1) - 1) - 1) - 1) - 1) - 1) - 1) - 1) - 1) - 1) - 1) - 1) - 1) - 1) - 1) - 1) - 1) - 1) - 1) - 1) ∧ 4 ≤ (((((((((((((((((((((((((((((bk - 16) - 128) - 16) - 40) - 40) - 6000) - 16) - 16) - 128) - 16) - 40) - 40) - 5) - 100) - 100) - 320) - 40) - 40) - 128) - 4) - 4) - 256) - 256) - 8) - 16) - 12) - 12) - 12) - 4) ∧ ∀ q_89 : Nat, h_88 q_89 = none →
  ec_lt (va_up h_88 q_89 (some (.inl (0, 4, .inl (fun _ => 0))))) fun S_90 =>
  ∃ h_91, (hPut 3 S_90 x0 54 (.ref q_89)) = some h_91 ∧
  1 ≤ ((((((((((((((((((((((((((((((bc - 1) - 1) - 1) - 1) - 1) - 1) - 1) - 1) - 1) - 1) - 1) - 1) - 1) - 1) - 1) - 1) - 1) - 1) - 1) - 1) - 1) - 1) - 1) - 1) - 1) - 1) - 1) - 1) - 1) - 1) ∧ 160 ≤ ((((((((((((((((((((((((((((((bk - 16) - 128) - 16) - 40) - 40) - 6000) - 16) - 16) - 128) - 16) - 40) - 40) - 5) - 100) - 100) - 320) - 40) - 40) - 128) - 4) - 4) - 256) - 256) - 8) - 16) - 12) - 12) - 12) - 4) - 4) ∧ ∀ q_92 : Nat, h_91 q_92 = none →
  ec_lt (va_up h_91 q_92 (some (.inl (0, 160, .inl (fun _ => 0))))) fun S_93 =>
  ∃ h_94, (hPut 3 S_93 x0 55 (.ref q_92)) = some h_94 ∧
  fX3_init_262 N Qt Qr (fun S_98 bc_99 bk_100 x0_101 =>
    ∃ w_102, (hObj 3 S_98 x0_101) = some w_102 ∧
    ∃ c_103 k_104 : Nat, c_103 ≤ bc_99 ∧ k_104 ≤ bk_100 ∧ fX3_freshN N Qt (fun S_105 =>
    Qr S_105) S_98 c_103 k_104 x0_101) N h_94 (((((((((((((((((((((((((((((((bc - 1) - 1) - 1) - 1) - 1) - 1) - 1) - 1) - 1) - 1) - 1) - 1) - 1) - 1) - 1) - 1) - 1) - 1) - 1) - 1) - 1) - 1) - 1) - 1) - 1) - 1) - 1) - 1) - 1) - 1) - 1) (((((((((((((((((((((((((((((((bk - 16) - 128) - 16) - 40) - 40) - 6000) - 16) - 16) - 128) - 16) - 40) - 40) - 5) - 100) - 100) - 320) - 40) - 40) - 128) - 4) - 4) - 256) - 256) - 8) - 16) - 12) - 12) - 12) - 4) - 4) - 160) x0 (0 : Int32)
theorem metX3_init (l : Launch) (D : va_G) (dA : Nat → ClassId) (K : oK) (N : Nat) (Qt : Nat → hH → Prop) (Qr : hH → Prop) (S : hH) (bc bk : Nat) (x0 : Nat) {sz : Nat} (hf : fX3_init N Qt Qr S bc bk x0) : MetT l yX3_init (ws_ yX3_init cX3_init 2 none) (rmN 1 bc bk) (NPre D dA K sz S [.ref x0]) (NPost D dA (NA S sz) (nqV Qr) Qt) bc bk (NA S sz) := by
  refine n_ofW rfl (by decide) (Nat.le_of_ble_eq_true rfl) (fun A p e s m args below meth c X hr hlk hne hin hA hO hRf hM ls hl => ?_)
  have hl : lv_has ls 2 [(0, .ref x0)] := hl
  have hx := X.1
  have hb := X.2.1
  have hu : 0 + bc = bc := Nat.zero_add bc
  have hw : 0 + bk = bk := Nat.zero_add bk
  unfold fX3_init at hf
  refine lv_aload_n hx hb dX3_init_0 rfl (lv_at hl 0 rfl) ?_
  refine W.objInit hx hb X.2.2.2.1 (X.2.2.2.2 _ q969) (X.2.2.2.2 _ q111) (X.2.2.2.2 _ q112) rfl (X.2.2.1.trans hl.1.symm).symm rfl dX3_init_1 (Nat.le_of_ble_eq_true rfl) (Nat.le_of_ble_eq_true rfl) ?_
  refine W.eq (g2 := F0 m _ _ []) rfl ?_
  refine lv_aload_n hx hb dX3_init_4 rfl (lv_at hl 0 rfl) ?_
  refine lv_bipush (v := 16) hx hb dX3_init_5 (by decide) ?_
  obtain ⟨hb1, hb2, hf⟩ := hf
  refine n_newi X hM hA q370 (by decide) (by decide) (by decide) (nb_le hu hb1) (nb_le hw hb2) dX3_init_7 (fun q_1 H hq hM => ?_)
  have hf := hf q_1 hq
  obtain ⟨S_2, eS⟩ : ∃ z : hH, z = va_up S q_1 (some (.inl (0, 16, .inl (fun _ => 0)))) := ⟨_, rfl⟩
  rw [← eS] at hM
  have hf := ec_lt_p eS hf
  have hu := nb_sub hu hb1
  have hw := nb_sub hw hb2
  obtain ⟨h_3, h, hf⟩ := hf
  refine h_putF (C := RX3) (T := TX3) (N := 56) (ci := 3) (k := 1) (ty := (.array .int)) tyX3 tyX3_ok nmX3 X hM in_X3 rfl (by decide) q975 rfl rfl hin (by decide +kernel) rfl rfl h dX3_init_9 (fun H locs hM => ?_)
  refine lv_aload_n hx hb dX3_init_12 rfl (lv_at hl 0 rfl) ?_
  refine lv_sipush (v := 128) hx hb dX3_init_13 (by decide) ?_
  obtain ⟨hb1, hb2, hf⟩ := hf
  refine n_newi X hM hA q370 (by decide) (by decide) (by decide) (nb_le hu hb1) (nb_le hw hb2) dX3_init_16 (fun q_4 H hq hM => ?_)
  have hf := hf q_4 hq
  obtain ⟨S_5, eS⟩ : ∃ z : hH, z = va_up h_3 q_4 (some (.inl (0, 128, .inl (fun _ => 0)))) := ⟨_, rfl⟩
  rw [← eS] at hM
  have hf := ec_lt_p eS hf
  have hu := nb_sub hu hb1
  have hw := nb_sub hw hb2
  obtain ⟨h_6, h, hf⟩ := hf
  refine h_putF (C := RX3) (T := TX3) (N := 56) (ci := 3) (k := 2) (ty := (.array .int)) tyX3 tyX3_ok nmX3 X hM in_X3 rfl (by decide) q976 rfl rfl hin (by decide +kernel) rfl rfl h dX3_init_18 (fun H locs hM => ?_)
  refine lv_aload_n hx hb dX3_init_21 rfl (lv_at hl 0 rfl) ?_
  refine lv_bipush (v := 16) hx hb dX3_init_22 (by decide) ?_
  obtain ⟨hb1, hb2, hf⟩ := hf
  refine n_newi X hM hA q370 (by decide) (by decide) (by decide) (nb_le hu hb1) (nb_le hw hb2) dX3_init_24 (fun q_7 H hq hM => ?_)
  have hf := hf q_7 hq
  obtain ⟨S_8, eS⟩ : ∃ z : hH, z = va_up h_6 q_7 (some (.inl (0, 16, .inl (fun _ => 0)))) := ⟨_, rfl⟩
  rw [← eS] at hM
  have hf := ec_lt_p eS hf
  have hu := nb_sub hu hb1
  have hw := nb_sub hw hb2
  obtain ⟨h_9, h, hf⟩ := hf
  refine h_putF (C := RX3) (T := TX3) (N := 56) (ci := 3) (k := 3) (ty := (.array .int)) tyX3 tyX3_ok nmX3 X hM in_X3 rfl (by decide) q977 rfl rfl hin (by decide +kernel) rfl rfl h dX3_init_26 (fun H locs hM => ?_)
  refine lv_aload_n hx hb dX3_init_29 rfl (lv_at hl 0 rfl) ?_
  refine lv_bipush (v := 40) hx hb dX3_init_30 (by decide) ?_
  obtain ⟨hb1, hb2, hf⟩ := hf
  refine n_newi X hM hA q370 (by decide) (by decide) (by decide) (nb_le hu hb1) (nb_le hw hb2) dX3_init_32 (fun q_10 H hq hM => ?_)
  have hf := hf q_10 hq
  obtain ⟨S_11, eS⟩ : ∃ z : hH, z = va_up h_9 q_10 (some (.inl (0, 40, .inl (fun _ => 0)))) := ⟨_, rfl⟩
  rw [← eS] at hM
  have hf := ec_lt_p eS hf
  have hu := nb_sub hu hb1
  have hw := nb_sub hw hb2
  obtain ⟨h_12, h, hf⟩ := hf
  refine h_putF (C := RX3) (T := TX3) (N := 56) (ci := 3) (k := 5) (ty := (.array .int)) tyX3 tyX3_ok nmX3 X hM in_X3 rfl (by decide) q979 rfl rfl hin (by decide +kernel) rfl rfl h dX3_init_34 (fun H locs hM => ?_)
  refine lv_aload_n hx hb dX3_init_37 rfl (lv_at hl 0 rfl) ?_
  refine lv_bipush (v := 40) hx hb dX3_init_38 (by decide) ?_
  obtain ⟨hb1, hb2, hf⟩ := hf
  refine n_newi X hM hA q370 (by decide) (by decide) (by decide) (nb_le hu hb1) (nb_le hw hb2) dX3_init_40 (fun q_13 H hq hM => ?_)
  have hf := hf q_13 hq
  obtain ⟨S_14, eS⟩ : ∃ z : hH, z = va_up h_12 q_13 (some (.inl (0, 40, .inl (fun _ => 0)))) := ⟨_, rfl⟩
  rw [← eS] at hM
  have hf := ec_lt_p eS hf
  have hu := nb_sub hu hb1
  have hw := nb_sub hw hb2
  obtain ⟨h_15, h, hf⟩ := hf
  refine h_putF (C := RX3) (T := TX3) (N := 56) (ci := 3) (k := 6) (ty := (.array .int)) tyX3 tyX3_ok nmX3 X hM in_X3 rfl (by decide) q980 rfl rfl hin (by decide +kernel) rfl rfl h dX3_init_42 (fun H locs hM => ?_)
  refine lv_aload_n hx hb dX3_init_45 rfl (lv_at hl 0 rfl) ?_
  refine lv_sipush (v := 6000) hx hb dX3_init_46 (by decide) ?_
  obtain ⟨hb1, hb2, hf⟩ := hf
  refine n_newi X hM hA q370 (by decide) (by decide) (by decide) (nb_le hu hb1) (nb_le hw hb2) dX3_init_49 (fun q_16 H hq hM => ?_)
  have hf := hf q_16 hq
  obtain ⟨S_17, eS⟩ : ∃ z : hH, z = va_up h_15 q_16 (some (.inl (0, 6000, .inl (fun _ => 0)))) := ⟨_, rfl⟩
  rw [← eS] at hM
  have hf := ec_lt_p eS hf
  have hu := nb_sub hu hb1
  have hw := nb_sub hw hb2
  obtain ⟨h_18, h, hf⟩ := hf
  refine h_putF (C := RX3) (T := TX3) (N := 56) (ci := 3) (k := 8) (ty := (.array .int)) tyX3 tyX3_ok nmX3 X hM in_X3 rfl (by decide) q982 rfl rfl hin (by decide +kernel) rfl rfl h dX3_init_51 (fun H locs hM => ?_)
  refine lv_aload_n hx hb dX3_init_54 rfl (lv_at hl 0 rfl) ?_
  refine lv_bipush (v := 16) hx hb dX3_init_55 (by decide) ?_
  obtain ⟨hb1, hb2, hf⟩ := hf
  refine n_newi X hM hA q370 (by decide) (by decide) (by decide) (nb_le hu hb1) (nb_le hw hb2) dX3_init_57 (fun q_19 H hq hM => ?_)
  have hf := hf q_19 hq
  obtain ⟨S_20, eS⟩ : ∃ z : hH, z = va_up h_18 q_19 (some (.inl (0, 16, .inl (fun _ => 0)))) := ⟨_, rfl⟩
  rw [← eS] at hM
  have hf := ec_lt_p eS hf
  have hu := nb_sub hu hb1
  have hw := nb_sub hw hb2
  obtain ⟨h_21, h, hf⟩ := hf
  refine h_putF (C := RX3) (T := TX3) (N := 56) (ci := 3) (k := 9) (ty := (.array .int)) tyX3 tyX3_ok nmX3 X hM in_X3 rfl (by decide) q983 rfl rfl hin (by decide +kernel) rfl rfl h dX3_init_59 (fun H locs hM => ?_)
  refine lv_aload_n hx hb dX3_init_62 rfl (lv_at hl 0 rfl) ?_
  refine lv_bipush (v := 16) hx hb dX3_init_63 (by decide) ?_
  obtain ⟨hb1, hb2, hf⟩ := hf
  refine n_newi X hM hA q370 (by decide) (by decide) (by decide) (nb_le hu hb1) (nb_le hw hb2) dX3_init_65 (fun q_22 H hq hM => ?_)
  have hf := hf q_22 hq
  obtain ⟨S_23, eS⟩ : ∃ z : hH, z = va_up h_21 q_22 (some (.inl (0, 16, .inl (fun _ => 0)))) := ⟨_, rfl⟩
  rw [← eS] at hM
  have hf := ec_lt_p eS hf
  have hu := nb_sub hu hb1
  have hw := nb_sub hw hb2
  obtain ⟨h_24, h, hf⟩ := hf
  refine h_putF (C := RX3) (T := TX3) (N := 56) (ci := 3) (k := 12) (ty := (.array .int)) tyX3 tyX3_ok nmX3 X hM in_X3 rfl (by decide) q986 rfl rfl hin (by decide +kernel) rfl rfl h dX3_init_67 (fun H locs hM => ?_)
  refine lv_aload_n hx hb dX3_init_70 rfl (lv_at hl 0 rfl) ?_
  refine lv_sipush (v := 128) hx hb dX3_init_71 (by decide) ?_
  obtain ⟨hb1, hb2, hf⟩ := hf
  refine n_newi X hM hA q370 (by decide) (by decide) (by decide) (nb_le hu hb1) (nb_le hw hb2) dX3_init_74 (fun q_25 H hq hM => ?_)
  have hf := hf q_25 hq
  obtain ⟨S_26, eS⟩ : ∃ z : hH, z = va_up h_24 q_25 (some (.inl (0, 128, .inl (fun _ => 0)))) := ⟨_, rfl⟩
  rw [← eS] at hM
  have hf := ec_lt_p eS hf
  have hu := nb_sub hu hb1
  have hw := nb_sub hw hb2
  obtain ⟨h_27, h, hf⟩ := hf
  refine h_putF (C := RX3) (T := TX3) (N := 56) (ci := 3) (k := 13) (ty := (.array .int)) tyX3 tyX3_ok nmX3 X hM in_X3 rfl (by decide) q987 rfl rfl hin (by decide +kernel) rfl rfl h dX3_init_76 (fun H locs hM => ?_)
  refine lv_aload_n hx hb dX3_init_79 rfl (lv_at hl 0 rfl) ?_
  refine lv_bipush (v := 16) hx hb dX3_init_80 (by decide) ?_
  obtain ⟨hb1, hb2, hf⟩ := hf
  refine n_newi X hM hA q370 (by decide) (by decide) (by decide) (nb_le hu hb1) (nb_le hw hb2) dX3_init_82 (fun q_28 H hq hM => ?_)
  have hf := hf q_28 hq
  obtain ⟨S_29, eS⟩ : ∃ z : hH, z = va_up h_27 q_28 (some (.inl (0, 16, .inl (fun _ => 0)))) := ⟨_, rfl⟩
  rw [← eS] at hM
  have hf := ec_lt_p eS hf
  have hu := nb_sub hu hb1
  have hw := nb_sub hw hb2
  obtain ⟨h_30, h, hf⟩ := hf
  refine h_putF (C := RX3) (T := TX3) (N := 56) (ci := 3) (k := 14) (ty := (.array .int)) tyX3 tyX3_ok nmX3 X hM in_X3 rfl (by decide) q988 rfl rfl hin (by decide +kernel) rfl rfl h dX3_init_84 (fun H locs hM => ?_)
  refine lv_aload_n hx hb dX3_init_87 rfl (lv_at hl 0 rfl) ?_
  refine lv_bipush (v := 40) hx hb dX3_init_88 (by decide) ?_
  obtain ⟨hb1, hb2, hf⟩ := hf
  refine n_newi X hM hA q370 (by decide) (by decide) (by decide) (nb_le hu hb1) (nb_le hw hb2) dX3_init_90 (fun q_31 H hq hM => ?_)
  have hf := hf q_31 hq
  obtain ⟨S_32, eS⟩ : ∃ z : hH, z = va_up h_30 q_31 (some (.inl (0, 40, .inl (fun _ => 0)))) := ⟨_, rfl⟩
  rw [← eS] at hM
  have hf := ec_lt_p eS hf
  have hu := nb_sub hu hb1
  have hw := nb_sub hw hb2
  obtain ⟨h_33, h, hf⟩ := hf
  refine h_putF (C := RX3) (T := TX3) (N := 56) (ci := 3) (k := 16) (ty := (.array .int)) tyX3 tyX3_ok nmX3 X hM in_X3 rfl (by decide) q990 rfl rfl hin (by decide +kernel) rfl rfl h dX3_init_92 (fun H locs hM => ?_)
  refine lv_aload_n hx hb dX3_init_95 rfl (lv_at hl 0 rfl) ?_
  refine lv_bipush (v := 40) hx hb dX3_init_96 (by decide) ?_
  obtain ⟨hb1, hb2, hf⟩ := hf
  refine n_newi X hM hA q370 (by decide) (by decide) (by decide) (nb_le hu hb1) (nb_le hw hb2) dX3_init_98 (fun q_34 H hq hM => ?_)
  have hf := hf q_34 hq
  obtain ⟨S_35, eS⟩ : ∃ z : hH, z = va_up h_33 q_34 (some (.inl (0, 40, .inl (fun _ => 0)))) := ⟨_, rfl⟩
  rw [← eS] at hM
  have hf := ec_lt_p eS hf
  have hu := nb_sub hu hb1
  have hw := nb_sub hw hb2
  obtain ⟨h_36, h, hf⟩ := hf
  refine h_putF (C := RX3) (T := TX3) (N := 56) (ci := 3) (k := 17) (ty := (.array .int)) tyX3 tyX3_ok nmX3 X hM in_X3 rfl (by decide) q991 rfl rfl hin (by decide +kernel) rfl rfl h dX3_init_100 (fun H locs hM => ?_)
  refine lv_aload_n hx hb dX3_init_103 rfl (lv_at hl 0 rfl) ?_
  refine lv_iconst (v := 5) hx hb dX3_init_104 (by decide) ?_
  obtain ⟨hb1, hb2, hf⟩ := hf
  refine n_newi X hM hA q370 (by decide) (by decide) (by decide) (nb_le hu hb1) (nb_le hw hb2) dX3_init_105 (fun q_37 H hq hM => ?_)
  have hf := hf q_37 hq
  obtain ⟨S_38, eS⟩ : ∃ z : hH, z = va_up h_36 q_37 (some (.inl (0, 5, .inl (fun _ => 0)))) := ⟨_, rfl⟩
  rw [← eS] at hM
  have hf := ec_lt_p eS hf
  have hu := nb_sub hu hb1
  have hw := nb_sub hw hb2
  obtain ⟨h_39, h, hf⟩ := hf
  refine h_putF (C := RX3) (T := TX3) (N := 56) (ci := 3) (k := 18) (ty := (.array .int)) tyX3 tyX3_ok nmX3 X hM in_X3 rfl (by decide) q992 rfl rfl hin (by decide +kernel) rfl rfl h dX3_init_107 (fun H locs hM => ?_)
  refine lv_aload_n hx hb dX3_init_110 rfl (lv_at hl 0 rfl) ?_
  refine lv_bipush (v := 100) hx hb dX3_init_111 (by decide) ?_
  obtain ⟨hb1, hb2, hf⟩ := hf
  refine n_newi X hM hA q370 (by decide) (by decide) (by decide) (nb_le hu hb1) (nb_le hw hb2) dX3_init_113 (fun q_40 H hq hM => ?_)
  have hf := hf q_40 hq
  obtain ⟨S_41, eS⟩ : ∃ z : hH, z = va_up h_39 q_40 (some (.inl (0, 100, .inl (fun _ => 0)))) := ⟨_, rfl⟩
  rw [← eS] at hM
  have hf := ec_lt_p eS hf
  have hu := nb_sub hu hb1
  have hw := nb_sub hw hb2
  obtain ⟨h_42, h, hf⟩ := hf
  refine h_putF (C := RX3) (T := TX3) (N := 56) (ci := 3) (k := 20) (ty := (.array .int)) tyX3 tyX3_ok nmX3 X hM in_X3 rfl (by decide) q994 rfl rfl hin (by decide +kernel) rfl rfl h dX3_init_115 (fun H locs hM => ?_)
  refine lv_aload_n hx hb dX3_init_118 rfl (lv_at hl 0 rfl) ?_
  refine lv_bipush (v := 100) hx hb dX3_init_119 (by decide) ?_
  obtain ⟨hb1, hb2, hf⟩ := hf
  refine n_newi X hM hA q370 (by decide) (by decide) (by decide) (nb_le hu hb1) (nb_le hw hb2) dX3_init_121 (fun q_43 H hq hM => ?_)
  have hf := hf q_43 hq
  obtain ⟨S_44, eS⟩ : ∃ z : hH, z = va_up h_42 q_43 (some (.inl (0, 100, .inl (fun _ => 0)))) := ⟨_, rfl⟩
  rw [← eS] at hM
  have hf := ec_lt_p eS hf
  have hu := nb_sub hu hb1
  have hw := nb_sub hw hb2
  obtain ⟨h_45, h, hf⟩ := hf
  refine h_putF (C := RX3) (T := TX3) (N := 56) (ci := 3) (k := 21) (ty := (.array .int)) tyX3 tyX3_ok nmX3 X hM in_X3 rfl (by decide) q995 rfl rfl hin (by decide +kernel) rfl rfl h dX3_init_123 (fun H locs hM => ?_)
  refine lv_aload_n hx hb dX3_init_126 rfl (lv_at hl 0 rfl) ?_
  refine lv_sipush (v := 320) hx hb dX3_init_127 (by decide) ?_
  obtain ⟨hb1, hb2, hf⟩ := hf
  refine n_newi X hM hA q370 (by decide) (by decide) (by decide) (nb_le hu hb1) (nb_le hw hb2) dX3_init_130 (fun q_46 H hq hM => ?_)
  have hf := hf q_46 hq
  obtain ⟨S_47, eS⟩ : ∃ z : hH, z = va_up h_45 q_46 (some (.inl (0, 320, .inl (fun _ => 0)))) := ⟨_, rfl⟩
  rw [← eS] at hM
  have hf := ec_lt_p eS hf
  have hu := nb_sub hu hb1
  have hw := nb_sub hw hb2
  obtain ⟨h_48, h, hf⟩ := hf
  refine h_putF (C := RX3) (T := TX3) (N := 56) (ci := 3) (k := 24) (ty := (.array .int)) tyX3 tyX3_ok nmX3 X hM in_X3 rfl (by decide) q998 rfl rfl hin (by decide +kernel) rfl rfl h dX3_init_132 (fun H locs hM => ?_)
  refine lv_aload_n hx hb dX3_init_135 rfl (lv_at hl 0 rfl) ?_
  refine lv_bipush (v := 40) hx hb dX3_init_136 (by decide) ?_
  obtain ⟨hb1, hb2, hf⟩ := hf
  refine n_newi X hM hA q370 (by decide) (by decide) (by decide) (nb_le hu hb1) (nb_le hw hb2) dX3_init_138 (fun q_49 H hq hM => ?_)
  have hf := hf q_49 hq
  obtain ⟨S_50, eS⟩ : ∃ z : hH, z = va_up h_48 q_49 (some (.inl (0, 40, .inl (fun _ => 0)))) := ⟨_, rfl⟩
  rw [← eS] at hM
  have hf := ec_lt_p eS hf
  have hu := nb_sub hu hb1
  have hw := nb_sub hw hb2
  obtain ⟨h_51, h, hf⟩ := hf
  refine h_putF (C := RX3) (T := TX3) (N := 56) (ci := 3) (k := 32) (ty := (.array .int)) tyX3 tyX3_ok nmX3 X hM in_X3 rfl (by decide) q1006 rfl rfl hin (by decide +kernel) rfl rfl h dX3_init_140 (fun H locs hM => ?_)
  refine lv_aload_n hx hb dX3_init_143 rfl (lv_at hl 0 rfl) ?_
  refine lv_bipush (v := 40) hx hb dX3_init_144 (by decide) ?_
  obtain ⟨hb1, hb2, hf⟩ := hf
  refine n_newi X hM hA q370 (by decide) (by decide) (by decide) (nb_le hu hb1) (nb_le hw hb2) dX3_init_146 (fun q_52 H hq hM => ?_)
  have hf := hf q_52 hq
  obtain ⟨S_53, eS⟩ : ∃ z : hH, z = va_up h_51 q_52 (some (.inl (0, 40, .inl (fun _ => 0)))) := ⟨_, rfl⟩
  rw [← eS] at hM
  have hf := ec_lt_p eS hf
  have hu := nb_sub hu hb1
  have hw := nb_sub hw hb2
  obtain ⟨h_54, h, hf⟩ := hf
  refine h_putF (C := RX3) (T := TX3) (N := 56) (ci := 3) (k := 33) (ty := (.array .int)) tyX3 tyX3_ok nmX3 X hM in_X3 rfl (by decide) q1007 rfl rfl hin (by decide +kernel) rfl rfl h dX3_init_148 (fun H locs hM => ?_)
  refine lv_aload_n hx hb dX3_init_151 rfl (lv_at hl 0 rfl) ?_
  refine lv_sipush (v := 128) hx hb dX3_init_152 (by decide) ?_
  obtain ⟨hb1, hb2, hf⟩ := hf
  refine n_newi X hM hA q370 (by decide) (by decide) (by decide) (nb_le hu hb1) (nb_le hw hb2) dX3_init_155 (fun q_55 H hq hM => ?_)
  have hf := hf q_55 hq
  obtain ⟨S_56, eS⟩ : ∃ z : hH, z = va_up h_54 q_55 (some (.inl (0, 128, .inl (fun _ => 0)))) := ⟨_, rfl⟩
  rw [← eS] at hM
  have hf := ec_lt_p eS hf
  have hu := nb_sub hu hb1
  have hw := nb_sub hw hb2
  obtain ⟨h_57, h, hf⟩ := hf
  refine h_putF (C := RX3) (T := TX3) (N := 56) (ci := 3) (k := 35) (ty := (.array .int)) tyX3 tyX3_ok nmX3 X hM in_X3 rfl (by decide) q1009 rfl rfl hin (by decide +kernel) rfl rfl h dX3_init_157 (fun H locs hM => ?_)
  refine lv_aload_n hx hb dX3_init_160 rfl (lv_at hl 0 rfl) ?_
  refine lv_iconst (v := 2) hx hb dX3_init_161 (by decide) ?_
  obtain ⟨h_58, h, hf⟩ := hf
  refine h_put (C := RX3) (T := TX3) (N := 56) (ci := 3) (k := 36) (ty := .int) tyX3 tyX3_ok nmX3 X hM in_X3 rfl (by decide) q1010 rfl rfl (by decide +kernel) rfl rfl h dX3_init_162 (fun H locs hM => ?_)
  refine lv_aload_n hx hb dX3_init_165 rfl (lv_at hl 0 rfl) ?_
  refine lv_iconst (v := 4) hx hb dX3_init_166 (by decide) ?_
  obtain ⟨hb1, hb2, hf⟩ := hf
  refine n_newi X hM hA q370 (by decide) (by decide) (by decide) (nb_le hu hb1) (nb_le hw hb2) dX3_init_167 (fun q_59 H hq hM => ?_)
  have hf := hf q_59 hq
  obtain ⟨S_60, eS⟩ : ∃ z : hH, z = va_up h_58 q_59 (some (.inl (0, 4, .inl (fun _ => 0)))) := ⟨_, rfl⟩
  rw [← eS] at hM
  have hf := ec_lt_p eS hf
  have hu := nb_sub hu hb1
  have hw := nb_sub hw hb2
  obtain ⟨h_61, h, hf⟩ := hf
  refine h_putF (C := RX3) (T := TX3) (N := 56) (ci := 3) (k := 37) (ty := (.array .int)) tyX3 tyX3_ok nmX3 X hM in_X3 rfl (by decide) q1011 rfl rfl hin (by decide +kernel) rfl rfl h dX3_init_169 (fun H locs hM => ?_)
  refine lv_aload_n hx hb dX3_init_172 rfl (lv_at hl 0 rfl) ?_
  refine lv_iconst (v := 4) hx hb dX3_init_173 (by decide) ?_
  obtain ⟨hb1, hb2, hf⟩ := hf
  refine n_newi X hM hA q370 (by decide) (by decide) (by decide) (nb_le hu hb1) (nb_le hw hb2) dX3_init_174 (fun q_62 H hq hM => ?_)
  have hf := hf q_62 hq
  obtain ⟨S_63, eS⟩ : ∃ z : hH, z = va_up h_61 q_62 (some (.inl (0, 4, .inl (fun _ => 0)))) := ⟨_, rfl⟩
  rw [← eS] at hM
  have hf := ec_lt_p eS hf
  have hu := nb_sub hu hb1
  have hw := nb_sub hw hb2
  obtain ⟨h_64, h, hf⟩ := hf
  refine h_putF (C := RX3) (T := TX3) (N := 56) (ci := 3) (k := 38) (ty := (.array .int)) tyX3 tyX3_ok nmX3 X hM in_X3 rfl (by decide) q1012 rfl rfl hin (by decide +kernel) rfl rfl h dX3_init_176 (fun H locs hM => ?_)
  refine lv_aload_n hx hb dX3_init_179 rfl (lv_at hl 0 rfl) ?_
  refine lv_sipush (v := 256) hx hb dX3_init_180 (by decide) ?_
  obtain ⟨hb1, hb2, hf⟩ := hf
  refine n_newi X hM hA q370 (by decide) (by decide) (by decide) (nb_le hu hb1) (nb_le hw hb2) dX3_init_183 (fun q_65 H hq hM => ?_)
  have hf := hf q_65 hq
  obtain ⟨S_66, eS⟩ : ∃ z : hH, z = va_up h_64 q_65 (some (.inl (0, 256, .inl (fun _ => 0)))) := ⟨_, rfl⟩
  rw [← eS] at hM
  have hf := ec_lt_p eS hf
  have hu := nb_sub hu hb1
  have hw := nb_sub hw hb2
  obtain ⟨h_67, h, hf⟩ := hf
  refine h_putF (C := RX3) (T := TX3) (N := 56) (ci := 3) (k := 39) (ty := (.array .int)) tyX3 tyX3_ok nmX3 X hM in_X3 rfl (by decide) q1013 rfl rfl hin (by decide +kernel) rfl rfl h dX3_init_185 (fun H locs hM => ?_)
  refine lv_aload_n hx hb dX3_init_188 rfl (lv_at hl 0 rfl) ?_
  refine lv_sipush (v := 256) hx hb dX3_init_189 (by decide) ?_
  obtain ⟨hb1, hb2, hf⟩ := hf
  refine n_newz X hM hA q767 (by decide) (by decide) (by decide) (nb_le hu hb1) (nb_le hw hb2) dX3_init_192 (fun q_68 H hq hM => ?_)
  have hf := hf q_68 hq
  obtain ⟨S_69, eS⟩ : ∃ z : hH, z = va_up h_67 q_68 (some (.inl (1, 256, .inl (fun _ => 0)))) := ⟨_, rfl⟩
  rw [← eS] at hM
  have hf := ec_lt_p eS hf
  have hu := nb_sub hu hb1
  have hw := nb_sub hw hb2
  obtain ⟨h_70, h, hf⟩ := hf
  refine h_putF (C := RX3) (T := TX3) (N := 56) (ci := 3) (k := 40) (ty := (.array .boolean)) tyX3 tyX3_ok nmX3 X hM in_X3 rfl (by decide) q1014 rfl rfl hin (by decide +kernel) rfl rfl h dX3_init_194 (fun H locs hM => ?_)
  refine lv_aload_n hx hb dX3_init_197 rfl (lv_at hl 0 rfl) ?_
  refine lv_bipush (v := 8) hx hb dX3_init_198 (by decide) ?_
  obtain ⟨hb1, hb2, hf⟩ := hf
  refine n_newi X hM hA q370 (by decide) (by decide) (by decide) (nb_le hu hb1) (nb_le hw hb2) dX3_init_200 (fun q_71 H hq hM => ?_)
  have hf := hf q_71 hq
  obtain ⟨S_72, eS⟩ : ∃ z : hH, z = va_up h_70 q_71 (some (.inl (0, 8, .inl (fun _ => 0)))) := ⟨_, rfl⟩
  rw [← eS] at hM
  have hf := ec_lt_p eS hf
  have hu := nb_sub hu hb1
  have hw := nb_sub hw hb2
  obtain ⟨h_73, h, hf⟩ := hf
  refine h_putF (C := RX3) (T := TX3) (N := 56) (ci := 3) (k := 42) (ty := (.array .int)) tyX3 tyX3_ok nmX3 X hM in_X3 rfl (by decide) q1016 rfl rfl hin (by decide +kernel) rfl rfl h dX3_init_202 (fun H locs hM => ?_)
  refine lv_aload_n hx hb dX3_init_205 rfl (lv_at hl 0 rfl) ?_
  refine lv_bipush (v := 16) hx hb dX3_init_206 (by decide) ?_
  obtain ⟨hb1, hb2, hf⟩ := hf
  refine n_newi X hM hA q370 (by decide) (by decide) (by decide) (nb_le hu hb1) (nb_le hw hb2) dX3_init_208 (fun q_74 H hq hM => ?_)
  have hf := hf q_74 hq
  obtain ⟨S_75, eS⟩ : ∃ z : hH, z = va_up h_73 q_74 (some (.inl (0, 16, .inl (fun _ => 0)))) := ⟨_, rfl⟩
  rw [← eS] at hM
  have hf := ec_lt_p eS hf
  have hu := nb_sub hu hb1
  have hw := nb_sub hw hb2
  obtain ⟨h_76, h, hf⟩ := hf
  refine h_putF (C := RX3) (T := TX3) (N := 56) (ci := 3) (k := 47) (ty := (.array .int)) tyX3 tyX3_ok nmX3 X hM in_X3 rfl (by decide) q1021 rfl rfl hin (by decide +kernel) rfl rfl h dX3_init_210 (fun H locs hM => ?_)
  refine lv_aload_n hx hb dX3_init_213 rfl (lv_at hl 0 rfl) ?_
  refine lv_bipush (v := 12) hx hb dX3_init_214 (by decide) ?_
  obtain ⟨hb1, hb2, hf⟩ := hf
  refine n_newi X hM hA q370 (by decide) (by decide) (by decide) (nb_le hu hb1) (nb_le hw hb2) dX3_init_216 (fun q_77 H hq hM => ?_)
  have hf := hf q_77 hq
  obtain ⟨S_78, eS⟩ : ∃ z : hH, z = va_up h_76 q_77 (some (.inl (0, 12, .inl (fun _ => 0)))) := ⟨_, rfl⟩
  rw [← eS] at hM
  have hf := ec_lt_p eS hf
  have hu := nb_sub hu hb1
  have hw := nb_sub hw hb2
  obtain ⟨h_79, h, hf⟩ := hf
  refine h_putF (C := RX3) (T := TX3) (N := 56) (ci := 3) (k := 50) (ty := (.array .int)) tyX3 tyX3_ok nmX3 X hM in_X3 rfl (by decide) q1024 rfl rfl hin (by decide +kernel) rfl rfl h dX3_init_218 (fun H locs hM => ?_)
  refine lv_aload_n hx hb dX3_init_221 rfl (lv_at hl 0 rfl) ?_
  refine lv_bipush (v := 12) hx hb dX3_init_222 (by decide) ?_
  obtain ⟨hb1, hb2, hf⟩ := hf
  refine n_newi X hM hA q370 (by decide) (by decide) (by decide) (nb_le hu hb1) (nb_le hw hb2) dX3_init_224 (fun q_80 H hq hM => ?_)
  have hf := hf q_80 hq
  obtain ⟨S_81, eS⟩ : ∃ z : hH, z = va_up h_79 q_80 (some (.inl (0, 12, .inl (fun _ => 0)))) := ⟨_, rfl⟩
  rw [← eS] at hM
  have hf := ec_lt_p eS hf
  have hu := nb_sub hu hb1
  have hw := nb_sub hw hb2
  obtain ⟨h_82, h, hf⟩ := hf
  refine h_putF (C := RX3) (T := TX3) (N := 56) (ci := 3) (k := 51) (ty := (.array .int)) tyX3 tyX3_ok nmX3 X hM in_X3 rfl (by decide) q1025 rfl rfl hin (by decide +kernel) rfl rfl h dX3_init_226 (fun H locs hM => ?_)
  refine lv_aload_n hx hb dX3_init_229 rfl (lv_at hl 0 rfl) ?_
  refine lv_bipush (v := 12) hx hb dX3_init_230 (by decide) ?_
  obtain ⟨hb1, hb2, hf⟩ := hf
  refine n_newi X hM hA q370 (by decide) (by decide) (by decide) (nb_le hu hb1) (nb_le hw hb2) dX3_init_232 (fun q_83 H hq hM => ?_)
  have hf := hf q_83 hq
  obtain ⟨S_84, eS⟩ : ∃ z : hH, z = va_up h_82 q_83 (some (.inl (0, 12, .inl (fun _ => 0)))) := ⟨_, rfl⟩
  rw [← eS] at hM
  have hf := ec_lt_p eS hf
  have hu := nb_sub hu hb1
  have hw := nb_sub hw hb2
  obtain ⟨h_85, h, hf⟩ := hf
  refine h_putF (C := RX3) (T := TX3) (N := 56) (ci := 3) (k := 52) (ty := (.array .int)) tyX3 tyX3_ok nmX3 X hM in_X3 rfl (by decide) q1026 rfl rfl hin (by decide +kernel) rfl rfl h dX3_init_234 (fun H locs hM => ?_)
  refine lv_aload_n hx hb dX3_init_237 rfl (lv_at hl 0 rfl) ?_
  refine lv_iconst (v := 4) hx hb dX3_init_238 (by decide) ?_
  obtain ⟨hb1, hb2, hf⟩ := hf
  refine n_newi X hM hA q370 (by decide) (by decide) (by decide) (nb_le hu hb1) (nb_le hw hb2) dX3_init_239 (fun q_86 H hq hM => ?_)
  have hf := hf q_86 hq
  obtain ⟨S_87, eS⟩ : ∃ z : hH, z = va_up h_85 q_86 (some (.inl (0, 4, .inl (fun _ => 0)))) := ⟨_, rfl⟩
  rw [← eS] at hM
  have hf := ec_lt_p eS hf
  have hu := nb_sub hu hb1
  have hw := nb_sub hw hb2
  obtain ⟨h_88, h, hf⟩ := hf
  refine h_putF (C := RX3) (T := TX3) (N := 56) (ci := 3) (k := 53) (ty := (.array .int)) tyX3 tyX3_ok nmX3 X hM in_X3 rfl (by decide) q1027 rfl rfl hin (by decide +kernel) rfl rfl h dX3_init_241 (fun H locs hM => ?_)
  refine lv_aload_n hx hb dX3_init_244 rfl (lv_at hl 0 rfl) ?_
  refine lv_iconst (v := 4) hx hb dX3_init_245 (by decide) ?_
  obtain ⟨hb1, hb2, hf⟩ := hf
  refine n_newi X hM hA q370 (by decide) (by decide) (by decide) (nb_le hu hb1) (nb_le hw hb2) dX3_init_246 (fun q_89 H hq hM => ?_)
  have hf := hf q_89 hq
  obtain ⟨S_90, eS⟩ : ∃ z : hH, z = va_up h_88 q_89 (some (.inl (0, 4, .inl (fun _ => 0)))) := ⟨_, rfl⟩
  rw [← eS] at hM
  have hf := ec_lt_p eS hf
  have hu := nb_sub hu hb1
  have hw := nb_sub hw hb2
  obtain ⟨h_91, h, hf⟩ := hf
  refine h_putF (C := RX3) (T := TX3) (N := 56) (ci := 3) (k := 54) (ty := (.array .int)) tyX3 tyX3_ok nmX3 X hM in_X3 rfl (by decide) q1028 rfl rfl hin (by decide +kernel) rfl rfl h dX3_init_248 (fun H locs hM => ?_)
  refine lv_aload_n hx hb dX3_init_251 rfl (lv_at hl 0 rfl) ?_
  refine lv_sipush (v := 160) hx hb dX3_init_252 (by decide) ?_
  obtain ⟨hb1, hb2, hf⟩ := hf
  refine n_newi X hM hA q370 (by decide) (by decide) (by decide) (nb_le hu hb1) (nb_le hw hb2) dX3_init_255 (fun q_92 H hq hM => ?_)
  have hf := hf q_92 hq
  obtain ⟨S_93, eS⟩ : ∃ z : hH, z = va_up h_91 q_92 (some (.inl (0, 160, .inl (fun _ => 0)))) := ⟨_, rfl⟩
  rw [← eS] at hM
  have hf := ec_lt_p eS hf
  have hu := nb_sub hu hb1
  have hw := nb_sub hw hb2
  obtain ⟨h_94, h, hf⟩ := hf
  refine h_putF (C := RX3) (T := TX3) (N := 56) (ci := 3) (k := 55) (ty := (.array .int)) tyX3 tyX3_ok nmX3 X hM in_X3 rfl (by decide) q1029 rfl rfl hin (by decide +kernel) rfl rfl h dX3_init_257 (fun H locs hM => ?_)
  refine lv_iconst (v := 0) hx hb dX3_init_260 (by decide) ?_
  refine lv_istore_n (lv' := [(1, .int (0 : Int32)), (0, .ref x0)]) hx hb dX3_init_261 rfl hl (by decide) rfl (fun ls hl => ?_)
  exact bX3_init_262 X hr hlk hne hin hA hO hRf (fun S_98 bc_99 bk_100 x0_101 H locs u w ls hf hu hw hM hl => by
    refine lv_aload_n hx hb dX3_init_281 rfl (lv_at hl 0 rfl) ?_
    obtain ⟨w_102, ho, hf⟩ := hf
    obtain ⟨c_103, k_104, hc1, hk1, hf⟩ := hf
    refine n_cV (C := RX3) (T := TX3) (N := 56) (As := []) (rest := []) X hM hA hO hRf rfl ho (metX3_freshN l D dA K N Qt _ S_98 c_103 k_104 x0_101 hf) (cwV 0 X.2.2.2.2 gX3_108 rfl rfl rfl ⟨rfl, hX3_freshN⟩ (rmN_le (Nat.le_of_ble_eq_true rfl) (Nat.le_of_ble_eq_true rfl))) hne hlk rfl hl.1 rfl (Nat.le_of_ble_eq_true rfl) ⟨nb_le hu hc1, nb_le hw hk1⟩ (nb_le hu hc1) (nb_le hw hk1) dX3_init_282 (fun v S1 H locs hf hM => ?_)
    obtain ⟨rfl, hf⟩ := hf
    generalize S1 = S_105 at hf hM
    have hu := nb_sub hu hc1
    have hw := nb_sub hw hk1
    refine W.eq (g2 := F0 m _ _ []) rfl ?_
    exact n_vret X hr hlk hM (nb_u hu) (nb_u hw) hf dX3_init_285) N h_94 (((((((((((((((((((((((((((((((bc - 1) - 1) - 1) - 1) - 1) - 1) - 1) - 1) - 1) - 1) - 1) - 1) - 1) - 1) - 1) - 1) - 1) - 1) - 1) - 1) - 1) - 1) - 1) - 1) - 1) - 1) - 1) - 1) - 1) - 1) - 1) (((((((((((((((((((((((((((((((bk - 16) - 128) - 16) - 40) - 40) - 6000) - 16) - 16) - 128) - 16) - 40) - 40) - 5) - 100) - 100) - 320) - 40) - 40) - 128) - 4) - 4) - 256) - 256) - 8) - 16) - 12) - 12) - 12) - 4) - 4) - 160) x0 (0 : Int32) _ _ _ _ _ hf hu hw hM (lv_sub hl [1, 0] rfl)
theorem hX3_init : yX3_init.cls ≠ "java/lang/invoke/MethodHandle" ∧ yX3_init.cls ≠ "java/lang/invoke/VarHandle" ∧ (parseMethodDescriptor yX3_init.desc).map (fun d => d.parameters.length) = some 0 := by decide +kernel
end
