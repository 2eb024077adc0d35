set_option maxRecDepth 100000
def bPut (h : hH) (a k : Nat) (v : Value) : Option hH := match h a with
  | some (.inr z) => if (z.1 = 6 ∨ z.1 = 8) ∧ k < z.2.length then some (va_up h a (some (.inr (z.1, z.2.set k v)))) else none
  | _ => none
theorem bPut_i {h h1 : hH} {a k : Nat} {v : Value} (e : bPut h a k v = some h1) : hPut 6 h a k v = some h1 ∨ hPut 8 h a k v = some h1 := by
  unfold bPut at e
  unfold hPut
  split at e
  · rename_i z hz
    by_cases hc : (z.1 = 6 ∨ z.1 = 8) ∧ k < z.2.length
    · rw [if_pos hc] at e
      obtain ⟨h6 | h8, hk⟩ := hc
      · exact Or.inl (by simp only [hz]; rw [if_pos ⟨h6, hk⟩]; exact e)
      · exact Or.inr (by simp only [hz]; rw [if_pos ⟨h8, hk⟩]; exact e)
    · rw [if_neg hc] at e; cases e
  · cases e
section
variable {p : Program} {l : Launch} {e : Env} {R : Room} {s : State} {m : MethodId} {args : Array Value} {below : List Frame} {meth : Method} {c : Code} {H : Heap} {locs : List Loc} {u w : Nat} {Q : State → Prop} {cc : ByteArray} {nL pc idx k a : Nat} {ls : Array Slot} {rest : List Value} {D : va_G} {dA : Nat → ClassId} {S S1 : hH} {A : Nat → Prop} {F : va_W}
theorem h_putB {v : Value} {ty : FieldType} (X : CallFix p m c cc nL s args lw_all RX7) (hX : HX D dA F S A s H locs) (hk : k < 2) (hlink : Cond.fieldLink RX7 idx RX7 (TX7 k).2.1 (TX7 k).2.2.1 ∈ lw_all) (hR : (TX7 k).1 = RX7) (hfin : (TX7 k).2.2.2 = false) (hd : parseFieldDescriptor (TX7 k).2.2.1 = some ty) (hn : narrow ty v = v) (hfit : fits ty v = true) (hv : bPut S a k v = some S1) (hdg : decode cc pc = .ok (.putfield idx, 3))
    (kk : ∀ (H1 : Heap) (locs1 : List Loc), HX D dA F S1 A s H1 locs1 → W p l e R s m args below meth c H1 locs1 u w Q (F0 m (pc + 3) ls rest)) : W p l e R s m args below meth c H locs u w Q (F0 m pc ls (v :: .ref a :: rest)) := by
  rcases bPut_i hv with hv | hv
  · exact h_put (C := RX7) (T := TX7) (N := 2) (ci := 6) (k := k) (ty := ty) tyX7 tyX7_ok nmX7 X hX in_X7 rfl hk hlink hR hfin hd hn hfit hv hdg kk
  · exact h_put (C := RX9) (T := TX9) (N := 5) (ci := 8) (k := k) (ty := ty) tyX9 tyX9_ok nmX9 X hX in_X9 rfl (by omega) (by rw [tx97 k hk]; exact hlink) (by rw [tx97 k hk]; exact hR) (by rw [tx97 k hk]; exact hfin) (by rw [tx97 k hk]; exact hd) hn hfit hv hdg kk
/-- an item, line or loop, into an array of items -/
theorem n_astI {a v : Nat} {j : Int32} (X : CallFix p m c cc nL s args lw_all RX7) (hM : HX D dA F S A s H locs) (ho : (∃ fs, S v = some (.inr (7, fs))) ∨ (∃ fs, S v = some (.inr (8, fs)))) (h : hAsR 6 S a j v = some S1) (hdg : decode cc pc = .ok (.aastore, 1))
    (kk : ∀ (H1 : Heap) (locs1 : List Loc), HX D dA F S1 A s H1 locs1 → W p l e R s m args below meth c H1 locs1 u w Q (F0 m (pc + 1) ls rest)) : W p l e R s m args below meth c H locs u w Q (F0 m pc ls (.ref v :: .int j :: .ref a :: rest)) := by
  rcases ho with ⟨fs, ho⟩ | ⟨fs, ho⟩
  · exact n_astO (C := RX8) (T := TX8) (N := 5) (ci := 7) (t := 6) X hM rfl (xn_at hM.2.1 47 rfl) rfl ho h hdg kk
  · exact n_astO (C := RX9) (T := TX9) (N := 5) (ci := 8) (t := 6) X hM rfl (xn_at hM.2.1 48 rfl) rfl ho h hdg kk
theorem asgC {C E : String} (h : va_Nw (.castable C E) s) : ∀ comp c0 : ClassId, s.vm.findClass E = some comp → s.vm.findClass C = some c0 → s.vm.assignable c0 comp = true := by
  intro comp c0 h1 h2
  have h3 : (Cond.castable C E).before #[] s = true := h
  simp [Cond.before, Cond.holds, Cond.value, h1, h2] at h3
  exact h3
theorem asgSame {C : String} {cC : ClassId} (h : ClassAt s C cC) : ∀ comp c0 : ClassId, s.vm.findClass C = some comp → s.vm.findClass C = some c0 → s.vm.assignable c0 comp = true := by
  intro comp c0 h1 h2
  cases h1.symm.trans h2
  cases h.1.symm.trans h1
  exact va_assign h
end
set_option maxRecDepth 100000
set_option maxHeartbeats 2000000
set_option linter.unusedVariables false
section
variable {p : Program} {l : Launch} {e : Env} {s : State} {m : MethodId} {args : Array Value} {below : List Frame} {meth : Method} {c : Code}
variable {D : va_G} {dA : Nat → ClassId} {o : Nat} {q : Nat → Nat} {A : Nat → Prop}
variable {K : oK}
noncomputable def fX6_init (Qt : Nat → hH → Prop) (Qr : hH → Prop) (S : hH) (bc bk : Nat) (x0 : Nat) : Prop :=
  Qr S
theorem metX6_init (l : Launch) (D : va_G) (dA : Nat → ClassId) (K : oK) (Qt : Nat → hH → Prop) (Qr : hH → Prop) (S : hH) (bc bk : Nat) (x0 : Nat) {sz : Nat} (hf : fX6_init Qt Qr S bc bk x0) : MetT l yX6_init (ws_ yX6_init cX6_init 1 none) (rmN 1 bc bk) (NPre D dA K sz S [.ref x0]) (NPost D dA (NA S sz) (nqV Qr) Qt) bc bk (NA S sz) := by
  refine n_ofW rfl (by decide) (Nat.le_of_ble_eq_true rfl) (fun A p e s m args below meth c X hr hlk hne hin hA hO hRf hM ls hl => ?_)
  have hl : lv_has ls 1 [(0, .ref x0)] := hl
  have hx := X.1
  have hb := X.2.1
  have hu : 0 + bc = bc := Nat.zero_add bc
  have hw : 0 + bk = bk := Nat.zero_add bk
  unfold fX6_init at hf
  refine lv_aload_n hx hb dX6_init_0 rfl (lv_at hl 0 rfl) ?_
  refine W.objInit hx hb X.2.2.2.1 (X.2.2.2.2 _ q268) (X.2.2.2.2 _ q111) (X.2.2.2.2 _ q112) rfl (X.2.2.1.trans hl.1.symm).symm rfl dX6_init_1 (Nat.le_of_ble_eq_true rfl) (Nat.le_of_ble_eq_true rfl) ?_
  refine W.eq (g2 := F0 m _ _ []) rfl ?_
  exact n_vret X hr hlk hM (nb_u hu) (nb_u hw) hf dX6_init_4
theorem hX6_init : yX6_init.cls ≠ "java/lang/invoke/MethodHandle" ∧ yX6_init.cls ≠ "java/lang/invoke/VarHandle" ∧ (parseMethodDescriptor yX6_init.desc).map (fun d => d.parameters.length) = some 0 := by decide +kernel

noncomputable def fX7_init (Qt : Nat → hH → Prop) (Qr : hH → Prop) (S : hH) (bc bk : Nat) (x0 : Nat) : Prop :=
  ∃ c_1 k_2 : Nat, c_1 ≤ bc ∧ k_2 ≤ bk ∧ fX6_init (fun _ _ => False) (fun S_3 =>
  1 ≤ (bc - c_1) ∧ 2 ≤ (bk - k_2) ∧ ∀ q_4 : Nat, S_3 q_4 = none →
  ec_lt (va_up S_3 q_4 (some (.inl (6, 2, .inr (fun _ => none))))) fun S_5 =>
  ∃ h_6, (bPut S_5 x0 0 (.ref q_4)) = some h_6 ∧
  Qr h_6) S c_1 k_2 x0
theorem metX7_init (l : Launch) (D : va_G) (dA : Nat → ClassId) (K : oK) (Qt : Nat → hH → Prop) (Qr : hH → Prop) (S : hH) (bc bk : Nat) (x0 : Nat) {sz : Nat} (hf : fX7_init Qt Qr S bc bk x0) : MetT l yX7_init (ws_ yX7_init cX7_init 1 none) (rmN 2 bc bk) (NPre D dA K sz S [.ref x0]) (NPost D dA (NA S sz) (nqV Qr) Qt) bc bk (NA S sz) := by
  refine n_ofW rfl (by decide) (Nat.le_of_ble_eq_true rfl) (fun A p e s m args below meth c X hr hlk hne hin hA hO hRf hM ls hl => ?_)
  have hl : lv_has ls 1 [(0, .ref x0)] := hl
  have hx := X.1
  have hb := X.2.1
  have hu : 0 + bc = bc := Nat.zero_add bc
  have hw : 0 + bk = bk := Nat.zero_add bk
  unfold fX7_init at hf
  refine lv_aload_n hx hb dX7_init_0 rfl (lv_at hl 0 rfl) ?_
  obtain ⟨c_1, k_2, hc1, hk1, hf⟩ := hf
  refine n_cIN (As := []) (rest := []) X hM hA hO hRf (metX6_init l D dA K (fun _ _ => False) _ S c_1 k_2 x0 hf) ⟨va_cnB (host := "EventCounters") 0 X.2.2.2.2 (lw_meth q267) rfl rfl rfl (xn_at hM.2.1 16 rfl) (X.2.2.2.2 _ q70) hX6_init (rmN_le (Nat.le_of_ble_eq_true rfl) (Nat.le_of_ble_eq_true rfl)), rfl, X.2.2.2.2 _ q266⟩ hne hlk rfl hl.1 rfl (Nat.le_of_ble_eq_true rfl) ⟨nb_le hu hc1, nb_le hw hk1⟩ (nb_le hu hc1) (nb_le hw hk1) dX7_init_1 (fun v S1 H locs hf hM => ?_)
  obtain ⟨rfl, hf⟩ := hf
  generalize S1 = S_3 at hf hM
  have hu := nb_sub hu hc1
  have hw := nb_sub hw hk1
  refine W.eq (g2 := F0 m _ _ []) rfl ?_
  refine lv_aload_n hx hb dX7_init_4 rfl (lv_at hl 0 rfl) ?_
  refine lv_iconst (v := 2) hx hb dX7_init_5 (by decide) ?_
  obtain ⟨hb1, hb2, hf⟩ := hf
  refine n_anew (t := 6) X hM hA rfl q269 hM.2.1.2.2.2.1 (by decide) (by decide) (by decide) (nb_le hu hb1) (nb_le hw hb2) dX7_init_6 (fun q_4 H hq hM => ?_)
  have hf := hf q_4 hq
  obtain ⟨S_5, eS⟩ : ∃ z : hH, z = va_up S_3 q_4 (some (.inl (6, 2, .inr (fun _ => none)))) := ⟨_, rfl⟩
  rw [← eS] at hM
  have hf := ec_lt_p eS hf
  have hu := nb_sub hu hb1
  have hw := nb_sub hw hb2
  obtain ⟨h_6, h, hf⟩ := hf
  refine h_putB (k := 0) (ty := (.array (.object "EventCounters$Item"))) X hM (by decide) q271 rfl rfl (by decide +kernel) rfl rfl h dX7_init_9 (fun H locs hM => ?_)
  exact n_vret X hr hlk hM (nb_u hu) (nb_u hw) hf dX7_init_12
theorem hX7_init : yX7_init.cls ≠ "java/lang/invoke/MethodHandle" ∧ yX7_init.cls ≠ "java/lang/invoke/VarHandle" ∧ (parseMethodDescriptor yX7_init.desc).map (fun d => d.parameters.length) = some 0 := by decide +kernel

noncomputable def fX8_init (Qt : Nat → hH → Prop) (Qr : hH → Prop) (S : hH) (bc bk : Nat) (x0 : Nat) (x1 : Int32) (x2 : Int32) (x3 : Int32) : Prop :=
  ∃ c_1 k_2 : Nat, c_1 ≤ bc ∧ k_2 ≤ bk ∧ fX6_init (fun _ _ => False) (fun S_3 =>
  1 ≤ (bc - c_1) ∧ 8 ≤ (bk - k_2) ∧ ∀ q_4 : Nat, S_3 q_4 = none →
  ec_lt (va_up S_3 q_4 (some (.inl (0, 8, .inl (fun _ => 0))))) fun S_5 =>
  ∃ h_6, (hPut 7 S_5 x0 3 (.ref q_4)) = some h_6 ∧
  ∃ h_7, (hPut 7 h_6 x0 0 (.int x1)) = some h_7 ∧
  ∃ h_8, (hPut 7 h_7 x0 1 (.int x2)) = some h_8 ∧
  ∃ h_9, (hPut 7 h_8 x0 2 (.int x3)) = some h_9 ∧
  Qr h_9) S c_1 k_2 x0
theorem metX8_init (l : Launch) (D : va_G) (dA : Nat → ClassId) (K : oK) (Qt : Nat → hH → Prop) (Qr : hH → Prop) (S : hH) (bc bk : Nat) (x0 : Nat) (x1 : Int32) (x2 : Int32) (x3 : Int32) {sz : Nat} (hf : fX8_init Qt Qr S bc bk x0 x1 x2 x3) : MetT l yX8_init (ws_ yX8_init cX8_init 4 none) (rmN 2 bc bk) (NPre D dA K sz S [.ref x0, .int x1, .int x2, .int x3]) (NPost D dA (NA S sz) (nqV Qr) Qt) bc bk (NA S sz) := by
  refine n_ofW rfl (by decide) (Nat.le_of_ble_eq_true rfl) (fun A p e s m args below meth c X hr hlk hne hin hA hO hRf hM ls hl => ?_)
  have hl : lv_has ls 4 [(0, .ref x0), (1, .int x1), (2, .int x2), (3, .int x3)] := hl
  have hx := X.1
  have hb := X.2.1
  have hu : 0 + bc = bc := Nat.zero_add bc
  have hw : 0 + bk = bk := Nat.zero_add bk
  unfold fX8_init at hf
  refine lv_aload_n hx hb dX8_init_0 rfl (lv_at hl 0 rfl) ?_
  obtain ⟨c_1, k_2, hc1, hk1, hf⟩ := hf
  refine n_cIN (As := []) (rest := []) X hM hA hO hRf (metX6_init l D dA K (fun _ _ => False) _ S c_1 k_2 x0 hf) ⟨va_cnB (host := "EventCounters") 0 X.2.2.2.2 (lw_meth q267) rfl rfl rfl (xn_at hM.2.1 17 rfl) (X.2.2.2.2 _ q70) hX6_init (rmN_le (Nat.le_of_ble_eq_true rfl) (Nat.le_of_ble_eq_true rfl)), rfl, X.2.2.2.2 _ q266⟩ hne hlk rfl hl.1 rfl (Nat.le_of_ble_eq_true rfl) ⟨nb_le hu hc1, nb_le hw hk1⟩ (nb_le hu hc1) (nb_le hw hk1) dX8_init_1 (fun v S1 H locs hf hM => ?_)
  obtain ⟨rfl, hf⟩ := hf
  generalize S1 = S_3 at hf hM
  have hu := nb_sub hu hc1
  have hw := nb_sub hw hk1
  refine W.eq (g2 := F0 m _ _ []) rfl ?_
  refine lv_aload_n hx hb dX8_init_4 rfl (lv_at hl 0 rfl) ?_
  refine lv_bipush (v := 8) hx hb dX8_init_5 (by decide) ?_
  obtain ⟨hb1, hb2, hf⟩ := hf
  refine n_newi X hM hA q370 (by decide) (by decide) (by decide) (nb_le hu hb1) (nb_le hw hb2) dX8_init_7 (fun q_4 H hq hM => ?_)
  have hf := hf q_4 hq
  obtain ⟨S_5, eS⟩ : ∃ z : hH, z = va_up S_3 q_4 (some (.inl (0, 8, .inl (fun _ => 0)))) := ⟨_, rfl⟩
  rw [← eS] at hM
  have hf := ec_lt_p eS hf
  have hu := nb_sub hu hb1
  have hw := nb_sub hw hb2
  obtain ⟨h_6, h, hf⟩ := hf
  refine h_putF (C := RX8) (T := TX8) (N := 5) (ci := 7) (k := 3) (ty := (.array .int)) tyX8 tyX8_ok nmX8 X hM in_X8 rfl (by decide) q354 rfl rfl hin (by decide +kernel) rfl rfl h dX8_init_9 (fun H locs hM => ?_)
  refine lv_aload_n hx hb dX8_init_12 rfl (lv_at hl 0 rfl) ?_
  refine lv_iload_n hx hb dX8_init_13 rfl (lv_at hl 1 rfl) ?_
  obtain ⟨h_7, h, hf⟩ := hf
  refine h_putF (C := RX8) (T := TX8) (N := 5) (ci := 7) (k := 0) (ty := .int) tyX8 tyX8_ok nmX8 X hM in_X8 rfl (by decide) q349 rfl rfl hin (by decide +kernel) rfl rfl h dX8_init_14 (fun H locs hM => ?_)
  refine lv_aload_n hx hb dX8_init_17 rfl (lv_at hl 0 rfl) ?_
  refine lv_iload_n hx hb dX8_init_18 rfl (lv_at hl 2 rfl) ?_
  obtain ⟨h_8, h, hf⟩ := hf
  refine h_putF (C := RX8) (T := TX8) (N := 5) (ci := 7) (k := 1) (ty := .int) tyX8 tyX8_ok nmX8 X hM in_X8 rfl (by decide) q350 rfl rfl hin (by decide +kernel) rfl rfl h dX8_init_19 (fun H locs hM => ?_)
  refine lv_aload_n hx hb dX8_init_22 rfl (lv_at hl 0 rfl) ?_
  refine lv_iload_n hx hb dX8_init_23 rfl (lv_at hl 3 rfl) ?_
  obtain ⟨h_9, h, hf⟩ := hf
  refine h_putF (C := RX8) (T := TX8) (N := 5) (ci := 7) (k := 2) (ty := .int) tyX8 tyX8_ok nmX8 X hM in_X8 rfl (by decide) q352 rfl rfl hin (by decide +kernel) rfl rfl h dX8_init_24 (fun H locs hM => ?_)
  exact n_vret X hr hlk hM (nb_u hu) (nb_u hw) hf dX8_init_27
theorem hX8_init : yX8_init.cls ≠ "java/lang/invoke/MethodHandle" ∧ yX8_init.cls ≠ "java/lang/invoke/VarHandle" ∧ (parseMethodDescriptor yX8_init.desc).map (fun d => d.parameters.length) = some 3 := by decide +kernel

noncomputable def fX9_init (Qt : Nat → hH → Prop) (Qr : hH → Prop) (S : hH) (bc bk : Nat) (x0 : Nat) (x1 : Int32) (x2 : Int32) (x3 : Int32) : Prop :=
  ∃ c_1 k_2 : Nat, c_1 ≤ bc ∧ k_2 ≤ bk ∧ fX7_init (fun _ _ => False) (fun S_3 =>
  ∃ h_4, (hPut 8 S_3 x0 2 (.int x1)) = some h_4 ∧
  ∃ h_5, (hPut 8 h_4 x0 3 (.int x2)) = some h_5 ∧
  ∃ h_6, (hPut 8 h_5 x0 4 (.int x3)) = some h_6 ∧
  Qr h_6) S c_1 k_2 x0
theorem metX9_init (l : Launch) (D : va_G) (dA : Nat → ClassId) (K : oK) (Qt : Nat → hH → Prop) (Qr : hH → Prop) (S : hH) (bc bk : Nat) (x0 : Nat) (x1 : Int32) (x2 : Int32) (x3 : Int32) {sz : Nat} (hf : fX9_init Qt Qr S bc bk x0 x1 x2 x3) : MetT l yX9_init (ws_ yX9_init cX9_init 4 none) (rmN 3 bc bk) (NPre D dA K sz S [.ref x0, .int x1, .int x2, .int x3]) (NPost D dA (NA S sz) (nqV Qr) Qt) bc bk (NA S sz) := by
  refine n_ofW rfl (by decide) (Nat.le_of_ble_eq_true rfl) (fun A p e s m args below meth c X hr hlk hne hin hA hO hRf hM ls hl => ?_)
  have hl : lv_has ls 4 [(0, .ref x0), (1, .int x1), (2, .int x2), (3, .int x3)] := hl
  have hx := X.1
  have hb := X.2.1
  have hu : 0 + bc = bc := Nat.zero_add bc
  have hw : 0 + bk = bk := Nat.zero_add bk
  unfold fX9_init at hf
  refine lv_aload_n hx hb dX9_init_0 rfl (lv_at hl 0 rfl) ?_
  obtain ⟨c_1, k_2, hc1, hk1, hf⟩ := hf
  refine n_cIN (As := []) (rest := []) X hM hA hO hRf (metX7_init l D dA K (fun _ _ => False) _ S c_1 k_2 x0 hf) ⟨va_cnB (host := "EventCounters") 0 X.2.2.2.2 (lw_meth q264) rfl rfl rfl (xn_at hM.2.1 23 rfl) (X.2.2.2.2 _ q71) hX7_init (rmN_le (Nat.le_of_ble_eq_true rfl) (Nat.le_of_ble_eq_true rfl)), rfl, X.2.2.2.2 _ q263⟩ hne hlk rfl hl.1 rfl (Nat.le_of_ble_eq_true rfl) ⟨nb_le hu hc1, nb_le hw hk1⟩ (nb_le hu hc1) (nb_le hw hk1) dX9_init_1 (fun v S1 H locs hf hM => ?_)
  obtain ⟨rfl, hf⟩ := hf
  generalize S1 = S_3 at hf hM
  have hu := nb_sub hu hc1
  have hw := nb_sub hw hk1
  refine W.eq (g2 := F0 m _ _ []) rfl ?_
  refine lv_aload_n hx hb dX9_init_4 rfl (lv_at hl 0 rfl) ?_
  refine lv_iload_n hx hb dX9_init_5 rfl (lv_at hl 1 rfl) ?_
  obtain ⟨h_4, h, hf⟩ := hf
  refine h_putF (C := RX9) (T := TX9) (N := 5) (ci := 8) (k := 2) (ty := .int) tyX9 tyX9_ok nmX9 X hM in_X9 rfl (by decide) q385 rfl rfl hin (by decide +kernel) rfl rfl h dX9_init_6 (fun H locs hM => ?_)
  refine lv_aload_n hx hb dX9_init_9 rfl (lv_at hl 0 rfl) ?_
  refine lv_iload_n hx hb dX9_init_10 rfl (lv_at hl 2 rfl) ?_
  obtain ⟨h_5, h, hf⟩ := hf
  refine h_putF (C := RX9) (T := TX9) (N := 5) (ci := 8) (k := 3) (ty := .int) tyX9 tyX9_ok nmX9 X hM in_X9 rfl (by decide) q388 rfl rfl hin (by decide +kernel) rfl rfl h dX9_init_11 (fun H locs hM => ?_)
  refine lv_aload_n hx hb dX9_init_14 rfl (lv_at hl 0 rfl) ?_
  refine lv_iload_n hx hb dX9_init_15 rfl (lv_at hl 3 rfl) ?_
  obtain ⟨h_6, h, hf⟩ := hf
  refine h_putF (C := RX9) (T := TX9) (N := 5) (ci := 8) (k := 4) (ty := .int) tyX9 tyX9_ok nmX9 X hM in_X9 rfl (by decide) q390 rfl rfl hin (by decide +kernel) rfl rfl h dX9_init_16 (fun H locs hM => ?_)
  exact n_vret X hr hlk hM (nb_u hu) (nb_u hw) hf dX9_init_19
theorem hX9_init : yX9_init.cls ≠ "java/lang/invoke/MethodHandle" ∧ yX9_init.cls ≠ "java/lang/invoke/VarHandle" ∧ (parseMethodDescriptor yX9_init.desc).map (fun d => d.parameters.length) = some 3 := by decide +kernel

noncomputable def fX7_adds_41 (Qt : Nat → hH → Prop) (Qr : hH → Prop) (S : hH) (bc bk : Nat) (x0 : Nat) (x1 : Nat) : Prop :=
  ∃ v_4, (bR S x0 0) = some v_4 ∧
  ∃ v_5, (bI S x0 1) = some v_5 ∧
  ((∃ fs, S x1 = some (.inr (7, fs))) ∨ (∃ fs, S x1 = some (.inr (8, fs)))) ∧
  ∃ h_6, (hAsR 6 S v_4 v_5 x1) = some h_6 ∧
  ∃ v_7, (bI h_6 x0 1) = some v_7 ∧
  ∃ h_8, (bPut h_6 x0 1 (.int (v_7 + (1 : Int32)))) = some h_8 ∧
  Qr h_8
theorem bX7_adds_41 (X : CallFix p m c cX7_adds 3 s args lw_all RX7) (hr : meth.sig.returnType = none) (hlk : meth.locks = false) (hne : c.exceptionTable.isEmpty = true) (hin : meth.name = yX7_adds.name) (hA : ∀ x, s.heap.size ≤ x → A x) (hO : OLD K A s s.heap) (hRf : ORF K s) {mc ms : Nat} {Qt : Nat → hH → Prop} {Qr : hH → Prop} : ∀ (S : hH) (bc bk : Nat) (x0 : Nat) (x1 : Nat) (H : Heap) (locs : List Loc) (u w : Nat) (ls : Array Slot), fX7_adds_41 Qt Qr S bc bk x0 x1 → u + bc = mc → w + bk = ms → HX D dA [] S A s H locs → lv_has ls 3 [(0, .ref x0), (1, .ref x1)] → W p l e (rmN 4 mc ms) s m args below meth c H locs u w (MQT below (NPost D dA A (nqV Qr) Qt) args s mc ms A) (F0 m 41 ls []) := by
  have hx := X.1
  have hb := X.2.1
  intro S bc bk x0 x1 H locs u w ls hf hu hw hM hl
  unfold fX7_adds_41 at hf
  refine lv_aload_n hx hb dX7_adds_41 rfl (lv_at hl 0 rfl) ?_
  obtain ⟨v_4, h, hf⟩ := hf
  refine h_getB (v := .ref v_4) (k := 0) X hM (by decide) q271 rfl (bR_i h) dX7_adds_42 ?_
  refine lv_aload_n hx hb dX7_adds_45 rfl (lv_at hl 0 rfl) ?_
  obtain ⟨v_5, h, hf⟩ := hf
  refine h_getB (v := .int v_5) (k := 1) X hM (by decide) q272 rfl (bI_i h) dX7_adds_46 ?_
  refine lv_aload_n hx hb dX7_adds_49 rfl (lv_at hl 1 rfl) ?_
  obtain ⟨ho, hf⟩ := hf
  obtain ⟨h_6, h, hf⟩ := hf
  refine n_astI X hM ho h dX7_adds_50 (fun H locs hM => ?_)
  refine lv_aload_n hx hb dX7_adds_51 rfl (lv_at hl 0 rfl) ?_
  refine lv_dup hx hb dX7_adds_52 rfl ?_
  obtain ⟨v_7, h, hf⟩ := hf
  refine h_getB (v := .int v_7) (k := 1) X hM (by decide) q272 rfl (bI_i h) dX7_adds_53 ?_
  refine lv_iconst (v := 1) hx hb dX7_adds_56 (by decide) ?_
  refine lv_iadd hx hb dX7_adds_57 ?_
  obtain ⟨h_8, h, hf⟩ := hf
  refine h_putB (k := 1) (ty := .int) X hM (by decide) q272 rfl rfl (by decide +kernel) rfl rfl h dX7_adds_58 (fun H locs hM => ?_)
  exact n_vret X hr hlk hM (nb_u hu) (nb_u hw) hf dX7_adds_61
noncomputable def fX7_adds (Qt : Nat → hH → Prop) (Qr : hH → Prop) (S : hH) (bc bk : Nat) (x0 : Nat) (x1 : Nat) : Prop :=
  ∃ v_1, (bI S x0 1) = some v_1 ∧
  ∃ v_2, (bR S x0 0) = some v_2 ∧
  ∃ v_3, (hLen 6 S v_2) = some v_3 ∧
  ((¬ v_1 = v_3) → (
    fX7_adds_41 Qt Qr S bc bk x0 x1))
  ∧ (¬ (¬ v_1 = v_3) → (
    ∃ v_9, (bI S x0 1) = some v_9 ∧
    ¬ ((2 : Int32) * v_9) < 0 ∧ ((2 : Int32) * v_9).toNatClampNeg * 4 ≤ 536870912 ∧
    1 ≤ bc ∧ ((2 : Int32) * v_9).toNatClampNeg ≤ bk ∧ ∀ q_10 : Nat, S q_10 = none →
    ec_lt (va_up S q_10 (some (.inl (6, ((2 : Int32) * v_9).toNatClampNeg, .inr (fun _ => none))))) fun S_11 =>
    ∃ v_12, (bR S_11 x0 0) = some v_12 ∧
    ∃ v_13, (bI S_11 x0 1) = some v_13 ∧
    ∃ h_14, hCopy 6 (fun k => k = 7 ∨ k = 8) S_11 v_12 q_10 v_13 h_14 ∧
    ∃ h_15, (bPut h_14 x0 0 (.ref q_10)) = some h_15 ∧
    fX7_adds_41 Qt Qr h_15 (bc - 1) (bk - ((2 : Int32) * v_9).toNatClampNeg) x0 x1))
theorem metX7_adds (l : Launch) (D : va_G) (dA : Nat → ClassId) (K : oK) (Qt : Nat → hH → Prop) (Qr : hH → Prop) (S : hH) (bc bk : Nat) (x0 : Nat) (x1 : Nat) {sz : Nat} (hf : fX7_adds Qt Qr S bc bk x0 x1) : MetT l yX7_adds (ws_ yX7_adds cX7_adds 3 none) (rmN 4 bc bk) (NPre D dA K sz S [.ref x0, .ref x1]) (NPost D dA (NA S sz) (nqV Qr) Qt) bc bk (NA S sz) := by
  refine n_ofW rfl (by decide) (Nat.le_of_ble_eq_true rfl) (fun A p e s m args below meth c X hr hlk hne hin hA hO hRf hM ls hl => ?_)
  have hl : lv_has ls 3 [(0, .ref x0), (1, .ref x1)] := hl
  have hx := X.1
  have hb := X.2.1
  have hu : 0 + bc = bc := Nat.zero_add bc
  have hw : 0 + bk = bk := Nat.zero_add bk
  unfold fX7_adds at hf
  refine lv_aload_n hx hb dX7_adds_0 rfl (lv_at hl 0 rfl) ?_
  obtain ⟨v_1, h, hf⟩ := hf
  refine h_getB (v := .int v_1) (k := 1) X hM (by decide) q272 rfl (bI_i h) dX7_adds_1 ?_
  refine lv_aload_n hx hb dX7_adds_4 rfl (lv_at hl 0 rfl) ?_
  obtain ⟨v_2, h, hf⟩ := hf
  refine h_getB (v := .ref v_2) (k := 0) X hM (by decide) q271 rfl (bR_i h) dX7_adds_5 ?_
  obtain ⟨v_3, h, hf⟩ := hf
  refine h_alen (t := 6) X hM rfl h dX7_adds_8 ?_
  refine lv_icmp_ne (tgt := 41) hx hb dX7_adds_9 rfl (fun cnd => ?_) (fun cnd => ?_)
  · have hf := hf.1 cnd
    exact bX7_adds_41 X hr hlk hne hin hA hO hRf  S bc bk x0 x1 _ _ _ _ _ hf hu hw hM hl
  · have hf := hf.2 (not_not_intro cnd)
    refine lv_iconst (v := 2) hx hb dX7_adds_12 (by decide) ?_
    refine lv_aload_n hx hb dX7_adds_13 rfl (lv_at hl 0 rfl) ?_
    obtain ⟨v_9, h, hf⟩ := hf
    refine h_getB (v := .int v_9) (k := 1) X hM (by decide) q272 rfl (bI_i h) dX7_adds_14 ?_
    refine lv_imul hx hb dX7_adds_17 ?_
    obtain ⟨hn1, hn2, hf⟩ := hf
    obtain ⟨hb1, hb2, hf⟩ := hf
    refine n_anew (t := 6) X hM hA rfl q269 hM.2.1.2.2.2.1 hn1 rfl hn2 (nb_le hu hb1) (nb_le hw hb2) dX7_adds_18 (fun q_10 H hq hM => ?_)
    have hf := hf q_10 hq
    obtain ⟨S_11, eS⟩ : ∃ z : hH, z = va_up S q_10 (some (.inl (6, ((2 : Int32) * v_9).toNatClampNeg, .inr (fun _ => none)))) := ⟨_, rfl⟩
    rw [← eS] at hM
    have hf := ec_lt_p eS hf
    have hu := nb_sub hu hb1
    have hw := nb_sub hw hb2
    refine lv_astore_n (lv' := [(2, .ref q_10), (0, .ref x0), (1, .ref x1)]) hx hb dX7_adds_21 rfl hl (by decide) rfl (fun ls hl => ?_)
    refine lv_aload_n hx hb dX7_adds_22 rfl (lv_at hl 1 rfl) ?_
    obtain ⟨v_12, h, hf⟩ := hf
    refine h_getB (v := .ref v_12) (k := 0) X hM (by decide) q271 rfl (bR_i h) dX7_adds_23 ?_
    refine lv_iconst (v := 0) hx hb dX7_adds_26 (by decide) ?_
    refine lv_aload_n hx hb dX7_adds_27 rfl (lv_at hl 0 rfl) ?_
    refine lv_iconst (v := 0) hx hb dX7_adds_28 (by decide) ?_
    refine lv_aload_n hx hb dX7_adds_29 rfl (lv_at hl 1 rfl) ?_
    obtain ⟨v_13, h, hf⟩ := hf
    refine h_getB (v := .int v_13) (k := 1) X hM (by decide) q272 rfl (bI_i h) dX7_adds_30 ?_
    obtain ⟨h_14, h, hf⟩ := hf
    refine n_copy (t := 6) (ok := (fun k => k = 7 ∨ k = 8)) X hM hl.1 q413 q104 q103 q64 rfl (fun k hk => by rcases hk with rfl | rfl; exact ⟨_, rfl, asgC (xn_at hM.2.1 47 rfl)⟩; exact ⟨_, rfl, asgC (xn_at hM.2.1 48 rfl)⟩) h (Nat.le_of_ble_eq_true rfl) (Nat.le_of_ble_eq_true rfl) dX7_adds_33 (fun H locs hM => ?_)
    refine lv_aload_n hx hb dX7_adds_36 rfl (lv_at hl 1 rfl) ?_
    refine lv_aload_n hx hb dX7_adds_37 rfl (lv_at hl 0 rfl) ?_
    obtain ⟨h_15, h, hf⟩ := hf
    refine h_putB (k := 0) (ty := (.array (.object "EventCounters$Item"))) X hM (by decide) q271 rfl rfl (by decide +kernel) rfl rfl h dX7_adds_38 (fun H locs hM => ?_)
    exact bX7_adds_41 X hr hlk hne hin hA hO hRf  h_15 (bc - 1) (bk - ((2 : Int32) * v_9).toNatClampNeg) x0 x1 _ _ _ _ _ hf hu hw hM (lv_sub hl [1, 2] rfl)
theorem hX7_adds : yX7_adds.cls ≠ "java/lang/invoke/MethodHandle" ∧ yX7_adds.cls ≠ "java/lang/invoke/VarHandle" ∧ (parseMethodDescriptor yX7_adds.desc).map (fun d => d.parameters.length) = some 1 := by decide +kernel

noncomputable def fX4_adds_41 (Qt : Nat → hH → Prop) (Qr : hH → Prop) (S : hH) (bc bk : Nat) (x0 : Nat) (x1 : Nat) : Prop :=
  ∃ v_4, (hR 4 S x0 3) = some v_4 ∧
  ∃ v_5, (hI 4 S x0 4) = some v_5 ∧
  ∃ w_7, (hObj 8 S x1) = some w_7 ∧
  ∃ h_6, (hAsR 5 S v_4 v_5 x1) = some h_6 ∧
  ∃ v_8, (hI 4 h_6 x0 4) = some v_8 ∧
  ∃ h_9, (hPut 4 h_6 x0 4 (.int (v_8 + (1 : Int32)))) = some h_9 ∧
  Qr h_9
theorem bX4_adds_41 (X : CallFix p m c cX4_adds 3 s args lw_all RX4) (hr : meth.sig.returnType = none) (hlk : meth.locks = false) (hne : c.exceptionTable.isEmpty = true) (hin : meth.name = yX4_adds.name) (hA : ∀ x, s.heap.size ≤ x → A x) (hO : OLD K A s s.heap) (hRf : ORF K s) {mc ms : Nat} {Qt : Nat → hH → Prop} {Qr : hH → Prop} : ∀ (S : hH) (bc bk : Nat) (x0 : Nat) (x1 : Nat) (H : Heap) (locs : List Loc) (u w : Nat) (ls : Array Slot), fX4_adds_41 Qt Qr S bc bk x0 x1 → u + bc = mc → w + bk = ms → HX D dA [] S A s H locs → lv_has ls 3 [(0, .ref x0), (1, .ref x1)] → W p l e (rmN 4 mc ms) s m args below meth c H locs u w (MQT below (NPost D dA A (nqV Qr) Qt) args s mc ms A) (F0 m 41 ls []) := by
  have hx := X.1
  have hb := X.2.1
  intro S bc bk x0 x1 H locs u w ls hf hu hw hM hl
  unfold fX4_adds_41 at hf
  refine lv_aload_n hx hb dX4_adds_41 rfl (lv_at hl 0 rfl) ?_
  obtain ⟨v_4, h, hf⟩ := hf
  refine h_getv (v := .ref v_4) (C := RX4) (T := TX4) (N := 9) (ci := 4) (k := 3) X hM in_X4 rfl (by decide) q229 rfl (hR_i h) dX4_adds_42 ?_
  refine lv_aload_n hx hb dX4_adds_45 rfl (lv_at hl 0 rfl) ?_
  obtain ⟨v_5, h, hf⟩ := hf
  refine h_getv (v := .int v_5) (C := RX4) (T := TX4) (N := 9) (ci := 4) (k := 4) X hM in_X4 rfl (by decide) q232 rfl (hI_i h) dX4_adds_46 ?_
  refine lv_aload_n hx hb dX4_adds_49 rfl (lv_at hl 1 rfl) ?_
  obtain ⟨w_7, ho, hf⟩ := hf
  obtain ⟨h_6, h, hf⟩ := hf
  refine n_astS (C := RX9) (T := TX9) (N := 5) (ci := 8) (t := 5) X hM rfl rfl ho h dX4_adds_50 (fun H locs hM => ?_)
  refine lv_aload_n hx hb dX4_adds_51 rfl (lv_at hl 0 rfl) ?_
  refine lv_dup hx hb dX4_adds_52 rfl ?_
  obtain ⟨v_8, h, hf⟩ := hf
  refine h_getv (v := .int v_8) (C := RX4) (T := TX4) (N := 9) (ci := 4) (k := 4) X hM in_X4 rfl (by decide) q232 rfl (hI_i h) dX4_adds_53 ?_
  refine lv_iconst (v := 1) hx hb dX4_adds_56 (by decide) ?_
  refine lv_iadd hx hb dX4_adds_57 ?_
  obtain ⟨h_9, h, hf⟩ := hf
  refine h_put (C := RX4) (T := TX4) (N := 9) (ci := 4) (k := 4) (ty := .int) tyX4 tyX4_ok nmX4 X hM in_X4 rfl (by decide) q232 rfl rfl (by decide +kernel) rfl rfl h dX4_adds_58 (fun H locs hM => ?_)
  exact n_vret X hr hlk hM (nb_u hu) (nb_u hw) hf dX4_adds_61
noncomputable def fX4_adds (Qt : Nat → hH → Prop) (Qr : hH → Prop) (S : hH) (bc bk : Nat) (x0 : Nat) (x1 : Nat) : Prop :=
  ∃ v_1, (hI 4 S x0 4) = some v_1 ∧
  ∃ v_2, (hR 4 S x0 3) = some v_2 ∧
  ∃ v_3, (hLen 5 S v_2) = some v_3 ∧
  ((¬ v_1 = v_3) → (
    fX4_adds_41 Qt Qr S bc bk x0 x1))
  ∧ (¬ (¬ v_1 = v_3) → (
    ∃ v_10, (hI 4 S x0 4) = some v_10 ∧
    ¬ ((2 : Int32) * v_10) < 0 ∧ ((2 : Int32) * v_10).toNatClampNeg * 4 ≤ 536870912 ∧
    1 ≤ bc ∧ ((2 : Int32) * v_10).toNatClampNeg ≤ bk ∧ ∀ q_11 : Nat, S q_11 = none →
    ec_lt (va_up S q_11 (some (.inl (5, ((2 : Int32) * v_10).toNatClampNeg, .inr (fun _ => none))))) fun S_12 =>
    ∃ v_13, (hR 4 S_12 x0 3) = some v_13 ∧
    ∃ v_14, (hI 4 S_12 x0 4) = some v_14 ∧
    ∃ h_15, hCopy 5 (fun k => k = 8) S_12 v_13 q_11 v_14 h_15 ∧
    ∃ h_16, (hPut 4 h_15 x0 3 (.ref q_11)) = some h_16 ∧
    fX4_adds_41 Qt Qr h_16 (bc - 1) (bk - ((2 : Int32) * v_10).toNatClampNeg) x0 x1))
theorem metX4_adds (l : Launch) (D : va_G) (dA : Nat → ClassId) (K : oK) (Qt : Nat → hH → Prop) (Qr : hH → Prop) (S : hH) (bc bk : Nat) (x0 : Nat) (x1 : Nat) {sz : Nat} (hf : fX4_adds Qt Qr S bc bk x0 x1) : MetT l yX4_adds (ws_ yX4_adds cX4_adds 3 none) (rmN 4 bc bk) (NPre D dA K sz S [.ref x0, .ref x1]) (NPost D dA (NA S sz) (nqV Qr) Qt) bc bk (NA S sz) := by
  refine n_ofW rfl (by decide) (Nat.le_of_ble_eq_true rfl) (fun A p e s m args below meth c X hr hlk hne hin hA hO hRf hM ls hl => ?_)
  have hl : lv_has ls 3 [(0, .ref x0), (1, .ref x1)] := hl
  have hx := X.1
  have hb := X.2.1
  have hu : 0 + bc = bc := Nat.zero_add bc
  have hw : 0 + bk = bk := Nat.zero_add bk
  unfold fX4_adds at hf
  refine lv_aload_n hx hb dX4_adds_0 rfl (lv_at hl 0 rfl) ?_
  obtain ⟨v_1, h, hf⟩ := hf
  refine h_getv (v := .int v_1) (C := RX4) (T := TX4) (N := 9) (ci := 4) (k := 4) X hM in_X4 rfl (by decide) q232 rfl (hI_i h) dX4_adds_1 ?_
  refine lv_aload_n hx hb dX4_adds_4 rfl (lv_at hl 0 rfl) ?_
  obtain ⟨v_2, h, hf⟩ := hf
  refine h_getv (v := .ref v_2) (C := RX4) (T := TX4) (N := 9) (ci := 4) (k := 3) X hM in_X4 rfl (by decide) q229 rfl (hR_i h) dX4_adds_5 ?_
  obtain ⟨v_3, h, hf⟩ := hf
  refine h_alen (t := 5) X hM rfl h dX4_adds_8 ?_
  refine lv_icmp_ne (tgt := 41) hx hb dX4_adds_9 rfl (fun cnd => ?_) (fun cnd => ?_)
  · have hf := hf.1 cnd
    exact bX4_adds_41 X hr hlk hne hin hA hO hRf  S bc bk x0 x1 _ _ _ _ _ hf hu hw hM hl
  · have hf := hf.2 (not_not_intro cnd)
    refine lv_iconst (v := 2) hx hb dX4_adds_12 (by decide) ?_
    refine lv_aload_n hx hb dX4_adds_13 rfl (lv_at hl 0 rfl) ?_
    obtain ⟨v_10, h, hf⟩ := hf
    refine h_getv (v := .int v_10) (C := RX4) (T := TX4) (N := 9) (ci := 4) (k := 4) X hM in_X4 rfl (by decide) q232 rfl (hI_i h) dX4_adds_14 ?_
    refine lv_imul hx hb dX4_adds_17 ?_
    obtain ⟨hn1, hn2, hf⟩ := hf
    obtain ⟨hb1, hb2, hf⟩ := hf
    refine n_anew (t := 5) X hM hA rfl q115 hM.2.1.2.2.1 hn1 rfl hn2 (nb_le hu hb1) (nb_le hw hb2) dX4_adds_18 (fun q_11 H hq hM => ?_)
    have hf := hf q_11 hq
    obtain ⟨S_12, eS⟩ : ∃ z : hH, z = va_up S q_11 (some (.inl (5, ((2 : Int32) * v_10).toNatClampNeg, .inr (fun _ => none)))) := ⟨_, rfl⟩
    rw [← eS] at hM
    have hf := ec_lt_p eS hf
    have hu := nb_sub hu hb1
    have hw := nb_sub hw hb2
    refine lv_astore_n (lv' := [(2, .ref q_11), (0, .ref x0), (1, .ref x1)]) hx hb dX4_adds_21 rfl hl (by decide) rfl (fun ls hl => ?_)
    refine lv_aload_n hx hb dX4_adds_22 rfl (lv_at hl 1 rfl) ?_
    obtain ⟨v_13, h, hf⟩ := hf
    refine h_getv (v := .ref v_13) (C := RX4) (T := TX4) (N := 9) (ci := 4) (k := 3) X hM in_X4 rfl (by decide) q229 rfl (hR_i h) dX4_adds_23 ?_
    refine lv_iconst (v := 0) hx hb dX4_adds_26 (by decide) ?_
    refine lv_aload_n hx hb dX4_adds_27 rfl (lv_at hl 0 rfl) ?_
    refine lv_iconst (v := 0) hx hb dX4_adds_28 (by decide) ?_
    refine lv_aload_n hx hb dX4_adds_29 rfl (lv_at hl 1 rfl) ?_
    obtain ⟨v_14, h, hf⟩ := hf
    refine h_getv (v := .int v_14) (C := RX4) (T := TX4) (N := 9) (ci := 4) (k := 4) X hM in_X4 rfl (by decide) q232 rfl (hI_i h) dX4_adds_30 ?_
    obtain ⟨h_15, h, hf⟩ := hf
    refine n_copy (t := 5) (ok := (fun k => k = 8)) X hM hl.1 q405 q104 q103 q64 rfl (fun k hk => by subst hk; exact ⟨_, rfl, asgSame (hM.1.1 8 _ rfl).2⟩) h (Nat.le_of_ble_eq_true rfl) (Nat.le_of_ble_eq_true rfl) dX4_adds_33 (fun H locs hM => ?_)
    refine lv_aload_n hx hb dX4_adds_36 rfl (lv_at hl 1 rfl) ?_
    refine lv_aload_n hx hb dX4_adds_37 rfl (lv_at hl 0 rfl) ?_
    obtain ⟨h_16, h, hf⟩ := hf
    refine h_put (C := RX4) (T := TX4) (N := 9) (ci := 4) (k := 3) (ty := (.array (.object "EventCounters$Loop"))) tyX4 tyX4_ok nmX4 X hM in_X4 rfl (by decide) q229 rfl rfl (by decide +kernel) rfl rfl h dX4_adds_38 (fun H locs hM => ?_)
    exact bX4_adds_41 X hr hlk hne hin hA hO hRf  h_16 (bc - 1) (bk - ((2 : Int32) * v_10).toNatClampNeg) x0 x1 _ _ _ _ _ hf hu hw hM (lv_sub hl [1, 2] rfl)
theorem hX4_adds : yX4_adds.cls ≠ "java/lang/invoke/MethodHandle" ∧ yX4_adds.cls ≠ "java/lang/invoke/VarHandle" ∧ (parseMethodDescriptor yX4_adds.desc).map (fun d => d.parameters.length) = some 1 := by decide +kernel
end
