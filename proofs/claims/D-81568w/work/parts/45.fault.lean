set_option maxRecDepth 100000
abbrev ftN (f4 f5 f6 f7 : Value) : List Value := [.null, .null, .null, .null, f4, f5, f6, f7]
section
variable {p : Program} {l : Launch} {e : Env} {R : Room} {s : State} {m : MethodId} {args : Array Value} {below : List Frame} {meth : Method} {c : Code} {H : Heap} {locs : List Loc} {u w : Nat} {Q : State → Prop} {cc : ByteArray} {nL pc idx a : Nat} {ls : Array Slot} {rest : List Value} {D : va_G} {dA : Nat → ClassId} {S : hH} {A : Nat → Prop} {F : va_W} {own C nm d ref : String}
theorem n_gets (X : CallFix p m c cc nL s args lw_all own) (hM : HX D dA F S A s H locs) (hZ : va_Zq C nm d A s s.heap) (hlink : Cond.fieldLink own idx C nm d ∈ lw_all) (hdg : decode cc pc = .ok (.getstatic idx, 3))
    (kk : ∀ r : Option Nat, W p l e R s m args below meth c H locs u w Q (F0 m (pc + 3) ls (va_rf r :: rest))) : W p l e R s m args below meth c H locs u w Q (F0 m pc ls rest) := by
  rcases hZ with hZ | ⟨t, hZ⟩
  · exact va_gets X.1 X.2.1 hZ hM.2.2.2 X.2.2.2.1 (X.2.2.2.2 _ hlink) (fun _ h => h) hdg (kk none)
  · exact va_gets X.1 X.2.1 hZ hM.2.2.2 X.2.2.2.1 (X.2.2.2.2 _ hlink) (fun _ h => h) hdg (kk (some t))
theorem rfA (t : FieldType) (r : Option Nat) : narrow (.array t) (va_rf r) = va_rf r ∧ fits (.array t) (va_rf r) = true := by cases r <;> exact ⟨rfl, rfl⟩
theorem rfO (n : String) (r : Option Nat) : narrow (.object n) (va_rf r) = va_rf r ∧ fits (.object n) (va_rf r) = true := by cases r <;> exact ⟨rfl, rfl⟩
theorem ft_in {fs : List Value} (h : S a = some (.inr (5, fs))) : S = va_up S a (some (.inr (5, fs))) := by
  funext x
  unfold va_up
  by_cases hx : x = a
  · rw [if_pos hx, hx, h]
  · rw [if_neg hx]
theorem ft_pv {fs : List Value} {k : Nat} {v : Value} (hk : k < fs.length) : hPut 5 (va_up S a (some (.inr (5, fs)))) a k v = some (va_up S a (some (.inr (5, fs.set k v)))) := by
  unfold hPut
  rw [va_up_self]
  show (if (5 : Nat) = 5 ∧ k < fs.length then some (va_up (va_up S a (some (.inr (5, fs)))) a (some (.inr (5, fs.set k v)))) else none) = _
  rw [if_pos ⟨rfl, hk⟩, bx_uu]
theorem ft_put {fs : List Value} {v : Value} {ty : FieldType} (X : CallFix p m c cc nL s args lw_all own) (hM : HX D dA F (va_up S a (some (.inr (5, fs)))) A s H locs) (k : Nat) (hk : k < 8) (hl : k < fs.length) (hlink : Cond.fieldLink own idx ref (TX5 k).2.1 (TX5 k).2.2.1 ∈ lw_all) (hR : (TX5 k).1 = ref) (hfin : (TX5 k).2.2.2 = false) (hd : parseFieldDescriptor (TX5 k).2.2.1 = some ty) (hn : narrow ty v = v) (hfit : fits ty v = true) (hdg : decode cc pc = .ok (.putfield idx, 3))
    (kk : ∀ (H1 : Heap) (locs1 : List Loc), HX D dA F (va_up S a (some (.inr (5, fs.set k v)))) A s H1 locs1 → W p l e R s m args below meth c H1 locs1 u w Q (F0 m (pc + 3) ls rest)) : W p l e R s m args below meth c H locs u w Q (F0 m pc ls (v :: .ref a :: rest)) :=
  h_put (C := RX5) (T := TX5) (N := 8) (ci := 5) (k := k) (ty := ty) tyX5 tyX5_ok nmX5 X hM in_X5 rfl hk hlink hR hfin hd hn hfit (ft_pv hl) hdg kk
theorem ft_putF {fs : List Value} {v : Value} {ty : FieldType} (X : CallFix p m c cc nL s args lw_all RX5) (hM : HX D dA F (va_up S a (some (.inr (5, fs)))) A s H locs) (k : Nat) (hk : k < 8) (hl : k < fs.length) (hin : meth.name = "<init>") (hlink : Cond.fieldLink RX5 idx RX5 (TX5 k).2.1 (TX5 k).2.2.1 ∈ lw_all) (hR : (TX5 k).1 = RX5) (hfin : (TX5 k).2.2.2 = true) (hd : parseFieldDescriptor (TX5 k).2.2.1 = some ty) (hn : narrow ty v = v) (hfit : fits ty v = true) (hdg : decode cc pc = .ok (.putfield idx, 3))
    (kk : ∀ (H1 : Heap) (locs1 : List Loc), HX D dA F (va_up S a (some (.inr (5, fs.set k v)))) A s H1 locs1 → W p l e R s m args below meth c H1 locs1 u w Q (F0 m (pc + 3) ls rest)) : W p l e R s m args below meth c H locs u w Q (F0 m pc ls (v :: .ref a :: rest)) :=
  h_putF (C := RX5) (T := TX5) (N := 8) (ci := 5) (k := k) (ty := ty) tyX5 tyX5_ok nmX5 X hM in_X5 rfl hk hlink hR hfin hin hd hn hfit (ft_pv hl) hdg kk
end
theorem metJ0_init_2 (l : Launch) (D : va_G) (dA : Nat → ClassId) (K : oK) (Qt : Nat → hH → Prop) (Qr : hH → Prop) (S : hH) (bc bk : Nat) (x0 : Nat) (f0 f1 f2 f3 f4 f5 f6 f7 : Value) {sz : Nat} (hS : S x0 = some (.inr (5, [f0, f1, f2, f3, f4, f5, f6, f7]))) (hq : Qr (va_up S x0 (some (.inr (5, ftN f4 f5 f6 f7))))) : MetT l yJ0_init_2 (ws_ yJ0_init_2 cJ0_init_2 5 none) (rmN 1 bc bk) (NPre D dA K sz S [.ref x0, .null, .null, .int 0, .int 0]) (NPost D dA (NA S sz) (nqV Qr) Qt) bc bk (NA S sz) := by
  refine n_ofW rfl (by decide) (Nat.le_of_ble_eq_true rfl) (fun A p e s m args below meth c X hr hlk hne hin hA hO hRf hM ls hl => ?_)
  have hx := X.1
  have hb := X.2.1
  have hu : 0 + bc = bc := Nat.zero_add bc
  have hw : 0 + bk = bk := Nat.zero_add bk
  have hl : lv_has ls 5 [(0, .ref x0), (1, .null), (2, .null), (3, .int 0), (4, .int 0)] := hl
  rw [ft_in hS] at hM
  refine lv_aload_n hx hb dJ0_init_2_0 rfl (lv_at hl 0 rfl) ?_
  refine W.objInit hx hb X.2.2.2.1 (X.2.2.2.2 _ q159) (X.2.2.2.2 _ q111) (X.2.2.2.2 _ q112) rfl (X.2.2.1.trans hl.1.symm).symm rfl dJ0_init_2_1 (Nat.le_of_ble_eq_true rfl) (Nat.le_of_ble_eq_true rfl) ?_
  refine W.eq (g2 := F0 m 4 ls []) rfl ?_
  refine lv_aload_n hx hb dJ0_init_2_4 rfl (lv_at hl 0 rfl) ?_
  refine lv_aload_n hx hb dJ0_init_2_5 rfl (lv_at hl 0 rfl) ?_
  refine ft_put (ty := .object "java/lang/Throwable") X hM 0 (by decide) (Nat.le_of_ble_eq_true rfl) q208 rfl rfl (by decide +kernel) rfl rfl dJ0_init_2_6 (fun H locs hM => ?_)
  refine lv_aload_n hx hb dJ0_init_2_9 rfl (lv_at hl 0 rfl) ?_
  refine n_gets X hM hO.1 q160 dJ0_init_2_10 (fun r1 => ?_)
  refine ft_put (ty := (.array (.object "java/lang/StackTraceElement"))) X hM 1 (by decide) (Nat.le_of_ble_eq_true rfl) q209 rfl rfl (by decide +kernel) (rfA _ r1).1 (rfA _ r1).2 dJ0_init_2_13 (fun H locs hM => ?_)
  refine lv_aload_n hx hb dJ0_init_2_16 rfl (lv_at hl 0 rfl) ?_
  refine n_gets X hM hO.2.1 q162 dJ0_init_2_17 (fun r2 => ?_)
  refine ft_put (ty := .object "java/util/List") X hM 2 (by decide) (Nat.le_of_ble_eq_true rfl) q210 rfl rfl (by decide +kernel) (rfO _ r2).1 (rfO _ r2).2 dJ0_init_2_20 (fun H locs hM => ?_)
  refine lv_iload hx hb dJ0_init_2_23 (lv_at hl 4 rfl) ?_
  refine lv_if_eq (tgt := 36) hx hb dJ0_init_2_25 rfl (fun cnd => ?_) (fun cnd => absurd rfl cnd)
  refine lv_aload_n hx hb dJ0_init_2_36 rfl (lv_at hl 0 rfl) ?_
  refine lv_null hx hb dJ0_init_2_37 ?_
  refine ft_put (ty := (.array (.object "java/lang/StackTraceElement"))) X hM 1 (by decide) (Nat.le_of_ble_eq_true rfl) q209 rfl rfl (by decide +kernel) rfl rfl dJ0_init_2_38 (fun H locs hM => ?_)
  refine lv_aload_n hx hb dJ0_init_2_41 rfl (lv_at hl 0 rfl) ?_
  refine lv_aload_nN hx hb dJ0_init_2_42 rfl (lv_at hl 1 rfl) ?_
  refine ft_put (ty := .object "java/lang/String") X hM 3 (by decide) (Nat.le_of_ble_eq_true rfl) q207 rfl rfl (by decide +kernel) rfl rfl dJ0_init_2_43 (fun H locs hM => ?_)
  refine lv_aload_n hx hb dJ0_init_2_46 rfl (lv_at hl 0 rfl) ?_
  refine lv_aload_nN hx hb dJ0_init_2_47 rfl (lv_at hl 2 rfl) ?_
  refine ft_put (ty := .object "java/lang/Throwable") X hM 0 (by decide) (Nat.le_of_ble_eq_true rfl) q208 rfl rfl (by decide +kernel) rfl rfl dJ0_init_2_48 (fun H locs hM => ?_)
  refine lv_iload_n hx hb dJ0_init_2_51 rfl (lv_at hl 3 rfl) ?_
  refine lv_if_ne (tgt := 60) hx hb dJ0_init_2_52 rfl (fun cnd => absurd rfl cnd) (fun cnd => ?_)
  refine lv_aload_n hx hb dJ0_init_2_55 rfl (lv_at hl 0 rfl) ?_
  refine lv_null hx hb dJ0_init_2_56 ?_
  refine ft_put (ty := .object "java/util/List") X hM 2 (by decide) (Nat.le_of_ble_eq_true rfl) q210 rfl rfl (by decide +kernel) rfl rfl dJ0_init_2_57 (fun H locs hM => ?_)
  exact n_vret X hr hlk hM (nb_u hu) (nb_u hw) hq dJ0_init_2_60
theorem hJ0_init_2 : yJ0_init_2.cls ≠ "java/lang/invoke/MethodHandle" ∧ yJ0_init_2.cls ≠ "java/lang/invoke/VarHandle" ∧ (parseMethodDescriptor yJ0_init_2.desc).map (fun d => d.parameters.length) = some 4 := by decide +kernel
theorem metJ1_init (l : Launch) (D : va_G) (dA : Nat → ClassId) (K : oK) (Qt : Nat → hH → Prop) (Qr : hH → Prop) (S : hH) (bc bk : Nat) (x0 : Nat) (f0 f1 f2 f3 f4 f5 f6 f7 : Value) {sz : Nat} (hS : S x0 = some (.inr (5, [f0, f1, f2, f3, f4, f5, f6, f7]))) (hq : Qr (va_up S x0 (some (.inr (5, ftN f4 f5 f6 f7))))) : MetT l yJ1_init (ws_ yJ1_init cJ1_init 5 none) (rmN 2 bc bk) (NPre D dA K sz S [.ref x0, .null, .null, .int 0, .int 0]) (NPost D dA (NA S sz) (nqV Qr) Qt) bc bk (NA S sz) := by
  refine n_ofW rfl (by decide) (Nat.le_of_ble_eq_true rfl) (fun A p e s m args below meth c X hr hlk hne hin hA hO hRf hM ls hl => ?_)
  have hx := X.1
  have hb := X.2.1
  have hu : 0 + bc = bc := Nat.zero_add bc
  have hw : 0 + bk = bk := Nat.zero_add bk
  have hl : lv_has ls 5 [(0, .ref x0), (1, .null), (2, .null), (3, .int 0), (4, .int 0)] := hl
  refine lv_aload_n hx hb dJ1_init_0 rfl (lv_at hl 0 rfl) ?_
  refine lv_aload_nN hx hb dJ1_init_1 rfl (lv_at hl 1 rfl) ?_
  refine lv_aload_nN hx hb dJ1_init_2 rfl (lv_at hl 2 rfl) ?_
  refine lv_iload_n hx hb dJ1_init_3 rfl (lv_at hl 3 rfl) ?_
  refine lv_iload hx hb dJ1_init_4 (lv_at hl 4 rfl) ?_
  refine n_cI (As := [.null, .null, .int 0, .int 0]) (rest := []) X hM hA hO hRf (metJ0_init_2 l D dA K Qt (fun h => h = va_up S x0 (some (.inr (5, ftN f4 f5 f6 f7)))) S bc bk x0 f0 f1 f2 f3 f4 f5 f6 f7 hS rfl) (cwI 4 X.2.2.2.2 (lw_meth q201) rfl rfl rfl (X.2.2.2.2 _ q66) (X.2.2.2.2 _ q199) (X.2.2.2.2 _ q200) rfl hJ0_init_2 (rmN_le (Nat.le_of_ble_eq_true rfl) (Nat.le_of_ble_eq_true rfl))) hne hlk rfl hl.1 rfl (Nat.le_of_ble_eq_true rfl) ⟨nb_le hu (Nat.le_refl _), nb_le hw (Nat.le_refl _)⟩ (nb_le hu (Nat.le_refl _)) (nb_le hw (Nat.le_refl _)) dJ1_init_6 (fun v S1 H locs hf hM => ?_)
  obtain ⟨rfl, rfl⟩ := hf
  refine W.eq (g2 := F0 m 9 ls []) rfl ?_
  exact n_vret X hr hlk hM (nb_le hu (Nat.le_refl _)) (nb_le hw (Nat.le_refl _)) hq dJ1_init_9
theorem hJ1_init : yJ1_init.cls ≠ "java/lang/invoke/MethodHandle" ∧ yJ1_init.cls ≠ "java/lang/invoke/VarHandle" ∧ (parseMethodDescriptor yJ1_init.desc).map (fun d => d.parameters.length) = some 4 := by decide +kernel
theorem metJ2_init (l : Launch) (D : va_G) (dA : Nat → ClassId) (K : oK) (Qt : Nat → hH → Prop) (Qr : hH → Prop) (S : hH) (bc bk : Nat) (x0 : Nat) (f0 f1 f2 f3 f4 f5 f6 f7 : Value) {sz : Nat} (hS : S x0 = some (.inr (5, [f0, f1, f2, f3, f4, f5, f6, f7]))) (hq : Qr (va_up S x0 (some (.inr (5, ftN f4 f5 f6 f7))))) : MetT l yJ2_init (ws_ yJ2_init cJ2_init 5 none) (rmN 3 bc bk) (NPre D dA K sz S [.ref x0, .null, .null, .int 0, .int 0]) (NPost D dA (NA S sz) (nqV Qr) Qt) bc bk (NA S sz) := by
  refine n_ofW rfl (by decide) (Nat.le_of_ble_eq_true rfl) (fun A p e s m args below meth c X hr hlk hne hin hA hO hRf hM ls hl => ?_)
  have hx := X.1
  have hb := X.2.1
  have hu : 0 + bc = bc := Nat.zero_add bc
  have hw : 0 + bk = bk := Nat.zero_add bk
  have hl : lv_has ls 5 [(0, .ref x0), (1, .null), (2, .null), (3, .int 0), (4, .int 0)] := hl
  refine lv_aload_n hx hb dJ2_init_0 rfl (lv_at hl 0 rfl) ?_
  refine lv_aload_nN hx hb dJ2_init_1 rfl (lv_at hl 1 rfl) ?_
  refine lv_aload_nN hx hb dJ2_init_2 rfl (lv_at hl 2 rfl) ?_
  refine lv_iload_n hx hb dJ2_init_3 rfl (lv_at hl 3 rfl) ?_
  refine lv_iload hx hb dJ2_init_4 (lv_at hl 4 rfl) ?_
  refine n_cI (As := [.null, .null, .int 0, .int 0]) (rest := []) X hM hA hO hRf (metJ1_init l D dA K Qt (fun h => h = va_up S x0 (some (.inr (5, ftN f4 f5 f6 f7)))) S bc bk x0 f0 f1 f2 f3 f4 f5 f6 f7 hS rfl) (cwI 4 X.2.2.2.2 (lw_meth q198) rfl rfl rfl (X.2.2.2.2 _ q67) (X.2.2.2.2 _ q196) (X.2.2.2.2 _ q197) rfl hJ1_init (rmN_le (Nat.le_of_ble_eq_true rfl) (Nat.le_of_ble_eq_true rfl))) hne hlk rfl hl.1 rfl (Nat.le_of_ble_eq_true rfl) ⟨nb_le hu (Nat.le_refl _), nb_le hw (Nat.le_refl _)⟩ (nb_le hu (Nat.le_refl _)) (nb_le hw (Nat.le_refl _)) dJ2_init_6 (fun v S1 H locs hf hM => ?_)
  obtain ⟨rfl, rfl⟩ := hf
  refine W.eq (g2 := F0 m 9 ls []) rfl ?_
  exact n_vret X hr hlk hM (nb_le hu (Nat.le_refl _)) (nb_le hw (Nat.le_refl _)) hq dJ2_init_9
theorem hJ2_init : yJ2_init.cls ≠ "java/lang/invoke/MethodHandle" ∧ yJ2_init.cls ≠ "java/lang/invoke/VarHandle" ∧ (parseMethodDescriptor yJ2_init.desc).map (fun d => d.parameters.length) = some 4 := by decide +kernel
theorem metX5_init (l : Launch) (D : va_G) (dA : Nat → ClassId) (K : oK) (Qt : Nat → hH → Prop) (Qr : hH → Prop) (S : hH) (bc bk : Nat) (x0 : Nat) (x1 x2 : Int32) (f0 f1 f2 f3 f4 f5 f6 f7 : Value) {sz : Nat} (hS : S x0 = some (.inr (5, [f0, f1, f2, f3, f4, f5, f6, f7]))) (hq : Qr (va_up S x0 (some (.inr (5, [.null, .null, .null, .null, f4, f5, .int x1, .int x2]))))) : MetT l yX5_init (ws_ yX5_init cX5_init 3 none) (rmN 4 bc bk) (NPre D dA K sz S [.ref x0, .int x1, .int x2]) (NPost D dA (NA S sz) (nqV Qr) Qt) bc bk (NA S sz) := by
  refine n_ofW rfl (by decide) (Nat.le_of_ble_eq_true rfl) (fun A p e s m args below meth c X hr hlk hne hin hA hO hRf hM ls hl => ?_)
  have hx := X.1
  have hb := X.2.1
  have hu : 0 + bc = bc := Nat.zero_add bc
  have hw : 0 + bk = bk := Nat.zero_add bk
  have hl : lv_has ls 3 [(0, .ref x0), (1, .int x1), (2, .int x2)] := hl
  refine lv_aload_n hx hb dX5_init_0 rfl (lv_at hl 0 rfl) ?_
  refine lv_null hx hb dX5_init_1 ?_
  refine lv_null hx hb dX5_init_2 ?_
  refine lv_iconst (v := 0) hx hb dX5_init_3 (by decide) ?_
  refine lv_iconst (v := 0) hx hb dX5_init_4 (by decide) ?_
  refine n_cI (As := [.null, .null, .int 0, .int 0]) (rest := []) X hM hA hO hRf (metJ2_init l D dA K Qt (fun h => h = va_up S x0 (some (.inr (5, ftN f4 f5 f6 f7)))) S bc bk x0 f0 f1 f2 f3 f4 f5 f6 f7 hS rfl) (cwI 4 X.2.2.2.2 (lw_meth q195) rfl rfl rfl (X.2.2.2.2 _ q68) (X.2.2.2.2 _ q193) (X.2.2.2.2 _ q194) rfl hJ2_init (rmN_le (Nat.le_of_ble_eq_true rfl) (Nat.le_of_ble_eq_true rfl))) hne hlk rfl hl.1 rfl (Nat.le_of_ble_eq_true rfl) ⟨nb_le hu (Nat.le_refl _), nb_le hw (Nat.le_refl _)⟩ (nb_le hu (Nat.le_refl _)) (nb_le hw (Nat.le_refl _)) dX5_init_5 (fun v S1 H locs hf hM => ?_)
  obtain ⟨rfl, rfl⟩ := hf
  refine W.eq (g2 := F0 m 8 ls []) rfl ?_
  refine lv_aload_n hx hb dX5_init_8 rfl (lv_at hl 0 rfl) ?_
  refine lv_iload_n hx hb dX5_init_9 rfl (lv_at hl 1 rfl) ?_
  refine ft_putF (ty := .int) X hM 6 (by decide) (Nat.le_of_ble_eq_true rfl) hin q202 rfl rfl (by decide +kernel) rfl rfl dX5_init_10 (fun H locs hM => ?_)
  refine lv_aload_n hx hb dX5_init_13 rfl (lv_at hl 0 rfl) ?_
  refine lv_iload_n hx hb dX5_init_14 rfl (lv_at hl 2 rfl) ?_
  refine ft_putF (ty := .int) X hM 7 (by decide) (Nat.le_of_ble_eq_true rfl) hin q204 rfl rfl (by decide +kernel) rfl rfl dX5_init_15 (fun H locs hM => ?_)
  exact n_vret X hr hlk hM (nb_le hu (Nat.le_refl _)) (nb_le hw (Nat.le_refl _)) hq dX5_init_18
theorem hX5_init : yX5_init.cls ≠ "java/lang/invoke/MethodHandle" ∧ yX5_init.cls ≠ "java/lang/invoke/VarHandle" ∧ (parseMethodDescriptor yX5_init.desc).map (fun d => d.parameters.length) = some 2 := by decide +kernel
noncomputable def fX5_init (Qt : Nat → hH → Prop) (Qr : hH → Prop) (S : hH) (bc bk : Nat) (x0 : Nat) (x1 x2 : Int32) : Prop := ∃ f0 f1 f2 f3 f4 f5 f6 f7 : Value, S x0 = some (.inr (5, [f0, f1, f2, f3, f4, f5, f6, f7])) ∧ Qr (va_up S x0 (some (.inr (5, [.null, .null, .null, .null, f4, f5, .int x1, .int x2]))))
theorem metX5_initW (l : Launch) (D : va_G) (dA : Nat → ClassId) (K : oK) (Qt : Nat → hH → Prop) (Qr : hH → Prop) (S : hH) (bc bk : Nat) (x0 : Nat) (x1 x2 : Int32) {sz : Nat} (hf : fX5_init Qt Qr S bc bk x0 x1 x2) : MetT l yX5_init (ws_ yX5_init cX5_init 3 none) (rmN 4 bc bk) (NPre D dA K sz S [.ref x0, .int x1, .int x2]) (NPost D dA (NA S sz) (nqV Qr) Qt) bc bk (NA S sz) := by
  obtain ⟨f0, f1, f2, f3, f4, f5, f6, f7, h1, h2⟩ := hf
  exact metX5_init l D dA K Qt Qr S bc bk x0 x1 x2 f0 f1 f2 f3 f4 f5 f6 f7 h1 h2
