set_option maxRecDepth 100000
def sLn (i : Nat) : Nat := [4, 4, 3].getD i 0
def sBy (i j : Nat) : Int32 := (([[108, 105, 110, 101], [108, 111, 111, 112], [101, 110, 100]] : List (List Int32)).getD i []).getD j 0
def sCh (i j : Nat) : Int32 := ((sBy i j &&& 255).toUInt32 % 65536).toInt32
theorem sCh_ok {i j : Nat} (hi : i < 3) (hj : j < 4) : narrow .char (.int (sCh i j)) = .int (sCh i j) := by
  rcases (show i = 0 ∨ i = 1 ∨ i = 2 by omega) with rfl | rfl | rfl <;> rcases (show j = 0 ∨ j = 1 ∨ j = 2 ∨ j = 3 by omega) with rfl | rfl | rfl | rfl <;> rfl
theorem sLn_le (i : Nat) : sLn i ≤ 4 := by
  rcases (show i = 0 ∨ i = 1 ∨ i = 2 ∨ ∃ k, i = k + 3 by
    rcases Nat.lt_or_ge i 3 with h | h
    · omega
    · exact Or.inr (Or.inr (Or.inr ⟨i - 3, by omega⟩))) with rfl | rfl | rfl | ⟨k, rfl⟩
  · decide
  · decide
  · decide
  · show ([4, 4, 3] : List Nat).getD (k + 3) 0 ≤ 4
    simp
def SPre (K : oK) (as : List Value) : Array Value → State → Prop := fun a U => a = as.toArray ∧ OLD K (fun _ => False) U U.heap
theorem SPre.blind {K : oK} {as : List Value} : FrameBlind (SPre K as) := fun a U g mk z => ⟨z.1, OLD.moved (u := U) (U := U.calling g mk a) (Vm.Alike.refl U.vm) z.2⟩
def kQ (o : Option Value) : Array Value → State → Outcome → State → Prop := fun _ st oc t => oc = .returned o ∧ t.heap = st.heap
section SROWS
variable {p : Program} {l : Launch} {e : Env} {R : Room} {s : State} {m : MethodId} {args : Array Value} {below : List Frame} {meth : Method} {c : Code} {H : Heap} {locs : List Loc} {u w : Nat} {Q : State → Prop}
variable {cc bytes : ByteArray} {nL maxL pc idx n i : Nat} {ls : Array Slot} {rest st As : List Value} {y : MethodName} {ret : Option FieldType} {rm : Room} {own : String} {K : oK} {A : Nat → Prop} {o : Option Value}
theorem W.callO {g : JFrame} {a : Array Value} (hr : CallRun p l e R s m args below meth c H locs u w 0 0 g rest (kQ o a) (fun _ => False)) (kk : W p l e R s m args below meth c H locs u w Q { g with pc := g.pc + 3, stack := o.toList ++ rest }) : W p l e R s m args below meth c H locs u w Q g := by
  intro T hT X
  obtain ⟨v, st₀, t, T', L, h0, X', hL, e1, ⟨hv, hh⟩, st⟩ := hr T hT X
  cases hv
  obtain ⟨t2, a1, b1⟩ := kk T' (by rw [e1, hh, h0]) (Stand.forget X' (fun q h => (hL q h).elim))
  exact ⟨t2, st t2 a1, b1⟩
theorem s_pre (hO : OLD K A s s.heap) (hS : va_S A s.heap H locs) : ∀ U : State, U.heap = H → s.WarmedH U.vm → SPre K As As.toArray U := fun U hU hW => ⟨rfl, by rw [hU]; exact OLD.moved hW.alike ((hO.kept hS.2.1).narrow (fun _ h => h.elim))⟩
theorem s_cV (X : CallFix p m c cc nL s args lw_all own) (hO : OLD K A s s.heap) (hS : va_S A s.heap H locs) (hi : i < 3) (hmet : Met l y (ws_ y bytes maxL ret) rm (SPre K (.ref (K.1 i) :: As)) (kQ o) 0 0 (fun _ => False)) (cw : CallW R s args own "java/lang/String" idx y bytes maxL ret (ws_ y bytes maxL ret) rm 0 0 n)
    (hn : As.length = n) (hsize : ls.size = nL) (hst : st = As.reverse ++ .ref (K.1 i) :: rest) (hroom : (rest.map fun v => v.category).sum ≤ 8) (hcs : u ≤ R.cells ∧ w ≤ R.slots) (hdg : decode cc pc = .ok (.invokevirtual idx, 3)) (kk : W p l e R s m args below meth c H locs u w Q (F0 m (pc + 3) ls (o.toList ++ rest))) : W p l e R s m args below meth c H locs u w Q (F0 m pc ls st) := by
  subst hst
  exact W.callO (W.runV (As := As) (rest := rest) X hmet cw ⟨SPre.blind, vk_recv hO.2.2.2.2 hi hS, s_pre hO hS⟩ rfl hn hsize rfl (lv_room hroom) hdg hcs) kk
theorem s_cS (X : CallFix p m c cc nL s args lw_all own) (hO : OLD K A s s.heap) (hS : va_S A s.heap H locs) (hmet : Met l y (ws_ y bytes maxL ret) rm (SPre K As) (kQ o) 0 0 (fun _ => False)) (cw : CallB R s args own idx y bytes maxL ret (ws_ y bytes maxL ret) rm 0 0 n ∧ (Cond.static y).before args s = true)
    (hn : As.length = n) (hsize : ls.size = nL) (hst : st = As.reverse ++ rest) (hroom : (rest.map fun v => v.category).sum ≤ 8) (hcs : u ≤ R.cells ∧ w ≤ R.slots) (hdg : decode cc pc = .ok (.invokestatic idx, 3)) (kk : W p l e R s m args below meth c H locs u w Q (F0 m (pc + 3) ls (o.toList ++ rest))) : W p l e R s m args below meth c H locs u w Q (F0 m pc ls st) := by
  subst hst
  exact W.callO (W.runS (As := As) (rest := rest) X hmet cw ⟨SPre.blind, s_pre hO hS⟩ rfl hn hsize rfl (lv_room hroom) hdg hcs) kk
theorem s_of (hc : y.cls = own) (hpl : plainName own = true) (hlen : (lg_sl As).length ≤ maxL)
    (body : ∀ (p : Program) (e : Env) (s : State) (m : MethodId) (args : Array Value) (below : List Frame) (meth : Method) (c : Code), CallFix p m c bytes maxL s args lw_all own → meth.sig.returnType = ret → meth.locks = false → OLD K (fun _ => False) s s.heap → va_S (fun _ => False) s.heap s.heap [] → ∀ ls : Array Slot, lv_has ls maxL (lv_args 0 As) → W p l e rm s m args below meth c s.heap [] 0 0 (MQ below (kQ o) args s 0 0 (fun _ => False)) (F0 m 0 ls [])) :
    Met l y (ws_ y bytes maxL ret) rm (SPre K As) (kQ o) 0 0 (fun _ => False) := by
  refine Met.ofW (cc := bytes) (maxL := maxL) (ret := ret) (by rw [hc]; exact hpl) rfl ?_
  intro p e s m args below meth c s₁ B hml hv
  have hts := atoms_spec (ws := ws_ y bytes maxL ret) B.pre
  have hts : ∀ w ∈ lw_all, w.before _ s = true := fun w h => hts w (List.mem_cons_of_mem _ h)
  have hl := lv_entry As hlen
  have hown := findClass_of_methodNamed B.named
  rw [hc] at hown
  obtain ⟨rfl, hO⟩ := hv
  rw [lg_entry_eq]
  exact body p e s m _ below meth c ⟨B.exec, B.bytes, hml, hown, hts⟩ B.returns B.notSynchronized hO va_S.rf _ hl
end SROWS
theorem metJ3_coder (l : Launch) (K : oK) (i : Nat) (hi : i < 3) : Met l yJ3_coder (ws_ yJ3_coder cJ3_coder 1 (some .byte)) (rmL 0) (SPre K [.ref (K.1 i)]) (kQ (some (.int 0))) 0 0 (fun _ => False) := by
  refine s_of (own := RJ3) rfl (by decide) (Nat.le_of_ble_eq_true rfl) (fun p e s m args below meth c X hr hlk hO hS ls hl => ?_)
  have hx := X.1
  have hb := X.2.1
  have hl : lv_has ls 1 [(0, .ref (K.1 i))] := hl
  refine va_gets hx hb hO.2.2.1 hS X.2.2.2.1 (X.2.2.2.2 _ q295) (fun _ h => h) dJ3_coder_0 ?_
  refine lv_if_eq (tgt := 13) hx hb dJ3_coder_3 rfl (fun cnd => absurd cnd (by decide)) (fun _ => ?_)
  refine lv_aload_n hx hb dJ3_coder_6 rfl (lv_at hl 0 rfl) ?_
  refine vk_getf hx hb (hO.2.2.2.2.1 i hi).2.1 hS X.2.2.2.1 (X.2.2.2.2 _ q1477) (fun _ h => h) dJ3_coder_7 ?_
  refine lv_goto (tgt := 14) hx hb dJ3_coder_10 rfl ?_
  exact W.zret hx hb hr rfl (fun t ht _ => ⟨rfl, ht⟩) (fun _ h => by cases h) dJ3_coder_14 hlk
theorem hJ3_coder : yJ3_coder.cls ≠ "java/lang/invoke/MethodHandle" ∧ yJ3_coder.cls ≠ "java/lang/invoke/VarHandle" ∧ (parseMethodDescriptor yJ3_coder.desc).map (fun d => d.parameters.length) = some 0 := by decide +kernel
theorem metJ3_length (l : Launch) (K : oK) (i : Nat) (hi : i < 3) : Met l yJ3_length (ws_ yJ3_length cJ3_length 1 (some .int)) (rmL 1) (SPre K [.ref (K.1 i)]) (kQ (some (.int (Int32.ofNat (sLn i))))) 0 0 (fun _ => False) := by
  refine s_of (own := RJ3) rfl (by decide) (Nat.le_of_ble_eq_true rfl) (fun p e s m args below meth c X hr hlk hO hS ls hl => ?_)
  have hx := X.1
  have hb := X.2.1
  have hl : lv_has ls 1 [(0, .ref (K.1 i))] := hl
  refine lv_aload_n hx hb dJ3_length_0 rfl (lv_at hl 0 rfl) ?_
  refine vk_getf hx hb (hO.2.2.2.2.1 i hi).2.2.1 hS X.2.2.2.1 (X.2.2.2.2 _ q1476) (fun _ h => h) dJ3_length_1 ?_
  refine va_tlen hx hb (hO.2.2.2.2.1 i hi).2.2.2 hS (v := Int32.ofNat (sLn i)) rfl dJ3_length_4 ?_
  refine lv_aload_n hx hb dJ3_length_5 rfl (lv_at hl 0 rfl) ?_
  refine s_cV (As := []) (rest := [.int (Int32.ofNat (sLn i))]) X hO hS hi (metJ3_coder l K i hi) (cwV 0 X.2.2.2.2 (lw_V q291 q292 q293 q72 q294) rfl rfl rfl ⟨rfl, hJ3_coder⟩ (rm_le (Nat.le_of_ble_eq_true rfl) (Nat.le_of_ble_eq_true rfl))) rfl hl.1 rfl (Nat.le_of_ble_eq_true rfl) ⟨Nat.zero_le _, Nat.zero_le _⟩ dJ3_length_6 ?_
  refine W.eq (g2 := F0 m 9 ls [.int 0, .int (Int32.ofNat (sLn i))]) rfl ?_
  refine lv_ishr hx hb dJ3_length_9 ?_
  refine W.eq (g2 := F0 m 10 ls [.int (Int32.ofNat (sLn i))]) (by rcases (show i = 0 ∨ i = 1 ∨ i = 2 by omega) with rfl | rfl | rfl <;> rfl) ?_
  exact W.iret hx hb hr (fun t ht _ => ⟨rfl, ht⟩) (fun _ h => by cases h) dJ3_length_10 hlk
theorem hJ3_length : yJ3_length.cls ≠ "java/lang/invoke/MethodHandle" ∧ yJ3_length.cls ≠ "java/lang/invoke/VarHandle" ∧ (parseMethodDescriptor yJ3_length.desc).map (fun d => d.parameters.length) = some 0 := by decide +kernel
theorem metJ3_isLatin1 (l : Launch) (K : oK) (i : Nat) (hi : i < 3) : Met l yJ3_isLatin1 (ws_ yJ3_isLatin1 cJ3_isLatin1 1 (some .boolean)) (rmL 0) (SPre K [.ref (K.1 i)]) (kQ (some (.int 1))) 0 0 (fun _ => False) := by
  refine s_of (own := RJ3) rfl (by decide) (Nat.le_of_ble_eq_true rfl) (fun p e s m args below meth c X hr hlk hO hS ls hl => ?_)
  have hx := X.1
  have hb := X.2.1
  have hl : lv_has ls 1 [(0, .ref (K.1 i))] := hl
  refine va_gets hx hb hO.2.2.1 hS X.2.2.2.1 (X.2.2.2.2 _ q295) (fun _ h => h) dJ3_isLatin1_0 ?_
  refine lv_if_eq (tgt := 17) hx hb dJ3_isLatin1_3 rfl (fun cnd => absurd cnd (by decide)) (fun _ => ?_)
  refine lv_aload_n hx hb dJ3_isLatin1_6 rfl (lv_at hl 0 rfl) ?_
  refine vk_getf hx hb (hO.2.2.2.2.1 i hi).2.1 hS X.2.2.2.1 (X.2.2.2.2 _ q1477) (fun _ h => h) dJ3_isLatin1_7 ?_
  refine lv_if_ne (tgt := 17) hx hb dJ3_isLatin1_10 rfl (fun cnd => absurd rfl cnd) (fun _ => ?_)
  refine lv_iconst (v := 1) hx hb dJ3_isLatin1_13 (by decide) ?_
  refine lv_goto (tgt := 18) hx hb dJ3_isLatin1_14 rfl ?_
  exact W.zret hx hb hr rfl (fun t ht _ => ⟨rfl, ht⟩) (fun _ h => by cases h) dJ3_isLatin1_18 hlk
theorem hJ3_isLatin1 : yJ3_isLatin1.cls ≠ "java/lang/invoke/MethodHandle" ∧ yJ3_isLatin1.cls ≠ "java/lang/invoke/VarHandle" ∧ (parseMethodDescriptor yJ3_isLatin1.desc).map (fun d => d.parameters.length) = some 0 := by decide +kernel
theorem metJ5_checkIndexN (l : Launch) (K : oK) (x0 x1 : Int32) (h0 : ¬ x0 < 0) (h1 : x0 < x1) : Met l yJ5_checkIndex (ws_ yJ5_checkIndex cJ5_checkIndex 3 (some .int)) (rmL 0) (SPre K [.int x0, .int x1, .null]) (kQ (some (.int x0))) 0 0 (fun _ => False) := by
  refine s_of (own := RJ5) rfl (by decide) (Nat.le_of_ble_eq_true rfl) (fun p e s m args below meth c X hr hlk hO hS ls hl => ?_)
  have hx := X.1
  have hb := X.2.1
  have hl : lv_has ls 3 [(0, .int x0), (1, .int x1), (2, .null)] := hl
  refine lv_iload_n hx hb dJ5_checkIndex_0 rfl (lv_at hl 0 rfl) ?_
  refine lv_if_lt (tgt := 9) hx hb dJ5_checkIndex_1 rfl (fun cnd => absurd cnd h0) (fun _ => ?_)
  refine lv_iload_n hx hb dJ5_checkIndex_4 rfl (lv_at hl 0 rfl) ?_
  refine lv_iload_n hx hb dJ5_checkIndex_5 rfl (lv_at hl 1 rfl) ?_
  refine lv_icmp_lt (tgt := 16) hx hb dJ5_checkIndex_6 rfl (fun _ => ?_) (fun cnd => absurd h1 cnd)
  refine lv_iload_n hx hb dJ5_checkIndex_16 rfl (lv_at hl 0 rfl) ?_
  exact W.iret hx hb hr (fun t ht _ => ⟨rfl, ht⟩) (fun _ h => by cases h) dJ5_checkIndex_17 hlk
theorem metJ5_checkIndexR (l : Launch) (K : oK) (x0 x1 : Int32) (x2 : Nat) (h0 : ¬ x0 < 0) (h1 : x0 < x1) : Met l yJ5_checkIndex (ws_ yJ5_checkIndex cJ5_checkIndex 3 (some .int)) (rmL 0) (SPre K [.int x0, .int x1, .ref x2]) (kQ (some (.int x0))) 0 0 (fun _ => False) := by
  refine s_of (own := RJ5) rfl (by decide) (Nat.le_of_ble_eq_true rfl) (fun p e s m args below meth c X hr hlk hO hS ls hl => ?_)
  have hx := X.1
  have hb := X.2.1
  have hl : lv_has ls 3 [(0, .int x0), (1, .int x1), (2, .ref x2)] := hl
  refine lv_iload_n hx hb dJ5_checkIndex_0 rfl (lv_at hl 0 rfl) ?_
  refine lv_if_lt (tgt := 9) hx hb dJ5_checkIndex_1 rfl (fun cnd => absurd cnd h0) (fun _ => ?_)
  refine lv_iload_n hx hb dJ5_checkIndex_4 rfl (lv_at hl 0 rfl) ?_
  refine lv_iload_n hx hb dJ5_checkIndex_5 rfl (lv_at hl 1 rfl) ?_
  refine lv_icmp_lt (tgt := 16) hx hb dJ5_checkIndex_6 rfl (fun _ => ?_) (fun cnd => absurd h1 cnd)
  refine lv_iload_n hx hb dJ5_checkIndex_16 rfl (lv_at hl 0 rfl) ?_
  exact W.iret hx hb hr (fun t ht _ => ⟨rfl, ht⟩) (fun _ h => by cases h) dJ5_checkIndex_17 hlk
theorem hJ5_checkIndex : yJ5_checkIndex.cls ≠ "java/lang/invoke/MethodHandle" ∧ yJ5_checkIndex.cls ≠ "java/lang/invoke/VarHandle" ∧ (parseMethodDescriptor yJ5_checkIndex.desc).map (fun d => d.parameters.length) = some 3 := by decide +kernel
theorem metJ3_checkIndex (l : Launch) (K : oK) (x0 x1 : Int32) (h0 : ¬ x0 < 0) (h1 : x0 < x1) : Met l yJ3_checkIndex (ws_ yJ3_checkIndex cJ3_checkIndex 2 none) (rmL 1) (SPre K [.int x0, .int x1]) (kQ (none)) 0 0 (fun _ => False) := by
  refine s_of (own := RJ3) rfl (by decide) (Nat.le_of_ble_eq_true rfl) (fun p e s m args below meth c X hr hlk hO hS ls hl => ?_)
  have hx := X.1
  have hb := X.2.1
  have hl : lv_has ls 2 [(0, .int x0), (1, .int x1)] := hl
  refine lv_iload_n hx hb dJ3_checkIndex_0 rfl (lv_at hl 0 rfl) ?_
  refine lv_iload_n hx hb dJ3_checkIndex_1 rfl (lv_at hl 1 rfl) ?_
  rcases hO.2.2.2.1 with hz | ⟨t, hz⟩
  · refine va_gets hx hb hz hS X.2.2.2.1 (X.2.2.2.2 _ q311) (fun _ h => h) dJ3_checkIndex_2 ?_
    refine s_cS (As := [.int x0, .int x1, .null]) (rest := []) X hO hS (metJ5_checkIndexN l K x0 x1 h0 h1) (va_cwS 3 X.2.2.2.2 (lw_S q313 q314 q74 q315) rfl rfl rfl hJ5_checkIndex (rm_le (Nat.le_of_ble_eq_true rfl) (Nat.le_of_ble_eq_true rfl))) rfl hl.1 rfl (Nat.le_of_ble_eq_true rfl) ⟨Nat.zero_le _, Nat.zero_le _⟩ dJ3_checkIndex_5 ?_
    refine W.eq (g2 := F0 m 8 ls [.int x0]) rfl ?_
    refine lv_pop hx hb dJ3_checkIndex_8 rfl ?_
    exact W.vret hx hb hr (fun t ht _ => ⟨rfl, ht⟩) (fun _ h => by cases h) dJ3_checkIndex_9 hlk
  · refine va_gets hx hb hz hS X.2.2.2.1 (X.2.2.2.2 _ q311) (fun _ h => h) dJ3_checkIndex_2 ?_
    refine s_cS (As := [.int x0, .int x1, .ref t]) (rest := []) X hO hS (metJ5_checkIndexR l K x0 x1 t h0 h1) (va_cwS 3 X.2.2.2.2 (lw_S q313 q314 q74 q315) rfl rfl rfl hJ5_checkIndex (rm_le (Nat.le_of_ble_eq_true rfl) (Nat.le_of_ble_eq_true rfl))) rfl hl.1 rfl (Nat.le_of_ble_eq_true rfl) ⟨Nat.zero_le _, Nat.zero_le _⟩ dJ3_checkIndex_5 ?_
    refine W.eq (g2 := F0 m 8 ls [.int x0]) rfl ?_
    refine lv_pop hx hb dJ3_checkIndex_8 rfl ?_
    exact W.vret hx hb hr (fun t ht _ => ⟨rfl, ht⟩) (fun _ h => by cases h) dJ3_checkIndex_9 hlk
theorem hJ3_checkIndex : yJ3_checkIndex.cls ≠ "java/lang/invoke/MethodHandle" ∧ yJ3_checkIndex.cls ≠ "java/lang/invoke/VarHandle" ∧ (parseMethodDescriptor yJ3_checkIndex.desc).map (fun d => d.parameters.length) = some 2 := by decide +kernel
theorem metJ4_charAt (l : Launch) (K : oK) (i : Nat) (hi : i < 3) (x1 : Int32) (h0 : ¬ x1 < 0) (h1 : x1 < Int32.ofNat (sLn i)) (h2 : x1.toNatClampNeg < sLn i) : Met l yJ4_charAt (ws_ yJ4_charAt cJ4_charAt 2 (some .char)) (rmL 2) (SPre K [.ref (K.2 i), .int x1]) (kQ (some (.int (sCh i x1.toNatClampNeg)))) 0 0 (fun _ => False) := by
  refine s_of (own := RJ4) rfl (by decide) (Nat.le_of_ble_eq_true rfl) (fun p e s m args below meth c X hr hlk hO hS ls hl => ?_)
  have hx := X.1
  have hb := X.2.1
  have hl : lv_has ls 2 [(0, .ref (K.2 i)), (1, .int x1)] := hl
  refine lv_iload_n hx hb dJ4_charAt_0 rfl (lv_at hl 1 rfl) ?_
  refine lv_aload_n hx hb dJ4_charAt_1 rfl (lv_at hl 0 rfl) ?_
  refine va_tlen hx hb (hO.2.2.2.2.1 i hi).2.2.2 hS (v := Int32.ofNat (sLn i)) rfl dJ4_charAt_2 ?_
  refine s_cS (As := [.int x1, .int (Int32.ofNat (sLn i))]) (rest := []) X hO hS (metJ3_checkIndex l K x1 (Int32.ofNat (sLn i)) h0 h1) (va_cwS 2 X.2.2.2.2 (lw_S q308 q309 q72 q310) rfl rfl rfl hJ3_checkIndex (rm_le (Nat.le_of_ble_eq_true rfl) (Nat.le_of_ble_eq_true rfl))) rfl hl.1 rfl (Nat.le_of_ble_eq_true rfl) ⟨Nat.zero_le _, Nat.zero_le _⟩ dJ4_charAt_3 ?_
  refine W.eq (g2 := F0 m 6 ls []) rfl ?_
  refine lv_aload_n hx hb dJ4_charAt_6 rfl (lv_at hl 0 rfl) ?_
  refine lv_iload_n hx hb dJ4_charAt_7 rfl (lv_at hl 1 rfl) ?_
  refine va_tb hx hb (hO.2.2.2.2.1 i hi).2.2.2 hS (i := x1) (fun q => q.elim h0 (fun q => absurd h2 (Nat.not_lt.mpr q))) (v := .int (sBy i x1.toNatClampNeg)) rfl dJ4_charAt_8 ?_
  refine lv_sipush (v := 255) hx hb dJ4_charAt_9 (by decide) ?_
  refine lv_iand hx hb dJ4_charAt_12 ?_
  refine lv_i2c (v := sCh i x1.toNatClampNeg) hx hb dJ4_charAt_13 rfl ?_
  exact W.zret hx hb hr (sCh_ok hi (Nat.lt_of_lt_of_le h2 (sLn_le i))) (fun t ht _ => ⟨rfl, ht⟩) (fun _ h => by cases h) dJ4_charAt_14 hlk
theorem hJ4_charAt : yJ4_charAt.cls ≠ "java/lang/invoke/MethodHandle" ∧ yJ4_charAt.cls ≠ "java/lang/invoke/VarHandle" ∧ (parseMethodDescriptor yJ4_charAt.desc).map (fun d => d.parameters.length) = some 2 := by decide +kernel
theorem metJ3_charAt (l : Launch) (K : oK) (i : Nat) (hi : i < 3) (x1 : Int32) (h0 : ¬ x1 < 0) (h1 : x1 < Int32.ofNat (sLn i)) (h2 : x1.toNatClampNeg < sLn i) : Met l yJ3_charAt (ws_ yJ3_charAt cJ3_charAt 2 (some .char)) (rmL 3) (SPre K [.ref (K.1 i), .int x1]) (kQ (some (.int (sCh i x1.toNatClampNeg)))) 0 0 (fun _ => False) := by
  refine s_of (own := RJ3) rfl (by decide) (Nat.le_of_ble_eq_true rfl) (fun p e s m args below meth c X hr hlk hO hS ls hl => ?_)
  have hx := X.1
  have hb := X.2.1
  have hl : lv_has ls 2 [(0, .ref (K.1 i)), (1, .int x1)] := hl
  refine lv_aload_n hx hb dJ3_charAt_0 rfl (lv_at hl 0 rfl) ?_
  refine s_cV (As := []) (rest := []) X hO hS hi (metJ3_isLatin1 l K i hi) (cwV 0 X.2.2.2.2 (lw_V q301 q302 q303 q72 q304) rfl rfl rfl ⟨rfl, hJ3_isLatin1⟩ (rm_le (Nat.le_of_ble_eq_true rfl) (Nat.le_of_ble_eq_true rfl))) rfl hl.1 rfl (Nat.le_of_ble_eq_true rfl) ⟨Nat.zero_le _, Nat.zero_le _⟩ dJ3_charAt_1 ?_
  refine W.eq (g2 := F0 m 4 ls [.int 1]) rfl ?_
  refine lv_if_eq (tgt := 16) hx hb dJ3_charAt_4 rfl (fun cnd => absurd cnd (by decide)) (fun _ => ?_)
  refine lv_aload_n hx hb dJ3_charAt_7 rfl (lv_at hl 0 rfl) ?_
  refine vk_getf hx hb (hO.2.2.2.2.1 i hi).2.2.1 hS X.2.2.2.1 (X.2.2.2.2 _ q1476) (fun _ h => h) dJ3_charAt_8 ?_
  refine lv_iload_n hx hb dJ3_charAt_11 rfl (lv_at hl 1 rfl) ?_
  refine s_cS (As := [.ref (K.2 i), .int x1]) (rest := []) X hO hS (metJ4_charAt l K i hi x1 h0 h1 h2) (va_cwS 2 X.2.2.2.2 (lw_S q305 q306 q73 q307) rfl rfl rfl hJ4_charAt (rm_le (Nat.le_of_ble_eq_true rfl) (Nat.le_of_ble_eq_true rfl))) rfl hl.1 rfl (Nat.le_of_ble_eq_true rfl) ⟨Nat.zero_le _, Nat.zero_le _⟩ dJ3_charAt_12 ?_
  refine W.eq (g2 := F0 m 15 ls [.int (sCh i x1.toNatClampNeg)]) rfl ?_
  exact W.zret hx hb hr (sCh_ok hi (Nat.lt_of_lt_of_le h2 (sLn_le i))) (fun t ht _ => ⟨rfl, ht⟩) (fun _ h => by cases h) dJ3_charAt_15 hlk
theorem hJ3_charAt : yJ3_charAt.cls ≠ "java/lang/invoke/MethodHandle" ∧ yJ3_charAt.cls ≠ "java/lang/invoke/VarHandle" ∧ (parseMethodDescriptor yJ3_charAt.desc).map (fun d => d.parameters.length) = some 1 := by decide +kernel
