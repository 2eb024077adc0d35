-- ===== PART A: goes FIRST, ahead of the names: the tables' words, and 'selects' of the private methods out of them =====
/-- a private method of a class that the tables say can be made, by its rows of tables_1 -/
def lw_okq (q : MethodName × Nat) : Prop := (q.1.cls ≠ "java/lang/invoke/MethodHandle" ∧ q.1.cls ≠ "java/lang/invoke/VarHandle") ∧ Cond.instantiable q.1.cls q.2 ∈ tables_1 ∧ Cond.privateMethod q.1 ∈ tables_1 ∧ Cond.instanceMethod q.1 ∈ tables_1
set_option maxRecDepth 100000
theorem lw_t1 {w : Cond} (h : w ∈ tables_1_1) : w ∈ tables_1 := List.mem_append_left _ h
theorem lw_t2 {w : Cond} (h : w ∈ tables_1_2) : w ∈ tables_1 := List.mem_append_right _ (List.mem_append_left _ h)
theorem lw_t3 {w : Cond} (h : w ∈ tables_1_3) : w ∈ tables_1 := List.mem_append_right _ (List.mem_append_right _ (List.mem_append_left _ h))
theorem lw_t4 {w : Cond} (h : w ∈ tables_1_4) : w ∈ tables_1 := List.mem_append_right _ (List.mem_append_right _ (List.mem_append_right _ (List.mem_append_left _ h)))
theorem lw_t5 {w : Cond} (h : w ∈ tables_1_5) : w ∈ tables_1 := List.mem_append_right _ (List.mem_append_right _ (List.mem_append_right _ (List.mem_append_right _ (List.mem_append_left _ h))))
theorem lw_t6 {w : Cond} (h : w ∈ tables_1_6) : w ∈ tables_1 := List.mem_append_right _ (List.mem_append_right _ (List.mem_append_right _ (List.mem_append_right _ (List.mem_append_right _ h))))
theorem lw_p0 : lw_okq (⟨"EventCounters$Reader", "next", "()V"⟩, 9) := ⟨⟨by decide +kernel, by decide +kernel⟩, lw_t1 (List.mem_of_getElem? (i := 47) rfl), lw_t1 (List.mem_of_getElem? (i := 59) rfl), lw_t1 (List.mem_of_getElem? (i := 60) rfl)⟩
theorem lw_p1 : lw_okq (⟨"EventCounters$Reader", "at", "(I)I"⟩, 9) := ⟨⟨by decide +kernel, by decide +kernel⟩, lw_t1 (List.mem_of_getElem? (i := 47) rfl), lw_t1 (List.mem_of_getElem? (i := 63) rfl), lw_t1 (List.mem_of_getElem? (i := 64) rfl)⟩
theorem lw_p2 : lw_okq (⟨"EventCounters$Reader", "must", "(ZI)V"⟩, 9) := ⟨⟨by decide +kernel, by decide +kernel⟩, lw_t1 (List.mem_of_getElem? (i := 47) rfl), lw_t1 (List.mem_of_getElem? (i := 72) rfl), lw_t1 (List.mem_of_getElem? (i := 73) rfl)⟩
theorem lw_p3 : lw_okq (⟨"java/lang/NullPointerException", "getExtendedNPEMessage", "()Ljava/lang/String;"⟩, 8) := ⟨⟨by decide +kernel, by decide +kernel⟩, lw_t1 (List.mem_of_getElem? (i := 117) rfl), lw_t1 (List.mem_of_getElem? (i := 115) rfl), lw_t1 (List.mem_of_getElem? (i := 116) rfl)⟩
theorem lw_p4 : lw_okq (⟨"java/lang/Throwable", "fillInStackTrace", "(I)Ljava/lang/Throwable;"⟩, 6) := ⟨⟨by decide +kernel, by decide +kernel⟩, lw_t1 (List.mem_of_getElem? (i := 129) rfl), lw_t1 (List.mem_of_getElem? (i := 127) rfl), lw_t1 (List.mem_of_getElem? (i := 128) rfl)⟩
theorem lw_p5 : lw_okq (⟨"EventCounters$Reader", "items", "(LEventCounters$Block;II)V"⟩, 9) := ⟨⟨by decide +kernel, by decide +kernel⟩, lw_t1 (List.mem_of_getElem? (i := 47) rfl), lw_t1 (List.mem_of_getElem? (i := 220) rfl), lw_t1 (List.mem_of_getElem? (i := 221) rfl)⟩
theorem lw_p6 : lw_okq (⟨"EventCounters$Reader", "isWord", "(Ljava/lang/String;)Z"⟩, 9) := ⟨⟨by decide +kernel, by decide +kernel⟩, lw_t1 (List.mem_of_getElem? (i := 47) rfl), lw_t1 (List.mem_of_getElem? (i := 225) rfl), lw_t1 (List.mem_of_getElem? (i := 226) rfl)⟩
theorem lw_p7 : lw_okq (⟨"EventCounters$Reader", "line", "(I)LEventCounters$Item;"⟩, 9) := ⟨⟨by decide +kernel, by decide +kernel⟩, lw_t1 (List.mem_of_getElem? (i := 47) rfl), lw_t2 (List.mem_of_getElem? (i := 38) rfl), lw_t2 (List.mem_of_getElem? (i := 39) rfl)⟩
theorem lw_p8 : lw_okq (⟨"EventCounters$Reader", "number", "(II)I"⟩, 9) := ⟨⟨by decide +kernel, by decide +kernel⟩, lw_t1 (List.mem_of_getElem? (i := 47) rfl), lw_t2 (List.mem_of_getElem? (i := 43) rfl), lw_t2 (List.mem_of_getElem? (i := 44) rfl)⟩
theorem lw_p9 : lw_okq (⟨"EventCounters$Reader", "sign", "()V"⟩, 9) := ⟨⟨by decide +kernel, by decide +kernel⟩, lw_t1 (List.mem_of_getElem? (i := 47) rfl), lw_t2 (List.mem_of_getElem? (i := 74) rfl), lw_t2 (List.mem_of_getElem? (i := 75) rfl)⟩
theorem lw_p10 : lw_okq (⟨"EventCounters$Reader", "loop", "(II)LEventCounters$Item;"⟩, 9) := ⟨⟨by decide +kernel, by decide +kernel⟩, lw_t1 (List.mem_of_getElem? (i := 47) rfl), lw_t2 (List.mem_of_getElem? (i := 78) rfl), lw_t2 (List.mem_of_getElem? (i := 79) rfl)⟩
theorem lw_p11 : lw_okq (⟨"EventCounters$Reader", "adds", "(LEventCounters$Loop;)V"⟩, 9) := ⟨⟨by decide +kernel, by decide +kernel⟩, lw_t1 (List.mem_of_getElem? (i := 47) rfl), lw_t2 (List.mem_of_getElem? (i := 103) rfl), lw_t2 (List.mem_of_getElem? (i := 104) rfl)⟩
theorem lw_p12 : lw_okq (⟨"EventCounters", "lays", "(LEventCounters$Block;)V"⟩, 28) := ⟨⟨by decide +kernel, by decide +kernel⟩, lw_t2 (List.mem_of_getElem? (i := 136) rfl), lw_t2 (List.mem_of_getElem? (i := 134) rfl), lw_t2 (List.mem_of_getElem? (i := 135) rfl)⟩
theorem lw_p13 : lw_okq (⟨"EventCounters", "isLine", "(I)Z"⟩, 28) := ⟨⟨by decide +kernel, by decide +kernel⟩, lw_t2 (List.mem_of_getElem? (i := 136) rfl), lw_t2 (List.mem_of_getElem? (i := 167) rfl), lw_t2 (List.mem_of_getElem? (i := 168) rfl)⟩
theorem lw_p14 : lw_okq (⟨"EventCounters", "isLoop", "(I)Z"⟩, 28) := ⟨⟨by decide +kernel, by decide +kernel⟩, lw_t2 (List.mem_of_getElem? (i := 136) rfl), lw_t2 (List.mem_of_getElem? (i := 202) rfl), lw_t2 (List.mem_of_getElem? (i := 203) rfl)⟩
theorem lw_p15 : lw_okq (⟨"EventCounters", "made", "(II)I"⟩, 28) := ⟨⟨by decide +kernel, by decide +kernel⟩, lw_t2 (List.mem_of_getElem? (i := 136) rfl), lw_t3 (List.mem_of_getElem? (i := 15) rfl), lw_t3 (List.mem_of_getElem? (i := 16) rfl)⟩
def lw_privs_1 : List (MethodName × Nat) := [(⟨"EventCounters$Reader", "next", "()V"⟩, 9), (⟨"EventCounters$Reader", "at", "(I)I"⟩, 9), (⟨"EventCounters$Reader", "must", "(ZI)V"⟩, 9), (⟨"java/lang/NullPointerException", "getExtendedNPEMessage", "()Ljava/lang/String;"⟩, 8), (⟨"java/lang/Throwable", "fillInStackTrace", "(I)Ljava/lang/Throwable;"⟩, 6), (⟨"EventCounters$Reader", "items", "(LEventCounters$Block;II)V"⟩, 9), (⟨"EventCounters$Reader", "isWord", "(Ljava/lang/String;)Z"⟩, 9), (⟨"EventCounters$Reader", "line", "(I)LEventCounters$Item;"⟩, 9), (⟨"EventCounters$Reader", "number", "(II)I"⟩, 9), (⟨"EventCounters$Reader", "sign", "()V"⟩, 9), (⟨"EventCounters$Reader", "loop", "(II)LEventCounters$Item;"⟩, 9), (⟨"EventCounters$Reader", "adds", "(LEventCounters$Loop;)V"⟩, 9), (⟨"EventCounters", "lays", "(LEventCounters$Block;)V"⟩, 28), (⟨"EventCounters", "isLine", "(I)Z"⟩, 28), (⟨"EventCounters", "isLoop", "(I)Z"⟩, 28), (⟨"EventCounters", "made", "(II)I"⟩, 28)]
theorem lw_r1 : ∀ q ∈ lw_privs_1, lw_okq q := List.forall_mem_cons.mpr ⟨lw_p0, List.forall_mem_cons.mpr ⟨lw_p1, List.forall_mem_cons.mpr ⟨lw_p2, List.forall_mem_cons.mpr ⟨lw_p3, List.forall_mem_cons.mpr ⟨lw_p4, List.forall_mem_cons.mpr ⟨lw_p5, List.forall_mem_cons.mpr ⟨lw_p6, List.forall_mem_cons.mpr ⟨lw_p7, List.forall_mem_cons.mpr ⟨lw_p8, List.forall_mem_cons.mpr ⟨lw_p9, List.forall_mem_cons.mpr ⟨lw_p10, List.forall_mem_cons.mpr ⟨lw_p11, List.forall_mem_cons.mpr ⟨lw_p12, List.forall_mem_cons.mpr ⟨lw_p13, List.forall_mem_cons.mpr ⟨lw_p14, List.forall_mem_cons.mpr ⟨lw_p15, fun _ h => absurd h List.not_mem_nil⟩⟩⟩⟩⟩⟩⟩⟩⟩⟩⟩⟩⟩⟩⟩⟩
theorem lw_p16 : lw_okq (⟨"EventCounters", "isCounter", "(I)Z"⟩, 28) := ⟨⟨by decide +kernel, by decide +kernel⟩, lw_t2 (List.mem_of_getElem? (i := 136) rfl), lw_t3 (List.mem_of_getElem? (i := 42) rfl), lw_t3 (List.mem_of_getElem? (i := 43) rfl)⟩
theorem lw_p17 : lw_okq (⟨"EventCounters", "goTogether", "(I)Z"⟩, 28) := ⟨⟨by decide +kernel, by decide +kernel⟩, lw_t2 (List.mem_of_getElem? (i := 136) rfl), lw_t3 (List.mem_of_getElem? (i := 60) rfl), lw_t3 (List.mem_of_getElem? (i := 61) rfl)⟩
theorem lw_p18 : lw_okq (⟨"EventCounters", "canGo", "(II)Z"⟩, 28) := ⟨⟨by decide +kernel, by decide +kernel⟩, lw_t2 (List.mem_of_getElem? (i := 136) rfl), lw_t3 (List.mem_of_getElem? (i := 64) rfl), lw_t3 (List.mem_of_getElem? (i := 65) rfl)⟩
theorem lw_p19 : lw_okq (⟨"EventCounters", "layRounds", "(I)Z"⟩, 28) := ⟨⟨by decide +kernel, by decide +kernel⟩, lw_t2 (List.mem_of_getElem? (i := 136) rfl), lw_t3 (List.mem_of_getElem? (i := 84) rfl), lw_t3 (List.mem_of_getElem? (i := 85) rfl)⟩
theorem lw_p20 : lw_okq (⟨"EventCounters", "laySlices", "(II)V"⟩, 28) := ⟨⟨by decide +kernel, by decide +kernel⟩, lw_t2 (List.mem_of_getElem? (i := 136) rfl), lw_t3 (List.mem_of_getElem? (i := 99) rfl), lw_t3 (List.mem_of_getElem? (i := 100) rfl)⟩
theorem lw_p21 : lw_okq (⟨"EventCounters", "off", "(I)J"⟩, 28) := ⟨⟨by decide +kernel, by decide +kernel⟩, lw_t2 (List.mem_of_getElem? (i := 136) rfl), lw_t3 (List.mem_of_getElem? (i := 110) rfl), lw_t3 (List.mem_of_getElem? (i := 111) rfl)⟩
theorem lw_p22 : lw_okq (⟨"EventCounters", "laySamples", "(IIII)V"⟩, 28) := ⟨⟨by decide +kernel, by decide +kernel⟩, lw_t2 (List.mem_of_getElem? (i := 136) rfl), lw_t3 (List.mem_of_getElem? (i := 126) rfl), lw_t3 (List.mem_of_getElem? (i := 127) rfl)⟩
theorem lw_p23 : lw_okq (⟨"EventCounters", "apart", "(I)J"⟩, 28) := ⟨⟨by decide +kernel, by decide +kernel⟩, lw_t2 (List.mem_of_getElem? (i := 136) rfl), lw_t3 (List.mem_of_getElem? (i := 141) rfl), lw_t3 (List.mem_of_getElem? (i := 142) rfl)⟩
theorem lw_p24 : lw_okq (⟨"EventCounters", "canCount", "(II)Z"⟩, 28) := ⟨⟨by decide +kernel, by decide +kernel⟩, lw_t2 (List.mem_of_getElem? (i := 136) rfl), lw_t3 (List.mem_of_getElem? (i := 157) rfl), lw_t3 (List.mem_of_getElem? (i := 158) rfl)⟩
theorem lw_p25 : lw_okq (⟨"EventCounters", "layLooks", "(III)V"⟩, 28) := ⟨⟨by decide +kernel, by decide +kernel⟩, lw_t2 (List.mem_of_getElem? (i := 136) rfl), lw_t3 (List.mem_of_getElem? (i := 165) rfl), lw_t3 (List.mem_of_getElem? (i := 166) rfl)⟩
theorem lw_p26 : lw_okq (⟨"EventCounters", "isWired", "(III)Z"⟩, 28) := ⟨⟨by decide +kernel, by decide +kernel⟩, lw_t2 (List.mem_of_getElem? (i := 136) rfl), lw_t3 (List.mem_of_getElem? (i := 186) rfl), lw_t3 (List.mem_of_getElem? (i := 187) rfl)⟩
theorem lw_p27 : lw_okq (⟨"EventCountersModel", "freshCounters", "()V"⟩, 56) := ⟨⟨by decide +kernel, by decide +kernel⟩, lw_t4 (List.mem_of_getElem? (i := 186) rfl), lw_t4 (List.mem_of_getElem? (i := 192) rfl), lw_t4 (List.mem_of_getElem? (i := 193) rfl)⟩
theorem lw_p28 : lw_okq (⟨"EventCountersModel", "next", "()V"⟩, 56) := ⟨⟨by decide +kernel, by decide +kernel⟩, lw_t4 (List.mem_of_getElem? (i := 186) rfl), lw_t5 (List.mem_of_getElem? (i := 141) rfl), lw_t5 (List.mem_of_getElem? (i := 142) rfl)⟩
theorem lw_p29 : lw_okq (⟨"EventCountersModel", "look", "(I)I"⟩, 56) := ⟨⟨by decide +kernel, by decide +kernel⟩, lw_t4 (List.mem_of_getElem? (i := 186) rfl), lw_t5 (List.mem_of_getElem? (i := 145) rfl), lw_t5 (List.mem_of_getElem? (i := 146) rfl)⟩
theorem lw_p30 : lw_okq (⟨"EventCountersModel", "wants", "(ZI)V"⟩, 56) := ⟨⟨by decide +kernel, by decide +kernel⟩, lw_t4 (List.mem_of_getElem? (i := 186) rfl), lw_t5 (List.mem_of_getElem? (i := 153) rfl), lw_t5 (List.mem_of_getElem? (i := 154) rfl)⟩
theorem lw_p31 : lw_okq (⟨"EventCountersModel", "readItem", "()V"⟩, 56) := ⟨⟨by decide +kernel, by decide +kernel⟩, lw_t4 (List.mem_of_getElem? (i := 186) rfl), lw_t5 (List.mem_of_getElem? (i := 157) rfl), lw_t5 (List.mem_of_getElem? (i := 158) rfl)⟩
def lw_privs_2 : List (MethodName × Nat) := [(⟨"EventCounters", "isCounter", "(I)Z"⟩, 28), (⟨"EventCounters", "goTogether", "(I)Z"⟩, 28), (⟨"EventCounters", "canGo", "(II)Z"⟩, 28), (⟨"EventCounters", "layRounds", "(I)Z"⟩, 28), (⟨"EventCounters", "laySlices", "(II)V"⟩, 28), (⟨"EventCounters", "off", "(I)J"⟩, 28), (⟨"EventCounters", "laySamples", "(IIII)V"⟩, 28), (⟨"EventCounters", "apart", "(I)J"⟩, 28), (⟨"EventCounters", "canCount", "(II)Z"⟩, 28), (⟨"EventCounters", "layLooks", "(III)V"⟩, 28), (⟨"EventCounters", "isWired", "(III)Z"⟩, 28), (⟨"EventCountersModel", "freshCounters", "()V"⟩, 56), (⟨"EventCountersModel", "next", "()V"⟩, 56), (⟨"EventCountersModel", "look", "(I)I"⟩, 56), (⟨"EventCountersModel", "wants", "(ZI)V"⟩, 56), (⟨"EventCountersModel", "readItem", "()V"⟩, 56)]
theorem lw_r2 : ∀ q ∈ lw_privs_2, lw_okq q := List.forall_mem_cons.mpr ⟨lw_p16, List.forall_mem_cons.mpr ⟨lw_p17, List.forall_mem_cons.mpr ⟨lw_p18, List.forall_mem_cons.mpr ⟨lw_p19, List.forall_mem_cons.mpr ⟨lw_p20, List.forall_mem_cons.mpr ⟨lw_p21, List.forall_mem_cons.mpr ⟨lw_p22, List.forall_mem_cons.mpr ⟨lw_p23, List.forall_mem_cons.mpr ⟨lw_p24, List.forall_mem_cons.mpr ⟨lw_p25, List.forall_mem_cons.mpr ⟨lw_p26, List.forall_mem_cons.mpr ⟨lw_p27, List.forall_mem_cons.mpr ⟨lw_p28, List.forall_mem_cons.mpr ⟨lw_p29, List.forall_mem_cons.mpr ⟨lw_p30, List.forall_mem_cons.mpr ⟨lw_p31, fun _ h => absurd h List.not_mem_nil⟩⟩⟩⟩⟩⟩⟩⟩⟩⟩⟩⟩⟩⟩⟩⟩
theorem lw_p32 : lw_okq (⟨"EventCountersModel", "nameNow", "()I"⟩, 56) := ⟨⟨by decide +kernel, by decide +kernel⟩, lw_t4 (List.mem_of_getElem? (i := 186) rfl), lw_t5 (List.mem_of_getElem? (i := 161) rfl), lw_t5 (List.mem_of_getElem? (i := 162) rfl)⟩
theorem lw_p33 : lw_okq (⟨"EventCountersModel", "is", "(IIIII)Z"⟩, 56) := ⟨⟨by decide +kernel, by decide +kernel⟩, lw_t4 (List.mem_of_getElem? (i := 186) rfl), lw_t5 (List.mem_of_getElem? (i := 165) rfl), lw_t5 (List.mem_of_getElem? (i := 166) rfl)⟩
theorem lw_p34 : lw_okq (⟨"EventCountersModel", "readLine", "()V"⟩, 56) := ⟨⟨by decide +kernel, by decide +kernel⟩, lw_t4 (List.mem_of_getElem? (i := 186) rfl), lw_t5 (List.mem_of_getElem? (i := 169) rfl), lw_t5 (List.mem_of_getElem? (i := 170) rfl)⟩
theorem lw_p35 : lw_okq (⟨"EventCountersModel", "readNumber", "(II)I"⟩, 56) := ⟨⟨by decide +kernel, by decide +kernel⟩, lw_t4 (List.mem_of_getElem? (i := 186) rfl), lw_t5 (List.mem_of_getElem? (i := 173) rfl), lw_t5 (List.mem_of_getElem? (i := 174) rfl)⟩
theorem lw_p36 : lw_okq (⟨"EventCountersModel", "readEvents", "()V"⟩, 56) := ⟨⟨by decide +kernel, by decide +kernel⟩, lw_t4 (List.mem_of_getElem? (i := 186) rfl), lw_t5 (List.mem_of_getElem? (i := 177) rfl), lw_t5 (List.mem_of_getElem? (i := 178) rfl)⟩
theorem lw_p37 : lw_okq (⟨"EventCountersModel", "readLoop", "()V"⟩, 56) := ⟨⟨by decide +kernel, by decide +kernel⟩, lw_t4 (List.mem_of_getElem? (i := 186) rfl), lw_t5 (List.mem_of_getElem? (i := 182) rfl), lw_t5 (List.mem_of_getElem? (i := 183) rfl)⟩
theorem lw_p38 : lw_okq (⟨"EventCountersModel", "readEnd", "()V"⟩, 56) := ⟨⟨by decide +kernel, by decide +kernel⟩, lw_t4 (List.mem_of_getElem? (i := 186) rfl), lw_t5 (List.mem_of_getElem? (i := 186) rfl), lw_t5 (List.mem_of_getElem? (i := 187) rfl)⟩
theorem lw_p39 : lw_okq (⟨"EventCountersModel", "dTimes", "(I)J"⟩, 56) := ⟨⟨by decide +kernel, by decide +kernel⟩, lw_t4 (List.mem_of_getElem? (i := 186) rfl), lw_t5 (List.mem_of_getElem? (i := 190) rfl), lw_t5 (List.mem_of_getElem? (i := 191) rfl)⟩
theorem lw_p40 : lw_okq (⟨"EventCountersModel", "keepProgram", "()V"⟩, 56) := ⟨⟨by decide +kernel, by decide +kernel⟩, lw_t4 (List.mem_of_getElem? (i := 186) rfl), lw_t5 (List.mem_of_getElem? (i := 195) rfl), lw_t5 (List.mem_of_getElem? (i := 196) rfl)⟩
theorem lw_p41 : lw_okq (⟨"EventCountersModel", "walk", "()V"⟩, 56) := ⟨⟨by decide +kernel, by decide +kernel⟩, lw_t4 (List.mem_of_getElem? (i := 186) rfl), lw_t5 (List.mem_of_getElem? (i := 199) rfl), lw_t5 (List.mem_of_getElem? (i := 200) rfl)⟩
theorem lw_p42 : lw_okq (⟨"EventCountersModel", "linesIn", "(I)I"⟩, 56) := ⟨⟨by decide +kernel, by decide +kernel⟩, lw_t4 (List.mem_of_getElem? (i := 186) rfl), lw_t5 (List.mem_of_getElem? (i := 203) rfl), lw_t5 (List.mem_of_getElem? (i := 204) rfl)⟩
theorem lw_p43 : lw_okq (⟨"EventCountersModel", "isWithin", "(II)Z"⟩, 56) := ⟨⟨by decide +kernel, by decide +kernel⟩, lw_t4 (List.mem_of_getElem? (i := 186) rfl), lw_t5 (List.mem_of_getElem? (i := 207) rfl), lw_t5 (List.mem_of_getElem? (i := 208) rfl)⟩
theorem lw_p44 : lw_okq (⟨"EventCountersModel", "isLine", "(I)Z"⟩, 56) := ⟨⟨by decide +kernel, by decide +kernel⟩, lw_t4 (List.mem_of_getElem? (i := 186) rfl), lw_t5 (List.mem_of_getElem? (i := 219) rfl), lw_t5 (List.mem_of_getElem? (i := 220) rfl)⟩
theorem lw_p45 : lw_okq (⟨"EventCountersModel", "made", "(II)I"⟩, 56) := ⟨⟨by decide +kernel, by decide +kernel⟩, lw_t4 (List.mem_of_getElem? (i := 186) rfl), lw_t5 (List.mem_of_getElem? (i := 225) rfl), lw_t5 (List.mem_of_getElem? (i := 226) rfl)⟩
theorem lw_p46 : lw_okq (⟨"EventCountersModel", "depthOf", "(I)I"⟩, 56) := ⟨⟨by decide +kernel, by decide +kernel⟩, lw_t4 (List.mem_of_getElem? (i := 186) rfl), lw_t5 (List.mem_of_getElem? (i := 229) rfl), lw_t5 (List.mem_of_getElem? (i := 230) rfl)⟩
theorem lw_p47 : lw_okq (⟨"EventCountersModel", "total", "(I)I"⟩, 56) := ⟨⟨by decide +kernel, by decide +kernel⟩, lw_t4 (List.mem_of_getElem? (i := 186) rfl), lw_t6 (List.mem_of_getElem? (i := 1) rfl), lw_t6 (List.mem_of_getElem? (i := 2) rfl)⟩
def lw_privs_3 : List (MethodName × Nat) := [(⟨"EventCountersModel", "nameNow", "()I"⟩, 56), (⟨"EventCountersModel", "is", "(IIIII)Z"⟩, 56), (⟨"EventCountersModel", "readLine", "()V"⟩, 56), (⟨"EventCountersModel", "readNumber", "(II)I"⟩, 56), (⟨"EventCountersModel", "readEvents", "()V"⟩, 56), (⟨"EventCountersModel", "readLoop", "()V"⟩, 56), (⟨"EventCountersModel", "readEnd", "()V"⟩, 56), (⟨"EventCountersModel", "dTimes", "(I)J"⟩, 56), (⟨"EventCountersModel", "keepProgram", "()V"⟩, 56), (⟨"EventCountersModel", "walk", "()V"⟩, 56), (⟨"EventCountersModel", "linesIn", "(I)I"⟩, 56), (⟨"EventCountersModel", "isWithin", "(II)Z"⟩, 56), (⟨"EventCountersModel", "isLine", "(I)Z"⟩, 56), (⟨"EventCountersModel", "made", "(II)I"⟩, 56), (⟨"EventCountersModel", "depthOf", "(I)I"⟩, 56), (⟨"EventCountersModel", "total", "(I)I"⟩, 56)]
theorem lw_r3 : ∀ q ∈ lw_privs_3, lw_okq q := List.forall_mem_cons.mpr ⟨lw_p32, List.forall_mem_cons.mpr ⟨lw_p33, List.forall_mem_cons.mpr ⟨lw_p34, List.forall_mem_cons.mpr ⟨lw_p35, List.forall_mem_cons.mpr ⟨lw_p36, List.forall_mem_cons.mpr ⟨lw_p37, List.forall_mem_cons.mpr ⟨lw_p38, List.forall_mem_cons.mpr ⟨lw_p39, List.forall_mem_cons.mpr ⟨lw_p40, List.forall_mem_cons.mpr ⟨lw_p41, List.forall_mem_cons.mpr ⟨lw_p42, List.forall_mem_cons.mpr ⟨lw_p43, List.forall_mem_cons.mpr ⟨lw_p44, List.forall_mem_cons.mpr ⟨lw_p45, List.forall_mem_cons.mpr ⟨lw_p46, List.forall_mem_cons.mpr ⟨lw_p47, fun _ h => absurd h List.not_mem_nil⟩⟩⟩⟩⟩⟩⟩⟩⟩⟩⟩⟩⟩⟩⟩⟩
theorem lw_p48 : lw_okq (⟨"EventCountersModel", "isCounter", "(I)Z"⟩, 56) := ⟨⟨by decide +kernel, by decide +kernel⟩, lw_t4 (List.mem_of_getElem? (i := 186) rfl), lw_t6 (List.mem_of_getElem? (i := 55) rfl), lw_t6 (List.mem_of_getElem? (i := 56) rfl)⟩
theorem lw_p49 : lw_okq (⟨"EventCountersModel", "wayOf", "(I)I"⟩, 56) := ⟨⟨by decide +kernel, by decide +kernel⟩, lw_t4 (List.mem_of_getElem? (i := 186) rfl), lw_t6 (List.mem_of_getElem? (i := 72) rfl), lw_t6 (List.mem_of_getElem? (i := 73) rfl)⟩
theorem lw_p50 : lw_okq (⟨"EventCountersModel", "findRounds", "(I)V"⟩, 56) := ⟨⟨by decide +kernel, by decide +kernel⟩, lw_t4 (List.mem_of_getElem? (i := 186) rfl), lw_t6 (List.mem_of_getElem? (i := 84) rfl), lw_t6 (List.mem_of_getElem? (i := 85) rfl)⟩
theorem lw_p51 : lw_okq (⟨"EventCountersModel", "countsBy", "(III)Z"⟩, 56) := ⟨⟨by decide +kernel, by decide +kernel⟩, lw_t4 (List.mem_of_getElem? (i := 186) rfl), lw_t6 (List.mem_of_getElem? (i := 96) rfl), lw_t6 (List.mem_of_getElem? (i := 97) rfl)⟩
theorem lw_p52 : lw_okq (⟨"EventCountersModel", "countsIn", "(II)V"⟩, 56) := ⟨⟨by decide +kernel, by decide +kernel⟩, lw_t4 (List.mem_of_getElem? (i := 186) rfl), lw_t6 (List.mem_of_getElem? (i := 100) rfl), lw_t6 (List.mem_of_getElem? (i := 101) rfl)⟩
theorem lw_p53 : lw_okq (⟨"EventCountersModel", "findSamples", "(IIII)V"⟩, 56) := ⟨⟨by decide +kernel, by decide +kernel⟩, lw_t4 (List.mem_of_getElem? (i := 186) rfl), lw_t6 (List.mem_of_getElem? (i := 124) rfl), lw_t6 (List.mem_of_getElem? (i := 125) rfl)⟩
theorem lw_p54 : lw_okq (⟨"EventCountersModel", "farNow", "(I)J"⟩, 56) := ⟨⟨by decide +kernel, by decide +kernel⟩, lw_t4 (List.mem_of_getElem? (i := 186) rfl), lw_t6 (List.mem_of_getElem? (i := 139) rfl), lw_t6 (List.mem_of_getElem? (i := 140) rfl)⟩
theorem lw_p55 : lw_okq (⟨"EventCountersModel", "canCount", "(II)Z"⟩, 56) := ⟨⟨by decide +kernel, by decide +kernel⟩, lw_t4 (List.mem_of_getElem? (i := 186) rfl), lw_t6 (List.mem_of_getElem? (i := 155) rfl), lw_t6 (List.mem_of_getElem? (i := 156) rfl)⟩
theorem lw_p56 : lw_okq (⟨"EventCountersModel", "toldBy", "(III)I"⟩, 56) := ⟨⟨by decide +kernel, by decide +kernel⟩, lw_t4 (List.mem_of_getElem? (i := 186) rfl), lw_t6 (List.mem_of_getElem? (i := 163) rfl), lw_t6 (List.mem_of_getElem? (i := 164) rfl)⟩
theorem lw_p57 : lw_okq (⟨"EventCountersModel", "hasRun", "(II)Z"⟩, 56) := ⟨⟨by decide +kernel, by decide +kernel⟩, lw_t4 (List.mem_of_getElem? (i := 186) rfl), lw_t6 (List.mem_of_getElem? (i := 183) rfl), lw_t6 (List.mem_of_getElem? (i := 184) rfl)⟩
theorem lw_p58 : lw_okq (⟨"EventCountersModel", "fits", "(III)Z"⟩, 56) := ⟨⟨by decide +kernel, by decide +kernel⟩, lw_t4 (List.mem_of_getElem? (i := 186) rfl), lw_t6 (List.mem_of_getElem? (i := 187) rfl), lw_t6 (List.mem_of_getElem? (i := 188) rfl)⟩
def lw_privs_4 : List (MethodName × Nat) := [(⟨"EventCountersModel", "isCounter", "(I)Z"⟩, 56), (⟨"EventCountersModel", "wayOf", "(I)I"⟩, 56), (⟨"EventCountersModel", "findRounds", "(I)V"⟩, 56), (⟨"EventCountersModel", "countsBy", "(III)Z"⟩, 56), (⟨"EventCountersModel", "countsIn", "(II)V"⟩, 56), (⟨"EventCountersModel", "findSamples", "(IIII)V"⟩, 56), (⟨"EventCountersModel", "farNow", "(I)J"⟩, 56), (⟨"EventCountersModel", "canCount", "(II)Z"⟩, 56), (⟨"EventCountersModel", "toldBy", "(III)I"⟩, 56), (⟨"EventCountersModel", "hasRun", "(II)Z"⟩, 56), (⟨"EventCountersModel", "fits", "(III)Z"⟩, 56)]
theorem lw_r4 : ∀ q ∈ lw_privs_4, lw_okq q := List.forall_mem_cons.mpr ⟨lw_p48, List.forall_mem_cons.mpr ⟨lw_p49, List.forall_mem_cons.mpr ⟨lw_p50, List.forall_mem_cons.mpr ⟨lw_p51, List.forall_mem_cons.mpr ⟨lw_p52, List.forall_mem_cons.mpr ⟨lw_p53, List.forall_mem_cons.mpr ⟨lw_p54, List.forall_mem_cons.mpr ⟨lw_p55, List.forall_mem_cons.mpr ⟨lw_p56, List.forall_mem_cons.mpr ⟨lw_p57, List.forall_mem_cons.mpr ⟨lw_p58, fun _ h => absurd h List.not_mem_nil⟩⟩⟩⟩⟩⟩⟩⟩⟩⟩⟩
def lw_privs : List (MethodName × Nat) := lw_privs_1 ++ (lw_privs_2 ++ (lw_privs_3 ++ (lw_privs_4)))
def lw_tbl : List Cond := k2_sels lw_privs ++ tables_1
theorem lw_privs_ok : ∀ q ∈ lw_privs, lw_okq q := by
  show ∀ q ∈ lw_privs_1 ++ (lw_privs_2 ++ (lw_privs_3 ++ (lw_privs_4))), lw_okq q
  exact List.forall_mem_append.mpr ⟨lw_r1, List.forall_mem_append.mpr ⟨lw_r2, List.forall_mem_append.mpr ⟨lw_r3, lw_r4⟩⟩⟩
-- ===== ONE list of words for every method: the tables' words that hold all through a run =====
def lw_all : List Cond := lw_tbl.filter goodWord
/-- a word of the tables by its place: claim/WORDS.tsv -/
theorem lw_w {w : Cond} (i : Nat) (h : lw_tbl[i]? = some w) (g : goodWord w = true) : w ∈ lw_all := List.mem_filter.mpr ⟨List.mem_of_getElem? h, g⟩
theorem lw_all_tbl {w : Cond} (h : w ∈ lw_all) : w ∈ lw_tbl := (List.mem_filter.mp h).1
theorem lw_self : GoodIn lw_all lw_all := fun w h => ⟨h, good_of_word (List.mem_filter.mp h).2⟩
/-- a class's field words, by their places -/
theorem lw_in (ws : List Cond) (ps : List Nat) (hp : ws = ps.filterMap (fun i => lw_tbl[i]?)) (hg : ws.all goodWord = true) : ∀ w ∈ ws, w ∈ lw_all := by
  intro w h
  have h1 := List.all_eq_true.mp hg w h
  rw [hp] at h
  obtain ⟨i, -, hi⟩ := List.mem_filterMap.mp h
  exact lw_w i hi h1
/-- the words of a contract for the method y with code b, L locals, answer r -/
abbrev ws_ (y : MethodName) (b : ByteArray) (L : Nat) (r : Option FieldType) : List Cond := Cond.code y b L r :: lw_all
theorem lw_meth {y : MethodName} {b : ByteArray} {L : Nat} {r : Option FieldType} (h : Cond.code y b L r ∈ lw_all) : GoodIn lw_all (ws_ y b L r) := by
  intro w hw
  rcases List.mem_cons.mp hw with e | e
  · rw [e]
    exact lw_self _ h
  · exact lw_self _ e
theorem lw_app {a c : List Cond} (ha : ∀ w ∈ a, w ∈ lw_all) (hc : GoodIn lw_all c) : GoodIn lw_all (a ++ c) := by
  intro w hw
  rcases List.mem_append.mp hw with e | e
  · exact lw_self w (ha w e)
  · exact hc w e
/-- what a call through an object asks: cwV n hts (lw_V ..) -/
theorem lw_V {own : String} {idx : Nat} {C : String} {y : MethodName} {b : ByteArray} {L : Nat} {r : Option FieldType} (h1 : Cond.methodLink own idx y ∈ lw_all) (h2 : Cond.instanceMethod y ∈ lw_all) (h3 : Cond.selects C y y ∈ lw_all) (h4 : Cond.initialized C ∈ lw_all) (h5 : Cond.code y b L r ∈ lw_all) : GoodIn lw_all (wsV own idx C y (ws_ y b L r)) := by
  refine lw_app ?_ (lw_meth h5)
  intro w hw
  simp only [List.mem_cons, List.not_mem_nil, or_false] at hw
  rcases hw with e | e | e | e
  · rw [e]; exact h1
  · rw [e]; exact h2
  · rw [e]; exact h3
  · rw [e]; exact h4
/-- what a static call asks: va_cwS n hts (lw_S ..) -/
theorem lw_S {own : String} {idx : Nat} {y : MethodName} {b : ByteArray} {L : Nat} {r : Option FieldType} (h1 : Cond.methodLink own idx y ∈ lw_all) (h2 : Cond.static y ∈ lw_all) (h3 : Cond.initialized y.cls ∈ lw_all) (h4 : Cond.code y b L r ∈ lw_all) : GoodIn lw_all (va_wsS own idx y (ws_ y b L r)) := by
  refine lw_app ?_ (lw_meth h4)
  intro w hw
  simp only [List.mem_cons, List.not_mem_nil, or_false] at hw
  rcases hw with e | e | e
  · rw [e]; exact h1
  · rw [e]; exact h2
  · rw [e]; exact h3
/-- the words of a contract for a method WITH HANDLERS (hh: its table) -/
abbrev wsW_ (y : MethodName) (b : ByteArray) (L : Nat) (r : Option FieldType) (hh : List (Nat × Nat × Nat × Nat)) : List Cond := Cond.codeWith y b L r hh :: lw_all
theorem lw_methW {y : MethodName} {b : ByteArray} {L : Nat} {r : Option FieldType} {hh : List (Nat × Nat × Nat × Nat)} (h : Cond.codeWith y b L r hh ∈ lw_all) : GoodIn lw_all (wsW_ y b L r hh) := by
  intro w hw
  rcases List.mem_cons.mp hw with e | e
  · rw [e]
    exact lw_self _ h
  · exact lw_self _ e
/-- any list of words by their places (lw_in), good -/
theorem lw_good {ws : List Cond} (h : ∀ w ∈ ws, w ∈ lw_all) : GoodIn lw_all ws := fun w hw => lw_self w (h w hw)
/-- what a call of a method with handlers asks: vx_cwVW n hts (lw_VW ..), vx_cwSW n hts (lw_SW ..) -/
theorem lw_VW {own : String} {idx : Nat} {C : String} {y : MethodName} {b : ByteArray} {L : Nat} {r : Option FieldType} {hh : List (Nat × Nat × Nat × Nat)} (h1 : Cond.methodLink own idx y ∈ lw_all) (h2 : Cond.instanceMethod y ∈ lw_all) (h3 : Cond.selects C y y ∈ lw_all) (h4 : Cond.initialized C ∈ lw_all) (h5 : Cond.codeWith y b L r hh ∈ lw_all) : GoodIn lw_all (wsV own idx C y (wsW_ y b L r hh)) := by
  refine lw_app ?_ (lw_methW h5)
  intro w hw
  simp only [List.mem_cons, List.not_mem_nil, or_false] at hw
  rcases hw with e | e | e | e
  · rw [e]; exact h1
  · rw [e]; exact h2
  · rw [e]; exact h3
  · rw [e]; exact h4
theorem lw_SW {own : String} {idx : Nat} {y : MethodName} {b : ByteArray} {L : Nat} {r : Option FieldType} {hh : List (Nat × Nat × Nat × Nat)} (h1 : Cond.methodLink own idx y ∈ lw_all) (h2 : Cond.static y ∈ lw_all) (h3 : Cond.initialized y.cls ∈ lw_all) (h4 : Cond.codeWith y b L r hh ∈ lw_all) : GoodIn lw_all (va_wsS own idx y (wsW_ y b L r hh)) := by
  refine lw_app ?_ (lw_methW h4)
  intro w hw
  simp only [List.mem_cons, List.not_mem_nil, or_false] at hw
  rcases hw with e | e | e
  · rw [e]; exact h1
  · rw [e]; exact h2
  · rw [e]; exact h3
/-- a word by its place in its run of the tables -/
theorem lw_at {r : List Cond} (hr : ∀ w ∈ r, w ∈ lw_tbl) {w : Cond} (i : Nat) (h : r[i]? = some w) : w ∈ lw_tbl := hr w (List.mem_of_getElem? h)
theorem lw_g {w : Cond} (h : w ∈ lw_tbl) (g : goodWord w = true) : w ∈ lw_all := List.mem_filter.mpr ⟨h, g⟩
theorem lw_ms : ∀ w ∈ k2_sels lw_privs, w ∈ lw_tbl := fun w h => show w ∈ k2_sels lw_privs ++ tables_1 from List.mem_append_left _ h
theorem lw_m1 : ∀ w ∈ tables_1_1, w ∈ lw_tbl := fun w h => show w ∈ k2_sels lw_privs ++ tables_1 from List.mem_append_right (k2_sels lw_privs) (show w ∈ tables_1 from List.mem_append_left _ h)
theorem lw_m2 : ∀ w ∈ tables_1_2, w ∈ lw_tbl := fun w h => show w ∈ k2_sels lw_privs ++ tables_1 from List.mem_append_right (k2_sels lw_privs) (show w ∈ tables_1 from List.mem_append_right _ (List.mem_append_left _ h))
theorem lw_m3 : ∀ w ∈ tables_1_3, w ∈ lw_tbl := fun w h => show w ∈ k2_sels lw_privs ++ tables_1 from List.mem_append_right (k2_sels lw_privs) (show w ∈ tables_1 from List.mem_append_right _ (List.mem_append_right _ (List.mem_append_left _ h)))
theorem lw_m4 : ∀ w ∈ tables_1_4, w ∈ lw_tbl := fun w h => show w ∈ k2_sels lw_privs ++ tables_1 from List.mem_append_right (k2_sels lw_privs) (show w ∈ tables_1 from List.mem_append_right _ (List.mem_append_right _ (List.mem_append_right _ (List.mem_append_left _ h))))
theorem lw_m5 : ∀ w ∈ tables_1_5, w ∈ lw_tbl := fun w h => show w ∈ k2_sels lw_privs ++ tables_1 from List.mem_append_right (k2_sels lw_privs) (show w ∈ tables_1 from List.mem_append_right _ (List.mem_append_right _ (List.mem_append_right _ (List.mem_append_right _ (List.mem_append_left _ h)))))
theorem lw_m6 : ∀ w ∈ tables_1_6, w ∈ lw_tbl := fun w h => show w ∈ k2_sels lw_privs ++ tables_1 from List.mem_append_right (k2_sels lw_privs) (show w ∈ tables_1 from List.mem_append_right _ (List.mem_append_right _ (List.mem_append_right _ (List.mem_append_right _ (List.mem_append_right _ h)))))
theorem qs0 : (Cond.selects "EventCounters$Reader" ⟨"EventCounters$Reader", "next", "()V"⟩ ⟨"EventCounters$Reader", "next", "()V"⟩) ∈ lw_all := lw_g (lw_at lw_ms 0 rfl) rfl
theorem qs1 : (Cond.selects "EventCounters$Reader" ⟨"EventCounters$Reader", "at", "(I)I"⟩ ⟨"EventCounters$Reader", "at", "(I)I"⟩) ∈ lw_all := lw_g (lw_at lw_ms 1 rfl) rfl
theorem qs2 : (Cond.selects "EventCounters$Reader" ⟨"EventCounters$Reader", "must", "(ZI)V"⟩ ⟨"EventCounters$Reader", "must", "(ZI)V"⟩) ∈ lw_all := lw_g (lw_at lw_ms 2 rfl) rfl
theorem qs3 : (Cond.selects "java/lang/NullPointerException" ⟨"java/lang/NullPointerException", "getExtendedNPEMessage", "()Ljava/lang/String;"⟩ ⟨"java/lang/NullPointerException", "getExtendedNPEMessage", "()Ljava/lang/String;"⟩) ∈ lw_all := lw_g (lw_at lw_ms 3 rfl) rfl
theorem qs4 : (Cond.selects "java/lang/Throwable" ⟨"java/lang/Throwable", "fillInStackTrace", "(I)Ljava/lang/Throwable;"⟩ ⟨"java/lang/Throwable", "fillInStackTrace", "(I)Ljava/lang/Throwable;"⟩) ∈ lw_all := lw_g (lw_at lw_ms 4 rfl) rfl
theorem qs5 : (Cond.selects "EventCounters$Reader" ⟨"EventCounters$Reader", "items", "(LEventCounters$Block;II)V"⟩ ⟨"EventCounters$Reader", "items", "(LEventCounters$Block;II)V"⟩) ∈ lw_all := lw_g (lw_at lw_ms 5 rfl) rfl
theorem qs6 : (Cond.selects "EventCounters$Reader" ⟨"EventCounters$Reader", "isWord", "(Ljava/lang/String;)Z"⟩ ⟨"EventCounters$Reader", "isWord", "(Ljava/lang/String;)Z"⟩) ∈ lw_all := lw_g (lw_at lw_ms 6 rfl) rfl
theorem qs7 : (Cond.selects "EventCounters$Reader" ⟨"EventCounters$Reader", "line", "(I)LEventCounters$Item;"⟩ ⟨"EventCounters$Reader", "line", "(I)LEventCounters$Item;"⟩) ∈ lw_all := lw_g (lw_at lw_ms 7 rfl) rfl
theorem qs8 : (Cond.selects "EventCounters$Reader" ⟨"EventCounters$Reader", "number", "(II)I"⟩ ⟨"EventCounters$Reader", "number", "(II)I"⟩) ∈ lw_all := lw_g (lw_at lw_ms 8 rfl) rfl
theorem qs9 : (Cond.selects "EventCounters$Reader" ⟨"EventCounters$Reader", "sign", "()V"⟩ ⟨"EventCounters$Reader", "sign", "()V"⟩) ∈ lw_all := lw_g (lw_at lw_ms 9 rfl) rfl
theorem qs10 : (Cond.selects "EventCounters$Reader" ⟨"EventCounters$Reader", "loop", "(II)LEventCounters$Item;"⟩ ⟨"EventCounters$Reader", "loop", "(II)LEventCounters$Item;"⟩) ∈ lw_all := lw_g (lw_at lw_ms 10 rfl) rfl
theorem qs11 : (Cond.selects "EventCounters$Reader" ⟨"EventCounters$Reader", "adds", "(LEventCounters$Loop;)V"⟩ ⟨"EventCounters$Reader", "adds", "(LEventCounters$Loop;)V"⟩) ∈ lw_all := lw_g (lw_at lw_ms 11 rfl) rfl
theorem qs12 : (Cond.selects "EventCounters" ⟨"EventCounters", "lays", "(LEventCounters$Block;)V"⟩ ⟨"EventCounters", "lays", "(LEventCounters$Block;)V"⟩) ∈ lw_all := lw_g (lw_at lw_ms 12 rfl) rfl
theorem qs13 : (Cond.selects "EventCounters" ⟨"EventCounters", "isLine", "(I)Z"⟩ ⟨"EventCounters", "isLine", "(I)Z"⟩) ∈ lw_all := lw_g (lw_at lw_ms 13 rfl) rfl
theorem qs14 : (Cond.selects "EventCounters" ⟨"EventCounters", "isLoop", "(I)Z"⟩ ⟨"EventCounters", "isLoop", "(I)Z"⟩) ∈ lw_all := lw_g (lw_at lw_ms 14 rfl) rfl
theorem qs15 : (Cond.selects "EventCounters" ⟨"EventCounters", "made", "(II)I"⟩ ⟨"EventCounters", "made", "(II)I"⟩) ∈ lw_all := lw_g (lw_at lw_ms 15 rfl) rfl
theorem qs16 : (Cond.selects "EventCounters" ⟨"EventCounters", "isCounter", "(I)Z"⟩ ⟨"EventCounters", "isCounter", "(I)Z"⟩) ∈ lw_all := lw_g (lw_at lw_ms 16 rfl) rfl
theorem qs17 : (Cond.selects "EventCounters" ⟨"EventCounters", "goTogether", "(I)Z"⟩ ⟨"EventCounters", "goTogether", "(I)Z"⟩) ∈ lw_all := lw_g (lw_at lw_ms 17 rfl) rfl
theorem qs18 : (Cond.selects "EventCounters" ⟨"EventCounters", "canGo", "(II)Z"⟩ ⟨"EventCounters", "canGo", "(II)Z"⟩) ∈ lw_all := lw_g (lw_at lw_ms 18 rfl) rfl
theorem qs19 : (Cond.selects "EventCounters" ⟨"EventCounters", "layRounds", "(I)Z"⟩ ⟨"EventCounters", "layRounds", "(I)Z"⟩) ∈ lw_all := lw_g (lw_at lw_ms 19 rfl) rfl
theorem qs20 : (Cond.selects "EventCounters" ⟨"EventCounters", "laySlices", "(II)V"⟩ ⟨"EventCounters", "laySlices", "(II)V"⟩) ∈ lw_all := lw_g (lw_at lw_ms 20 rfl) rfl
theorem qs21 : (Cond.selects "EventCounters" ⟨"EventCounters", "off", "(I)J"⟩ ⟨"EventCounters", "off", "(I)J"⟩) ∈ lw_all := lw_g (lw_at lw_ms 21 rfl) rfl
theorem qs22 : (Cond.selects "EventCounters" ⟨"EventCounters", "laySamples", "(IIII)V"⟩ ⟨"EventCounters", "laySamples", "(IIII)V"⟩) ∈ lw_all := lw_g (lw_at lw_ms 22 rfl) rfl
theorem qs23 : (Cond.selects "EventCounters" ⟨"EventCounters", "apart", "(I)J"⟩ ⟨"EventCounters", "apart", "(I)J"⟩) ∈ lw_all := lw_g (lw_at lw_ms 23 rfl) rfl
theorem qs24 : (Cond.selects "EventCounters" ⟨"EventCounters", "canCount", "(II)Z"⟩ ⟨"EventCounters", "canCount", "(II)Z"⟩) ∈ lw_all := lw_g (lw_at lw_ms 24 rfl) rfl
theorem qs25 : (Cond.selects "EventCounters" ⟨"EventCounters", "layLooks", "(III)V"⟩ ⟨"EventCounters", "layLooks", "(III)V"⟩) ∈ lw_all := lw_g (lw_at lw_ms 25 rfl) rfl
theorem qs26 : (Cond.selects "EventCounters" ⟨"EventCounters", "isWired", "(III)Z"⟩ ⟨"EventCounters", "isWired", "(III)Z"⟩) ∈ lw_all := lw_g (lw_at lw_ms 26 rfl) rfl
theorem qs27 : (Cond.selects "EventCountersModel" ⟨"EventCountersModel", "freshCounters", "()V"⟩ ⟨"EventCountersModel", "freshCounters", "()V"⟩) ∈ lw_all := lw_g (lw_at lw_ms 27 rfl) rfl
theorem qs28 : (Cond.selects "EventCountersModel" ⟨"EventCountersModel", "next", "()V"⟩ ⟨"EventCountersModel", "next", "()V"⟩) ∈ lw_all := lw_g (lw_at lw_ms 28 rfl) rfl
theorem qs29 : (Cond.selects "EventCountersModel" ⟨"EventCountersModel", "look", "(I)I"⟩ ⟨"EventCountersModel", "look", "(I)I"⟩) ∈ lw_all := lw_g (lw_at lw_ms 29 rfl) rfl
theorem qs30 : (Cond.selects "EventCountersModel" ⟨"EventCountersModel", "wants", "(ZI)V"⟩ ⟨"EventCountersModel", "wants", "(ZI)V"⟩) ∈ lw_all := lw_g (lw_at lw_ms 30 rfl) rfl
theorem qs31 : (Cond.selects "EventCountersModel" ⟨"EventCountersModel", "readItem", "()V"⟩ ⟨"EventCountersModel", "readItem", "()V"⟩) ∈ lw_all := lw_g (lw_at lw_ms 31 rfl) rfl
theorem qs32 : (Cond.selects "EventCountersModel" ⟨"EventCountersModel", "nameNow", "()I"⟩ ⟨"EventCountersModel", "nameNow", "()I"⟩) ∈ lw_all := lw_g (lw_at lw_ms 32 rfl) rfl
theorem qs33 : (Cond.selects "EventCountersModel" ⟨"EventCountersModel", "is", "(IIIII)Z"⟩ ⟨"EventCountersModel", "is", "(IIIII)Z"⟩) ∈ lw_all := lw_g (lw_at lw_ms 33 rfl) rfl
theorem qs34 : (Cond.selects "EventCountersModel" ⟨"EventCountersModel", "readLine", "()V"⟩ ⟨"EventCountersModel", "readLine", "()V"⟩) ∈ lw_all := lw_g (lw_at lw_ms 34 rfl) rfl
theorem qs35 : (Cond.selects "EventCountersModel" ⟨"EventCountersModel", "readNumber", "(II)I"⟩ ⟨"EventCountersModel", "readNumber", "(II)I"⟩) ∈ lw_all := lw_g (lw_at lw_ms 35 rfl) rfl
theorem qs36 : (Cond.selects "EventCountersModel" ⟨"EventCountersModel", "readEvents", "()V"⟩ ⟨"EventCountersModel", "readEvents", "()V"⟩) ∈ lw_all := lw_g (lw_at lw_ms 36 rfl) rfl
theorem qs37 : (Cond.selects "EventCountersModel" ⟨"EventCountersModel", "readLoop", "()V"⟩ ⟨"EventCountersModel", "readLoop", "()V"⟩) ∈ lw_all := lw_g (lw_at lw_ms 37 rfl) rfl
theorem qs38 : (Cond.selects "EventCountersModel" ⟨"EventCountersModel", "readEnd", "()V"⟩ ⟨"EventCountersModel", "readEnd", "()V"⟩) ∈ lw_all := lw_g (lw_at lw_ms 38 rfl) rfl
theorem qs39 : (Cond.selects "EventCountersModel" ⟨"EventCountersModel", "dTimes", "(I)J"⟩ ⟨"EventCountersModel", "dTimes", "(I)J"⟩) ∈ lw_all := lw_g (lw_at lw_ms 39 rfl) rfl
theorem qs40 : (Cond.selects "EventCountersModel" ⟨"EventCountersModel", "keepProgram", "()V"⟩ ⟨"EventCountersModel", "keepProgram", "()V"⟩) ∈ lw_all := lw_g (lw_at lw_ms 40 rfl) rfl
theorem qs41 : (Cond.selects "EventCountersModel" ⟨"EventCountersModel", "walk", "()V"⟩ ⟨"EventCountersModel", "walk", "()V"⟩) ∈ lw_all := lw_g (lw_at lw_ms 41 rfl) rfl
theorem qs42 : (Cond.selects "EventCountersModel" ⟨"EventCountersModel", "linesIn", "(I)I"⟩ ⟨"EventCountersModel", "linesIn", "(I)I"⟩) ∈ lw_all := lw_g (lw_at lw_ms 42 rfl) rfl
theorem qs43 : (Cond.selects "EventCountersModel" ⟨"EventCountersModel", "isWithin", "(II)Z"⟩ ⟨"EventCountersModel", "isWithin", "(II)Z"⟩) ∈ lw_all := lw_g (lw_at lw_ms 43 rfl) rfl
theorem qs44 : (Cond.selects "EventCountersModel" ⟨"EventCountersModel", "isLine", "(I)Z"⟩ ⟨"EventCountersModel", "isLine", "(I)Z"⟩) ∈ lw_all := lw_g (lw_at lw_ms 44 rfl) rfl
theorem qs45 : (Cond.selects "EventCountersModel" ⟨"EventCountersModel", "made", "(II)I"⟩ ⟨"EventCountersModel", "made", "(II)I"⟩) ∈ lw_all := lw_g (lw_at lw_ms 45 rfl) rfl
theorem qs46 : (Cond.selects "EventCountersModel" ⟨"EventCountersModel", "depthOf", "(I)I"⟩ ⟨"EventCountersModel", "depthOf", "(I)I"⟩) ∈ lw_all := lw_g (lw_at lw_ms 46 rfl) rfl
theorem qs47 : (Cond.selects "EventCountersModel" ⟨"EventCountersModel", "total", "(I)I"⟩ ⟨"EventCountersModel", "total", "(I)I"⟩) ∈ lw_all := lw_g (lw_at lw_ms 47 rfl) rfl
theorem qs48 : (Cond.selects "EventCountersModel" ⟨"EventCountersModel", "isCounter", "(I)Z"⟩ ⟨"EventCountersModel", "isCounter", "(I)Z"⟩) ∈ lw_all := lw_g (lw_at lw_ms 48 rfl) rfl
theorem qs49 : (Cond.selects "EventCountersModel" ⟨"EventCountersModel", "wayOf", "(I)I"⟩ ⟨"EventCountersModel", "wayOf", "(I)I"⟩) ∈ lw_all := lw_g (lw_at lw_ms 49 rfl) rfl
theorem qs50 : (Cond.selects "EventCountersModel" ⟨"EventCountersModel", "findRounds", "(I)V"⟩ ⟨"EventCountersModel", "findRounds", "(I)V"⟩) ∈ lw_all := lw_g (lw_at lw_ms 50 rfl) rfl
theorem qs51 : (Cond.selects "EventCountersModel" ⟨"EventCountersModel", "countsBy", "(III)Z"⟩ ⟨"EventCountersModel", "countsBy", "(III)Z"⟩) ∈ lw_all := lw_g (lw_at lw_ms 51 rfl) rfl
theorem qs52 : (Cond.selects "EventCountersModel" ⟨"EventCountersModel", "countsIn", "(II)V"⟩ ⟨"EventCountersModel", "countsIn", "(II)V"⟩) ∈ lw_all := lw_g (lw_at lw_ms 52 rfl) rfl
theorem qs53 : (Cond.selects "EventCountersModel" ⟨"EventCountersModel", "findSamples", "(IIII)V"⟩ ⟨"EventCountersModel", "findSamples", "(IIII)V"⟩) ∈ lw_all := lw_g (lw_at lw_ms 53 rfl) rfl
theorem qs54 : (Cond.selects "EventCountersModel" ⟨"EventCountersModel", "farNow", "(I)J"⟩ ⟨"EventCountersModel", "farNow", "(I)J"⟩) ∈ lw_all := lw_g (lw_at lw_ms 54 rfl) rfl
theorem qs55 : (Cond.selects "EventCountersModel" ⟨"EventCountersModel", "canCount", "(II)Z"⟩ ⟨"EventCountersModel", "canCount", "(II)Z"⟩) ∈ lw_all := lw_g (lw_at lw_ms 55 rfl) rfl
theorem qs56 : (Cond.selects "EventCountersModel" ⟨"EventCountersModel", "toldBy", "(III)I"⟩ ⟨"EventCountersModel", "toldBy", "(III)I"⟩) ∈ lw_all := lw_g (lw_at lw_ms 56 rfl) rfl
theorem qs57 : (Cond.selects "EventCountersModel" ⟨"EventCountersModel", "hasRun", "(II)Z"⟩ ⟨"EventCountersModel", "hasRun", "(II)Z"⟩) ∈ lw_all := lw_g (lw_at lw_ms 57 rfl) rfl
theorem qs58 : (Cond.selects "EventCountersModel" ⟨"EventCountersModel", "fits", "(III)Z"⟩ ⟨"EventCountersModel", "fits", "(III)Z"⟩) ∈ lw_all := lw_g (lw_at lw_ms 58 rfl) rfl
