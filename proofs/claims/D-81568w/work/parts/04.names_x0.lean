/-! EventCounters -/
set_option maxRecDepth 100000
def RX0 : String := "EventCounters"
def TX0 : u_T := fun k => match k with
  | 0 => ("EventCounters", "tape", "[B", true)
  | 1 => ("EventCounters", "taped", "I", false)
  | 2 => ("EventCounters", "fault", "I", false)
  | 3 => ("EventCounters", "lines", "[LEventCounters$Line;", false)
  | 4 => ("EventCounters", "lineMany", "I", false)
  | 5 => ("EventCounters", "loops", "[LEventCounters$Loop;", false)
  | 6 => ("EventCounters", "loopMany", "I", false)
  | 7 => ("EventCounters", "steps", "[I", true)
  | 8 => ("EventCounters", "stepMany", "I", false)
  | 9 => ("EventCounters", "ticks", "I", false)
  | 10 => ("EventCounters", "totals", "[I", true)
  | 11 => ("EventCounters", "keptMade", "[[I", true)
  | 12 => ("EventCounters", "counterMany", "I", false)
  | 13 => ("EventCounters", "counters", "[LEventCounters$Counter;", true)
  | 14 => ("EventCounters", "can", "[Z", true)
  | 15 => ("EventCounters", "fewest", "[I", true)
  | 16 => ("EventCounters", "rounds", "[I", true)
  | 17 => ("EventCounters", "roundMany", "I", false)
  | 18 => ("EventCounters", "counted", "I", false)
  | 19 => ("EventCounters", "countedTicks", "I", false)
  | 20 => ("EventCounters", "shown", "[I", true)
  | 21 => ("EventCounters", "shownMany", "I", false)
  | 22 => ("EventCounters", "lostMany", "I", false)
  | 23 => ("EventCounters", "toldMany", "I", false)
  | 24 => ("EventCounters", "looks", "I", false)
  | 25 => ("EventCounters", "runs", "[[I", true)
  | 26 => ("EventCounters", "runMany", "I", false)
  | _ => ("EventCounters", "sheets", "[LEventCounters$Sheet;", true)
def tyX0 : Nat → FieldType := fun k => match k with
  | 0 => .array .byte
  | 1 => .int
  | 2 => .int
  | 3 => .array (.object "EventCounters$Line")
  | 4 => .int
  | 5 => .array (.object "EventCounters$Loop")
  | 6 => .int
  | 7 => .array .int
  | 8 => .int
  | 9 => .int
  | 10 => .array .int
  | 11 => .array (.array .int)
  | 12 => .int
  | 13 => .array (.object "EventCounters$Counter")
  | 14 => .array .boolean
  | 15 => .array .int
  | 16 => .array .int
  | 17 => .int
  | 18 => .int
  | 19 => .int
  | 20 => .array .int
  | 21 => .int
  | 22 => .int
  | 23 => .int
  | 24 => .int
  | 25 => .array (.array .int)
  | 26 => .int
  | _ => .array (.object "EventCounters$Sheet")
abbrev wsX00 : List Cond := u_ws RX0 TX0 28
set_option maxRecDepth 100000 in
theorem nmX0 : ∀ a, a < 28 → ∀ b, b < 28 → a ≠ b → (TX0 a).2.1 ≠ (TX0 b).2.1 := by decide +kernel
set_option maxRecDepth 100000 in
theorem tyX0_ok : ∀ k, k < 28 → parseFieldDescriptor (TX0 k).2.2.1 = some (tyX0 k) := by decide +kernel
abbrev cX0_feed : ByteArray := prog_1_method_4_code
def yX0_feed : MethodName := ⟨RX0, "feed", "(J)I"⟩
def dkwX0_feed_2 : List UInt8 := [132, 3, 248, 167, 255, 225, 42, 180, 0, 13, 172]
abbrev dktX0_feed_2 : List UInt8 := dkwX0_feed_2 ++ []
def dkwX0_feed_1 : List UInt8 := [180, 0, 17, 42, 180, 0, 13, 31, 29, 123, 136, 145, 84, 42, 89, 180, 0, 13, 4, 96, 181, 0, 13]
abbrev dktX0_feed_1 : List UInt8 := dkwX0_feed_1 ++ dktX0_feed_2
def dkwX0_feed_0 : List UInt8 := [42, 180, 0, 13, 16, 8, 96, 17, 1, 64, 164, 0, 6, 16, 253, 172, 16, 56, 62, 29, 155, 0, 33, 42]
abbrev dktX0_feed_0 : List UInt8 := dkwX0_feed_0 ++ dktX0_feed_1
theorem dksX0_feed_0 : cX0_feed.data.toList.drop 0 = dktX0_feed_0 := by decide +kernel
theorem dksX0_feed_1 : cX0_feed.data.toList.drop 24 = dktX0_feed_1 := dk_seg dksX0_feed_0 24 rfl rfl
theorem dksX0_feed_2 : cX0_feed.data.toList.drop 47 = dktX0_feed_2 := dk_seg dksX0_feed_1 23 rfl rfl
theorem dX0_feed_0 : decode cX0_feed 0 = .ok (.aload_n 0, 1) := dk_42 (dk_at dksX0_feed_0 0 rfl rfl)
theorem dX0_feed_1 : decode cX0_feed 1 = .ok (.getfield 13, 3) := dk_180 0 13 (dk_at dksX0_feed_0 1 rfl rfl)
theorem dX0_feed_4 : decode cX0_feed 4 = .ok (.bipush 8, 2) := dk_16 8 (dk_at dksX0_feed_0 4 rfl rfl)
theorem dX0_feed_6 : decode cX0_feed 6 = .ok (.iadd, 1) := dk_96 (dk_at dksX0_feed_0 6 rfl rfl)
theorem dX0_feed_7 : decode cX0_feed 7 = .ok (.sipush 320, 3) := dk_17 1 64 (dk_at dksX0_feed_0 7 rfl rfl)
theorem dX0_feed_10 : decode cX0_feed 10 = .ok (.if_icmp .le 6, 3) := dk_164 0 6 (dk_at dksX0_feed_0 10 rfl rfl)
theorem dX0_feed_13 : decode cX0_feed 13 = .ok (.bipush (-3), 2) := dk_16 253 (dk_at dksX0_feed_0 13 rfl rfl)
theorem dX0_feed_15 : decode cX0_feed 15 = .ok (.ireturn, 1) := dk_172 (dk_at dksX0_feed_0 15 rfl rfl)
theorem dX0_feed_16 : decode cX0_feed 16 = .ok (.bipush 56, 2) := dk_16 56 (dk_at dksX0_feed_0 16 rfl rfl)
theorem dX0_feed_18 : decode cX0_feed 18 = .ok (.istore_n 3, 1) := dk_62 (dk_at dksX0_feed_0 18 rfl rfl)
theorem dX0_feed_19 : decode cX0_feed 19 = .ok (.iload_n 3, 1) := dk_29 (dk_at dksX0_feed_0 19 rfl rfl)
theorem dX0_feed_20 : decode cX0_feed 20 = .ok (.ifCond .lt 33, 3) := dk_155 0 33 (dk_at dksX0_feed_0 20 rfl rfl)
theorem dX0_feed_23 : decode cX0_feed 23 = .ok (.aload_n 0, 1) := dk_42 (dk_at dksX0_feed_0 23 rfl rfl)
theorem dX0_feed_24 : decode cX0_feed 24 = .ok (.getfield 17, 3) := dk_180 0 17 (dk_at dksX0_feed_1 0 rfl rfl)
theorem dX0_feed_27 : decode cX0_feed 27 = .ok (.aload_n 0, 1) := dk_42 (dk_at dksX0_feed_1 3 rfl rfl)
theorem dX0_feed_28 : decode cX0_feed 28 = .ok (.getfield 13, 3) := dk_180 0 13 (dk_at dksX0_feed_1 4 rfl rfl)
theorem dX0_feed_31 : decode cX0_feed 31 = .ok (.lload_n 1, 1) := dk_31 (dk_at dksX0_feed_1 7 rfl rfl)
theorem dX0_feed_32 : decode cX0_feed 32 = .ok (.iload_n 3, 1) := dk_29 (dk_at dksX0_feed_1 8 rfl rfl)
theorem dX0_feed_33 : decode cX0_feed 33 = .ok (.lshr, 1) := dk_123 (dk_at dksX0_feed_1 9 rfl rfl)
theorem dX0_feed_34 : decode cX0_feed 34 = .ok (.l2i, 1) := dk_136 (dk_at dksX0_feed_1 10 rfl rfl)
theorem dX0_feed_35 : decode cX0_feed 35 = .ok (.i2b, 1) := dk_145 (dk_at dksX0_feed_1 11 rfl rfl)
theorem dX0_feed_36 : decode cX0_feed 36 = .ok (.bastore, 1) := dk_84 (dk_at dksX0_feed_1 12 rfl rfl)
theorem dX0_feed_37 : decode cX0_feed 37 = .ok (.aload_n 0, 1) := dk_42 (dk_at dksX0_feed_1 13 rfl rfl)
theorem dX0_feed_38 : decode cX0_feed 38 = .ok (.dup, 1) := dk_89 (dk_at dksX0_feed_1 14 rfl rfl)
theorem dX0_feed_39 : decode cX0_feed 39 = .ok (.getfield 13, 3) := dk_180 0 13 (dk_at dksX0_feed_1 15 rfl rfl)
theorem dX0_feed_42 : decode cX0_feed 42 = .ok (.iconst 1, 1) := dk_4 (dk_at dksX0_feed_1 18 rfl rfl)
theorem dX0_feed_43 : decode cX0_feed 43 = .ok (.iadd, 1) := dk_96 (dk_at dksX0_feed_1 19 rfl rfl)
theorem dX0_feed_44 : decode cX0_feed 44 = .ok (.putfield 13, 3) := dk_181 0 13 (dk_at dksX0_feed_1 20 rfl rfl)
theorem dX0_feed_47 : decode cX0_feed 47 = .ok (.iinc 3 (-8), 3) := dk_132 3 248 (dk_at dksX0_feed_2 0 rfl rfl)
theorem dX0_feed_50 : decode cX0_feed 50 = .ok (.goto (-31), 3) := dk_167 255 225 (dk_at dksX0_feed_2 3 rfl rfl)
theorem dX0_feed_53 : decode cX0_feed 53 = .ok (.aload_n 0, 1) := dk_42 (dk_at dksX0_feed_2 6 rfl rfl)
theorem dX0_feed_54 : decode cX0_feed 54 = .ok (.getfield 13, 3) := dk_180 0 13 (dk_at dksX0_feed_2 7 rfl rfl)
theorem dX0_feed_57 : decode cX0_feed 57 = .ok (.ireturn, 1) := dk_172 (dk_at dksX0_feed_2 10 rfl rfl)
abbrev cX0_end : ByteArray := prog_1_method_5_code
def yX0_end : MethodName := ⟨RX0, "end", "(I)I"⟩
def dkwX0_end_1 : List UInt8 := [181, 0, 13, 28, 172]
abbrev dktX0_end_1 : List UInt8 := dkwX0_end_1 ++ []
def dkwX0_end_0 : List UInt8 := [27, 133, 9, 42, 180, 0, 13, 133, 184, 0, 21, 154, 0, 5, 2, 172, 42, 180, 0, 13, 61, 42, 27]
abbrev dktX0_end_0 : List UInt8 := dkwX0_end_0 ++ dktX0_end_1
theorem dksX0_end_0 : cX0_end.data.toList.drop 0 = dktX0_end_0 := by decide +kernel
theorem dksX0_end_1 : cX0_end.data.toList.drop 23 = dktX0_end_1 := dk_seg dksX0_end_0 23 rfl rfl
theorem dX0_end_0 : decode cX0_end 0 = .ok (.iload_n 1, 1) := dk_27 (dk_at dksX0_end_0 0 rfl rfl)
theorem dX0_end_1 : decode cX0_end 1 = .ok (.i2l, 1) := dk_133 (dk_at dksX0_end_0 1 rfl rfl)
theorem dX0_end_2 : decode cX0_end 2 = .ok (.lconst 0, 1) := dk_9 (dk_at dksX0_end_0 2 rfl rfl)
theorem dX0_end_3 : decode cX0_end 3 = .ok (.aload_n 0, 1) := dk_42 (dk_at dksX0_end_0 3 rfl rfl)
theorem dX0_end_4 : decode cX0_end 4 = .ok (.getfield 13, 3) := dk_180 0 13 (dk_at dksX0_end_0 4 rfl rfl)
theorem dX0_end_7 : decode cX0_end 7 = .ok (.i2l, 1) := dk_133 (dk_at dksX0_end_0 7 rfl rfl)
theorem dX0_end_8 : decode cX0_end 8 = .ok (.invokestatic 21, 3) := dk_184 0 21 (dk_at dksX0_end_0 8 rfl rfl)
theorem dX0_end_11 : decode cX0_end 11 = .ok (.ifCond .ne 5, 3) := dk_154 0 5 (dk_at dksX0_end_0 11 rfl rfl)
theorem dX0_end_14 : decode cX0_end 14 = .ok (.iconst (-1), 1) := dk_2 (dk_at dksX0_end_0 14 rfl rfl)
theorem dX0_end_15 : decode cX0_end 15 = .ok (.ireturn, 1) := dk_172 (dk_at dksX0_end_0 15 rfl rfl)
theorem dX0_end_16 : decode cX0_end 16 = .ok (.aload_n 0, 1) := dk_42 (dk_at dksX0_end_0 16 rfl rfl)
theorem dX0_end_17 : decode cX0_end 17 = .ok (.getfield 13, 3) := dk_180 0 13 (dk_at dksX0_end_0 17 rfl rfl)
theorem dX0_end_20 : decode cX0_end 20 = .ok (.istore_n 2, 1) := dk_61 (dk_at dksX0_end_0 20 rfl rfl)
theorem dX0_end_21 : decode cX0_end 21 = .ok (.aload_n 0, 1) := dk_42 (dk_at dksX0_end_0 21 rfl rfl)
theorem dX0_end_22 : decode cX0_end 22 = .ok (.iload_n 1, 1) := dk_27 (dk_at dksX0_end_0 22 rfl rfl)
theorem dX0_end_23 : decode cX0_end 23 = .ok (.putfield 13, 3) := dk_181 0 13 (dk_at dksX0_end_1 0 rfl rfl)
theorem dX0_end_26 : decode cX0_end 26 = .ok (.iload_n 2, 1) := dk_28 (dk_at dksX0_end_1 3 rfl rfl)
theorem dX0_end_27 : decode cX0_end 27 = .ok (.ireturn, 1) := dk_172 (dk_at dksX0_end_1 4 rfl rfl)
abbrev cX0_isIn : ByteArray := prog_1_method_1_code
def yX0_isIn : MethodName := ⟨RX0, "isIn", "(JJJ)Z"⟩
def dkwX0_isIn_0 : List UInt8 := [30, 32, 148, 155, 0, 14, 30, 22, 4, 148, 157, 0, 7, 4, 167, 0, 4, 3, 172]
abbrev dktX0_isIn_0 : List UInt8 := dkwX0_isIn_0 ++ []
theorem dksX0_isIn_0 : cX0_isIn.data.toList.drop 0 = dktX0_isIn_0 := by decide +kernel
theorem dX0_isIn_0 : decode cX0_isIn 0 = .ok (.lload_n 0, 1) := dk_30 (dk_at dksX0_isIn_0 0 rfl rfl)
theorem dX0_isIn_1 : decode cX0_isIn 1 = .ok (.lload_n 2, 1) := dk_32 (dk_at dksX0_isIn_0 1 rfl rfl)
theorem dX0_isIn_2 : decode cX0_isIn 2 = .ok (.lcmp, 1) := dk_148 (dk_at dksX0_isIn_0 2 rfl rfl)
theorem dX0_isIn_3 : decode cX0_isIn 3 = .ok (.ifCond .lt 14, 3) := dk_155 0 14 (dk_at dksX0_isIn_0 3 rfl rfl)
theorem dX0_isIn_6 : decode cX0_isIn 6 = .ok (.lload_n 0, 1) := dk_30 (dk_at dksX0_isIn_0 6 rfl rfl)
theorem dX0_isIn_7 : decode cX0_isIn 7 = .ok (.lload 4, 2) := dk_22 4 (dk_at dksX0_isIn_0 7 rfl rfl)
theorem dX0_isIn_9 : decode cX0_isIn 9 = .ok (.lcmp, 1) := dk_148 (dk_at dksX0_isIn_0 9 rfl rfl)
theorem dX0_isIn_10 : decode cX0_isIn 10 = .ok (.ifCond .gt 7, 3) := dk_157 0 7 (dk_at dksX0_isIn_0 10 rfl rfl)
theorem dX0_isIn_13 : decode cX0_isIn 13 = .ok (.iconst 1, 1) := dk_4 (dk_at dksX0_isIn_0 13 rfl rfl)
theorem dX0_isIn_14 : decode cX0_isIn 14 = .ok (.goto 4, 3) := dk_167 0 4 (dk_at dksX0_isIn_0 14 rfl rfl)
theorem dX0_isIn_17 : decode cX0_isIn 17 = .ok (.iconst 0, 1) := dk_3 (dk_at dksX0_isIn_0 17 rfl rfl)
theorem dX0_isIn_18 : decode cX0_isIn 18 = .ok (.ireturn, 1) := dk_172 (dk_at dksX0_isIn_0 18 rfl rfl)
abbrev cX0_program : ByteArray := prog_1_method_7_code
def yX0_program : MethodName := ⟨RX0, "program", "()I"⟩
def dkwX0_program_4 : List UInt8 := [42, 44, 180, 0, 106, 181, 0, 101, 16, 246, 44, 180, 0, 109, 100, 172]
abbrev dktX0_program_4 : List UInt8 := dkwX0_program_4 ++ []
def dkwX0_program_3 : List UInt8 := [181, 0, 94, 42, 45, 182, 0, 95, 42, 3, 181, 0, 98, 42, 3, 181, 0, 101, 42, 180, 0, 50, 172, 77]
abbrev dktX0_program_3 : List UInt8 := dkwX0_program_3 ++ dktX0_program_4
def dkwX0_program_2 : List UInt8 := [181, 0, 53, 42, 44, 180, 0, 83, 181, 0, 50, 42, 44, 180, 0, 86, 181, 0, 90, 42, 44, 180, 0, 91]
abbrev dktX0_program_2 : List UInt8 := dkwX0_program_2 ++ dktX0_program_3
def dkwX0_program_1 : List UInt8 := [181, 0, 13, 187, 0, 72, 89, 43, 183, 0, 74, 77, 44, 182, 0, 78, 78, 42, 44, 180, 0, 82]
abbrev dktX0_program_1 : List UInt8 := dkwX0_program_1 ++ dktX0_program_2
def dkwX0_program_0 : List UInt8 := [42, 180, 0, 13, 188, 8, 76, 42, 180, 0, 17, 3, 43, 3, 42, 180, 0, 13, 184, 0, 66, 42, 3]
abbrev dktX0_program_0 : List UInt8 := dkwX0_program_0 ++ dktX0_program_1
theorem dksX0_program_0 : cX0_program.data.toList.drop 0 = dktX0_program_0 := by decide +kernel
theorem dksX0_program_1 : cX0_program.data.toList.drop 23 = dktX0_program_1 := dk_seg dksX0_program_0 23 rfl rfl
theorem dksX0_program_2 : cX0_program.data.toList.drop 45 = dktX0_program_2 := dk_seg dksX0_program_1 22 rfl rfl
theorem dksX0_program_3 : cX0_program.data.toList.drop 69 = dktX0_program_3 := dk_seg dksX0_program_2 24 rfl rfl
theorem dksX0_program_4 : cX0_program.data.toList.drop 93 = dktX0_program_4 := dk_seg dksX0_program_3 24 rfl rfl
theorem dX0_program_0 : decode cX0_program 0 = .ok (.aload_n 0, 1) := dk_42 (dk_at dksX0_program_0 0 rfl rfl)
theorem dX0_program_1 : decode cX0_program 1 = .ok (.getfield 13, 3) := dk_180 0 13 (dk_at dksX0_program_0 1 rfl rfl)
theorem dX0_program_4 : decode cX0_program 4 = .ok (.newarray .byte, 2) := dk_188_8 (dk_at dksX0_program_0 4 rfl rfl)
theorem dX0_program_6 : decode cX0_program 6 = .ok (.astore_n 1, 1) := dk_76 (dk_at dksX0_program_0 6 rfl rfl)
theorem dX0_program_7 : decode cX0_program 7 = .ok (.aload_n 0, 1) := dk_42 (dk_at dksX0_program_0 7 rfl rfl)
theorem dX0_program_8 : decode cX0_program 8 = .ok (.getfield 17, 3) := dk_180 0 17 (dk_at dksX0_program_0 8 rfl rfl)
theorem dX0_program_11 : decode cX0_program 11 = .ok (.iconst 0, 1) := dk_3 (dk_at dksX0_program_0 11 rfl rfl)
theorem dX0_program_12 : decode cX0_program 12 = .ok (.aload_n 1, 1) := dk_43 (dk_at dksX0_program_0 12 rfl rfl)
theorem dX0_program_13 : decode cX0_program 13 = .ok (.iconst 0, 1) := dk_3 (dk_at dksX0_program_0 13 rfl rfl)
theorem dX0_program_14 : decode cX0_program 14 = .ok (.aload_n 0, 1) := dk_42 (dk_at dksX0_program_0 14 rfl rfl)
theorem dX0_program_15 : decode cX0_program 15 = .ok (.getfield 13, 3) := dk_180 0 13 (dk_at dksX0_program_0 15 rfl rfl)
theorem dX0_program_18 : decode cX0_program 18 = .ok (.invokestatic 66, 3) := dk_184 0 66 (dk_at dksX0_program_0 18 rfl rfl)
theorem dX0_program_21 : decode cX0_program 21 = .ok (.aload_n 0, 1) := dk_42 (dk_at dksX0_program_0 21 rfl rfl)
theorem dX0_program_22 : decode cX0_program 22 = .ok (.iconst 0, 1) := dk_3 (dk_at dksX0_program_0 22 rfl rfl)
theorem dX0_program_23 : decode cX0_program 23 = .ok (.putfield 13, 3) := dk_181 0 13 (dk_at dksX0_program_1 0 rfl rfl)
theorem dX0_program_26 : decode cX0_program 26 = .ok (.new 72, 3) := dk_187 0 72 (dk_at dksX0_program_1 3 rfl rfl)
theorem dX0_program_29 : decode cX0_program 29 = .ok (.dup, 1) := dk_89 (dk_at dksX0_program_1 6 rfl rfl)
theorem dX0_program_30 : decode cX0_program 30 = .ok (.aload_n 1, 1) := dk_43 (dk_at dksX0_program_1 7 rfl rfl)
theorem dX0_program_31 : decode cX0_program 31 = .ok (.invokespecial 74, 3) := dk_183 0 74 (dk_at dksX0_program_1 8 rfl rfl)
theorem dX0_program_34 : decode cX0_program 34 = .ok (.astore_n 2, 1) := dk_77 (dk_at dksX0_program_1 11 rfl rfl)
theorem dX0_program_35 : decode cX0_program 35 = .ok (.aload_n 2, 1) := dk_44 (dk_at dksX0_program_1 12 rfl rfl)
theorem dX0_program_36 : decode cX0_program 36 = .ok (.invokevirtual 78, 3) := dk_182 0 78 (dk_at dksX0_program_1 13 rfl rfl)
theorem dX0_program_39 : decode cX0_program 39 = .ok (.astore_n 3, 1) := dk_78 (dk_at dksX0_program_1 16 rfl rfl)
theorem dX0_program_40 : decode cX0_program 40 = .ok (.aload_n 0, 1) := dk_42 (dk_at dksX0_program_1 17 rfl rfl)
theorem dX0_program_41 : decode cX0_program 41 = .ok (.aload_n 2, 1) := dk_44 (dk_at dksX0_program_1 18 rfl rfl)
theorem dX0_program_42 : decode cX0_program 42 = .ok (.getfield 82, 3) := dk_180 0 82 (dk_at dksX0_program_1 19 rfl rfl)
theorem dX0_program_45 : decode cX0_program 45 = .ok (.putfield 53, 3) := dk_181 0 53 (dk_at dksX0_program_2 0 rfl rfl)
theorem dX0_program_48 : decode cX0_program 48 = .ok (.aload_n 0, 1) := dk_42 (dk_at dksX0_program_2 3 rfl rfl)
theorem dX0_program_49 : decode cX0_program 49 = .ok (.aload_n 2, 1) := dk_44 (dk_at dksX0_program_2 4 rfl rfl)
theorem dX0_program_50 : decode cX0_program 50 = .ok (.getfield 83, 3) := dk_180 0 83 (dk_at dksX0_program_2 5 rfl rfl)
theorem dX0_program_53 : decode cX0_program 53 = .ok (.putfield 50, 3) := dk_181 0 50 (dk_at dksX0_program_2 8 rfl rfl)
theorem dX0_program_56 : decode cX0_program 56 = .ok (.aload_n 0, 1) := dk_42 (dk_at dksX0_program_2 11 rfl rfl)
theorem dX0_program_57 : decode cX0_program 57 = .ok (.aload_n 2, 1) := dk_44 (dk_at dksX0_program_2 12 rfl rfl)
theorem dX0_program_58 : decode cX0_program 58 = .ok (.getfield 86, 3) := dk_180 0 86 (dk_at dksX0_program_2 13 rfl rfl)
theorem dX0_program_61 : decode cX0_program 61 = .ok (.putfield 90, 3) := dk_181 0 90 (dk_at dksX0_program_2 16 rfl rfl)
theorem dX0_program_64 : decode cX0_program 64 = .ok (.aload_n 0, 1) := dk_42 (dk_at dksX0_program_2 19 rfl rfl)
theorem dX0_program_65 : decode cX0_program 65 = .ok (.aload_n 2, 1) := dk_44 (dk_at dksX0_program_2 20 rfl rfl)
theorem dX0_program_66 : decode cX0_program 66 = .ok (.getfield 91, 3) := dk_180 0 91 (dk_at dksX0_program_2 21 rfl rfl)
theorem dX0_program_69 : decode cX0_program 69 = .ok (.putfield 94, 3) := dk_181 0 94 (dk_at dksX0_program_3 0 rfl rfl)
theorem dX0_program_72 : decode cX0_program 72 = .ok (.aload_n 0, 1) := dk_42 (dk_at dksX0_program_3 3 rfl rfl)
theorem dX0_program_73 : decode cX0_program 73 = .ok (.aload_n 3, 1) := dk_45 (dk_at dksX0_program_3 4 rfl rfl)
theorem dX0_program_74 : decode cX0_program 74 = .ok (.invokevirtual 95, 3) := dk_182 0 95 (dk_at dksX0_program_3 5 rfl rfl)
theorem dX0_program_77 : decode cX0_program 77 = .ok (.aload_n 0, 1) := dk_42 (dk_at dksX0_program_3 8 rfl rfl)
theorem dX0_program_78 : decode cX0_program 78 = .ok (.iconst 0, 1) := dk_3 (dk_at dksX0_program_3 9 rfl rfl)
theorem dX0_program_79 : decode cX0_program 79 = .ok (.putfield 98, 3) := dk_181 0 98 (dk_at dksX0_program_3 10 rfl rfl)
theorem dX0_program_82 : decode cX0_program 82 = .ok (.aload_n 0, 1) := dk_42 (dk_at dksX0_program_3 13 rfl rfl)
theorem dX0_program_83 : decode cX0_program 83 = .ok (.iconst 0, 1) := dk_3 (dk_at dksX0_program_3 14 rfl rfl)
theorem dX0_program_84 : decode cX0_program 84 = .ok (.putfield 101, 3) := dk_181 0 101 (dk_at dksX0_program_3 15 rfl rfl)
theorem dX0_program_87 : decode cX0_program 87 = .ok (.aload_n 0, 1) := dk_42 (dk_at dksX0_program_3 18 rfl rfl)
theorem dX0_program_88 : decode cX0_program 88 = .ok (.getfield 50, 3) := dk_180 0 50 (dk_at dksX0_program_3 19 rfl rfl)
theorem dX0_program_91 : decode cX0_program 91 = .ok (.ireturn, 1) := dk_172 (dk_at dksX0_program_3 22 rfl rfl)
theorem dX0_program_92 : decode cX0_program 92 = .ok (.astore_n 2, 1) := dk_77 (dk_at dksX0_program_3 23 rfl rfl)
theorem dX0_program_93 : decode cX0_program 93 = .ok (.aload_n 0, 1) := dk_42 (dk_at dksX0_program_4 0 rfl rfl)
theorem dX0_program_94 : decode cX0_program 94 = .ok (.aload_n 2, 1) := dk_44 (dk_at dksX0_program_4 1 rfl rfl)
theorem dX0_program_95 : decode cX0_program 95 = .ok (.getfield 106, 3) := dk_180 0 106 (dk_at dksX0_program_4 2 rfl rfl)
theorem dX0_program_98 : decode cX0_program 98 = .ok (.putfield 101, 3) := dk_181 0 101 (dk_at dksX0_program_4 5 rfl rfl)
theorem dX0_program_101 : decode cX0_program 101 = .ok (.bipush (-10), 2) := dk_16 246 (dk_at dksX0_program_4 8 rfl rfl)
theorem dX0_program_103 : decode cX0_program 103 = .ok (.aload_n 2, 1) := dk_44 (dk_at dksX0_program_4 10 rfl rfl)
theorem dX0_program_104 : decode cX0_program 104 = .ok (.getfield 109, 3) := dk_180 0 109 (dk_at dksX0_program_4 11 rfl rfl)
theorem dX0_program_107 : decode cX0_program 107 = .ok (.isub, 1) := dk_100 (dk_at dksX0_program_4 14 rfl rfl)
theorem dX0_program_108 : decode cX0_program 108 = .ok (.ireturn, 1) := dk_172 (dk_at dksX0_program_4 15 rfl rfl)
abbrev cX0_lays : ByteArray := prog_1_method_6_code
def yX0_lays : MethodName := ⟨RX0, "lays", "(LEventCounters$Block;)V"⟩
def dkwX0_lays_4 : List UInt8 := [79, 132, 4, 1, 167, 255, 224, 132, 2, 1, 167, 255, 182, 177]
abbrev dktX0_lays_4 : List UInt8 := dkwX0_lays_4 ++ []
def dkwX0_lays_3 : List UInt8 := [162, 0, 31, 42, 180, 0, 41, 21, 4, 92, 46, 45, 180, 0, 57, 45, 180, 0, 63, 21, 4, 46, 104, 96]
abbrev dktX0_lays_3 : List UInt8 := dkwX0_lays_3 ++ dktX0_lays_4
def dkwX0_lays_2 : List UInt8 := [180, 0, 38, 45, 180, 0, 57, 45, 180, 0, 62, 104, 96, 181, 0, 38, 3, 54, 4, 21, 4, 16, 8]
abbrev dktX0_lays_2 : List UInt8 := dkwX0_lays_2 ++ dktX0_lays_3
def dkwX0_lays_1 : List UInt8 := [184, 0, 44, 3, 61, 28, 42, 180, 0, 50, 162, 0, 72, 42, 180, 0, 53, 28, 50, 78, 42, 89]
abbrev dktX0_lays_1 : List UInt8 := dkwX0_lays_1 ++ dktX0_lays_2
def dkwX0_lays_0 : List UInt8 := [42, 43, 42, 180, 0, 25, 3, 182, 0, 29, 181, 0, 35, 42, 3, 181, 0, 38, 42, 180, 0, 41, 3]
abbrev dktX0_lays_0 : List UInt8 := dkwX0_lays_0 ++ dktX0_lays_1
theorem dksX0_lays_0 : cX0_lays.data.toList.drop 0 = dktX0_lays_0 := by decide +kernel
theorem dksX0_lays_1 : cX0_lays.data.toList.drop 23 = dktX0_lays_1 := dk_seg dksX0_lays_0 23 rfl rfl
theorem dksX0_lays_2 : cX0_lays.data.toList.drop 45 = dktX0_lays_2 := dk_seg dksX0_lays_1 22 rfl rfl
theorem dksX0_lays_3 : cX0_lays.data.toList.drop 68 = dktX0_lays_3 := dk_seg dksX0_lays_2 23 rfl rfl
theorem dksX0_lays_4 : cX0_lays.data.toList.drop 92 = dktX0_lays_4 := dk_seg dksX0_lays_3 24 rfl rfl
theorem dX0_lays_0 : decode cX0_lays 0 = .ok (.aload_n 0, 1) := dk_42 (dk_at dksX0_lays_0 0 rfl rfl)
theorem dX0_lays_1 : decode cX0_lays 1 = .ok (.aload_n 1, 1) := dk_43 (dk_at dksX0_lays_0 1 rfl rfl)
theorem dX0_lays_2 : decode cX0_lays 2 = .ok (.aload_n 0, 1) := dk_42 (dk_at dksX0_lays_0 2 rfl rfl)
theorem dX0_lays_3 : decode cX0_lays 3 = .ok (.getfield 25, 3) := dk_180 0 25 (dk_at dksX0_lays_0 3 rfl rfl)
theorem dX0_lays_6 : decode cX0_lays 6 = .ok (.iconst 0, 1) := dk_3 (dk_at dksX0_lays_0 6 rfl rfl)
theorem dX0_lays_7 : decode cX0_lays 7 = .ok (.invokevirtual 29, 3) := dk_182 0 29 (dk_at dksX0_lays_0 7 rfl rfl)
theorem dX0_lays_10 : decode cX0_lays 10 = .ok (.putfield 35, 3) := dk_181 0 35 (dk_at dksX0_lays_0 10 rfl rfl)
theorem dX0_lays_13 : decode cX0_lays 13 = .ok (.aload_n 0, 1) := dk_42 (dk_at dksX0_lays_0 13 rfl rfl)
theorem dX0_lays_14 : decode cX0_lays 14 = .ok (.iconst 0, 1) := dk_3 (dk_at dksX0_lays_0 14 rfl rfl)
theorem dX0_lays_15 : decode cX0_lays 15 = .ok (.putfield 38, 3) := dk_181 0 38 (dk_at dksX0_lays_0 15 rfl rfl)
theorem dX0_lays_18 : decode cX0_lays 18 = .ok (.aload_n 0, 1) := dk_42 (dk_at dksX0_lays_0 18 rfl rfl)
theorem dX0_lays_19 : decode cX0_lays 19 = .ok (.getfield 41, 3) := dk_180 0 41 (dk_at dksX0_lays_0 19 rfl rfl)
theorem dX0_lays_22 : decode cX0_lays 22 = .ok (.iconst 0, 1) := dk_3 (dk_at dksX0_lays_0 22 rfl rfl)
theorem dX0_lays_23 : decode cX0_lays 23 = .ok (.invokestatic 44, 3) := dk_184 0 44 (dk_at dksX0_lays_1 0 rfl rfl)
theorem dX0_lays_26 : decode cX0_lays 26 = .ok (.iconst 0, 1) := dk_3 (dk_at dksX0_lays_1 3 rfl rfl)
theorem dX0_lays_27 : decode cX0_lays 27 = .ok (.istore_n 2, 1) := dk_61 (dk_at dksX0_lays_1 4 rfl rfl)
theorem dX0_lays_28 : decode cX0_lays 28 = .ok (.iload_n 2, 1) := dk_28 (dk_at dksX0_lays_1 5 rfl rfl)
theorem dX0_lays_29 : decode cX0_lays 29 = .ok (.aload_n 0, 1) := dk_42 (dk_at dksX0_lays_1 6 rfl rfl)
theorem dX0_lays_30 : decode cX0_lays 30 = .ok (.getfield 50, 3) := dk_180 0 50 (dk_at dksX0_lays_1 7 rfl rfl)
theorem dX0_lays_33 : decode cX0_lays 33 = .ok (.if_icmp .ge 72, 3) := dk_162 0 72 (dk_at dksX0_lays_1 10 rfl rfl)
theorem dX0_lays_36 : decode cX0_lays 36 = .ok (.aload_n 0, 1) := dk_42 (dk_at dksX0_lays_1 13 rfl rfl)
theorem dX0_lays_37 : decode cX0_lays 37 = .ok (.getfield 53, 3) := dk_180 0 53 (dk_at dksX0_lays_1 14 rfl rfl)
theorem dX0_lays_40 : decode cX0_lays 40 = .ok (.iload_n 2, 1) := dk_28 (dk_at dksX0_lays_1 17 rfl rfl)
theorem dX0_lays_41 : decode cX0_lays 41 = .ok (.aaload, 1) := dk_50 (dk_at dksX0_lays_1 18 rfl rfl)
theorem dX0_lays_42 : decode cX0_lays 42 = .ok (.astore_n 3, 1) := dk_78 (dk_at dksX0_lays_1 19 rfl rfl)
theorem dX0_lays_43 : decode cX0_lays 43 = .ok (.aload_n 0, 1) := dk_42 (dk_at dksX0_lays_1 20 rfl rfl)
theorem dX0_lays_44 : decode cX0_lays 44 = .ok (.dup, 1) := dk_89 (dk_at dksX0_lays_1 21 rfl rfl)
theorem dX0_lays_45 : decode cX0_lays 45 = .ok (.getfield 38, 3) := dk_180 0 38 (dk_at dksX0_lays_2 0 rfl rfl)
theorem dX0_lays_48 : decode cX0_lays 48 = .ok (.aload_n 3, 1) := dk_45 (dk_at dksX0_lays_2 3 rfl rfl)
theorem dX0_lays_49 : decode cX0_lays 49 = .ok (.getfield 57, 3) := dk_180 0 57 (dk_at dksX0_lays_2 4 rfl rfl)
theorem dX0_lays_52 : decode cX0_lays 52 = .ok (.aload_n 3, 1) := dk_45 (dk_at dksX0_lays_2 7 rfl rfl)
theorem dX0_lays_53 : decode cX0_lays 53 = .ok (.getfield 62, 3) := dk_180 0 62 (dk_at dksX0_lays_2 8 rfl rfl)
theorem dX0_lays_56 : decode cX0_lays 56 = .ok (.imul, 1) := dk_104 (dk_at dksX0_lays_2 11 rfl rfl)
theorem dX0_lays_57 : decode cX0_lays 57 = .ok (.iadd, 1) := dk_96 (dk_at dksX0_lays_2 12 rfl rfl)
theorem dX0_lays_58 : decode cX0_lays 58 = .ok (.putfield 38, 3) := dk_181 0 38 (dk_at dksX0_lays_2 13 rfl rfl)
theorem dX0_lays_61 : decode cX0_lays 61 = .ok (.iconst 0, 1) := dk_3 (dk_at dksX0_lays_2 16 rfl rfl)
theorem dX0_lays_62 : decode cX0_lays 62 = .ok (.istore 4, 2) := dk_54 4 (dk_at dksX0_lays_2 17 rfl rfl)
theorem dX0_lays_64 : decode cX0_lays 64 = .ok (.iload 4, 2) := dk_21 4 (dk_at dksX0_lays_2 19 rfl rfl)
theorem dX0_lays_66 : decode cX0_lays 66 = .ok (.bipush 8, 2) := dk_16 8 (dk_at dksX0_lays_2 21 rfl rfl)
theorem dX0_lays_68 : decode cX0_lays 68 = .ok (.if_icmp .ge 31, 3) := dk_162 0 31 (dk_at dksX0_lays_3 0 rfl rfl)
theorem dX0_lays_71 : decode cX0_lays 71 = .ok (.aload_n 0, 1) := dk_42 (dk_at dksX0_lays_3 3 rfl rfl)
theorem dX0_lays_72 : decode cX0_lays 72 = .ok (.getfield 41, 3) := dk_180 0 41 (dk_at dksX0_lays_3 4 rfl rfl)
theorem dX0_lays_75 : decode cX0_lays 75 = .ok (.iload 4, 2) := dk_21 4 (dk_at dksX0_lays_3 7 rfl rfl)
theorem dX0_lays_77 : decode cX0_lays 77 = .ok (.dup2, 1) := dk_92 (dk_at dksX0_lays_3 9 rfl rfl)
theorem dX0_lays_78 : decode cX0_lays 78 = .ok (.iaload, 1) := dk_46 (dk_at dksX0_lays_3 10 rfl rfl)
theorem dX0_lays_79 : decode cX0_lays 79 = .ok (.aload_n 3, 1) := dk_45 (dk_at dksX0_lays_3 11 rfl rfl)
theorem dX0_lays_80 : decode cX0_lays 80 = .ok (.getfield 57, 3) := dk_180 0 57 (dk_at dksX0_lays_3 12 rfl rfl)
theorem dX0_lays_83 : decode cX0_lays 83 = .ok (.aload_n 3, 1) := dk_45 (dk_at dksX0_lays_3 15 rfl rfl)
theorem dX0_lays_84 : decode cX0_lays 84 = .ok (.getfield 63, 3) := dk_180 0 63 (dk_at dksX0_lays_3 16 rfl rfl)
theorem dX0_lays_87 : decode cX0_lays 87 = .ok (.iload 4, 2) := dk_21 4 (dk_at dksX0_lays_3 19 rfl rfl)
theorem dX0_lays_89 : decode cX0_lays 89 = .ok (.iaload, 1) := dk_46 (dk_at dksX0_lays_3 21 rfl rfl)
theorem dX0_lays_90 : decode cX0_lays 90 = .ok (.imul, 1) := dk_104 (dk_at dksX0_lays_3 22 rfl rfl)
theorem dX0_lays_91 : decode cX0_lays 91 = .ok (.iadd, 1) := dk_96 (dk_at dksX0_lays_3 23 rfl rfl)
theorem dX0_lays_92 : decode cX0_lays 92 = .ok (.iastore, 1) := dk_79 (dk_at dksX0_lays_4 0 rfl rfl)
theorem dX0_lays_93 : decode cX0_lays 93 = .ok (.iinc 4 1, 3) := dk_132 4 1 (dk_at dksX0_lays_4 1 rfl rfl)
theorem dX0_lays_96 : decode cX0_lays 96 = .ok (.goto (-32), 3) := dk_167 255 224 (dk_at dksX0_lays_4 4 rfl rfl)
theorem dX0_lays_99 : decode cX0_lays 99 = .ok (.iinc 2 1, 3) := dk_132 2 1 (dk_at dksX0_lays_4 7 rfl rfl)
theorem dX0_lays_102 : decode cX0_lays 102 = .ok (.goto (-74), 3) := dk_167 255 182 (dk_at dksX0_lays_4 10 rfl rfl)
theorem dX0_lays_105 : decode cX0_lays 105 = .ok (.return_, 1) := dk_177 (dk_at dksX0_lays_4 13 rfl rfl)
abbrev cX0_fault : ByteArray := prog_1_method_8_code
def yX0_fault : MethodName := ⟨RX0, "fault", "()I"⟩
theorem dX0_fault_0 : decode cX0_fault 0 = .ok (.aload_n 0, 1) := by decide +kernel
theorem dX0_fault_1 : decode cX0_fault 1 = .ok (.getfield 101, 3) := by decide +kernel
theorem dX0_fault_4 : decode cX0_fault 4 = .ok (.ireturn, 1) := by decide +kernel
abbrev cX0_line : ByteArray := prog_1_method_11_code
def yX0_line : MethodName := ⟨RX0, "line", "(II)I"⟩
def dkwX0_line_3 : List UInt8 := [180, 0, 122, 167, 0, 4, 2, 172]
abbrev dktX0_line_3 : List UInt8 := dkwX0_line_3 ++ []
def dkwX0_line_2 : List UInt8 := [180, 0, 62, 167, 0, 28, 28, 4, 160, 0, 10, 45, 180, 0, 57, 167, 0, 16, 28, 5, 160, 0, 10, 45]
abbrev dktX0_line_2 : List UInt8 := dkwX0_line_2 ++ dktX0_line_3
def dkwX0_line_1 : List UInt8 := [20, 0, 120, 184, 0, 21, 153, 0, 13, 45, 180, 0, 63, 28, 16, 10, 100, 46, 172, 28, 154, 0, 10, 45]
abbrev dktX0_line_1 : List UInt8 := dkwX0_line_1 ++ dktX0_line_2
def dkwX0_line_0 : List UInt8 := [42, 27, 182, 0, 114, 154, 0, 5, 2, 172, 42, 180, 0, 53, 27, 50, 78, 28, 133, 20, 0, 118]
abbrev dktX0_line_0 : List UInt8 := dkwX0_line_0 ++ dktX0_line_1
theorem dksX0_line_0 : cX0_line.data.toList.drop 0 = dktX0_line_0 := by decide +kernel
theorem dksX0_line_1 : cX0_line.data.toList.drop 22 = dktX0_line_1 := dk_seg dksX0_line_0 22 rfl rfl
theorem dksX0_line_2 : cX0_line.data.toList.drop 46 = dktX0_line_2 := dk_seg dksX0_line_1 24 rfl rfl
theorem dksX0_line_3 : cX0_line.data.toList.drop 70 = dktX0_line_3 := dk_seg dksX0_line_2 24 rfl rfl
theorem dX0_line_0 : decode cX0_line 0 = .ok (.aload_n 0, 1) := dk_42 (dk_at dksX0_line_0 0 rfl rfl)
theorem dX0_line_1 : decode cX0_line 1 = .ok (.iload_n 1, 1) := dk_27 (dk_at dksX0_line_0 1 rfl rfl)
theorem dX0_line_2 : decode cX0_line 2 = .ok (.invokevirtual 114, 3) := dk_182 0 114 (dk_at dksX0_line_0 2 rfl rfl)
theorem dX0_line_5 : decode cX0_line 5 = .ok (.ifCond .ne 5, 3) := dk_154 0 5 (dk_at dksX0_line_0 5 rfl rfl)
theorem dX0_line_8 : decode cX0_line 8 = .ok (.iconst (-1), 1) := dk_2 (dk_at dksX0_line_0 8 rfl rfl)
theorem dX0_line_9 : decode cX0_line 9 = .ok (.ireturn, 1) := dk_172 (dk_at dksX0_line_0 9 rfl rfl)
theorem dX0_line_10 : decode cX0_line 10 = .ok (.aload_n 0, 1) := dk_42 (dk_at dksX0_line_0 10 rfl rfl)
theorem dX0_line_11 : decode cX0_line 11 = .ok (.getfield 53, 3) := dk_180 0 53 (dk_at dksX0_line_0 11 rfl rfl)
theorem dX0_line_14 : decode cX0_line 14 = .ok (.iload_n 1, 1) := dk_27 (dk_at dksX0_line_0 14 rfl rfl)
theorem dX0_line_15 : decode cX0_line 15 = .ok (.aaload, 1) := dk_50 (dk_at dksX0_line_0 15 rfl rfl)
theorem dX0_line_16 : decode cX0_line 16 = .ok (.astore_n 3, 1) := dk_78 (dk_at dksX0_line_0 16 rfl rfl)
theorem dX0_line_17 : decode cX0_line 17 = .ok (.iload_n 2, 1) := dk_28 (dk_at dksX0_line_0 17 rfl rfl)
theorem dX0_line_18 : decode cX0_line 18 = .ok (.i2l, 1) := dk_133 (dk_at dksX0_line_0 18 rfl rfl)
theorem dX0_line_19 : decode cX0_line 19 = .ok (.ldc2_w 118, 3) := dk_20 0 118 (dk_at dksX0_line_0 19 rfl rfl)
theorem dX0_line_22 : decode cX0_line 22 = .ok (.ldc2_w 120, 3) := dk_20 0 120 (dk_at dksX0_line_1 0 rfl rfl)
theorem dX0_line_25 : decode cX0_line 25 = .ok (.invokestatic 21, 3) := dk_184 0 21 (dk_at dksX0_line_1 3 rfl rfl)
theorem dX0_line_28 : decode cX0_line 28 = .ok (.ifCond .eq 13, 3) := dk_153 0 13 (dk_at dksX0_line_1 6 rfl rfl)
theorem dX0_line_31 : decode cX0_line 31 = .ok (.aload_n 3, 1) := dk_45 (dk_at dksX0_line_1 9 rfl rfl)
theorem dX0_line_32 : decode cX0_line 32 = .ok (.getfield 63, 3) := dk_180 0 63 (dk_at dksX0_line_1 10 rfl rfl)
theorem dX0_line_35 : decode cX0_line 35 = .ok (.iload_n 2, 1) := dk_28 (dk_at dksX0_line_1 13 rfl rfl)
theorem dX0_line_36 : decode cX0_line 36 = .ok (.bipush 10, 2) := dk_16 10 (dk_at dksX0_line_1 14 rfl rfl)
theorem dX0_line_38 : decode cX0_line 38 = .ok (.isub, 1) := dk_100 (dk_at dksX0_line_1 16 rfl rfl)
theorem dX0_line_39 : decode cX0_line 39 = .ok (.iaload, 1) := dk_46 (dk_at dksX0_line_1 17 rfl rfl)
theorem dX0_line_40 : decode cX0_line 40 = .ok (.ireturn, 1) := dk_172 (dk_at dksX0_line_1 18 rfl rfl)
theorem dX0_line_41 : decode cX0_line 41 = .ok (.iload_n 2, 1) := dk_28 (dk_at dksX0_line_1 19 rfl rfl)
theorem dX0_line_42 : decode cX0_line 42 = .ok (.ifCond .ne 10, 3) := dk_154 0 10 (dk_at dksX0_line_1 20 rfl rfl)
theorem dX0_line_45 : decode cX0_line 45 = .ok (.aload_n 3, 1) := dk_45 (dk_at dksX0_line_1 23 rfl rfl)
theorem dX0_line_46 : decode cX0_line 46 = .ok (.getfield 62, 3) := dk_180 0 62 (dk_at dksX0_line_2 0 rfl rfl)
theorem dX0_line_49 : decode cX0_line 49 = .ok (.goto 28, 3) := dk_167 0 28 (dk_at dksX0_line_2 3 rfl rfl)
theorem dX0_line_52 : decode cX0_line 52 = .ok (.iload_n 2, 1) := dk_28 (dk_at dksX0_line_2 6 rfl rfl)
theorem dX0_line_53 : decode cX0_line 53 = .ok (.iconst 1, 1) := dk_4 (dk_at dksX0_line_2 7 rfl rfl)
theorem dX0_line_54 : decode cX0_line 54 = .ok (.if_icmp .ne 10, 3) := dk_160 0 10 (dk_at dksX0_line_2 8 rfl rfl)
theorem dX0_line_57 : decode cX0_line 57 = .ok (.aload_n 3, 1) := dk_45 (dk_at dksX0_line_2 11 rfl rfl)
theorem dX0_line_58 : decode cX0_line 58 = .ok (.getfield 57, 3) := dk_180 0 57 (dk_at dksX0_line_2 12 rfl rfl)
theorem dX0_line_61 : decode cX0_line 61 = .ok (.goto 16, 3) := dk_167 0 16 (dk_at dksX0_line_2 15 rfl rfl)
theorem dX0_line_64 : decode cX0_line 64 = .ok (.iload_n 2, 1) := dk_28 (dk_at dksX0_line_2 18 rfl rfl)
theorem dX0_line_65 : decode cX0_line 65 = .ok (.iconst 2, 1) := dk_5 (dk_at dksX0_line_2 19 rfl rfl)
theorem dX0_line_66 : decode cX0_line 66 = .ok (.if_icmp .ne 10, 3) := dk_160 0 10 (dk_at dksX0_line_2 20 rfl rfl)
theorem dX0_line_69 : decode cX0_line 69 = .ok (.aload_n 3, 1) := dk_45 (dk_at dksX0_line_2 23 rfl rfl)
theorem dX0_line_70 : decode cX0_line 70 = .ok (.getfield 122, 3) := dk_180 0 122 (dk_at dksX0_line_3 0 rfl rfl)
theorem dX0_line_73 : decode cX0_line 73 = .ok (.goto 4, 3) := dk_167 0 4 (dk_at dksX0_line_3 3 rfl rfl)
theorem dX0_line_76 : decode cX0_line 76 = .ok (.iconst (-1), 1) := dk_2 (dk_at dksX0_line_3 6 rfl rfl)
theorem dX0_line_77 : decode cX0_line 77 = .ok (.ireturn, 1) := dk_172 (dk_at dksX0_line_3 7 rfl rfl)
abbrev cX0_isLine : ByteArray := prog_1_method_9_code
def yX0_isLine : MethodName := ⟨RX0, "isLine", "(I)Z"⟩
def dkwX0_isLine_0 : List UInt8 := [27, 133, 9, 42, 180, 0, 50, 4, 100, 133, 184, 0, 21, 172]
abbrev dktX0_isLine_0 : List UInt8 := dkwX0_isLine_0 ++ []
theorem dksX0_isLine_0 : cX0_isLine.data.toList.drop 0 = dktX0_isLine_0 := by decide +kernel
theorem dX0_isLine_0 : decode cX0_isLine 0 = .ok (.iload_n 1, 1) := dk_27 (dk_at dksX0_isLine_0 0 rfl rfl)
theorem dX0_isLine_1 : decode cX0_isLine 1 = .ok (.i2l, 1) := dk_133 (dk_at dksX0_isLine_0 1 rfl rfl)
theorem dX0_isLine_2 : decode cX0_isLine 2 = .ok (.lconst 0, 1) := dk_9 (dk_at dksX0_isLine_0 2 rfl rfl)
theorem dX0_isLine_3 : decode cX0_isLine 3 = .ok (.aload_n 0, 1) := dk_42 (dk_at dksX0_isLine_0 3 rfl rfl)
theorem dX0_isLine_4 : decode cX0_isLine 4 = .ok (.getfield 50, 3) := dk_180 0 50 (dk_at dksX0_isLine_0 4 rfl rfl)
theorem dX0_isLine_7 : decode cX0_isLine 7 = .ok (.iconst 1, 1) := dk_4 (dk_at dksX0_isLine_0 7 rfl rfl)
theorem dX0_isLine_8 : decode cX0_isLine 8 = .ok (.isub, 1) := dk_100 (dk_at dksX0_isLine_0 8 rfl rfl)
theorem dX0_isLine_9 : decode cX0_isLine 9 = .ok (.i2l, 1) := dk_133 (dk_at dksX0_isLine_0 9 rfl rfl)
theorem dX0_isLine_10 : decode cX0_isLine 10 = .ok (.invokestatic 21, 3) := dk_184 0 21 (dk_at dksX0_isLine_0 10 rfl rfl)
theorem dX0_isLine_13 : decode cX0_isLine 13 = .ok (.ireturn, 1) := dk_172 (dk_at dksX0_isLine_0 13 rfl rfl)
abbrev cX0_step : ByteArray := prog_1_method_12_code
def yX0_step : MethodName := ⟨RX0, "step", "(I)I"⟩
def dkwX0_step_1 : List UInt8 := [167, 0, 4, 2, 172]
abbrev dktX0_step_1 : List UInt8 := dkwX0_step_1 ++ []
def dkwX0_step_0 : List UInt8 := [27, 133, 9, 42, 180, 0, 35, 4, 100, 133, 184, 0, 21, 153, 0, 12, 42, 180, 0, 25, 27, 46]
abbrev dktX0_step_0 : List UInt8 := dkwX0_step_0 ++ dktX0_step_1
theorem dksX0_step_0 : cX0_step.data.toList.drop 0 = dktX0_step_0 := by decide +kernel
theorem dksX0_step_1 : cX0_step.data.toList.drop 22 = dktX0_step_1 := dk_seg dksX0_step_0 22 rfl rfl
theorem dX0_step_0 : decode cX0_step 0 = .ok (.iload_n 1, 1) := dk_27 (dk_at dksX0_step_0 0 rfl rfl)
theorem dX0_step_1 : decode cX0_step 1 = .ok (.i2l, 1) := dk_133 (dk_at dksX0_step_0 1 rfl rfl)
theorem dX0_step_2 : decode cX0_step 2 = .ok (.lconst 0, 1) := dk_9 (dk_at dksX0_step_0 2 rfl rfl)
theorem dX0_step_3 : decode cX0_step 3 = .ok (.aload_n 0, 1) := dk_42 (dk_at dksX0_step_0 3 rfl rfl)
theorem dX0_step_4 : decode cX0_step 4 = .ok (.getfield 35, 3) := dk_180 0 35 (dk_at dksX0_step_0 4 rfl rfl)
theorem dX0_step_7 : decode cX0_step 7 = .ok (.iconst 1, 1) := dk_4 (dk_at dksX0_step_0 7 rfl rfl)
theorem dX0_step_8 : decode cX0_step 8 = .ok (.isub, 1) := dk_100 (dk_at dksX0_step_0 8 rfl rfl)
theorem dX0_step_9 : decode cX0_step 9 = .ok (.i2l, 1) := dk_133 (dk_at dksX0_step_0 9 rfl rfl)
theorem dX0_step_10 : decode cX0_step 10 = .ok (.invokestatic 21, 3) := dk_184 0 21 (dk_at dksX0_step_0 10 rfl rfl)
theorem dX0_step_13 : decode cX0_step 13 = .ok (.ifCond .eq 12, 3) := dk_153 0 12 (dk_at dksX0_step_0 13 rfl rfl)
theorem dX0_step_16 : decode cX0_step 16 = .ok (.aload_n 0, 1) := dk_42 (dk_at dksX0_step_0 16 rfl rfl)
theorem dX0_step_17 : decode cX0_step 17 = .ok (.getfield 25, 3) := dk_180 0 25 (dk_at dksX0_step_0 17 rfl rfl)
theorem dX0_step_20 : decode cX0_step 20 = .ok (.iload_n 1, 1) := dk_27 (dk_at dksX0_step_0 20 rfl rfl)
theorem dX0_step_21 : decode cX0_step 21 = .ok (.iaload, 1) := dk_46 (dk_at dksX0_step_0 21 rfl rfl)
theorem dX0_step_22 : decode cX0_step 22 = .ok (.goto 4, 3) := dk_167 0 4 (dk_at dksX0_step_1 0 rfl rfl)
theorem dX0_step_25 : decode cX0_step 25 = .ok (.iconst (-1), 1) := dk_2 (dk_at dksX0_step_1 3 rfl rfl)
theorem dX0_step_26 : decode cX0_step 26 = .ok (.ireturn, 1) := dk_172 (dk_at dksX0_step_1 4 rfl rfl)
abbrev cX0_whole : ByteArray := prog_1_method_13_code
def yX0_whole : MethodName := ⟨RX0, "whole", "(I)I"⟩
def dkwX0_whole_2 : List UInt8 := [172]
abbrev dktX0_whole_2 : List UInt8 := dkwX0_whole_2 ++ []
def dkwX0_whole_1 : List UInt8 := [27, 154, 0, 10, 42, 180, 0, 35, 167, 0, 16, 27, 4, 160, 0, 10, 42, 180, 0, 38, 167, 0, 4, 2]
abbrev dktX0_whole_1 : List UInt8 := dkwX0_whole_1 ++ dktX0_whole_2
def dkwX0_whole_0 : List UInt8 := [27, 133, 20, 0, 118, 20, 0, 120, 184, 0, 21, 153, 0, 13, 42, 180, 0, 41, 27, 16, 10, 100, 46, 172]
abbrev dktX0_whole_0 : List UInt8 := dkwX0_whole_0 ++ dktX0_whole_1
theorem dksX0_whole_0 : cX0_whole.data.toList.drop 0 = dktX0_whole_0 := by decide +kernel
theorem dksX0_whole_1 : cX0_whole.data.toList.drop 24 = dktX0_whole_1 := dk_seg dksX0_whole_0 24 rfl rfl
theorem dksX0_whole_2 : cX0_whole.data.toList.drop 48 = dktX0_whole_2 := dk_seg dksX0_whole_1 24 rfl rfl
theorem dX0_whole_0 : decode cX0_whole 0 = .ok (.iload_n 1, 1) := dk_27 (dk_at dksX0_whole_0 0 rfl rfl)
theorem dX0_whole_1 : decode cX0_whole 1 = .ok (.i2l, 1) := dk_133 (dk_at dksX0_whole_0 1 rfl rfl)
theorem dX0_whole_2 : decode cX0_whole 2 = .ok (.ldc2_w 118, 3) := dk_20 0 118 (dk_at dksX0_whole_0 2 rfl rfl)
theorem dX0_whole_5 : decode cX0_whole 5 = .ok (.ldc2_w 120, 3) := dk_20 0 120 (dk_at dksX0_whole_0 5 rfl rfl)
theorem dX0_whole_8 : decode cX0_whole 8 = .ok (.invokestatic 21, 3) := dk_184 0 21 (dk_at dksX0_whole_0 8 rfl rfl)
theorem dX0_whole_11 : decode cX0_whole 11 = .ok (.ifCond .eq 13, 3) := dk_153 0 13 (dk_at dksX0_whole_0 11 rfl rfl)
theorem dX0_whole_14 : decode cX0_whole 14 = .ok (.aload_n 0, 1) := dk_42 (dk_at dksX0_whole_0 14 rfl rfl)
theorem dX0_whole_15 : decode cX0_whole 15 = .ok (.getfield 41, 3) := dk_180 0 41 (dk_at dksX0_whole_0 15 rfl rfl)
theorem dX0_whole_18 : decode cX0_whole 18 = .ok (.iload_n 1, 1) := dk_27 (dk_at dksX0_whole_0 18 rfl rfl)
theorem dX0_whole_19 : decode cX0_whole 19 = .ok (.bipush 10, 2) := dk_16 10 (dk_at dksX0_whole_0 19 rfl rfl)
theorem dX0_whole_21 : decode cX0_whole 21 = .ok (.isub, 1) := dk_100 (dk_at dksX0_whole_0 21 rfl rfl)
theorem dX0_whole_22 : decode cX0_whole 22 = .ok (.iaload, 1) := dk_46 (dk_at dksX0_whole_0 22 rfl rfl)
theorem dX0_whole_23 : decode cX0_whole 23 = .ok (.ireturn, 1) := dk_172 (dk_at dksX0_whole_0 23 rfl rfl)
theorem dX0_whole_24 : decode cX0_whole 24 = .ok (.iload_n 1, 1) := dk_27 (dk_at dksX0_whole_1 0 rfl rfl)
theorem dX0_whole_25 : decode cX0_whole 25 = .ok (.ifCond .ne 10, 3) := dk_154 0 10 (dk_at dksX0_whole_1 1 rfl rfl)
theorem dX0_whole_28 : decode cX0_whole 28 = .ok (.aload_n 0, 1) := dk_42 (dk_at dksX0_whole_1 4 rfl rfl)
theorem dX0_whole_29 : decode cX0_whole 29 = .ok (.getfield 35, 3) := dk_180 0 35 (dk_at dksX0_whole_1 5 rfl rfl)
theorem dX0_whole_32 : decode cX0_whole 32 = .ok (.goto 16, 3) := dk_167 0 16 (dk_at dksX0_whole_1 8 rfl rfl)
theorem dX0_whole_35 : decode cX0_whole 35 = .ok (.iload_n 1, 1) := dk_27 (dk_at dksX0_whole_1 11 rfl rfl)
theorem dX0_whole_36 : decode cX0_whole 36 = .ok (.iconst 1, 1) := dk_4 (dk_at dksX0_whole_1 12 rfl rfl)
theorem dX0_whole_37 : decode cX0_whole 37 = .ok (.if_icmp .ne 10, 3) := dk_160 0 10 (dk_at dksX0_whole_1 13 rfl rfl)
theorem dX0_whole_40 : decode cX0_whole 40 = .ok (.aload_n 0, 1) := dk_42 (dk_at dksX0_whole_1 16 rfl rfl)
theorem dX0_whole_41 : decode cX0_whole 41 = .ok (.getfield 38, 3) := dk_180 0 38 (dk_at dksX0_whole_1 17 rfl rfl)
theorem dX0_whole_44 : decode cX0_whole 44 = .ok (.goto 4, 3) := dk_167 0 4 (dk_at dksX0_whole_1 20 rfl rfl)
theorem dX0_whole_47 : decode cX0_whole 47 = .ok (.iconst (-1), 1) := dk_2 (dk_at dksX0_whole_1 23 rfl rfl)
theorem dX0_whole_48 : decode cX0_whole 48 = .ok (.ireturn, 1) := dk_172 (dk_at dksX0_whole_2 0 rfl rfl)
abbrev cX0_ratio : ByteArray := prog_1_method_14_code
def yX0_ratio : MethodName := ⟨RX0, "ratio", "(IIII)I"⟩
def dkwX0_ratio_5 : List UInt8 := [21, 4, 184, 0, 128, 136, 172]
abbrev dktX0_ratio_5 : List UInt8 := dkwX0_ratio_5 ++ []
def dkwX0_ratio_4 : List UInt8 := [180, 0, 63, 29, 46, 54, 6, 21, 6, 154, 0, 8, 16, 252, 167, 0, 15, 21, 5, 133, 21, 6, 133]
abbrev dktX0_ratio_4 : List UInt8 := dkwX0_ratio_4 ++ dktX0_ratio_5
def dkwX0_ratio_3 : List UInt8 := [54, 5, 27, 16, 252, 160, 0, 12, 42, 180, 0, 41, 29, 46, 167, 0, 14, 42, 180, 0, 53, 27, 50]
abbrev dktX0_ratio_3 : List UInt8 := dkwX0_ratio_3 ++ dktX0_ratio_4
def dkwX0_ratio_2 : List UInt8 := [160, 0, 12, 42, 180, 0, 41, 28, 46, 167, 0, 14, 42, 180, 0, 53, 27, 50, 180, 0, 63, 28, 46]
abbrev dktX0_ratio_2 : List UInt8 := dkwX0_ratio_2 ++ dktX0_ratio_3
def dkwX0_ratio_1 : List UInt8 := [184, 0, 125, 153, 0, 14, 21, 4, 133, 9, 10, 184, 0, 21, 154, 0, 5, 2, 172, 27, 16, 252]
abbrev dktX0_ratio_1 : List UInt8 := dkwX0_ratio_1 ++ dktX0_ratio_2
def dkwX0_ratio_0 : List UInt8 := [42, 27, 182, 0, 114, 154, 0, 9, 27, 16, 252, 160, 0, 28, 28, 184, 0, 125, 153, 0, 21, 29]
abbrev dktX0_ratio_0 : List UInt8 := dkwX0_ratio_0 ++ dktX0_ratio_1
theorem dksX0_ratio_0 : cX0_ratio.data.toList.drop 0 = dktX0_ratio_0 := by decide +kernel
theorem dksX0_ratio_1 : cX0_ratio.data.toList.drop 22 = dktX0_ratio_1 := dk_seg dksX0_ratio_0 22 rfl rfl
theorem dksX0_ratio_2 : cX0_ratio.data.toList.drop 44 = dktX0_ratio_2 := dk_seg dksX0_ratio_1 22 rfl rfl
theorem dksX0_ratio_3 : cX0_ratio.data.toList.drop 67 = dktX0_ratio_3 := dk_seg dksX0_ratio_2 23 rfl rfl
theorem dksX0_ratio_4 : cX0_ratio.data.toList.drop 90 = dktX0_ratio_4 := dk_seg dksX0_ratio_3 23 rfl rfl
theorem dksX0_ratio_5 : cX0_ratio.data.toList.drop 113 = dktX0_ratio_5 := dk_seg dksX0_ratio_4 23 rfl rfl
theorem dX0_ratio_0 : decode cX0_ratio 0 = .ok (.aload_n 0, 1) := dk_42 (dk_at dksX0_ratio_0 0 rfl rfl)
theorem dX0_ratio_1 : decode cX0_ratio 1 = .ok (.iload_n 1, 1) := dk_27 (dk_at dksX0_ratio_0 1 rfl rfl)
theorem dX0_ratio_2 : decode cX0_ratio 2 = .ok (.invokevirtual 114, 3) := dk_182 0 114 (dk_at dksX0_ratio_0 2 rfl rfl)
theorem dX0_ratio_5 : decode cX0_ratio 5 = .ok (.ifCond .ne 9, 3) := dk_154 0 9 (dk_at dksX0_ratio_0 5 rfl rfl)
theorem dX0_ratio_8 : decode cX0_ratio 8 = .ok (.iload_n 1, 1) := dk_27 (dk_at dksX0_ratio_0 8 rfl rfl)
theorem dX0_ratio_9 : decode cX0_ratio 9 = .ok (.bipush (-4), 2) := dk_16 252 (dk_at dksX0_ratio_0 9 rfl rfl)
theorem dX0_ratio_11 : decode cX0_ratio 11 = .ok (.if_icmp .ne 28, 3) := dk_160 0 28 (dk_at dksX0_ratio_0 11 rfl rfl)
theorem dX0_ratio_14 : decode cX0_ratio 14 = .ok (.iload_n 2, 1) := dk_28 (dk_at dksX0_ratio_0 14 rfl rfl)
theorem dX0_ratio_15 : decode cX0_ratio 15 = .ok (.invokestatic 125, 3) := dk_184 0 125 (dk_at dksX0_ratio_0 15 rfl rfl)
theorem dX0_ratio_18 : decode cX0_ratio 18 = .ok (.ifCond .eq 21, 3) := dk_153 0 21 (dk_at dksX0_ratio_0 18 rfl rfl)
theorem dX0_ratio_21 : decode cX0_ratio 21 = .ok (.iload_n 3, 1) := dk_29 (dk_at dksX0_ratio_0 21 rfl rfl)
theorem dX0_ratio_22 : decode cX0_ratio 22 = .ok (.invokestatic 125, 3) := dk_184 0 125 (dk_at dksX0_ratio_1 0 rfl rfl)
theorem dX0_ratio_25 : decode cX0_ratio 25 = .ok (.ifCond .eq 14, 3) := dk_153 0 14 (dk_at dksX0_ratio_1 3 rfl rfl)
theorem dX0_ratio_28 : decode cX0_ratio 28 = .ok (.iload 4, 2) := dk_21 4 (dk_at dksX0_ratio_1 6 rfl rfl)
theorem dX0_ratio_30 : decode cX0_ratio 30 = .ok (.i2l, 1) := dk_133 (dk_at dksX0_ratio_1 8 rfl rfl)
theorem dX0_ratio_31 : decode cX0_ratio 31 = .ok (.lconst 0, 1) := dk_9 (dk_at dksX0_ratio_1 9 rfl rfl)
theorem dX0_ratio_32 : decode cX0_ratio 32 = .ok (.lconst 1, 1) := dk_10 (dk_at dksX0_ratio_1 10 rfl rfl)
theorem dX0_ratio_33 : decode cX0_ratio 33 = .ok (.invokestatic 21, 3) := dk_184 0 21 (dk_at dksX0_ratio_1 11 rfl rfl)
theorem dX0_ratio_36 : decode cX0_ratio 36 = .ok (.ifCond .ne 5, 3) := dk_154 0 5 (dk_at dksX0_ratio_1 14 rfl rfl)
theorem dX0_ratio_39 : decode cX0_ratio 39 = .ok (.iconst (-1), 1) := dk_2 (dk_at dksX0_ratio_1 17 rfl rfl)
theorem dX0_ratio_40 : decode cX0_ratio 40 = .ok (.ireturn, 1) := dk_172 (dk_at dksX0_ratio_1 18 rfl rfl)
theorem dX0_ratio_41 : decode cX0_ratio 41 = .ok (.iload_n 1, 1) := dk_27 (dk_at dksX0_ratio_1 19 rfl rfl)
theorem dX0_ratio_42 : decode cX0_ratio 42 = .ok (.bipush (-4), 2) := dk_16 252 (dk_at dksX0_ratio_1 20 rfl rfl)
theorem dX0_ratio_44 : decode cX0_ratio 44 = .ok (.if_icmp .ne 12, 3) := dk_160 0 12 (dk_at dksX0_ratio_2 0 rfl rfl)
theorem dX0_ratio_47 : decode cX0_ratio 47 = .ok (.aload_n 0, 1) := dk_42 (dk_at dksX0_ratio_2 3 rfl rfl)
theorem dX0_ratio_48 : decode cX0_ratio 48 = .ok (.getfield 41, 3) := dk_180 0 41 (dk_at dksX0_ratio_2 4 rfl rfl)
theorem dX0_ratio_51 : decode cX0_ratio 51 = .ok (.iload_n 2, 1) := dk_28 (dk_at dksX0_ratio_2 7 rfl rfl)
theorem dX0_ratio_52 : decode cX0_ratio 52 = .ok (.iaload, 1) := dk_46 (dk_at dksX0_ratio_2 8 rfl rfl)
theorem dX0_ratio_53 : decode cX0_ratio 53 = .ok (.goto 14, 3) := dk_167 0 14 (dk_at dksX0_ratio_2 9 rfl rfl)
theorem dX0_ratio_56 : decode cX0_ratio 56 = .ok (.aload_n 0, 1) := dk_42 (dk_at dksX0_ratio_2 12 rfl rfl)
theorem dX0_ratio_57 : decode cX0_ratio 57 = .ok (.getfield 53, 3) := dk_180 0 53 (dk_at dksX0_ratio_2 13 rfl rfl)
theorem dX0_ratio_60 : decode cX0_ratio 60 = .ok (.iload_n 1, 1) := dk_27 (dk_at dksX0_ratio_2 16 rfl rfl)
theorem dX0_ratio_61 : decode cX0_ratio 61 = .ok (.aaload, 1) := dk_50 (dk_at dksX0_ratio_2 17 rfl rfl)
theorem dX0_ratio_62 : decode cX0_ratio 62 = .ok (.getfield 63, 3) := dk_180 0 63 (dk_at dksX0_ratio_2 18 rfl rfl)
theorem dX0_ratio_65 : decode cX0_ratio 65 = .ok (.iload_n 2, 1) := dk_28 (dk_at dksX0_ratio_2 21 rfl rfl)
theorem dX0_ratio_66 : decode cX0_ratio 66 = .ok (.iaload, 1) := dk_46 (dk_at dksX0_ratio_2 22 rfl rfl)
theorem dX0_ratio_67 : decode cX0_ratio 67 = .ok (.istore 5, 2) := dk_54 5 (dk_at dksX0_ratio_3 0 rfl rfl)
theorem dX0_ratio_69 : decode cX0_ratio 69 = .ok (.iload_n 1, 1) := dk_27 (dk_at dksX0_ratio_3 2 rfl rfl)
theorem dX0_ratio_70 : decode cX0_ratio 70 = .ok (.bipush (-4), 2) := dk_16 252 (dk_at dksX0_ratio_3 3 rfl rfl)
theorem dX0_ratio_72 : decode cX0_ratio 72 = .ok (.if_icmp .ne 12, 3) := dk_160 0 12 (dk_at dksX0_ratio_3 5 rfl rfl)
theorem dX0_ratio_75 : decode cX0_ratio 75 = .ok (.aload_n 0, 1) := dk_42 (dk_at dksX0_ratio_3 8 rfl rfl)
theorem dX0_ratio_76 : decode cX0_ratio 76 = .ok (.getfield 41, 3) := dk_180 0 41 (dk_at dksX0_ratio_3 9 rfl rfl)
theorem dX0_ratio_79 : decode cX0_ratio 79 = .ok (.iload_n 3, 1) := dk_29 (dk_at dksX0_ratio_3 12 rfl rfl)
theorem dX0_ratio_80 : decode cX0_ratio 80 = .ok (.iaload, 1) := dk_46 (dk_at dksX0_ratio_3 13 rfl rfl)
theorem dX0_ratio_81 : decode cX0_ratio 81 = .ok (.goto 14, 3) := dk_167 0 14 (dk_at dksX0_ratio_3 14 rfl rfl)
theorem dX0_ratio_84 : decode cX0_ratio 84 = .ok (.aload_n 0, 1) := dk_42 (dk_at dksX0_ratio_3 17 rfl rfl)
theorem dX0_ratio_85 : decode cX0_ratio 85 = .ok (.getfield 53, 3) := dk_180 0 53 (dk_at dksX0_ratio_3 18 rfl rfl)
theorem dX0_ratio_88 : decode cX0_ratio 88 = .ok (.iload_n 1, 1) := dk_27 (dk_at dksX0_ratio_3 21 rfl rfl)
theorem dX0_ratio_89 : decode cX0_ratio 89 = .ok (.aaload, 1) := dk_50 (dk_at dksX0_ratio_3 22 rfl rfl)
theorem dX0_ratio_90 : decode cX0_ratio 90 = .ok (.getfield 63, 3) := dk_180 0 63 (dk_at dksX0_ratio_4 0 rfl rfl)
theorem dX0_ratio_93 : decode cX0_ratio 93 = .ok (.iload_n 3, 1) := dk_29 (dk_at dksX0_ratio_4 3 rfl rfl)
theorem dX0_ratio_94 : decode cX0_ratio 94 = .ok (.iaload, 1) := dk_46 (dk_at dksX0_ratio_4 4 rfl rfl)
theorem dX0_ratio_95 : decode cX0_ratio 95 = .ok (.istore 6, 2) := dk_54 6 (dk_at dksX0_ratio_4 5 rfl rfl)
theorem dX0_ratio_97 : decode cX0_ratio 97 = .ok (.iload 6, 2) := dk_21 6 (dk_at dksX0_ratio_4 7 rfl rfl)
theorem dX0_ratio_99 : decode cX0_ratio 99 = .ok (.ifCond .ne 8, 3) := dk_154 0 8 (dk_at dksX0_ratio_4 9 rfl rfl)
theorem dX0_ratio_102 : decode cX0_ratio 102 = .ok (.bipush (-4), 2) := dk_16 252 (dk_at dksX0_ratio_4 12 rfl rfl)
theorem dX0_ratio_104 : decode cX0_ratio 104 = .ok (.goto 15, 3) := dk_167 0 15 (dk_at dksX0_ratio_4 14 rfl rfl)
theorem dX0_ratio_107 : decode cX0_ratio 107 = .ok (.iload 5, 2) := dk_21 5 (dk_at dksX0_ratio_4 17 rfl rfl)
theorem dX0_ratio_109 : decode cX0_ratio 109 = .ok (.i2l, 1) := dk_133 (dk_at dksX0_ratio_4 19 rfl rfl)
theorem dX0_ratio_110 : decode cX0_ratio 110 = .ok (.iload 6, 2) := dk_21 6 (dk_at dksX0_ratio_4 20 rfl rfl)
theorem dX0_ratio_112 : decode cX0_ratio 112 = .ok (.i2l, 1) := dk_133 (dk_at dksX0_ratio_4 22 rfl rfl)
theorem dX0_ratio_113 : decode cX0_ratio 113 = .ok (.iload 4, 2) := dk_21 4 (dk_at dksX0_ratio_5 0 rfl rfl)
theorem dX0_ratio_115 : decode cX0_ratio 115 = .ok (.invokestatic 128, 3) := dk_184 0 128 (dk_at dksX0_ratio_5 2 rfl rfl)
theorem dX0_ratio_118 : decode cX0_ratio 118 = .ok (.l2i, 1) := dk_136 (dk_at dksX0_ratio_5 5 rfl rfl)
theorem dX0_ratio_119 : decode cX0_ratio 119 = .ok (.ireturn, 1) := dk_172 (dk_at dksX0_ratio_5 6 rfl rfl)
abbrev cX0_isEvent : ByteArray := prog_1_method_10_code
def yX0_isEvent : MethodName := ⟨RX0, "isEvent", "(I)Z"⟩
def dkwX0_isEvent_0 : List UInt8 := [26, 133, 9, 20, 0, 112, 184, 0, 21, 172]
abbrev dktX0_isEvent_0 : List UInt8 := dkwX0_isEvent_0 ++ []
theorem dksX0_isEvent_0 : cX0_isEvent.data.toList.drop 0 = dktX0_isEvent_0 := by decide +kernel
theorem dX0_isEvent_0 : decode cX0_isEvent 0 = .ok (.iload_n 0, 1) := dk_26 (dk_at dksX0_isEvent_0 0 rfl rfl)
theorem dX0_isEvent_1 : decode cX0_isEvent 1 = .ok (.i2l, 1) := dk_133 (dk_at dksX0_isEvent_0 1 rfl rfl)
theorem dX0_isEvent_2 : decode cX0_isEvent 2 = .ok (.lconst 0, 1) := dk_9 (dk_at dksX0_isEvent_0 2 rfl rfl)
theorem dX0_isEvent_3 : decode cX0_isEvent 3 = .ok (.ldc2_w 112, 3) := dk_20 0 112 (dk_at dksX0_isEvent_0 3 rfl rfl)
theorem dX0_isEvent_6 : decode cX0_isEvent 6 = .ok (.invokestatic 21, 3) := dk_184 0 21 (dk_at dksX0_isEvent_0 6 rfl rfl)
theorem dX0_isEvent_9 : decode cX0_isEvent 9 = .ok (.ireturn, 1) := dk_172 (dk_at dksX0_isEvent_0 9 rfl rfl)
abbrev cX0_lowest : ByteArray := prog_1_method_3_code
def yX0_lowest : MethodName := ⟨RX0, "lowest", "(JJI)J"⟩
def dkwX0_lowest_0 : List UInt8 := [21, 4, 5, 112, 154, 0, 7, 30, 167, 0, 4, 32, 30, 32, 184, 0, 7, 109, 173]
abbrev dktX0_lowest_0 : List UInt8 := dkwX0_lowest_0 ++ []
theorem dksX0_lowest_0 : cX0_lowest.data.toList.drop 0 = dktX0_lowest_0 := by decide +kernel
theorem dX0_lowest_0 : decode cX0_lowest 0 = .ok (.iload 4, 2) := dk_21 4 (dk_at dksX0_lowest_0 0 rfl rfl)
theorem dX0_lowest_2 : decode cX0_lowest 2 = .ok (.iconst 2, 1) := dk_5 (dk_at dksX0_lowest_0 2 rfl rfl)
theorem dX0_lowest_3 : decode cX0_lowest 3 = .ok (.irem, 1) := dk_112 (dk_at dksX0_lowest_0 3 rfl rfl)
theorem dX0_lowest_4 : decode cX0_lowest 4 = .ok (.ifCond .ne 7, 3) := dk_154 0 7 (dk_at dksX0_lowest_0 4 rfl rfl)
theorem dX0_lowest_7 : decode cX0_lowest 7 = .ok (.lload_n 0, 1) := dk_30 (dk_at dksX0_lowest_0 7 rfl rfl)
theorem dX0_lowest_8 : decode cX0_lowest 8 = .ok (.goto 4, 3) := dk_167 0 4 (dk_at dksX0_lowest_0 8 rfl rfl)
theorem dX0_lowest_11 : decode cX0_lowest 11 = .ok (.lload_n 2, 1) := dk_32 (dk_at dksX0_lowest_0 11 rfl rfl)
theorem dX0_lowest_12 : decode cX0_lowest 12 = .ok (.lload_n 0, 1) := dk_30 (dk_at dksX0_lowest_0 12 rfl rfl)
theorem dX0_lowest_13 : decode cX0_lowest 13 = .ok (.lload_n 2, 1) := dk_32 (dk_at dksX0_lowest_0 13 rfl rfl)
theorem dX0_lowest_14 : decode cX0_lowest 14 = .ok (.invokestatic 7, 3) := dk_184 0 7 (dk_at dksX0_lowest_0 14 rfl rfl)
theorem dX0_lowest_17 : decode cX0_lowest 17 = .ok (.ldiv, 1) := dk_109 (dk_at dksX0_lowest_0 17 rfl rfl)
theorem dX0_lowest_18 : decode cX0_lowest 18 = .ok (.lreturn, 1) := dk_173 (dk_at dksX0_lowest_0 18 rfl rfl)
abbrev cX0_common : ByteArray := prog_1_method_2_code
def yX0_common : MethodName := ⟨RX0, "common", "(JJ)J"⟩
def dkwX0_common_1 : List UInt8 := [22, 6, 55, 4, 22, 8, 55, 6, 167, 255, 234, 22, 4, 173]
abbrev dktX0_common_1 : List UInt8 := dkwX0_common_1 ++ []
def dkwX0_common_0 : List UInt8 := [30, 184, 0, 1, 55, 4, 32, 55, 6, 22, 6, 9, 148, 153, 0, 21, 22, 4, 22, 6, 113, 55, 8]
abbrev dktX0_common_0 : List UInt8 := dkwX0_common_0 ++ dktX0_common_1
theorem dksX0_common_0 : cX0_common.data.toList.drop 0 = dktX0_common_0 := by decide +kernel
theorem dksX0_common_1 : cX0_common.data.toList.drop 23 = dktX0_common_1 := dk_seg dksX0_common_0 23 rfl rfl
theorem dX0_common_0 : decode cX0_common 0 = .ok (.lload_n 0, 1) := dk_30 (dk_at dksX0_common_0 0 rfl rfl)
theorem dX0_common_1 : decode cX0_common 1 = .ok (.invokestatic 1, 3) := dk_184 0 1 (dk_at dksX0_common_0 1 rfl rfl)
theorem dX0_common_4 : decode cX0_common 4 = .ok (.lstore 4, 2) := dk_55 4 (dk_at dksX0_common_0 4 rfl rfl)
theorem dX0_common_6 : decode cX0_common 6 = .ok (.lload_n 2, 1) := dk_32 (dk_at dksX0_common_0 6 rfl rfl)
theorem dX0_common_7 : decode cX0_common 7 = .ok (.lstore 6, 2) := dk_55 6 (dk_at dksX0_common_0 7 rfl rfl)
theorem dX0_common_9 : decode cX0_common 9 = .ok (.lload 6, 2) := dk_22 6 (dk_at dksX0_common_0 9 rfl rfl)
theorem dX0_common_11 : decode cX0_common 11 = .ok (.lconst 0, 1) := dk_9 (dk_at dksX0_common_0 11 rfl rfl)
theorem dX0_common_12 : decode cX0_common 12 = .ok (.lcmp, 1) := dk_148 (dk_at dksX0_common_0 12 rfl rfl)
theorem dX0_common_13 : decode cX0_common 13 = .ok (.ifCond .eq 21, 3) := dk_153 0 21 (dk_at dksX0_common_0 13 rfl rfl)
theorem dX0_common_16 : decode cX0_common 16 = .ok (.lload 4, 2) := dk_22 4 (dk_at dksX0_common_0 16 rfl rfl)
theorem dX0_common_18 : decode cX0_common 18 = .ok (.lload 6, 2) := dk_22 6 (dk_at dksX0_common_0 18 rfl rfl)
theorem dX0_common_20 : decode cX0_common 20 = .ok (.lrem, 1) := dk_113 (dk_at dksX0_common_0 20 rfl rfl)
theorem dX0_common_21 : decode cX0_common 21 = .ok (.lstore 8, 2) := dk_55 8 (dk_at dksX0_common_0 21 rfl rfl)
theorem dX0_common_23 : decode cX0_common 23 = .ok (.lload 6, 2) := dk_22 6 (dk_at dksX0_common_1 0 rfl rfl)
theorem dX0_common_25 : decode cX0_common 25 = .ok (.lstore 4, 2) := dk_55 4 (dk_at dksX0_common_1 2 rfl rfl)
theorem dX0_common_27 : decode cX0_common 27 = .ok (.lload 8, 2) := dk_22 8 (dk_at dksX0_common_1 4 rfl rfl)
theorem dX0_common_29 : decode cX0_common 29 = .ok (.lstore 6, 2) := dk_55 6 (dk_at dksX0_common_1 6 rfl rfl)
theorem dX0_common_31 : decode cX0_common 31 = .ok (.goto (-22), 3) := dk_167 255 234 (dk_at dksX0_common_1 8 rfl rfl)
theorem dX0_common_34 : decode cX0_common 34 = .ok (.lload 4, 2) := dk_22 4 (dk_at dksX0_common_1 11 rfl rfl)
theorem dX0_common_36 : decode cX0_common 36 = .ok (.lreturn, 1) := dk_173 (dk_at dksX0_common_1 13 rfl rfl)
abbrev cX0_loop : ByteArray := prog_1_method_16_code
def yX0_loop : MethodName := ⟨RX0, "loop", "(II)I"⟩
def dkwX0_loop_3 : List UInt8 := [133, 45, 182, 0, 145, 105, 136, 172, 2, 172]
abbrev dktX0_loop_3 : List UInt8 := dkwX0_loop_3 ++ []
def dkwX0_loop_2 : List UInt8 := [45, 180, 0, 135, 172, 45, 180, 0, 138, 172, 45, 182, 0, 139, 172, 45, 180, 0, 142, 172, 45, 180, 0, 142]
abbrev dktX0_loop_2 : List UInt8 := dkwX0_loop_2 ++ dktX0_loop_3
def dkwX0_loop_1 : List UInt8 := [170, 0, 0, 0, 0, 66, 0, 0, 0, 0, 0, 0, 0, 4, 0, 0, 0, 34, 0, 0, 0, 39, 0, 0, 0, 44, 0, 0, 0, 49, 0, 0, 0, 54]
abbrev dktX0_loop_1 : List UInt8 := dkwX0_loop_1 ++ dktX0_loop_2
def dkwX0_loop_0 : List UInt8 := [42, 27, 182, 0, 132, 154, 0, 5, 2, 172, 42, 180, 0, 90, 27, 50, 78, 28]
abbrev dktX0_loop_0 : List UInt8 := dkwX0_loop_0 ++ dktX0_loop_1
theorem dksX0_loop_0 : cX0_loop.data.toList.drop 0 = dktX0_loop_0 := by decide +kernel
theorem dksX0_loop_1 : cX0_loop.data.toList.drop 18 = dktX0_loop_1 := dk_seg dksX0_loop_0 18 rfl rfl
theorem dksX0_loop_2 : cX0_loop.data.toList.drop 52 = dktX0_loop_2 := dk_seg dksX0_loop_1 34 rfl rfl
theorem dksX0_loop_3 : cX0_loop.data.toList.drop 76 = dktX0_loop_3 := dk_seg dksX0_loop_2 24 rfl rfl
theorem dX0_loop_0 : decode cX0_loop 0 = .ok (.aload_n 0, 1) := dk_42 (dk_at dksX0_loop_0 0 rfl rfl)
theorem dX0_loop_1 : decode cX0_loop 1 = .ok (.iload_n 1, 1) := dk_27 (dk_at dksX0_loop_0 1 rfl rfl)
theorem dX0_loop_2 : decode cX0_loop 2 = .ok (.invokevirtual 132, 3) := dk_182 0 132 (dk_at dksX0_loop_0 2 rfl rfl)
theorem dX0_loop_5 : decode cX0_loop 5 = .ok (.ifCond .ne 5, 3) := dk_154 0 5 (dk_at dksX0_loop_0 5 rfl rfl)
theorem dX0_loop_8 : decode cX0_loop 8 = .ok (.iconst (-1), 1) := dk_2 (dk_at dksX0_loop_0 8 rfl rfl)
theorem dX0_loop_9 : decode cX0_loop 9 = .ok (.ireturn, 1) := dk_172 (dk_at dksX0_loop_0 9 rfl rfl)
theorem dX0_loop_10 : decode cX0_loop 10 = .ok (.aload_n 0, 1) := dk_42 (dk_at dksX0_loop_0 10 rfl rfl)
theorem dX0_loop_11 : decode cX0_loop 11 = .ok (.getfield 90, 3) := dk_180 0 90 (dk_at dksX0_loop_0 11 rfl rfl)
theorem dX0_loop_14 : decode cX0_loop 14 = .ok (.iload_n 1, 1) := dk_27 (dk_at dksX0_loop_0 14 rfl rfl)
theorem dX0_loop_15 : decode cX0_loop 15 = .ok (.aaload, 1) := dk_50 (dk_at dksX0_loop_0 15 rfl rfl)
theorem dX0_loop_16 : decode cX0_loop 16 = .ok (.astore_n 3, 1) := dk_78 (dk_at dksX0_loop_0 16 rfl rfl)
theorem dX0_loop_17 : decode cX0_loop 17 = .ok (.iload_n 2, 1) := dk_28 (dk_at dksX0_loop_0 17 rfl rfl)
theorem dX0_loop_18 : decode cX0_loop 18 = .ok (.tableswitch 66 0 4 #[34, 39, 44, 49, 54], 34) := by decide +kernel
theorem dX0_loop_52 : decode cX0_loop 52 = .ok (.aload_n 3, 1) := dk_45 (dk_at dksX0_loop_2 0 rfl rfl)
theorem dX0_loop_53 : decode cX0_loop 53 = .ok (.getfield 135, 3) := dk_180 0 135 (dk_at dksX0_loop_2 1 rfl rfl)
theorem dX0_loop_56 : decode cX0_loop 56 = .ok (.ireturn, 1) := dk_172 (dk_at dksX0_loop_2 4 rfl rfl)
theorem dX0_loop_57 : decode cX0_loop 57 = .ok (.aload_n 3, 1) := dk_45 (dk_at dksX0_loop_2 5 rfl rfl)
theorem dX0_loop_58 : decode cX0_loop 58 = .ok (.getfield 138, 3) := dk_180 0 138 (dk_at dksX0_loop_2 6 rfl rfl)
theorem dX0_loop_61 : decode cX0_loop 61 = .ok (.ireturn, 1) := dk_172 (dk_at dksX0_loop_2 9 rfl rfl)
theorem dX0_loop_62 : decode cX0_loop 62 = .ok (.aload_n 3, 1) := dk_45 (dk_at dksX0_loop_2 10 rfl rfl)
theorem dX0_loop_63 : decode cX0_loop 63 = .ok (.invokevirtual 139, 3) := dk_182 0 139 (dk_at dksX0_loop_2 11 rfl rfl)
theorem dX0_loop_66 : decode cX0_loop 66 = .ok (.ireturn, 1) := dk_172 (dk_at dksX0_loop_2 14 rfl rfl)
theorem dX0_loop_67 : decode cX0_loop 67 = .ok (.aload_n 3, 1) := dk_45 (dk_at dksX0_loop_2 15 rfl rfl)
theorem dX0_loop_68 : decode cX0_loop 68 = .ok (.getfield 142, 3) := dk_180 0 142 (dk_at dksX0_loop_2 16 rfl rfl)
theorem dX0_loop_71 : decode cX0_loop 71 = .ok (.ireturn, 1) := dk_172 (dk_at dksX0_loop_2 19 rfl rfl)
theorem dX0_loop_72 : decode cX0_loop 72 = .ok (.aload_n 3, 1) := dk_45 (dk_at dksX0_loop_2 20 rfl rfl)
theorem dX0_loop_73 : decode cX0_loop 73 = .ok (.getfield 142, 3) := dk_180 0 142 (dk_at dksX0_loop_2 21 rfl rfl)
theorem dX0_loop_76 : decode cX0_loop 76 = .ok (.i2l, 1) := dk_133 (dk_at dksX0_loop_3 0 rfl rfl)
theorem dX0_loop_77 : decode cX0_loop 77 = .ok (.aload_n 3, 1) := dk_45 (dk_at dksX0_loop_3 1 rfl rfl)
theorem dX0_loop_78 : decode cX0_loop 78 = .ok (.invokevirtual 145, 3) := dk_182 0 145 (dk_at dksX0_loop_3 2 rfl rfl)
theorem dX0_loop_81 : decode cX0_loop 81 = .ok (.lmul, 1) := dk_105 (dk_at dksX0_loop_3 5 rfl rfl)
theorem dX0_loop_82 : decode cX0_loop 82 = .ok (.l2i, 1) := dk_136 (dk_at dksX0_loop_3 6 rfl rfl)
theorem dX0_loop_83 : decode cX0_loop 83 = .ok (.ireturn, 1) := dk_172 (dk_at dksX0_loop_3 7 rfl rfl)
theorem dX0_loop_84 : decode cX0_loop 84 = .ok (.iconst (-1), 1) := dk_2 (dk_at dksX0_loop_3 8 rfl rfl)
theorem dX0_loop_85 : decode cX0_loop 85 = .ok (.ireturn, 1) := dk_172 (dk_at dksX0_loop_3 9 rfl rfl)
abbrev cX0_isLoop : ByteArray := prog_1_method_15_code
def yX0_isLoop : MethodName := ⟨RX0, "isLoop", "(I)Z"⟩
def dkwX0_isLoop_0 : List UInt8 := [27, 133, 9, 42, 180, 0, 94, 4, 100, 133, 184, 0, 21, 172]
abbrev dktX0_isLoop_0 : List UInt8 := dkwX0_isLoop_0 ++ []
theorem dksX0_isLoop_0 : cX0_isLoop.data.toList.drop 0 = dktX0_isLoop_0 := by decide +kernel
theorem dX0_isLoop_0 : decode cX0_isLoop 0 = .ok (.iload_n 1, 1) := dk_27 (dk_at dksX0_isLoop_0 0 rfl rfl)
theorem dX0_isLoop_1 : decode cX0_isLoop 1 = .ok (.i2l, 1) := dk_133 (dk_at dksX0_isLoop_0 1 rfl rfl)
theorem dX0_isLoop_2 : decode cX0_isLoop 2 = .ok (.lconst 0, 1) := dk_9 (dk_at dksX0_isLoop_0 2 rfl rfl)
theorem dX0_isLoop_3 : decode cX0_isLoop 3 = .ok (.aload_n 0, 1) := dk_42 (dk_at dksX0_isLoop_0 3 rfl rfl)
theorem dX0_isLoop_4 : decode cX0_isLoop 4 = .ok (.getfield 94, 3) := dk_180 0 94 (dk_at dksX0_isLoop_0 4 rfl rfl)
theorem dX0_isLoop_7 : decode cX0_isLoop 7 = .ok (.iconst 1, 1) := dk_4 (dk_at dksX0_isLoop_0 7 rfl rfl)
theorem dX0_isLoop_8 : decode cX0_isLoop 8 = .ok (.isub, 1) := dk_100 (dk_at dksX0_isLoop_0 8 rfl rfl)
theorem dX0_isLoop_9 : decode cX0_isLoop 9 = .ok (.i2l, 1) := dk_133 (dk_at dksX0_isLoop_0 9 rfl rfl)
theorem dX0_isLoop_10 : decode cX0_isLoop 10 = .ok (.invokestatic 21, 3) := dk_184 0 21 (dk_at dksX0_isLoop_0 10 rfl rfl)
theorem dX0_isLoop_13 : decode cX0_isLoop 13 = .ok (.ireturn, 1) := dk_172 (dk_at dksX0_isLoop_0 13 rfl rfl)
abbrev cX0_went : ByteArray := prog_1_method_17_code
def yX0_went : MethodName := ⟨RX0, "went", "(III)I"⟩
def dkwX0_went_5 : List UInt8 := [109, 20, 0, 154, 148, 157, 0, 12, 22, 7, 22, 5, 109, 136, 167, 0, 5, 16, 252, 172]
abbrev dktX0_went_5 : List UInt8 := dkwX0_went_5 ++ []
def dkwX0_went_4 : List UInt8 := [16, 252, 172, 22, 7, 9, 148, 155, 0, 34, 22, 7, 22, 5, 113, 9, 148, 154, 0, 24, 22, 7, 22, 5]
abbrev dktX0_went_4 : List UInt8 := dkwX0_went_4 ++ dktX0_went_5
def dkwX0_went_3 : List UInt8 := [105, 101, 101, 55, 7, 22, 5, 9, 148, 154, 0, 17, 22, 7, 9, 148, 154, 0, 7, 3, 167, 0, 5]
abbrev dktX0_went_3 : List UInt8 := dkwX0_went_3 ++ dktX0_went_4
def dkwX0_went_2 : List UInt8 := [182, 0, 150, 133, 105, 55, 5, 29, 133, 42, 180, 0, 41, 28, 46, 133, 22, 5, 25, 4, 180, 0, 135, 133]
abbrev dktX0_went_2 : List UInt8 := dkwX0_went_2 ++ dktX0_went_3
def dkwX0_went_1 : List UInt8 := [154, 0, 5, 2, 172, 42, 180, 0, 90, 27, 50, 58, 4, 25, 4, 180, 0, 142, 133, 25, 4, 28]
abbrev dktX0_went_1 : List UInt8 := dkwX0_went_1 ++ dktX0_went_2
def dkwX0_went_0 : List UInt8 := [42, 27, 182, 0, 132, 153, 0, 22, 28, 184, 0, 125, 153, 0, 15, 29, 133, 9, 20, 0, 148, 184, 0, 21]
abbrev dktX0_went_0 : List UInt8 := dkwX0_went_0 ++ dktX0_went_1
theorem dksX0_went_0 : cX0_went.data.toList.drop 0 = dktX0_went_0 := by decide +kernel
theorem dksX0_went_1 : cX0_went.data.toList.drop 24 = dktX0_went_1 := dk_seg dksX0_went_0 24 rfl rfl
theorem dksX0_went_2 : cX0_went.data.toList.drop 46 = dktX0_went_2 := dk_seg dksX0_went_1 22 rfl rfl
theorem dksX0_went_3 : cX0_went.data.toList.drop 70 = dktX0_went_3 := dk_seg dksX0_went_2 24 rfl rfl
theorem dksX0_went_4 : cX0_went.data.toList.drop 93 = dktX0_went_4 := dk_seg dksX0_went_3 23 rfl rfl
theorem dksX0_went_5 : cX0_went.data.toList.drop 117 = dktX0_went_5 := dk_seg dksX0_went_4 24 rfl rfl
theorem dX0_went_0 : decode cX0_went 0 = .ok (.aload_n 0, 1) := dk_42 (dk_at dksX0_went_0 0 rfl rfl)
theorem dX0_went_1 : decode cX0_went 1 = .ok (.iload_n 1, 1) := dk_27 (dk_at dksX0_went_0 1 rfl rfl)
theorem dX0_went_2 : decode cX0_went 2 = .ok (.invokevirtual 132, 3) := dk_182 0 132 (dk_at dksX0_went_0 2 rfl rfl)
theorem dX0_went_5 : decode cX0_went 5 = .ok (.ifCond .eq 22, 3) := dk_153 0 22 (dk_at dksX0_went_0 5 rfl rfl)
theorem dX0_went_8 : decode cX0_went 8 = .ok (.iload_n 2, 1) := dk_28 (dk_at dksX0_went_0 8 rfl rfl)
theorem dX0_went_9 : decode cX0_went 9 = .ok (.invokestatic 125, 3) := dk_184 0 125 (dk_at dksX0_went_0 9 rfl rfl)
theorem dX0_went_12 : decode cX0_went 12 = .ok (.ifCond .eq 15, 3) := dk_153 0 15 (dk_at dksX0_went_0 12 rfl rfl)
theorem dX0_went_15 : decode cX0_went 15 = .ok (.iload_n 3, 1) := dk_29 (dk_at dksX0_went_0 15 rfl rfl)
theorem dX0_went_16 : decode cX0_went 16 = .ok (.i2l, 1) := dk_133 (dk_at dksX0_went_0 16 rfl rfl)
theorem dX0_went_17 : decode cX0_went 17 = .ok (.lconst 0, 1) := dk_9 (dk_at dksX0_went_0 17 rfl rfl)
theorem dX0_went_18 : decode cX0_went 18 = .ok (.ldc2_w 148, 3) := dk_20 0 148 (dk_at dksX0_went_0 18 rfl rfl)
theorem dX0_went_21 : decode cX0_went 21 = .ok (.invokestatic 21, 3) := dk_184 0 21 (dk_at dksX0_went_0 21 rfl rfl)
theorem dX0_went_24 : decode cX0_went 24 = .ok (.ifCond .ne 5, 3) := dk_154 0 5 (dk_at dksX0_went_1 0 rfl rfl)
theorem dX0_went_27 : decode cX0_went 27 = .ok (.iconst (-1), 1) := dk_2 (dk_at dksX0_went_1 3 rfl rfl)
theorem dX0_went_28 : decode cX0_went 28 = .ok (.ireturn, 1) := dk_172 (dk_at dksX0_went_1 4 rfl rfl)
theorem dX0_went_29 : decode cX0_went 29 = .ok (.aload_n 0, 1) := dk_42 (dk_at dksX0_went_1 5 rfl rfl)
theorem dX0_went_30 : decode cX0_went 30 = .ok (.getfield 90, 3) := dk_180 0 90 (dk_at dksX0_went_1 6 rfl rfl)
theorem dX0_went_33 : decode cX0_went 33 = .ok (.iload_n 1, 1) := dk_27 (dk_at dksX0_went_1 9 rfl rfl)
theorem dX0_went_34 : decode cX0_went 34 = .ok (.aaload, 1) := dk_50 (dk_at dksX0_went_1 10 rfl rfl)
theorem dX0_went_35 : decode cX0_went 35 = .ok (.astore 4, 2) := dk_58 4 (dk_at dksX0_went_1 11 rfl rfl)
theorem dX0_went_37 : decode cX0_went 37 = .ok (.aload 4, 2) := dk_25 4 (dk_at dksX0_went_1 13 rfl rfl)
theorem dX0_went_39 : decode cX0_went 39 = .ok (.getfield 142, 3) := dk_180 0 142 (dk_at dksX0_went_1 15 rfl rfl)
theorem dX0_went_42 : decode cX0_went 42 = .ok (.i2l, 1) := dk_133 (dk_at dksX0_went_1 18 rfl rfl)
theorem dX0_went_43 : decode cX0_went 43 = .ok (.aload 4, 2) := dk_25 4 (dk_at dksX0_went_1 19 rfl rfl)
theorem dX0_went_45 : decode cX0_went 45 = .ok (.iload_n 2, 1) := dk_28 (dk_at dksX0_went_1 21 rfl rfl)
theorem dX0_went_46 : decode cX0_went 46 = .ok (.invokevirtual 150, 3) := dk_182 0 150 (dk_at dksX0_went_2 0 rfl rfl)
theorem dX0_went_49 : decode cX0_went 49 = .ok (.i2l, 1) := dk_133 (dk_at dksX0_went_2 3 rfl rfl)
theorem dX0_went_50 : decode cX0_went 50 = .ok (.lmul, 1) := dk_105 (dk_at dksX0_went_2 4 rfl rfl)
theorem dX0_went_51 : decode cX0_went 51 = .ok (.lstore 5, 2) := dk_55 5 (dk_at dksX0_went_2 5 rfl rfl)
theorem dX0_went_53 : decode cX0_went 53 = .ok (.iload_n 3, 1) := dk_29 (dk_at dksX0_went_2 7 rfl rfl)
theorem dX0_went_54 : decode cX0_went 54 = .ok (.i2l, 1) := dk_133 (dk_at dksX0_went_2 8 rfl rfl)
theorem dX0_went_55 : decode cX0_went 55 = .ok (.aload_n 0, 1) := dk_42 (dk_at dksX0_went_2 9 rfl rfl)
theorem dX0_went_56 : decode cX0_went 56 = .ok (.getfield 41, 3) := dk_180 0 41 (dk_at dksX0_went_2 10 rfl rfl)
theorem dX0_went_59 : decode cX0_went 59 = .ok (.iload_n 2, 1) := dk_28 (dk_at dksX0_went_2 13 rfl rfl)
theorem dX0_went_60 : decode cX0_went 60 = .ok (.iaload, 1) := dk_46 (dk_at dksX0_went_2 14 rfl rfl)
theorem dX0_went_61 : decode cX0_went 61 = .ok (.i2l, 1) := dk_133 (dk_at dksX0_went_2 15 rfl rfl)
theorem dX0_went_62 : decode cX0_went 62 = .ok (.lload 5, 2) := dk_22 5 (dk_at dksX0_went_2 16 rfl rfl)
theorem dX0_went_64 : decode cX0_went 64 = .ok (.aload 4, 2) := dk_25 4 (dk_at dksX0_went_2 18 rfl rfl)
theorem dX0_went_66 : decode cX0_went 66 = .ok (.getfield 135, 3) := dk_180 0 135 (dk_at dksX0_went_2 20 rfl rfl)
theorem dX0_went_69 : decode cX0_went 69 = .ok (.i2l, 1) := dk_133 (dk_at dksX0_went_2 23 rfl rfl)
theorem dX0_went_70 : decode cX0_went 70 = .ok (.lmul, 1) := dk_105 (dk_at dksX0_went_3 0 rfl rfl)
theorem dX0_went_71 : decode cX0_went 71 = .ok (.lsub, 1) := dk_101 (dk_at dksX0_went_3 1 rfl rfl)
theorem dX0_went_72 : decode cX0_went 72 = .ok (.lsub, 1) := dk_101 (dk_at dksX0_went_3 2 rfl rfl)
theorem dX0_went_73 : decode cX0_went 73 = .ok (.lstore 7, 2) := dk_55 7 (dk_at dksX0_went_3 3 rfl rfl)
theorem dX0_went_75 : decode cX0_went 75 = .ok (.lload 5, 2) := dk_22 5 (dk_at dksX0_went_3 5 rfl rfl)
theorem dX0_went_77 : decode cX0_went 77 = .ok (.lconst 0, 1) := dk_9 (dk_at dksX0_went_3 7 rfl rfl)
theorem dX0_went_78 : decode cX0_went 78 = .ok (.lcmp, 1) := dk_148 (dk_at dksX0_went_3 8 rfl rfl)
theorem dX0_went_79 : decode cX0_went 79 = .ok (.ifCond .ne 17, 3) := dk_154 0 17 (dk_at dksX0_went_3 9 rfl rfl)
theorem dX0_went_82 : decode cX0_went 82 = .ok (.lload 7, 2) := dk_22 7 (dk_at dksX0_went_3 12 rfl rfl)
theorem dX0_went_84 : decode cX0_went 84 = .ok (.lconst 0, 1) := dk_9 (dk_at dksX0_went_3 14 rfl rfl)
theorem dX0_went_85 : decode cX0_went 85 = .ok (.lcmp, 1) := dk_148 (dk_at dksX0_went_3 15 rfl rfl)
theorem dX0_went_86 : decode cX0_went 86 = .ok (.ifCond .ne 7, 3) := dk_154 0 7 (dk_at dksX0_went_3 16 rfl rfl)
theorem dX0_went_89 : decode cX0_went 89 = .ok (.iconst 0, 1) := dk_3 (dk_at dksX0_went_3 19 rfl rfl)
theorem dX0_went_90 : decode cX0_went 90 = .ok (.goto 5, 3) := dk_167 0 5 (dk_at dksX0_went_3 20 rfl rfl)
theorem dX0_went_93 : decode cX0_went 93 = .ok (.bipush (-4), 2) := dk_16 252 (dk_at dksX0_went_4 0 rfl rfl)
theorem dX0_went_95 : decode cX0_went 95 = .ok (.ireturn, 1) := dk_172 (dk_at dksX0_went_4 2 rfl rfl)
theorem dX0_went_96 : decode cX0_went 96 = .ok (.lload 7, 2) := dk_22 7 (dk_at dksX0_went_4 3 rfl rfl)
theorem dX0_went_98 : decode cX0_went 98 = .ok (.lconst 0, 1) := dk_9 (dk_at dksX0_went_4 5 rfl rfl)
theorem dX0_went_99 : decode cX0_went 99 = .ok (.lcmp, 1) := dk_148 (dk_at dksX0_went_4 6 rfl rfl)
theorem dX0_went_100 : decode cX0_went 100 = .ok (.ifCond .lt 34, 3) := dk_155 0 34 (dk_at dksX0_went_4 7 rfl rfl)
theorem dX0_went_103 : decode cX0_went 103 = .ok (.lload 7, 2) := dk_22 7 (dk_at dksX0_went_4 10 rfl rfl)
theorem dX0_went_105 : decode cX0_went 105 = .ok (.lload 5, 2) := dk_22 5 (dk_at dksX0_went_4 12 rfl rfl)
theorem dX0_went_107 : decode cX0_went 107 = .ok (.lrem, 1) := dk_113 (dk_at dksX0_went_4 14 rfl rfl)
theorem dX0_went_108 : decode cX0_went 108 = .ok (.lconst 0, 1) := dk_9 (dk_at dksX0_went_4 15 rfl rfl)
theorem dX0_went_109 : decode cX0_went 109 = .ok (.lcmp, 1) := dk_148 (dk_at dksX0_went_4 16 rfl rfl)
theorem dX0_went_110 : decode cX0_went 110 = .ok (.ifCond .ne 24, 3) := dk_154 0 24 (dk_at dksX0_went_4 17 rfl rfl)
theorem dX0_went_113 : decode cX0_went 113 = .ok (.lload 7, 2) := dk_22 7 (dk_at dksX0_went_4 20 rfl rfl)
theorem dX0_went_115 : decode cX0_went 115 = .ok (.lload 5, 2) := dk_22 5 (dk_at dksX0_went_4 22 rfl rfl)
theorem dX0_went_117 : decode cX0_went 117 = .ok (.ldiv, 1) := dk_109 (dk_at dksX0_went_5 0 rfl rfl)
theorem dX0_went_118 : decode cX0_went 118 = .ok (.ldc2_w 154, 3) := dk_20 0 154 (dk_at dksX0_went_5 1 rfl rfl)
theorem dX0_went_121 : decode cX0_went 121 = .ok (.lcmp, 1) := dk_148 (dk_at dksX0_went_5 4 rfl rfl)
theorem dX0_went_122 : decode cX0_went 122 = .ok (.ifCond .gt 12, 3) := dk_157 0 12 (dk_at dksX0_went_5 5 rfl rfl)
theorem dX0_went_125 : decode cX0_went 125 = .ok (.lload 7, 2) := dk_22 7 (dk_at dksX0_went_5 8 rfl rfl)
theorem dX0_went_127 : decode cX0_went 127 = .ok (.lload 5, 2) := dk_22 5 (dk_at dksX0_went_5 10 rfl rfl)
theorem dX0_went_129 : decode cX0_went 129 = .ok (.ldiv, 1) := dk_109 (dk_at dksX0_went_5 12 rfl rfl)
theorem dX0_went_130 : decode cX0_went 130 = .ok (.l2i, 1) := dk_136 (dk_at dksX0_went_5 13 rfl rfl)
theorem dX0_went_131 : decode cX0_went 131 = .ok (.goto 5, 3) := dk_167 0 5 (dk_at dksX0_went_5 14 rfl rfl)
theorem dX0_went_134 : decode cX0_went 134 = .ok (.bipush (-4), 2) := dk_16 252 (dk_at dksX0_went_5 17 rfl rfl)
theorem dX0_went_136 : decode cX0_went 136 = .ok (.ireturn, 1) := dk_172 (dk_at dksX0_went_5 19 rfl rfl)
abbrev cX0_hot : ByteArray := prog_1_method_19_code
def yX0_hot : MethodName := ⟨RX0, "hot", "(III)I"⟩
def dkwX0_hot_7 : List UInt8 := [167, 255, 144, 29, 154, 0, 11, 21, 4, 184, 0, 158, 167, 0, 5, 21, 4, 172]
abbrev dktX0_hot_7 : List UInt8 := dkwX0_hot_7 ++ []
def dkwX0_hot_6 : List UInt8 := [180, 0, 41, 27, 46, 133, 105, 148, 155, 0, 8, 21, 5, 167, 0, 5, 21, 4, 54, 4, 132, 5, 1]
abbrev dktX0_hot_6 : List UInt8 := dkwX0_hot_6 ++ dktX0_hot_7
def dkwX0_hot_5 : List UInt8 := [167, 0, 4, 9, 97, 55, 6, 132, 8, 1, 167, 255, 216, 20, 0, 156, 22, 6, 105, 28, 133, 42]
abbrev dktX0_hot_5 : List UInt8 := dkwX0_hot_5 ++ dktX0_hot_6
def dkwX0_hot_4 : List UInt8 := [162, 0, 37, 22, 6, 21, 5, 21, 8, 122, 4, 126, 4, 160, 0, 14, 42, 21, 8, 27, 182, 0, 163, 133]
abbrev dktX0_hot_4 : List UInt8 := dkwX0_hot_4 ++ dktX0_hot_5
def dkwX0_hot_3 : List UInt8 := [184, 0, 158, 21, 4, 184, 0, 158, 162, 0, 81, 9, 55, 6, 3, 54, 8, 21, 8, 42, 180, 0, 50]
abbrev dktX0_hot_3 : List UInt8 := dkwX0_hot_3 ++ dktX0_hot_4
def dkwX0_hot_2 : List UInt8 := [3, 54, 5, 21, 5, 4, 42, 180, 0, 50, 120, 162, 0, 107, 21, 4, 16, 252, 159, 0, 16, 21, 5]
abbrev dktX0_hot_2 : List UInt8 := dkwX0_hot_2 ++ dktX0_hot_3
def dkwX0_hot_1 : List UInt8 := [184, 0, 21, 154, 0, 5, 2, 172, 42, 180, 0, 41, 27, 46, 154, 0, 6, 16, 252, 172, 16, 252, 54, 4]
abbrev dktX0_hot_1 : List UInt8 := dkwX0_hot_1 ++ dktX0_hot_2
def dkwX0_hot_0 : List UInt8 := [27, 184, 0, 125, 153, 0, 25, 28, 133, 10, 20, 0, 156, 184, 0, 21, 153, 0, 13, 29, 133, 9, 10]
abbrev dktX0_hot_0 : List UInt8 := dkwX0_hot_0 ++ dktX0_hot_1
theorem dksX0_hot_0 : cX0_hot.data.toList.drop 0 = dktX0_hot_0 := by decide +kernel
theorem dksX0_hot_1 : cX0_hot.data.toList.drop 23 = dktX0_hot_1 := dk_seg dksX0_hot_0 23 rfl rfl
theorem dksX0_hot_2 : cX0_hot.data.toList.drop 47 = dktX0_hot_2 := dk_seg dksX0_hot_1 24 rfl rfl
theorem dksX0_hot_3 : cX0_hot.data.toList.drop 70 = dktX0_hot_3 := dk_seg dksX0_hot_2 23 rfl rfl
theorem dksX0_hot_4 : cX0_hot.data.toList.drop 93 = dktX0_hot_4 := dk_seg dksX0_hot_3 23 rfl rfl
theorem dksX0_hot_5 : cX0_hot.data.toList.drop 117 = dktX0_hot_5 := dk_seg dksX0_hot_4 24 rfl rfl
theorem dksX0_hot_6 : cX0_hot.data.toList.drop 139 = dktX0_hot_6 := dk_seg dksX0_hot_5 22 rfl rfl
theorem dksX0_hot_7 : cX0_hot.data.toList.drop 162 = dktX0_hot_7 := dk_seg dksX0_hot_6 23 rfl rfl
theorem dX0_hot_0 : decode cX0_hot 0 = .ok (.iload_n 1, 1) := dk_27 (dk_at dksX0_hot_0 0 rfl rfl)
theorem dX0_hot_1 : decode cX0_hot 1 = .ok (.invokestatic 125, 3) := dk_184 0 125 (dk_at dksX0_hot_0 1 rfl rfl)
theorem dX0_hot_4 : decode cX0_hot 4 = .ok (.ifCond .eq 25, 3) := dk_153 0 25 (dk_at dksX0_hot_0 4 rfl rfl)
theorem dX0_hot_7 : decode cX0_hot 7 = .ok (.iload_n 2, 1) := dk_28 (dk_at dksX0_hot_0 7 rfl rfl)
theorem dX0_hot_8 : decode cX0_hot 8 = .ok (.i2l, 1) := dk_133 (dk_at dksX0_hot_0 8 rfl rfl)
theorem dX0_hot_9 : decode cX0_hot 9 = .ok (.lconst 1, 1) := dk_10 (dk_at dksX0_hot_0 9 rfl rfl)
theorem dX0_hot_10 : decode cX0_hot 10 = .ok (.ldc2_w 156, 3) := dk_20 0 156 (dk_at dksX0_hot_0 10 rfl rfl)
theorem dX0_hot_13 : decode cX0_hot 13 = .ok (.invokestatic 21, 3) := dk_184 0 21 (dk_at dksX0_hot_0 13 rfl rfl)
theorem dX0_hot_16 : decode cX0_hot 16 = .ok (.ifCond .eq 13, 3) := dk_153 0 13 (dk_at dksX0_hot_0 16 rfl rfl)
theorem dX0_hot_19 : decode cX0_hot 19 = .ok (.iload_n 3, 1) := dk_29 (dk_at dksX0_hot_0 19 rfl rfl)
theorem dX0_hot_20 : decode cX0_hot 20 = .ok (.i2l, 1) := dk_133 (dk_at dksX0_hot_0 20 rfl rfl)
theorem dX0_hot_21 : decode cX0_hot 21 = .ok (.lconst 0, 1) := dk_9 (dk_at dksX0_hot_0 21 rfl rfl)
theorem dX0_hot_22 : decode cX0_hot 22 = .ok (.lconst 1, 1) := dk_10 (dk_at dksX0_hot_0 22 rfl rfl)
theorem dX0_hot_23 : decode cX0_hot 23 = .ok (.invokestatic 21, 3) := dk_184 0 21 (dk_at dksX0_hot_1 0 rfl rfl)
theorem dX0_hot_26 : decode cX0_hot 26 = .ok (.ifCond .ne 5, 3) := dk_154 0 5 (dk_at dksX0_hot_1 3 rfl rfl)
theorem dX0_hot_29 : decode cX0_hot 29 = .ok (.iconst (-1), 1) := dk_2 (dk_at dksX0_hot_1 6 rfl rfl)
theorem dX0_hot_30 : decode cX0_hot 30 = .ok (.ireturn, 1) := dk_172 (dk_at dksX0_hot_1 7 rfl rfl)
theorem dX0_hot_31 : decode cX0_hot 31 = .ok (.aload_n 0, 1) := dk_42 (dk_at dksX0_hot_1 8 rfl rfl)
theorem dX0_hot_32 : decode cX0_hot 32 = .ok (.getfield 41, 3) := dk_180 0 41 (dk_at dksX0_hot_1 9 rfl rfl)
theorem dX0_hot_35 : decode cX0_hot 35 = .ok (.iload_n 1, 1) := dk_27 (dk_at dksX0_hot_1 12 rfl rfl)
theorem dX0_hot_36 : decode cX0_hot 36 = .ok (.iaload, 1) := dk_46 (dk_at dksX0_hot_1 13 rfl rfl)
theorem dX0_hot_37 : decode cX0_hot 37 = .ok (.ifCond .ne 6, 3) := dk_154 0 6 (dk_at dksX0_hot_1 14 rfl rfl)
theorem dX0_hot_40 : decode cX0_hot 40 = .ok (.bipush (-4), 2) := dk_16 252 (dk_at dksX0_hot_1 17 rfl rfl)
theorem dX0_hot_42 : decode cX0_hot 42 = .ok (.ireturn, 1) := dk_172 (dk_at dksX0_hot_1 19 rfl rfl)
theorem dX0_hot_43 : decode cX0_hot 43 = .ok (.bipush (-4), 2) := dk_16 252 (dk_at dksX0_hot_1 20 rfl rfl)
theorem dX0_hot_45 : decode cX0_hot 45 = .ok (.istore 4, 2) := dk_54 4 (dk_at dksX0_hot_1 22 rfl rfl)
theorem dX0_hot_47 : decode cX0_hot 47 = .ok (.iconst 0, 1) := dk_3 (dk_at dksX0_hot_2 0 rfl rfl)
theorem dX0_hot_48 : decode cX0_hot 48 = .ok (.istore 5, 2) := dk_54 5 (dk_at dksX0_hot_2 1 rfl rfl)
theorem dX0_hot_50 : decode cX0_hot 50 = .ok (.iload 5, 2) := dk_21 5 (dk_at dksX0_hot_2 3 rfl rfl)
theorem dX0_hot_52 : decode cX0_hot 52 = .ok (.iconst 1, 1) := dk_4 (dk_at dksX0_hot_2 5 rfl rfl)
theorem dX0_hot_53 : decode cX0_hot 53 = .ok (.aload_n 0, 1) := dk_42 (dk_at dksX0_hot_2 6 rfl rfl)
theorem dX0_hot_54 : decode cX0_hot 54 = .ok (.getfield 50, 3) := dk_180 0 50 (dk_at dksX0_hot_2 7 rfl rfl)
theorem dX0_hot_57 : decode cX0_hot 57 = .ok (.ishl, 1) := dk_120 (dk_at dksX0_hot_2 10 rfl rfl)
theorem dX0_hot_58 : decode cX0_hot 58 = .ok (.if_icmp .ge 107, 3) := dk_162 0 107 (dk_at dksX0_hot_2 11 rfl rfl)
theorem dX0_hot_61 : decode cX0_hot 61 = .ok (.iload 4, 2) := dk_21 4 (dk_at dksX0_hot_2 14 rfl rfl)
theorem dX0_hot_63 : decode cX0_hot 63 = .ok (.bipush (-4), 2) := dk_16 252 (dk_at dksX0_hot_2 16 rfl rfl)
theorem dX0_hot_65 : decode cX0_hot 65 = .ok (.if_icmp .eq 16, 3) := dk_159 0 16 (dk_at dksX0_hot_2 18 rfl rfl)
theorem dX0_hot_68 : decode cX0_hot 68 = .ok (.iload 5, 2) := dk_21 5 (dk_at dksX0_hot_2 21 rfl rfl)
theorem dX0_hot_70 : decode cX0_hot 70 = .ok (.invokestatic 158, 3) := dk_184 0 158 (dk_at dksX0_hot_3 0 rfl rfl)
theorem dX0_hot_73 : decode cX0_hot 73 = .ok (.iload 4, 2) := dk_21 4 (dk_at dksX0_hot_3 3 rfl rfl)
theorem dX0_hot_75 : decode cX0_hot 75 = .ok (.invokestatic 158, 3) := dk_184 0 158 (dk_at dksX0_hot_3 5 rfl rfl)
theorem dX0_hot_78 : decode cX0_hot 78 = .ok (.if_icmp .ge 81, 3) := dk_162 0 81 (dk_at dksX0_hot_3 8 rfl rfl)
theorem dX0_hot_81 : decode cX0_hot 81 = .ok (.lconst 0, 1) := dk_9 (dk_at dksX0_hot_3 11 rfl rfl)
theorem dX0_hot_82 : decode cX0_hot 82 = .ok (.lstore 6, 2) := dk_55 6 (dk_at dksX0_hot_3 12 rfl rfl)
theorem dX0_hot_84 : decode cX0_hot 84 = .ok (.iconst 0, 1) := dk_3 (dk_at dksX0_hot_3 14 rfl rfl)
theorem dX0_hot_85 : decode cX0_hot 85 = .ok (.istore 8, 2) := dk_54 8 (dk_at dksX0_hot_3 15 rfl rfl)
theorem dX0_hot_87 : decode cX0_hot 87 = .ok (.iload 8, 2) := dk_21 8 (dk_at dksX0_hot_3 17 rfl rfl)
theorem dX0_hot_89 : decode cX0_hot 89 = .ok (.aload_n 0, 1) := dk_42 (dk_at dksX0_hot_3 19 rfl rfl)
theorem dX0_hot_90 : decode cX0_hot 90 = .ok (.getfield 50, 3) := dk_180 0 50 (dk_at dksX0_hot_3 20 rfl rfl)
theorem dX0_hot_93 : decode cX0_hot 93 = .ok (.if_icmp .ge 37, 3) := dk_162 0 37 (dk_at dksX0_hot_4 0 rfl rfl)
theorem dX0_hot_96 : decode cX0_hot 96 = .ok (.lload 6, 2) := dk_22 6 (dk_at dksX0_hot_4 3 rfl rfl)
theorem dX0_hot_98 : decode cX0_hot 98 = .ok (.iload 5, 2) := dk_21 5 (dk_at dksX0_hot_4 5 rfl rfl)
theorem dX0_hot_100 : decode cX0_hot 100 = .ok (.iload 8, 2) := dk_21 8 (dk_at dksX0_hot_4 7 rfl rfl)
theorem dX0_hot_102 : decode cX0_hot 102 = .ok (.ishr, 1) := dk_122 (dk_at dksX0_hot_4 9 rfl rfl)
theorem dX0_hot_103 : decode cX0_hot 103 = .ok (.iconst 1, 1) := dk_4 (dk_at dksX0_hot_4 10 rfl rfl)
theorem dX0_hot_104 : decode cX0_hot 104 = .ok (.iand, 1) := dk_126 (dk_at dksX0_hot_4 11 rfl rfl)
theorem dX0_hot_105 : decode cX0_hot 105 = .ok (.iconst 1, 1) := dk_4 (dk_at dksX0_hot_4 12 rfl rfl)
theorem dX0_hot_106 : decode cX0_hot 106 = .ok (.if_icmp .ne 14, 3) := dk_160 0 14 (dk_at dksX0_hot_4 13 rfl rfl)
theorem dX0_hot_109 : decode cX0_hot 109 = .ok (.aload_n 0, 1) := dk_42 (dk_at dksX0_hot_4 16 rfl rfl)
theorem dX0_hot_110 : decode cX0_hot 110 = .ok (.iload 8, 2) := dk_21 8 (dk_at dksX0_hot_4 17 rfl rfl)
theorem dX0_hot_112 : decode cX0_hot 112 = .ok (.iload_n 1, 1) := dk_27 (dk_at dksX0_hot_4 19 rfl rfl)
theorem dX0_hot_113 : decode cX0_hot 113 = .ok (.invokevirtual 163, 3) := dk_182 0 163 (dk_at dksX0_hot_4 20 rfl rfl)
theorem dX0_hot_116 : decode cX0_hot 116 = .ok (.i2l, 1) := dk_133 (dk_at dksX0_hot_4 23 rfl rfl)
theorem dX0_hot_117 : decode cX0_hot 117 = .ok (.goto 4, 3) := dk_167 0 4 (dk_at dksX0_hot_5 0 rfl rfl)
theorem dX0_hot_120 : decode cX0_hot 120 = .ok (.lconst 0, 1) := dk_9 (dk_at dksX0_hot_5 3 rfl rfl)
theorem dX0_hot_121 : decode cX0_hot 121 = .ok (.ladd, 1) := dk_97 (dk_at dksX0_hot_5 4 rfl rfl)
theorem dX0_hot_122 : decode cX0_hot 122 = .ok (.lstore 6, 2) := dk_55 6 (dk_at dksX0_hot_5 5 rfl rfl)
theorem dX0_hot_124 : decode cX0_hot 124 = .ok (.iinc 8 1, 3) := dk_132 8 1 (dk_at dksX0_hot_5 7 rfl rfl)
theorem dX0_hot_127 : decode cX0_hot 127 = .ok (.goto (-40), 3) := dk_167 255 216 (dk_at dksX0_hot_5 10 rfl rfl)
theorem dX0_hot_130 : decode cX0_hot 130 = .ok (.ldc2_w 156, 3) := dk_20 0 156 (dk_at dksX0_hot_5 13 rfl rfl)
theorem dX0_hot_133 : decode cX0_hot 133 = .ok (.lload 6, 2) := dk_22 6 (dk_at dksX0_hot_5 16 rfl rfl)
theorem dX0_hot_135 : decode cX0_hot 135 = .ok (.lmul, 1) := dk_105 (dk_at dksX0_hot_5 18 rfl rfl)
theorem dX0_hot_136 : decode cX0_hot 136 = .ok (.iload_n 2, 1) := dk_28 (dk_at dksX0_hot_5 19 rfl rfl)
theorem dX0_hot_137 : decode cX0_hot 137 = .ok (.i2l, 1) := dk_133 (dk_at dksX0_hot_5 20 rfl rfl)
theorem dX0_hot_138 : decode cX0_hot 138 = .ok (.aload_n 0, 1) := dk_42 (dk_at dksX0_hot_5 21 rfl rfl)
theorem dX0_hot_139 : decode cX0_hot 139 = .ok (.getfield 41, 3) := dk_180 0 41 (dk_at dksX0_hot_6 0 rfl rfl)
theorem dX0_hot_142 : decode cX0_hot 142 = .ok (.iload_n 1, 1) := dk_27 (dk_at dksX0_hot_6 3 rfl rfl)
theorem dX0_hot_143 : decode cX0_hot 143 = .ok (.iaload, 1) := dk_46 (dk_at dksX0_hot_6 4 rfl rfl)
theorem dX0_hot_144 : decode cX0_hot 144 = .ok (.i2l, 1) := dk_133 (dk_at dksX0_hot_6 5 rfl rfl)
theorem dX0_hot_145 : decode cX0_hot 145 = .ok (.lmul, 1) := dk_105 (dk_at dksX0_hot_6 6 rfl rfl)
theorem dX0_hot_146 : decode cX0_hot 146 = .ok (.lcmp, 1) := dk_148 (dk_at dksX0_hot_6 7 rfl rfl)
theorem dX0_hot_147 : decode cX0_hot 147 = .ok (.ifCond .lt 8, 3) := dk_155 0 8 (dk_at dksX0_hot_6 8 rfl rfl)
theorem dX0_hot_150 : decode cX0_hot 150 = .ok (.iload 5, 2) := dk_21 5 (dk_at dksX0_hot_6 11 rfl rfl)
theorem dX0_hot_152 : decode cX0_hot 152 = .ok (.goto 5, 3) := dk_167 0 5 (dk_at dksX0_hot_6 13 rfl rfl)
theorem dX0_hot_155 : decode cX0_hot 155 = .ok (.iload 4, 2) := dk_21 4 (dk_at dksX0_hot_6 16 rfl rfl)
theorem dX0_hot_157 : decode cX0_hot 157 = .ok (.istore 4, 2) := dk_54 4 (dk_at dksX0_hot_6 18 rfl rfl)
theorem dX0_hot_159 : decode cX0_hot 159 = .ok (.iinc 5 1, 3) := dk_132 5 1 (dk_at dksX0_hot_6 20 rfl rfl)
theorem dX0_hot_162 : decode cX0_hot 162 = .ok (.goto (-112), 3) := dk_167 255 144 (dk_at dksX0_hot_7 0 rfl rfl)
theorem dX0_hot_165 : decode cX0_hot 165 = .ok (.iload_n 3, 1) := dk_29 (dk_at dksX0_hot_7 3 rfl rfl)
theorem dX0_hot_166 : decode cX0_hot 166 = .ok (.ifCond .ne 11, 3) := dk_154 0 11 (dk_at dksX0_hot_7 4 rfl rfl)
theorem dX0_hot_169 : decode cX0_hot 169 = .ok (.iload 4, 2) := dk_21 4 (dk_at dksX0_hot_7 7 rfl rfl)
theorem dX0_hot_171 : decode cX0_hot 171 = .ok (.invokestatic 158, 3) := dk_184 0 158 (dk_at dksX0_hot_7 9 rfl rfl)
theorem dX0_hot_174 : decode cX0_hot 174 = .ok (.goto 5, 3) := dk_167 0 5 (dk_at dksX0_hot_7 12 rfl rfl)
theorem dX0_hot_177 : decode cX0_hot 177 = .ok (.iload 4, 2) := dk_21 4 (dk_at dksX0_hot_7 15 rfl rfl)
theorem dX0_hot_179 : decode cX0_hot 179 = .ok (.ireturn, 1) := dk_172 (dk_at dksX0_hot_7 17 rfl rfl)
abbrev cX0_made : ByteArray := prog_1_method_18_code
def yX0_made : MethodName := ⟨RX0, "made", "(II)I"⟩
def dkwX0_made_0 : List UInt8 := [42, 180, 0, 53, 27, 50, 180, 0, 57, 42, 180, 0, 53, 27, 50, 180, 0, 63, 28, 46, 104, 172]
abbrev dktX0_made_0 : List UInt8 := dkwX0_made_0 ++ []
theorem dksX0_made_0 : cX0_made.data.toList.drop 0 = dktX0_made_0 := by decide +kernel
theorem dX0_made_0 : decode cX0_made 0 = .ok (.aload_n 0, 1) := dk_42 (dk_at dksX0_made_0 0 rfl rfl)
theorem dX0_made_1 : decode cX0_made 1 = .ok (.getfield 53, 3) := dk_180 0 53 (dk_at dksX0_made_0 1 rfl rfl)
theorem dX0_made_4 : decode cX0_made 4 = .ok (.iload_n 1, 1) := dk_27 (dk_at dksX0_made_0 4 rfl rfl)
theorem dX0_made_5 : decode cX0_made 5 = .ok (.aaload, 1) := dk_50 (dk_at dksX0_made_0 5 rfl rfl)
theorem dX0_made_6 : decode cX0_made 6 = .ok (.getfield 57, 3) := dk_180 0 57 (dk_at dksX0_made_0 6 rfl rfl)
theorem dX0_made_9 : decode cX0_made 9 = .ok (.aload_n 0, 1) := dk_42 (dk_at dksX0_made_0 9 rfl rfl)
theorem dX0_made_10 : decode cX0_made 10 = .ok (.getfield 53, 3) := dk_180 0 53 (dk_at dksX0_made_0 10 rfl rfl)
theorem dX0_made_13 : decode cX0_made 13 = .ok (.iload_n 1, 1) := dk_27 (dk_at dksX0_made_0 13 rfl rfl)
theorem dX0_made_14 : decode cX0_made 14 = .ok (.aaload, 1) := dk_50 (dk_at dksX0_made_0 14 rfl rfl)
theorem dX0_made_15 : decode cX0_made 15 = .ok (.getfield 63, 3) := dk_180 0 63 (dk_at dksX0_made_0 15 rfl rfl)
theorem dX0_made_18 : decode cX0_made 18 = .ok (.iload_n 2, 1) := dk_28 (dk_at dksX0_made_0 18 rfl rfl)
theorem dX0_made_19 : decode cX0_made 19 = .ok (.iaload, 1) := dk_46 (dk_at dksX0_made_0 19 rfl rfl)
theorem dX0_made_20 : decode cX0_made 20 = .ok (.imul, 1) := dk_104 (dk_at dksX0_made_0 20 rfl rfl)
theorem dX0_made_21 : decode cX0_made 21 = .ok (.ireturn, 1) := dk_172 (dk_at dksX0_made_0 21 rfl rfl)
abbrev cX0_keep : ByteArray := prog_1_method_20_code
def yX0_keep : MethodName := ⟨RX0, "keep", "()I"⟩
def dkwX0_keep_2 : List UInt8 := [132, 1, 1, 167, 255, 207, 42, 180, 0, 50, 172]
abbrev dktX0_keep_2 : List UInt8 := dkwX0_keep_2 ++ []
def dkwX0_keep_1 : List UInt8 := [27, 182, 0, 114, 153, 0, 12, 42, 27, 28, 182, 0, 163, 167, 0, 4, 3, 79, 132, 2, 1, 167, 255, 221]
abbrev dktX0_keep_1 : List UInt8 := dkwX0_keep_1 ++ dktX0_keep_2
def dkwX0_keep_0 : List UInt8 := [3, 60, 27, 16, 16, 162, 0, 49, 3, 61, 28, 16, 8, 162, 0, 35, 42, 180, 0, 167, 27, 50, 28, 42]
abbrev dktX0_keep_0 : List UInt8 := dkwX0_keep_0 ++ dktX0_keep_1
theorem dksX0_keep_0 : cX0_keep.data.toList.drop 0 = dktX0_keep_0 := by decide +kernel
theorem dksX0_keep_1 : cX0_keep.data.toList.drop 24 = dktX0_keep_1 := dk_seg dksX0_keep_0 24 rfl rfl
theorem dksX0_keep_2 : cX0_keep.data.toList.drop 48 = dktX0_keep_2 := dk_seg dksX0_keep_1 24 rfl rfl
theorem dX0_keep_0 : decode cX0_keep 0 = .ok (.iconst 0, 1) := dk_3 (dk_at dksX0_keep_0 0 rfl rfl)
theorem dX0_keep_1 : decode cX0_keep 1 = .ok (.istore_n 1, 1) := dk_60 (dk_at dksX0_keep_0 1 rfl rfl)
theorem dX0_keep_2 : decode cX0_keep 2 = .ok (.iload_n 1, 1) := dk_27 (dk_at dksX0_keep_0 2 rfl rfl)
theorem dX0_keep_3 : decode cX0_keep 3 = .ok (.bipush 16, 2) := dk_16 16 (dk_at dksX0_keep_0 3 rfl rfl)
theorem dX0_keep_5 : decode cX0_keep 5 = .ok (.if_icmp .ge 49, 3) := dk_162 0 49 (dk_at dksX0_keep_0 5 rfl rfl)
theorem dX0_keep_8 : decode cX0_keep 8 = .ok (.iconst 0, 1) := dk_3 (dk_at dksX0_keep_0 8 rfl rfl)
theorem dX0_keep_9 : decode cX0_keep 9 = .ok (.istore_n 2, 1) := dk_61 (dk_at dksX0_keep_0 9 rfl rfl)
theorem dX0_keep_10 : decode cX0_keep 10 = .ok (.iload_n 2, 1) := dk_28 (dk_at dksX0_keep_0 10 rfl rfl)
theorem dX0_keep_11 : decode cX0_keep 11 = .ok (.bipush 8, 2) := dk_16 8 (dk_at dksX0_keep_0 11 rfl rfl)
theorem dX0_keep_13 : decode cX0_keep 13 = .ok (.if_icmp .ge 35, 3) := dk_162 0 35 (dk_at dksX0_keep_0 13 rfl rfl)
theorem dX0_keep_16 : decode cX0_keep 16 = .ok (.aload_n 0, 1) := dk_42 (dk_at dksX0_keep_0 16 rfl rfl)
theorem dX0_keep_17 : decode cX0_keep 17 = .ok (.getfield 167, 3) := dk_180 0 167 (dk_at dksX0_keep_0 17 rfl rfl)
theorem dX0_keep_20 : decode cX0_keep 20 = .ok (.iload_n 1, 1) := dk_27 (dk_at dksX0_keep_0 20 rfl rfl)
theorem dX0_keep_21 : decode cX0_keep 21 = .ok (.aaload, 1) := dk_50 (dk_at dksX0_keep_0 21 rfl rfl)
theorem dX0_keep_22 : decode cX0_keep 22 = .ok (.iload_n 2, 1) := dk_28 (dk_at dksX0_keep_0 22 rfl rfl)
theorem dX0_keep_23 : decode cX0_keep 23 = .ok (.aload_n 0, 1) := dk_42 (dk_at dksX0_keep_0 23 rfl rfl)
theorem dX0_keep_24 : decode cX0_keep 24 = .ok (.iload_n 1, 1) := dk_27 (dk_at dksX0_keep_1 0 rfl rfl)
theorem dX0_keep_25 : decode cX0_keep 25 = .ok (.invokevirtual 114, 3) := dk_182 0 114 (dk_at dksX0_keep_1 1 rfl rfl)
theorem dX0_keep_28 : decode cX0_keep 28 = .ok (.ifCond .eq 12, 3) := dk_153 0 12 (dk_at dksX0_keep_1 4 rfl rfl)
theorem dX0_keep_31 : decode cX0_keep 31 = .ok (.aload_n 0, 1) := dk_42 (dk_at dksX0_keep_1 7 rfl rfl)
theorem dX0_keep_32 : decode cX0_keep 32 = .ok (.iload_n 1, 1) := dk_27 (dk_at dksX0_keep_1 8 rfl rfl)
theorem dX0_keep_33 : decode cX0_keep 33 = .ok (.iload_n 2, 1) := dk_28 (dk_at dksX0_keep_1 9 rfl rfl)
theorem dX0_keep_34 : decode cX0_keep 34 = .ok (.invokevirtual 163, 3) := dk_182 0 163 (dk_at dksX0_keep_1 10 rfl rfl)
theorem dX0_keep_37 : decode cX0_keep 37 = .ok (.goto 4, 3) := dk_167 0 4 (dk_at dksX0_keep_1 13 rfl rfl)
theorem dX0_keep_40 : decode cX0_keep 40 = .ok (.iconst 0, 1) := dk_3 (dk_at dksX0_keep_1 16 rfl rfl)
theorem dX0_keep_41 : decode cX0_keep 41 = .ok (.iastore, 1) := dk_79 (dk_at dksX0_keep_1 17 rfl rfl)
theorem dX0_keep_42 : decode cX0_keep 42 = .ok (.iinc 2 1, 3) := dk_132 2 1 (dk_at dksX0_keep_1 18 rfl rfl)
theorem dX0_keep_45 : decode cX0_keep 45 = .ok (.goto (-35), 3) := dk_167 255 221 (dk_at dksX0_keep_1 21 rfl rfl)
theorem dX0_keep_48 : decode cX0_keep 48 = .ok (.iinc 1 1, 3) := dk_132 1 1 (dk_at dksX0_keep_2 0 rfl rfl)
theorem dX0_keep_51 : decode cX0_keep 51 = .ok (.goto (-49), 3) := dk_167 255 207 (dk_at dksX0_keep_2 3 rfl rfl)
theorem dX0_keep_54 : decode cX0_keep 54 = .ok (.aload_n 0, 1) := dk_42 (dk_at dksX0_keep_2 6 rfl rfl)
theorem dX0_keep_55 : decode cX0_keep 55 = .ok (.getfield 50, 3) := dk_180 0 50 (dk_at dksX0_keep_2 7 rfl rfl)
theorem dX0_keep_58 : decode cX0_keep 58 = .ok (.ireturn, 1) := dk_172 (dk_at dksX0_keep_2 10 rfl rfl)
abbrev cX0_beside : ByteArray := prog_1_method_21_code
def yX0_beside : MethodName := ⟨RX0, "beside", "(II)I"⟩
def dkwX0_beside_8 : List UInt8 := [160, 0, 8, 21, 4, 167, 0, 15, 28, 6, 160, 0, 8, 21, 5, 167, 0, 5, 21, 6, 172]
abbrev dktX0_beside_8 : List UInt8 := dkwX0_beside_8 ++ []
def dkwX0_beside_7 : List UInt8 := [154, 0, 12, 42, 180, 0, 41, 27, 46, 167, 0, 34, 28, 4, 160, 0, 7, 29, 167, 0, 25, 28, 5]
abbrev dktX0_beside_7 : List UInt8 := dkwX0_beside_7 ++ dktX0_beside_8
def dkwX0_beside_6 : List UInt8 := [21, 6, 54, 6, 21, 7, 21, 9, 184, 0, 173, 184, 0, 175, 54, 7, 132, 8, 1, 167, 255, 135, 28]
abbrev dktX0_beside_6 : List UInt8 := dkwX0_beside_6 ++ dktX0_beside_7
def dkwX0_beside_5 : List UInt8 := [120, 167, 0, 4, 3, 128, 54, 5, 21, 9, 184, 0, 173, 21, 7, 164, 0, 8, 21, 8, 167, 0, 5]
abbrev dktX0_beside_5 : List UInt8 := dkwX0_beside_5 ++ dktX0_beside_6
def dkwX0_beside_4 : List UInt8 := [158, 0, 10, 4, 21, 8, 120, 167, 0, 4, 3, 128, 54, 4, 21, 5, 21, 9, 156, 0, 10, 4, 21, 8]
abbrev dktX0_beside_4 : List UInt8 := dkwX0_beside_4 ++ dktX0_beside_5
def dkwX0_beside_3 : List UInt8 := [21, 8, 50, 27, 46, 100, 54, 9, 29, 42, 180, 0, 167, 21, 8, 50, 27, 46, 96, 62, 21, 4, 21, 9]
abbrev dktX0_beside_3 : List UInt8 := dkwX0_beside_3 ++ dktX0_beside_4
def dkwX0_beside_2 : List UInt8 := [21, 8, 182, 0, 114, 153, 0, 13, 42, 21, 8, 27, 182, 0, 163, 167, 0, 4, 3, 42, 180, 0, 167]
abbrev dktX0_beside_2 : List UInt8 := dkwX0_beside_2 ++ dktX0_beside_3
def dkwX0_beside_1 : List UInt8 := [54, 4, 3, 54, 5, 16, 252, 54, 6, 3, 54, 7, 3, 54, 8, 21, 8, 16, 16, 162, 0, 120, 42]
abbrev dktX0_beside_1 : List UInt8 := dkwX0_beside_1 ++ dktX0_beside_2
def dkwX0_beside_0 : List UInt8 := [27, 184, 0, 125, 153, 0, 15, 28, 133, 9, 20, 0, 171, 184, 0, 21, 154, 0, 5, 2, 172, 3, 62, 3]
abbrev dktX0_beside_0 : List UInt8 := dkwX0_beside_0 ++ dktX0_beside_1
theorem dksX0_beside_0 : cX0_beside.data.toList.drop 0 = dktX0_beside_0 := by decide +kernel
theorem dksX0_beside_1 : cX0_beside.data.toList.drop 24 = dktX0_beside_1 := dk_seg dksX0_beside_0 24 rfl rfl
theorem dksX0_beside_2 : cX0_beside.data.toList.drop 47 = dktX0_beside_2 := dk_seg dksX0_beside_1 23 rfl rfl
theorem dksX0_beside_3 : cX0_beside.data.toList.drop 70 = dktX0_beside_3 := dk_seg dksX0_beside_2 23 rfl rfl
theorem dksX0_beside_4 : cX0_beside.data.toList.drop 94 = dktX0_beside_4 := dk_seg dksX0_beside_3 24 rfl rfl
theorem dksX0_beside_5 : cX0_beside.data.toList.drop 118 = dktX0_beside_5 := dk_seg dksX0_beside_4 24 rfl rfl
theorem dksX0_beside_6 : cX0_beside.data.toList.drop 141 = dktX0_beside_6 := dk_seg dksX0_beside_5 23 rfl rfl
theorem dksX0_beside_7 : cX0_beside.data.toList.drop 164 = dktX0_beside_7 := dk_seg dksX0_beside_6 23 rfl rfl
theorem dksX0_beside_8 : cX0_beside.data.toList.drop 187 = dktX0_beside_8 := dk_seg dksX0_beside_7 23 rfl rfl
theorem dX0_beside_0 : decode cX0_beside 0 = .ok (.iload_n 1, 1) := dk_27 (dk_at dksX0_beside_0 0 rfl rfl)
theorem dX0_beside_1 : decode cX0_beside 1 = .ok (.invokestatic 125, 3) := dk_184 0 125 (dk_at dksX0_beside_0 1 rfl rfl)
theorem dX0_beside_4 : decode cX0_beside 4 = .ok (.ifCond .eq 15, 3) := dk_153 0 15 (dk_at dksX0_beside_0 4 rfl rfl)
theorem dX0_beside_7 : decode cX0_beside 7 = .ok (.iload_n 2, 1) := dk_28 (dk_at dksX0_beside_0 7 rfl rfl)
theorem dX0_beside_8 : decode cX0_beside 8 = .ok (.i2l, 1) := dk_133 (dk_at dksX0_beside_0 8 rfl rfl)
theorem dX0_beside_9 : decode cX0_beside 9 = .ok (.lconst 0, 1) := dk_9 (dk_at dksX0_beside_0 9 rfl rfl)
theorem dX0_beside_10 : decode cX0_beside 10 = .ok (.ldc2_w 171, 3) := dk_20 0 171 (dk_at dksX0_beside_0 10 rfl rfl)
theorem dX0_beside_13 : decode cX0_beside 13 = .ok (.invokestatic 21, 3) := dk_184 0 21 (dk_at dksX0_beside_0 13 rfl rfl)
theorem dX0_beside_16 : decode cX0_beside 16 = .ok (.ifCond .ne 5, 3) := dk_154 0 5 (dk_at dksX0_beside_0 16 rfl rfl)
theorem dX0_beside_19 : decode cX0_beside 19 = .ok (.iconst (-1), 1) := dk_2 (dk_at dksX0_beside_0 19 rfl rfl)
theorem dX0_beside_20 : decode cX0_beside 20 = .ok (.ireturn, 1) := dk_172 (dk_at dksX0_beside_0 20 rfl rfl)
theorem dX0_beside_21 : decode cX0_beside 21 = .ok (.iconst 0, 1) := dk_3 (dk_at dksX0_beside_0 21 rfl rfl)
theorem dX0_beside_22 : decode cX0_beside 22 = .ok (.istore_n 3, 1) := dk_62 (dk_at dksX0_beside_0 22 rfl rfl)
theorem dX0_beside_23 : decode cX0_beside 23 = .ok (.iconst 0, 1) := dk_3 (dk_at dksX0_beside_0 23 rfl rfl)
theorem dX0_beside_24 : decode cX0_beside 24 = .ok (.istore 4, 2) := dk_54 4 (dk_at dksX0_beside_1 0 rfl rfl)
theorem dX0_beside_26 : decode cX0_beside 26 = .ok (.iconst 0, 1) := dk_3 (dk_at dksX0_beside_1 2 rfl rfl)
theorem dX0_beside_27 : decode cX0_beside 27 = .ok (.istore 5, 2) := dk_54 5 (dk_at dksX0_beside_1 3 rfl rfl)
theorem dX0_beside_29 : decode cX0_beside 29 = .ok (.bipush (-4), 2) := dk_16 252 (dk_at dksX0_beside_1 5 rfl rfl)
theorem dX0_beside_31 : decode cX0_beside 31 = .ok (.istore 6, 2) := dk_54 6 (dk_at dksX0_beside_1 7 rfl rfl)
theorem dX0_beside_33 : decode cX0_beside 33 = .ok (.iconst 0, 1) := dk_3 (dk_at dksX0_beside_1 9 rfl rfl)
theorem dX0_beside_34 : decode cX0_beside 34 = .ok (.istore 7, 2) := dk_54 7 (dk_at dksX0_beside_1 10 rfl rfl)
theorem dX0_beside_36 : decode cX0_beside 36 = .ok (.iconst 0, 1) := dk_3 (dk_at dksX0_beside_1 12 rfl rfl)
theorem dX0_beside_37 : decode cX0_beside 37 = .ok (.istore 8, 2) := dk_54 8 (dk_at dksX0_beside_1 13 rfl rfl)
theorem dX0_beside_39 : decode cX0_beside 39 = .ok (.iload 8, 2) := dk_21 8 (dk_at dksX0_beside_1 15 rfl rfl)
theorem dX0_beside_41 : decode cX0_beside 41 = .ok (.bipush 16, 2) := dk_16 16 (dk_at dksX0_beside_1 17 rfl rfl)
theorem dX0_beside_43 : decode cX0_beside 43 = .ok (.if_icmp .ge 120, 3) := dk_162 0 120 (dk_at dksX0_beside_1 19 rfl rfl)
theorem dX0_beside_46 : decode cX0_beside 46 = .ok (.aload_n 0, 1) := dk_42 (dk_at dksX0_beside_1 22 rfl rfl)
theorem dX0_beside_47 : decode cX0_beside 47 = .ok (.iload 8, 2) := dk_21 8 (dk_at dksX0_beside_2 0 rfl rfl)
theorem dX0_beside_49 : decode cX0_beside 49 = .ok (.invokevirtual 114, 3) := dk_182 0 114 (dk_at dksX0_beside_2 2 rfl rfl)
theorem dX0_beside_52 : decode cX0_beside 52 = .ok (.ifCond .eq 13, 3) := dk_153 0 13 (dk_at dksX0_beside_2 5 rfl rfl)
theorem dX0_beside_55 : decode cX0_beside 55 = .ok (.aload_n 0, 1) := dk_42 (dk_at dksX0_beside_2 8 rfl rfl)
theorem dX0_beside_56 : decode cX0_beside 56 = .ok (.iload 8, 2) := dk_21 8 (dk_at dksX0_beside_2 9 rfl rfl)
theorem dX0_beside_58 : decode cX0_beside 58 = .ok (.iload_n 1, 1) := dk_27 (dk_at dksX0_beside_2 11 rfl rfl)
theorem dX0_beside_59 : decode cX0_beside 59 = .ok (.invokevirtual 163, 3) := dk_182 0 163 (dk_at dksX0_beside_2 12 rfl rfl)
theorem dX0_beside_62 : decode cX0_beside 62 = .ok (.goto 4, 3) := dk_167 0 4 (dk_at dksX0_beside_2 15 rfl rfl)
theorem dX0_beside_65 : decode cX0_beside 65 = .ok (.iconst 0, 1) := dk_3 (dk_at dksX0_beside_2 18 rfl rfl)
theorem dX0_beside_66 : decode cX0_beside 66 = .ok (.aload_n 0, 1) := dk_42 (dk_at dksX0_beside_2 19 rfl rfl)
theorem dX0_beside_67 : decode cX0_beside 67 = .ok (.getfield 167, 3) := dk_180 0 167 (dk_at dksX0_beside_2 20 rfl rfl)
theorem dX0_beside_70 : decode cX0_beside 70 = .ok (.iload 8, 2) := dk_21 8 (dk_at dksX0_beside_3 0 rfl rfl)
theorem dX0_beside_72 : decode cX0_beside 72 = .ok (.aaload, 1) := dk_50 (dk_at dksX0_beside_3 2 rfl rfl)
theorem dX0_beside_73 : decode cX0_beside 73 = .ok (.iload_n 1, 1) := dk_27 (dk_at dksX0_beside_3 3 rfl rfl)
theorem dX0_beside_74 : decode cX0_beside 74 = .ok (.iaload, 1) := dk_46 (dk_at dksX0_beside_3 4 rfl rfl)
theorem dX0_beside_75 : decode cX0_beside 75 = .ok (.isub, 1) := dk_100 (dk_at dksX0_beside_3 5 rfl rfl)
theorem dX0_beside_76 : decode cX0_beside 76 = .ok (.istore 9, 2) := dk_54 9 (dk_at dksX0_beside_3 6 rfl rfl)
theorem dX0_beside_78 : decode cX0_beside 78 = .ok (.iload_n 3, 1) := dk_29 (dk_at dksX0_beside_3 8 rfl rfl)
theorem dX0_beside_79 : decode cX0_beside 79 = .ok (.aload_n 0, 1) := dk_42 (dk_at dksX0_beside_3 9 rfl rfl)
theorem dX0_beside_80 : decode cX0_beside 80 = .ok (.getfield 167, 3) := dk_180 0 167 (dk_at dksX0_beside_3 10 rfl rfl)
theorem dX0_beside_83 : decode cX0_beside 83 = .ok (.iload 8, 2) := dk_21 8 (dk_at dksX0_beside_3 13 rfl rfl)
theorem dX0_beside_85 : decode cX0_beside 85 = .ok (.aaload, 1) := dk_50 (dk_at dksX0_beside_3 15 rfl rfl)
theorem dX0_beside_86 : decode cX0_beside 86 = .ok (.iload_n 1, 1) := dk_27 (dk_at dksX0_beside_3 16 rfl rfl)
theorem dX0_beside_87 : decode cX0_beside 87 = .ok (.iaload, 1) := dk_46 (dk_at dksX0_beside_3 17 rfl rfl)
theorem dX0_beside_88 : decode cX0_beside 88 = .ok (.iadd, 1) := dk_96 (dk_at dksX0_beside_3 18 rfl rfl)
theorem dX0_beside_89 : decode cX0_beside 89 = .ok (.istore_n 3, 1) := dk_62 (dk_at dksX0_beside_3 19 rfl rfl)
theorem dX0_beside_90 : decode cX0_beside 90 = .ok (.iload 4, 2) := dk_21 4 (dk_at dksX0_beside_3 20 rfl rfl)
theorem dX0_beside_92 : decode cX0_beside 92 = .ok (.iload 9, 2) := dk_21 9 (dk_at dksX0_beside_3 22 rfl rfl)
theorem dX0_beside_94 : decode cX0_beside 94 = .ok (.ifCond .le 10, 3) := dk_158 0 10 (dk_at dksX0_beside_4 0 rfl rfl)
theorem dX0_beside_97 : decode cX0_beside 97 = .ok (.iconst 1, 1) := dk_4 (dk_at dksX0_beside_4 3 rfl rfl)
theorem dX0_beside_98 : decode cX0_beside 98 = .ok (.iload 8, 2) := dk_21 8 (dk_at dksX0_beside_4 4 rfl rfl)
theorem dX0_beside_100 : decode cX0_beside 100 = .ok (.ishl, 1) := dk_120 (dk_at dksX0_beside_4 6 rfl rfl)
theorem dX0_beside_101 : decode cX0_beside 101 = .ok (.goto 4, 3) := dk_167 0 4 (dk_at dksX0_beside_4 7 rfl rfl)
theorem dX0_beside_104 : decode cX0_beside 104 = .ok (.iconst 0, 1) := dk_3 (dk_at dksX0_beside_4 10 rfl rfl)
theorem dX0_beside_105 : decode cX0_beside 105 = .ok (.ior, 1) := dk_128 (dk_at dksX0_beside_4 11 rfl rfl)
theorem dX0_beside_106 : decode cX0_beside 106 = .ok (.istore 4, 2) := dk_54 4 (dk_at dksX0_beside_4 12 rfl rfl)
theorem dX0_beside_108 : decode cX0_beside 108 = .ok (.iload 5, 2) := dk_21 5 (dk_at dksX0_beside_4 14 rfl rfl)
theorem dX0_beside_110 : decode cX0_beside 110 = .ok (.iload 9, 2) := dk_21 9 (dk_at dksX0_beside_4 16 rfl rfl)
theorem dX0_beside_112 : decode cX0_beside 112 = .ok (.ifCond .ge 10, 3) := dk_156 0 10 (dk_at dksX0_beside_4 18 rfl rfl)
theorem dX0_beside_115 : decode cX0_beside 115 = .ok (.iconst 1, 1) := dk_4 (dk_at dksX0_beside_4 21 rfl rfl)
theorem dX0_beside_116 : decode cX0_beside 116 = .ok (.iload 8, 2) := dk_21 8 (dk_at dksX0_beside_4 22 rfl rfl)
theorem dX0_beside_118 : decode cX0_beside 118 = .ok (.ishl, 1) := dk_120 (dk_at dksX0_beside_5 0 rfl rfl)
theorem dX0_beside_119 : decode cX0_beside 119 = .ok (.goto 4, 3) := dk_167 0 4 (dk_at dksX0_beside_5 1 rfl rfl)
theorem dX0_beside_122 : decode cX0_beside 122 = .ok (.iconst 0, 1) := dk_3 (dk_at dksX0_beside_5 4 rfl rfl)
theorem dX0_beside_123 : decode cX0_beside 123 = .ok (.ior, 1) := dk_128 (dk_at dksX0_beside_5 5 rfl rfl)
theorem dX0_beside_124 : decode cX0_beside 124 = .ok (.istore 5, 2) := dk_54 5 (dk_at dksX0_beside_5 6 rfl rfl)
theorem dX0_beside_126 : decode cX0_beside 126 = .ok (.iload 9, 2) := dk_21 9 (dk_at dksX0_beside_5 8 rfl rfl)
theorem dX0_beside_128 : decode cX0_beside 128 = .ok (.invokestatic 173, 3) := dk_184 0 173 (dk_at dksX0_beside_5 10 rfl rfl)
theorem dX0_beside_131 : decode cX0_beside 131 = .ok (.iload 7, 2) := dk_21 7 (dk_at dksX0_beside_5 13 rfl rfl)
theorem dX0_beside_133 : decode cX0_beside 133 = .ok (.if_icmp .le 8, 3) := dk_164 0 8 (dk_at dksX0_beside_5 15 rfl rfl)
theorem dX0_beside_136 : decode cX0_beside 136 = .ok (.iload 8, 2) := dk_21 8 (dk_at dksX0_beside_5 18 rfl rfl)
theorem dX0_beside_138 : decode cX0_beside 138 = .ok (.goto 5, 3) := dk_167 0 5 (dk_at dksX0_beside_5 20 rfl rfl)
theorem dX0_beside_141 : decode cX0_beside 141 = .ok (.iload 6, 2) := dk_21 6 (dk_at dksX0_beside_6 0 rfl rfl)
theorem dX0_beside_143 : decode cX0_beside 143 = .ok (.istore 6, 2) := dk_54 6 (dk_at dksX0_beside_6 2 rfl rfl)
theorem dX0_beside_145 : decode cX0_beside 145 = .ok (.iload 7, 2) := dk_21 7 (dk_at dksX0_beside_6 4 rfl rfl)
theorem dX0_beside_147 : decode cX0_beside 147 = .ok (.iload 9, 2) := dk_21 9 (dk_at dksX0_beside_6 6 rfl rfl)
theorem dX0_beside_149 : decode cX0_beside 149 = .ok (.invokestatic 173, 3) := dk_184 0 173 (dk_at dksX0_beside_6 8 rfl rfl)
theorem dX0_beside_152 : decode cX0_beside 152 = .ok (.invokestatic 175, 3) := dk_184 0 175 (dk_at dksX0_beside_6 11 rfl rfl)
theorem dX0_beside_155 : decode cX0_beside 155 = .ok (.istore 7, 2) := dk_54 7 (dk_at dksX0_beside_6 14 rfl rfl)
theorem dX0_beside_157 : decode cX0_beside 157 = .ok (.iinc 8 1, 3) := dk_132 8 1 (dk_at dksX0_beside_6 16 rfl rfl)
theorem dX0_beside_160 : decode cX0_beside 160 = .ok (.goto (-121), 3) := dk_167 255 135 (dk_at dksX0_beside_6 19 rfl rfl)
theorem dX0_beside_163 : decode cX0_beside 163 = .ok (.iload_n 2, 1) := dk_28 (dk_at dksX0_beside_6 22 rfl rfl)
theorem dX0_beside_164 : decode cX0_beside 164 = .ok (.ifCond .ne 12, 3) := dk_154 0 12 (dk_at dksX0_beside_7 0 rfl rfl)
theorem dX0_beside_167 : decode cX0_beside 167 = .ok (.aload_n 0, 1) := dk_42 (dk_at dksX0_beside_7 3 rfl rfl)
theorem dX0_beside_168 : decode cX0_beside 168 = .ok (.getfield 41, 3) := dk_180 0 41 (dk_at dksX0_beside_7 4 rfl rfl)
theorem dX0_beside_171 : decode cX0_beside 171 = .ok (.iload_n 1, 1) := dk_27 (dk_at dksX0_beside_7 7 rfl rfl)
theorem dX0_beside_172 : decode cX0_beside 172 = .ok (.iaload, 1) := dk_46 (dk_at dksX0_beside_7 8 rfl rfl)
theorem dX0_beside_173 : decode cX0_beside 173 = .ok (.goto 34, 3) := dk_167 0 34 (dk_at dksX0_beside_7 9 rfl rfl)
theorem dX0_beside_176 : decode cX0_beside 176 = .ok (.iload_n 2, 1) := dk_28 (dk_at dksX0_beside_7 12 rfl rfl)
theorem dX0_beside_177 : decode cX0_beside 177 = .ok (.iconst 1, 1) := dk_4 (dk_at dksX0_beside_7 13 rfl rfl)
theorem dX0_beside_178 : decode cX0_beside 178 = .ok (.if_icmp .ne 7, 3) := dk_160 0 7 (dk_at dksX0_beside_7 14 rfl rfl)
theorem dX0_beside_181 : decode cX0_beside 181 = .ok (.iload_n 3, 1) := dk_29 (dk_at dksX0_beside_7 17 rfl rfl)
theorem dX0_beside_182 : decode cX0_beside 182 = .ok (.goto 25, 3) := dk_167 0 25 (dk_at dksX0_beside_7 18 rfl rfl)
theorem dX0_beside_185 : decode cX0_beside 185 = .ok (.iload_n 2, 1) := dk_28 (dk_at dksX0_beside_7 21 rfl rfl)
theorem dX0_beside_186 : decode cX0_beside 186 = .ok (.iconst 2, 1) := dk_5 (dk_at dksX0_beside_7 22 rfl rfl)
theorem dX0_beside_187 : decode cX0_beside 187 = .ok (.if_icmp .ne 8, 3) := dk_160 0 8 (dk_at dksX0_beside_8 0 rfl rfl)
theorem dX0_beside_190 : decode cX0_beside 190 = .ok (.iload 4, 2) := dk_21 4 (dk_at dksX0_beside_8 3 rfl rfl)
theorem dX0_beside_192 : decode cX0_beside 192 = .ok (.goto 15, 3) := dk_167 0 15 (dk_at dksX0_beside_8 5 rfl rfl)
theorem dX0_beside_195 : decode cX0_beside 195 = .ok (.iload_n 2, 1) := dk_28 (dk_at dksX0_beside_8 8 rfl rfl)
theorem dX0_beside_196 : decode cX0_beside 196 = .ok (.iconst 3, 1) := dk_6 (dk_at dksX0_beside_8 9 rfl rfl)
theorem dX0_beside_197 : decode cX0_beside 197 = .ok (.if_icmp .ne 8, 3) := dk_160 0 8 (dk_at dksX0_beside_8 10 rfl rfl)
theorem dX0_beside_200 : decode cX0_beside 200 = .ok (.iload 5, 2) := dk_21 5 (dk_at dksX0_beside_8 13 rfl rfl)
theorem dX0_beside_202 : decode cX0_beside 202 = .ok (.goto 5, 3) := dk_167 0 5 (dk_at dksX0_beside_8 15 rfl rfl)
theorem dX0_beside_205 : decode cX0_beside 205 = .ok (.iload 6, 2) := dk_21 6 (dk_at dksX0_beside_8 18 rfl rfl)
theorem dX0_beside_207 : decode cX0_beside 207 = .ok (.ireturn, 1) := dk_172 (dk_at dksX0_beside_8 20 rfl rfl)
abbrev cX0_counters : ByteArray := prog_1_method_24_code
def yX0_counters : MethodName := ⟨RX0, "counters", "(I)I"⟩
def dkwX0_counters_3 : List UInt8 := [3, 181, 0, 98, 28, 172]
abbrev dktX0_counters_3 : List UInt8 := dkwX0_counters_3 ++ []
def dkwX0_counters_2 : List UInt8 := [58, 6, 25, 6, 17, 0, 255, 181, 0, 187, 25, 6, 16, 8, 181, 0, 192, 132, 5, 1, 167, 255, 225, 42]
abbrev dktX0_counters_2 : List UInt8 := dkwX0_counters_2 ++ dktX0_counters_3
def dkwX0_counters_1 : List UInt8 := [42, 180, 0, 183, 78, 45, 190, 54, 4, 3, 54, 5, 21, 5, 21, 4, 162, 0, 30, 45, 21, 5, 50]
abbrev dktX0_counters_1 : List UInt8 := dkwX0_counters_1 ++ dktX0_counters_2
def dkwX0_counters_0 : List UInt8 := [27, 133, 10, 20, 0, 171, 184, 0, 21, 154, 0, 5, 2, 172, 42, 180, 0, 178, 61, 42, 27, 181, 0, 178]
abbrev dktX0_counters_0 : List UInt8 := dkwX0_counters_0 ++ dktX0_counters_1
theorem dksX0_counters_0 : cX0_counters.data.toList.drop 0 = dktX0_counters_0 := by decide +kernel
theorem dksX0_counters_1 : cX0_counters.data.toList.drop 24 = dktX0_counters_1 := dk_seg dksX0_counters_0 24 rfl rfl
theorem dksX0_counters_2 : cX0_counters.data.toList.drop 47 = dktX0_counters_2 := dk_seg dksX0_counters_1 23 rfl rfl
theorem dksX0_counters_3 : cX0_counters.data.toList.drop 71 = dktX0_counters_3 := dk_seg dksX0_counters_2 24 rfl rfl
theorem dX0_counters_0 : decode cX0_counters 0 = .ok (.iload_n 1, 1) := dk_27 (dk_at dksX0_counters_0 0 rfl rfl)
theorem dX0_counters_1 : decode cX0_counters 1 = .ok (.i2l, 1) := dk_133 (dk_at dksX0_counters_0 1 rfl rfl)
theorem dX0_counters_2 : decode cX0_counters 2 = .ok (.lconst 1, 1) := dk_10 (dk_at dksX0_counters_0 2 rfl rfl)
theorem dX0_counters_3 : decode cX0_counters 3 = .ok (.ldc2_w 171, 3) := dk_20 0 171 (dk_at dksX0_counters_0 3 rfl rfl)
theorem dX0_counters_6 : decode cX0_counters 6 = .ok (.invokestatic 21, 3) := dk_184 0 21 (dk_at dksX0_counters_0 6 rfl rfl)
theorem dX0_counters_9 : decode cX0_counters 9 = .ok (.ifCond .ne 5, 3) := dk_154 0 5 (dk_at dksX0_counters_0 9 rfl rfl)
theorem dX0_counters_12 : decode cX0_counters 12 = .ok (.iconst (-1), 1) := dk_2 (dk_at dksX0_counters_0 12 rfl rfl)
theorem dX0_counters_13 : decode cX0_counters 13 = .ok (.ireturn, 1) := dk_172 (dk_at dksX0_counters_0 13 rfl rfl)
theorem dX0_counters_14 : decode cX0_counters 14 = .ok (.aload_n 0, 1) := dk_42 (dk_at dksX0_counters_0 14 rfl rfl)
theorem dX0_counters_15 : decode cX0_counters 15 = .ok (.getfield 178, 3) := dk_180 0 178 (dk_at dksX0_counters_0 15 rfl rfl)
theorem dX0_counters_18 : decode cX0_counters 18 = .ok (.istore_n 2, 1) := dk_61 (dk_at dksX0_counters_0 18 rfl rfl)
theorem dX0_counters_19 : decode cX0_counters 19 = .ok (.aload_n 0, 1) := dk_42 (dk_at dksX0_counters_0 19 rfl rfl)
theorem dX0_counters_20 : decode cX0_counters 20 = .ok (.iload_n 1, 1) := dk_27 (dk_at dksX0_counters_0 20 rfl rfl)
theorem dX0_counters_21 : decode cX0_counters 21 = .ok (.putfield 178, 3) := dk_181 0 178 (dk_at dksX0_counters_0 21 rfl rfl)
theorem dX0_counters_24 : decode cX0_counters 24 = .ok (.aload_n 0, 1) := dk_42 (dk_at dksX0_counters_1 0 rfl rfl)
theorem dX0_counters_25 : decode cX0_counters 25 = .ok (.getfield 183, 3) := dk_180 0 183 (dk_at dksX0_counters_1 1 rfl rfl)
theorem dX0_counters_28 : decode cX0_counters 28 = .ok (.astore_n 3, 1) := dk_78 (dk_at dksX0_counters_1 4 rfl rfl)
theorem dX0_counters_29 : decode cX0_counters 29 = .ok (.aload_n 3, 1) := dk_45 (dk_at dksX0_counters_1 5 rfl rfl)
theorem dX0_counters_30 : decode cX0_counters 30 = .ok (.arraylength, 1) := dk_190 (dk_at dksX0_counters_1 6 rfl rfl)
theorem dX0_counters_31 : decode cX0_counters 31 = .ok (.istore 4, 2) := dk_54 4 (dk_at dksX0_counters_1 7 rfl rfl)
theorem dX0_counters_33 : decode cX0_counters 33 = .ok (.iconst 0, 1) := dk_3 (dk_at dksX0_counters_1 9 rfl rfl)
theorem dX0_counters_34 : decode cX0_counters 34 = .ok (.istore 5, 2) := dk_54 5 (dk_at dksX0_counters_1 10 rfl rfl)
theorem dX0_counters_36 : decode cX0_counters 36 = .ok (.iload 5, 2) := dk_21 5 (dk_at dksX0_counters_1 12 rfl rfl)
theorem dX0_counters_38 : decode cX0_counters 38 = .ok (.iload 4, 2) := dk_21 4 (dk_at dksX0_counters_1 14 rfl rfl)
theorem dX0_counters_40 : decode cX0_counters 40 = .ok (.if_icmp .ge 30, 3) := dk_162 0 30 (dk_at dksX0_counters_1 16 rfl rfl)
theorem dX0_counters_43 : decode cX0_counters 43 = .ok (.aload_n 3, 1) := dk_45 (dk_at dksX0_counters_1 19 rfl rfl)
theorem dX0_counters_44 : decode cX0_counters 44 = .ok (.iload 5, 2) := dk_21 5 (dk_at dksX0_counters_1 20 rfl rfl)
theorem dX0_counters_46 : decode cX0_counters 46 = .ok (.aaload, 1) := dk_50 (dk_at dksX0_counters_1 22 rfl rfl)
theorem dX0_counters_47 : decode cX0_counters 47 = .ok (.astore 6, 2) := dk_58 6 (dk_at dksX0_counters_2 0 rfl rfl)
theorem dX0_counters_49 : decode cX0_counters 49 = .ok (.aload 6, 2) := dk_25 6 (dk_at dksX0_counters_2 2 rfl rfl)
theorem dX0_counters_51 : decode cX0_counters 51 = .ok (.sipush 255, 3) := dk_17 0 255 (dk_at dksX0_counters_2 4 rfl rfl)
theorem dX0_counters_54 : decode cX0_counters 54 = .ok (.putfield 187, 3) := dk_181 0 187 (dk_at dksX0_counters_2 7 rfl rfl)
theorem dX0_counters_57 : decode cX0_counters 57 = .ok (.aload 6, 2) := dk_25 6 (dk_at dksX0_counters_2 10 rfl rfl)
theorem dX0_counters_59 : decode cX0_counters 59 = .ok (.bipush 8, 2) := dk_16 8 (dk_at dksX0_counters_2 12 rfl rfl)
theorem dX0_counters_61 : decode cX0_counters 61 = .ok (.putfield 192, 3) := dk_181 0 192 (dk_at dksX0_counters_2 14 rfl rfl)
theorem dX0_counters_64 : decode cX0_counters 64 = .ok (.iinc 5 1, 3) := dk_132 5 1 (dk_at dksX0_counters_2 17 rfl rfl)
theorem dX0_counters_67 : decode cX0_counters 67 = .ok (.goto (-31), 3) := dk_167 255 225 (dk_at dksX0_counters_2 20 rfl rfl)
theorem dX0_counters_70 : decode cX0_counters 70 = .ok (.aload_n 0, 1) := dk_42 (dk_at dksX0_counters_2 23 rfl rfl)
theorem dX0_counters_71 : decode cX0_counters 71 = .ok (.iconst 0, 1) := dk_3 (dk_at dksX0_counters_3 0 rfl rfl)
theorem dX0_counters_72 : decode cX0_counters 72 = .ok (.putfield 98, 3) := dk_181 0 98 (dk_at dksX0_counters_3 1 rfl rfl)
theorem dX0_counters_75 : decode cX0_counters 75 = .ok (.iload_n 2, 1) := dk_28 (dk_at dksX0_counters_3 4 rfl rfl)
theorem dX0_counters_76 : decode cX0_counters 76 = .ok (.ireturn, 1) := dk_172 (dk_at dksX0_counters_3 5 rfl rfl)
abbrev cX0_mask : ByteArray := prog_1_method_25_code
def yX0_mask : MethodName := ⟨RX0, "mask", "(II)I"⟩
def dkwX0_mask_1 : List UInt8 := [180, 0, 187, 62, 42, 180, 0, 183, 27, 50, 28, 181, 0, 187, 29, 172]
abbrev dktX0_mask_1 : List UInt8 := dkwX0_mask_1 ++ []
def dkwX0_mask_0 : List UInt8 := [42, 27, 182, 0, 195, 153, 0, 10, 28, 184, 0, 198, 154, 0, 5, 2, 172, 42, 180, 0, 183, 27, 50]
abbrev dktX0_mask_0 : List UInt8 := dkwX0_mask_0 ++ dktX0_mask_1
theorem dksX0_mask_0 : cX0_mask.data.toList.drop 0 = dktX0_mask_0 := by decide +kernel
theorem dksX0_mask_1 : cX0_mask.data.toList.drop 23 = dktX0_mask_1 := dk_seg dksX0_mask_0 23 rfl rfl
theorem dX0_mask_0 : decode cX0_mask 0 = .ok (.aload_n 0, 1) := dk_42 (dk_at dksX0_mask_0 0 rfl rfl)
theorem dX0_mask_1 : decode cX0_mask 1 = .ok (.iload_n 1, 1) := dk_27 (dk_at dksX0_mask_0 1 rfl rfl)
theorem dX0_mask_2 : decode cX0_mask 2 = .ok (.invokevirtual 195, 3) := dk_182 0 195 (dk_at dksX0_mask_0 2 rfl rfl)
theorem dX0_mask_5 : decode cX0_mask 5 = .ok (.ifCond .eq 10, 3) := dk_153 0 10 (dk_at dksX0_mask_0 5 rfl rfl)
theorem dX0_mask_8 : decode cX0_mask 8 = .ok (.iload_n 2, 1) := dk_28 (dk_at dksX0_mask_0 8 rfl rfl)
theorem dX0_mask_9 : decode cX0_mask 9 = .ok (.invokestatic 198, 3) := dk_184 0 198 (dk_at dksX0_mask_0 9 rfl rfl)
theorem dX0_mask_12 : decode cX0_mask 12 = .ok (.ifCond .ne 5, 3) := dk_154 0 5 (dk_at dksX0_mask_0 12 rfl rfl)
theorem dX0_mask_15 : decode cX0_mask 15 = .ok (.iconst (-1), 1) := dk_2 (dk_at dksX0_mask_0 15 rfl rfl)
theorem dX0_mask_16 : decode cX0_mask 16 = .ok (.ireturn, 1) := dk_172 (dk_at dksX0_mask_0 16 rfl rfl)
theorem dX0_mask_17 : decode cX0_mask 17 = .ok (.aload_n 0, 1) := dk_42 (dk_at dksX0_mask_0 17 rfl rfl)
theorem dX0_mask_18 : decode cX0_mask 18 = .ok (.getfield 183, 3) := dk_180 0 183 (dk_at dksX0_mask_0 18 rfl rfl)
theorem dX0_mask_21 : decode cX0_mask 21 = .ok (.iload_n 1, 1) := dk_27 (dk_at dksX0_mask_0 21 rfl rfl)
theorem dX0_mask_22 : decode cX0_mask 22 = .ok (.aaload, 1) := dk_50 (dk_at dksX0_mask_0 22 rfl rfl)
theorem dX0_mask_23 : decode cX0_mask 23 = .ok (.getfield 187, 3) := dk_180 0 187 (dk_at dksX0_mask_1 0 rfl rfl)
theorem dX0_mask_26 : decode cX0_mask 26 = .ok (.istore_n 3, 1) := dk_62 (dk_at dksX0_mask_1 3 rfl rfl)
theorem dX0_mask_27 : decode cX0_mask 27 = .ok (.aload_n 0, 1) := dk_42 (dk_at dksX0_mask_1 4 rfl rfl)
theorem dX0_mask_28 : decode cX0_mask 28 = .ok (.getfield 183, 3) := dk_180 0 183 (dk_at dksX0_mask_1 5 rfl rfl)
theorem dX0_mask_31 : decode cX0_mask 31 = .ok (.iload_n 1, 1) := dk_27 (dk_at dksX0_mask_1 8 rfl rfl)
theorem dX0_mask_32 : decode cX0_mask 32 = .ok (.aaload, 1) := dk_50 (dk_at dksX0_mask_1 9 rfl rfl)
theorem dX0_mask_33 : decode cX0_mask 33 = .ok (.iload_n 2, 1) := dk_28 (dk_at dksX0_mask_1 10 rfl rfl)
theorem dX0_mask_34 : decode cX0_mask 34 = .ok (.putfield 187, 3) := dk_181 0 187 (dk_at dksX0_mask_1 11 rfl rfl)
theorem dX0_mask_37 : decode cX0_mask 37 = .ok (.iload_n 3, 1) := dk_29 (dk_at dksX0_mask_1 14 rfl rfl)
theorem dX0_mask_38 : decode cX0_mask 38 = .ok (.ireturn, 1) := dk_172 (dk_at dksX0_mask_1 15 rfl rfl)
abbrev cX0_isCounter : ByteArray := prog_1_method_22_code
def yX0_isCounter : MethodName := ⟨RX0, "isCounter", "(I)Z"⟩
def dkwX0_isCounter_0 : List UInt8 := [27, 133, 9, 42, 180, 0, 178, 4, 100, 133, 184, 0, 21, 172]
abbrev dktX0_isCounter_0 : List UInt8 := dkwX0_isCounter_0 ++ []
theorem dksX0_isCounter_0 : cX0_isCounter.data.toList.drop 0 = dktX0_isCounter_0 := by decide +kernel
theorem dX0_isCounter_0 : decode cX0_isCounter 0 = .ok (.iload_n 1, 1) := dk_27 (dk_at dksX0_isCounter_0 0 rfl rfl)
theorem dX0_isCounter_1 : decode cX0_isCounter 1 = .ok (.i2l, 1) := dk_133 (dk_at dksX0_isCounter_0 1 rfl rfl)
theorem dX0_isCounter_2 : decode cX0_isCounter 2 = .ok (.lconst 0, 1) := dk_9 (dk_at dksX0_isCounter_0 2 rfl rfl)
theorem dX0_isCounter_3 : decode cX0_isCounter 3 = .ok (.aload_n 0, 1) := dk_42 (dk_at dksX0_isCounter_0 3 rfl rfl)
theorem dX0_isCounter_4 : decode cX0_isCounter 4 = .ok (.getfield 178, 3) := dk_180 0 178 (dk_at dksX0_isCounter_0 4 rfl rfl)
theorem dX0_isCounter_7 : decode cX0_isCounter 7 = .ok (.iconst 1, 1) := dk_4 (dk_at dksX0_isCounter_0 7 rfl rfl)
theorem dX0_isCounter_8 : decode cX0_isCounter 8 = .ok (.isub, 1) := dk_100 (dk_at dksX0_isCounter_0 8 rfl rfl)
theorem dX0_isCounter_9 : decode cX0_isCounter 9 = .ok (.i2l, 1) := dk_133 (dk_at dksX0_isCounter_0 9 rfl rfl)
theorem dX0_isCounter_10 : decode cX0_isCounter 10 = .ok (.invokestatic 21, 3) := dk_184 0 21 (dk_at dksX0_isCounter_0 10 rfl rfl)
theorem dX0_isCounter_13 : decode cX0_isCounter 13 = .ok (.ireturn, 1) := dk_172 (dk_at dksX0_isCounter_0 13 rfl rfl)
abbrev cX0_isSet : ByteArray := prog_1_method_23_code
def yX0_isSet : MethodName := ⟨RX0, "isSet", "(I)Z"⟩
def dkwX0_isSet_0 : List UInt8 := [26, 133, 9, 20, 0, 181, 184, 0, 21, 172]
abbrev dktX0_isSet_0 : List UInt8 := dkwX0_isSet_0 ++ []
theorem dksX0_isSet_0 : cX0_isSet.data.toList.drop 0 = dktX0_isSet_0 := by decide +kernel
theorem dX0_isSet_0 : decode cX0_isSet 0 = .ok (.iload_n 0, 1) := dk_26 (dk_at dksX0_isSet_0 0 rfl rfl)
theorem dX0_isSet_1 : decode cX0_isSet 1 = .ok (.i2l, 1) := dk_133 (dk_at dksX0_isSet_0 1 rfl rfl)
theorem dX0_isSet_2 : decode cX0_isSet 2 = .ok (.lconst 0, 1) := dk_9 (dk_at dksX0_isSet_0 2 rfl rfl)
theorem dX0_isSet_3 : decode cX0_isSet 3 = .ok (.ldc2_w 181, 3) := dk_20 0 181 (dk_at dksX0_isSet_0 3 rfl rfl)
theorem dX0_isSet_6 : decode cX0_isSet 6 = .ok (.invokestatic 21, 3) := dk_184 0 21 (dk_at dksX0_isSet_0 6 rfl rfl)
theorem dX0_isSet_9 : decode cX0_isSet 9 = .ok (.ireturn, 1) := dk_172 (dk_at dksX0_isSet_0 9 rfl rfl)
abbrev cX0_width : ByteArray := prog_1_method_26_code
def yX0_width : MethodName := ⟨RX0, "width", "(II)I"⟩
def dkwX0_width_1 : List UInt8 := [42, 180, 0, 183, 27, 50, 180, 0, 192, 62, 42, 180, 0, 183, 27, 50, 28, 181, 0, 192, 29, 172]
abbrev dktX0_width_1 : List UInt8 := dkwX0_width_1 ++ []
def dkwX0_width_0 : List UInt8 := [42, 27, 182, 0, 195, 153, 0, 17, 28, 133, 20, 0, 201, 20, 0, 203, 184, 0, 21, 154, 0, 5, 2, 172]
abbrev dktX0_width_0 : List UInt8 := dkwX0_width_0 ++ dktX0_width_1
theorem dksX0_width_0 : cX0_width.data.toList.drop 0 = dktX0_width_0 := by decide +kernel
theorem dksX0_width_1 : cX0_width.data.toList.drop 24 = dktX0_width_1 := dk_seg dksX0_width_0 24 rfl rfl
theorem dX0_width_0 : decode cX0_width 0 = .ok (.aload_n 0, 1) := dk_42 (dk_at dksX0_width_0 0 rfl rfl)
theorem dX0_width_1 : decode cX0_width 1 = .ok (.iload_n 1, 1) := dk_27 (dk_at dksX0_width_0 1 rfl rfl)
theorem dX0_width_2 : decode cX0_width 2 = .ok (.invokevirtual 195, 3) := dk_182 0 195 (dk_at dksX0_width_0 2 rfl rfl)
theorem dX0_width_5 : decode cX0_width 5 = .ok (.ifCond .eq 17, 3) := dk_153 0 17 (dk_at dksX0_width_0 5 rfl rfl)
theorem dX0_width_8 : decode cX0_width 8 = .ok (.iload_n 2, 1) := dk_28 (dk_at dksX0_width_0 8 rfl rfl)
theorem dX0_width_9 : decode cX0_width 9 = .ok (.i2l, 1) := dk_133 (dk_at dksX0_width_0 9 rfl rfl)
theorem dX0_width_10 : decode cX0_width 10 = .ok (.ldc2_w 201, 3) := dk_20 0 201 (dk_at dksX0_width_0 10 rfl rfl)
theorem dX0_width_13 : decode cX0_width 13 = .ok (.ldc2_w 203, 3) := dk_20 0 203 (dk_at dksX0_width_0 13 rfl rfl)
theorem dX0_width_16 : decode cX0_width 16 = .ok (.invokestatic 21, 3) := dk_184 0 21 (dk_at dksX0_width_0 16 rfl rfl)
theorem dX0_width_19 : decode cX0_width 19 = .ok (.ifCond .ne 5, 3) := dk_154 0 5 (dk_at dksX0_width_0 19 rfl rfl)
theorem dX0_width_22 : decode cX0_width 22 = .ok (.iconst (-1), 1) := dk_2 (dk_at dksX0_width_0 22 rfl rfl)
theorem dX0_width_23 : decode cX0_width 23 = .ok (.ireturn, 1) := dk_172 (dk_at dksX0_width_0 23 rfl rfl)
theorem dX0_width_24 : decode cX0_width 24 = .ok (.aload_n 0, 1) := dk_42 (dk_at dksX0_width_1 0 rfl rfl)
theorem dX0_width_25 : decode cX0_width 25 = .ok (.getfield 183, 3) := dk_180 0 183 (dk_at dksX0_width_1 1 rfl rfl)
theorem dX0_width_28 : decode cX0_width 28 = .ok (.iload_n 1, 1) := dk_27 (dk_at dksX0_width_1 4 rfl rfl)
theorem dX0_width_29 : decode cX0_width 29 = .ok (.aaload, 1) := dk_50 (dk_at dksX0_width_1 5 rfl rfl)
theorem dX0_width_30 : decode cX0_width 30 = .ok (.getfield 192, 3) := dk_180 0 192 (dk_at dksX0_width_1 6 rfl rfl)
theorem dX0_width_33 : decode cX0_width 33 = .ok (.istore_n 3, 1) := dk_62 (dk_at dksX0_width_1 9 rfl rfl)
theorem dX0_width_34 : decode cX0_width 34 = .ok (.aload_n 0, 1) := dk_42 (dk_at dksX0_width_1 10 rfl rfl)
theorem dX0_width_35 : decode cX0_width 35 = .ok (.getfield 183, 3) := dk_180 0 183 (dk_at dksX0_width_1 11 rfl rfl)
theorem dX0_width_38 : decode cX0_width 38 = .ok (.iload_n 1, 1) := dk_27 (dk_at dksX0_width_1 14 rfl rfl)
theorem dX0_width_39 : decode cX0_width 39 = .ok (.aaload, 1) := dk_50 (dk_at dksX0_width_1 15 rfl rfl)
theorem dX0_width_40 : decode cX0_width 40 = .ok (.iload_n 2, 1) := dk_28 (dk_at dksX0_width_1 16 rfl rfl)
theorem dX0_width_41 : decode cX0_width 41 = .ok (.putfield 192, 3) := dk_181 0 192 (dk_at dksX0_width_1 17 rfl rfl)
theorem dX0_width_44 : decode cX0_width 44 = .ok (.iload_n 3, 1) := dk_29 (dk_at dksX0_width_1 20 rfl rfl)
theorem dX0_width_45 : decode cX0_width 45 = .ok (.ireturn, 1) := dk_172 (dk_at dksX0_width_1 21 rfl rfl)
abbrev cX0_together : ByteArray := prog_1_method_29_code
def yX0_together : MethodName := ⟨RX0, "together", "(I)I"⟩
def dkwX0_together_1 : List UInt8 := [172]
abbrev dktX0_together_1 : List UInt8 := dkwX0_together_1 ++ []
def dkwX0_together_0 : List UInt8 := [27, 184, 0, 198, 153, 0, 19, 42, 27, 182, 0, 215, 153, 0, 7, 4, 167, 0, 8, 3, 167, 0, 4, 2]
abbrev dktX0_together_0 : List UInt8 := dkwX0_together_0 ++ dktX0_together_1
theorem dksX0_together_0 : cX0_together.data.toList.drop 0 = dktX0_together_0 := by decide +kernel
theorem dksX0_together_1 : cX0_together.data.toList.drop 24 = dktX0_together_1 := dk_seg dksX0_together_0 24 rfl rfl
theorem dX0_together_0 : decode cX0_together 0 = .ok (.iload_n 1, 1) := dk_27 (dk_at dksX0_together_0 0 rfl rfl)
theorem dX0_together_1 : decode cX0_together 1 = .ok (.invokestatic 198, 3) := dk_184 0 198 (dk_at dksX0_together_0 1 rfl rfl)
theorem dX0_together_4 : decode cX0_together 4 = .ok (.ifCond .eq 19, 3) := dk_153 0 19 (dk_at dksX0_together_0 4 rfl rfl)
theorem dX0_together_7 : decode cX0_together 7 = .ok (.aload_n 0, 1) := dk_42 (dk_at dksX0_together_0 7 rfl rfl)
theorem dX0_together_8 : decode cX0_together 8 = .ok (.iload_n 1, 1) := dk_27 (dk_at dksX0_together_0 8 rfl rfl)
theorem dX0_together_9 : decode cX0_together 9 = .ok (.invokevirtual 215, 3) := dk_182 0 215 (dk_at dksX0_together_0 9 rfl rfl)
theorem dX0_together_12 : decode cX0_together 12 = .ok (.ifCond .eq 7, 3) := dk_153 0 7 (dk_at dksX0_together_0 12 rfl rfl)
theorem dX0_together_15 : decode cX0_together 15 = .ok (.iconst 1, 1) := dk_4 (dk_at dksX0_together_0 15 rfl rfl)
theorem dX0_together_16 : decode cX0_together 16 = .ok (.goto 8, 3) := dk_167 0 8 (dk_at dksX0_together_0 16 rfl rfl)
theorem dX0_together_19 : decode cX0_together 19 = .ok (.iconst 0, 1) := dk_3 (dk_at dksX0_together_0 19 rfl rfl)
theorem dX0_together_20 : decode cX0_together 20 = .ok (.goto 4, 3) := dk_167 0 4 (dk_at dksX0_together_0 20 rfl rfl)
theorem dX0_together_23 : decode cX0_together 23 = .ok (.iconst (-1), 1) := dk_2 (dk_at dksX0_together_0 23 rfl rfl)
theorem dX0_together_24 : decode cX0_together 24 = .ok (.ireturn, 1) := dk_172 (dk_at dksX0_together_1 0 rfl rfl)
abbrev cX0_goTogether : ByteArray := prog_1_method_28_code
def yX0_goTogether : MethodName := ⟨RX0, "goTogether", "(I)Z"⟩
def dkwX0_goTogether_1 : List UInt8 := [153, 0, 7, 4, 167, 0, 4, 3, 172]
abbrev dktX0_goTogether_1 : List UInt8 := dkwX0_goTogether_1 ++ []
def dkwX0_goTogether_0 : List UInt8 := [27, 184, 0, 158, 42, 180, 0, 178, 163, 0, 23, 42, 27, 4, 42, 180, 0, 178, 120, 4, 100, 182, 0, 211]
abbrev dktX0_goTogether_0 : List UInt8 := dkwX0_goTogether_0 ++ dktX0_goTogether_1
theorem dksX0_goTogether_0 : cX0_goTogether.data.toList.drop 0 = dktX0_goTogether_0 := by decide +kernel
theorem dksX0_goTogether_1 : cX0_goTogether.data.toList.drop 24 = dktX0_goTogether_1 := dk_seg dksX0_goTogether_0 24 rfl rfl
theorem dX0_goTogether_0 : decode cX0_goTogether 0 = .ok (.iload_n 1, 1) := dk_27 (dk_at dksX0_goTogether_0 0 rfl rfl)
theorem dX0_goTogether_1 : decode cX0_goTogether 1 = .ok (.invokestatic 158, 3) := dk_184 0 158 (dk_at dksX0_goTogether_0 1 rfl rfl)
theorem dX0_goTogether_4 : decode cX0_goTogether 4 = .ok (.aload_n 0, 1) := dk_42 (dk_at dksX0_goTogether_0 4 rfl rfl)
theorem dX0_goTogether_5 : decode cX0_goTogether 5 = .ok (.getfield 178, 3) := dk_180 0 178 (dk_at dksX0_goTogether_0 5 rfl rfl)
theorem dX0_goTogether_8 : decode cX0_goTogether 8 = .ok (.if_icmp .gt 23, 3) := dk_163 0 23 (dk_at dksX0_goTogether_0 8 rfl rfl)
theorem dX0_goTogether_11 : decode cX0_goTogether 11 = .ok (.aload_n 0, 1) := dk_42 (dk_at dksX0_goTogether_0 11 rfl rfl)
theorem dX0_goTogether_12 : decode cX0_goTogether 12 = .ok (.iload_n 1, 1) := dk_27 (dk_at dksX0_goTogether_0 12 rfl rfl)
theorem dX0_goTogether_13 : decode cX0_goTogether 13 = .ok (.iconst 1, 1) := dk_4 (dk_at dksX0_goTogether_0 13 rfl rfl)
theorem dX0_goTogether_14 : decode cX0_goTogether 14 = .ok (.aload_n 0, 1) := dk_42 (dk_at dksX0_goTogether_0 14 rfl rfl)
theorem dX0_goTogether_15 : decode cX0_goTogether 15 = .ok (.getfield 178, 3) := dk_180 0 178 (dk_at dksX0_goTogether_0 15 rfl rfl)
theorem dX0_goTogether_18 : decode cX0_goTogether 18 = .ok (.ishl, 1) := dk_120 (dk_at dksX0_goTogether_0 18 rfl rfl)
theorem dX0_goTogether_19 : decode cX0_goTogether 19 = .ok (.iconst 1, 1) := dk_4 (dk_at dksX0_goTogether_0 19 rfl rfl)
theorem dX0_goTogether_20 : decode cX0_goTogether 20 = .ok (.isub, 1) := dk_100 (dk_at dksX0_goTogether_0 20 rfl rfl)
theorem dX0_goTogether_21 : decode cX0_goTogether 21 = .ok (.invokevirtual 211, 3) := dk_182 0 211 (dk_at dksX0_goTogether_0 21 rfl rfl)
theorem dX0_goTogether_24 : decode cX0_goTogether 24 = .ok (.ifCond .eq 7, 3) := dk_153 0 7 (dk_at dksX0_goTogether_1 0 rfl rfl)
theorem dX0_goTogether_27 : decode cX0_goTogether 27 = .ok (.iconst 1, 1) := dk_4 (dk_at dksX0_goTogether_1 3 rfl rfl)
theorem dX0_goTogether_28 : decode cX0_goTogether 28 = .ok (.goto 4, 3) := dk_167 0 4 (dk_at dksX0_goTogether_1 4 rfl rfl)
theorem dX0_goTogether_31 : decode cX0_goTogether 31 = .ok (.iconst 0, 1) := dk_3 (dk_at dksX0_goTogether_1 7 rfl rfl)
theorem dX0_goTogether_32 : decode cX0_goTogether 32 = .ok (.ireturn, 1) := dk_172 (dk_at dksX0_goTogether_1 8 rfl rfl)
abbrev cX0_canGo : ByteArray := prog_1_method_27_code
def yX0_canGo : MethodName := ⟨RX0, "canGo", "(II)Z"⟩
def dkwX0_canGo_3 : List UInt8 := [182, 0, 211, 153, 0, 7, 4, 167, 0, 4, 3, 54, 4, 132, 5, 1, 167, 255, 188, 21, 4, 172]
abbrev dktX0_canGo_3 : List UInt8 := dkwX0_canGo_3 ++ []
def dkwX0_canGo_2 : List UInt8 := [50, 29, 182, 0, 208, 153, 0, 27, 42, 27, 27, 4, 100, 126, 28, 4, 21, 5, 120, 2, 130, 126]
abbrev dktX0_canGo_2 : List UInt8 := dkwX0_canGo_2 ++ dktX0_canGo_3
def dkwX0_canGo_1 : List UInt8 := [162, 0, 65, 21, 4, 154, 0, 60, 28, 21, 5, 122, 4, 126, 4, 160, 0, 41, 42, 180, 0, 183, 21, 5]
abbrev dktX0_canGo_1 : List UInt8 := dkwX0_canGo_1 ++ dktX0_canGo_2
def dkwX0_canGo_0 : List UInt8 := [27, 154, 0, 5, 4, 172, 27, 184, 0, 205, 62, 3, 54, 4, 3, 54, 5, 21, 5, 42, 180, 0, 178]
abbrev dktX0_canGo_0 : List UInt8 := dkwX0_canGo_0 ++ dktX0_canGo_1
theorem dksX0_canGo_0 : cX0_canGo.data.toList.drop 0 = dktX0_canGo_0 := by decide +kernel
theorem dksX0_canGo_1 : cX0_canGo.data.toList.drop 23 = dktX0_canGo_1 := dk_seg dksX0_canGo_0 23 rfl rfl
theorem dksX0_canGo_2 : cX0_canGo.data.toList.drop 47 = dktX0_canGo_2 := dk_seg dksX0_canGo_1 24 rfl rfl
theorem dksX0_canGo_3 : cX0_canGo.data.toList.drop 69 = dktX0_canGo_3 := dk_seg dksX0_canGo_2 22 rfl rfl
theorem dX0_canGo_0 : decode cX0_canGo 0 = .ok (.iload_n 1, 1) := dk_27 (dk_at dksX0_canGo_0 0 rfl rfl)
theorem dX0_canGo_1 : decode cX0_canGo 1 = .ok (.ifCond .ne 5, 3) := dk_154 0 5 (dk_at dksX0_canGo_0 1 rfl rfl)
theorem dX0_canGo_4 : decode cX0_canGo 4 = .ok (.iconst 1, 1) := dk_4 (dk_at dksX0_canGo_0 4 rfl rfl)
theorem dX0_canGo_5 : decode cX0_canGo 5 = .ok (.ireturn, 1) := dk_172 (dk_at dksX0_canGo_0 5 rfl rfl)
theorem dX0_canGo_6 : decode cX0_canGo 6 = .ok (.iload_n 1, 1) := dk_27 (dk_at dksX0_canGo_0 6 rfl rfl)
theorem dX0_canGo_7 : decode cX0_canGo 7 = .ok (.invokestatic 205, 3) := dk_184 0 205 (dk_at dksX0_canGo_0 7 rfl rfl)
theorem dX0_canGo_10 : decode cX0_canGo 10 = .ok (.istore_n 3, 1) := dk_62 (dk_at dksX0_canGo_0 10 rfl rfl)
theorem dX0_canGo_11 : decode cX0_canGo 11 = .ok (.iconst 0, 1) := dk_3 (dk_at dksX0_canGo_0 11 rfl rfl)
theorem dX0_canGo_12 : decode cX0_canGo 12 = .ok (.istore 4, 2) := dk_54 4 (dk_at dksX0_canGo_0 12 rfl rfl)
theorem dX0_canGo_14 : decode cX0_canGo 14 = .ok (.iconst 0, 1) := dk_3 (dk_at dksX0_canGo_0 14 rfl rfl)
theorem dX0_canGo_15 : decode cX0_canGo 15 = .ok (.istore 5, 2) := dk_54 5 (dk_at dksX0_canGo_0 15 rfl rfl)
theorem dX0_canGo_17 : decode cX0_canGo 17 = .ok (.iload 5, 2) := dk_21 5 (dk_at dksX0_canGo_0 17 rfl rfl)
theorem dX0_canGo_19 : decode cX0_canGo 19 = .ok (.aload_n 0, 1) := dk_42 (dk_at dksX0_canGo_0 19 rfl rfl)
theorem dX0_canGo_20 : decode cX0_canGo 20 = .ok (.getfield 178, 3) := dk_180 0 178 (dk_at dksX0_canGo_0 20 rfl rfl)
theorem dX0_canGo_23 : decode cX0_canGo 23 = .ok (.if_icmp .ge 65, 3) := dk_162 0 65 (dk_at dksX0_canGo_1 0 rfl rfl)
theorem dX0_canGo_26 : decode cX0_canGo 26 = .ok (.iload 4, 2) := dk_21 4 (dk_at dksX0_canGo_1 3 rfl rfl)
theorem dX0_canGo_28 : decode cX0_canGo 28 = .ok (.ifCond .ne 60, 3) := dk_154 0 60 (dk_at dksX0_canGo_1 5 rfl rfl)
theorem dX0_canGo_31 : decode cX0_canGo 31 = .ok (.iload_n 2, 1) := dk_28 (dk_at dksX0_canGo_1 8 rfl rfl)
theorem dX0_canGo_32 : decode cX0_canGo 32 = .ok (.iload 5, 2) := dk_21 5 (dk_at dksX0_canGo_1 9 rfl rfl)
theorem dX0_canGo_34 : decode cX0_canGo 34 = .ok (.ishr, 1) := dk_122 (dk_at dksX0_canGo_1 11 rfl rfl)
theorem dX0_canGo_35 : decode cX0_canGo 35 = .ok (.iconst 1, 1) := dk_4 (dk_at dksX0_canGo_1 12 rfl rfl)
theorem dX0_canGo_36 : decode cX0_canGo 36 = .ok (.iand, 1) := dk_126 (dk_at dksX0_canGo_1 13 rfl rfl)
theorem dX0_canGo_37 : decode cX0_canGo 37 = .ok (.iconst 1, 1) := dk_4 (dk_at dksX0_canGo_1 14 rfl rfl)
theorem dX0_canGo_38 : decode cX0_canGo 38 = .ok (.if_icmp .ne 41, 3) := dk_160 0 41 (dk_at dksX0_canGo_1 15 rfl rfl)
theorem dX0_canGo_41 : decode cX0_canGo 41 = .ok (.aload_n 0, 1) := dk_42 (dk_at dksX0_canGo_1 18 rfl rfl)
theorem dX0_canGo_42 : decode cX0_canGo 42 = .ok (.getfield 183, 3) := dk_180 0 183 (dk_at dksX0_canGo_1 19 rfl rfl)
theorem dX0_canGo_45 : decode cX0_canGo 45 = .ok (.iload 5, 2) := dk_21 5 (dk_at dksX0_canGo_1 22 rfl rfl)
theorem dX0_canGo_47 : decode cX0_canGo 47 = .ok (.aaload, 1) := dk_50 (dk_at dksX0_canGo_2 0 rfl rfl)
theorem dX0_canGo_48 : decode cX0_canGo 48 = .ok (.iload_n 3, 1) := dk_29 (dk_at dksX0_canGo_2 1 rfl rfl)
theorem dX0_canGo_49 : decode cX0_canGo 49 = .ok (.invokevirtual 208, 3) := dk_182 0 208 (dk_at dksX0_canGo_2 2 rfl rfl)
theorem dX0_canGo_52 : decode cX0_canGo 52 = .ok (.ifCond .eq 27, 3) := dk_153 0 27 (dk_at dksX0_canGo_2 5 rfl rfl)
theorem dX0_canGo_55 : decode cX0_canGo 55 = .ok (.aload_n 0, 1) := dk_42 (dk_at dksX0_canGo_2 8 rfl rfl)
theorem dX0_canGo_56 : decode cX0_canGo 56 = .ok (.iload_n 1, 1) := dk_27 (dk_at dksX0_canGo_2 9 rfl rfl)
theorem dX0_canGo_57 : decode cX0_canGo 57 = .ok (.iload_n 1, 1) := dk_27 (dk_at dksX0_canGo_2 10 rfl rfl)
theorem dX0_canGo_58 : decode cX0_canGo 58 = .ok (.iconst 1, 1) := dk_4 (dk_at dksX0_canGo_2 11 rfl rfl)
theorem dX0_canGo_59 : decode cX0_canGo 59 = .ok (.isub, 1) := dk_100 (dk_at dksX0_canGo_2 12 rfl rfl)
theorem dX0_canGo_60 : decode cX0_canGo 60 = .ok (.iand, 1) := dk_126 (dk_at dksX0_canGo_2 13 rfl rfl)
theorem dX0_canGo_61 : decode cX0_canGo 61 = .ok (.iload_n 2, 1) := dk_28 (dk_at dksX0_canGo_2 14 rfl rfl)
theorem dX0_canGo_62 : decode cX0_canGo 62 = .ok (.iconst 1, 1) := dk_4 (dk_at dksX0_canGo_2 15 rfl rfl)
theorem dX0_canGo_63 : decode cX0_canGo 63 = .ok (.iload 5, 2) := dk_21 5 (dk_at dksX0_canGo_2 16 rfl rfl)
theorem dX0_canGo_65 : decode cX0_canGo 65 = .ok (.ishl, 1) := dk_120 (dk_at dksX0_canGo_2 18 rfl rfl)
theorem dX0_canGo_66 : decode cX0_canGo 66 = .ok (.iconst (-1), 1) := dk_2 (dk_at dksX0_canGo_2 19 rfl rfl)
theorem dX0_canGo_67 : decode cX0_canGo 67 = .ok (.ixor, 1) := dk_130 (dk_at dksX0_canGo_2 20 rfl rfl)
theorem dX0_canGo_68 : decode cX0_canGo 68 = .ok (.iand, 1) := dk_126 (dk_at dksX0_canGo_2 21 rfl rfl)
theorem dX0_canGo_69 : decode cX0_canGo 69 = .ok (.invokevirtual 211, 3) := dk_182 0 211 (dk_at dksX0_canGo_3 0 rfl rfl)
theorem dX0_canGo_72 : decode cX0_canGo 72 = .ok (.ifCond .eq 7, 3) := dk_153 0 7 (dk_at dksX0_canGo_3 3 rfl rfl)
theorem dX0_canGo_75 : decode cX0_canGo 75 = .ok (.iconst 1, 1) := dk_4 (dk_at dksX0_canGo_3 6 rfl rfl)
theorem dX0_canGo_76 : decode cX0_canGo 76 = .ok (.goto 4, 3) := dk_167 0 4 (dk_at dksX0_canGo_3 7 rfl rfl)
theorem dX0_canGo_79 : decode cX0_canGo 79 = .ok (.iconst 0, 1) := dk_3 (dk_at dksX0_canGo_3 10 rfl rfl)
theorem dX0_canGo_80 : decode cX0_canGo 80 = .ok (.istore 4, 2) := dk_54 4 (dk_at dksX0_canGo_3 11 rfl rfl)
theorem dX0_canGo_82 : decode cX0_canGo 82 = .ok (.iinc 5 1, 3) := dk_132 5 1 (dk_at dksX0_canGo_3 13 rfl rfl)
theorem dX0_canGo_85 : decode cX0_canGo 85 = .ok (.goto (-68), 3) := dk_167 255 188 (dk_at dksX0_canGo_3 16 rfl rfl)
theorem dX0_canGo_88 : decode cX0_canGo 88 = .ok (.iload 4, 2) := dk_21 4 (dk_at dksX0_canGo_3 19 rfl rfl)
theorem dX0_canGo_90 : decode cX0_canGo 90 = .ok (.ireturn, 1) := dk_172 (dk_at dksX0_canGo_3 21 rfl rfl)
abbrev cX0_goes : ByteArray := prog_1_method_30_code
def yX0_goes : MethodName := ⟨RX0, "goes", "(II)I"⟩
def dkwX0_goes_6 : List UInt8 := [132, 6, 1, 167, 255, 167, 21, 5, 172]
abbrev dktX0_goes_6 : List UInt8 := dkwX0_goes_6 ++ []
def dkwX0_goes_5 : List UInt8 := [126, 182, 0, 211, 154, 0, 9, 132, 5, 1, 167, 255, 212, 29, 4, 21, 5, 120, 2, 130, 126, 62]
abbrev dktX0_goes_5 : List UInt8 := dkwX0_goes_5 ++ dktX0_goes_6
def dkwX0_goes_4 : List UInt8 := [180, 0, 183, 21, 5, 50, 21, 6, 182, 0, 208, 153, 0, 20, 42, 21, 4, 29, 4, 21, 5, 120, 2, 130]
abbrev dktX0_goes_4 : List UInt8 := dkwX0_goes_4 ++ dktX0_goes_5
def dkwX0_goes_3 : List UInt8 := [21, 4, 4, 21, 6, 120, 2, 130, 126, 54, 4, 3, 54, 5, 29, 21, 5, 122, 4, 126, 153, 0, 35, 42]
abbrev dktX0_goes_3 : List UInt8 := dkwX0_goes_3 ++ dktX0_goes_4
def dkwX0_goes_2 : List UInt8 := [16, 252, 54, 5, 3, 54, 6, 21, 6, 28, 163, 0, 89, 27, 21, 6, 122, 4, 126, 4, 160, 0, 73]
abbrev dktX0_goes_2 : List UInt8 := dkwX0_goes_2 ++ dktX0_goes_3
def dkwX0_goes_1 : List UInt8 := [42, 27, 182, 0, 215, 154, 0, 6, 16, 252, 172, 4, 42, 180, 0, 178, 120, 4, 100, 62, 27, 54, 4]
abbrev dktX0_goes_1 : List UInt8 := dkwX0_goes_1 ++ dktX0_goes_2
def dkwX0_goes_0 : List UInt8 := [27, 184, 0, 198, 153, 0, 18, 28, 184, 0, 125, 153, 0, 11, 27, 28, 122, 4, 126, 154, 0, 5, 2, 172]
abbrev dktX0_goes_0 : List UInt8 := dkwX0_goes_0 ++ dktX0_goes_1
theorem dksX0_goes_0 : cX0_goes.data.toList.drop 0 = dktX0_goes_0 := by decide +kernel
theorem dksX0_goes_1 : cX0_goes.data.toList.drop 24 = dktX0_goes_1 := dk_seg dksX0_goes_0 24 rfl rfl
theorem dksX0_goes_2 : cX0_goes.data.toList.drop 47 = dktX0_goes_2 := dk_seg dksX0_goes_1 23 rfl rfl
theorem dksX0_goes_3 : cX0_goes.data.toList.drop 70 = dktX0_goes_3 := dk_seg dksX0_goes_2 23 rfl rfl
theorem dksX0_goes_4 : cX0_goes.data.toList.drop 94 = dktX0_goes_4 := dk_seg dksX0_goes_3 24 rfl rfl
theorem dksX0_goes_5 : cX0_goes.data.toList.drop 118 = dktX0_goes_5 := dk_seg dksX0_goes_4 24 rfl rfl
theorem dksX0_goes_6 : cX0_goes.data.toList.drop 140 = dktX0_goes_6 := dk_seg dksX0_goes_5 22 rfl rfl
theorem dX0_goes_0 : decode cX0_goes 0 = .ok (.iload_n 1, 1) := dk_27 (dk_at dksX0_goes_0 0 rfl rfl)
theorem dX0_goes_1 : decode cX0_goes 1 = .ok (.invokestatic 198, 3) := dk_184 0 198 (dk_at dksX0_goes_0 1 rfl rfl)
theorem dX0_goes_4 : decode cX0_goes 4 = .ok (.ifCond .eq 18, 3) := dk_153 0 18 (dk_at dksX0_goes_0 4 rfl rfl)
theorem dX0_goes_7 : decode cX0_goes 7 = .ok (.iload_n 2, 1) := dk_28 (dk_at dksX0_goes_0 7 rfl rfl)
theorem dX0_goes_8 : decode cX0_goes 8 = .ok (.invokestatic 125, 3) := dk_184 0 125 (dk_at dksX0_goes_0 8 rfl rfl)
theorem dX0_goes_11 : decode cX0_goes 11 = .ok (.ifCond .eq 11, 3) := dk_153 0 11 (dk_at dksX0_goes_0 11 rfl rfl)
theorem dX0_goes_14 : decode cX0_goes 14 = .ok (.iload_n 1, 1) := dk_27 (dk_at dksX0_goes_0 14 rfl rfl)
theorem dX0_goes_15 : decode cX0_goes 15 = .ok (.iload_n 2, 1) := dk_28 (dk_at dksX0_goes_0 15 rfl rfl)
theorem dX0_goes_16 : decode cX0_goes 16 = .ok (.ishr, 1) := dk_122 (dk_at dksX0_goes_0 16 rfl rfl)
theorem dX0_goes_17 : decode cX0_goes 17 = .ok (.iconst 1, 1) := dk_4 (dk_at dksX0_goes_0 17 rfl rfl)
theorem dX0_goes_18 : decode cX0_goes 18 = .ok (.iand, 1) := dk_126 (dk_at dksX0_goes_0 18 rfl rfl)
theorem dX0_goes_19 : decode cX0_goes 19 = .ok (.ifCond .ne 5, 3) := dk_154 0 5 (dk_at dksX0_goes_0 19 rfl rfl)
theorem dX0_goes_22 : decode cX0_goes 22 = .ok (.iconst (-1), 1) := dk_2 (dk_at dksX0_goes_0 22 rfl rfl)
theorem dX0_goes_23 : decode cX0_goes 23 = .ok (.ireturn, 1) := dk_172 (dk_at dksX0_goes_0 23 rfl rfl)
theorem dX0_goes_24 : decode cX0_goes 24 = .ok (.aload_n 0, 1) := dk_42 (dk_at dksX0_goes_1 0 rfl rfl)
theorem dX0_goes_25 : decode cX0_goes 25 = .ok (.iload_n 1, 1) := dk_27 (dk_at dksX0_goes_1 1 rfl rfl)
theorem dX0_goes_26 : decode cX0_goes 26 = .ok (.invokevirtual 215, 3) := dk_182 0 215 (dk_at dksX0_goes_1 2 rfl rfl)
theorem dX0_goes_29 : decode cX0_goes 29 = .ok (.ifCond .ne 6, 3) := dk_154 0 6 (dk_at dksX0_goes_1 5 rfl rfl)
theorem dX0_goes_32 : decode cX0_goes 32 = .ok (.bipush (-4), 2) := dk_16 252 (dk_at dksX0_goes_1 8 rfl rfl)
theorem dX0_goes_34 : decode cX0_goes 34 = .ok (.ireturn, 1) := dk_172 (dk_at dksX0_goes_1 10 rfl rfl)
theorem dX0_goes_35 : decode cX0_goes 35 = .ok (.iconst 1, 1) := dk_4 (dk_at dksX0_goes_1 11 rfl rfl)
theorem dX0_goes_36 : decode cX0_goes 36 = .ok (.aload_n 0, 1) := dk_42 (dk_at dksX0_goes_1 12 rfl rfl)
theorem dX0_goes_37 : decode cX0_goes 37 = .ok (.getfield 178, 3) := dk_180 0 178 (dk_at dksX0_goes_1 13 rfl rfl)
theorem dX0_goes_40 : decode cX0_goes 40 = .ok (.ishl, 1) := dk_120 (dk_at dksX0_goes_1 16 rfl rfl)
theorem dX0_goes_41 : decode cX0_goes 41 = .ok (.iconst 1, 1) := dk_4 (dk_at dksX0_goes_1 17 rfl rfl)
theorem dX0_goes_42 : decode cX0_goes 42 = .ok (.isub, 1) := dk_100 (dk_at dksX0_goes_1 18 rfl rfl)
theorem dX0_goes_43 : decode cX0_goes 43 = .ok (.istore_n 3, 1) := dk_62 (dk_at dksX0_goes_1 19 rfl rfl)
theorem dX0_goes_44 : decode cX0_goes 44 = .ok (.iload_n 1, 1) := dk_27 (dk_at dksX0_goes_1 20 rfl rfl)
theorem dX0_goes_45 : decode cX0_goes 45 = .ok (.istore 4, 2) := dk_54 4 (dk_at dksX0_goes_1 21 rfl rfl)
theorem dX0_goes_47 : decode cX0_goes 47 = .ok (.bipush (-4), 2) := dk_16 252 (dk_at dksX0_goes_2 0 rfl rfl)
theorem dX0_goes_49 : decode cX0_goes 49 = .ok (.istore 5, 2) := dk_54 5 (dk_at dksX0_goes_2 2 rfl rfl)
theorem dX0_goes_51 : decode cX0_goes 51 = .ok (.iconst 0, 1) := dk_3 (dk_at dksX0_goes_2 4 rfl rfl)
theorem dX0_goes_52 : decode cX0_goes 52 = .ok (.istore 6, 2) := dk_54 6 (dk_at dksX0_goes_2 5 rfl rfl)
theorem dX0_goes_54 : decode cX0_goes 54 = .ok (.iload 6, 2) := dk_21 6 (dk_at dksX0_goes_2 7 rfl rfl)
theorem dX0_goes_56 : decode cX0_goes 56 = .ok (.iload_n 2, 1) := dk_28 (dk_at dksX0_goes_2 9 rfl rfl)
theorem dX0_goes_57 : decode cX0_goes 57 = .ok (.if_icmp .gt 89, 3) := dk_163 0 89 (dk_at dksX0_goes_2 10 rfl rfl)
theorem dX0_goes_60 : decode cX0_goes 60 = .ok (.iload_n 1, 1) := dk_27 (dk_at dksX0_goes_2 13 rfl rfl)
theorem dX0_goes_61 : decode cX0_goes 61 = .ok (.iload 6, 2) := dk_21 6 (dk_at dksX0_goes_2 14 rfl rfl)
theorem dX0_goes_63 : decode cX0_goes 63 = .ok (.ishr, 1) := dk_122 (dk_at dksX0_goes_2 16 rfl rfl)
theorem dX0_goes_64 : decode cX0_goes 64 = .ok (.iconst 1, 1) := dk_4 (dk_at dksX0_goes_2 17 rfl rfl)
theorem dX0_goes_65 : decode cX0_goes 65 = .ok (.iand, 1) := dk_126 (dk_at dksX0_goes_2 18 rfl rfl)
theorem dX0_goes_66 : decode cX0_goes 66 = .ok (.iconst 1, 1) := dk_4 (dk_at dksX0_goes_2 19 rfl rfl)
theorem dX0_goes_67 : decode cX0_goes 67 = .ok (.if_icmp .ne 73, 3) := dk_160 0 73 (dk_at dksX0_goes_2 20 rfl rfl)
theorem dX0_goes_70 : decode cX0_goes 70 = .ok (.iload 4, 2) := dk_21 4 (dk_at dksX0_goes_3 0 rfl rfl)
theorem dX0_goes_72 : decode cX0_goes 72 = .ok (.iconst 1, 1) := dk_4 (dk_at dksX0_goes_3 2 rfl rfl)
theorem dX0_goes_73 : decode cX0_goes 73 = .ok (.iload 6, 2) := dk_21 6 (dk_at dksX0_goes_3 3 rfl rfl)
theorem dX0_goes_75 : decode cX0_goes 75 = .ok (.ishl, 1) := dk_120 (dk_at dksX0_goes_3 5 rfl rfl)
theorem dX0_goes_76 : decode cX0_goes 76 = .ok (.iconst (-1), 1) := dk_2 (dk_at dksX0_goes_3 6 rfl rfl)
theorem dX0_goes_77 : decode cX0_goes 77 = .ok (.ixor, 1) := dk_130 (dk_at dksX0_goes_3 7 rfl rfl)
theorem dX0_goes_78 : decode cX0_goes 78 = .ok (.iand, 1) := dk_126 (dk_at dksX0_goes_3 8 rfl rfl)
theorem dX0_goes_79 : decode cX0_goes 79 = .ok (.istore 4, 2) := dk_54 4 (dk_at dksX0_goes_3 9 rfl rfl)
theorem dX0_goes_81 : decode cX0_goes 81 = .ok (.iconst 0, 1) := dk_3 (dk_at dksX0_goes_3 11 rfl rfl)
theorem dX0_goes_82 : decode cX0_goes 82 = .ok (.istore 5, 2) := dk_54 5 (dk_at dksX0_goes_3 12 rfl rfl)
theorem dX0_goes_84 : decode cX0_goes 84 = .ok (.iload_n 3, 1) := dk_29 (dk_at dksX0_goes_3 14 rfl rfl)
theorem dX0_goes_85 : decode cX0_goes 85 = .ok (.iload 5, 2) := dk_21 5 (dk_at dksX0_goes_3 15 rfl rfl)
theorem dX0_goes_87 : decode cX0_goes 87 = .ok (.ishr, 1) := dk_122 (dk_at dksX0_goes_3 17 rfl rfl)
theorem dX0_goes_88 : decode cX0_goes 88 = .ok (.iconst 1, 1) := dk_4 (dk_at dksX0_goes_3 18 rfl rfl)
theorem dX0_goes_89 : decode cX0_goes 89 = .ok (.iand, 1) := dk_126 (dk_at dksX0_goes_3 19 rfl rfl)
theorem dX0_goes_90 : decode cX0_goes 90 = .ok (.ifCond .eq 35, 3) := dk_153 0 35 (dk_at dksX0_goes_3 20 rfl rfl)
theorem dX0_goes_93 : decode cX0_goes 93 = .ok (.aload_n 0, 1) := dk_42 (dk_at dksX0_goes_3 23 rfl rfl)
theorem dX0_goes_94 : decode cX0_goes 94 = .ok (.getfield 183, 3) := dk_180 0 183 (dk_at dksX0_goes_4 0 rfl rfl)
theorem dX0_goes_97 : decode cX0_goes 97 = .ok (.iload 5, 2) := dk_21 5 (dk_at dksX0_goes_4 3 rfl rfl)
theorem dX0_goes_99 : decode cX0_goes 99 = .ok (.aaload, 1) := dk_50 (dk_at dksX0_goes_4 5 rfl rfl)
theorem dX0_goes_100 : decode cX0_goes 100 = .ok (.iload 6, 2) := dk_21 6 (dk_at dksX0_goes_4 6 rfl rfl)
theorem dX0_goes_102 : decode cX0_goes 102 = .ok (.invokevirtual 208, 3) := dk_182 0 208 (dk_at dksX0_goes_4 8 rfl rfl)
theorem dX0_goes_105 : decode cX0_goes 105 = .ok (.ifCond .eq 20, 3) := dk_153 0 20 (dk_at dksX0_goes_4 11 rfl rfl)
theorem dX0_goes_108 : decode cX0_goes 108 = .ok (.aload_n 0, 1) := dk_42 (dk_at dksX0_goes_4 14 rfl rfl)
theorem dX0_goes_109 : decode cX0_goes 109 = .ok (.iload 4, 2) := dk_21 4 (dk_at dksX0_goes_4 15 rfl rfl)
theorem dX0_goes_111 : decode cX0_goes 111 = .ok (.iload_n 3, 1) := dk_29 (dk_at dksX0_goes_4 17 rfl rfl)
theorem dX0_goes_112 : decode cX0_goes 112 = .ok (.iconst 1, 1) := dk_4 (dk_at dksX0_goes_4 18 rfl rfl)
theorem dX0_goes_113 : decode cX0_goes 113 = .ok (.iload 5, 2) := dk_21 5 (dk_at dksX0_goes_4 19 rfl rfl)
theorem dX0_goes_115 : decode cX0_goes 115 = .ok (.ishl, 1) := dk_120 (dk_at dksX0_goes_4 21 rfl rfl)
theorem dX0_goes_116 : decode cX0_goes 116 = .ok (.iconst (-1), 1) := dk_2 (dk_at dksX0_goes_4 22 rfl rfl)
theorem dX0_goes_117 : decode cX0_goes 117 = .ok (.ixor, 1) := dk_130 (dk_at dksX0_goes_4 23 rfl rfl)
theorem dX0_goes_118 : decode cX0_goes 118 = .ok (.iand, 1) := dk_126 (dk_at dksX0_goes_5 0 rfl rfl)
theorem dX0_goes_119 : decode cX0_goes 119 = .ok (.invokevirtual 211, 3) := dk_182 0 211 (dk_at dksX0_goes_5 1 rfl rfl)
theorem dX0_goes_122 : decode cX0_goes 122 = .ok (.ifCond .ne 9, 3) := dk_154 0 9 (dk_at dksX0_goes_5 4 rfl rfl)
theorem dX0_goes_125 : decode cX0_goes 125 = .ok (.iinc 5 1, 3) := dk_132 5 1 (dk_at dksX0_goes_5 7 rfl rfl)
theorem dX0_goes_128 : decode cX0_goes 128 = .ok (.goto (-44), 3) := dk_167 255 212 (dk_at dksX0_goes_5 10 rfl rfl)
theorem dX0_goes_131 : decode cX0_goes 131 = .ok (.iload_n 3, 1) := dk_29 (dk_at dksX0_goes_5 13 rfl rfl)
theorem dX0_goes_132 : decode cX0_goes 132 = .ok (.iconst 1, 1) := dk_4 (dk_at dksX0_goes_5 14 rfl rfl)
theorem dX0_goes_133 : decode cX0_goes 133 = .ok (.iload 5, 2) := dk_21 5 (dk_at dksX0_goes_5 15 rfl rfl)
theorem dX0_goes_135 : decode cX0_goes 135 = .ok (.ishl, 1) := dk_120 (dk_at dksX0_goes_5 17 rfl rfl)
theorem dX0_goes_136 : decode cX0_goes 136 = .ok (.iconst (-1), 1) := dk_2 (dk_at dksX0_goes_5 18 rfl rfl)
theorem dX0_goes_137 : decode cX0_goes 137 = .ok (.ixor, 1) := dk_130 (dk_at dksX0_goes_5 19 rfl rfl)
theorem dX0_goes_138 : decode cX0_goes 138 = .ok (.iand, 1) := dk_126 (dk_at dksX0_goes_5 20 rfl rfl)
theorem dX0_goes_139 : decode cX0_goes 139 = .ok (.istore_n 3, 1) := dk_62 (dk_at dksX0_goes_5 21 rfl rfl)
theorem dX0_goes_140 : decode cX0_goes 140 = .ok (.iinc 6 1, 3) := dk_132 6 1 (dk_at dksX0_goes_6 0 rfl rfl)
theorem dX0_goes_143 : decode cX0_goes 143 = .ok (.goto (-89), 3) := dk_167 255 167 (dk_at dksX0_goes_6 3 rfl rfl)
theorem dX0_goes_146 : decode cX0_goes 146 = .ok (.iload 5, 2) := dk_21 5 (dk_at dksX0_goes_6 6 rfl rfl)
theorem dX0_goes_148 : decode cX0_goes 148 = .ok (.ireturn, 1) := dk_172 (dk_at dksX0_goes_6 8 rfl rfl)
abbrev cX0_rounds : ByteArray := prog_1_method_32_code
def yX0_rounds : MethodName := ⟨RX0, "rounds", "(II)I"⟩
def dkwX0_rounds_3 : List UInt8 := [167, 0, 4, 2, 172]
abbrev dktX0_rounds_3 : List UInt8 := dkwX0_rounds_3 ++ []
def dkwX0_rounds_2 : List UInt8 := [167, 0, 27, 28, 16, 10, 100, 42, 180, 0, 228, 162, 0, 15, 42, 180, 0, 231, 28, 16, 10, 100, 46]
abbrev dktX0_rounds_2 : List UInt8 := dkwX0_rounds_2 ++ dktX0_rounds_3
def dkwX0_rounds_1 : List UInt8 := [154, 0, 5, 2, 172, 42, 27, 182, 0, 234, 154, 0, 6, 16, 252, 172, 28, 154, 0, 10, 42, 180, 0, 228]
abbrev dktX0_rounds_1 : List UInt8 := dkwX0_rounds_1 ++ dktX0_rounds_2
def dkwX0_rounds_0 : List UInt8 := [27, 184, 0, 198, 153, 0, 21, 28, 153, 0, 19, 28, 133, 20, 0, 118, 20, 0, 120, 184, 0, 21]
abbrev dktX0_rounds_0 : List UInt8 := dkwX0_rounds_0 ++ dktX0_rounds_1
theorem dksX0_rounds_0 : cX0_rounds.data.toList.drop 0 = dktX0_rounds_0 := by decide +kernel
theorem dksX0_rounds_1 : cX0_rounds.data.toList.drop 22 = dktX0_rounds_1 := dk_seg dksX0_rounds_0 22 rfl rfl
theorem dksX0_rounds_2 : cX0_rounds.data.toList.drop 46 = dktX0_rounds_2 := dk_seg dksX0_rounds_1 24 rfl rfl
theorem dksX0_rounds_3 : cX0_rounds.data.toList.drop 69 = dktX0_rounds_3 := dk_seg dksX0_rounds_2 23 rfl rfl
theorem dX0_rounds_0 : decode cX0_rounds 0 = .ok (.iload_n 1, 1) := dk_27 (dk_at dksX0_rounds_0 0 rfl rfl)
theorem dX0_rounds_1 : decode cX0_rounds 1 = .ok (.invokestatic 198, 3) := dk_184 0 198 (dk_at dksX0_rounds_0 1 rfl rfl)
theorem dX0_rounds_4 : decode cX0_rounds 4 = .ok (.ifCond .eq 21, 3) := dk_153 0 21 (dk_at dksX0_rounds_0 4 rfl rfl)
theorem dX0_rounds_7 : decode cX0_rounds 7 = .ok (.iload_n 2, 1) := dk_28 (dk_at dksX0_rounds_0 7 rfl rfl)
theorem dX0_rounds_8 : decode cX0_rounds 8 = .ok (.ifCond .eq 19, 3) := dk_153 0 19 (dk_at dksX0_rounds_0 8 rfl rfl)
theorem dX0_rounds_11 : decode cX0_rounds 11 = .ok (.iload_n 2, 1) := dk_28 (dk_at dksX0_rounds_0 11 rfl rfl)
theorem dX0_rounds_12 : decode cX0_rounds 12 = .ok (.i2l, 1) := dk_133 (dk_at dksX0_rounds_0 12 rfl rfl)
theorem dX0_rounds_13 : decode cX0_rounds 13 = .ok (.ldc2_w 118, 3) := dk_20 0 118 (dk_at dksX0_rounds_0 13 rfl rfl)
theorem dX0_rounds_16 : decode cX0_rounds 16 = .ok (.ldc2_w 120, 3) := dk_20 0 120 (dk_at dksX0_rounds_0 16 rfl rfl)
theorem dX0_rounds_19 : decode cX0_rounds 19 = .ok (.invokestatic 21, 3) := dk_184 0 21 (dk_at dksX0_rounds_0 19 rfl rfl)
theorem dX0_rounds_22 : decode cX0_rounds 22 = .ok (.ifCond .ne 5, 3) := dk_154 0 5 (dk_at dksX0_rounds_1 0 rfl rfl)
theorem dX0_rounds_25 : decode cX0_rounds 25 = .ok (.iconst (-1), 1) := dk_2 (dk_at dksX0_rounds_1 3 rfl rfl)
theorem dX0_rounds_26 : decode cX0_rounds 26 = .ok (.ireturn, 1) := dk_172 (dk_at dksX0_rounds_1 4 rfl rfl)
theorem dX0_rounds_27 : decode cX0_rounds 27 = .ok (.aload_n 0, 1) := dk_42 (dk_at dksX0_rounds_1 5 rfl rfl)
theorem dX0_rounds_28 : decode cX0_rounds 28 = .ok (.iload_n 1, 1) := dk_27 (dk_at dksX0_rounds_1 6 rfl rfl)
theorem dX0_rounds_29 : decode cX0_rounds 29 = .ok (.invokevirtual 234, 3) := dk_182 0 234 (dk_at dksX0_rounds_1 7 rfl rfl)
theorem dX0_rounds_32 : decode cX0_rounds 32 = .ok (.ifCond .ne 6, 3) := dk_154 0 6 (dk_at dksX0_rounds_1 10 rfl rfl)
theorem dX0_rounds_35 : decode cX0_rounds 35 = .ok (.bipush (-4), 2) := dk_16 252 (dk_at dksX0_rounds_1 13 rfl rfl)
theorem dX0_rounds_37 : decode cX0_rounds 37 = .ok (.ireturn, 1) := dk_172 (dk_at dksX0_rounds_1 15 rfl rfl)
theorem dX0_rounds_38 : decode cX0_rounds 38 = .ok (.iload_n 2, 1) := dk_28 (dk_at dksX0_rounds_1 16 rfl rfl)
theorem dX0_rounds_39 : decode cX0_rounds 39 = .ok (.ifCond .ne 10, 3) := dk_154 0 10 (dk_at dksX0_rounds_1 17 rfl rfl)
theorem dX0_rounds_42 : decode cX0_rounds 42 = .ok (.aload_n 0, 1) := dk_42 (dk_at dksX0_rounds_1 20 rfl rfl)
theorem dX0_rounds_43 : decode cX0_rounds 43 = .ok (.getfield 228, 3) := dk_180 0 228 (dk_at dksX0_rounds_1 21 rfl rfl)
theorem dX0_rounds_46 : decode cX0_rounds 46 = .ok (.goto 27, 3) := dk_167 0 27 (dk_at dksX0_rounds_2 0 rfl rfl)
theorem dX0_rounds_49 : decode cX0_rounds 49 = .ok (.iload_n 2, 1) := dk_28 (dk_at dksX0_rounds_2 3 rfl rfl)
theorem dX0_rounds_50 : decode cX0_rounds 50 = .ok (.bipush 10, 2) := dk_16 10 (dk_at dksX0_rounds_2 4 rfl rfl)
theorem dX0_rounds_52 : decode cX0_rounds 52 = .ok (.isub, 1) := dk_100 (dk_at dksX0_rounds_2 6 rfl rfl)
theorem dX0_rounds_53 : decode cX0_rounds 53 = .ok (.aload_n 0, 1) := dk_42 (dk_at dksX0_rounds_2 7 rfl rfl)
theorem dX0_rounds_54 : decode cX0_rounds 54 = .ok (.getfield 228, 3) := dk_180 0 228 (dk_at dksX0_rounds_2 8 rfl rfl)
theorem dX0_rounds_57 : decode cX0_rounds 57 = .ok (.if_icmp .ge 15, 3) := dk_162 0 15 (dk_at dksX0_rounds_2 11 rfl rfl)
theorem dX0_rounds_60 : decode cX0_rounds 60 = .ok (.aload_n 0, 1) := dk_42 (dk_at dksX0_rounds_2 14 rfl rfl)
theorem dX0_rounds_61 : decode cX0_rounds 61 = .ok (.getfield 231, 3) := dk_180 0 231 (dk_at dksX0_rounds_2 15 rfl rfl)
theorem dX0_rounds_64 : decode cX0_rounds 64 = .ok (.iload_n 2, 1) := dk_28 (dk_at dksX0_rounds_2 18 rfl rfl)
theorem dX0_rounds_65 : decode cX0_rounds 65 = .ok (.bipush 10, 2) := dk_16 10 (dk_at dksX0_rounds_2 19 rfl rfl)
theorem dX0_rounds_67 : decode cX0_rounds 67 = .ok (.isub, 1) := dk_100 (dk_at dksX0_rounds_2 21 rfl rfl)
theorem dX0_rounds_68 : decode cX0_rounds 68 = .ok (.iaload, 1) := dk_46 (dk_at dksX0_rounds_2 22 rfl rfl)
theorem dX0_rounds_69 : decode cX0_rounds 69 = .ok (.goto 4, 3) := dk_167 0 4 (dk_at dksX0_rounds_3 0 rfl rfl)
theorem dX0_rounds_72 : decode cX0_rounds 72 = .ok (.iconst (-1), 1) := dk_2 (dk_at dksX0_rounds_3 3 rfl rfl)
theorem dX0_rounds_73 : decode cX0_rounds 73 = .ok (.ireturn, 1) := dk_172 (dk_at dksX0_rounds_3 4 rfl rfl)
abbrev cX0_layRounds : ByteArray := prog_1_method_31_code
def yX0_layRounds : MethodName := ⟨RX0, "layRounds", "(I)Z"⟩
def dkwX0_layRounds_10 : List UInt8 := [28, 154, 0, 7, 4, 167, 0, 4, 3, 172]
abbrev dktX0_layRounds_10 : List UInt8 := dkwX0_layRounds_10 ++ []
def dkwX0_layRounds_9 : List UInt8 := [180, 0, 228, 29, 79, 42, 89, 180, 0, 228, 4, 96, 181, 0, 228, 28, 29, 2, 130, 126, 61, 167, 255, 157]
abbrev dktX0_layRounds_9 : List UInt8 := dkwX0_layRounds_9 ++ dktX0_layRounds_10
def dkwX0_layRounds_8 : List UInt8 := [46, 96, 42, 180, 0, 222, 28, 46, 159, 0, 9, 132, 3, 1, 167, 255, 206, 42, 180, 0, 231, 42]
abbrev dktX0_layRounds_8 : List UInt8 := dkwX0_layRounds_8 ++ dktX0_layRounds_9
def dkwX0_layRounds_7 : List UInt8 := [116, 126, 153, 0, 33, 42, 180, 0, 218, 29, 51, 153, 0, 24, 4, 42, 180, 0, 222, 28, 29, 2, 130, 126]
abbrev dktX0_layRounds_7 : List UInt8 := dkwX0_layRounds_7 ++ dktX0_layRounds_8
def dkwX0_layRounds_6 : List UInt8 := [28, 46, 16, 8, 163, 0, 90, 28, 28, 116, 126, 62, 29, 28, 2, 130, 126, 154, 0, 42, 29, 28, 126, 28]
abbrev dktX0_layRounds_6 : List UInt8 := dkwX0_layRounds_6 ++ dktX0_layRounds_7
def dkwX0_layRounds_5 : List UInt8 := [167, 255, 198, 132, 2, 1, 167, 255, 169, 42, 3, 181, 0, 228, 27, 61, 28, 153, 0, 101, 42, 180, 0, 222]
abbrev dktX0_layRounds_5 : List UInt8 := dkwX0_layRounds_5 ++ dktX0_layRounds_6
def dkwX0_layRounds_4 : List UInt8 := [180, 0, 222, 28, 21, 4, 2, 130, 126, 46, 96, 184, 0, 225, 79, 21, 4, 4, 100, 28, 126, 54, 4]
abbrev dktX0_layRounds_4 : List UInt8 := dkwX0_layRounds_4 ++ dktX0_layRounds_5
def dkwX0_layRounds_3 : List UInt8 := [180, 0, 218, 21, 4, 51, 153, 0, 31, 42, 180, 0, 222, 28, 42, 180, 0, 222, 28, 46, 4, 42]
abbrev dktX0_layRounds_3 : List UInt8 := dkwX0_layRounds_3 ++ dktX0_layRounds_4
def dkwX0_layRounds_2 : List UInt8 := [42, 180, 0, 222, 28, 16, 9, 79, 28, 54, 4, 21, 4, 158, 0, 59, 21, 4, 29, 126, 153, 0, 41, 42]
abbrev dktX0_layRounds_2 : List UInt8 := dkwX0_layRounds_2 ++ dktX0_layRounds_3
def dkwX0_layRounds_1 : List UInt8 := [167, 255, 235, 42, 180, 0, 222, 3, 3, 79, 4, 61, 28, 17, 1, 0, 162, 0, 86, 28, 28, 116, 126, 62]
abbrev dktX0_layRounds_1 : List UInt8 := dkwX0_layRounds_1 ++ dktX0_layRounds_2
def dkwX0_layRounds_0 : List UInt8 := [3, 61, 28, 17, 1, 0, 162, 0, 20, 42, 180, 0, 218, 28, 42, 28, 182, 0, 215, 84, 132, 2, 1]
abbrev dktX0_layRounds_0 : List UInt8 := dkwX0_layRounds_0 ++ dktX0_layRounds_1
theorem dksX0_layRounds_0 : cX0_layRounds.data.toList.drop 0 = dktX0_layRounds_0 := by decide +kernel
theorem dksX0_layRounds_1 : cX0_layRounds.data.toList.drop 23 = dktX0_layRounds_1 := dk_seg dksX0_layRounds_0 23 rfl rfl
theorem dksX0_layRounds_2 : cX0_layRounds.data.toList.drop 47 = dktX0_layRounds_2 := dk_seg dksX0_layRounds_1 24 rfl rfl
theorem dksX0_layRounds_3 : cX0_layRounds.data.toList.drop 71 = dktX0_layRounds_3 := dk_seg dksX0_layRounds_2 24 rfl rfl
theorem dksX0_layRounds_4 : cX0_layRounds.data.toList.drop 93 = dktX0_layRounds_4 := dk_seg dksX0_layRounds_3 22 rfl rfl
theorem dksX0_layRounds_5 : cX0_layRounds.data.toList.drop 116 = dktX0_layRounds_5 := dk_seg dksX0_layRounds_4 23 rfl rfl
theorem dksX0_layRounds_6 : cX0_layRounds.data.toList.drop 140 = dktX0_layRounds_6 := dk_seg dksX0_layRounds_5 24 rfl rfl
theorem dksX0_layRounds_7 : cX0_layRounds.data.toList.drop 164 = dktX0_layRounds_7 := dk_seg dksX0_layRounds_6 24 rfl rfl
theorem dksX0_layRounds_8 : cX0_layRounds.data.toList.drop 188 = dktX0_layRounds_8 := dk_seg dksX0_layRounds_7 24 rfl rfl
theorem dksX0_layRounds_9 : cX0_layRounds.data.toList.drop 210 = dktX0_layRounds_9 := dk_seg dksX0_layRounds_8 22 rfl rfl
theorem dksX0_layRounds_10 : cX0_layRounds.data.toList.drop 234 = dktX0_layRounds_10 := dk_seg dksX0_layRounds_9 24 rfl rfl
theorem dX0_layRounds_0 : decode cX0_layRounds 0 = .ok (.iconst 0, 1) := dk_3 (dk_at dksX0_layRounds_0 0 rfl rfl)
theorem dX0_layRounds_1 : decode cX0_layRounds 1 = .ok (.istore_n 2, 1) := dk_61 (dk_at dksX0_layRounds_0 1 rfl rfl)
theorem dX0_layRounds_2 : decode cX0_layRounds 2 = .ok (.iload_n 2, 1) := dk_28 (dk_at dksX0_layRounds_0 2 rfl rfl)
theorem dX0_layRounds_3 : decode cX0_layRounds 3 = .ok (.sipush 256, 3) := dk_17 1 0 (dk_at dksX0_layRounds_0 3 rfl rfl)
theorem dX0_layRounds_6 : decode cX0_layRounds 6 = .ok (.if_icmp .ge 20, 3) := dk_162 0 20 (dk_at dksX0_layRounds_0 6 rfl rfl)
theorem dX0_layRounds_9 : decode cX0_layRounds 9 = .ok (.aload_n 0, 1) := dk_42 (dk_at dksX0_layRounds_0 9 rfl rfl)
theorem dX0_layRounds_10 : decode cX0_layRounds 10 = .ok (.getfield 218, 3) := dk_180 0 218 (dk_at dksX0_layRounds_0 10 rfl rfl)
theorem dX0_layRounds_13 : decode cX0_layRounds 13 = .ok (.iload_n 2, 1) := dk_28 (dk_at dksX0_layRounds_0 13 rfl rfl)
theorem dX0_layRounds_14 : decode cX0_layRounds 14 = .ok (.aload_n 0, 1) := dk_42 (dk_at dksX0_layRounds_0 14 rfl rfl)
theorem dX0_layRounds_15 : decode cX0_layRounds 15 = .ok (.iload_n 2, 1) := dk_28 (dk_at dksX0_layRounds_0 15 rfl rfl)
theorem dX0_layRounds_16 : decode cX0_layRounds 16 = .ok (.invokevirtual 215, 3) := dk_182 0 215 (dk_at dksX0_layRounds_0 16 rfl rfl)
theorem dX0_layRounds_19 : decode cX0_layRounds 19 = .ok (.bastore, 1) := dk_84 (dk_at dksX0_layRounds_0 19 rfl rfl)
theorem dX0_layRounds_20 : decode cX0_layRounds 20 = .ok (.iinc 2 1, 3) := dk_132 2 1 (dk_at dksX0_layRounds_0 20 rfl rfl)
theorem dX0_layRounds_23 : decode cX0_layRounds 23 = .ok (.goto (-21), 3) := dk_167 255 235 (dk_at dksX0_layRounds_1 0 rfl rfl)
theorem dX0_layRounds_26 : decode cX0_layRounds 26 = .ok (.aload_n 0, 1) := dk_42 (dk_at dksX0_layRounds_1 3 rfl rfl)
theorem dX0_layRounds_27 : decode cX0_layRounds 27 = .ok (.getfield 222, 3) := dk_180 0 222 (dk_at dksX0_layRounds_1 4 rfl rfl)
theorem dX0_layRounds_30 : decode cX0_layRounds 30 = .ok (.iconst 0, 1) := dk_3 (dk_at dksX0_layRounds_1 7 rfl rfl)
theorem dX0_layRounds_31 : decode cX0_layRounds 31 = .ok (.iconst 0, 1) := dk_3 (dk_at dksX0_layRounds_1 8 rfl rfl)
theorem dX0_layRounds_32 : decode cX0_layRounds 32 = .ok (.iastore, 1) := dk_79 (dk_at dksX0_layRounds_1 9 rfl rfl)
theorem dX0_layRounds_33 : decode cX0_layRounds 33 = .ok (.iconst 1, 1) := dk_4 (dk_at dksX0_layRounds_1 10 rfl rfl)
theorem dX0_layRounds_34 : decode cX0_layRounds 34 = .ok (.istore_n 2, 1) := dk_61 (dk_at dksX0_layRounds_1 11 rfl rfl)
theorem dX0_layRounds_35 : decode cX0_layRounds 35 = .ok (.iload_n 2, 1) := dk_28 (dk_at dksX0_layRounds_1 12 rfl rfl)
theorem dX0_layRounds_36 : decode cX0_layRounds 36 = .ok (.sipush 256, 3) := dk_17 1 0 (dk_at dksX0_layRounds_1 13 rfl rfl)
theorem dX0_layRounds_39 : decode cX0_layRounds 39 = .ok (.if_icmp .ge 86, 3) := dk_162 0 86 (dk_at dksX0_layRounds_1 16 rfl rfl)
theorem dX0_layRounds_42 : decode cX0_layRounds 42 = .ok (.iload_n 2, 1) := dk_28 (dk_at dksX0_layRounds_1 19 rfl rfl)
theorem dX0_layRounds_43 : decode cX0_layRounds 43 = .ok (.iload_n 2, 1) := dk_28 (dk_at dksX0_layRounds_1 20 rfl rfl)
theorem dX0_layRounds_44 : decode cX0_layRounds 44 = .ok (.ineg, 1) := dk_116 (dk_at dksX0_layRounds_1 21 rfl rfl)
theorem dX0_layRounds_45 : decode cX0_layRounds 45 = .ok (.iand, 1) := dk_126 (dk_at dksX0_layRounds_1 22 rfl rfl)
theorem dX0_layRounds_46 : decode cX0_layRounds 46 = .ok (.istore_n 3, 1) := dk_62 (dk_at dksX0_layRounds_1 23 rfl rfl)
theorem dX0_layRounds_47 : decode cX0_layRounds 47 = .ok (.aload_n 0, 1) := dk_42 (dk_at dksX0_layRounds_2 0 rfl rfl)
theorem dX0_layRounds_48 : decode cX0_layRounds 48 = .ok (.getfield 222, 3) := dk_180 0 222 (dk_at dksX0_layRounds_2 1 rfl rfl)
theorem dX0_layRounds_51 : decode cX0_layRounds 51 = .ok (.iload_n 2, 1) := dk_28 (dk_at dksX0_layRounds_2 4 rfl rfl)
theorem dX0_layRounds_52 : decode cX0_layRounds 52 = .ok (.bipush 9, 2) := dk_16 9 (dk_at dksX0_layRounds_2 5 rfl rfl)
theorem dX0_layRounds_54 : decode cX0_layRounds 54 = .ok (.iastore, 1) := dk_79 (dk_at dksX0_layRounds_2 7 rfl rfl)
theorem dX0_layRounds_55 : decode cX0_layRounds 55 = .ok (.iload_n 2, 1) := dk_28 (dk_at dksX0_layRounds_2 8 rfl rfl)
theorem dX0_layRounds_56 : decode cX0_layRounds 56 = .ok (.istore 4, 2) := dk_54 4 (dk_at dksX0_layRounds_2 9 rfl rfl)
theorem dX0_layRounds_58 : decode cX0_layRounds 58 = .ok (.iload 4, 2) := dk_21 4 (dk_at dksX0_layRounds_2 11 rfl rfl)
theorem dX0_layRounds_60 : decode cX0_layRounds 60 = .ok (.ifCond .le 59, 3) := dk_158 0 59 (dk_at dksX0_layRounds_2 13 rfl rfl)
theorem dX0_layRounds_63 : decode cX0_layRounds 63 = .ok (.iload 4, 2) := dk_21 4 (dk_at dksX0_layRounds_2 16 rfl rfl)
theorem dX0_layRounds_65 : decode cX0_layRounds 65 = .ok (.iload_n 3, 1) := dk_29 (dk_at dksX0_layRounds_2 18 rfl rfl)
theorem dX0_layRounds_66 : decode cX0_layRounds 66 = .ok (.iand, 1) := dk_126 (dk_at dksX0_layRounds_2 19 rfl rfl)
theorem dX0_layRounds_67 : decode cX0_layRounds 67 = .ok (.ifCond .eq 41, 3) := dk_153 0 41 (dk_at dksX0_layRounds_2 20 rfl rfl)
theorem dX0_layRounds_70 : decode cX0_layRounds 70 = .ok (.aload_n 0, 1) := dk_42 (dk_at dksX0_layRounds_2 23 rfl rfl)
theorem dX0_layRounds_71 : decode cX0_layRounds 71 = .ok (.getfield 218, 3) := dk_180 0 218 (dk_at dksX0_layRounds_3 0 rfl rfl)
theorem dX0_layRounds_74 : decode cX0_layRounds 74 = .ok (.iload 4, 2) := dk_21 4 (dk_at dksX0_layRounds_3 3 rfl rfl)
theorem dX0_layRounds_76 : decode cX0_layRounds 76 = .ok (.baload, 1) := dk_51 (dk_at dksX0_layRounds_3 5 rfl rfl)
theorem dX0_layRounds_77 : decode cX0_layRounds 77 = .ok (.ifCond .eq 31, 3) := dk_153 0 31 (dk_at dksX0_layRounds_3 6 rfl rfl)
theorem dX0_layRounds_80 : decode cX0_layRounds 80 = .ok (.aload_n 0, 1) := dk_42 (dk_at dksX0_layRounds_3 9 rfl rfl)
theorem dX0_layRounds_81 : decode cX0_layRounds 81 = .ok (.getfield 222, 3) := dk_180 0 222 (dk_at dksX0_layRounds_3 10 rfl rfl)
theorem dX0_layRounds_84 : decode cX0_layRounds 84 = .ok (.iload_n 2, 1) := dk_28 (dk_at dksX0_layRounds_3 13 rfl rfl)
theorem dX0_layRounds_85 : decode cX0_layRounds 85 = .ok (.aload_n 0, 1) := dk_42 (dk_at dksX0_layRounds_3 14 rfl rfl)
theorem dX0_layRounds_86 : decode cX0_layRounds 86 = .ok (.getfield 222, 3) := dk_180 0 222 (dk_at dksX0_layRounds_3 15 rfl rfl)
theorem dX0_layRounds_89 : decode cX0_layRounds 89 = .ok (.iload_n 2, 1) := dk_28 (dk_at dksX0_layRounds_3 18 rfl rfl)
theorem dX0_layRounds_90 : decode cX0_layRounds 90 = .ok (.iaload, 1) := dk_46 (dk_at dksX0_layRounds_3 19 rfl rfl)
theorem dX0_layRounds_91 : decode cX0_layRounds 91 = .ok (.iconst 1, 1) := dk_4 (dk_at dksX0_layRounds_3 20 rfl rfl)
theorem dX0_layRounds_92 : decode cX0_layRounds 92 = .ok (.aload_n 0, 1) := dk_42 (dk_at dksX0_layRounds_3 21 rfl rfl)
theorem dX0_layRounds_93 : decode cX0_layRounds 93 = .ok (.getfield 222, 3) := dk_180 0 222 (dk_at dksX0_layRounds_4 0 rfl rfl)
theorem dX0_layRounds_96 : decode cX0_layRounds 96 = .ok (.iload_n 2, 1) := dk_28 (dk_at dksX0_layRounds_4 3 rfl rfl)
theorem dX0_layRounds_97 : decode cX0_layRounds 97 = .ok (.iload 4, 2) := dk_21 4 (dk_at dksX0_layRounds_4 4 rfl rfl)
theorem dX0_layRounds_99 : decode cX0_layRounds 99 = .ok (.iconst (-1), 1) := dk_2 (dk_at dksX0_layRounds_4 6 rfl rfl)
theorem dX0_layRounds_100 : decode cX0_layRounds 100 = .ok (.ixor, 1) := dk_130 (dk_at dksX0_layRounds_4 7 rfl rfl)
theorem dX0_layRounds_101 : decode cX0_layRounds 101 = .ok (.iand, 1) := dk_126 (dk_at dksX0_layRounds_4 8 rfl rfl)
theorem dX0_layRounds_102 : decode cX0_layRounds 102 = .ok (.iaload, 1) := dk_46 (dk_at dksX0_layRounds_4 9 rfl rfl)
theorem dX0_layRounds_103 : decode cX0_layRounds 103 = .ok (.iadd, 1) := dk_96 (dk_at dksX0_layRounds_4 10 rfl rfl)
theorem dX0_layRounds_104 : decode cX0_layRounds 104 = .ok (.invokestatic 225, 3) := dk_184 0 225 (dk_at dksX0_layRounds_4 11 rfl rfl)
theorem dX0_layRounds_107 : decode cX0_layRounds 107 = .ok (.iastore, 1) := dk_79 (dk_at dksX0_layRounds_4 14 rfl rfl)
theorem dX0_layRounds_108 : decode cX0_layRounds 108 = .ok (.iload 4, 2) := dk_21 4 (dk_at dksX0_layRounds_4 15 rfl rfl)
theorem dX0_layRounds_110 : decode cX0_layRounds 110 = .ok (.iconst 1, 1) := dk_4 (dk_at dksX0_layRounds_4 17 rfl rfl)
theorem dX0_layRounds_111 : decode cX0_layRounds 111 = .ok (.isub, 1) := dk_100 (dk_at dksX0_layRounds_4 18 rfl rfl)
theorem dX0_layRounds_112 : decode cX0_layRounds 112 = .ok (.iload_n 2, 1) := dk_28 (dk_at dksX0_layRounds_4 19 rfl rfl)
theorem dX0_layRounds_113 : decode cX0_layRounds 113 = .ok (.iand, 1) := dk_126 (dk_at dksX0_layRounds_4 20 rfl rfl)
theorem dX0_layRounds_114 : decode cX0_layRounds 114 = .ok (.istore 4, 2) := dk_54 4 (dk_at dksX0_layRounds_4 21 rfl rfl)
theorem dX0_layRounds_116 : decode cX0_layRounds 116 = .ok (.goto (-58), 3) := dk_167 255 198 (dk_at dksX0_layRounds_5 0 rfl rfl)
theorem dX0_layRounds_119 : decode cX0_layRounds 119 = .ok (.iinc 2 1, 3) := dk_132 2 1 (dk_at dksX0_layRounds_5 3 rfl rfl)
theorem dX0_layRounds_122 : decode cX0_layRounds 122 = .ok (.goto (-87), 3) := dk_167 255 169 (dk_at dksX0_layRounds_5 6 rfl rfl)
theorem dX0_layRounds_125 : decode cX0_layRounds 125 = .ok (.aload_n 0, 1) := dk_42 (dk_at dksX0_layRounds_5 9 rfl rfl)
theorem dX0_layRounds_126 : decode cX0_layRounds 126 = .ok (.iconst 0, 1) := dk_3 (dk_at dksX0_layRounds_5 10 rfl rfl)
theorem dX0_layRounds_127 : decode cX0_layRounds 127 = .ok (.putfield 228, 3) := dk_181 0 228 (dk_at dksX0_layRounds_5 11 rfl rfl)
theorem dX0_layRounds_130 : decode cX0_layRounds 130 = .ok (.iload_n 1, 1) := dk_27 (dk_at dksX0_layRounds_5 14 rfl rfl)
theorem dX0_layRounds_131 : decode cX0_layRounds 131 = .ok (.istore_n 2, 1) := dk_61 (dk_at dksX0_layRounds_5 15 rfl rfl)
theorem dX0_layRounds_132 : decode cX0_layRounds 132 = .ok (.iload_n 2, 1) := dk_28 (dk_at dksX0_layRounds_5 16 rfl rfl)
theorem dX0_layRounds_133 : decode cX0_layRounds 133 = .ok (.ifCond .eq 101, 3) := dk_153 0 101 (dk_at dksX0_layRounds_5 17 rfl rfl)
theorem dX0_layRounds_136 : decode cX0_layRounds 136 = .ok (.aload_n 0, 1) := dk_42 (dk_at dksX0_layRounds_5 20 rfl rfl)
theorem dX0_layRounds_137 : decode cX0_layRounds 137 = .ok (.getfield 222, 3) := dk_180 0 222 (dk_at dksX0_layRounds_5 21 rfl rfl)
theorem dX0_layRounds_140 : decode cX0_layRounds 140 = .ok (.iload_n 2, 1) := dk_28 (dk_at dksX0_layRounds_6 0 rfl rfl)
theorem dX0_layRounds_141 : decode cX0_layRounds 141 = .ok (.iaload, 1) := dk_46 (dk_at dksX0_layRounds_6 1 rfl rfl)
theorem dX0_layRounds_142 : decode cX0_layRounds 142 = .ok (.bipush 8, 2) := dk_16 8 (dk_at dksX0_layRounds_6 2 rfl rfl)
theorem dX0_layRounds_144 : decode cX0_layRounds 144 = .ok (.if_icmp .gt 90, 3) := dk_163 0 90 (dk_at dksX0_layRounds_6 4 rfl rfl)
theorem dX0_layRounds_147 : decode cX0_layRounds 147 = .ok (.iload_n 2, 1) := dk_28 (dk_at dksX0_layRounds_6 7 rfl rfl)
theorem dX0_layRounds_148 : decode cX0_layRounds 148 = .ok (.iload_n 2, 1) := dk_28 (dk_at dksX0_layRounds_6 8 rfl rfl)
theorem dX0_layRounds_149 : decode cX0_layRounds 149 = .ok (.ineg, 1) := dk_116 (dk_at dksX0_layRounds_6 9 rfl rfl)
theorem dX0_layRounds_150 : decode cX0_layRounds 150 = .ok (.iand, 1) := dk_126 (dk_at dksX0_layRounds_6 10 rfl rfl)
theorem dX0_layRounds_151 : decode cX0_layRounds 151 = .ok (.istore_n 3, 1) := dk_62 (dk_at dksX0_layRounds_6 11 rfl rfl)
theorem dX0_layRounds_152 : decode cX0_layRounds 152 = .ok (.iload_n 3, 1) := dk_29 (dk_at dksX0_layRounds_6 12 rfl rfl)
theorem dX0_layRounds_153 : decode cX0_layRounds 153 = .ok (.iload_n 2, 1) := dk_28 (dk_at dksX0_layRounds_6 13 rfl rfl)
theorem dX0_layRounds_154 : decode cX0_layRounds 154 = .ok (.iconst (-1), 1) := dk_2 (dk_at dksX0_layRounds_6 14 rfl rfl)
theorem dX0_layRounds_155 : decode cX0_layRounds 155 = .ok (.ixor, 1) := dk_130 (dk_at dksX0_layRounds_6 15 rfl rfl)
theorem dX0_layRounds_156 : decode cX0_layRounds 156 = .ok (.iand, 1) := dk_126 (dk_at dksX0_layRounds_6 16 rfl rfl)
theorem dX0_layRounds_157 : decode cX0_layRounds 157 = .ok (.ifCond .ne 42, 3) := dk_154 0 42 (dk_at dksX0_layRounds_6 17 rfl rfl)
theorem dX0_layRounds_160 : decode cX0_layRounds 160 = .ok (.iload_n 3, 1) := dk_29 (dk_at dksX0_layRounds_6 20 rfl rfl)
theorem dX0_layRounds_161 : decode cX0_layRounds 161 = .ok (.iload_n 2, 1) := dk_28 (dk_at dksX0_layRounds_6 21 rfl rfl)
theorem dX0_layRounds_162 : decode cX0_layRounds 162 = .ok (.iand, 1) := dk_126 (dk_at dksX0_layRounds_6 22 rfl rfl)
theorem dX0_layRounds_163 : decode cX0_layRounds 163 = .ok (.iload_n 2, 1) := dk_28 (dk_at dksX0_layRounds_6 23 rfl rfl)
theorem dX0_layRounds_164 : decode cX0_layRounds 164 = .ok (.ineg, 1) := dk_116 (dk_at dksX0_layRounds_7 0 rfl rfl)
theorem dX0_layRounds_165 : decode cX0_layRounds 165 = .ok (.iand, 1) := dk_126 (dk_at dksX0_layRounds_7 1 rfl rfl)
theorem dX0_layRounds_166 : decode cX0_layRounds 166 = .ok (.ifCond .eq 33, 3) := dk_153 0 33 (dk_at dksX0_layRounds_7 2 rfl rfl)
theorem dX0_layRounds_169 : decode cX0_layRounds 169 = .ok (.aload_n 0, 1) := dk_42 (dk_at dksX0_layRounds_7 5 rfl rfl)
theorem dX0_layRounds_170 : decode cX0_layRounds 170 = .ok (.getfield 218, 3) := dk_180 0 218 (dk_at dksX0_layRounds_7 6 rfl rfl)
theorem dX0_layRounds_173 : decode cX0_layRounds 173 = .ok (.iload_n 3, 1) := dk_29 (dk_at dksX0_layRounds_7 9 rfl rfl)
theorem dX0_layRounds_174 : decode cX0_layRounds 174 = .ok (.baload, 1) := dk_51 (dk_at dksX0_layRounds_7 10 rfl rfl)
theorem dX0_layRounds_175 : decode cX0_layRounds 175 = .ok (.ifCond .eq 24, 3) := dk_153 0 24 (dk_at dksX0_layRounds_7 11 rfl rfl)
theorem dX0_layRounds_178 : decode cX0_layRounds 178 = .ok (.iconst 1, 1) := dk_4 (dk_at dksX0_layRounds_7 14 rfl rfl)
theorem dX0_layRounds_179 : decode cX0_layRounds 179 = .ok (.aload_n 0, 1) := dk_42 (dk_at dksX0_layRounds_7 15 rfl rfl)
theorem dX0_layRounds_180 : decode cX0_layRounds 180 = .ok (.getfield 222, 3) := dk_180 0 222 (dk_at dksX0_layRounds_7 16 rfl rfl)
theorem dX0_layRounds_183 : decode cX0_layRounds 183 = .ok (.iload_n 2, 1) := dk_28 (dk_at dksX0_layRounds_7 19 rfl rfl)
theorem dX0_layRounds_184 : decode cX0_layRounds 184 = .ok (.iload_n 3, 1) := dk_29 (dk_at dksX0_layRounds_7 20 rfl rfl)
theorem dX0_layRounds_185 : decode cX0_layRounds 185 = .ok (.iconst (-1), 1) := dk_2 (dk_at dksX0_layRounds_7 21 rfl rfl)
theorem dX0_layRounds_186 : decode cX0_layRounds 186 = .ok (.ixor, 1) := dk_130 (dk_at dksX0_layRounds_7 22 rfl rfl)
theorem dX0_layRounds_187 : decode cX0_layRounds 187 = .ok (.iand, 1) := dk_126 (dk_at dksX0_layRounds_7 23 rfl rfl)
theorem dX0_layRounds_188 : decode cX0_layRounds 188 = .ok (.iaload, 1) := dk_46 (dk_at dksX0_layRounds_8 0 rfl rfl)
theorem dX0_layRounds_189 : decode cX0_layRounds 189 = .ok (.iadd, 1) := dk_96 (dk_at dksX0_layRounds_8 1 rfl rfl)
theorem dX0_layRounds_190 : decode cX0_layRounds 190 = .ok (.aload_n 0, 1) := dk_42 (dk_at dksX0_layRounds_8 2 rfl rfl)
theorem dX0_layRounds_191 : decode cX0_layRounds 191 = .ok (.getfield 222, 3) := dk_180 0 222 (dk_at dksX0_layRounds_8 3 rfl rfl)
theorem dX0_layRounds_194 : decode cX0_layRounds 194 = .ok (.iload_n 2, 1) := dk_28 (dk_at dksX0_layRounds_8 6 rfl rfl)
theorem dX0_layRounds_195 : decode cX0_layRounds 195 = .ok (.iaload, 1) := dk_46 (dk_at dksX0_layRounds_8 7 rfl rfl)
theorem dX0_layRounds_196 : decode cX0_layRounds 196 = .ok (.if_icmp .eq 9, 3) := dk_159 0 9 (dk_at dksX0_layRounds_8 8 rfl rfl)
theorem dX0_layRounds_199 : decode cX0_layRounds 199 = .ok (.iinc 3 1, 3) := dk_132 3 1 (dk_at dksX0_layRounds_8 11 rfl rfl)
theorem dX0_layRounds_202 : decode cX0_layRounds 202 = .ok (.goto (-50), 3) := dk_167 255 206 (dk_at dksX0_layRounds_8 14 rfl rfl)
theorem dX0_layRounds_205 : decode cX0_layRounds 205 = .ok (.aload_n 0, 1) := dk_42 (dk_at dksX0_layRounds_8 17 rfl rfl)
theorem dX0_layRounds_206 : decode cX0_layRounds 206 = .ok (.getfield 231, 3) := dk_180 0 231 (dk_at dksX0_layRounds_8 18 rfl rfl)
theorem dX0_layRounds_209 : decode cX0_layRounds 209 = .ok (.aload_n 0, 1) := dk_42 (dk_at dksX0_layRounds_8 21 rfl rfl)
theorem dX0_layRounds_210 : decode cX0_layRounds 210 = .ok (.getfield 228, 3) := dk_180 0 228 (dk_at dksX0_layRounds_9 0 rfl rfl)
theorem dX0_layRounds_213 : decode cX0_layRounds 213 = .ok (.iload_n 3, 1) := dk_29 (dk_at dksX0_layRounds_9 3 rfl rfl)
theorem dX0_layRounds_214 : decode cX0_layRounds 214 = .ok (.iastore, 1) := dk_79 (dk_at dksX0_layRounds_9 4 rfl rfl)
theorem dX0_layRounds_215 : decode cX0_layRounds 215 = .ok (.aload_n 0, 1) := dk_42 (dk_at dksX0_layRounds_9 5 rfl rfl)
theorem dX0_layRounds_216 : decode cX0_layRounds 216 = .ok (.dup, 1) := dk_89 (dk_at dksX0_layRounds_9 6 rfl rfl)
theorem dX0_layRounds_217 : decode cX0_layRounds 217 = .ok (.getfield 228, 3) := dk_180 0 228 (dk_at dksX0_layRounds_9 7 rfl rfl)
theorem dX0_layRounds_220 : decode cX0_layRounds 220 = .ok (.iconst 1, 1) := dk_4 (dk_at dksX0_layRounds_9 10 rfl rfl)
theorem dX0_layRounds_221 : decode cX0_layRounds 221 = .ok (.iadd, 1) := dk_96 (dk_at dksX0_layRounds_9 11 rfl rfl)
theorem dX0_layRounds_222 : decode cX0_layRounds 222 = .ok (.putfield 228, 3) := dk_181 0 228 (dk_at dksX0_layRounds_9 12 rfl rfl)
theorem dX0_layRounds_225 : decode cX0_layRounds 225 = .ok (.iload_n 2, 1) := dk_28 (dk_at dksX0_layRounds_9 15 rfl rfl)
theorem dX0_layRounds_226 : decode cX0_layRounds 226 = .ok (.iload_n 3, 1) := dk_29 (dk_at dksX0_layRounds_9 16 rfl rfl)
theorem dX0_layRounds_227 : decode cX0_layRounds 227 = .ok (.iconst (-1), 1) := dk_2 (dk_at dksX0_layRounds_9 17 rfl rfl)
theorem dX0_layRounds_228 : decode cX0_layRounds 228 = .ok (.ixor, 1) := dk_130 (dk_at dksX0_layRounds_9 18 rfl rfl)
theorem dX0_layRounds_229 : decode cX0_layRounds 229 = .ok (.iand, 1) := dk_126 (dk_at dksX0_layRounds_9 19 rfl rfl)
theorem dX0_layRounds_230 : decode cX0_layRounds 230 = .ok (.istore_n 2, 1) := dk_61 (dk_at dksX0_layRounds_9 20 rfl rfl)
theorem dX0_layRounds_231 : decode cX0_layRounds 231 = .ok (.goto (-99), 3) := dk_167 255 157 (dk_at dksX0_layRounds_9 21 rfl rfl)
theorem dX0_layRounds_234 : decode cX0_layRounds 234 = .ok (.iload_n 2, 1) := dk_28 (dk_at dksX0_layRounds_10 0 rfl rfl)
theorem dX0_layRounds_235 : decode cX0_layRounds 235 = .ok (.ifCond .ne 7, 3) := dk_154 0 7 (dk_at dksX0_layRounds_10 1 rfl rfl)
theorem dX0_layRounds_238 : decode cX0_layRounds 238 = .ok (.iconst 1, 1) := dk_4 (dk_at dksX0_layRounds_10 4 rfl rfl)
theorem dX0_layRounds_239 : decode cX0_layRounds 239 = .ok (.goto 4, 3) := dk_167 0 4 (dk_at dksX0_layRounds_10 5 rfl rfl)
theorem dX0_layRounds_242 : decode cX0_layRounds 242 = .ok (.iconst 0, 1) := dk_3 (dk_at dksX0_layRounds_10 8 rfl rfl)
theorem dX0_layRounds_243 : decode cX0_layRounds 243 = .ok (.ireturn, 1) := dk_172 (dk_at dksX0_layRounds_10 9 rfl rfl)
abbrev cX0_sliced : ByteArray := prog_1_method_35_code
def yX0_sliced : MethodName := ⟨RX0, "sliced", "(IIII)I"⟩
def dkwX0_sliced_2 : List UInt8 := [167, 0, 7, 42, 180, 0, 240, 172]
abbrev dktX0_sliced_2 : List UInt8 := dkwX0_sliced_2 ++ []
def dkwX0_sliced_1 : List UInt8 := [182, 0, 234, 154, 0, 6, 16, 252, 172, 42, 28, 29, 182, 0, 249, 21, 4, 154, 0, 10, 42, 180, 0, 237]
abbrev dktX0_sliced_1 : List UInt8 := dkwX0_sliced_1 ++ dktX0_sliced_2
def dkwX0_sliced_0 : List UInt8 := [27, 28, 29, 184, 0, 245, 153, 0, 14, 21, 4, 133, 9, 10, 184, 0, 21, 154, 0, 5, 2, 172, 42, 27]
abbrev dktX0_sliced_0 : List UInt8 := dkwX0_sliced_0 ++ dktX0_sliced_1
theorem dksX0_sliced_0 : cX0_sliced.data.toList.drop 0 = dktX0_sliced_0 := by decide +kernel
theorem dksX0_sliced_1 : cX0_sliced.data.toList.drop 24 = dktX0_sliced_1 := dk_seg dksX0_sliced_0 24 rfl rfl
theorem dksX0_sliced_2 : cX0_sliced.data.toList.drop 48 = dktX0_sliced_2 := dk_seg dksX0_sliced_1 24 rfl rfl
theorem dX0_sliced_0 : decode cX0_sliced 0 = .ok (.iload_n 1, 1) := dk_27 (dk_at dksX0_sliced_0 0 rfl rfl)
theorem dX0_sliced_1 : decode cX0_sliced 1 = .ok (.iload_n 2, 1) := dk_28 (dk_at dksX0_sliced_0 1 rfl rfl)
theorem dX0_sliced_2 : decode cX0_sliced 2 = .ok (.iload_n 3, 1) := dk_29 (dk_at dksX0_sliced_0 2 rfl rfl)
theorem dX0_sliced_3 : decode cX0_sliced 3 = .ok (.invokestatic 245, 3) := dk_184 0 245 (dk_at dksX0_sliced_0 3 rfl rfl)
theorem dX0_sliced_6 : decode cX0_sliced 6 = .ok (.ifCond .eq 14, 3) := dk_153 0 14 (dk_at dksX0_sliced_0 6 rfl rfl)
theorem dX0_sliced_9 : decode cX0_sliced 9 = .ok (.iload 4, 2) := dk_21 4 (dk_at dksX0_sliced_0 9 rfl rfl)
theorem dX0_sliced_11 : decode cX0_sliced 11 = .ok (.i2l, 1) := dk_133 (dk_at dksX0_sliced_0 11 rfl rfl)
theorem dX0_sliced_12 : decode cX0_sliced 12 = .ok (.lconst 0, 1) := dk_9 (dk_at dksX0_sliced_0 12 rfl rfl)
theorem dX0_sliced_13 : decode cX0_sliced 13 = .ok (.lconst 1, 1) := dk_10 (dk_at dksX0_sliced_0 13 rfl rfl)
theorem dX0_sliced_14 : decode cX0_sliced 14 = .ok (.invokestatic 21, 3) := dk_184 0 21 (dk_at dksX0_sliced_0 14 rfl rfl)
theorem dX0_sliced_17 : decode cX0_sliced 17 = .ok (.ifCond .ne 5, 3) := dk_154 0 5 (dk_at dksX0_sliced_0 17 rfl rfl)
theorem dX0_sliced_20 : decode cX0_sliced 20 = .ok (.iconst (-1), 1) := dk_2 (dk_at dksX0_sliced_0 20 rfl rfl)
theorem dX0_sliced_21 : decode cX0_sliced 21 = .ok (.ireturn, 1) := dk_172 (dk_at dksX0_sliced_0 21 rfl rfl)
theorem dX0_sliced_22 : decode cX0_sliced 22 = .ok (.aload_n 0, 1) := dk_42 (dk_at dksX0_sliced_0 22 rfl rfl)
theorem dX0_sliced_23 : decode cX0_sliced 23 = .ok (.iload_n 1, 1) := dk_27 (dk_at dksX0_sliced_0 23 rfl rfl)
theorem dX0_sliced_24 : decode cX0_sliced 24 = .ok (.invokevirtual 234, 3) := dk_182 0 234 (dk_at dksX0_sliced_1 0 rfl rfl)
theorem dX0_sliced_27 : decode cX0_sliced 27 = .ok (.ifCond .ne 6, 3) := dk_154 0 6 (dk_at dksX0_sliced_1 3 rfl rfl)
theorem dX0_sliced_30 : decode cX0_sliced 30 = .ok (.bipush (-4), 2) := dk_16 252 (dk_at dksX0_sliced_1 6 rfl rfl)
theorem dX0_sliced_32 : decode cX0_sliced 32 = .ok (.ireturn, 1) := dk_172 (dk_at dksX0_sliced_1 8 rfl rfl)
theorem dX0_sliced_33 : decode cX0_sliced 33 = .ok (.aload_n 0, 1) := dk_42 (dk_at dksX0_sliced_1 9 rfl rfl)
theorem dX0_sliced_34 : decode cX0_sliced 34 = .ok (.iload_n 2, 1) := dk_28 (dk_at dksX0_sliced_1 10 rfl rfl)
theorem dX0_sliced_35 : decode cX0_sliced 35 = .ok (.iload_n 3, 1) := dk_29 (dk_at dksX0_sliced_1 11 rfl rfl)
theorem dX0_sliced_36 : decode cX0_sliced 36 = .ok (.invokevirtual 249, 3) := dk_182 0 249 (dk_at dksX0_sliced_1 12 rfl rfl)
theorem dX0_sliced_39 : decode cX0_sliced 39 = .ok (.iload 4, 2) := dk_21 4 (dk_at dksX0_sliced_1 15 rfl rfl)
theorem dX0_sliced_41 : decode cX0_sliced 41 = .ok (.ifCond .ne 10, 3) := dk_154 0 10 (dk_at dksX0_sliced_1 17 rfl rfl)
theorem dX0_sliced_44 : decode cX0_sliced 44 = .ok (.aload_n 0, 1) := dk_42 (dk_at dksX0_sliced_1 20 rfl rfl)
theorem dX0_sliced_45 : decode cX0_sliced 45 = .ok (.getfield 237, 3) := dk_180 0 237 (dk_at dksX0_sliced_1 21 rfl rfl)
theorem dX0_sliced_48 : decode cX0_sliced 48 = .ok (.goto 7, 3) := dk_167 0 7 (dk_at dksX0_sliced_2 0 rfl rfl)
theorem dX0_sliced_51 : decode cX0_sliced 51 = .ok (.aload_n 0, 1) := dk_42 (dk_at dksX0_sliced_2 3 rfl rfl)
theorem dX0_sliced_52 : decode cX0_sliced 52 = .ok (.getfield 240, 3) := dk_180 0 240 (dk_at dksX0_sliced_2 4 rfl rfl)
theorem dX0_sliced_55 : decode cX0_sliced 55 = .ok (.ireturn, 1) := dk_172 (dk_at dksX0_sliced_2 7 rfl rfl)
abbrev cX0_isSlice : ByteArray := prog_1_method_34_code
def yX0_isSlice : MethodName := ⟨RX0, "isSlice", "(III)Z"⟩
def dkwX0_isSlice_1 : List UInt8 := [153, 0, 16, 26, 28, 122, 4, 126, 4, 160, 0, 7, 4, 167, 0, 4, 3, 172]
abbrev dktX0_isSlice_1 : List UInt8 := dkwX0_isSlice_1 ++ []
def dkwX0_isSlice_0 : List UInt8 := [26, 184, 0, 198, 153, 0, 35, 27, 133, 10, 20, 0, 243, 184, 0, 21, 153, 0, 23, 28, 184, 0, 125]
abbrev dktX0_isSlice_0 : List UInt8 := dkwX0_isSlice_0 ++ dktX0_isSlice_1
theorem dksX0_isSlice_0 : cX0_isSlice.data.toList.drop 0 = dktX0_isSlice_0 := by decide +kernel
theorem dksX0_isSlice_1 : cX0_isSlice.data.toList.drop 23 = dktX0_isSlice_1 := dk_seg dksX0_isSlice_0 23 rfl rfl
theorem dX0_isSlice_0 : decode cX0_isSlice 0 = .ok (.iload_n 0, 1) := dk_26 (dk_at dksX0_isSlice_0 0 rfl rfl)
theorem dX0_isSlice_1 : decode cX0_isSlice 1 = .ok (.invokestatic 198, 3) := dk_184 0 198 (dk_at dksX0_isSlice_0 1 rfl rfl)
theorem dX0_isSlice_4 : decode cX0_isSlice 4 = .ok (.ifCond .eq 35, 3) := dk_153 0 35 (dk_at dksX0_isSlice_0 4 rfl rfl)
theorem dX0_isSlice_7 : decode cX0_isSlice 7 = .ok (.iload_n 1, 1) := dk_27 (dk_at dksX0_isSlice_0 7 rfl rfl)
theorem dX0_isSlice_8 : decode cX0_isSlice 8 = .ok (.i2l, 1) := dk_133 (dk_at dksX0_isSlice_0 8 rfl rfl)
theorem dX0_isSlice_9 : decode cX0_isSlice 9 = .ok (.lconst 1, 1) := dk_10 (dk_at dksX0_isSlice_0 9 rfl rfl)
theorem dX0_isSlice_10 : decode cX0_isSlice 10 = .ok (.ldc2_w 243, 3) := dk_20 0 243 (dk_at dksX0_isSlice_0 10 rfl rfl)
theorem dX0_isSlice_13 : decode cX0_isSlice 13 = .ok (.invokestatic 21, 3) := dk_184 0 21 (dk_at dksX0_isSlice_0 13 rfl rfl)
theorem dX0_isSlice_16 : decode cX0_isSlice 16 = .ok (.ifCond .eq 23, 3) := dk_153 0 23 (dk_at dksX0_isSlice_0 16 rfl rfl)
theorem dX0_isSlice_19 : decode cX0_isSlice 19 = .ok (.iload_n 2, 1) := dk_28 (dk_at dksX0_isSlice_0 19 rfl rfl)
theorem dX0_isSlice_20 : decode cX0_isSlice 20 = .ok (.invokestatic 125, 3) := dk_184 0 125 (dk_at dksX0_isSlice_0 20 rfl rfl)
theorem dX0_isSlice_23 : decode cX0_isSlice 23 = .ok (.ifCond .eq 16, 3) := dk_153 0 16 (dk_at dksX0_isSlice_1 0 rfl rfl)
theorem dX0_isSlice_26 : decode cX0_isSlice 26 = .ok (.iload_n 0, 1) := dk_26 (dk_at dksX0_isSlice_1 3 rfl rfl)
theorem dX0_isSlice_27 : decode cX0_isSlice 27 = .ok (.iload_n 2, 1) := dk_28 (dk_at dksX0_isSlice_1 4 rfl rfl)
theorem dX0_isSlice_28 : decode cX0_isSlice 28 = .ok (.ishr, 1) := dk_122 (dk_at dksX0_isSlice_1 5 rfl rfl)
theorem dX0_isSlice_29 : decode cX0_isSlice 29 = .ok (.iconst 1, 1) := dk_4 (dk_at dksX0_isSlice_1 6 rfl rfl)
theorem dX0_isSlice_30 : decode cX0_isSlice 30 = .ok (.iand, 1) := dk_126 (dk_at dksX0_isSlice_1 7 rfl rfl)
theorem dX0_isSlice_31 : decode cX0_isSlice 31 = .ok (.iconst 1, 1) := dk_4 (dk_at dksX0_isSlice_1 8 rfl rfl)
theorem dX0_isSlice_32 : decode cX0_isSlice 32 = .ok (.if_icmp .ne 7, 3) := dk_160 0 7 (dk_at dksX0_isSlice_1 9 rfl rfl)
theorem dX0_isSlice_35 : decode cX0_isSlice 35 = .ok (.iconst 1, 1) := dk_4 (dk_at dksX0_isSlice_1 12 rfl rfl)
theorem dX0_isSlice_36 : decode cX0_isSlice 36 = .ok (.goto 4, 3) := dk_167 0 4 (dk_at dksX0_isSlice_1 13 rfl rfl)
theorem dX0_isSlice_39 : decode cX0_isSlice 39 = .ok (.iconst 0, 1) := dk_3 (dk_at dksX0_isSlice_1 16 rfl rfl)
theorem dX0_isSlice_40 : decode cX0_isSlice 40 = .ok (.ireturn, 1) := dk_172 (dk_at dksX0_isSlice_1 17 rfl rfl)
abbrev cX0_laySlices : ByteArray := prog_1_method_33_code
def yX0_laySlices : MethodName := ⟨RX0, "laySlices", "(II)V"⟩
def dkwX0_laySlices_5 : List UInt8 := [167, 255, 177, 177]
abbrev dktX0_laySlices_5 : List UInt8 := dkwX0_laySlices_5 ++ []
def dkwX0_laySlices_4 : List UInt8 := [25, 6, 180, 0, 62, 96, 181, 0, 240, 21, 4, 25, 6, 180, 0, 62, 96, 54, 4, 132, 5, 1]
abbrev dktX0_laySlices_4 : List UInt8 := dkwX0_laySlices_4 ++ dktX0_laySlices_5
def dkwX0_laySlices_3 : List UInt8 := [160, 0, 33, 42, 89, 180, 0, 237, 25, 6, 180, 0, 63, 28, 46, 96, 181, 0, 237, 42, 89, 180, 0, 240]
abbrev dktX0_laySlices_3 : List UInt8 := dkwX0_laySlices_3 ++ dktX0_laySlices_4
def dkwX0_laySlices_2 : List UInt8 := [180, 0, 53, 42, 180, 0, 25, 21, 5, 46, 50, 58, 6, 21, 4, 27, 108, 42, 180, 0, 228, 112, 29]
abbrev dktX0_laySlices_2 : List UInt8 := dkwX0_laySlices_2 ++ dktX0_laySlices_3
def dkwX0_laySlices_1 : List UInt8 := [181, 0, 237, 42, 3, 181, 0, 240, 3, 54, 4, 3, 54, 5, 21, 5, 42, 180, 0, 35, 162, 0, 76, 42]
abbrev dktX0_laySlices_1 : List UInt8 := dkwX0_laySlices_1 ++ dktX0_laySlices_2
def dkwX0_laySlices_0 : List UInt8 := [3, 62, 42, 180, 0, 231, 29, 46, 28, 122, 4, 126, 154, 0, 9, 132, 3, 1, 167, 255, 240, 42, 3]
abbrev dktX0_laySlices_0 : List UInt8 := dkwX0_laySlices_0 ++ dktX0_laySlices_1
theorem dksX0_laySlices_0 : cX0_laySlices.data.toList.drop 0 = dktX0_laySlices_0 := by decide +kernel
theorem dksX0_laySlices_1 : cX0_laySlices.data.toList.drop 23 = dktX0_laySlices_1 := dk_seg dksX0_laySlices_0 23 rfl rfl
theorem dksX0_laySlices_2 : cX0_laySlices.data.toList.drop 47 = dktX0_laySlices_2 := dk_seg dksX0_laySlices_1 24 rfl rfl
theorem dksX0_laySlices_3 : cX0_laySlices.data.toList.drop 70 = dktX0_laySlices_3 := dk_seg dksX0_laySlices_2 23 rfl rfl
theorem dksX0_laySlices_4 : cX0_laySlices.data.toList.drop 94 = dktX0_laySlices_4 := dk_seg dksX0_laySlices_3 24 rfl rfl
theorem dksX0_laySlices_5 : cX0_laySlices.data.toList.drop 116 = dktX0_laySlices_5 := dk_seg dksX0_laySlices_4 22 rfl rfl
theorem dX0_laySlices_0 : decode cX0_laySlices 0 = .ok (.iconst 0, 1) := dk_3 (dk_at dksX0_laySlices_0 0 rfl rfl)
theorem dX0_laySlices_1 : decode cX0_laySlices 1 = .ok (.istore_n 3, 1) := dk_62 (dk_at dksX0_laySlices_0 1 rfl rfl)
theorem dX0_laySlices_2 : decode cX0_laySlices 2 = .ok (.aload_n 0, 1) := dk_42 (dk_at dksX0_laySlices_0 2 rfl rfl)
theorem dX0_laySlices_3 : decode cX0_laySlices 3 = .ok (.getfield 231, 3) := dk_180 0 231 (dk_at dksX0_laySlices_0 3 rfl rfl)
theorem dX0_laySlices_6 : decode cX0_laySlices 6 = .ok (.iload_n 3, 1) := dk_29 (dk_at dksX0_laySlices_0 6 rfl rfl)
theorem dX0_laySlices_7 : decode cX0_laySlices 7 = .ok (.iaload, 1) := dk_46 (dk_at dksX0_laySlices_0 7 rfl rfl)
theorem dX0_laySlices_8 : decode cX0_laySlices 8 = .ok (.iload_n 2, 1) := dk_28 (dk_at dksX0_laySlices_0 8 rfl rfl)
theorem dX0_laySlices_9 : decode cX0_laySlices 9 = .ok (.ishr, 1) := dk_122 (dk_at dksX0_laySlices_0 9 rfl rfl)
theorem dX0_laySlices_10 : decode cX0_laySlices 10 = .ok (.iconst 1, 1) := dk_4 (dk_at dksX0_laySlices_0 10 rfl rfl)
theorem dX0_laySlices_11 : decode cX0_laySlices 11 = .ok (.iand, 1) := dk_126 (dk_at dksX0_laySlices_0 11 rfl rfl)
theorem dX0_laySlices_12 : decode cX0_laySlices 12 = .ok (.ifCond .ne 9, 3) := dk_154 0 9 (dk_at dksX0_laySlices_0 12 rfl rfl)
theorem dX0_laySlices_15 : decode cX0_laySlices 15 = .ok (.iinc 3 1, 3) := dk_132 3 1 (dk_at dksX0_laySlices_0 15 rfl rfl)
theorem dX0_laySlices_18 : decode cX0_laySlices 18 = .ok (.goto (-16), 3) := dk_167 255 240 (dk_at dksX0_laySlices_0 18 rfl rfl)
theorem dX0_laySlices_21 : decode cX0_laySlices 21 = .ok (.aload_n 0, 1) := dk_42 (dk_at dksX0_laySlices_0 21 rfl rfl)
theorem dX0_laySlices_22 : decode cX0_laySlices 22 = .ok (.iconst 0, 1) := dk_3 (dk_at dksX0_laySlices_0 22 rfl rfl)
theorem dX0_laySlices_23 : decode cX0_laySlices 23 = .ok (.putfield 237, 3) := dk_181 0 237 (dk_at dksX0_laySlices_1 0 rfl rfl)
theorem dX0_laySlices_26 : decode cX0_laySlices 26 = .ok (.aload_n 0, 1) := dk_42 (dk_at dksX0_laySlices_1 3 rfl rfl)
theorem dX0_laySlices_27 : decode cX0_laySlices 27 = .ok (.iconst 0, 1) := dk_3 (dk_at dksX0_laySlices_1 4 rfl rfl)
theorem dX0_laySlices_28 : decode cX0_laySlices 28 = .ok (.putfield 240, 3) := dk_181 0 240 (dk_at dksX0_laySlices_1 5 rfl rfl)
theorem dX0_laySlices_31 : decode cX0_laySlices 31 = .ok (.iconst 0, 1) := dk_3 (dk_at dksX0_laySlices_1 8 rfl rfl)
theorem dX0_laySlices_32 : decode cX0_laySlices 32 = .ok (.istore 4, 2) := dk_54 4 (dk_at dksX0_laySlices_1 9 rfl rfl)
theorem dX0_laySlices_34 : decode cX0_laySlices 34 = .ok (.iconst 0, 1) := dk_3 (dk_at dksX0_laySlices_1 11 rfl rfl)
theorem dX0_laySlices_35 : decode cX0_laySlices 35 = .ok (.istore 5, 2) := dk_54 5 (dk_at dksX0_laySlices_1 12 rfl rfl)
theorem dX0_laySlices_37 : decode cX0_laySlices 37 = .ok (.iload 5, 2) := dk_21 5 (dk_at dksX0_laySlices_1 14 rfl rfl)
theorem dX0_laySlices_39 : decode cX0_laySlices 39 = .ok (.aload_n 0, 1) := dk_42 (dk_at dksX0_laySlices_1 16 rfl rfl)
theorem dX0_laySlices_40 : decode cX0_laySlices 40 = .ok (.getfield 35, 3) := dk_180 0 35 (dk_at dksX0_laySlices_1 17 rfl rfl)
theorem dX0_laySlices_43 : decode cX0_laySlices 43 = .ok (.if_icmp .ge 76, 3) := dk_162 0 76 (dk_at dksX0_laySlices_1 20 rfl rfl)
theorem dX0_laySlices_46 : decode cX0_laySlices 46 = .ok (.aload_n 0, 1) := dk_42 (dk_at dksX0_laySlices_1 23 rfl rfl)
theorem dX0_laySlices_47 : decode cX0_laySlices 47 = .ok (.getfield 53, 3) := dk_180 0 53 (dk_at dksX0_laySlices_2 0 rfl rfl)
theorem dX0_laySlices_50 : decode cX0_laySlices 50 = .ok (.aload_n 0, 1) := dk_42 (dk_at dksX0_laySlices_2 3 rfl rfl)
theorem dX0_laySlices_51 : decode cX0_laySlices 51 = .ok (.getfield 25, 3) := dk_180 0 25 (dk_at dksX0_laySlices_2 4 rfl rfl)
theorem dX0_laySlices_54 : decode cX0_laySlices 54 = .ok (.iload 5, 2) := dk_21 5 (dk_at dksX0_laySlices_2 7 rfl rfl)
theorem dX0_laySlices_56 : decode cX0_laySlices 56 = .ok (.iaload, 1) := dk_46 (dk_at dksX0_laySlices_2 9 rfl rfl)
theorem dX0_laySlices_57 : decode cX0_laySlices 57 = .ok (.aaload, 1) := dk_50 (dk_at dksX0_laySlices_2 10 rfl rfl)
theorem dX0_laySlices_58 : decode cX0_laySlices 58 = .ok (.astore 6, 2) := dk_58 6 (dk_at dksX0_laySlices_2 11 rfl rfl)
theorem dX0_laySlices_60 : decode cX0_laySlices 60 = .ok (.iload 4, 2) := dk_21 4 (dk_at dksX0_laySlices_2 13 rfl rfl)
theorem dX0_laySlices_62 : decode cX0_laySlices 62 = .ok (.iload_n 1, 1) := dk_27 (dk_at dksX0_laySlices_2 15 rfl rfl)
theorem dX0_laySlices_63 : decode cX0_laySlices 63 = .ok (.idiv, 1) := dk_108 (dk_at dksX0_laySlices_2 16 rfl rfl)
theorem dX0_laySlices_64 : decode cX0_laySlices 64 = .ok (.aload_n 0, 1) := dk_42 (dk_at dksX0_laySlices_2 17 rfl rfl)
theorem dX0_laySlices_65 : decode cX0_laySlices 65 = .ok (.getfield 228, 3) := dk_180 0 228 (dk_at dksX0_laySlices_2 18 rfl rfl)
theorem dX0_laySlices_68 : decode cX0_laySlices 68 = .ok (.irem, 1) := dk_112 (dk_at dksX0_laySlices_2 21 rfl rfl)
theorem dX0_laySlices_69 : decode cX0_laySlices 69 = .ok (.iload_n 3, 1) := dk_29 (dk_at dksX0_laySlices_2 22 rfl rfl)
theorem dX0_laySlices_70 : decode cX0_laySlices 70 = .ok (.if_icmp .ne 33, 3) := dk_160 0 33 (dk_at dksX0_laySlices_3 0 rfl rfl)
theorem dX0_laySlices_73 : decode cX0_laySlices 73 = .ok (.aload_n 0, 1) := dk_42 (dk_at dksX0_laySlices_3 3 rfl rfl)
theorem dX0_laySlices_74 : decode cX0_laySlices 74 = .ok (.dup, 1) := dk_89 (dk_at dksX0_laySlices_3 4 rfl rfl)
theorem dX0_laySlices_75 : decode cX0_laySlices 75 = .ok (.getfield 237, 3) := dk_180 0 237 (dk_at dksX0_laySlices_3 5 rfl rfl)
theorem dX0_laySlices_78 : decode cX0_laySlices 78 = .ok (.aload 6, 2) := dk_25 6 (dk_at dksX0_laySlices_3 8 rfl rfl)
theorem dX0_laySlices_80 : decode cX0_laySlices 80 = .ok (.getfield 63, 3) := dk_180 0 63 (dk_at dksX0_laySlices_3 10 rfl rfl)
theorem dX0_laySlices_83 : decode cX0_laySlices 83 = .ok (.iload_n 2, 1) := dk_28 (dk_at dksX0_laySlices_3 13 rfl rfl)
theorem dX0_laySlices_84 : decode cX0_laySlices 84 = .ok (.iaload, 1) := dk_46 (dk_at dksX0_laySlices_3 14 rfl rfl)
theorem dX0_laySlices_85 : decode cX0_laySlices 85 = .ok (.iadd, 1) := dk_96 (dk_at dksX0_laySlices_3 15 rfl rfl)
theorem dX0_laySlices_86 : decode cX0_laySlices 86 = .ok (.putfield 237, 3) := dk_181 0 237 (dk_at dksX0_laySlices_3 16 rfl rfl)
theorem dX0_laySlices_89 : decode cX0_laySlices 89 = .ok (.aload_n 0, 1) := dk_42 (dk_at dksX0_laySlices_3 19 rfl rfl)
theorem dX0_laySlices_90 : decode cX0_laySlices 90 = .ok (.dup, 1) := dk_89 (dk_at dksX0_laySlices_3 20 rfl rfl)
theorem dX0_laySlices_91 : decode cX0_laySlices 91 = .ok (.getfield 240, 3) := dk_180 0 240 (dk_at dksX0_laySlices_3 21 rfl rfl)
theorem dX0_laySlices_94 : decode cX0_laySlices 94 = .ok (.aload 6, 2) := dk_25 6 (dk_at dksX0_laySlices_4 0 rfl rfl)
theorem dX0_laySlices_96 : decode cX0_laySlices 96 = .ok (.getfield 62, 3) := dk_180 0 62 (dk_at dksX0_laySlices_4 2 rfl rfl)
theorem dX0_laySlices_99 : decode cX0_laySlices 99 = .ok (.iadd, 1) := dk_96 (dk_at dksX0_laySlices_4 5 rfl rfl)
theorem dX0_laySlices_100 : decode cX0_laySlices 100 = .ok (.putfield 240, 3) := dk_181 0 240 (dk_at dksX0_laySlices_4 6 rfl rfl)
theorem dX0_laySlices_103 : decode cX0_laySlices 103 = .ok (.iload 4, 2) := dk_21 4 (dk_at dksX0_laySlices_4 9 rfl rfl)
theorem dX0_laySlices_105 : decode cX0_laySlices 105 = .ok (.aload 6, 2) := dk_25 6 (dk_at dksX0_laySlices_4 11 rfl rfl)
theorem dX0_laySlices_107 : decode cX0_laySlices 107 = .ok (.getfield 62, 3) := dk_180 0 62 (dk_at dksX0_laySlices_4 13 rfl rfl)
theorem dX0_laySlices_110 : decode cX0_laySlices 110 = .ok (.iadd, 1) := dk_96 (dk_at dksX0_laySlices_4 16 rfl rfl)
theorem dX0_laySlices_111 : decode cX0_laySlices 111 = .ok (.istore 4, 2) := dk_54 4 (dk_at dksX0_laySlices_4 17 rfl rfl)
theorem dX0_laySlices_113 : decode cX0_laySlices 113 = .ok (.iinc 5 1, 3) := dk_132 5 1 (dk_at dksX0_laySlices_4 19 rfl rfl)
theorem dX0_laySlices_116 : decode cX0_laySlices 116 = .ok (.goto (-79), 3) := dk_167 255 177 (dk_at dksX0_laySlices_5 0 rfl rfl)
theorem dX0_laySlices_119 : decode cX0_laySlices 119 = .ok (.return_, 1) := dk_177 (dk_at dksX0_laySlices_5 3 rfl rfl)
abbrev cX0_scaled : ByteArray := prog_1_method_37_code
def yX0_scaled : MethodName := ⟨RX0, "scaled", "(IIII)J"⟩
def dkwX0_scaled_3 : List UInt8 := [180, 0, 38, 133, 105, 167, 0, 8, 42, 29, 182, 1, 3, 42, 180, 0, 240, 133, 21, 4, 184, 0, 128, 173]
abbrev dktX0_scaled_3 : List UInt8 := dkwX0_scaled_3 ++ []
def dkwX0_scaled_2 : List UInt8 := [180, 0, 240, 154, 0, 7, 20, 1, 1, 173, 21, 4, 5, 162, 0, 17, 42, 180, 0, 237, 133, 42]
abbrev dktX0_scaled_2 : List UInt8 := dkwX0_scaled_2 ++ dktX0_scaled_3
def dkwX0_scaled_1 : List UInt8 := [20, 0, 255, 173, 42, 27, 182, 0, 234, 154, 0, 7, 20, 1, 1, 173, 42, 28, 29, 182, 0, 249, 42]
abbrev dktX0_scaled_1 : List UInt8 := dkwX0_scaled_1 ++ dktX0_scaled_2
def dkwX0_scaled_0 : List UInt8 := [27, 28, 29, 184, 0, 245, 153, 0, 16, 21, 4, 133, 9, 20, 0, 253, 184, 0, 21, 154, 0, 7]
abbrev dktX0_scaled_0 : List UInt8 := dkwX0_scaled_0 ++ dktX0_scaled_1
theorem dksX0_scaled_0 : cX0_scaled.data.toList.drop 0 = dktX0_scaled_0 := by decide +kernel
theorem dksX0_scaled_1 : cX0_scaled.data.toList.drop 22 = dktX0_scaled_1 := dk_seg dksX0_scaled_0 22 rfl rfl
theorem dksX0_scaled_2 : cX0_scaled.data.toList.drop 45 = dktX0_scaled_2 := dk_seg dksX0_scaled_1 23 rfl rfl
theorem dksX0_scaled_3 : cX0_scaled.data.toList.drop 67 = dktX0_scaled_3 := dk_seg dksX0_scaled_2 22 rfl rfl
theorem dX0_scaled_0 : decode cX0_scaled 0 = .ok (.iload_n 1, 1) := dk_27 (dk_at dksX0_scaled_0 0 rfl rfl)
theorem dX0_scaled_1 : decode cX0_scaled 1 = .ok (.iload_n 2, 1) := dk_28 (dk_at dksX0_scaled_0 1 rfl rfl)
theorem dX0_scaled_2 : decode cX0_scaled 2 = .ok (.iload_n 3, 1) := dk_29 (dk_at dksX0_scaled_0 2 rfl rfl)
theorem dX0_scaled_3 : decode cX0_scaled 3 = .ok (.invokestatic 245, 3) := dk_184 0 245 (dk_at dksX0_scaled_0 3 rfl rfl)
theorem dX0_scaled_6 : decode cX0_scaled 6 = .ok (.ifCond .eq 16, 3) := dk_153 0 16 (dk_at dksX0_scaled_0 6 rfl rfl)
theorem dX0_scaled_9 : decode cX0_scaled 9 = .ok (.iload 4, 2) := dk_21 4 (dk_at dksX0_scaled_0 9 rfl rfl)
theorem dX0_scaled_11 : decode cX0_scaled 11 = .ok (.i2l, 1) := dk_133 (dk_at dksX0_scaled_0 11 rfl rfl)
theorem dX0_scaled_12 : decode cX0_scaled 12 = .ok (.lconst 0, 1) := dk_9 (dk_at dksX0_scaled_0 12 rfl rfl)
theorem dX0_scaled_13 : decode cX0_scaled 13 = .ok (.ldc2_w 253, 3) := dk_20 0 253 (dk_at dksX0_scaled_0 13 rfl rfl)
theorem dX0_scaled_16 : decode cX0_scaled 16 = .ok (.invokestatic 21, 3) := dk_184 0 21 (dk_at dksX0_scaled_0 16 rfl rfl)
theorem dX0_scaled_19 : decode cX0_scaled 19 = .ok (.ifCond .ne 7, 3) := dk_154 0 7 (dk_at dksX0_scaled_0 19 rfl rfl)
theorem dX0_scaled_22 : decode cX0_scaled 22 = .ok (.ldc2_w 255, 3) := dk_20 0 255 (dk_at dksX0_scaled_1 0 rfl rfl)
theorem dX0_scaled_25 : decode cX0_scaled 25 = .ok (.lreturn, 1) := dk_173 (dk_at dksX0_scaled_1 3 rfl rfl)
theorem dX0_scaled_26 : decode cX0_scaled 26 = .ok (.aload_n 0, 1) := dk_42 (dk_at dksX0_scaled_1 4 rfl rfl)
theorem dX0_scaled_27 : decode cX0_scaled 27 = .ok (.iload_n 1, 1) := dk_27 (dk_at dksX0_scaled_1 5 rfl rfl)
theorem dX0_scaled_28 : decode cX0_scaled 28 = .ok (.invokevirtual 234, 3) := dk_182 0 234 (dk_at dksX0_scaled_1 6 rfl rfl)
theorem dX0_scaled_31 : decode cX0_scaled 31 = .ok (.ifCond .ne 7, 3) := dk_154 0 7 (dk_at dksX0_scaled_1 9 rfl rfl)
theorem dX0_scaled_34 : decode cX0_scaled 34 = .ok (.ldc2_w 257, 3) := dk_20 1 1 (dk_at dksX0_scaled_1 12 rfl rfl)
theorem dX0_scaled_37 : decode cX0_scaled 37 = .ok (.lreturn, 1) := dk_173 (dk_at dksX0_scaled_1 15 rfl rfl)
theorem dX0_scaled_38 : decode cX0_scaled 38 = .ok (.aload_n 0, 1) := dk_42 (dk_at dksX0_scaled_1 16 rfl rfl)
theorem dX0_scaled_39 : decode cX0_scaled 39 = .ok (.iload_n 2, 1) := dk_28 (dk_at dksX0_scaled_1 17 rfl rfl)
theorem dX0_scaled_40 : decode cX0_scaled 40 = .ok (.iload_n 3, 1) := dk_29 (dk_at dksX0_scaled_1 18 rfl rfl)
theorem dX0_scaled_41 : decode cX0_scaled 41 = .ok (.invokevirtual 249, 3) := dk_182 0 249 (dk_at dksX0_scaled_1 19 rfl rfl)
theorem dX0_scaled_44 : decode cX0_scaled 44 = .ok (.aload_n 0, 1) := dk_42 (dk_at dksX0_scaled_1 22 rfl rfl)
theorem dX0_scaled_45 : decode cX0_scaled 45 = .ok (.getfield 240, 3) := dk_180 0 240 (dk_at dksX0_scaled_2 0 rfl rfl)
theorem dX0_scaled_48 : decode cX0_scaled 48 = .ok (.ifCond .ne 7, 3) := dk_154 0 7 (dk_at dksX0_scaled_2 3 rfl rfl)
theorem dX0_scaled_51 : decode cX0_scaled 51 = .ok (.ldc2_w 257, 3) := dk_20 1 1 (dk_at dksX0_scaled_2 6 rfl rfl)
theorem dX0_scaled_54 : decode cX0_scaled 54 = .ok (.lreturn, 1) := dk_173 (dk_at dksX0_scaled_2 9 rfl rfl)
theorem dX0_scaled_55 : decode cX0_scaled 55 = .ok (.iload 4, 2) := dk_21 4 (dk_at dksX0_scaled_2 10 rfl rfl)
theorem dX0_scaled_57 : decode cX0_scaled 57 = .ok (.iconst 2, 1) := dk_5 (dk_at dksX0_scaled_2 12 rfl rfl)
theorem dX0_scaled_58 : decode cX0_scaled 58 = .ok (.if_icmp .ge 17, 3) := dk_162 0 17 (dk_at dksX0_scaled_2 13 rfl rfl)
theorem dX0_scaled_61 : decode cX0_scaled 61 = .ok (.aload_n 0, 1) := dk_42 (dk_at dksX0_scaled_2 16 rfl rfl)
theorem dX0_scaled_62 : decode cX0_scaled 62 = .ok (.getfield 237, 3) := dk_180 0 237 (dk_at dksX0_scaled_2 17 rfl rfl)
theorem dX0_scaled_65 : decode cX0_scaled 65 = .ok (.i2l, 1) := dk_133 (dk_at dksX0_scaled_2 20 rfl rfl)
theorem dX0_scaled_66 : decode cX0_scaled 66 = .ok (.aload_n 0, 1) := dk_42 (dk_at dksX0_scaled_2 21 rfl rfl)
theorem dX0_scaled_67 : decode cX0_scaled 67 = .ok (.getfield 38, 3) := dk_180 0 38 (dk_at dksX0_scaled_3 0 rfl rfl)
theorem dX0_scaled_70 : decode cX0_scaled 70 = .ok (.i2l, 1) := dk_133 (dk_at dksX0_scaled_3 3 rfl rfl)
theorem dX0_scaled_71 : decode cX0_scaled 71 = .ok (.lmul, 1) := dk_105 (dk_at dksX0_scaled_3 4 rfl rfl)
theorem dX0_scaled_72 : decode cX0_scaled 72 = .ok (.goto 8, 3) := dk_167 0 8 (dk_at dksX0_scaled_3 5 rfl rfl)
theorem dX0_scaled_75 : decode cX0_scaled 75 = .ok (.aload_n 0, 1) := dk_42 (dk_at dksX0_scaled_3 8 rfl rfl)
theorem dX0_scaled_76 : decode cX0_scaled 76 = .ok (.iload_n 3, 1) := dk_29 (dk_at dksX0_scaled_3 9 rfl rfl)
theorem dX0_scaled_77 : decode cX0_scaled 77 = .ok (.invokevirtual 259, 3) := dk_182 1 3 (dk_at dksX0_scaled_3 10 rfl rfl)
theorem dX0_scaled_80 : decode cX0_scaled 80 = .ok (.aload_n 0, 1) := dk_42 (dk_at dksX0_scaled_3 13 rfl rfl)
theorem dX0_scaled_81 : decode cX0_scaled 81 = .ok (.getfield 240, 3) := dk_180 0 240 (dk_at dksX0_scaled_3 14 rfl rfl)
theorem dX0_scaled_84 : decode cX0_scaled 84 = .ok (.i2l, 1) := dk_133 (dk_at dksX0_scaled_3 17 rfl rfl)
theorem dX0_scaled_85 : decode cX0_scaled 85 = .ok (.iload 4, 2) := dk_21 4 (dk_at dksX0_scaled_3 18 rfl rfl)
theorem dX0_scaled_87 : decode cX0_scaled 87 = .ok (.invokestatic 128, 3) := dk_184 0 128 (dk_at dksX0_scaled_3 20 rfl rfl)
theorem dX0_scaled_90 : decode cX0_scaled 90 = .ok (.lreturn, 1) := dk_173 (dk_at dksX0_scaled_3 23 rfl rfl)
abbrev cX0_off : ByteArray := prog_1_method_36_code
def yX0_off : MethodName := ⟨RX0, "off", "(I)J"⟩
def dkwX0_off_1 : List UInt8 := [101, 173]
abbrev dktX0_off_1 : List UInt8 := dkwX0_off_1 ++ []
def dkwX0_off_0 : List UInt8 := [42, 180, 0, 237, 133, 42, 180, 0, 38, 133, 105, 42, 180, 0, 41, 27, 46, 133, 42, 180, 0, 240, 133, 105]
abbrev dktX0_off_0 : List UInt8 := dkwX0_off_0 ++ dktX0_off_1
theorem dksX0_off_0 : cX0_off.data.toList.drop 0 = dktX0_off_0 := by decide +kernel
theorem dksX0_off_1 : cX0_off.data.toList.drop 24 = dktX0_off_1 := dk_seg dksX0_off_0 24 rfl rfl
theorem dX0_off_0 : decode cX0_off 0 = .ok (.aload_n 0, 1) := dk_42 (dk_at dksX0_off_0 0 rfl rfl)
theorem dX0_off_1 : decode cX0_off 1 = .ok (.getfield 237, 3) := dk_180 0 237 (dk_at dksX0_off_0 1 rfl rfl)
theorem dX0_off_4 : decode cX0_off 4 = .ok (.i2l, 1) := dk_133 (dk_at dksX0_off_0 4 rfl rfl)
theorem dX0_off_5 : decode cX0_off 5 = .ok (.aload_n 0, 1) := dk_42 (dk_at dksX0_off_0 5 rfl rfl)
theorem dX0_off_6 : decode cX0_off 6 = .ok (.getfield 38, 3) := dk_180 0 38 (dk_at dksX0_off_0 6 rfl rfl)
theorem dX0_off_9 : decode cX0_off 9 = .ok (.i2l, 1) := dk_133 (dk_at dksX0_off_0 9 rfl rfl)
theorem dX0_off_10 : decode cX0_off 10 = .ok (.lmul, 1) := dk_105 (dk_at dksX0_off_0 10 rfl rfl)
theorem dX0_off_11 : decode cX0_off 11 = .ok (.aload_n 0, 1) := dk_42 (dk_at dksX0_off_0 11 rfl rfl)
theorem dX0_off_12 : decode cX0_off 12 = .ok (.getfield 41, 3) := dk_180 0 41 (dk_at dksX0_off_0 12 rfl rfl)
theorem dX0_off_15 : decode cX0_off 15 = .ok (.iload_n 1, 1) := dk_27 (dk_at dksX0_off_0 15 rfl rfl)
theorem dX0_off_16 : decode cX0_off 16 = .ok (.iaload, 1) := dk_46 (dk_at dksX0_off_0 16 rfl rfl)
theorem dX0_off_17 : decode cX0_off 17 = .ok (.i2l, 1) := dk_133 (dk_at dksX0_off_0 17 rfl rfl)
theorem dX0_off_18 : decode cX0_off 18 = .ok (.aload_n 0, 1) := dk_42 (dk_at dksX0_off_0 18 rfl rfl)
theorem dX0_off_19 : decode cX0_off 19 = .ok (.getfield 240, 3) := dk_180 0 240 (dk_at dksX0_off_0 19 rfl rfl)
theorem dX0_off_22 : decode cX0_off 22 = .ok (.i2l, 1) := dk_133 (dk_at dksX0_off_0 22 rfl rfl)
theorem dX0_off_23 : decode cX0_off 23 = .ok (.lmul, 1) := dk_105 (dk_at dksX0_off_0 23 rfl rfl)
theorem dX0_off_24 : decode cX0_off 24 = .ok (.lsub, 1) := dk_101 (dk_at dksX0_off_1 0 rfl rfl)
theorem dX0_off_25 : decode cX0_off 25 = .ok (.lreturn, 1) := dk_173 (dk_at dksX0_off_1 1 rfl rfl)
abbrev cX0_finest : ByteArray := prog_1_method_38_code
def yX0_finest : MethodName := ⟨RX0, "finest", "(IIII)I"⟩
def dkwX0_finest_5 : List UInt8 := [54, 5, 22, 11, 55, 6, 42, 180, 0, 240, 133, 55, 8, 132, 10, 1, 167, 255, 182, 21, 5, 172]
abbrev dktX0_finest_5 : List UInt8 := dkwX0_finest_5 ++ []
def dkwX0_finest_4 : List UInt8 := [16, 252, 159, 0, 20, 22, 11, 22, 8, 105, 22, 6, 42, 180, 0, 240, 133, 105, 148, 156, 0, 18, 21, 10]
abbrev dktX0_finest_4 : List UInt8 := dkwX0_finest_4 ++ dktX0_finest_5
def dkwX0_finest_3 : List UInt8 := [182, 0, 249, 42, 21, 4, 182, 1, 3, 184, 0, 1, 55, 11, 42, 180, 0, 240, 158, 0, 42, 21, 5]
abbrev dktX0_finest_3 : List UInt8 := dkwX0_finest_3 ++ dktX0_finest_4
def dkwX0_finest_2 : List UInt8 := [16, 252, 54, 5, 9, 55, 6, 10, 55, 8, 28, 54, 10, 21, 10, 29, 163, 0, 74, 42, 21, 10, 21, 4]
abbrev dktX0_finest_2 : List UInt8 := dkwX0_finest_2 ++ dktX0_finest_3
def dkwX0_finest_1 : List UInt8 := [184, 0, 225, 133, 184, 0, 21, 154, 0, 5, 2, 172, 42, 27, 182, 0, 234, 154, 0, 6, 16, 252, 172]
abbrev dktX0_finest_1 : List UInt8 := dkwX0_finest_1 ++ dktX0_finest_2
def dkwX0_finest_0 : List UInt8 := [27, 28, 21, 4, 184, 0, 245, 153, 0, 27, 29, 133, 28, 133, 17, 3, 231, 28, 17, 0, 200, 96, 4, 100]
abbrev dktX0_finest_0 : List UInt8 := dkwX0_finest_0 ++ dktX0_finest_1
theorem dksX0_finest_0 : cX0_finest.data.toList.drop 0 = dktX0_finest_0 := by decide +kernel
theorem dksX0_finest_1 : cX0_finest.data.toList.drop 24 = dktX0_finest_1 := dk_seg dksX0_finest_0 24 rfl rfl
theorem dksX0_finest_2 : cX0_finest.data.toList.drop 47 = dktX0_finest_2 := dk_seg dksX0_finest_1 23 rfl rfl
theorem dksX0_finest_3 : cX0_finest.data.toList.drop 71 = dktX0_finest_3 := dk_seg dksX0_finest_2 24 rfl rfl
theorem dksX0_finest_4 : cX0_finest.data.toList.drop 94 = dktX0_finest_4 := dk_seg dksX0_finest_3 23 rfl rfl
theorem dksX0_finest_5 : cX0_finest.data.toList.drop 118 = dktX0_finest_5 := dk_seg dksX0_finest_4 24 rfl rfl
theorem dX0_finest_0 : decode cX0_finest 0 = .ok (.iload_n 1, 1) := dk_27 (dk_at dksX0_finest_0 0 rfl rfl)
theorem dX0_finest_1 : decode cX0_finest 1 = .ok (.iload_n 2, 1) := dk_28 (dk_at dksX0_finest_0 1 rfl rfl)
theorem dX0_finest_2 : decode cX0_finest 2 = .ok (.iload 4, 2) := dk_21 4 (dk_at dksX0_finest_0 2 rfl rfl)
theorem dX0_finest_4 : decode cX0_finest 4 = .ok (.invokestatic 245, 3) := dk_184 0 245 (dk_at dksX0_finest_0 4 rfl rfl)
theorem dX0_finest_7 : decode cX0_finest 7 = .ok (.ifCond .eq 27, 3) := dk_153 0 27 (dk_at dksX0_finest_0 7 rfl rfl)
theorem dX0_finest_10 : decode cX0_finest 10 = .ok (.iload_n 3, 1) := dk_29 (dk_at dksX0_finest_0 10 rfl rfl)
theorem dX0_finest_11 : decode cX0_finest 11 = .ok (.i2l, 1) := dk_133 (dk_at dksX0_finest_0 11 rfl rfl)
theorem dX0_finest_12 : decode cX0_finest 12 = .ok (.iload_n 2, 1) := dk_28 (dk_at dksX0_finest_0 12 rfl rfl)
theorem dX0_finest_13 : decode cX0_finest 13 = .ok (.i2l, 1) := dk_133 (dk_at dksX0_finest_0 13 rfl rfl)
theorem dX0_finest_14 : decode cX0_finest 14 = .ok (.sipush 999, 3) := dk_17 3 231 (dk_at dksX0_finest_0 14 rfl rfl)
theorem dX0_finest_17 : decode cX0_finest 17 = .ok (.iload_n 2, 1) := dk_28 (dk_at dksX0_finest_0 17 rfl rfl)
theorem dX0_finest_18 : decode cX0_finest 18 = .ok (.sipush 200, 3) := dk_17 0 200 (dk_at dksX0_finest_0 18 rfl rfl)
theorem dX0_finest_21 : decode cX0_finest 21 = .ok (.iadd, 1) := dk_96 (dk_at dksX0_finest_0 21 rfl rfl)
theorem dX0_finest_22 : decode cX0_finest 22 = .ok (.iconst 1, 1) := dk_4 (dk_at dksX0_finest_0 22 rfl rfl)
theorem dX0_finest_23 : decode cX0_finest 23 = .ok (.isub, 1) := dk_100 (dk_at dksX0_finest_0 23 rfl rfl)
theorem dX0_finest_24 : decode cX0_finest 24 = .ok (.invokestatic 225, 3) := dk_184 0 225 (dk_at dksX0_finest_1 0 rfl rfl)
theorem dX0_finest_27 : decode cX0_finest 27 = .ok (.i2l, 1) := dk_133 (dk_at dksX0_finest_1 3 rfl rfl)
theorem dX0_finest_28 : decode cX0_finest 28 = .ok (.invokestatic 21, 3) := dk_184 0 21 (dk_at dksX0_finest_1 4 rfl rfl)
theorem dX0_finest_31 : decode cX0_finest 31 = .ok (.ifCond .ne 5, 3) := dk_154 0 5 (dk_at dksX0_finest_1 7 rfl rfl)
theorem dX0_finest_34 : decode cX0_finest 34 = .ok (.iconst (-1), 1) := dk_2 (dk_at dksX0_finest_1 10 rfl rfl)
theorem dX0_finest_35 : decode cX0_finest 35 = .ok (.ireturn, 1) := dk_172 (dk_at dksX0_finest_1 11 rfl rfl)
theorem dX0_finest_36 : decode cX0_finest 36 = .ok (.aload_n 0, 1) := dk_42 (dk_at dksX0_finest_1 12 rfl rfl)
theorem dX0_finest_37 : decode cX0_finest 37 = .ok (.iload_n 1, 1) := dk_27 (dk_at dksX0_finest_1 13 rfl rfl)
theorem dX0_finest_38 : decode cX0_finest 38 = .ok (.invokevirtual 234, 3) := dk_182 0 234 (dk_at dksX0_finest_1 14 rfl rfl)
theorem dX0_finest_41 : decode cX0_finest 41 = .ok (.ifCond .ne 6, 3) := dk_154 0 6 (dk_at dksX0_finest_1 17 rfl rfl)
theorem dX0_finest_44 : decode cX0_finest 44 = .ok (.bipush (-4), 2) := dk_16 252 (dk_at dksX0_finest_1 20 rfl rfl)
theorem dX0_finest_46 : decode cX0_finest 46 = .ok (.ireturn, 1) := dk_172 (dk_at dksX0_finest_1 22 rfl rfl)
theorem dX0_finest_47 : decode cX0_finest 47 = .ok (.bipush (-4), 2) := dk_16 252 (dk_at dksX0_finest_2 0 rfl rfl)
theorem dX0_finest_49 : decode cX0_finest 49 = .ok (.istore 5, 2) := dk_54 5 (dk_at dksX0_finest_2 2 rfl rfl)
theorem dX0_finest_51 : decode cX0_finest 51 = .ok (.lconst 0, 1) := dk_9 (dk_at dksX0_finest_2 4 rfl rfl)
theorem dX0_finest_52 : decode cX0_finest 52 = .ok (.lstore 6, 2) := dk_55 6 (dk_at dksX0_finest_2 5 rfl rfl)
theorem dX0_finest_54 : decode cX0_finest 54 = .ok (.lconst 1, 1) := dk_10 (dk_at dksX0_finest_2 7 rfl rfl)
theorem dX0_finest_55 : decode cX0_finest 55 = .ok (.lstore 8, 2) := dk_55 8 (dk_at dksX0_finest_2 8 rfl rfl)
theorem dX0_finest_57 : decode cX0_finest 57 = .ok (.iload_n 2, 1) := dk_28 (dk_at dksX0_finest_2 10 rfl rfl)
theorem dX0_finest_58 : decode cX0_finest 58 = .ok (.istore 10, 2) := dk_54 10 (dk_at dksX0_finest_2 11 rfl rfl)
theorem dX0_finest_60 : decode cX0_finest 60 = .ok (.iload 10, 2) := dk_21 10 (dk_at dksX0_finest_2 13 rfl rfl)
theorem dX0_finest_62 : decode cX0_finest 62 = .ok (.iload_n 3, 1) := dk_29 (dk_at dksX0_finest_2 15 rfl rfl)
theorem dX0_finest_63 : decode cX0_finest 63 = .ok (.if_icmp .gt 74, 3) := dk_163 0 74 (dk_at dksX0_finest_2 16 rfl rfl)
theorem dX0_finest_66 : decode cX0_finest 66 = .ok (.aload_n 0, 1) := dk_42 (dk_at dksX0_finest_2 19 rfl rfl)
theorem dX0_finest_67 : decode cX0_finest 67 = .ok (.iload 10, 2) := dk_21 10 (dk_at dksX0_finest_2 20 rfl rfl)
theorem dX0_finest_69 : decode cX0_finest 69 = .ok (.iload 4, 2) := dk_21 4 (dk_at dksX0_finest_2 22 rfl rfl)
theorem dX0_finest_71 : decode cX0_finest 71 = .ok (.invokevirtual 249, 3) := dk_182 0 249 (dk_at dksX0_finest_3 0 rfl rfl)
theorem dX0_finest_74 : decode cX0_finest 74 = .ok (.aload_n 0, 1) := dk_42 (dk_at dksX0_finest_3 3 rfl rfl)
theorem dX0_finest_75 : decode cX0_finest 75 = .ok (.iload 4, 2) := dk_21 4 (dk_at dksX0_finest_3 4 rfl rfl)
theorem dX0_finest_77 : decode cX0_finest 77 = .ok (.invokevirtual 259, 3) := dk_182 1 3 (dk_at dksX0_finest_3 6 rfl rfl)
theorem dX0_finest_80 : decode cX0_finest 80 = .ok (.invokestatic 1, 3) := dk_184 0 1 (dk_at dksX0_finest_3 9 rfl rfl)
theorem dX0_finest_83 : decode cX0_finest 83 = .ok (.lstore 11, 2) := dk_55 11 (dk_at dksX0_finest_3 12 rfl rfl)
theorem dX0_finest_85 : decode cX0_finest 85 = .ok (.aload_n 0, 1) := dk_42 (dk_at dksX0_finest_3 14 rfl rfl)
theorem dX0_finest_86 : decode cX0_finest 86 = .ok (.getfield 240, 3) := dk_180 0 240 (dk_at dksX0_finest_3 15 rfl rfl)
theorem dX0_finest_89 : decode cX0_finest 89 = .ok (.ifCond .le 42, 3) := dk_158 0 42 (dk_at dksX0_finest_3 18 rfl rfl)
theorem dX0_finest_92 : decode cX0_finest 92 = .ok (.iload 5, 2) := dk_21 5 (dk_at dksX0_finest_3 21 rfl rfl)
theorem dX0_finest_94 : decode cX0_finest 94 = .ok (.bipush (-4), 2) := dk_16 252 (dk_at dksX0_finest_4 0 rfl rfl)
theorem dX0_finest_96 : decode cX0_finest 96 = .ok (.if_icmp .eq 20, 3) := dk_159 0 20 (dk_at dksX0_finest_4 2 rfl rfl)
theorem dX0_finest_99 : decode cX0_finest 99 = .ok (.lload 11, 2) := dk_22 11 (dk_at dksX0_finest_4 5 rfl rfl)
theorem dX0_finest_101 : decode cX0_finest 101 = .ok (.lload 8, 2) := dk_22 8 (dk_at dksX0_finest_4 7 rfl rfl)
theorem dX0_finest_103 : decode cX0_finest 103 = .ok (.lmul, 1) := dk_105 (dk_at dksX0_finest_4 9 rfl rfl)
theorem dX0_finest_104 : decode cX0_finest 104 = .ok (.lload 6, 2) := dk_22 6 (dk_at dksX0_finest_4 10 rfl rfl)
theorem dX0_finest_106 : decode cX0_finest 106 = .ok (.aload_n 0, 1) := dk_42 (dk_at dksX0_finest_4 12 rfl rfl)
theorem dX0_finest_107 : decode cX0_finest 107 = .ok (.getfield 240, 3) := dk_180 0 240 (dk_at dksX0_finest_4 13 rfl rfl)
theorem dX0_finest_110 : decode cX0_finest 110 = .ok (.i2l, 1) := dk_133 (dk_at dksX0_finest_4 16 rfl rfl)
theorem dX0_finest_111 : decode cX0_finest 111 = .ok (.lmul, 1) := dk_105 (dk_at dksX0_finest_4 17 rfl rfl)
theorem dX0_finest_112 : decode cX0_finest 112 = .ok (.lcmp, 1) := dk_148 (dk_at dksX0_finest_4 18 rfl rfl)
theorem dX0_finest_113 : decode cX0_finest 113 = .ok (.ifCond .ge 18, 3) := dk_156 0 18 (dk_at dksX0_finest_4 19 rfl rfl)
theorem dX0_finest_116 : decode cX0_finest 116 = .ok (.iload 10, 2) := dk_21 10 (dk_at dksX0_finest_4 22 rfl rfl)
theorem dX0_finest_118 : decode cX0_finest 118 = .ok (.istore 5, 2) := dk_54 5 (dk_at dksX0_finest_5 0 rfl rfl)
theorem dX0_finest_120 : decode cX0_finest 120 = .ok (.lload 11, 2) := dk_22 11 (dk_at dksX0_finest_5 2 rfl rfl)
theorem dX0_finest_122 : decode cX0_finest 122 = .ok (.lstore 6, 2) := dk_55 6 (dk_at dksX0_finest_5 4 rfl rfl)
theorem dX0_finest_124 : decode cX0_finest 124 = .ok (.aload_n 0, 1) := dk_42 (dk_at dksX0_finest_5 6 rfl rfl)
theorem dX0_finest_125 : decode cX0_finest 125 = .ok (.getfield 240, 3) := dk_180 0 240 (dk_at dksX0_finest_5 7 rfl rfl)
theorem dX0_finest_128 : decode cX0_finest 128 = .ok (.i2l, 1) := dk_133 (dk_at dksX0_finest_5 10 rfl rfl)
theorem dX0_finest_129 : decode cX0_finest 129 = .ok (.lstore 8, 2) := dk_55 8 (dk_at dksX0_finest_5 11 rfl rfl)
theorem dX0_finest_131 : decode cX0_finest 131 = .ok (.iinc 10 1, 3) := dk_132 10 1 (dk_at dksX0_finest_5 13 rfl rfl)
theorem dX0_finest_134 : decode cX0_finest 134 = .ok (.goto (-74), 3) := dk_167 255 182 (dk_at dksX0_finest_5 16 rfl rfl)
theorem dX0_finest_137 : decode cX0_finest 137 = .ok (.iload 5, 2) := dk_21 5 (dk_at dksX0_finest_5 19 rfl rfl)
theorem dX0_finest_139 : decode cX0_finest 139 = .ok (.ireturn, 1) := dk_172 (dk_at dksX0_finest_5 21 rfl rfl)
abbrev cX0_shows : ByteArray := prog_1_method_41_code
def yX0_shows : MethodName := ⟨RX0, "shows", "(IIIII)I"⟩
def dkwX0_shows_1 : List UInt8 := [28, 29, 21, 4, 182, 1, 22, 42, 180, 1, 7, 21, 5, 46, 172]
abbrev dktX0_shows_1 : List UInt8 := dkwX0_shows_1 ++ []
def dkwX0_shows_0 : List UInt8 := [27, 28, 29, 21, 4, 184, 1, 18, 153, 0, 12, 42, 21, 5, 182, 0, 114, 154, 0, 5, 2, 172, 42, 27]
abbrev dktX0_shows_0 : List UInt8 := dkwX0_shows_0 ++ dktX0_shows_1
theorem dksX0_shows_0 : cX0_shows.data.toList.drop 0 = dktX0_shows_0 := by decide +kernel
theorem dksX0_shows_1 : cX0_shows.data.toList.drop 24 = dktX0_shows_1 := dk_seg dksX0_shows_0 24 rfl rfl
theorem dX0_shows_0 : decode cX0_shows 0 = .ok (.iload_n 1, 1) := dk_27 (dk_at dksX0_shows_0 0 rfl rfl)
theorem dX0_shows_1 : decode cX0_shows 1 = .ok (.iload_n 2, 1) := dk_28 (dk_at dksX0_shows_0 1 rfl rfl)
theorem dX0_shows_2 : decode cX0_shows 2 = .ok (.iload_n 3, 1) := dk_29 (dk_at dksX0_shows_0 2 rfl rfl)
theorem dX0_shows_3 : decode cX0_shows 3 = .ok (.iload 4, 2) := dk_21 4 (dk_at dksX0_shows_0 3 rfl rfl)
theorem dX0_shows_5 : decode cX0_shows 5 = .ok (.invokestatic 274, 3) := dk_184 1 18 (dk_at dksX0_shows_0 5 rfl rfl)
theorem dX0_shows_8 : decode cX0_shows 8 = .ok (.ifCond .eq 12, 3) := dk_153 0 12 (dk_at dksX0_shows_0 8 rfl rfl)
theorem dX0_shows_11 : decode cX0_shows 11 = .ok (.aload_n 0, 1) := dk_42 (dk_at dksX0_shows_0 11 rfl rfl)
theorem dX0_shows_12 : decode cX0_shows 12 = .ok (.iload 5, 2) := dk_21 5 (dk_at dksX0_shows_0 12 rfl rfl)
theorem dX0_shows_14 : decode cX0_shows 14 = .ok (.invokevirtual 114, 3) := dk_182 0 114 (dk_at dksX0_shows_0 14 rfl rfl)
theorem dX0_shows_17 : decode cX0_shows 17 = .ok (.ifCond .ne 5, 3) := dk_154 0 5 (dk_at dksX0_shows_0 17 rfl rfl)
theorem dX0_shows_20 : decode cX0_shows 20 = .ok (.iconst (-1), 1) := dk_2 (dk_at dksX0_shows_0 20 rfl rfl)
theorem dX0_shows_21 : decode cX0_shows 21 = .ok (.ireturn, 1) := dk_172 (dk_at dksX0_shows_0 21 rfl rfl)
theorem dX0_shows_22 : decode cX0_shows 22 = .ok (.aload_n 0, 1) := dk_42 (dk_at dksX0_shows_0 22 rfl rfl)
theorem dX0_shows_23 : decode cX0_shows 23 = .ok (.iload_n 1, 1) := dk_27 (dk_at dksX0_shows_0 23 rfl rfl)
theorem dX0_shows_24 : decode cX0_shows 24 = .ok (.iload_n 2, 1) := dk_28 (dk_at dksX0_shows_1 0 rfl rfl)
theorem dX0_shows_25 : decode cX0_shows 25 = .ok (.iload_n 3, 1) := dk_29 (dk_at dksX0_shows_1 1 rfl rfl)
theorem dX0_shows_26 : decode cX0_shows 26 = .ok (.iload 4, 2) := dk_21 4 (dk_at dksX0_shows_1 2 rfl rfl)
theorem dX0_shows_28 : decode cX0_shows 28 = .ok (.invokevirtual 278, 3) := dk_182 1 22 (dk_at dksX0_shows_1 4 rfl rfl)
theorem dX0_shows_31 : decode cX0_shows 31 = .ok (.aload_n 0, 1) := dk_42 (dk_at dksX0_shows_1 7 rfl rfl)
theorem dX0_shows_32 : decode cX0_shows 32 = .ok (.getfield 263, 3) := dk_180 1 7 (dk_at dksX0_shows_1 8 rfl rfl)
theorem dX0_shows_35 : decode cX0_shows 35 = .ok (.iload 5, 2) := dk_21 5 (dk_at dksX0_shows_1 11 rfl rfl)
theorem dX0_shows_37 : decode cX0_shows 37 = .ok (.iaload, 1) := dk_46 (dk_at dksX0_shows_1 13 rfl rfl)
theorem dX0_shows_38 : decode cX0_shows 38 = .ok (.ireturn, 1) := dk_172 (dk_at dksX0_shows_1 14 rfl rfl)
abbrev cX0_isSample : ByteArray := prog_1_method_40_code
def yX0_isSample : MethodName := ⟨RX0, "isSample", "(IIII)Z"⟩
def dkwX0_isSample_2 : List UInt8 := [3, 172]
abbrev dktX0_isSample_2 : List UInt8 := dkwX0_isSample_2 ++ []
def dkwX0_isSample_1 : List UInt8 := [100, 133, 184, 0, 21, 153, 0, 19, 29, 133, 9, 20, 1, 16, 184, 0, 21, 153, 0, 7, 4, 167, 0, 4]
abbrev dktX0_isSample_1 : List UInt8 := dkwX0_isSample_1 ++ dktX0_isSample_2
def dkwX0_isSample_0 : List UInt8 := [26, 184, 0, 125, 153, 0, 44, 27, 133, 10, 20, 0, 154, 184, 0, 21, 153, 0, 32, 28, 133, 9, 27, 4]
abbrev dktX0_isSample_0 : List UInt8 := dkwX0_isSample_0 ++ dktX0_isSample_1
theorem dksX0_isSample_0 : cX0_isSample.data.toList.drop 0 = dktX0_isSample_0 := by decide +kernel
theorem dksX0_isSample_1 : cX0_isSample.data.toList.drop 24 = dktX0_isSample_1 := dk_seg dksX0_isSample_0 24 rfl rfl
theorem dksX0_isSample_2 : cX0_isSample.data.toList.drop 48 = dktX0_isSample_2 := dk_seg dksX0_isSample_1 24 rfl rfl
theorem dX0_isSample_0 : decode cX0_isSample 0 = .ok (.iload_n 0, 1) := dk_26 (dk_at dksX0_isSample_0 0 rfl rfl)
theorem dX0_isSample_1 : decode cX0_isSample 1 = .ok (.invokestatic 125, 3) := dk_184 0 125 (dk_at dksX0_isSample_0 1 rfl rfl)
theorem dX0_isSample_4 : decode cX0_isSample 4 = .ok (.ifCond .eq 44, 3) := dk_153 0 44 (dk_at dksX0_isSample_0 4 rfl rfl)
theorem dX0_isSample_7 : decode cX0_isSample 7 = .ok (.iload_n 1, 1) := dk_27 (dk_at dksX0_isSample_0 7 rfl rfl)
theorem dX0_isSample_8 : decode cX0_isSample 8 = .ok (.i2l, 1) := dk_133 (dk_at dksX0_isSample_0 8 rfl rfl)
theorem dX0_isSample_9 : decode cX0_isSample 9 = .ok (.lconst 1, 1) := dk_10 (dk_at dksX0_isSample_0 9 rfl rfl)
theorem dX0_isSample_10 : decode cX0_isSample 10 = .ok (.ldc2_w 154, 3) := dk_20 0 154 (dk_at dksX0_isSample_0 10 rfl rfl)
theorem dX0_isSample_13 : decode cX0_isSample 13 = .ok (.invokestatic 21, 3) := dk_184 0 21 (dk_at dksX0_isSample_0 13 rfl rfl)
theorem dX0_isSample_16 : decode cX0_isSample 16 = .ok (.ifCond .eq 32, 3) := dk_153 0 32 (dk_at dksX0_isSample_0 16 rfl rfl)
theorem dX0_isSample_19 : decode cX0_isSample 19 = .ok (.iload_n 2, 1) := dk_28 (dk_at dksX0_isSample_0 19 rfl rfl)
theorem dX0_isSample_20 : decode cX0_isSample 20 = .ok (.i2l, 1) := dk_133 (dk_at dksX0_isSample_0 20 rfl rfl)
theorem dX0_isSample_21 : decode cX0_isSample 21 = .ok (.lconst 0, 1) := dk_9 (dk_at dksX0_isSample_0 21 rfl rfl)
theorem dX0_isSample_22 : decode cX0_isSample 22 = .ok (.iload_n 1, 1) := dk_27 (dk_at dksX0_isSample_0 22 rfl rfl)
theorem dX0_isSample_23 : decode cX0_isSample 23 = .ok (.iconst 1, 1) := dk_4 (dk_at dksX0_isSample_0 23 rfl rfl)
theorem dX0_isSample_24 : decode cX0_isSample 24 = .ok (.isub, 1) := dk_100 (dk_at dksX0_isSample_1 0 rfl rfl)
theorem dX0_isSample_25 : decode cX0_isSample 25 = .ok (.i2l, 1) := dk_133 (dk_at dksX0_isSample_1 1 rfl rfl)
theorem dX0_isSample_26 : decode cX0_isSample 26 = .ok (.invokestatic 21, 3) := dk_184 0 21 (dk_at dksX0_isSample_1 2 rfl rfl)
theorem dX0_isSample_29 : decode cX0_isSample 29 = .ok (.ifCond .eq 19, 3) := dk_153 0 19 (dk_at dksX0_isSample_1 5 rfl rfl)
theorem dX0_isSample_32 : decode cX0_isSample 32 = .ok (.iload_n 3, 1) := dk_29 (dk_at dksX0_isSample_1 8 rfl rfl)
theorem dX0_isSample_33 : decode cX0_isSample 33 = .ok (.i2l, 1) := dk_133 (dk_at dksX0_isSample_1 9 rfl rfl)
theorem dX0_isSample_34 : decode cX0_isSample 34 = .ok (.lconst 0, 1) := dk_9 (dk_at dksX0_isSample_1 10 rfl rfl)
theorem dX0_isSample_35 : decode cX0_isSample 35 = .ok (.ldc2_w 272, 3) := dk_20 1 16 (dk_at dksX0_isSample_1 11 rfl rfl)
theorem dX0_isSample_38 : decode cX0_isSample 38 = .ok (.invokestatic 21, 3) := dk_184 0 21 (dk_at dksX0_isSample_1 14 rfl rfl)
theorem dX0_isSample_41 : decode cX0_isSample 41 = .ok (.ifCond .eq 7, 3) := dk_153 0 7 (dk_at dksX0_isSample_1 17 rfl rfl)
theorem dX0_isSample_44 : decode cX0_isSample 44 = .ok (.iconst 1, 1) := dk_4 (dk_at dksX0_isSample_1 20 rfl rfl)
theorem dX0_isSample_45 : decode cX0_isSample 45 = .ok (.goto 4, 3) := dk_167 0 4 (dk_at dksX0_isSample_1 21 rfl rfl)
theorem dX0_isSample_48 : decode cX0_isSample 48 = .ok (.iconst 0, 1) := dk_3 (dk_at dksX0_isSample_2 0 rfl rfl)
theorem dX0_isSample_49 : decode cX0_isSample 49 = .ok (.ireturn, 1) := dk_172 (dk_at dksX0_isSample_2 1 rfl rfl)
abbrev cX0_laySamples : ByteArray := prog_1_method_39_code
def yX0_laySamples : MethodName := ⟨RX0, "laySamples", "(IIII)V"⟩
def dkwX0_laySamples_5 : List UInt8 := [21, 7, 96, 181, 1, 13, 132, 6, 1, 167, 255, 153, 177]
abbrev dktX0_laySamples_5 : List UInt8 := dkwX0_laySamples_5 ++ []
def dkwX0_laySamples_4 : List UInt8 := [21, 7, 96, 79, 42, 89, 180, 1, 10, 21, 7, 96, 181, 1, 10, 167, 0, 14, 42, 89, 180, 1, 13]
abbrev dktX0_laySamples_4 : List UInt8 := dkwX0_laySamples_4 ++ dktX0_laySamples_5
def dkwX0_laySamples_3 : List UInt8 := [96, 42, 180, 0, 35, 162, 0, 37, 42, 180, 1, 7, 42, 180, 0, 25, 21, 6, 21, 4, 96, 46, 92, 46]
abbrev dktX0_laySamples_3 : List UInt8 := dkwX0_laySamples_3 ++ dktX0_laySamples_4
def dkwX0_laySamples_2 : List UInt8 := [180, 0, 63, 27, 46, 96, 54, 5, 21, 5, 28, 108, 54, 7, 21, 5, 28, 112, 54, 5, 21, 6, 21, 4]
abbrev dktX0_laySamples_2 : List UInt8 := dkwX0_laySamples_2 ++ dktX0_laySamples_3
def dkwX0_laySamples_1 : List UInt8 := [21, 6, 42, 180, 0, 35, 162, 0, 100, 21, 5, 42, 180, 0, 53, 42, 180, 0, 25, 21, 6, 46, 50]
abbrev dktX0_laySamples_1 : List UInt8 := dkwX0_laySamples_1 ++ dktX0_laySamples_2
def dkwX0_laySamples_0 : List UInt8 := [42, 180, 1, 7, 3, 184, 0, 44, 42, 3, 181, 1, 10, 42, 3, 181, 1, 13, 29, 54, 5, 3, 54, 6]
abbrev dktX0_laySamples_0 : List UInt8 := dkwX0_laySamples_0 ++ dktX0_laySamples_1
theorem dksX0_laySamples_0 : cX0_laySamples.data.toList.drop 0 = dktX0_laySamples_0 := by decide +kernel
theorem dksX0_laySamples_1 : cX0_laySamples.data.toList.drop 24 = dktX0_laySamples_1 := dk_seg dksX0_laySamples_0 24 rfl rfl
theorem dksX0_laySamples_2 : cX0_laySamples.data.toList.drop 47 = dktX0_laySamples_2 := dk_seg dksX0_laySamples_1 23 rfl rfl
theorem dksX0_laySamples_3 : cX0_laySamples.data.toList.drop 71 = dktX0_laySamples_3 := dk_seg dksX0_laySamples_2 24 rfl rfl
theorem dksX0_laySamples_4 : cX0_laySamples.data.toList.drop 95 = dktX0_laySamples_4 := dk_seg dksX0_laySamples_3 24 rfl rfl
theorem dksX0_laySamples_5 : cX0_laySamples.data.toList.drop 118 = dktX0_laySamples_5 := dk_seg dksX0_laySamples_4 23 rfl rfl
theorem dX0_laySamples_0 : decode cX0_laySamples 0 = .ok (.aload_n 0, 1) := dk_42 (dk_at dksX0_laySamples_0 0 rfl rfl)
theorem dX0_laySamples_1 : decode cX0_laySamples 1 = .ok (.getfield 263, 3) := dk_180 1 7 (dk_at dksX0_laySamples_0 1 rfl rfl)
theorem dX0_laySamples_4 : decode cX0_laySamples 4 = .ok (.iconst 0, 1) := dk_3 (dk_at dksX0_laySamples_0 4 rfl rfl)
theorem dX0_laySamples_5 : decode cX0_laySamples 5 = .ok (.invokestatic 44, 3) := dk_184 0 44 (dk_at dksX0_laySamples_0 5 rfl rfl)
theorem dX0_laySamples_8 : decode cX0_laySamples 8 = .ok (.aload_n 0, 1) := dk_42 (dk_at dksX0_laySamples_0 8 rfl rfl)
theorem dX0_laySamples_9 : decode cX0_laySamples 9 = .ok (.iconst 0, 1) := dk_3 (dk_at dksX0_laySamples_0 9 rfl rfl)
theorem dX0_laySamples_10 : decode cX0_laySamples 10 = .ok (.putfield 266, 3) := dk_181 1 10 (dk_at dksX0_laySamples_0 10 rfl rfl)
theorem dX0_laySamples_13 : decode cX0_laySamples 13 = .ok (.aload_n 0, 1) := dk_42 (dk_at dksX0_laySamples_0 13 rfl rfl)
theorem dX0_laySamples_14 : decode cX0_laySamples 14 = .ok (.iconst 0, 1) := dk_3 (dk_at dksX0_laySamples_0 14 rfl rfl)
theorem dX0_laySamples_15 : decode cX0_laySamples 15 = .ok (.putfield 269, 3) := dk_181 1 13 (dk_at dksX0_laySamples_0 15 rfl rfl)
theorem dX0_laySamples_18 : decode cX0_laySamples 18 = .ok (.iload_n 3, 1) := dk_29 (dk_at dksX0_laySamples_0 18 rfl rfl)
theorem dX0_laySamples_19 : decode cX0_laySamples 19 = .ok (.istore 5, 2) := dk_54 5 (dk_at dksX0_laySamples_0 19 rfl rfl)
theorem dX0_laySamples_21 : decode cX0_laySamples 21 = .ok (.iconst 0, 1) := dk_3 (dk_at dksX0_laySamples_0 21 rfl rfl)
theorem dX0_laySamples_22 : decode cX0_laySamples 22 = .ok (.istore 6, 2) := dk_54 6 (dk_at dksX0_laySamples_0 22 rfl rfl)
theorem dX0_laySamples_24 : decode cX0_laySamples 24 = .ok (.iload 6, 2) := dk_21 6 (dk_at dksX0_laySamples_1 0 rfl rfl)
theorem dX0_laySamples_26 : decode cX0_laySamples 26 = .ok (.aload_n 0, 1) := dk_42 (dk_at dksX0_laySamples_1 2 rfl rfl)
theorem dX0_laySamples_27 : decode cX0_laySamples 27 = .ok (.getfield 35, 3) := dk_180 0 35 (dk_at dksX0_laySamples_1 3 rfl rfl)
theorem dX0_laySamples_30 : decode cX0_laySamples 30 = .ok (.if_icmp .ge 100, 3) := dk_162 0 100 (dk_at dksX0_laySamples_1 6 rfl rfl)
theorem dX0_laySamples_33 : decode cX0_laySamples 33 = .ok (.iload 5, 2) := dk_21 5 (dk_at dksX0_laySamples_1 9 rfl rfl)
theorem dX0_laySamples_35 : decode cX0_laySamples 35 = .ok (.aload_n 0, 1) := dk_42 (dk_at dksX0_laySamples_1 11 rfl rfl)
theorem dX0_laySamples_36 : decode cX0_laySamples 36 = .ok (.getfield 53, 3) := dk_180 0 53 (dk_at dksX0_laySamples_1 12 rfl rfl)
theorem dX0_laySamples_39 : decode cX0_laySamples 39 = .ok (.aload_n 0, 1) := dk_42 (dk_at dksX0_laySamples_1 15 rfl rfl)
theorem dX0_laySamples_40 : decode cX0_laySamples 40 = .ok (.getfield 25, 3) := dk_180 0 25 (dk_at dksX0_laySamples_1 16 rfl rfl)
theorem dX0_laySamples_43 : decode cX0_laySamples 43 = .ok (.iload 6, 2) := dk_21 6 (dk_at dksX0_laySamples_1 19 rfl rfl)
theorem dX0_laySamples_45 : decode cX0_laySamples 45 = .ok (.iaload, 1) := dk_46 (dk_at dksX0_laySamples_1 21 rfl rfl)
theorem dX0_laySamples_46 : decode cX0_laySamples 46 = .ok (.aaload, 1) := dk_50 (dk_at dksX0_laySamples_1 22 rfl rfl)
theorem dX0_laySamples_47 : decode cX0_laySamples 47 = .ok (.getfield 63, 3) := dk_180 0 63 (dk_at dksX0_laySamples_2 0 rfl rfl)
theorem dX0_laySamples_50 : decode cX0_laySamples 50 = .ok (.iload_n 1, 1) := dk_27 (dk_at dksX0_laySamples_2 3 rfl rfl)
theorem dX0_laySamples_51 : decode cX0_laySamples 51 = .ok (.iaload, 1) := dk_46 (dk_at dksX0_laySamples_2 4 rfl rfl)
theorem dX0_laySamples_52 : decode cX0_laySamples 52 = .ok (.iadd, 1) := dk_96 (dk_at dksX0_laySamples_2 5 rfl rfl)
theorem dX0_laySamples_53 : decode cX0_laySamples 53 = .ok (.istore 5, 2) := dk_54 5 (dk_at dksX0_laySamples_2 6 rfl rfl)
theorem dX0_laySamples_55 : decode cX0_laySamples 55 = .ok (.iload 5, 2) := dk_21 5 (dk_at dksX0_laySamples_2 8 rfl rfl)
theorem dX0_laySamples_57 : decode cX0_laySamples 57 = .ok (.iload_n 2, 1) := dk_28 (dk_at dksX0_laySamples_2 10 rfl rfl)
theorem dX0_laySamples_58 : decode cX0_laySamples 58 = .ok (.idiv, 1) := dk_108 (dk_at dksX0_laySamples_2 11 rfl rfl)
theorem dX0_laySamples_59 : decode cX0_laySamples 59 = .ok (.istore 7, 2) := dk_54 7 (dk_at dksX0_laySamples_2 12 rfl rfl)
theorem dX0_laySamples_61 : decode cX0_laySamples 61 = .ok (.iload 5, 2) := dk_21 5 (dk_at dksX0_laySamples_2 14 rfl rfl)
theorem dX0_laySamples_63 : decode cX0_laySamples 63 = .ok (.iload_n 2, 1) := dk_28 (dk_at dksX0_laySamples_2 16 rfl rfl)
theorem dX0_laySamples_64 : decode cX0_laySamples 64 = .ok (.irem, 1) := dk_112 (dk_at dksX0_laySamples_2 17 rfl rfl)
theorem dX0_laySamples_65 : decode cX0_laySamples 65 = .ok (.istore 5, 2) := dk_54 5 (dk_at dksX0_laySamples_2 18 rfl rfl)
theorem dX0_laySamples_67 : decode cX0_laySamples 67 = .ok (.iload 6, 2) := dk_21 6 (dk_at dksX0_laySamples_2 20 rfl rfl)
theorem dX0_laySamples_69 : decode cX0_laySamples 69 = .ok (.iload 4, 2) := dk_21 4 (dk_at dksX0_laySamples_2 22 rfl rfl)
theorem dX0_laySamples_71 : decode cX0_laySamples 71 = .ok (.iadd, 1) := dk_96 (dk_at dksX0_laySamples_3 0 rfl rfl)
theorem dX0_laySamples_72 : decode cX0_laySamples 72 = .ok (.aload_n 0, 1) := dk_42 (dk_at dksX0_laySamples_3 1 rfl rfl)
theorem dX0_laySamples_73 : decode cX0_laySamples 73 = .ok (.getfield 35, 3) := dk_180 0 35 (dk_at dksX0_laySamples_3 2 rfl rfl)
theorem dX0_laySamples_76 : decode cX0_laySamples 76 = .ok (.if_icmp .ge 37, 3) := dk_162 0 37 (dk_at dksX0_laySamples_3 5 rfl rfl)
theorem dX0_laySamples_79 : decode cX0_laySamples 79 = .ok (.aload_n 0, 1) := dk_42 (dk_at dksX0_laySamples_3 8 rfl rfl)
theorem dX0_laySamples_80 : decode cX0_laySamples 80 = .ok (.getfield 263, 3) := dk_180 1 7 (dk_at dksX0_laySamples_3 9 rfl rfl)
theorem dX0_laySamples_83 : decode cX0_laySamples 83 = .ok (.aload_n 0, 1) := dk_42 (dk_at dksX0_laySamples_3 12 rfl rfl)
theorem dX0_laySamples_84 : decode cX0_laySamples 84 = .ok (.getfield 25, 3) := dk_180 0 25 (dk_at dksX0_laySamples_3 13 rfl rfl)
theorem dX0_laySamples_87 : decode cX0_laySamples 87 = .ok (.iload 6, 2) := dk_21 6 (dk_at dksX0_laySamples_3 16 rfl rfl)
theorem dX0_laySamples_89 : decode cX0_laySamples 89 = .ok (.iload 4, 2) := dk_21 4 (dk_at dksX0_laySamples_3 18 rfl rfl)
theorem dX0_laySamples_91 : decode cX0_laySamples 91 = .ok (.iadd, 1) := dk_96 (dk_at dksX0_laySamples_3 20 rfl rfl)
theorem dX0_laySamples_92 : decode cX0_laySamples 92 = .ok (.iaload, 1) := dk_46 (dk_at dksX0_laySamples_3 21 rfl rfl)
theorem dX0_laySamples_93 : decode cX0_laySamples 93 = .ok (.dup2, 1) := dk_92 (dk_at dksX0_laySamples_3 22 rfl rfl)
theorem dX0_laySamples_94 : decode cX0_laySamples 94 = .ok (.iaload, 1) := dk_46 (dk_at dksX0_laySamples_3 23 rfl rfl)
theorem dX0_laySamples_95 : decode cX0_laySamples 95 = .ok (.iload 7, 2) := dk_21 7 (dk_at dksX0_laySamples_4 0 rfl rfl)
theorem dX0_laySamples_97 : decode cX0_laySamples 97 = .ok (.iadd, 1) := dk_96 (dk_at dksX0_laySamples_4 2 rfl rfl)
theorem dX0_laySamples_98 : decode cX0_laySamples 98 = .ok (.iastore, 1) := dk_79 (dk_at dksX0_laySamples_4 3 rfl rfl)
theorem dX0_laySamples_99 : decode cX0_laySamples 99 = .ok (.aload_n 0, 1) := dk_42 (dk_at dksX0_laySamples_4 4 rfl rfl)
theorem dX0_laySamples_100 : decode cX0_laySamples 100 = .ok (.dup, 1) := dk_89 (dk_at dksX0_laySamples_4 5 rfl rfl)
theorem dX0_laySamples_101 : decode cX0_laySamples 101 = .ok (.getfield 266, 3) := dk_180 1 10 (dk_at dksX0_laySamples_4 6 rfl rfl)
theorem dX0_laySamples_104 : decode cX0_laySamples 104 = .ok (.iload 7, 2) := dk_21 7 (dk_at dksX0_laySamples_4 9 rfl rfl)
theorem dX0_laySamples_106 : decode cX0_laySamples 106 = .ok (.iadd, 1) := dk_96 (dk_at dksX0_laySamples_4 11 rfl rfl)
theorem dX0_laySamples_107 : decode cX0_laySamples 107 = .ok (.putfield 266, 3) := dk_181 1 10 (dk_at dksX0_laySamples_4 12 rfl rfl)
theorem dX0_laySamples_110 : decode cX0_laySamples 110 = .ok (.goto 14, 3) := dk_167 0 14 (dk_at dksX0_laySamples_4 15 rfl rfl)
theorem dX0_laySamples_113 : decode cX0_laySamples 113 = .ok (.aload_n 0, 1) := dk_42 (dk_at dksX0_laySamples_4 18 rfl rfl)
theorem dX0_laySamples_114 : decode cX0_laySamples 114 = .ok (.dup, 1) := dk_89 (dk_at dksX0_laySamples_4 19 rfl rfl)
theorem dX0_laySamples_115 : decode cX0_laySamples 115 = .ok (.getfield 269, 3) := dk_180 1 13 (dk_at dksX0_laySamples_4 20 rfl rfl)
theorem dX0_laySamples_118 : decode cX0_laySamples 118 = .ok (.iload 7, 2) := dk_21 7 (dk_at dksX0_laySamples_5 0 rfl rfl)
theorem dX0_laySamples_120 : decode cX0_laySamples 120 = .ok (.iadd, 1) := dk_96 (dk_at dksX0_laySamples_5 2 rfl rfl)
theorem dX0_laySamples_121 : decode cX0_laySamples 121 = .ok (.putfield 269, 3) := dk_181 1 13 (dk_at dksX0_laySamples_5 3 rfl rfl)
theorem dX0_laySamples_124 : decode cX0_laySamples 124 = .ok (.iinc 6 1, 3) := dk_132 6 1 (dk_at dksX0_laySamples_5 6 rfl rfl)
theorem dX0_laySamples_127 : decode cX0_laySamples 127 = .ok (.goto (-103), 3) := dk_167 255 153 (dk_at dksX0_laySamples_5 9 rfl rfl)
theorem dX0_laySamples_130 : decode cX0_laySamples 130 = .ok (.return_, 1) := dk_177 (dk_at dksX0_laySamples_5 12 rfl rfl)
abbrev cX0_samples : ByteArray := prog_1_method_42_code
def yX0_samples : MethodName := ⟨RX0, "samples", "(IIIII)I"⟩
def dkwX0_samples_9 : List UInt8 := [126, 172, 21, 6, 21, 7, 2, 130, 126, 172, 21, 8, 172]
abbrev dktX0_samples_9 : List UInt8 := dkwX0_samples_9 ++ []
def dkwX0_samples_8 : List UInt8 := [42, 180, 1, 10, 42, 180, 1, 13, 96, 172, 42, 180, 1, 13, 172, 21, 6, 172, 21, 7, 21, 6, 2, 130]
abbrev dktX0_samples_8 : List UInt8 := dkwX0_samples_8 ++ dktX0_samples_9
def dkwX0_samples_7 : List UInt8 := [170, 0, 0, 0, 0, 0, 0, 70, 0, 0, 0, 0, 0, 0, 0, 4, 0, 0, 0, 36, 0, 0, 0, 46, 0, 0, 0, 51, 0, 0, 0, 54, 0, 0, 0, 62]
abbrev dktX0_samples_7 : List UInt8 := dkwX0_samples_7 ++ dktX0_samples_8
def dkwX0_samples_6 : List UInt8 := [132, 9, 1, 167, 255, 161, 21, 5]
abbrev dktX0_samples_6 : List UInt8 := dkwX0_samples_6 ++ dktX0_samples_7
def dkwX0_samples_5 : List UInt8 := [167, 0, 10, 42, 180, 1, 7, 21, 8, 46, 164, 0, 8, 21, 9, 167, 0, 5, 21, 8, 54, 8]
abbrev dktX0_samples_5 : List UInt8 := dkwX0_samples_5 ++ dktX0_samples_6
def dkwX0_samples_4 : List UInt8 := [167, 0, 4, 3, 128, 54, 7, 42, 180, 1, 7, 21, 9, 46, 21, 8, 16, 252, 160, 0, 7, 3]
abbrev dktX0_samples_4 : List UInt8 := dkwX0_samples_4 ++ dktX0_samples_5
def dkwX0_samples_3 : List UInt8 := [120, 167, 0, 4, 3, 128, 54, 6, 21, 7, 42, 21, 9, 27, 182, 0, 163, 158, 0, 10, 4, 21, 9, 120]
abbrev dktX0_samples_3 : List UInt8 := dkwX0_samples_3 ++ dktX0_samples_4
def dkwX0_samples_2 : List UInt8 := [21, 9, 42, 180, 0, 50, 162, 0, 92, 21, 6, 42, 180, 1, 7, 21, 9, 46, 158, 0, 10, 4, 21, 9]
abbrev dktX0_samples_2 : List UInt8 := dkwX0_samples_2 ++ dktX0_samples_3
def dkwX0_samples_1 : List UInt8 := [2, 172, 42, 27, 28, 29, 21, 4, 182, 1, 22, 3, 54, 6, 3, 54, 7, 16, 252, 54, 8, 3, 54, 9]
abbrev dktX0_samples_1 : List UInt8 := dkwX0_samples_1 ++ dktX0_samples_2
def dkwX0_samples_0 : List UInt8 := [27, 28, 29, 21, 4, 184, 1, 18, 153, 0, 16, 21, 5, 133, 9, 20, 1, 26, 184, 0, 21, 154, 0, 5]
abbrev dktX0_samples_0 : List UInt8 := dkwX0_samples_0 ++ dktX0_samples_1
theorem dksX0_samples_0 : cX0_samples.data.toList.drop 0 = dktX0_samples_0 := by decide +kernel
theorem dksX0_samples_1 : cX0_samples.data.toList.drop 24 = dktX0_samples_1 := dk_seg dksX0_samples_0 24 rfl rfl
theorem dksX0_samples_2 : cX0_samples.data.toList.drop 48 = dktX0_samples_2 := dk_seg dksX0_samples_1 24 rfl rfl
theorem dksX0_samples_3 : cX0_samples.data.toList.drop 72 = dktX0_samples_3 := dk_seg dksX0_samples_2 24 rfl rfl
theorem dksX0_samples_4 : cX0_samples.data.toList.drop 96 = dktX0_samples_4 := dk_seg dksX0_samples_3 24 rfl rfl
theorem dksX0_samples_5 : cX0_samples.data.toList.drop 118 = dktX0_samples_5 := dk_seg dksX0_samples_4 22 rfl rfl
theorem dksX0_samples_6 : cX0_samples.data.toList.drop 140 = dktX0_samples_6 := dk_seg dksX0_samples_5 22 rfl rfl
theorem dksX0_samples_7 : cX0_samples.data.toList.drop 148 = dktX0_samples_7 := dk_seg dksX0_samples_6 8 rfl rfl
theorem dksX0_samples_8 : cX0_samples.data.toList.drop 184 = dktX0_samples_8 := dk_seg dksX0_samples_7 36 rfl rfl
theorem dksX0_samples_9 : cX0_samples.data.toList.drop 208 = dktX0_samples_9 := dk_seg dksX0_samples_8 24 rfl rfl
theorem dX0_samples_0 : decode cX0_samples 0 = .ok (.iload_n 1, 1) := dk_27 (dk_at dksX0_samples_0 0 rfl rfl)
theorem dX0_samples_1 : decode cX0_samples 1 = .ok (.iload_n 2, 1) := dk_28 (dk_at dksX0_samples_0 1 rfl rfl)
theorem dX0_samples_2 : decode cX0_samples 2 = .ok (.iload_n 3, 1) := dk_29 (dk_at dksX0_samples_0 2 rfl rfl)
theorem dX0_samples_3 : decode cX0_samples 3 = .ok (.iload 4, 2) := dk_21 4 (dk_at dksX0_samples_0 3 rfl rfl)
theorem dX0_samples_5 : decode cX0_samples 5 = .ok (.invokestatic 274, 3) := dk_184 1 18 (dk_at dksX0_samples_0 5 rfl rfl)
theorem dX0_samples_8 : decode cX0_samples 8 = .ok (.ifCond .eq 16, 3) := dk_153 0 16 (dk_at dksX0_samples_0 8 rfl rfl)
theorem dX0_samples_11 : decode cX0_samples 11 = .ok (.iload 5, 2) := dk_21 5 (dk_at dksX0_samples_0 11 rfl rfl)
theorem dX0_samples_13 : decode cX0_samples 13 = .ok (.i2l, 1) := dk_133 (dk_at dksX0_samples_0 13 rfl rfl)
theorem dX0_samples_14 : decode cX0_samples 14 = .ok (.lconst 0, 1) := dk_9 (dk_at dksX0_samples_0 14 rfl rfl)
theorem dX0_samples_15 : decode cX0_samples 15 = .ok (.ldc2_w 282, 3) := dk_20 1 26 (dk_at dksX0_samples_0 15 rfl rfl)
theorem dX0_samples_18 : decode cX0_samples 18 = .ok (.invokestatic 21, 3) := dk_184 0 21 (dk_at dksX0_samples_0 18 rfl rfl)
theorem dX0_samples_21 : decode cX0_samples 21 = .ok (.ifCond .ne 5, 3) := dk_154 0 5 (dk_at dksX0_samples_0 21 rfl rfl)
theorem dX0_samples_24 : decode cX0_samples 24 = .ok (.iconst (-1), 1) := dk_2 (dk_at dksX0_samples_1 0 rfl rfl)
theorem dX0_samples_25 : decode cX0_samples 25 = .ok (.ireturn, 1) := dk_172 (dk_at dksX0_samples_1 1 rfl rfl)
theorem dX0_samples_26 : decode cX0_samples 26 = .ok (.aload_n 0, 1) := dk_42 (dk_at dksX0_samples_1 2 rfl rfl)
theorem dX0_samples_27 : decode cX0_samples 27 = .ok (.iload_n 1, 1) := dk_27 (dk_at dksX0_samples_1 3 rfl rfl)
theorem dX0_samples_28 : decode cX0_samples 28 = .ok (.iload_n 2, 1) := dk_28 (dk_at dksX0_samples_1 4 rfl rfl)
theorem dX0_samples_29 : decode cX0_samples 29 = .ok (.iload_n 3, 1) := dk_29 (dk_at dksX0_samples_1 5 rfl rfl)
theorem dX0_samples_30 : decode cX0_samples 30 = .ok (.iload 4, 2) := dk_21 4 (dk_at dksX0_samples_1 6 rfl rfl)
theorem dX0_samples_32 : decode cX0_samples 32 = .ok (.invokevirtual 278, 3) := dk_182 1 22 (dk_at dksX0_samples_1 8 rfl rfl)
theorem dX0_samples_35 : decode cX0_samples 35 = .ok (.iconst 0, 1) := dk_3 (dk_at dksX0_samples_1 11 rfl rfl)
theorem dX0_samples_36 : decode cX0_samples 36 = .ok (.istore 6, 2) := dk_54 6 (dk_at dksX0_samples_1 12 rfl rfl)
theorem dX0_samples_38 : decode cX0_samples 38 = .ok (.iconst 0, 1) := dk_3 (dk_at dksX0_samples_1 14 rfl rfl)
theorem dX0_samples_39 : decode cX0_samples 39 = .ok (.istore 7, 2) := dk_54 7 (dk_at dksX0_samples_1 15 rfl rfl)
theorem dX0_samples_41 : decode cX0_samples 41 = .ok (.bipush (-4), 2) := dk_16 252 (dk_at dksX0_samples_1 17 rfl rfl)
theorem dX0_samples_43 : decode cX0_samples 43 = .ok (.istore 8, 2) := dk_54 8 (dk_at dksX0_samples_1 19 rfl rfl)
theorem dX0_samples_45 : decode cX0_samples 45 = .ok (.iconst 0, 1) := dk_3 (dk_at dksX0_samples_1 21 rfl rfl)
theorem dX0_samples_46 : decode cX0_samples 46 = .ok (.istore 9, 2) := dk_54 9 (dk_at dksX0_samples_1 22 rfl rfl)
theorem dX0_samples_48 : decode cX0_samples 48 = .ok (.iload 9, 2) := dk_21 9 (dk_at dksX0_samples_2 0 rfl rfl)
theorem dX0_samples_50 : decode cX0_samples 50 = .ok (.aload_n 0, 1) := dk_42 (dk_at dksX0_samples_2 2 rfl rfl)
theorem dX0_samples_51 : decode cX0_samples 51 = .ok (.getfield 50, 3) := dk_180 0 50 (dk_at dksX0_samples_2 3 rfl rfl)
theorem dX0_samples_54 : decode cX0_samples 54 = .ok (.if_icmp .ge 92, 3) := dk_162 0 92 (dk_at dksX0_samples_2 6 rfl rfl)
theorem dX0_samples_57 : decode cX0_samples 57 = .ok (.iload 6, 2) := dk_21 6 (dk_at dksX0_samples_2 9 rfl rfl)
theorem dX0_samples_59 : decode cX0_samples 59 = .ok (.aload_n 0, 1) := dk_42 (dk_at dksX0_samples_2 11 rfl rfl)
theorem dX0_samples_60 : decode cX0_samples 60 = .ok (.getfield 263, 3) := dk_180 1 7 (dk_at dksX0_samples_2 12 rfl rfl)
theorem dX0_samples_63 : decode cX0_samples 63 = .ok (.iload 9, 2) := dk_21 9 (dk_at dksX0_samples_2 15 rfl rfl)
theorem dX0_samples_65 : decode cX0_samples 65 = .ok (.iaload, 1) := dk_46 (dk_at dksX0_samples_2 17 rfl rfl)
theorem dX0_samples_66 : decode cX0_samples 66 = .ok (.ifCond .le 10, 3) := dk_158 0 10 (dk_at dksX0_samples_2 18 rfl rfl)
theorem dX0_samples_69 : decode cX0_samples 69 = .ok (.iconst 1, 1) := dk_4 (dk_at dksX0_samples_2 21 rfl rfl)
theorem dX0_samples_70 : decode cX0_samples 70 = .ok (.iload 9, 2) := dk_21 9 (dk_at dksX0_samples_2 22 rfl rfl)
theorem dX0_samples_72 : decode cX0_samples 72 = .ok (.ishl, 1) := dk_120 (dk_at dksX0_samples_3 0 rfl rfl)
theorem dX0_samples_73 : decode cX0_samples 73 = .ok (.goto 4, 3) := dk_167 0 4 (dk_at dksX0_samples_3 1 rfl rfl)
theorem dX0_samples_76 : decode cX0_samples 76 = .ok (.iconst 0, 1) := dk_3 (dk_at dksX0_samples_3 4 rfl rfl)
theorem dX0_samples_77 : decode cX0_samples 77 = .ok (.ior, 1) := dk_128 (dk_at dksX0_samples_3 5 rfl rfl)
theorem dX0_samples_78 : decode cX0_samples 78 = .ok (.istore 6, 2) := dk_54 6 (dk_at dksX0_samples_3 6 rfl rfl)
theorem dX0_samples_80 : decode cX0_samples 80 = .ok (.iload 7, 2) := dk_21 7 (dk_at dksX0_samples_3 8 rfl rfl)
theorem dX0_samples_82 : decode cX0_samples 82 = .ok (.aload_n 0, 1) := dk_42 (dk_at dksX0_samples_3 10 rfl rfl)
theorem dX0_samples_83 : decode cX0_samples 83 = .ok (.iload 9, 2) := dk_21 9 (dk_at dksX0_samples_3 11 rfl rfl)
theorem dX0_samples_85 : decode cX0_samples 85 = .ok (.iload_n 1, 1) := dk_27 (dk_at dksX0_samples_3 13 rfl rfl)
theorem dX0_samples_86 : decode cX0_samples 86 = .ok (.invokevirtual 163, 3) := dk_182 0 163 (dk_at dksX0_samples_3 14 rfl rfl)
theorem dX0_samples_89 : decode cX0_samples 89 = .ok (.ifCond .le 10, 3) := dk_158 0 10 (dk_at dksX0_samples_3 17 rfl rfl)
theorem dX0_samples_92 : decode cX0_samples 92 = .ok (.iconst 1, 1) := dk_4 (dk_at dksX0_samples_3 20 rfl rfl)
theorem dX0_samples_93 : decode cX0_samples 93 = .ok (.iload 9, 2) := dk_21 9 (dk_at dksX0_samples_3 21 rfl rfl)
theorem dX0_samples_95 : decode cX0_samples 95 = .ok (.ishl, 1) := dk_120 (dk_at dksX0_samples_3 23 rfl rfl)
theorem dX0_samples_96 : decode cX0_samples 96 = .ok (.goto 4, 3) := dk_167 0 4 (dk_at dksX0_samples_4 0 rfl rfl)
theorem dX0_samples_99 : decode cX0_samples 99 = .ok (.iconst 0, 1) := dk_3 (dk_at dksX0_samples_4 3 rfl rfl)
theorem dX0_samples_100 : decode cX0_samples 100 = .ok (.ior, 1) := dk_128 (dk_at dksX0_samples_4 4 rfl rfl)
theorem dX0_samples_101 : decode cX0_samples 101 = .ok (.istore 7, 2) := dk_54 7 (dk_at dksX0_samples_4 5 rfl rfl)
theorem dX0_samples_103 : decode cX0_samples 103 = .ok (.aload_n 0, 1) := dk_42 (dk_at dksX0_samples_4 7 rfl rfl)
theorem dX0_samples_104 : decode cX0_samples 104 = .ok (.getfield 263, 3) := dk_180 1 7 (dk_at dksX0_samples_4 8 rfl rfl)
theorem dX0_samples_107 : decode cX0_samples 107 = .ok (.iload 9, 2) := dk_21 9 (dk_at dksX0_samples_4 11 rfl rfl)
theorem dX0_samples_109 : decode cX0_samples 109 = .ok (.iaload, 1) := dk_46 (dk_at dksX0_samples_4 13 rfl rfl)
theorem dX0_samples_110 : decode cX0_samples 110 = .ok (.iload 8, 2) := dk_21 8 (dk_at dksX0_samples_4 14 rfl rfl)
theorem dX0_samples_112 : decode cX0_samples 112 = .ok (.bipush (-4), 2) := dk_16 252 (dk_at dksX0_samples_4 16 rfl rfl)
theorem dX0_samples_114 : decode cX0_samples 114 = .ok (.if_icmp .ne 7, 3) := dk_160 0 7 (dk_at dksX0_samples_4 18 rfl rfl)
theorem dX0_samples_117 : decode cX0_samples 117 = .ok (.iconst 0, 1) := dk_3 (dk_at dksX0_samples_4 21 rfl rfl)
theorem dX0_samples_118 : decode cX0_samples 118 = .ok (.goto 10, 3) := dk_167 0 10 (dk_at dksX0_samples_5 0 rfl rfl)
theorem dX0_samples_121 : decode cX0_samples 121 = .ok (.aload_n 0, 1) := dk_42 (dk_at dksX0_samples_5 3 rfl rfl)
theorem dX0_samples_122 : decode cX0_samples 122 = .ok (.getfield 263, 3) := dk_180 1 7 (dk_at dksX0_samples_5 4 rfl rfl)
theorem dX0_samples_125 : decode cX0_samples 125 = .ok (.iload 8, 2) := dk_21 8 (dk_at dksX0_samples_5 7 rfl rfl)
theorem dX0_samples_127 : decode cX0_samples 127 = .ok (.iaload, 1) := dk_46 (dk_at dksX0_samples_5 9 rfl rfl)
theorem dX0_samples_128 : decode cX0_samples 128 = .ok (.if_icmp .le 8, 3) := dk_164 0 8 (dk_at dksX0_samples_5 10 rfl rfl)
theorem dX0_samples_131 : decode cX0_samples 131 = .ok (.iload 9, 2) := dk_21 9 (dk_at dksX0_samples_5 13 rfl rfl)
theorem dX0_samples_133 : decode cX0_samples 133 = .ok (.goto 5, 3) := dk_167 0 5 (dk_at dksX0_samples_5 15 rfl rfl)
theorem dX0_samples_136 : decode cX0_samples 136 = .ok (.iload 8, 2) := dk_21 8 (dk_at dksX0_samples_5 18 rfl rfl)
theorem dX0_samples_138 : decode cX0_samples 138 = .ok (.istore 8, 2) := dk_54 8 (dk_at dksX0_samples_5 20 rfl rfl)
theorem dX0_samples_140 : decode cX0_samples 140 = .ok (.iinc 9 1, 3) := dk_132 9 1 (dk_at dksX0_samples_6 0 rfl rfl)
theorem dX0_samples_143 : decode cX0_samples 143 = .ok (.goto (-95), 3) := dk_167 255 161 (dk_at dksX0_samples_6 3 rfl rfl)
theorem dX0_samples_146 : decode cX0_samples 146 = .ok (.iload 5, 2) := dk_21 5 (dk_at dksX0_samples_6 6 rfl rfl)
theorem dX0_samples_148 : decode cX0_samples 148 = .ok (.tableswitch 70 0 4 #[36, 46, 51, 54, 62], 36) := by decide +kernel
theorem dX0_samples_184 : decode cX0_samples 184 = .ok (.aload_n 0, 1) := dk_42 (dk_at dksX0_samples_8 0 rfl rfl)
theorem dX0_samples_185 : decode cX0_samples 185 = .ok (.getfield 266, 3) := dk_180 1 10 (dk_at dksX0_samples_8 1 rfl rfl)
theorem dX0_samples_188 : decode cX0_samples 188 = .ok (.aload_n 0, 1) := dk_42 (dk_at dksX0_samples_8 4 rfl rfl)
theorem dX0_samples_189 : decode cX0_samples 189 = .ok (.getfield 269, 3) := dk_180 1 13 (dk_at dksX0_samples_8 5 rfl rfl)
theorem dX0_samples_192 : decode cX0_samples 192 = .ok (.iadd, 1) := dk_96 (dk_at dksX0_samples_8 8 rfl rfl)
theorem dX0_samples_193 : decode cX0_samples 193 = .ok (.ireturn, 1) := dk_172 (dk_at dksX0_samples_8 9 rfl rfl)
theorem dX0_samples_194 : decode cX0_samples 194 = .ok (.aload_n 0, 1) := dk_42 (dk_at dksX0_samples_8 10 rfl rfl)
theorem dX0_samples_195 : decode cX0_samples 195 = .ok (.getfield 269, 3) := dk_180 1 13 (dk_at dksX0_samples_8 11 rfl rfl)
theorem dX0_samples_198 : decode cX0_samples 198 = .ok (.ireturn, 1) := dk_172 (dk_at dksX0_samples_8 14 rfl rfl)
theorem dX0_samples_199 : decode cX0_samples 199 = .ok (.iload 6, 2) := dk_21 6 (dk_at dksX0_samples_8 15 rfl rfl)
theorem dX0_samples_201 : decode cX0_samples 201 = .ok (.ireturn, 1) := dk_172 (dk_at dksX0_samples_8 17 rfl rfl)
theorem dX0_samples_202 : decode cX0_samples 202 = .ok (.iload 7, 2) := dk_21 7 (dk_at dksX0_samples_8 18 rfl rfl)
theorem dX0_samples_204 : decode cX0_samples 204 = .ok (.iload 6, 2) := dk_21 6 (dk_at dksX0_samples_8 20 rfl rfl)
theorem dX0_samples_206 : decode cX0_samples 206 = .ok (.iconst (-1), 1) := dk_2 (dk_at dksX0_samples_8 22 rfl rfl)
theorem dX0_samples_207 : decode cX0_samples 207 = .ok (.ixor, 1) := dk_130 (dk_at dksX0_samples_8 23 rfl rfl)
theorem dX0_samples_208 : decode cX0_samples 208 = .ok (.iand, 1) := dk_126 (dk_at dksX0_samples_9 0 rfl rfl)
theorem dX0_samples_209 : decode cX0_samples 209 = .ok (.ireturn, 1) := dk_172 (dk_at dksX0_samples_9 1 rfl rfl)
theorem dX0_samples_210 : decode cX0_samples 210 = .ok (.iload 6, 2) := dk_21 6 (dk_at dksX0_samples_9 2 rfl rfl)
theorem dX0_samples_212 : decode cX0_samples 212 = .ok (.iload 7, 2) := dk_21 7 (dk_at dksX0_samples_9 4 rfl rfl)
theorem dX0_samples_214 : decode cX0_samples 214 = .ok (.iconst (-1), 1) := dk_2 (dk_at dksX0_samples_9 6 rfl rfl)
theorem dX0_samples_215 : decode cX0_samples 215 = .ok (.ixor, 1) := dk_130 (dk_at dksX0_samples_9 7 rfl rfl)
theorem dX0_samples_216 : decode cX0_samples 216 = .ok (.iand, 1) := dk_126 (dk_at dksX0_samples_9 8 rfl rfl)
theorem dX0_samples_217 : decode cX0_samples 217 = .ok (.ireturn, 1) := dk_172 (dk_at dksX0_samples_9 9 rfl rfl)
theorem dX0_samples_218 : decode cX0_samples 218 = .ok (.iload 8, 2) := dk_21 8 (dk_at dksX0_samples_9 10 rfl rfl)
theorem dX0_samples_220 : decode cX0_samples 220 = .ok (.ireturn, 1) := dk_172 (dk_at dksX0_samples_9 12 rfl rfl)
abbrev cX0_far : ByteArray := prog_1_method_44_code
def yX0_far : MethodName := ⟨RX0, "far", "(IIIII)J"⟩
def dkwX0_far_3 : List UInt8 := [184, 0, 128, 173]
abbrev dktX0_far_3 : List UInt8 := dkwX0_far_3 ++ []
def dkwX0_far_2 : List UInt8 := [167, 0, 26, 42, 27, 182, 1, 32, 42, 180, 1, 10, 133, 42, 180, 0, 41, 27, 46, 133, 105, 21, 5]
abbrev dktX0_far_2 : List UInt8 := dkwX0_far_2 ++ dktX0_far_3
def dkwX0_far_1 : List UInt8 := [20, 1, 28, 173, 42, 27, 28, 29, 21, 4, 182, 1, 22, 42, 180, 1, 10, 154, 0, 9, 20, 1, 30]
abbrev dktX0_far_1 : List UInt8 := dkwX0_far_1 ++ dktX0_far_2
def dkwX0_far_0 : List UInt8 := [27, 28, 29, 21, 4, 184, 1, 18, 153, 0, 14, 21, 5, 133, 9, 10, 184, 0, 21, 154, 0, 7]
abbrev dktX0_far_0 : List UInt8 := dkwX0_far_0 ++ dktX0_far_1
theorem dksX0_far_0 : cX0_far.data.toList.drop 0 = dktX0_far_0 := by decide +kernel
theorem dksX0_far_1 : cX0_far.data.toList.drop 22 = dktX0_far_1 := dk_seg dksX0_far_0 22 rfl rfl
theorem dksX0_far_2 : cX0_far.data.toList.drop 45 = dktX0_far_2 := dk_seg dksX0_far_1 23 rfl rfl
theorem dksX0_far_3 : cX0_far.data.toList.drop 68 = dktX0_far_3 := dk_seg dksX0_far_2 23 rfl rfl
theorem dX0_far_0 : decode cX0_far 0 = .ok (.iload_n 1, 1) := dk_27 (dk_at dksX0_far_0 0 rfl rfl)
theorem dX0_far_1 : decode cX0_far 1 = .ok (.iload_n 2, 1) := dk_28 (dk_at dksX0_far_0 1 rfl rfl)
theorem dX0_far_2 : decode cX0_far 2 = .ok (.iload_n 3, 1) := dk_29 (dk_at dksX0_far_0 2 rfl rfl)
theorem dX0_far_3 : decode cX0_far 3 = .ok (.iload 4, 2) := dk_21 4 (dk_at dksX0_far_0 3 rfl rfl)
theorem dX0_far_5 : decode cX0_far 5 = .ok (.invokestatic 274, 3) := dk_184 1 18 (dk_at dksX0_far_0 5 rfl rfl)
theorem dX0_far_8 : decode cX0_far 8 = .ok (.ifCond .eq 14, 3) := dk_153 0 14 (dk_at dksX0_far_0 8 rfl rfl)
theorem dX0_far_11 : decode cX0_far 11 = .ok (.iload 5, 2) := dk_21 5 (dk_at dksX0_far_0 11 rfl rfl)
theorem dX0_far_13 : decode cX0_far 13 = .ok (.i2l, 1) := dk_133 (dk_at dksX0_far_0 13 rfl rfl)
theorem dX0_far_14 : decode cX0_far 14 = .ok (.lconst 0, 1) := dk_9 (dk_at dksX0_far_0 14 rfl rfl)
theorem dX0_far_15 : decode cX0_far 15 = .ok (.lconst 1, 1) := dk_10 (dk_at dksX0_far_0 15 rfl rfl)
theorem dX0_far_16 : decode cX0_far 16 = .ok (.invokestatic 21, 3) := dk_184 0 21 (dk_at dksX0_far_0 16 rfl rfl)
theorem dX0_far_19 : decode cX0_far 19 = .ok (.ifCond .ne 7, 3) := dk_154 0 7 (dk_at dksX0_far_0 19 rfl rfl)
theorem dX0_far_22 : decode cX0_far 22 = .ok (.ldc2_w 284, 3) := dk_20 1 28 (dk_at dksX0_far_1 0 rfl rfl)
theorem dX0_far_25 : decode cX0_far 25 = .ok (.lreturn, 1) := dk_173 (dk_at dksX0_far_1 3 rfl rfl)
theorem dX0_far_26 : decode cX0_far 26 = .ok (.aload_n 0, 1) := dk_42 (dk_at dksX0_far_1 4 rfl rfl)
theorem dX0_far_27 : decode cX0_far 27 = .ok (.iload_n 1, 1) := dk_27 (dk_at dksX0_far_1 5 rfl rfl)
theorem dX0_far_28 : decode cX0_far 28 = .ok (.iload_n 2, 1) := dk_28 (dk_at dksX0_far_1 6 rfl rfl)
theorem dX0_far_29 : decode cX0_far 29 = .ok (.iload_n 3, 1) := dk_29 (dk_at dksX0_far_1 7 rfl rfl)
theorem dX0_far_30 : decode cX0_far 30 = .ok (.iload 4, 2) := dk_21 4 (dk_at dksX0_far_1 8 rfl rfl)
theorem dX0_far_32 : decode cX0_far 32 = .ok (.invokevirtual 278, 3) := dk_182 1 22 (dk_at dksX0_far_1 10 rfl rfl)
theorem dX0_far_35 : decode cX0_far 35 = .ok (.aload_n 0, 1) := dk_42 (dk_at dksX0_far_1 13 rfl rfl)
theorem dX0_far_36 : decode cX0_far 36 = .ok (.getfield 266, 3) := dk_180 1 10 (dk_at dksX0_far_1 14 rfl rfl)
theorem dX0_far_39 : decode cX0_far 39 = .ok (.ifCond .ne 9, 3) := dk_154 0 9 (dk_at dksX0_far_1 17 rfl rfl)
theorem dX0_far_42 : decode cX0_far 42 = .ok (.ldc2_w 286, 3) := dk_20 1 30 (dk_at dksX0_far_1 20 rfl rfl)
theorem dX0_far_45 : decode cX0_far 45 = .ok (.goto 26, 3) := dk_167 0 26 (dk_at dksX0_far_2 0 rfl rfl)
theorem dX0_far_48 : decode cX0_far 48 = .ok (.aload_n 0, 1) := dk_42 (dk_at dksX0_far_2 3 rfl rfl)
theorem dX0_far_49 : decode cX0_far 49 = .ok (.iload_n 1, 1) := dk_27 (dk_at dksX0_far_2 4 rfl rfl)
theorem dX0_far_50 : decode cX0_far 50 = .ok (.invokevirtual 288, 3) := dk_182 1 32 (dk_at dksX0_far_2 5 rfl rfl)
theorem dX0_far_53 : decode cX0_far 53 = .ok (.aload_n 0, 1) := dk_42 (dk_at dksX0_far_2 8 rfl rfl)
theorem dX0_far_54 : decode cX0_far 54 = .ok (.getfield 266, 3) := dk_180 1 10 (dk_at dksX0_far_2 9 rfl rfl)
theorem dX0_far_57 : decode cX0_far 57 = .ok (.i2l, 1) := dk_133 (dk_at dksX0_far_2 12 rfl rfl)
theorem dX0_far_58 : decode cX0_far 58 = .ok (.aload_n 0, 1) := dk_42 (dk_at dksX0_far_2 13 rfl rfl)
theorem dX0_far_59 : decode cX0_far 59 = .ok (.getfield 41, 3) := dk_180 0 41 (dk_at dksX0_far_2 14 rfl rfl)
theorem dX0_far_62 : decode cX0_far 62 = .ok (.iload_n 1, 1) := dk_27 (dk_at dksX0_far_2 17 rfl rfl)
theorem dX0_far_63 : decode cX0_far 63 = .ok (.iaload, 1) := dk_46 (dk_at dksX0_far_2 18 rfl rfl)
theorem dX0_far_64 : decode cX0_far 64 = .ok (.i2l, 1) := dk_133 (dk_at dksX0_far_2 19 rfl rfl)
theorem dX0_far_65 : decode cX0_far 65 = .ok (.lmul, 1) := dk_105 (dk_at dksX0_far_2 20 rfl rfl)
theorem dX0_far_66 : decode cX0_far 66 = .ok (.iload 5, 2) := dk_21 5 (dk_at dksX0_far_2 21 rfl rfl)
theorem dX0_far_68 : decode cX0_far 68 = .ok (.invokestatic 128, 3) := dk_184 0 128 (dk_at dksX0_far_3 0 rfl rfl)
theorem dX0_far_71 : decode cX0_far 71 = .ok (.lreturn, 1) := dk_173 (dk_at dksX0_far_3 3 rfl rfl)
abbrev cX0_apart : ByteArray := prog_1_method_43_code
def yX0_apart : MethodName := ⟨RX0, "apart", "(I)J"⟩
def dkwX0_apart_2 : List UInt8 := [184, 0, 1, 97, 65, 132, 4, 1, 167, 255, 207, 32, 173]
abbrev dktX0_apart_2 : List UInt8 := dkwX0_apart_2 ++ []
def dkwX0_apart_1 : List UInt8 := [180, 0, 41, 27, 46, 133, 105, 42, 21, 4, 27, 182, 0, 163, 133, 42, 180, 1, 10, 133, 105, 101]
abbrev dktX0_apart_1 : List UInt8 := dkwX0_apart_1 ++ dktX0_apart_2
def dkwX0_apart_0 : List UInt8 := [9, 65, 3, 54, 4, 21, 4, 42, 180, 0, 50, 162, 0, 46, 32, 42, 180, 1, 7, 21, 4, 46, 133, 42]
abbrev dktX0_apart_0 : List UInt8 := dkwX0_apart_0 ++ dktX0_apart_1
theorem dksX0_apart_0 : cX0_apart.data.toList.drop 0 = dktX0_apart_0 := by decide +kernel
theorem dksX0_apart_1 : cX0_apart.data.toList.drop 24 = dktX0_apart_1 := dk_seg dksX0_apart_0 24 rfl rfl
theorem dksX0_apart_2 : cX0_apart.data.toList.drop 46 = dktX0_apart_2 := dk_seg dksX0_apart_1 22 rfl rfl
theorem dX0_apart_0 : decode cX0_apart 0 = .ok (.lconst 0, 1) := dk_9 (dk_at dksX0_apart_0 0 rfl rfl)
theorem dX0_apart_1 : decode cX0_apart 1 = .ok (.lstore_n 2, 1) := dk_65 (dk_at dksX0_apart_0 1 rfl rfl)
theorem dX0_apart_2 : decode cX0_apart 2 = .ok (.iconst 0, 1) := dk_3 (dk_at dksX0_apart_0 2 rfl rfl)
theorem dX0_apart_3 : decode cX0_apart 3 = .ok (.istore 4, 2) := dk_54 4 (dk_at dksX0_apart_0 3 rfl rfl)
theorem dX0_apart_5 : decode cX0_apart 5 = .ok (.iload 4, 2) := dk_21 4 (dk_at dksX0_apart_0 5 rfl rfl)
theorem dX0_apart_7 : decode cX0_apart 7 = .ok (.aload_n 0, 1) := dk_42 (dk_at dksX0_apart_0 7 rfl rfl)
theorem dX0_apart_8 : decode cX0_apart 8 = .ok (.getfield 50, 3) := dk_180 0 50 (dk_at dksX0_apart_0 8 rfl rfl)
theorem dX0_apart_11 : decode cX0_apart 11 = .ok (.if_icmp .ge 46, 3) := dk_162 0 46 (dk_at dksX0_apart_0 11 rfl rfl)
theorem dX0_apart_14 : decode cX0_apart 14 = .ok (.lload_n 2, 1) := dk_32 (dk_at dksX0_apart_0 14 rfl rfl)
theorem dX0_apart_15 : decode cX0_apart 15 = .ok (.aload_n 0, 1) := dk_42 (dk_at dksX0_apart_0 15 rfl rfl)
theorem dX0_apart_16 : decode cX0_apart 16 = .ok (.getfield 263, 3) := dk_180 1 7 (dk_at dksX0_apart_0 16 rfl rfl)
theorem dX0_apart_19 : decode cX0_apart 19 = .ok (.iload 4, 2) := dk_21 4 (dk_at dksX0_apart_0 19 rfl rfl)
theorem dX0_apart_21 : decode cX0_apart 21 = .ok (.iaload, 1) := dk_46 (dk_at dksX0_apart_0 21 rfl rfl)
theorem dX0_apart_22 : decode cX0_apart 22 = .ok (.i2l, 1) := dk_133 (dk_at dksX0_apart_0 22 rfl rfl)
theorem dX0_apart_23 : decode cX0_apart 23 = .ok (.aload_n 0, 1) := dk_42 (dk_at dksX0_apart_0 23 rfl rfl)
theorem dX0_apart_24 : decode cX0_apart 24 = .ok (.getfield 41, 3) := dk_180 0 41 (dk_at dksX0_apart_1 0 rfl rfl)
theorem dX0_apart_27 : decode cX0_apart 27 = .ok (.iload_n 1, 1) := dk_27 (dk_at dksX0_apart_1 3 rfl rfl)
theorem dX0_apart_28 : decode cX0_apart 28 = .ok (.iaload, 1) := dk_46 (dk_at dksX0_apart_1 4 rfl rfl)
theorem dX0_apart_29 : decode cX0_apart 29 = .ok (.i2l, 1) := dk_133 (dk_at dksX0_apart_1 5 rfl rfl)
theorem dX0_apart_30 : decode cX0_apart 30 = .ok (.lmul, 1) := dk_105 (dk_at dksX0_apart_1 6 rfl rfl)
theorem dX0_apart_31 : decode cX0_apart 31 = .ok (.aload_n 0, 1) := dk_42 (dk_at dksX0_apart_1 7 rfl rfl)
theorem dX0_apart_32 : decode cX0_apart 32 = .ok (.iload 4, 2) := dk_21 4 (dk_at dksX0_apart_1 8 rfl rfl)
theorem dX0_apart_34 : decode cX0_apart 34 = .ok (.iload_n 1, 1) := dk_27 (dk_at dksX0_apart_1 10 rfl rfl)
theorem dX0_apart_35 : decode cX0_apart 35 = .ok (.invokevirtual 163, 3) := dk_182 0 163 (dk_at dksX0_apart_1 11 rfl rfl)
theorem dX0_apart_38 : decode cX0_apart 38 = .ok (.i2l, 1) := dk_133 (dk_at dksX0_apart_1 14 rfl rfl)
theorem dX0_apart_39 : decode cX0_apart 39 = .ok (.aload_n 0, 1) := dk_42 (dk_at dksX0_apart_1 15 rfl rfl)
theorem dX0_apart_40 : decode cX0_apart 40 = .ok (.getfield 266, 3) := dk_180 1 10 (dk_at dksX0_apart_1 16 rfl rfl)
theorem dX0_apart_43 : decode cX0_apart 43 = .ok (.i2l, 1) := dk_133 (dk_at dksX0_apart_1 19 rfl rfl)
theorem dX0_apart_44 : decode cX0_apart 44 = .ok (.lmul, 1) := dk_105 (dk_at dksX0_apart_1 20 rfl rfl)
theorem dX0_apart_45 : decode cX0_apart 45 = .ok (.lsub, 1) := dk_101 (dk_at dksX0_apart_1 21 rfl rfl)
theorem dX0_apart_46 : decode cX0_apart 46 = .ok (.invokestatic 1, 3) := dk_184 0 1 (dk_at dksX0_apart_2 0 rfl rfl)
theorem dX0_apart_49 : decode cX0_apart 49 = .ok (.ladd, 1) := dk_97 (dk_at dksX0_apart_2 3 rfl rfl)
theorem dX0_apart_50 : decode cX0_apart 50 = .ok (.lstore_n 2, 1) := dk_65 (dk_at dksX0_apart_2 4 rfl rfl)
theorem dX0_apart_51 : decode cX0_apart 51 = .ok (.iinc 4 1, 3) := dk_132 4 1 (dk_at dksX0_apart_2 5 rfl rfl)
theorem dX0_apart_54 : decode cX0_apart 54 = .ok (.goto (-49), 3) := dk_167 255 207 (dk_at dksX0_apart_2 8 rfl rfl)
theorem dX0_apart_57 : decode cX0_apart 57 = .ok (.lload_n 2, 1) := dk_32 (dk_at dksX0_apart_2 11 rfl rfl)
theorem dX0_apart_58 : decode cX0_apart 58 = .ok (.lreturn, 1) := dk_173 (dk_at dksX0_apart_2 12 rfl rfl)
abbrev cX0_truest : ByteArray := prog_1_method_45_code
def yX0_truest : MethodName := ⟨RX0, "truest", "(IIII)I"⟩
def dkwX0_truest_5 : List UInt8 := [132, 10, 1, 167, 255, 184, 21, 5, 172]
abbrev dktX0_truest_5 : List UInt8 := dkwX0_truest_5 ++ []
def dkwX0_truest_4 : List UInt8 := [180, 1, 10, 133, 105, 148, 156, 0, 18, 21, 10, 54, 5, 22, 11, 55, 6, 42, 180, 1, 10, 133, 55, 8]
abbrev dktX0_truest_4 : List UInt8 := dkwX0_truest_4 ++ dktX0_truest_5
def dkwX0_truest_3 : List UInt8 := [55, 11, 42, 180, 1, 10, 158, 0, 42, 21, 5, 16, 252, 159, 0, 20, 22, 11, 22, 8, 105, 22, 6, 42]
abbrev dktX0_truest_3 : List UInt8 := dkwX0_truest_3 ++ dktX0_truest_4
def dkwX0_truest_2 : List UInt8 := [54, 10, 21, 10, 29, 163, 0, 72, 42, 27, 21, 10, 3, 21, 4, 182, 1, 22, 42, 27, 182, 1, 32]
abbrev dktX0_truest_2 : List UInt8 := dkwX0_truest_2 ++ dktX0_truest_3
def dkwX0_truest_1 : List UInt8 := [100, 184, 0, 225, 133, 184, 0, 21, 154, 0, 5, 2, 172, 16, 252, 54, 5, 9, 55, 6, 10, 55, 8, 28]
abbrev dktX0_truest_1 : List UInt8 := dkwX0_truest_1 ++ dktX0_truest_2
def dkwX0_truest_0 : List UInt8 := [27, 28, 3, 21, 4, 184, 1, 18, 153, 0, 27, 29, 133, 28, 133, 17, 39, 15, 28, 17, 0, 200, 96, 4]
abbrev dktX0_truest_0 : List UInt8 := dkwX0_truest_0 ++ dktX0_truest_1
theorem dksX0_truest_0 : cX0_truest.data.toList.drop 0 = dktX0_truest_0 := by decide +kernel
theorem dksX0_truest_1 : cX0_truest.data.toList.drop 24 = dktX0_truest_1 := dk_seg dksX0_truest_0 24 rfl rfl
theorem dksX0_truest_2 : cX0_truest.data.toList.drop 48 = dktX0_truest_2 := dk_seg dksX0_truest_1 24 rfl rfl
theorem dksX0_truest_3 : cX0_truest.data.toList.drop 71 = dktX0_truest_3 := dk_seg dksX0_truest_2 23 rfl rfl
theorem dksX0_truest_4 : cX0_truest.data.toList.drop 95 = dktX0_truest_4 := dk_seg dksX0_truest_3 24 rfl rfl
theorem dksX0_truest_5 : cX0_truest.data.toList.drop 119 = dktX0_truest_5 := dk_seg dksX0_truest_4 24 rfl rfl
theorem dX0_truest_0 : decode cX0_truest 0 = .ok (.iload_n 1, 1) := dk_27 (dk_at dksX0_truest_0 0 rfl rfl)
theorem dX0_truest_1 : decode cX0_truest 1 = .ok (.iload_n 2, 1) := dk_28 (dk_at dksX0_truest_0 1 rfl rfl)
theorem dX0_truest_2 : decode cX0_truest 2 = .ok (.iconst 0, 1) := dk_3 (dk_at dksX0_truest_0 2 rfl rfl)
theorem dX0_truest_3 : decode cX0_truest 3 = .ok (.iload 4, 2) := dk_21 4 (dk_at dksX0_truest_0 3 rfl rfl)
theorem dX0_truest_5 : decode cX0_truest 5 = .ok (.invokestatic 274, 3) := dk_184 1 18 (dk_at dksX0_truest_0 5 rfl rfl)
theorem dX0_truest_8 : decode cX0_truest 8 = .ok (.ifCond .eq 27, 3) := dk_153 0 27 (dk_at dksX0_truest_0 8 rfl rfl)
theorem dX0_truest_11 : decode cX0_truest 11 = .ok (.iload_n 3, 1) := dk_29 (dk_at dksX0_truest_0 11 rfl rfl)
theorem dX0_truest_12 : decode cX0_truest 12 = .ok (.i2l, 1) := dk_133 (dk_at dksX0_truest_0 12 rfl rfl)
theorem dX0_truest_13 : decode cX0_truest 13 = .ok (.iload_n 2, 1) := dk_28 (dk_at dksX0_truest_0 13 rfl rfl)
theorem dX0_truest_14 : decode cX0_truest 14 = .ok (.i2l, 1) := dk_133 (dk_at dksX0_truest_0 14 rfl rfl)
theorem dX0_truest_15 : decode cX0_truest 15 = .ok (.sipush 9999, 3) := dk_17 39 15 (dk_at dksX0_truest_0 15 rfl rfl)
theorem dX0_truest_18 : decode cX0_truest 18 = .ok (.iload_n 2, 1) := dk_28 (dk_at dksX0_truest_0 18 rfl rfl)
theorem dX0_truest_19 : decode cX0_truest 19 = .ok (.sipush 200, 3) := dk_17 0 200 (dk_at dksX0_truest_0 19 rfl rfl)
theorem dX0_truest_22 : decode cX0_truest 22 = .ok (.iadd, 1) := dk_96 (dk_at dksX0_truest_0 22 rfl rfl)
theorem dX0_truest_23 : decode cX0_truest 23 = .ok (.iconst 1, 1) := dk_4 (dk_at dksX0_truest_0 23 rfl rfl)
theorem dX0_truest_24 : decode cX0_truest 24 = .ok (.isub, 1) := dk_100 (dk_at dksX0_truest_1 0 rfl rfl)
theorem dX0_truest_25 : decode cX0_truest 25 = .ok (.invokestatic 225, 3) := dk_184 0 225 (dk_at dksX0_truest_1 1 rfl rfl)
theorem dX0_truest_28 : decode cX0_truest 28 = .ok (.i2l, 1) := dk_133 (dk_at dksX0_truest_1 4 rfl rfl)
theorem dX0_truest_29 : decode cX0_truest 29 = .ok (.invokestatic 21, 3) := dk_184 0 21 (dk_at dksX0_truest_1 5 rfl rfl)
theorem dX0_truest_32 : decode cX0_truest 32 = .ok (.ifCond .ne 5, 3) := dk_154 0 5 (dk_at dksX0_truest_1 8 rfl rfl)
theorem dX0_truest_35 : decode cX0_truest 35 = .ok (.iconst (-1), 1) := dk_2 (dk_at dksX0_truest_1 11 rfl rfl)
theorem dX0_truest_36 : decode cX0_truest 36 = .ok (.ireturn, 1) := dk_172 (dk_at dksX0_truest_1 12 rfl rfl)
theorem dX0_truest_37 : decode cX0_truest 37 = .ok (.bipush (-4), 2) := dk_16 252 (dk_at dksX0_truest_1 13 rfl rfl)
theorem dX0_truest_39 : decode cX0_truest 39 = .ok (.istore 5, 2) := dk_54 5 (dk_at dksX0_truest_1 15 rfl rfl)
theorem dX0_truest_41 : decode cX0_truest 41 = .ok (.lconst 0, 1) := dk_9 (dk_at dksX0_truest_1 17 rfl rfl)
theorem dX0_truest_42 : decode cX0_truest 42 = .ok (.lstore 6, 2) := dk_55 6 (dk_at dksX0_truest_1 18 rfl rfl)
theorem dX0_truest_44 : decode cX0_truest 44 = .ok (.lconst 1, 1) := dk_10 (dk_at dksX0_truest_1 20 rfl rfl)
theorem dX0_truest_45 : decode cX0_truest 45 = .ok (.lstore 8, 2) := dk_55 8 (dk_at dksX0_truest_1 21 rfl rfl)
theorem dX0_truest_47 : decode cX0_truest 47 = .ok (.iload_n 2, 1) := dk_28 (dk_at dksX0_truest_1 23 rfl rfl)
theorem dX0_truest_48 : decode cX0_truest 48 = .ok (.istore 10, 2) := dk_54 10 (dk_at dksX0_truest_2 0 rfl rfl)
theorem dX0_truest_50 : decode cX0_truest 50 = .ok (.iload 10, 2) := dk_21 10 (dk_at dksX0_truest_2 2 rfl rfl)
theorem dX0_truest_52 : decode cX0_truest 52 = .ok (.iload_n 3, 1) := dk_29 (dk_at dksX0_truest_2 4 rfl rfl)
theorem dX0_truest_53 : decode cX0_truest 53 = .ok (.if_icmp .gt 72, 3) := dk_163 0 72 (dk_at dksX0_truest_2 5 rfl rfl)
theorem dX0_truest_56 : decode cX0_truest 56 = .ok (.aload_n 0, 1) := dk_42 (dk_at dksX0_truest_2 8 rfl rfl)
theorem dX0_truest_57 : decode cX0_truest 57 = .ok (.iload_n 1, 1) := dk_27 (dk_at dksX0_truest_2 9 rfl rfl)
theorem dX0_truest_58 : decode cX0_truest 58 = .ok (.iload 10, 2) := dk_21 10 (dk_at dksX0_truest_2 10 rfl rfl)
theorem dX0_truest_60 : decode cX0_truest 60 = .ok (.iconst 0, 1) := dk_3 (dk_at dksX0_truest_2 12 rfl rfl)
theorem dX0_truest_61 : decode cX0_truest 61 = .ok (.iload 4, 2) := dk_21 4 (dk_at dksX0_truest_2 13 rfl rfl)
theorem dX0_truest_63 : decode cX0_truest 63 = .ok (.invokevirtual 278, 3) := dk_182 1 22 (dk_at dksX0_truest_2 15 rfl rfl)
theorem dX0_truest_66 : decode cX0_truest 66 = .ok (.aload_n 0, 1) := dk_42 (dk_at dksX0_truest_2 18 rfl rfl)
theorem dX0_truest_67 : decode cX0_truest 67 = .ok (.iload_n 1, 1) := dk_27 (dk_at dksX0_truest_2 19 rfl rfl)
theorem dX0_truest_68 : decode cX0_truest 68 = .ok (.invokevirtual 288, 3) := dk_182 1 32 (dk_at dksX0_truest_2 20 rfl rfl)
theorem dX0_truest_71 : decode cX0_truest 71 = .ok (.lstore 11, 2) := dk_55 11 (dk_at dksX0_truest_3 0 rfl rfl)
theorem dX0_truest_73 : decode cX0_truest 73 = .ok (.aload_n 0, 1) := dk_42 (dk_at dksX0_truest_3 2 rfl rfl)
theorem dX0_truest_74 : decode cX0_truest 74 = .ok (.getfield 266, 3) := dk_180 1 10 (dk_at dksX0_truest_3 3 rfl rfl)
theorem dX0_truest_77 : decode cX0_truest 77 = .ok (.ifCond .le 42, 3) := dk_158 0 42 (dk_at dksX0_truest_3 6 rfl rfl)
theorem dX0_truest_80 : decode cX0_truest 80 = .ok (.iload 5, 2) := dk_21 5 (dk_at dksX0_truest_3 9 rfl rfl)
theorem dX0_truest_82 : decode cX0_truest 82 = .ok (.bipush (-4), 2) := dk_16 252 (dk_at dksX0_truest_3 11 rfl rfl)
theorem dX0_truest_84 : decode cX0_truest 84 = .ok (.if_icmp .eq 20, 3) := dk_159 0 20 (dk_at dksX0_truest_3 13 rfl rfl)
theorem dX0_truest_87 : decode cX0_truest 87 = .ok (.lload 11, 2) := dk_22 11 (dk_at dksX0_truest_3 16 rfl rfl)
theorem dX0_truest_89 : decode cX0_truest 89 = .ok (.lload 8, 2) := dk_22 8 (dk_at dksX0_truest_3 18 rfl rfl)
theorem dX0_truest_91 : decode cX0_truest 91 = .ok (.lmul, 1) := dk_105 (dk_at dksX0_truest_3 20 rfl rfl)
theorem dX0_truest_92 : decode cX0_truest 92 = .ok (.lload 6, 2) := dk_22 6 (dk_at dksX0_truest_3 21 rfl rfl)
theorem dX0_truest_94 : decode cX0_truest 94 = .ok (.aload_n 0, 1) := dk_42 (dk_at dksX0_truest_3 23 rfl rfl)
theorem dX0_truest_95 : decode cX0_truest 95 = .ok (.getfield 266, 3) := dk_180 1 10 (dk_at dksX0_truest_4 0 rfl rfl)
theorem dX0_truest_98 : decode cX0_truest 98 = .ok (.i2l, 1) := dk_133 (dk_at dksX0_truest_4 3 rfl rfl)
theorem dX0_truest_99 : decode cX0_truest 99 = .ok (.lmul, 1) := dk_105 (dk_at dksX0_truest_4 4 rfl rfl)
theorem dX0_truest_100 : decode cX0_truest 100 = .ok (.lcmp, 1) := dk_148 (dk_at dksX0_truest_4 5 rfl rfl)
theorem dX0_truest_101 : decode cX0_truest 101 = .ok (.ifCond .ge 18, 3) := dk_156 0 18 (dk_at dksX0_truest_4 6 rfl rfl)
theorem dX0_truest_104 : decode cX0_truest 104 = .ok (.iload 10, 2) := dk_21 10 (dk_at dksX0_truest_4 9 rfl rfl)
theorem dX0_truest_106 : decode cX0_truest 106 = .ok (.istore 5, 2) := dk_54 5 (dk_at dksX0_truest_4 11 rfl rfl)
theorem dX0_truest_108 : decode cX0_truest 108 = .ok (.lload 11, 2) := dk_22 11 (dk_at dksX0_truest_4 13 rfl rfl)
theorem dX0_truest_110 : decode cX0_truest 110 = .ok (.lstore 6, 2) := dk_55 6 (dk_at dksX0_truest_4 15 rfl rfl)
theorem dX0_truest_112 : decode cX0_truest 112 = .ok (.aload_n 0, 1) := dk_42 (dk_at dksX0_truest_4 17 rfl rfl)
theorem dX0_truest_113 : decode cX0_truest 113 = .ok (.getfield 266, 3) := dk_180 1 10 (dk_at dksX0_truest_4 18 rfl rfl)
theorem dX0_truest_116 : decode cX0_truest 116 = .ok (.i2l, 1) := dk_133 (dk_at dksX0_truest_4 21 rfl rfl)
theorem dX0_truest_117 : decode cX0_truest 117 = .ok (.lstore 8, 2) := dk_55 8 (dk_at dksX0_truest_4 22 rfl rfl)
theorem dX0_truest_119 : decode cX0_truest 119 = .ok (.iinc 10 1, 3) := dk_132 10 1 (dk_at dksX0_truest_5 0 rfl rfl)
theorem dX0_truest_122 : decode cX0_truest 122 = .ok (.goto (-72), 3) := dk_167 255 184 (dk_at dksX0_truest_5 3 rfl rfl)
theorem dX0_truest_125 : decode cX0_truest 125 = .ok (.iload 5, 2) := dk_21 5 (dk_at dksX0_truest_5 6 rfl rfl)
theorem dX0_truest_127 : decode cX0_truest 127 = .ok (.ireturn, 1) := dk_172 (dk_at dksX0_truest_5 8 rfl rfl)
abbrev cX0_beats : ByteArray := prog_1_method_46_code
def yX0_beats : MethodName := ⟨RX0, "beats", "(IIII)I"⟩
def dkwX0_beats_9 : List UInt8 := [28, 21, 6, 108, 172]
abbrev dktX0_beats_9 : List UInt8 := dkwX0_beats_9 ++ []
def dkwX0_beats_8 : List UInt8 := [154, 0, 8, 21, 8, 167, 0, 23, 21, 4, 4, 160, 0, 13, 21, 9, 21, 8, 2, 130, 126, 167, 0, 7]
abbrev dktX0_beats_8 : List UInt8 := dkwX0_beats_8 ++ dktX0_beats_9
def dkwX0_beats_7 : List UInt8 := [167, 0, 4, 3, 128, 54, 9, 21, 10, 21, 12, 96, 54, 10, 132, 11, 1, 167, 255, 148, 21, 4]
abbrev dktX0_beats_7 : List UInt8 := dkwX0_beats_7 ++ dktX0_beats_8
def dkwX0_beats_6 : List UInt8 := [120, 167, 0, 4, 3, 128, 54, 8, 21, 9, 21, 12, 158, 0, 15, 4, 42, 180, 0, 25, 21, 11, 46, 120]
abbrev dktX0_beats_6 : List UInt8 := dkwX0_beats_6 ++ dktX0_beats_7
def dkwX0_beats_5 : List UInt8 := [112, 96, 54, 13, 21, 8, 21, 13, 21, 10, 21, 12, 96, 162, 0, 15, 4, 42, 180, 0, 25, 21, 11, 46]
abbrev dktX0_beats_5 : List UInt8 := dkwX0_beats_5 ++ dktX0_beats_6
def dkwX0_beats_4 : List UInt8 := [46, 50, 180, 0, 63, 27, 46, 54, 12, 21, 10, 21, 7, 21, 10, 100, 21, 6, 112, 21, 6, 96, 21, 6]
abbrev dktX0_beats_4 : List UInt8 := dkwX0_beats_4 ++ dktX0_beats_5
def dkwX0_beats_3 : List UInt8 := [54, 10, 3, 54, 11, 21, 11, 42, 180, 0, 35, 162, 0, 105, 42, 180, 0, 53, 42, 180, 0, 25, 21, 11]
abbrev dktX0_beats_3 : List UInt8 := dkwX0_beats_3 ++ dktX0_beats_4
def dkwX0_beats_2 : List UInt8 := [136, 54, 6, 21, 6, 4, 100, 29, 21, 6, 112, 100, 21, 6, 112, 54, 7, 3, 54, 8, 3, 54, 9, 3]
abbrev dktX0_beats_2 : List UInt8 := dkwX0_beats_2 ++ dktX0_beats_3
def dkwX0_beats_1 : List UInt8 := [172, 42, 180, 0, 41, 27, 46, 54, 5, 21, 5, 154, 0, 5, 3, 172, 21, 5, 133, 28, 133, 184, 0, 7]
abbrev dktX0_beats_1 : List UInt8 := dkwX0_beats_1 ++ dktX0_beats_2
def dkwX0_beats_0 : List UInt8 := [27, 28, 29, 3, 184, 1, 18, 153, 0, 16, 21, 4, 133, 9, 20, 0, 201, 184, 0, 21, 154, 0, 5, 2]
abbrev dktX0_beats_0 : List UInt8 := dkwX0_beats_0 ++ dktX0_beats_1
theorem dksX0_beats_0 : cX0_beats.data.toList.drop 0 = dktX0_beats_0 := by decide +kernel
theorem dksX0_beats_1 : cX0_beats.data.toList.drop 24 = dktX0_beats_1 := dk_seg dksX0_beats_0 24 rfl rfl
theorem dksX0_beats_2 : cX0_beats.data.toList.drop 48 = dktX0_beats_2 := dk_seg dksX0_beats_1 24 rfl rfl
theorem dksX0_beats_3 : cX0_beats.data.toList.drop 72 = dktX0_beats_3 := dk_seg dksX0_beats_2 24 rfl rfl
theorem dksX0_beats_4 : cX0_beats.data.toList.drop 96 = dktX0_beats_4 := dk_seg dksX0_beats_3 24 rfl rfl
theorem dksX0_beats_5 : cX0_beats.data.toList.drop 120 = dktX0_beats_5 := dk_seg dksX0_beats_4 24 rfl rfl
theorem dksX0_beats_6 : cX0_beats.data.toList.drop 144 = dktX0_beats_6 := dk_seg dksX0_beats_5 24 rfl rfl
theorem dksX0_beats_7 : cX0_beats.data.toList.drop 168 = dktX0_beats_7 := dk_seg dksX0_beats_6 24 rfl rfl
theorem dksX0_beats_8 : cX0_beats.data.toList.drop 190 = dktX0_beats_8 := dk_seg dksX0_beats_7 22 rfl rfl
theorem dksX0_beats_9 : cX0_beats.data.toList.drop 214 = dktX0_beats_9 := dk_seg dksX0_beats_8 24 rfl rfl
theorem dX0_beats_0 : decode cX0_beats 0 = .ok (.iload_n 1, 1) := dk_27 (dk_at dksX0_beats_0 0 rfl rfl)
theorem dX0_beats_1 : decode cX0_beats 1 = .ok (.iload_n 2, 1) := dk_28 (dk_at dksX0_beats_0 1 rfl rfl)
theorem dX0_beats_2 : decode cX0_beats 2 = .ok (.iload_n 3, 1) := dk_29 (dk_at dksX0_beats_0 2 rfl rfl)
theorem dX0_beats_3 : decode cX0_beats 3 = .ok (.iconst 0, 1) := dk_3 (dk_at dksX0_beats_0 3 rfl rfl)
theorem dX0_beats_4 : decode cX0_beats 4 = .ok (.invokestatic 274, 3) := dk_184 1 18 (dk_at dksX0_beats_0 4 rfl rfl)
theorem dX0_beats_7 : decode cX0_beats 7 = .ok (.ifCond .eq 16, 3) := dk_153 0 16 (dk_at dksX0_beats_0 7 rfl rfl)
theorem dX0_beats_10 : decode cX0_beats 10 = .ok (.iload 4, 2) := dk_21 4 (dk_at dksX0_beats_0 10 rfl rfl)
theorem dX0_beats_12 : decode cX0_beats 12 = .ok (.i2l, 1) := dk_133 (dk_at dksX0_beats_0 12 rfl rfl)
theorem dX0_beats_13 : decode cX0_beats 13 = .ok (.lconst 0, 1) := dk_9 (dk_at dksX0_beats_0 13 rfl rfl)
theorem dX0_beats_14 : decode cX0_beats 14 = .ok (.ldc2_w 201, 3) := dk_20 0 201 (dk_at dksX0_beats_0 14 rfl rfl)
theorem dX0_beats_17 : decode cX0_beats 17 = .ok (.invokestatic 21, 3) := dk_184 0 21 (dk_at dksX0_beats_0 17 rfl rfl)
theorem dX0_beats_20 : decode cX0_beats 20 = .ok (.ifCond .ne 5, 3) := dk_154 0 5 (dk_at dksX0_beats_0 20 rfl rfl)
theorem dX0_beats_23 : decode cX0_beats 23 = .ok (.iconst (-1), 1) := dk_2 (dk_at dksX0_beats_0 23 rfl rfl)
theorem dX0_beats_24 : decode cX0_beats 24 = .ok (.ireturn, 1) := dk_172 (dk_at dksX0_beats_1 0 rfl rfl)
theorem dX0_beats_25 : decode cX0_beats 25 = .ok (.aload_n 0, 1) := dk_42 (dk_at dksX0_beats_1 1 rfl rfl)
theorem dX0_beats_26 : decode cX0_beats 26 = .ok (.getfield 41, 3) := dk_180 0 41 (dk_at dksX0_beats_1 2 rfl rfl)
theorem dX0_beats_29 : decode cX0_beats 29 = .ok (.iload_n 1, 1) := dk_27 (dk_at dksX0_beats_1 5 rfl rfl)
theorem dX0_beats_30 : decode cX0_beats 30 = .ok (.iaload, 1) := dk_46 (dk_at dksX0_beats_1 6 rfl rfl)
theorem dX0_beats_31 : decode cX0_beats 31 = .ok (.istore 5, 2) := dk_54 5 (dk_at dksX0_beats_1 7 rfl rfl)
theorem dX0_beats_33 : decode cX0_beats 33 = .ok (.iload 5, 2) := dk_21 5 (dk_at dksX0_beats_1 9 rfl rfl)
theorem dX0_beats_35 : decode cX0_beats 35 = .ok (.ifCond .ne 5, 3) := dk_154 0 5 (dk_at dksX0_beats_1 11 rfl rfl)
theorem dX0_beats_38 : decode cX0_beats 38 = .ok (.iconst 0, 1) := dk_3 (dk_at dksX0_beats_1 14 rfl rfl)
theorem dX0_beats_39 : decode cX0_beats 39 = .ok (.ireturn, 1) := dk_172 (dk_at dksX0_beats_1 15 rfl rfl)
theorem dX0_beats_40 : decode cX0_beats 40 = .ok (.iload 5, 2) := dk_21 5 (dk_at dksX0_beats_1 16 rfl rfl)
theorem dX0_beats_42 : decode cX0_beats 42 = .ok (.i2l, 1) := dk_133 (dk_at dksX0_beats_1 18 rfl rfl)
theorem dX0_beats_43 : decode cX0_beats 43 = .ok (.iload_n 2, 1) := dk_28 (dk_at dksX0_beats_1 19 rfl rfl)
theorem dX0_beats_44 : decode cX0_beats 44 = .ok (.i2l, 1) := dk_133 (dk_at dksX0_beats_1 20 rfl rfl)
theorem dX0_beats_45 : decode cX0_beats 45 = .ok (.invokestatic 7, 3) := dk_184 0 7 (dk_at dksX0_beats_1 21 rfl rfl)
theorem dX0_beats_48 : decode cX0_beats 48 = .ok (.l2i, 1) := dk_136 (dk_at dksX0_beats_2 0 rfl rfl)
theorem dX0_beats_49 : decode cX0_beats 49 = .ok (.istore 6, 2) := dk_54 6 (dk_at dksX0_beats_2 1 rfl rfl)
theorem dX0_beats_51 : decode cX0_beats 51 = .ok (.iload 6, 2) := dk_21 6 (dk_at dksX0_beats_2 3 rfl rfl)
theorem dX0_beats_53 : decode cX0_beats 53 = .ok (.iconst 1, 1) := dk_4 (dk_at dksX0_beats_2 5 rfl rfl)
theorem dX0_beats_54 : decode cX0_beats 54 = .ok (.isub, 1) := dk_100 (dk_at dksX0_beats_2 6 rfl rfl)
theorem dX0_beats_55 : decode cX0_beats 55 = .ok (.iload_n 3, 1) := dk_29 (dk_at dksX0_beats_2 7 rfl rfl)
theorem dX0_beats_56 : decode cX0_beats 56 = .ok (.iload 6, 2) := dk_21 6 (dk_at dksX0_beats_2 8 rfl rfl)
theorem dX0_beats_58 : decode cX0_beats 58 = .ok (.irem, 1) := dk_112 (dk_at dksX0_beats_2 10 rfl rfl)
theorem dX0_beats_59 : decode cX0_beats 59 = .ok (.isub, 1) := dk_100 (dk_at dksX0_beats_2 11 rfl rfl)
theorem dX0_beats_60 : decode cX0_beats 60 = .ok (.iload 6, 2) := dk_21 6 (dk_at dksX0_beats_2 12 rfl rfl)
theorem dX0_beats_62 : decode cX0_beats 62 = .ok (.irem, 1) := dk_112 (dk_at dksX0_beats_2 14 rfl rfl)
theorem dX0_beats_63 : decode cX0_beats 63 = .ok (.istore 7, 2) := dk_54 7 (dk_at dksX0_beats_2 15 rfl rfl)
theorem dX0_beats_65 : decode cX0_beats 65 = .ok (.iconst 0, 1) := dk_3 (dk_at dksX0_beats_2 17 rfl rfl)
theorem dX0_beats_66 : decode cX0_beats 66 = .ok (.istore 8, 2) := dk_54 8 (dk_at dksX0_beats_2 18 rfl rfl)
theorem dX0_beats_68 : decode cX0_beats 68 = .ok (.iconst 0, 1) := dk_3 (dk_at dksX0_beats_2 20 rfl rfl)
theorem dX0_beats_69 : decode cX0_beats 69 = .ok (.istore 9, 2) := dk_54 9 (dk_at dksX0_beats_2 21 rfl rfl)
theorem dX0_beats_71 : decode cX0_beats 71 = .ok (.iconst 0, 1) := dk_3 (dk_at dksX0_beats_2 23 rfl rfl)
theorem dX0_beats_72 : decode cX0_beats 72 = .ok (.istore 10, 2) := dk_54 10 (dk_at dksX0_beats_3 0 rfl rfl)
theorem dX0_beats_74 : decode cX0_beats 74 = .ok (.iconst 0, 1) := dk_3 (dk_at dksX0_beats_3 2 rfl rfl)
theorem dX0_beats_75 : decode cX0_beats 75 = .ok (.istore 11, 2) := dk_54 11 (dk_at dksX0_beats_3 3 rfl rfl)
theorem dX0_beats_77 : decode cX0_beats 77 = .ok (.iload 11, 2) := dk_21 11 (dk_at dksX0_beats_3 5 rfl rfl)
theorem dX0_beats_79 : decode cX0_beats 79 = .ok (.aload_n 0, 1) := dk_42 (dk_at dksX0_beats_3 7 rfl rfl)
theorem dX0_beats_80 : decode cX0_beats 80 = .ok (.getfield 35, 3) := dk_180 0 35 (dk_at dksX0_beats_3 8 rfl rfl)
theorem dX0_beats_83 : decode cX0_beats 83 = .ok (.if_icmp .ge 105, 3) := dk_162 0 105 (dk_at dksX0_beats_3 11 rfl rfl)
theorem dX0_beats_86 : decode cX0_beats 86 = .ok (.aload_n 0, 1) := dk_42 (dk_at dksX0_beats_3 14 rfl rfl)
theorem dX0_beats_87 : decode cX0_beats 87 = .ok (.getfield 53, 3) := dk_180 0 53 (dk_at dksX0_beats_3 15 rfl rfl)
theorem dX0_beats_90 : decode cX0_beats 90 = .ok (.aload_n 0, 1) := dk_42 (dk_at dksX0_beats_3 18 rfl rfl)
theorem dX0_beats_91 : decode cX0_beats 91 = .ok (.getfield 25, 3) := dk_180 0 25 (dk_at dksX0_beats_3 19 rfl rfl)
theorem dX0_beats_94 : decode cX0_beats 94 = .ok (.iload 11, 2) := dk_21 11 (dk_at dksX0_beats_3 22 rfl rfl)
theorem dX0_beats_96 : decode cX0_beats 96 = .ok (.iaload, 1) := dk_46 (dk_at dksX0_beats_4 0 rfl rfl)
theorem dX0_beats_97 : decode cX0_beats 97 = .ok (.aaload, 1) := dk_50 (dk_at dksX0_beats_4 1 rfl rfl)
theorem dX0_beats_98 : decode cX0_beats 98 = .ok (.getfield 63, 3) := dk_180 0 63 (dk_at dksX0_beats_4 2 rfl rfl)
theorem dX0_beats_101 : decode cX0_beats 101 = .ok (.iload_n 1, 1) := dk_27 (dk_at dksX0_beats_4 5 rfl rfl)
theorem dX0_beats_102 : decode cX0_beats 102 = .ok (.iaload, 1) := dk_46 (dk_at dksX0_beats_4 6 rfl rfl)
theorem dX0_beats_103 : decode cX0_beats 103 = .ok (.istore 12, 2) := dk_54 12 (dk_at dksX0_beats_4 7 rfl rfl)
theorem dX0_beats_105 : decode cX0_beats 105 = .ok (.iload 10, 2) := dk_21 10 (dk_at dksX0_beats_4 9 rfl rfl)
theorem dX0_beats_107 : decode cX0_beats 107 = .ok (.iload 7, 2) := dk_21 7 (dk_at dksX0_beats_4 11 rfl rfl)
theorem dX0_beats_109 : decode cX0_beats 109 = .ok (.iload 10, 2) := dk_21 10 (dk_at dksX0_beats_4 13 rfl rfl)
theorem dX0_beats_111 : decode cX0_beats 111 = .ok (.isub, 1) := dk_100 (dk_at dksX0_beats_4 15 rfl rfl)
theorem dX0_beats_112 : decode cX0_beats 112 = .ok (.iload 6, 2) := dk_21 6 (dk_at dksX0_beats_4 16 rfl rfl)
theorem dX0_beats_114 : decode cX0_beats 114 = .ok (.irem, 1) := dk_112 (dk_at dksX0_beats_4 18 rfl rfl)
theorem dX0_beats_115 : decode cX0_beats 115 = .ok (.iload 6, 2) := dk_21 6 (dk_at dksX0_beats_4 19 rfl rfl)
theorem dX0_beats_117 : decode cX0_beats 117 = .ok (.iadd, 1) := dk_96 (dk_at dksX0_beats_4 21 rfl rfl)
theorem dX0_beats_118 : decode cX0_beats 118 = .ok (.iload 6, 2) := dk_21 6 (dk_at dksX0_beats_4 22 rfl rfl)
theorem dX0_beats_120 : decode cX0_beats 120 = .ok (.irem, 1) := dk_112 (dk_at dksX0_beats_5 0 rfl rfl)
theorem dX0_beats_121 : decode cX0_beats 121 = .ok (.iadd, 1) := dk_96 (dk_at dksX0_beats_5 1 rfl rfl)
theorem dX0_beats_122 : decode cX0_beats 122 = .ok (.istore 13, 2) := dk_54 13 (dk_at dksX0_beats_5 2 rfl rfl)
theorem dX0_beats_124 : decode cX0_beats 124 = .ok (.iload 8, 2) := dk_21 8 (dk_at dksX0_beats_5 4 rfl rfl)
theorem dX0_beats_126 : decode cX0_beats 126 = .ok (.iload 13, 2) := dk_21 13 (dk_at dksX0_beats_5 6 rfl rfl)
theorem dX0_beats_128 : decode cX0_beats 128 = .ok (.iload 10, 2) := dk_21 10 (dk_at dksX0_beats_5 8 rfl rfl)
theorem dX0_beats_130 : decode cX0_beats 130 = .ok (.iload 12, 2) := dk_21 12 (dk_at dksX0_beats_5 10 rfl rfl)
theorem dX0_beats_132 : decode cX0_beats 132 = .ok (.iadd, 1) := dk_96 (dk_at dksX0_beats_5 12 rfl rfl)
theorem dX0_beats_133 : decode cX0_beats 133 = .ok (.if_icmp .ge 15, 3) := dk_162 0 15 (dk_at dksX0_beats_5 13 rfl rfl)
theorem dX0_beats_136 : decode cX0_beats 136 = .ok (.iconst 1, 1) := dk_4 (dk_at dksX0_beats_5 16 rfl rfl)
theorem dX0_beats_137 : decode cX0_beats 137 = .ok (.aload_n 0, 1) := dk_42 (dk_at dksX0_beats_5 17 rfl rfl)
theorem dX0_beats_138 : decode cX0_beats 138 = .ok (.getfield 25, 3) := dk_180 0 25 (dk_at dksX0_beats_5 18 rfl rfl)
theorem dX0_beats_141 : decode cX0_beats 141 = .ok (.iload 11, 2) := dk_21 11 (dk_at dksX0_beats_5 21 rfl rfl)
theorem dX0_beats_143 : decode cX0_beats 143 = .ok (.iaload, 1) := dk_46 (dk_at dksX0_beats_5 23 rfl rfl)
theorem dX0_beats_144 : decode cX0_beats 144 = .ok (.ishl, 1) := dk_120 (dk_at dksX0_beats_6 0 rfl rfl)
theorem dX0_beats_145 : decode cX0_beats 145 = .ok (.goto 4, 3) := dk_167 0 4 (dk_at dksX0_beats_6 1 rfl rfl)
theorem dX0_beats_148 : decode cX0_beats 148 = .ok (.iconst 0, 1) := dk_3 (dk_at dksX0_beats_6 4 rfl rfl)
theorem dX0_beats_149 : decode cX0_beats 149 = .ok (.ior, 1) := dk_128 (dk_at dksX0_beats_6 5 rfl rfl)
theorem dX0_beats_150 : decode cX0_beats 150 = .ok (.istore 8, 2) := dk_54 8 (dk_at dksX0_beats_6 6 rfl rfl)
theorem dX0_beats_152 : decode cX0_beats 152 = .ok (.iload 9, 2) := dk_21 9 (dk_at dksX0_beats_6 8 rfl rfl)
theorem dX0_beats_154 : decode cX0_beats 154 = .ok (.iload 12, 2) := dk_21 12 (dk_at dksX0_beats_6 10 rfl rfl)
theorem dX0_beats_156 : decode cX0_beats 156 = .ok (.ifCond .le 15, 3) := dk_158 0 15 (dk_at dksX0_beats_6 12 rfl rfl)
theorem dX0_beats_159 : decode cX0_beats 159 = .ok (.iconst 1, 1) := dk_4 (dk_at dksX0_beats_6 15 rfl rfl)
theorem dX0_beats_160 : decode cX0_beats 160 = .ok (.aload_n 0, 1) := dk_42 (dk_at dksX0_beats_6 16 rfl rfl)
theorem dX0_beats_161 : decode cX0_beats 161 = .ok (.getfield 25, 3) := dk_180 0 25 (dk_at dksX0_beats_6 17 rfl rfl)
theorem dX0_beats_164 : decode cX0_beats 164 = .ok (.iload 11, 2) := dk_21 11 (dk_at dksX0_beats_6 20 rfl rfl)
theorem dX0_beats_166 : decode cX0_beats 166 = .ok (.iaload, 1) := dk_46 (dk_at dksX0_beats_6 22 rfl rfl)
theorem dX0_beats_167 : decode cX0_beats 167 = .ok (.ishl, 1) := dk_120 (dk_at dksX0_beats_6 23 rfl rfl)
theorem dX0_beats_168 : decode cX0_beats 168 = .ok (.goto 4, 3) := dk_167 0 4 (dk_at dksX0_beats_7 0 rfl rfl)
theorem dX0_beats_171 : decode cX0_beats 171 = .ok (.iconst 0, 1) := dk_3 (dk_at dksX0_beats_7 3 rfl rfl)
theorem dX0_beats_172 : decode cX0_beats 172 = .ok (.ior, 1) := dk_128 (dk_at dksX0_beats_7 4 rfl rfl)
theorem dX0_beats_173 : decode cX0_beats 173 = .ok (.istore 9, 2) := dk_54 9 (dk_at dksX0_beats_7 5 rfl rfl)
theorem dX0_beats_175 : decode cX0_beats 175 = .ok (.iload 10, 2) := dk_21 10 (dk_at dksX0_beats_7 7 rfl rfl)
theorem dX0_beats_177 : decode cX0_beats 177 = .ok (.iload 12, 2) := dk_21 12 (dk_at dksX0_beats_7 9 rfl rfl)
theorem dX0_beats_179 : decode cX0_beats 179 = .ok (.iadd, 1) := dk_96 (dk_at dksX0_beats_7 11 rfl rfl)
theorem dX0_beats_180 : decode cX0_beats 180 = .ok (.istore 10, 2) := dk_54 10 (dk_at dksX0_beats_7 12 rfl rfl)
theorem dX0_beats_182 : decode cX0_beats 182 = .ok (.iinc 11 1, 3) := dk_132 11 1 (dk_at dksX0_beats_7 14 rfl rfl)
theorem dX0_beats_185 : decode cX0_beats 185 = .ok (.goto (-108), 3) := dk_167 255 148 (dk_at dksX0_beats_7 17 rfl rfl)
theorem dX0_beats_188 : decode cX0_beats 188 = .ok (.iload 4, 2) := dk_21 4 (dk_at dksX0_beats_7 20 rfl rfl)
theorem dX0_beats_190 : decode cX0_beats 190 = .ok (.ifCond .ne 8, 3) := dk_154 0 8 (dk_at dksX0_beats_8 0 rfl rfl)
theorem dX0_beats_193 : decode cX0_beats 193 = .ok (.iload 8, 2) := dk_21 8 (dk_at dksX0_beats_8 3 rfl rfl)
theorem dX0_beats_195 : decode cX0_beats 195 = .ok (.goto 23, 3) := dk_167 0 23 (dk_at dksX0_beats_8 5 rfl rfl)
theorem dX0_beats_198 : decode cX0_beats 198 = .ok (.iload 4, 2) := dk_21 4 (dk_at dksX0_beats_8 8 rfl rfl)
theorem dX0_beats_200 : decode cX0_beats 200 = .ok (.iconst 1, 1) := dk_4 (dk_at dksX0_beats_8 10 rfl rfl)
theorem dX0_beats_201 : decode cX0_beats 201 = .ok (.if_icmp .ne 13, 3) := dk_160 0 13 (dk_at dksX0_beats_8 11 rfl rfl)
theorem dX0_beats_204 : decode cX0_beats 204 = .ok (.iload 9, 2) := dk_21 9 (dk_at dksX0_beats_8 14 rfl rfl)
theorem dX0_beats_206 : decode cX0_beats 206 = .ok (.iload 8, 2) := dk_21 8 (dk_at dksX0_beats_8 16 rfl rfl)
theorem dX0_beats_208 : decode cX0_beats 208 = .ok (.iconst (-1), 1) := dk_2 (dk_at dksX0_beats_8 18 rfl rfl)
theorem dX0_beats_209 : decode cX0_beats 209 = .ok (.ixor, 1) := dk_130 (dk_at dksX0_beats_8 19 rfl rfl)
theorem dX0_beats_210 : decode cX0_beats 210 = .ok (.iand, 1) := dk_126 (dk_at dksX0_beats_8 20 rfl rfl)
theorem dX0_beats_211 : decode cX0_beats 211 = .ok (.goto 7, 3) := dk_167 0 7 (dk_at dksX0_beats_8 21 rfl rfl)
theorem dX0_beats_214 : decode cX0_beats 214 = .ok (.iload_n 2, 1) := dk_28 (dk_at dksX0_beats_9 0 rfl rfl)
theorem dX0_beats_215 : decode cX0_beats 215 = .ok (.iload 6, 2) := dk_21 6 (dk_at dksX0_beats_9 1 rfl rfl)
theorem dX0_beats_217 : decode cX0_beats 217 = .ok (.idiv, 1) := dk_108 (dk_at dksX0_beats_9 3 rfl rfl)
theorem dX0_beats_218 : decode cX0_beats 218 = .ok (.ireturn, 1) := dk_172 (dk_at dksX0_beats_9 4 rfl rfl)
abbrev cX0_over : ByteArray := prog_1_method_48_code
def yX0_over : MethodName := ⟨RX0, "over", "(IIII)I"⟩
def dkwX0_over_3 : List UInt8 := [180, 0, 192, 120, 4, 100, 126, 167, 0, 15, 21, 5, 42, 180, 0, 183, 27, 50, 180, 0, 192, 122, 172]
abbrev dktX0_over_3 : List UInt8 := dkwX0_over_3 ++ []
def dkwX0_over_2 : List UInt8 := [180, 0, 41, 28, 46, 96, 54, 5, 21, 4, 154, 0, 22, 21, 5, 4, 42, 180, 0, 183, 27, 50]
abbrev dktX0_over_2 : List UInt8 := dkwX0_over_2 ++ dktX0_over_3
def dkwX0_over_1 : List UInt8 := [100, 133, 184, 0, 21, 153, 0, 14, 21, 4, 133, 9, 10, 184, 0, 21, 154, 0, 5, 2, 172, 29, 42]
abbrev dktX0_over_1 : List UInt8 := dkwX0_over_1 ++ dktX0_over_2
def dkwX0_over_0 : List UInt8 := [42, 27, 28, 182, 1, 35, 153, 0, 37, 29, 133, 9, 4, 42, 180, 0, 183, 27, 50, 180, 0, 192, 120, 4]
abbrev dktX0_over_0 : List UInt8 := dkwX0_over_0 ++ dktX0_over_1
theorem dksX0_over_0 : cX0_over.data.toList.drop 0 = dktX0_over_0 := by decide +kernel
theorem dksX0_over_1 : cX0_over.data.toList.drop 24 = dktX0_over_1 := dk_seg dksX0_over_0 24 rfl rfl
theorem dksX0_over_2 : cX0_over.data.toList.drop 47 = dktX0_over_2 := dk_seg dksX0_over_1 23 rfl rfl
theorem dksX0_over_3 : cX0_over.data.toList.drop 69 = dktX0_over_3 := dk_seg dksX0_over_2 22 rfl rfl
theorem dX0_over_0 : decode cX0_over 0 = .ok (.aload_n 0, 1) := dk_42 (dk_at dksX0_over_0 0 rfl rfl)
theorem dX0_over_1 : decode cX0_over 1 = .ok (.iload_n 1, 1) := dk_27 (dk_at dksX0_over_0 1 rfl rfl)
theorem dX0_over_2 : decode cX0_over 2 = .ok (.iload_n 2, 1) := dk_28 (dk_at dksX0_over_0 2 rfl rfl)
theorem dX0_over_3 : decode cX0_over 3 = .ok (.invokevirtual 291, 3) := dk_182 1 35 (dk_at dksX0_over_0 3 rfl rfl)
theorem dX0_over_6 : decode cX0_over 6 = .ok (.ifCond .eq 37, 3) := dk_153 0 37 (dk_at dksX0_over_0 6 rfl rfl)
theorem dX0_over_9 : decode cX0_over 9 = .ok (.iload_n 3, 1) := dk_29 (dk_at dksX0_over_0 9 rfl rfl)
theorem dX0_over_10 : decode cX0_over 10 = .ok (.i2l, 1) := dk_133 (dk_at dksX0_over_0 10 rfl rfl)
theorem dX0_over_11 : decode cX0_over 11 = .ok (.lconst 0, 1) := dk_9 (dk_at dksX0_over_0 11 rfl rfl)
theorem dX0_over_12 : decode cX0_over 12 = .ok (.iconst 1, 1) := dk_4 (dk_at dksX0_over_0 12 rfl rfl)
theorem dX0_over_13 : decode cX0_over 13 = .ok (.aload_n 0, 1) := dk_42 (dk_at dksX0_over_0 13 rfl rfl)
theorem dX0_over_14 : decode cX0_over 14 = .ok (.getfield 183, 3) := dk_180 0 183 (dk_at dksX0_over_0 14 rfl rfl)
theorem dX0_over_17 : decode cX0_over 17 = .ok (.iload_n 1, 1) := dk_27 (dk_at dksX0_over_0 17 rfl rfl)
theorem dX0_over_18 : decode cX0_over 18 = .ok (.aaload, 1) := dk_50 (dk_at dksX0_over_0 18 rfl rfl)
theorem dX0_over_19 : decode cX0_over 19 = .ok (.getfield 192, 3) := dk_180 0 192 (dk_at dksX0_over_0 19 rfl rfl)
theorem dX0_over_22 : decode cX0_over 22 = .ok (.ishl, 1) := dk_120 (dk_at dksX0_over_0 22 rfl rfl)
theorem dX0_over_23 : decode cX0_over 23 = .ok (.iconst 1, 1) := dk_4 (dk_at dksX0_over_0 23 rfl rfl)
theorem dX0_over_24 : decode cX0_over 24 = .ok (.isub, 1) := dk_100 (dk_at dksX0_over_1 0 rfl rfl)
theorem dX0_over_25 : decode cX0_over 25 = .ok (.i2l, 1) := dk_133 (dk_at dksX0_over_1 1 rfl rfl)
theorem dX0_over_26 : decode cX0_over 26 = .ok (.invokestatic 21, 3) := dk_184 0 21 (dk_at dksX0_over_1 2 rfl rfl)
theorem dX0_over_29 : decode cX0_over 29 = .ok (.ifCond .eq 14, 3) := dk_153 0 14 (dk_at dksX0_over_1 5 rfl rfl)
theorem dX0_over_32 : decode cX0_over 32 = .ok (.iload 4, 2) := dk_21 4 (dk_at dksX0_over_1 8 rfl rfl)
theorem dX0_over_34 : decode cX0_over 34 = .ok (.i2l, 1) := dk_133 (dk_at dksX0_over_1 10 rfl rfl)
theorem dX0_over_35 : decode cX0_over 35 = .ok (.lconst 0, 1) := dk_9 (dk_at dksX0_over_1 11 rfl rfl)
theorem dX0_over_36 : decode cX0_over 36 = .ok (.lconst 1, 1) := dk_10 (dk_at dksX0_over_1 12 rfl rfl)
theorem dX0_over_37 : decode cX0_over 37 = .ok (.invokestatic 21, 3) := dk_184 0 21 (dk_at dksX0_over_1 13 rfl rfl)
theorem dX0_over_40 : decode cX0_over 40 = .ok (.ifCond .ne 5, 3) := dk_154 0 5 (dk_at dksX0_over_1 16 rfl rfl)
theorem dX0_over_43 : decode cX0_over 43 = .ok (.iconst (-1), 1) := dk_2 (dk_at dksX0_over_1 19 rfl rfl)
theorem dX0_over_44 : decode cX0_over 44 = .ok (.ireturn, 1) := dk_172 (dk_at dksX0_over_1 20 rfl rfl)
theorem dX0_over_45 : decode cX0_over 45 = .ok (.iload_n 3, 1) := dk_29 (dk_at dksX0_over_1 21 rfl rfl)
theorem dX0_over_46 : decode cX0_over 46 = .ok (.aload_n 0, 1) := dk_42 (dk_at dksX0_over_1 22 rfl rfl)
theorem dX0_over_47 : decode cX0_over 47 = .ok (.getfield 41, 3) := dk_180 0 41 (dk_at dksX0_over_2 0 rfl rfl)
theorem dX0_over_50 : decode cX0_over 50 = .ok (.iload_n 2, 1) := dk_28 (dk_at dksX0_over_2 3 rfl rfl)
theorem dX0_over_51 : decode cX0_over 51 = .ok (.iaload, 1) := dk_46 (dk_at dksX0_over_2 4 rfl rfl)
theorem dX0_over_52 : decode cX0_over 52 = .ok (.iadd, 1) := dk_96 (dk_at dksX0_over_2 5 rfl rfl)
theorem dX0_over_53 : decode cX0_over 53 = .ok (.istore 5, 2) := dk_54 5 (dk_at dksX0_over_2 6 rfl rfl)
theorem dX0_over_55 : decode cX0_over 55 = .ok (.iload 4, 2) := dk_21 4 (dk_at dksX0_over_2 8 rfl rfl)
theorem dX0_over_57 : decode cX0_over 57 = .ok (.ifCond .ne 22, 3) := dk_154 0 22 (dk_at dksX0_over_2 10 rfl rfl)
theorem dX0_over_60 : decode cX0_over 60 = .ok (.iload 5, 2) := dk_21 5 (dk_at dksX0_over_2 13 rfl rfl)
theorem dX0_over_62 : decode cX0_over 62 = .ok (.iconst 1, 1) := dk_4 (dk_at dksX0_over_2 15 rfl rfl)
theorem dX0_over_63 : decode cX0_over 63 = .ok (.aload_n 0, 1) := dk_42 (dk_at dksX0_over_2 16 rfl rfl)
theorem dX0_over_64 : decode cX0_over 64 = .ok (.getfield 183, 3) := dk_180 0 183 (dk_at dksX0_over_2 17 rfl rfl)
theorem dX0_over_67 : decode cX0_over 67 = .ok (.iload_n 1, 1) := dk_27 (dk_at dksX0_over_2 20 rfl rfl)
theorem dX0_over_68 : decode cX0_over 68 = .ok (.aaload, 1) := dk_50 (dk_at dksX0_over_2 21 rfl rfl)
theorem dX0_over_69 : decode cX0_over 69 = .ok (.getfield 192, 3) := dk_180 0 192 (dk_at dksX0_over_3 0 rfl rfl)
theorem dX0_over_72 : decode cX0_over 72 = .ok (.ishl, 1) := dk_120 (dk_at dksX0_over_3 3 rfl rfl)
theorem dX0_over_73 : decode cX0_over 73 = .ok (.iconst 1, 1) := dk_4 (dk_at dksX0_over_3 4 rfl rfl)
theorem dX0_over_74 : decode cX0_over 74 = .ok (.isub, 1) := dk_100 (dk_at dksX0_over_3 5 rfl rfl)
theorem dX0_over_75 : decode cX0_over 75 = .ok (.iand, 1) := dk_126 (dk_at dksX0_over_3 6 rfl rfl)
theorem dX0_over_76 : decode cX0_over 76 = .ok (.goto 15, 3) := dk_167 0 15 (dk_at dksX0_over_3 7 rfl rfl)
theorem dX0_over_79 : decode cX0_over 79 = .ok (.iload 5, 2) := dk_21 5 (dk_at dksX0_over_3 10 rfl rfl)
theorem dX0_over_81 : decode cX0_over 81 = .ok (.aload_n 0, 1) := dk_42 (dk_at dksX0_over_3 12 rfl rfl)
theorem dX0_over_82 : decode cX0_over 82 = .ok (.getfield 183, 3) := dk_180 0 183 (dk_at dksX0_over_3 13 rfl rfl)
theorem dX0_over_85 : decode cX0_over 85 = .ok (.iload_n 1, 1) := dk_27 (dk_at dksX0_over_3 16 rfl rfl)
theorem dX0_over_86 : decode cX0_over 86 = .ok (.aaload, 1) := dk_50 (dk_at dksX0_over_3 17 rfl rfl)
theorem dX0_over_87 : decode cX0_over 87 = .ok (.getfield 192, 3) := dk_180 0 192 (dk_at dksX0_over_3 18 rfl rfl)
theorem dX0_over_90 : decode cX0_over 90 = .ok (.ishr, 1) := dk_122 (dk_at dksX0_over_3 21 rfl rfl)
theorem dX0_over_91 : decode cX0_over 91 = .ok (.ireturn, 1) := dk_172 (dk_at dksX0_over_3 22 rfl rfl)
abbrev cX0_canCount : ByteArray := prog_1_method_47_code
def yX0_canCount : MethodName := ⟨RX0, "canCount", "(II)Z"⟩
def dkwX0_canCount_1 : List UInt8 := [182, 0, 208, 153, 0, 7, 4, 167, 0, 4, 3, 172]
abbrev dktX0_canCount_1 : List UInt8 := dkwX0_canCount_1 ++ []
def dkwX0_canCount_0 : List UInt8 := [42, 27, 182, 0, 195, 153, 0, 27, 28, 184, 0, 125, 153, 0, 20, 42, 180, 0, 183, 27, 50, 28]
abbrev dktX0_canCount_0 : List UInt8 := dkwX0_canCount_0 ++ dktX0_canCount_1
theorem dksX0_canCount_0 : cX0_canCount.data.toList.drop 0 = dktX0_canCount_0 := by decide +kernel
theorem dksX0_canCount_1 : cX0_canCount.data.toList.drop 22 = dktX0_canCount_1 := dk_seg dksX0_canCount_0 22 rfl rfl
theorem dX0_canCount_0 : decode cX0_canCount 0 = .ok (.aload_n 0, 1) := dk_42 (dk_at dksX0_canCount_0 0 rfl rfl)
theorem dX0_canCount_1 : decode cX0_canCount 1 = .ok (.iload_n 1, 1) := dk_27 (dk_at dksX0_canCount_0 1 rfl rfl)
theorem dX0_canCount_2 : decode cX0_canCount 2 = .ok (.invokevirtual 195, 3) := dk_182 0 195 (dk_at dksX0_canCount_0 2 rfl rfl)
theorem dX0_canCount_5 : decode cX0_canCount 5 = .ok (.ifCond .eq 27, 3) := dk_153 0 27 (dk_at dksX0_canCount_0 5 rfl rfl)
theorem dX0_canCount_8 : decode cX0_canCount 8 = .ok (.iload_n 2, 1) := dk_28 (dk_at dksX0_canCount_0 8 rfl rfl)
theorem dX0_canCount_9 : decode cX0_canCount 9 = .ok (.invokestatic 125, 3) := dk_184 0 125 (dk_at dksX0_canCount_0 9 rfl rfl)
theorem dX0_canCount_12 : decode cX0_canCount 12 = .ok (.ifCond .eq 20, 3) := dk_153 0 20 (dk_at dksX0_canCount_0 12 rfl rfl)
theorem dX0_canCount_15 : decode cX0_canCount 15 = .ok (.aload_n 0, 1) := dk_42 (dk_at dksX0_canCount_0 15 rfl rfl)
theorem dX0_canCount_16 : decode cX0_canCount 16 = .ok (.getfield 183, 3) := dk_180 0 183 (dk_at dksX0_canCount_0 16 rfl rfl)
theorem dX0_canCount_19 : decode cX0_canCount 19 = .ok (.iload_n 1, 1) := dk_27 (dk_at dksX0_canCount_0 19 rfl rfl)
theorem dX0_canCount_20 : decode cX0_canCount 20 = .ok (.aaload, 1) := dk_50 (dk_at dksX0_canCount_0 20 rfl rfl)
theorem dX0_canCount_21 : decode cX0_canCount 21 = .ok (.iload_n 2, 1) := dk_28 (dk_at dksX0_canCount_0 21 rfl rfl)
theorem dX0_canCount_22 : decode cX0_canCount 22 = .ok (.invokevirtual 208, 3) := dk_182 0 208 (dk_at dksX0_canCount_1 0 rfl rfl)
theorem dX0_canCount_25 : decode cX0_canCount 25 = .ok (.ifCond .eq 7, 3) := dk_153 0 7 (dk_at dksX0_canCount_1 3 rfl rfl)
theorem dX0_canCount_28 : decode cX0_canCount 28 = .ok (.iconst 1, 1) := dk_4 (dk_at dksX0_canCount_1 6 rfl rfl)
theorem dX0_canCount_29 : decode cX0_canCount 29 = .ok (.goto 4, 3) := dk_167 0 4 (dk_at dksX0_canCount_1 7 rfl rfl)
theorem dX0_canCount_32 : decode cX0_canCount 32 = .ok (.iconst 0, 1) := dk_3 (dk_at dksX0_canCount_1 10 rfl rfl)
theorem dX0_canCount_33 : decode cX0_canCount 33 = .ok (.ireturn, 1) := dk_172 (dk_at dksX0_canCount_1 11 rfl rfl)
abbrev cX0_looked : ByteArray := prog_1_method_50_code
def yX0_looked : MethodName := ⟨RX0, "looked", "(IIII)I"⟩
def dkwX0_looked_3 : List UInt8 := [167, 0, 7, 42, 180, 1, 40, 172]
abbrev dktX0_looked_3 : List UInt8 := dkwX0_looked_3 ++ []
def dkwX0_looked_2 : List UInt8 := [42, 180, 1, 37, 167, 0, 27, 21, 4, 4, 160, 0, 17, 42, 180, 0, 41, 28, 46, 42, 180, 1, 37, 100]
abbrev dktX0_looked_2 : List UInt8 := dkwX0_looked_2 ++ dktX0_looked_3
def dkwX0_looked_1 : List UInt8 := [9, 20, 0, 201, 184, 0, 21, 154, 0, 5, 2, 172, 42, 27, 28, 29, 182, 1, 43, 21, 4, 154, 0, 10]
abbrev dktX0_looked_1 : List UInt8 := dkwX0_looked_1 ++ dktX0_looked_2
def dkwX0_looked_0 : List UInt8 := [42, 27, 28, 182, 1, 35, 153, 0, 28, 29, 133, 10, 20, 0, 243, 184, 0, 21, 153, 0, 16, 21, 4, 133]
abbrev dktX0_looked_0 : List UInt8 := dkwX0_looked_0 ++ dktX0_looked_1
theorem dksX0_looked_0 : cX0_looked.data.toList.drop 0 = dktX0_looked_0 := by decide +kernel
theorem dksX0_looked_1 : cX0_looked.data.toList.drop 24 = dktX0_looked_1 := dk_seg dksX0_looked_0 24 rfl rfl
theorem dksX0_looked_2 : cX0_looked.data.toList.drop 48 = dktX0_looked_2 := dk_seg dksX0_looked_1 24 rfl rfl
theorem dksX0_looked_3 : cX0_looked.data.toList.drop 72 = dktX0_looked_3 := dk_seg dksX0_looked_2 24 rfl rfl
theorem dX0_looked_0 : decode cX0_looked 0 = .ok (.aload_n 0, 1) := dk_42 (dk_at dksX0_looked_0 0 rfl rfl)
theorem dX0_looked_1 : decode cX0_looked 1 = .ok (.iload_n 1, 1) := dk_27 (dk_at dksX0_looked_0 1 rfl rfl)
theorem dX0_looked_2 : decode cX0_looked 2 = .ok (.iload_n 2, 1) := dk_28 (dk_at dksX0_looked_0 2 rfl rfl)
theorem dX0_looked_3 : decode cX0_looked 3 = .ok (.invokevirtual 291, 3) := dk_182 1 35 (dk_at dksX0_looked_0 3 rfl rfl)
theorem dX0_looked_6 : decode cX0_looked 6 = .ok (.ifCond .eq 28, 3) := dk_153 0 28 (dk_at dksX0_looked_0 6 rfl rfl)
theorem dX0_looked_9 : decode cX0_looked 9 = .ok (.iload_n 3, 1) := dk_29 (dk_at dksX0_looked_0 9 rfl rfl)
theorem dX0_looked_10 : decode cX0_looked 10 = .ok (.i2l, 1) := dk_133 (dk_at dksX0_looked_0 10 rfl rfl)
theorem dX0_looked_11 : decode cX0_looked 11 = .ok (.lconst 1, 1) := dk_10 (dk_at dksX0_looked_0 11 rfl rfl)
theorem dX0_looked_12 : decode cX0_looked 12 = .ok (.ldc2_w 243, 3) := dk_20 0 243 (dk_at dksX0_looked_0 12 rfl rfl)
theorem dX0_looked_15 : decode cX0_looked 15 = .ok (.invokestatic 21, 3) := dk_184 0 21 (dk_at dksX0_looked_0 15 rfl rfl)
theorem dX0_looked_18 : decode cX0_looked 18 = .ok (.ifCond .eq 16, 3) := dk_153 0 16 (dk_at dksX0_looked_0 18 rfl rfl)
theorem dX0_looked_21 : decode cX0_looked 21 = .ok (.iload 4, 2) := dk_21 4 (dk_at dksX0_looked_0 21 rfl rfl)
theorem dX0_looked_23 : decode cX0_looked 23 = .ok (.i2l, 1) := dk_133 (dk_at dksX0_looked_0 23 rfl rfl)
theorem dX0_looked_24 : decode cX0_looked 24 = .ok (.lconst 0, 1) := dk_9 (dk_at dksX0_looked_1 0 rfl rfl)
theorem dX0_looked_25 : decode cX0_looked 25 = .ok (.ldc2_w 201, 3) := dk_20 0 201 (dk_at dksX0_looked_1 1 rfl rfl)
theorem dX0_looked_28 : decode cX0_looked 28 = .ok (.invokestatic 21, 3) := dk_184 0 21 (dk_at dksX0_looked_1 4 rfl rfl)
theorem dX0_looked_31 : decode cX0_looked 31 = .ok (.ifCond .ne 5, 3) := dk_154 0 5 (dk_at dksX0_looked_1 7 rfl rfl)
theorem dX0_looked_34 : decode cX0_looked 34 = .ok (.iconst (-1), 1) := dk_2 (dk_at dksX0_looked_1 10 rfl rfl)
theorem dX0_looked_35 : decode cX0_looked 35 = .ok (.ireturn, 1) := dk_172 (dk_at dksX0_looked_1 11 rfl rfl)
theorem dX0_looked_36 : decode cX0_looked 36 = .ok (.aload_n 0, 1) := dk_42 (dk_at dksX0_looked_1 12 rfl rfl)
theorem dX0_looked_37 : decode cX0_looked 37 = .ok (.iload_n 1, 1) := dk_27 (dk_at dksX0_looked_1 13 rfl rfl)
theorem dX0_looked_38 : decode cX0_looked 38 = .ok (.iload_n 2, 1) := dk_28 (dk_at dksX0_looked_1 14 rfl rfl)
theorem dX0_looked_39 : decode cX0_looked 39 = .ok (.iload_n 3, 1) := dk_29 (dk_at dksX0_looked_1 15 rfl rfl)
theorem dX0_looked_40 : decode cX0_looked 40 = .ok (.invokevirtual 299, 3) := dk_182 1 43 (dk_at dksX0_looked_1 16 rfl rfl)
theorem dX0_looked_43 : decode cX0_looked 43 = .ok (.iload 4, 2) := dk_21 4 (dk_at dksX0_looked_1 19 rfl rfl)
theorem dX0_looked_45 : decode cX0_looked 45 = .ok (.ifCond .ne 10, 3) := dk_154 0 10 (dk_at dksX0_looked_1 21 rfl rfl)
theorem dX0_looked_48 : decode cX0_looked 48 = .ok (.aload_n 0, 1) := dk_42 (dk_at dksX0_looked_2 0 rfl rfl)
theorem dX0_looked_49 : decode cX0_looked 49 = .ok (.getfield 293, 3) := dk_180 1 37 (dk_at dksX0_looked_2 1 rfl rfl)
theorem dX0_looked_52 : decode cX0_looked 52 = .ok (.goto 27, 3) := dk_167 0 27 (dk_at dksX0_looked_2 4 rfl rfl)
theorem dX0_looked_55 : decode cX0_looked 55 = .ok (.iload 4, 2) := dk_21 4 (dk_at dksX0_looked_2 7 rfl rfl)
theorem dX0_looked_57 : decode cX0_looked 57 = .ok (.iconst 1, 1) := dk_4 (dk_at dksX0_looked_2 9 rfl rfl)
theorem dX0_looked_58 : decode cX0_looked 58 = .ok (.if_icmp .ne 17, 3) := dk_160 0 17 (dk_at dksX0_looked_2 10 rfl rfl)
theorem dX0_looked_61 : decode cX0_looked 61 = .ok (.aload_n 0, 1) := dk_42 (dk_at dksX0_looked_2 13 rfl rfl)
theorem dX0_looked_62 : decode cX0_looked 62 = .ok (.getfield 41, 3) := dk_180 0 41 (dk_at dksX0_looked_2 14 rfl rfl)
theorem dX0_looked_65 : decode cX0_looked 65 = .ok (.iload_n 2, 1) := dk_28 (dk_at dksX0_looked_2 17 rfl rfl)
theorem dX0_looked_66 : decode cX0_looked 66 = .ok (.iaload, 1) := dk_46 (dk_at dksX0_looked_2 18 rfl rfl)
theorem dX0_looked_67 : decode cX0_looked 67 = .ok (.aload_n 0, 1) := dk_42 (dk_at dksX0_looked_2 19 rfl rfl)
theorem dX0_looked_68 : decode cX0_looked 68 = .ok (.getfield 293, 3) := dk_180 1 37 (dk_at dksX0_looked_2 20 rfl rfl)
theorem dX0_looked_71 : decode cX0_looked 71 = .ok (.isub, 1) := dk_100 (dk_at dksX0_looked_2 23 rfl rfl)
theorem dX0_looked_72 : decode cX0_looked 72 = .ok (.goto 7, 3) := dk_167 0 7 (dk_at dksX0_looked_3 0 rfl rfl)
theorem dX0_looked_75 : decode cX0_looked 75 = .ok (.aload_n 0, 1) := dk_42 (dk_at dksX0_looked_3 3 rfl rfl)
theorem dX0_looked_76 : decode cX0_looked 76 = .ok (.getfield 296, 3) := dk_180 1 40 (dk_at dksX0_looked_3 4 rfl rfl)
theorem dX0_looked_79 : decode cX0_looked 79 = .ok (.ireturn, 1) := dk_172 (dk_at dksX0_looked_3 7 rfl rfl)
abbrev cX0_layLooks : ByteArray := prog_1_method_49_code
def yX0_layLooks : MethodName := ⟨RX0, "layLooks", "(III)V"⟩
def dkwX0_layLooks_6 : List UInt8 := [96, 181, 1, 37, 177]
abbrev dktX0_layLooks_6 : List UInt8 := dkwX0_layLooks_6 ++ []
def dkwX0_layLooks_5 : List UInt8 := [25, 9, 180, 0, 62, 96, 54, 6, 132, 8, 1, 167, 255, 166, 42, 89, 180, 1, 37, 21, 5, 21, 4, 126]
abbrev dktX0_layLooks_5 : List UInt8 := dkwX0_layLooks_5 ++ dktX0_layLooks_6
def dkwX0_layLooks_4 : List UInt8 := [89, 180, 1, 40, 4, 96, 181, 1, 40, 21, 5, 25, 9, 180, 0, 63, 28, 46, 96, 54, 5, 21, 6]
abbrev dktX0_layLooks_4 : List UInt8 := dkwX0_layLooks_4 ++ dktX0_layLooks_5
def dkwX0_layLooks_3 : List UInt8 := [21, 6, 29, 108, 54, 7, 42, 89, 180, 1, 37, 21, 5, 21, 4, 126, 96, 181, 1, 37, 3, 54, 5, 42]
abbrev dktX0_layLooks_3 : List UInt8 := dkwX0_layLooks_3 ++ dktX0_layLooks_4
def dkwX0_layLooks_2 : List UInt8 := [42, 180, 0, 53, 42, 180, 0, 25, 21, 8, 46, 50, 58, 9, 21, 6, 29, 108, 21, 7, 159, 0, 36]
abbrev dktX0_layLooks_2 : List UInt8 := dkwX0_layLooks_2 ++ dktX0_layLooks_3
def dkwX0_layLooks_1 : List UInt8 := [181, 1, 40, 3, 54, 5, 3, 54, 6, 3, 54, 7, 3, 54, 8, 21, 8, 42, 180, 0, 35, 162, 0, 87]
abbrev dktX0_layLooks_1 : List UInt8 := dkwX0_layLooks_1 ++ dktX0_layLooks_2
def dkwX0_layLooks_0 : List UInt8 := [4, 42, 180, 0, 183, 27, 50, 180, 0, 192, 120, 4, 100, 54, 4, 42, 3, 181, 1, 37, 42, 4]
abbrev dktX0_layLooks_0 : List UInt8 := dkwX0_layLooks_0 ++ dktX0_layLooks_1
theorem dksX0_layLooks_0 : cX0_layLooks.data.toList.drop 0 = dktX0_layLooks_0 := by decide +kernel
theorem dksX0_layLooks_1 : cX0_layLooks.data.toList.drop 22 = dktX0_layLooks_1 := dk_seg dksX0_layLooks_0 22 rfl rfl
theorem dksX0_layLooks_2 : cX0_layLooks.data.toList.drop 46 = dktX0_layLooks_2 := dk_seg dksX0_layLooks_1 24 rfl rfl
theorem dksX0_layLooks_3 : cX0_layLooks.data.toList.drop 69 = dktX0_layLooks_3 := dk_seg dksX0_layLooks_2 23 rfl rfl
theorem dksX0_layLooks_4 : cX0_layLooks.data.toList.drop 93 = dktX0_layLooks_4 := dk_seg dksX0_layLooks_3 24 rfl rfl
theorem dksX0_layLooks_5 : cX0_layLooks.data.toList.drop 116 = dktX0_layLooks_5 := dk_seg dksX0_layLooks_4 23 rfl rfl
theorem dksX0_layLooks_6 : cX0_layLooks.data.toList.drop 140 = dktX0_layLooks_6 := dk_seg dksX0_layLooks_5 24 rfl rfl
theorem dX0_layLooks_0 : decode cX0_layLooks 0 = .ok (.iconst 1, 1) := dk_4 (dk_at dksX0_layLooks_0 0 rfl rfl)
theorem dX0_layLooks_1 : decode cX0_layLooks 1 = .ok (.aload_n 0, 1) := dk_42 (dk_at dksX0_layLooks_0 1 rfl rfl)
theorem dX0_layLooks_2 : decode cX0_layLooks 2 = .ok (.getfield 183, 3) := dk_180 0 183 (dk_at dksX0_layLooks_0 2 rfl rfl)
theorem dX0_layLooks_5 : decode cX0_layLooks 5 = .ok (.iload_n 1, 1) := dk_27 (dk_at dksX0_layLooks_0 5 rfl rfl)
theorem dX0_layLooks_6 : decode cX0_layLooks 6 = .ok (.aaload, 1) := dk_50 (dk_at dksX0_layLooks_0 6 rfl rfl)
theorem dX0_layLooks_7 : decode cX0_layLooks 7 = .ok (.getfield 192, 3) := dk_180 0 192 (dk_at dksX0_layLooks_0 7 rfl rfl)
theorem dX0_layLooks_10 : decode cX0_layLooks 10 = .ok (.ishl, 1) := dk_120 (dk_at dksX0_layLooks_0 10 rfl rfl)
theorem dX0_layLooks_11 : decode cX0_layLooks 11 = .ok (.iconst 1, 1) := dk_4 (dk_at dksX0_layLooks_0 11 rfl rfl)
theorem dX0_layLooks_12 : decode cX0_layLooks 12 = .ok (.isub, 1) := dk_100 (dk_at dksX0_layLooks_0 12 rfl rfl)
theorem dX0_layLooks_13 : decode cX0_layLooks 13 = .ok (.istore 4, 2) := dk_54 4 (dk_at dksX0_layLooks_0 13 rfl rfl)
theorem dX0_layLooks_15 : decode cX0_layLooks 15 = .ok (.aload_n 0, 1) := dk_42 (dk_at dksX0_layLooks_0 15 rfl rfl)
theorem dX0_layLooks_16 : decode cX0_layLooks 16 = .ok (.iconst 0, 1) := dk_3 (dk_at dksX0_layLooks_0 16 rfl rfl)
theorem dX0_layLooks_17 : decode cX0_layLooks 17 = .ok (.putfield 293, 3) := dk_181 1 37 (dk_at dksX0_layLooks_0 17 rfl rfl)
theorem dX0_layLooks_20 : decode cX0_layLooks 20 = .ok (.aload_n 0, 1) := dk_42 (dk_at dksX0_layLooks_0 20 rfl rfl)
theorem dX0_layLooks_21 : decode cX0_layLooks 21 = .ok (.iconst 1, 1) := dk_4 (dk_at dksX0_layLooks_0 21 rfl rfl)
theorem dX0_layLooks_22 : decode cX0_layLooks 22 = .ok (.putfield 296, 3) := dk_181 1 40 (dk_at dksX0_layLooks_1 0 rfl rfl)
theorem dX0_layLooks_25 : decode cX0_layLooks 25 = .ok (.iconst 0, 1) := dk_3 (dk_at dksX0_layLooks_1 3 rfl rfl)
theorem dX0_layLooks_26 : decode cX0_layLooks 26 = .ok (.istore 5, 2) := dk_54 5 (dk_at dksX0_layLooks_1 4 rfl rfl)
theorem dX0_layLooks_28 : decode cX0_layLooks 28 = .ok (.iconst 0, 1) := dk_3 (dk_at dksX0_layLooks_1 6 rfl rfl)
theorem dX0_layLooks_29 : decode cX0_layLooks 29 = .ok (.istore 6, 2) := dk_54 6 (dk_at dksX0_layLooks_1 7 rfl rfl)
theorem dX0_layLooks_31 : decode cX0_layLooks 31 = .ok (.iconst 0, 1) := dk_3 (dk_at dksX0_layLooks_1 9 rfl rfl)
theorem dX0_layLooks_32 : decode cX0_layLooks 32 = .ok (.istore 7, 2) := dk_54 7 (dk_at dksX0_layLooks_1 10 rfl rfl)
theorem dX0_layLooks_34 : decode cX0_layLooks 34 = .ok (.iconst 0, 1) := dk_3 (dk_at dksX0_layLooks_1 12 rfl rfl)
theorem dX0_layLooks_35 : decode cX0_layLooks 35 = .ok (.istore 8, 2) := dk_54 8 (dk_at dksX0_layLooks_1 13 rfl rfl)
theorem dX0_layLooks_37 : decode cX0_layLooks 37 = .ok (.iload 8, 2) := dk_21 8 (dk_at dksX0_layLooks_1 15 rfl rfl)
theorem dX0_layLooks_39 : decode cX0_layLooks 39 = .ok (.aload_n 0, 1) := dk_42 (dk_at dksX0_layLooks_1 17 rfl rfl)
theorem dX0_layLooks_40 : decode cX0_layLooks 40 = .ok (.getfield 35, 3) := dk_180 0 35 (dk_at dksX0_layLooks_1 18 rfl rfl)
theorem dX0_layLooks_43 : decode cX0_layLooks 43 = .ok (.if_icmp .ge 87, 3) := dk_162 0 87 (dk_at dksX0_layLooks_1 21 rfl rfl)
theorem dX0_layLooks_46 : decode cX0_layLooks 46 = .ok (.aload_n 0, 1) := dk_42 (dk_at dksX0_layLooks_2 0 rfl rfl)
theorem dX0_layLooks_47 : decode cX0_layLooks 47 = .ok (.getfield 53, 3) := dk_180 0 53 (dk_at dksX0_layLooks_2 1 rfl rfl)
theorem dX0_layLooks_50 : decode cX0_layLooks 50 = .ok (.aload_n 0, 1) := dk_42 (dk_at dksX0_layLooks_2 4 rfl rfl)
theorem dX0_layLooks_51 : decode cX0_layLooks 51 = .ok (.getfield 25, 3) := dk_180 0 25 (dk_at dksX0_layLooks_2 5 rfl rfl)
theorem dX0_layLooks_54 : decode cX0_layLooks 54 = .ok (.iload 8, 2) := dk_21 8 (dk_at dksX0_layLooks_2 8 rfl rfl)
theorem dX0_layLooks_56 : decode cX0_layLooks 56 = .ok (.iaload, 1) := dk_46 (dk_at dksX0_layLooks_2 10 rfl rfl)
theorem dX0_layLooks_57 : decode cX0_layLooks 57 = .ok (.aaload, 1) := dk_50 (dk_at dksX0_layLooks_2 11 rfl rfl)
theorem dX0_layLooks_58 : decode cX0_layLooks 58 = .ok (.astore 9, 2) := dk_58 9 (dk_at dksX0_layLooks_2 12 rfl rfl)
theorem dX0_layLooks_60 : decode cX0_layLooks 60 = .ok (.iload 6, 2) := dk_21 6 (dk_at dksX0_layLooks_2 14 rfl rfl)
theorem dX0_layLooks_62 : decode cX0_layLooks 62 = .ok (.iload_n 3, 1) := dk_29 (dk_at dksX0_layLooks_2 16 rfl rfl)
theorem dX0_layLooks_63 : decode cX0_layLooks 63 = .ok (.idiv, 1) := dk_108 (dk_at dksX0_layLooks_2 17 rfl rfl)
theorem dX0_layLooks_64 : decode cX0_layLooks 64 = .ok (.iload 7, 2) := dk_21 7 (dk_at dksX0_layLooks_2 18 rfl rfl)
theorem dX0_layLooks_66 : decode cX0_layLooks 66 = .ok (.if_icmp .eq 36, 3) := dk_159 0 36 (dk_at dksX0_layLooks_2 20 rfl rfl)
theorem dX0_layLooks_69 : decode cX0_layLooks 69 = .ok (.iload 6, 2) := dk_21 6 (dk_at dksX0_layLooks_3 0 rfl rfl)
theorem dX0_layLooks_71 : decode cX0_layLooks 71 = .ok (.iload_n 3, 1) := dk_29 (dk_at dksX0_layLooks_3 2 rfl rfl)
theorem dX0_layLooks_72 : decode cX0_layLooks 72 = .ok (.idiv, 1) := dk_108 (dk_at dksX0_layLooks_3 3 rfl rfl)
theorem dX0_layLooks_73 : decode cX0_layLooks 73 = .ok (.istore 7, 2) := dk_54 7 (dk_at dksX0_layLooks_3 4 rfl rfl)
theorem dX0_layLooks_75 : decode cX0_layLooks 75 = .ok (.aload_n 0, 1) := dk_42 (dk_at dksX0_layLooks_3 6 rfl rfl)
theorem dX0_layLooks_76 : decode cX0_layLooks 76 = .ok (.dup, 1) := dk_89 (dk_at dksX0_layLooks_3 7 rfl rfl)
theorem dX0_layLooks_77 : decode cX0_layLooks 77 = .ok (.getfield 293, 3) := dk_180 1 37 (dk_at dksX0_layLooks_3 8 rfl rfl)
theorem dX0_layLooks_80 : decode cX0_layLooks 80 = .ok (.iload 5, 2) := dk_21 5 (dk_at dksX0_layLooks_3 11 rfl rfl)
theorem dX0_layLooks_82 : decode cX0_layLooks 82 = .ok (.iload 4, 2) := dk_21 4 (dk_at dksX0_layLooks_3 13 rfl rfl)
theorem dX0_layLooks_84 : decode cX0_layLooks 84 = .ok (.iand, 1) := dk_126 (dk_at dksX0_layLooks_3 15 rfl rfl)
theorem dX0_layLooks_85 : decode cX0_layLooks 85 = .ok (.iadd, 1) := dk_96 (dk_at dksX0_layLooks_3 16 rfl rfl)
theorem dX0_layLooks_86 : decode cX0_layLooks 86 = .ok (.putfield 293, 3) := dk_181 1 37 (dk_at dksX0_layLooks_3 17 rfl rfl)
theorem dX0_layLooks_89 : decode cX0_layLooks 89 = .ok (.iconst 0, 1) := dk_3 (dk_at dksX0_layLooks_3 20 rfl rfl)
theorem dX0_layLooks_90 : decode cX0_layLooks 90 = .ok (.istore 5, 2) := dk_54 5 (dk_at dksX0_layLooks_3 21 rfl rfl)
theorem dX0_layLooks_92 : decode cX0_layLooks 92 = .ok (.aload_n 0, 1) := dk_42 (dk_at dksX0_layLooks_3 23 rfl rfl)
theorem dX0_layLooks_93 : decode cX0_layLooks 93 = .ok (.dup, 1) := dk_89 (dk_at dksX0_layLooks_4 0 rfl rfl)
theorem dX0_layLooks_94 : decode cX0_layLooks 94 = .ok (.getfield 296, 3) := dk_180 1 40 (dk_at dksX0_layLooks_4 1 rfl rfl)
theorem dX0_layLooks_97 : decode cX0_layLooks 97 = .ok (.iconst 1, 1) := dk_4 (dk_at dksX0_layLooks_4 4 rfl rfl)
theorem dX0_layLooks_98 : decode cX0_layLooks 98 = .ok (.iadd, 1) := dk_96 (dk_at dksX0_layLooks_4 5 rfl rfl)
theorem dX0_layLooks_99 : decode cX0_layLooks 99 = .ok (.putfield 296, 3) := dk_181 1 40 (dk_at dksX0_layLooks_4 6 rfl rfl)
theorem dX0_layLooks_102 : decode cX0_layLooks 102 = .ok (.iload 5, 2) := dk_21 5 (dk_at dksX0_layLooks_4 9 rfl rfl)
theorem dX0_layLooks_104 : decode cX0_layLooks 104 = .ok (.aload 9, 2) := dk_25 9 (dk_at dksX0_layLooks_4 11 rfl rfl)
theorem dX0_layLooks_106 : decode cX0_layLooks 106 = .ok (.getfield 63, 3) := dk_180 0 63 (dk_at dksX0_layLooks_4 13 rfl rfl)
theorem dX0_layLooks_109 : decode cX0_layLooks 109 = .ok (.iload_n 2, 1) := dk_28 (dk_at dksX0_layLooks_4 16 rfl rfl)
theorem dX0_layLooks_110 : decode cX0_layLooks 110 = .ok (.iaload, 1) := dk_46 (dk_at dksX0_layLooks_4 17 rfl rfl)
theorem dX0_layLooks_111 : decode cX0_layLooks 111 = .ok (.iadd, 1) := dk_96 (dk_at dksX0_layLooks_4 18 rfl rfl)
theorem dX0_layLooks_112 : decode cX0_layLooks 112 = .ok (.istore 5, 2) := dk_54 5 (dk_at dksX0_layLooks_4 19 rfl rfl)
theorem dX0_layLooks_114 : decode cX0_layLooks 114 = .ok (.iload 6, 2) := dk_21 6 (dk_at dksX0_layLooks_4 21 rfl rfl)
theorem dX0_layLooks_116 : decode cX0_layLooks 116 = .ok (.aload 9, 2) := dk_25 9 (dk_at dksX0_layLooks_5 0 rfl rfl)
theorem dX0_layLooks_118 : decode cX0_layLooks 118 = .ok (.getfield 62, 3) := dk_180 0 62 (dk_at dksX0_layLooks_5 2 rfl rfl)
theorem dX0_layLooks_121 : decode cX0_layLooks 121 = .ok (.iadd, 1) := dk_96 (dk_at dksX0_layLooks_5 5 rfl rfl)
theorem dX0_layLooks_122 : decode cX0_layLooks 122 = .ok (.istore 6, 2) := dk_54 6 (dk_at dksX0_layLooks_5 6 rfl rfl)
theorem dX0_layLooks_124 : decode cX0_layLooks 124 = .ok (.iinc 8 1, 3) := dk_132 8 1 (dk_at dksX0_layLooks_5 8 rfl rfl)
theorem dX0_layLooks_127 : decode cX0_layLooks 127 = .ok (.goto (-90), 3) := dk_167 255 166 (dk_at dksX0_layLooks_5 11 rfl rfl)
theorem dX0_layLooks_130 : decode cX0_layLooks 130 = .ok (.aload_n 0, 1) := dk_42 (dk_at dksX0_layLooks_5 14 rfl rfl)
theorem dX0_layLooks_131 : decode cX0_layLooks 131 = .ok (.dup, 1) := dk_89 (dk_at dksX0_layLooks_5 15 rfl rfl)
theorem dX0_layLooks_132 : decode cX0_layLooks 132 = .ok (.getfield 293, 3) := dk_180 1 37 (dk_at dksX0_layLooks_5 16 rfl rfl)
theorem dX0_layLooks_135 : decode cX0_layLooks 135 = .ok (.iload 5, 2) := dk_21 5 (dk_at dksX0_layLooks_5 19 rfl rfl)
theorem dX0_layLooks_137 : decode cX0_layLooks 137 = .ok (.iload 4, 2) := dk_21 4 (dk_at dksX0_layLooks_5 21 rfl rfl)
theorem dX0_layLooks_139 : decode cX0_layLooks 139 = .ok (.iand, 1) := dk_126 (dk_at dksX0_layLooks_5 23 rfl rfl)
theorem dX0_layLooks_140 : decode cX0_layLooks 140 = .ok (.iadd, 1) := dk_96 (dk_at dksX0_layLooks_6 0 rfl rfl)
theorem dX0_layLooks_141 : decode cX0_layLooks 141 = .ok (.putfield 293, 3) := dk_181 1 37 (dk_at dksX0_layLooks_6 1 rfl rfl)
theorem dX0_layLooks_144 : decode cX0_layLooks 144 = .ok (.return_, 1) := dk_177 (dk_at dksX0_layLooks_6 4 rfl rfl)
abbrev cX0_seldom : ByteArray := prog_1_method_51_code
def yX0_seldom : MethodName := ⟨RX0, "seldom", "(II)I"⟩
def dkwX0_seldom_2 : List UInt8 := [160, 0, 8, 21, 4, 167, 0, 5, 16, 252, 62, 132, 4, 255, 167, 255, 213, 29, 172]
abbrev dktX0_seldom_2 : List UInt8 := dkwX0_seldom_2 ++ []
def dkwX0_seldom_1 : List UInt8 := [29, 16, 252, 160, 0, 38, 42, 27, 28, 21, 4, 182, 1, 43, 42, 180, 1, 37, 42, 180, 0, 41, 28, 46]
abbrev dktX0_seldom_1 : List UInt8 := dkwX0_seldom_1 ++ dktX0_seldom_2
def dkwX0_seldom_0 : List UInt8 := [42, 27, 28, 182, 1, 35, 154, 0, 5, 2, 172, 16, 252, 62, 17, 3, 231, 54, 4, 21, 4, 158, 0, 44]
abbrev dktX0_seldom_0 : List UInt8 := dkwX0_seldom_0 ++ dktX0_seldom_1
theorem dksX0_seldom_0 : cX0_seldom.data.toList.drop 0 = dktX0_seldom_0 := by decide +kernel
theorem dksX0_seldom_1 : cX0_seldom.data.toList.drop 24 = dktX0_seldom_1 := dk_seg dksX0_seldom_0 24 rfl rfl
theorem dksX0_seldom_2 : cX0_seldom.data.toList.drop 48 = dktX0_seldom_2 := dk_seg dksX0_seldom_1 24 rfl rfl
theorem dX0_seldom_0 : decode cX0_seldom 0 = .ok (.aload_n 0, 1) := dk_42 (dk_at dksX0_seldom_0 0 rfl rfl)
theorem dX0_seldom_1 : decode cX0_seldom 1 = .ok (.iload_n 1, 1) := dk_27 (dk_at dksX0_seldom_0 1 rfl rfl)
theorem dX0_seldom_2 : decode cX0_seldom 2 = .ok (.iload_n 2, 1) := dk_28 (dk_at dksX0_seldom_0 2 rfl rfl)
theorem dX0_seldom_3 : decode cX0_seldom 3 = .ok (.invokevirtual 291, 3) := dk_182 1 35 (dk_at dksX0_seldom_0 3 rfl rfl)
theorem dX0_seldom_6 : decode cX0_seldom 6 = .ok (.ifCond .ne 5, 3) := dk_154 0 5 (dk_at dksX0_seldom_0 6 rfl rfl)
theorem dX0_seldom_9 : decode cX0_seldom 9 = .ok (.iconst (-1), 1) := dk_2 (dk_at dksX0_seldom_0 9 rfl rfl)
theorem dX0_seldom_10 : decode cX0_seldom 10 = .ok (.ireturn, 1) := dk_172 (dk_at dksX0_seldom_0 10 rfl rfl)
theorem dX0_seldom_11 : decode cX0_seldom 11 = .ok (.bipush (-4), 2) := dk_16 252 (dk_at dksX0_seldom_0 11 rfl rfl)
theorem dX0_seldom_13 : decode cX0_seldom 13 = .ok (.istore_n 3, 1) := dk_62 (dk_at dksX0_seldom_0 13 rfl rfl)
theorem dX0_seldom_14 : decode cX0_seldom 14 = .ok (.sipush 999, 3) := dk_17 3 231 (dk_at dksX0_seldom_0 14 rfl rfl)
theorem dX0_seldom_17 : decode cX0_seldom 17 = .ok (.istore 4, 2) := dk_54 4 (dk_at dksX0_seldom_0 17 rfl rfl)
theorem dX0_seldom_19 : decode cX0_seldom 19 = .ok (.iload 4, 2) := dk_21 4 (dk_at dksX0_seldom_0 19 rfl rfl)
theorem dX0_seldom_21 : decode cX0_seldom 21 = .ok (.ifCond .le 44, 3) := dk_158 0 44 (dk_at dksX0_seldom_0 21 rfl rfl)
theorem dX0_seldom_24 : decode cX0_seldom 24 = .ok (.iload_n 3, 1) := dk_29 (dk_at dksX0_seldom_1 0 rfl rfl)
theorem dX0_seldom_25 : decode cX0_seldom 25 = .ok (.bipush (-4), 2) := dk_16 252 (dk_at dksX0_seldom_1 1 rfl rfl)
theorem dX0_seldom_27 : decode cX0_seldom 27 = .ok (.if_icmp .ne 38, 3) := dk_160 0 38 (dk_at dksX0_seldom_1 3 rfl rfl)
theorem dX0_seldom_30 : decode cX0_seldom 30 = .ok (.aload_n 0, 1) := dk_42 (dk_at dksX0_seldom_1 6 rfl rfl)
theorem dX0_seldom_31 : decode cX0_seldom 31 = .ok (.iload_n 1, 1) := dk_27 (dk_at dksX0_seldom_1 7 rfl rfl)
theorem dX0_seldom_32 : decode cX0_seldom 32 = .ok (.iload_n 2, 1) := dk_28 (dk_at dksX0_seldom_1 8 rfl rfl)
theorem dX0_seldom_33 : decode cX0_seldom 33 = .ok (.iload 4, 2) := dk_21 4 (dk_at dksX0_seldom_1 9 rfl rfl)
theorem dX0_seldom_35 : decode cX0_seldom 35 = .ok (.invokevirtual 299, 3) := dk_182 1 43 (dk_at dksX0_seldom_1 11 rfl rfl)
theorem dX0_seldom_38 : decode cX0_seldom 38 = .ok (.aload_n 0, 1) := dk_42 (dk_at dksX0_seldom_1 14 rfl rfl)
theorem dX0_seldom_39 : decode cX0_seldom 39 = .ok (.getfield 293, 3) := dk_180 1 37 (dk_at dksX0_seldom_1 15 rfl rfl)
theorem dX0_seldom_42 : decode cX0_seldom 42 = .ok (.aload_n 0, 1) := dk_42 (dk_at dksX0_seldom_1 18 rfl rfl)
theorem dX0_seldom_43 : decode cX0_seldom 43 = .ok (.getfield 41, 3) := dk_180 0 41 (dk_at dksX0_seldom_1 19 rfl rfl)
theorem dX0_seldom_46 : decode cX0_seldom 46 = .ok (.iload_n 2, 1) := dk_28 (dk_at dksX0_seldom_1 22 rfl rfl)
theorem dX0_seldom_47 : decode cX0_seldom 47 = .ok (.iaload, 1) := dk_46 (dk_at dksX0_seldom_1 23 rfl rfl)
theorem dX0_seldom_48 : decode cX0_seldom 48 = .ok (.if_icmp .ne 8, 3) := dk_160 0 8 (dk_at dksX0_seldom_2 0 rfl rfl)
theorem dX0_seldom_51 : decode cX0_seldom 51 = .ok (.iload 4, 2) := dk_21 4 (dk_at dksX0_seldom_2 3 rfl rfl)
theorem dX0_seldom_53 : decode cX0_seldom 53 = .ok (.goto 5, 3) := dk_167 0 5 (dk_at dksX0_seldom_2 5 rfl rfl)
theorem dX0_seldom_56 : decode cX0_seldom 56 = .ok (.bipush (-4), 2) := dk_16 252 (dk_at dksX0_seldom_2 8 rfl rfl)
theorem dX0_seldom_58 : decode cX0_seldom 58 = .ok (.istore_n 3, 1) := dk_62 (dk_at dksX0_seldom_2 10 rfl rfl)
theorem dX0_seldom_59 : decode cX0_seldom 59 = .ok (.iinc 4 (-1), 3) := dk_132 4 255 (dk_at dksX0_seldom_2 11 rfl rfl)
theorem dX0_seldom_62 : decode cX0_seldom 62 = .ok (.goto (-43), 3) := dk_167 255 213 (dk_at dksX0_seldom_2 14 rfl rfl)
theorem dX0_seldom_65 : decode cX0_seldom 65 = .ok (.iload_n 3, 1) := dk_29 (dk_at dksX0_seldom_2 17 rfl rfl)
theorem dX0_seldom_66 : decode cX0_seldom 66 = .ok (.ireturn, 1) := dk_172 (dk_at dksX0_seldom_2 18 rfl rfl)
abbrev cX0_run : ByteArray := prog_1_method_52_code
def yX0_run : MethodName := ⟨RX0, "run", "(III)I"⟩
def dkwX0_run_3 : List UInt8 := [180, 0, 98, 50, 5, 29, 79, 42, 89, 180, 0, 98, 4, 96, 181, 0, 98, 42, 180, 0, 98, 172]
abbrev dktX0_run_3 : List UInt8 := dkwX0_run_3 ++ []
def dkwX0_run_2 : List UInt8 := [180, 0, 98, 50, 3, 27, 79, 42, 180, 1, 47, 42, 180, 0, 98, 50, 4, 28, 79, 42, 180, 1, 47, 42]
abbrev dktX0_run_2 : List UInt8 := dkwX0_run_2 ++ dktX0_run_3
def dkwX0_run_1 : List UInt8 := [154, 0, 5, 2, 172, 42, 180, 0, 98, 16, 12, 160, 0, 6, 16, 253, 172, 42, 180, 1, 47, 42]
abbrev dktX0_run_1 : List UInt8 := dkwX0_run_1 ++ dktX0_run_2
def dkwX0_run_0 : List UInt8 := [42, 27, 182, 0, 195, 153, 0, 22, 28, 184, 0, 125, 153, 0, 15, 29, 133, 9, 20, 0, 148, 184, 0, 21]
abbrev dktX0_run_0 : List UInt8 := dkwX0_run_0 ++ dktX0_run_1
theorem dksX0_run_0 : cX0_run.data.toList.drop 0 = dktX0_run_0 := by decide +kernel
theorem dksX0_run_1 : cX0_run.data.toList.drop 24 = dktX0_run_1 := dk_seg dksX0_run_0 24 rfl rfl
theorem dksX0_run_2 : cX0_run.data.toList.drop 46 = dktX0_run_2 := dk_seg dksX0_run_1 22 rfl rfl
theorem dksX0_run_3 : cX0_run.data.toList.drop 70 = dktX0_run_3 := dk_seg dksX0_run_2 24 rfl rfl
theorem dX0_run_0 : decode cX0_run 0 = .ok (.aload_n 0, 1) := dk_42 (dk_at dksX0_run_0 0 rfl rfl)
theorem dX0_run_1 : decode cX0_run 1 = .ok (.iload_n 1, 1) := dk_27 (dk_at dksX0_run_0 1 rfl rfl)
theorem dX0_run_2 : decode cX0_run 2 = .ok (.invokevirtual 195, 3) := dk_182 0 195 (dk_at dksX0_run_0 2 rfl rfl)
theorem dX0_run_5 : decode cX0_run 5 = .ok (.ifCond .eq 22, 3) := dk_153 0 22 (dk_at dksX0_run_0 5 rfl rfl)
theorem dX0_run_8 : decode cX0_run 8 = .ok (.iload_n 2, 1) := dk_28 (dk_at dksX0_run_0 8 rfl rfl)
theorem dX0_run_9 : decode cX0_run 9 = .ok (.invokestatic 125, 3) := dk_184 0 125 (dk_at dksX0_run_0 9 rfl rfl)
theorem dX0_run_12 : decode cX0_run 12 = .ok (.ifCond .eq 15, 3) := dk_153 0 15 (dk_at dksX0_run_0 12 rfl rfl)
theorem dX0_run_15 : decode cX0_run 15 = .ok (.iload_n 3, 1) := dk_29 (dk_at dksX0_run_0 15 rfl rfl)
theorem dX0_run_16 : decode cX0_run 16 = .ok (.i2l, 1) := dk_133 (dk_at dksX0_run_0 16 rfl rfl)
theorem dX0_run_17 : decode cX0_run 17 = .ok (.lconst 0, 1) := dk_9 (dk_at dksX0_run_0 17 rfl rfl)
theorem dX0_run_18 : decode cX0_run 18 = .ok (.ldc2_w 148, 3) := dk_20 0 148 (dk_at dksX0_run_0 18 rfl rfl)
theorem dX0_run_21 : decode cX0_run 21 = .ok (.invokestatic 21, 3) := dk_184 0 21 (dk_at dksX0_run_0 21 rfl rfl)
theorem dX0_run_24 : decode cX0_run 24 = .ok (.ifCond .ne 5, 3) := dk_154 0 5 (dk_at dksX0_run_1 0 rfl rfl)
theorem dX0_run_27 : decode cX0_run 27 = .ok (.iconst (-1), 1) := dk_2 (dk_at dksX0_run_1 3 rfl rfl)
theorem dX0_run_28 : decode cX0_run 28 = .ok (.ireturn, 1) := dk_172 (dk_at dksX0_run_1 4 rfl rfl)
theorem dX0_run_29 : decode cX0_run 29 = .ok (.aload_n 0, 1) := dk_42 (dk_at dksX0_run_1 5 rfl rfl)
theorem dX0_run_30 : decode cX0_run 30 = .ok (.getfield 98, 3) := dk_180 0 98 (dk_at dksX0_run_1 6 rfl rfl)
theorem dX0_run_33 : decode cX0_run 33 = .ok (.bipush 12, 2) := dk_16 12 (dk_at dksX0_run_1 9 rfl rfl)
theorem dX0_run_35 : decode cX0_run 35 = .ok (.if_icmp .ne 6, 3) := dk_160 0 6 (dk_at dksX0_run_1 11 rfl rfl)
theorem dX0_run_38 : decode cX0_run 38 = .ok (.bipush (-3), 2) := dk_16 253 (dk_at dksX0_run_1 14 rfl rfl)
theorem dX0_run_40 : decode cX0_run 40 = .ok (.ireturn, 1) := dk_172 (dk_at dksX0_run_1 16 rfl rfl)
theorem dX0_run_41 : decode cX0_run 41 = .ok (.aload_n 0, 1) := dk_42 (dk_at dksX0_run_1 17 rfl rfl)
theorem dX0_run_42 : decode cX0_run 42 = .ok (.getfield 303, 3) := dk_180 1 47 (dk_at dksX0_run_1 18 rfl rfl)
theorem dX0_run_45 : decode cX0_run 45 = .ok (.aload_n 0, 1) := dk_42 (dk_at dksX0_run_1 21 rfl rfl)
theorem dX0_run_46 : decode cX0_run 46 = .ok (.getfield 98, 3) := dk_180 0 98 (dk_at dksX0_run_2 0 rfl rfl)
theorem dX0_run_49 : decode cX0_run 49 = .ok (.aaload, 1) := dk_50 (dk_at dksX0_run_2 3 rfl rfl)
theorem dX0_run_50 : decode cX0_run 50 = .ok (.iconst 0, 1) := dk_3 (dk_at dksX0_run_2 4 rfl rfl)
theorem dX0_run_51 : decode cX0_run 51 = .ok (.iload_n 1, 1) := dk_27 (dk_at dksX0_run_2 5 rfl rfl)
theorem dX0_run_52 : decode cX0_run 52 = .ok (.iastore, 1) := dk_79 (dk_at dksX0_run_2 6 rfl rfl)
theorem dX0_run_53 : decode cX0_run 53 = .ok (.aload_n 0, 1) := dk_42 (dk_at dksX0_run_2 7 rfl rfl)
theorem dX0_run_54 : decode cX0_run 54 = .ok (.getfield 303, 3) := dk_180 1 47 (dk_at dksX0_run_2 8 rfl rfl)
theorem dX0_run_57 : decode cX0_run 57 = .ok (.aload_n 0, 1) := dk_42 (dk_at dksX0_run_2 11 rfl rfl)
theorem dX0_run_58 : decode cX0_run 58 = .ok (.getfield 98, 3) := dk_180 0 98 (dk_at dksX0_run_2 12 rfl rfl)
theorem dX0_run_61 : decode cX0_run 61 = .ok (.aaload, 1) := dk_50 (dk_at dksX0_run_2 15 rfl rfl)
theorem dX0_run_62 : decode cX0_run 62 = .ok (.iconst 1, 1) := dk_4 (dk_at dksX0_run_2 16 rfl rfl)
theorem dX0_run_63 : decode cX0_run 63 = .ok (.iload_n 2, 1) := dk_28 (dk_at dksX0_run_2 17 rfl rfl)
theorem dX0_run_64 : decode cX0_run 64 = .ok (.iastore, 1) := dk_79 (dk_at dksX0_run_2 18 rfl rfl)
theorem dX0_run_65 : decode cX0_run 65 = .ok (.aload_n 0, 1) := dk_42 (dk_at dksX0_run_2 19 rfl rfl)
theorem dX0_run_66 : decode cX0_run 66 = .ok (.getfield 303, 3) := dk_180 1 47 (dk_at dksX0_run_2 20 rfl rfl)
theorem dX0_run_69 : decode cX0_run 69 = .ok (.aload_n 0, 1) := dk_42 (dk_at dksX0_run_2 23 rfl rfl)
theorem dX0_run_70 : decode cX0_run 70 = .ok (.getfield 98, 3) := dk_180 0 98 (dk_at dksX0_run_3 0 rfl rfl)
theorem dX0_run_73 : decode cX0_run 73 = .ok (.aaload, 1) := dk_50 (dk_at dksX0_run_3 3 rfl rfl)
theorem dX0_run_74 : decode cX0_run 74 = .ok (.iconst 2, 1) := dk_5 (dk_at dksX0_run_3 4 rfl rfl)
theorem dX0_run_75 : decode cX0_run 75 = .ok (.iload_n 3, 1) := dk_29 (dk_at dksX0_run_3 5 rfl rfl)
theorem dX0_run_76 : decode cX0_run 76 = .ok (.iastore, 1) := dk_79 (dk_at dksX0_run_3 6 rfl rfl)
theorem dX0_run_77 : decode cX0_run 77 = .ok (.aload_n 0, 1) := dk_42 (dk_at dksX0_run_3 7 rfl rfl)
theorem dX0_run_78 : decode cX0_run 78 = .ok (.dup, 1) := dk_89 (dk_at dksX0_run_3 8 rfl rfl)
theorem dX0_run_79 : decode cX0_run 79 = .ok (.getfield 98, 3) := dk_180 0 98 (dk_at dksX0_run_3 9 rfl rfl)
theorem dX0_run_82 : decode cX0_run 82 = .ok (.iconst 1, 1) := dk_4 (dk_at dksX0_run_3 12 rfl rfl)
theorem dX0_run_83 : decode cX0_run 83 = .ok (.iadd, 1) := dk_96 (dk_at dksX0_run_3 13 rfl rfl)
theorem dX0_run_84 : decode cX0_run 84 = .ok (.putfield 98, 3) := dk_181 0 98 (dk_at dksX0_run_3 14 rfl rfl)
theorem dX0_run_87 : decode cX0_run 87 = .ok (.aload_n 0, 1) := dk_42 (dk_at dksX0_run_3 17 rfl rfl)
theorem dX0_run_88 : decode cX0_run 88 = .ok (.getfield 98, 3) := dk_180 0 98 (dk_at dksX0_run_3 18 rfl rfl)
theorem dX0_run_91 : decode cX0_run 91 = .ok (.ireturn, 1) := dk_172 (dk_at dksX0_run_3 21 rfl rfl)
abbrev cX0_forget : ByteArray := prog_1_method_53_code
def yX0_forget : MethodName := ⟨RX0, "forget", "()I"⟩
def dkwX0_forget_0 : List UInt8 := [42, 180, 0, 98, 60, 42, 3, 181, 0, 98, 27, 172]
abbrev dktX0_forget_0 : List UInt8 := dkwX0_forget_0 ++ []
theorem dksX0_forget_0 : cX0_forget.data.toList.drop 0 = dktX0_forget_0 := by decide +kernel
theorem dX0_forget_0 : decode cX0_forget 0 = .ok (.aload_n 0, 1) := dk_42 (dk_at dksX0_forget_0 0 rfl rfl)
theorem dX0_forget_1 : decode cX0_forget 1 = .ok (.getfield 98, 3) := dk_180 0 98 (dk_at dksX0_forget_0 1 rfl rfl)
theorem dX0_forget_4 : decode cX0_forget 4 = .ok (.istore_n 1, 1) := dk_60 (dk_at dksX0_forget_0 4 rfl rfl)
theorem dX0_forget_5 : decode cX0_forget 5 = .ok (.aload_n 0, 1) := dk_42 (dk_at dksX0_forget_0 5 rfl rfl)
theorem dX0_forget_6 : decode cX0_forget 6 = .ok (.iconst 0, 1) := dk_3 (dk_at dksX0_forget_0 6 rfl rfl)
theorem dX0_forget_7 : decode cX0_forget 7 = .ok (.putfield 98, 3) := dk_181 0 98 (dk_at dksX0_forget_0 7 rfl rfl)
theorem dX0_forget_10 : decode cX0_forget 10 = .ok (.iload_n 1, 1) := dk_27 (dk_at dksX0_forget_0 10 rfl rfl)
theorem dX0_forget_11 : decode cX0_forget 11 = .ok (.ireturn, 1) := dk_172 (dk_at dksX0_forget_0 11 rfl rfl)
abbrev cX0_wired : ByteArray := prog_1_method_55_code
def yX0_wired : MethodName := ⟨RX0, "wired", "(III)I"⟩
def dkwX0_wired_8 : List UInt8 := [154, 0, 8, 21, 5, 167, 0, 4, 2, 172]
abbrev dktX0_wired_8 : List UInt8 := dkwX0_wired_8 ++ []
def dkwX0_wired_7 : List UInt8 := [160, 0, 6, 21, 7, 172, 132, 5, 1, 132, 7, 1, 167, 255, 209, 132, 6, 1, 167, 255, 194, 29]
abbrev dktX0_wired_7 : List UInt8 := dkwX0_wired_7 ++ dktX0_wired_8
def dkwX0_wired_6 : List UInt8 := [21, 6, 160, 0, 29, 42, 27, 28, 21, 7, 182, 1, 52, 153, 0, 18, 21, 5, 29, 16, 10, 100]
abbrev dktX0_wired_6 : List UInt8 := dkwX0_wired_6 ++ dktX0_wired_7
def dkwX0_wired_5 : List UInt8 := [54, 6, 21, 6, 6, 162, 0, 62, 4, 54, 7, 21, 7, 17, 1, 0, 162, 0, 45, 21, 7, 184, 0, 158]
abbrev dktX0_wired_5 : List UInt8 := dkwX0_wired_5 ++ dktX0_wired_6
def dkwX0_wired_4 : List UInt8 := [167, 255, 206, 21, 4, 154, 0, 14, 29, 154, 0, 8, 16, 252, 167, 0, 4, 2, 172, 3, 54, 5, 4]
abbrev dktX0_wired_4 : List UInt8 := dkwX0_wired_4 ++ dktX0_wired_5
def dkwX0_wired_3 : List UInt8 := [180, 1, 47, 21, 5, 50, 4, 46, 28, 160, 0, 7, 4, 167, 0, 4, 3, 54, 4, 132, 5, 1]
abbrev dktX0_wired_3 : List UInt8 := dkwX0_wired_3 ++ dktX0_wired_4
def dkwX0_wired_2 : List UInt8 := [162, 0, 47, 21, 4, 154, 0, 29, 42, 180, 1, 47, 21, 5, 50, 3, 46, 27, 160, 0, 20, 42]
abbrev dktX0_wired_2 : List UInt8 := dkwX0_wired_2 ++ dktX0_wired_3
def dkwX0_wired_1 : List UInt8 := [20, 1, 50, 184, 0, 21, 154, 0, 5, 2, 172, 3, 54, 4, 3, 54, 5, 21, 5, 42, 180, 0, 98]
abbrev dktX0_wired_1 : List UInt8 := dkwX0_wired_1 ++ dktX0_wired_2
def dkwX0_wired_0 : List UInt8 := [42, 27, 182, 0, 195, 153, 0, 28, 28, 184, 0, 125, 153, 0, 21, 29, 153, 0, 19, 29, 133, 20, 0, 118]
abbrev dktX0_wired_0 : List UInt8 := dkwX0_wired_0 ++ dktX0_wired_1
theorem dksX0_wired_0 : cX0_wired.data.toList.drop 0 = dktX0_wired_0 := by decide +kernel
theorem dksX0_wired_1 : cX0_wired.data.toList.drop 24 = dktX0_wired_1 := dk_seg dksX0_wired_0 24 rfl rfl
theorem dksX0_wired_2 : cX0_wired.data.toList.drop 47 = dktX0_wired_2 := dk_seg dksX0_wired_1 23 rfl rfl
theorem dksX0_wired_3 : cX0_wired.data.toList.drop 69 = dktX0_wired_3 := dk_seg dksX0_wired_2 22 rfl rfl
theorem dksX0_wired_4 : cX0_wired.data.toList.drop 91 = dktX0_wired_4 := dk_seg dksX0_wired_3 22 rfl rfl
theorem dksX0_wired_5 : cX0_wired.data.toList.drop 114 = dktX0_wired_5 := dk_seg dksX0_wired_4 23 rfl rfl
theorem dksX0_wired_6 : cX0_wired.data.toList.drop 138 = dktX0_wired_6 := dk_seg dksX0_wired_5 24 rfl rfl
theorem dksX0_wired_7 : cX0_wired.data.toList.drop 160 = dktX0_wired_7 := dk_seg dksX0_wired_6 22 rfl rfl
theorem dksX0_wired_8 : cX0_wired.data.toList.drop 182 = dktX0_wired_8 := dk_seg dksX0_wired_7 22 rfl rfl
theorem dX0_wired_0 : decode cX0_wired 0 = .ok (.aload_n 0, 1) := dk_42 (dk_at dksX0_wired_0 0 rfl rfl)
theorem dX0_wired_1 : decode cX0_wired 1 = .ok (.iload_n 1, 1) := dk_27 (dk_at dksX0_wired_0 1 rfl rfl)
theorem dX0_wired_2 : decode cX0_wired 2 = .ok (.invokevirtual 195, 3) := dk_182 0 195 (dk_at dksX0_wired_0 2 rfl rfl)
theorem dX0_wired_5 : decode cX0_wired 5 = .ok (.ifCond .eq 28, 3) := dk_153 0 28 (dk_at dksX0_wired_0 5 rfl rfl)
theorem dX0_wired_8 : decode cX0_wired 8 = .ok (.iload_n 2, 1) := dk_28 (dk_at dksX0_wired_0 8 rfl rfl)
theorem dX0_wired_9 : decode cX0_wired 9 = .ok (.invokestatic 125, 3) := dk_184 0 125 (dk_at dksX0_wired_0 9 rfl rfl)
theorem dX0_wired_12 : decode cX0_wired 12 = .ok (.ifCond .eq 21, 3) := dk_153 0 21 (dk_at dksX0_wired_0 12 rfl rfl)
theorem dX0_wired_15 : decode cX0_wired 15 = .ok (.iload_n 3, 1) := dk_29 (dk_at dksX0_wired_0 15 rfl rfl)
theorem dX0_wired_16 : decode cX0_wired 16 = .ok (.ifCond .eq 19, 3) := dk_153 0 19 (dk_at dksX0_wired_0 16 rfl rfl)
theorem dX0_wired_19 : decode cX0_wired 19 = .ok (.iload_n 3, 1) := dk_29 (dk_at dksX0_wired_0 19 rfl rfl)
theorem dX0_wired_20 : decode cX0_wired 20 = .ok (.i2l, 1) := dk_133 (dk_at dksX0_wired_0 20 rfl rfl)
theorem dX0_wired_21 : decode cX0_wired 21 = .ok (.ldc2_w 118, 3) := dk_20 0 118 (dk_at dksX0_wired_0 21 rfl rfl)
theorem dX0_wired_24 : decode cX0_wired 24 = .ok (.ldc2_w 306, 3) := dk_20 1 50 (dk_at dksX0_wired_1 0 rfl rfl)
theorem dX0_wired_27 : decode cX0_wired 27 = .ok (.invokestatic 21, 3) := dk_184 0 21 (dk_at dksX0_wired_1 3 rfl rfl)
theorem dX0_wired_30 : decode cX0_wired 30 = .ok (.ifCond .ne 5, 3) := dk_154 0 5 (dk_at dksX0_wired_1 6 rfl rfl)
theorem dX0_wired_33 : decode cX0_wired 33 = .ok (.iconst (-1), 1) := dk_2 (dk_at dksX0_wired_1 9 rfl rfl)
theorem dX0_wired_34 : decode cX0_wired 34 = .ok (.ireturn, 1) := dk_172 (dk_at dksX0_wired_1 10 rfl rfl)
theorem dX0_wired_35 : decode cX0_wired 35 = .ok (.iconst 0, 1) := dk_3 (dk_at dksX0_wired_1 11 rfl rfl)
theorem dX0_wired_36 : decode cX0_wired 36 = .ok (.istore 4, 2) := dk_54 4 (dk_at dksX0_wired_1 12 rfl rfl)
theorem dX0_wired_38 : decode cX0_wired 38 = .ok (.iconst 0, 1) := dk_3 (dk_at dksX0_wired_1 14 rfl rfl)
theorem dX0_wired_39 : decode cX0_wired 39 = .ok (.istore 5, 2) := dk_54 5 (dk_at dksX0_wired_1 15 rfl rfl)
theorem dX0_wired_41 : decode cX0_wired 41 = .ok (.iload 5, 2) := dk_21 5 (dk_at dksX0_wired_1 17 rfl rfl)
theorem dX0_wired_43 : decode cX0_wired 43 = .ok (.aload_n 0, 1) := dk_42 (dk_at dksX0_wired_1 19 rfl rfl)
theorem dX0_wired_44 : decode cX0_wired 44 = .ok (.getfield 98, 3) := dk_180 0 98 (dk_at dksX0_wired_1 20 rfl rfl)
theorem dX0_wired_47 : decode cX0_wired 47 = .ok (.if_icmp .ge 47, 3) := dk_162 0 47 (dk_at dksX0_wired_2 0 rfl rfl)
theorem dX0_wired_50 : decode cX0_wired 50 = .ok (.iload 4, 2) := dk_21 4 (dk_at dksX0_wired_2 3 rfl rfl)
theorem dX0_wired_52 : decode cX0_wired 52 = .ok (.ifCond .ne 29, 3) := dk_154 0 29 (dk_at dksX0_wired_2 5 rfl rfl)
theorem dX0_wired_55 : decode cX0_wired 55 = .ok (.aload_n 0, 1) := dk_42 (dk_at dksX0_wired_2 8 rfl rfl)
theorem dX0_wired_56 : decode cX0_wired 56 = .ok (.getfield 303, 3) := dk_180 1 47 (dk_at dksX0_wired_2 9 rfl rfl)
theorem dX0_wired_59 : decode cX0_wired 59 = .ok (.iload 5, 2) := dk_21 5 (dk_at dksX0_wired_2 12 rfl rfl)
theorem dX0_wired_61 : decode cX0_wired 61 = .ok (.aaload, 1) := dk_50 (dk_at dksX0_wired_2 14 rfl rfl)
theorem dX0_wired_62 : decode cX0_wired 62 = .ok (.iconst 0, 1) := dk_3 (dk_at dksX0_wired_2 15 rfl rfl)
theorem dX0_wired_63 : decode cX0_wired 63 = .ok (.iaload, 1) := dk_46 (dk_at dksX0_wired_2 16 rfl rfl)
theorem dX0_wired_64 : decode cX0_wired 64 = .ok (.iload_n 1, 1) := dk_27 (dk_at dksX0_wired_2 17 rfl rfl)
theorem dX0_wired_65 : decode cX0_wired 65 = .ok (.if_icmp .ne 20, 3) := dk_160 0 20 (dk_at dksX0_wired_2 18 rfl rfl)
theorem dX0_wired_68 : decode cX0_wired 68 = .ok (.aload_n 0, 1) := dk_42 (dk_at dksX0_wired_2 21 rfl rfl)
theorem dX0_wired_69 : decode cX0_wired 69 = .ok (.getfield 303, 3) := dk_180 1 47 (dk_at dksX0_wired_3 0 rfl rfl)
theorem dX0_wired_72 : decode cX0_wired 72 = .ok (.iload 5, 2) := dk_21 5 (dk_at dksX0_wired_3 3 rfl rfl)
theorem dX0_wired_74 : decode cX0_wired 74 = .ok (.aaload, 1) := dk_50 (dk_at dksX0_wired_3 5 rfl rfl)
theorem dX0_wired_75 : decode cX0_wired 75 = .ok (.iconst 1, 1) := dk_4 (dk_at dksX0_wired_3 6 rfl rfl)
theorem dX0_wired_76 : decode cX0_wired 76 = .ok (.iaload, 1) := dk_46 (dk_at dksX0_wired_3 7 rfl rfl)
theorem dX0_wired_77 : decode cX0_wired 77 = .ok (.iload_n 2, 1) := dk_28 (dk_at dksX0_wired_3 8 rfl rfl)
theorem dX0_wired_78 : decode cX0_wired 78 = .ok (.if_icmp .ne 7, 3) := dk_160 0 7 (dk_at dksX0_wired_3 9 rfl rfl)
theorem dX0_wired_81 : decode cX0_wired 81 = .ok (.iconst 1, 1) := dk_4 (dk_at dksX0_wired_3 12 rfl rfl)
theorem dX0_wired_82 : decode cX0_wired 82 = .ok (.goto 4, 3) := dk_167 0 4 (dk_at dksX0_wired_3 13 rfl rfl)
theorem dX0_wired_85 : decode cX0_wired 85 = .ok (.iconst 0, 1) := dk_3 (dk_at dksX0_wired_3 16 rfl rfl)
theorem dX0_wired_86 : decode cX0_wired 86 = .ok (.istore 4, 2) := dk_54 4 (dk_at dksX0_wired_3 17 rfl rfl)
theorem dX0_wired_88 : decode cX0_wired 88 = .ok (.iinc 5 1, 3) := dk_132 5 1 (dk_at dksX0_wired_3 19 rfl rfl)
theorem dX0_wired_91 : decode cX0_wired 91 = .ok (.goto (-50), 3) := dk_167 255 206 (dk_at dksX0_wired_4 0 rfl rfl)
theorem dX0_wired_94 : decode cX0_wired 94 = .ok (.iload 4, 2) := dk_21 4 (dk_at dksX0_wired_4 3 rfl rfl)
theorem dX0_wired_96 : decode cX0_wired 96 = .ok (.ifCond .ne 14, 3) := dk_154 0 14 (dk_at dksX0_wired_4 5 rfl rfl)
theorem dX0_wired_99 : decode cX0_wired 99 = .ok (.iload_n 3, 1) := dk_29 (dk_at dksX0_wired_4 8 rfl rfl)
theorem dX0_wired_100 : decode cX0_wired 100 = .ok (.ifCond .ne 8, 3) := dk_154 0 8 (dk_at dksX0_wired_4 9 rfl rfl)
theorem dX0_wired_103 : decode cX0_wired 103 = .ok (.bipush (-4), 2) := dk_16 252 (dk_at dksX0_wired_4 12 rfl rfl)
theorem dX0_wired_105 : decode cX0_wired 105 = .ok (.goto 4, 3) := dk_167 0 4 (dk_at dksX0_wired_4 14 rfl rfl)
theorem dX0_wired_108 : decode cX0_wired 108 = .ok (.iconst (-1), 1) := dk_2 (dk_at dksX0_wired_4 17 rfl rfl)
theorem dX0_wired_109 : decode cX0_wired 109 = .ok (.ireturn, 1) := dk_172 (dk_at dksX0_wired_4 18 rfl rfl)
theorem dX0_wired_110 : decode cX0_wired 110 = .ok (.iconst 0, 1) := dk_3 (dk_at dksX0_wired_4 19 rfl rfl)
theorem dX0_wired_111 : decode cX0_wired 111 = .ok (.istore 5, 2) := dk_54 5 (dk_at dksX0_wired_4 20 rfl rfl)
theorem dX0_wired_113 : decode cX0_wired 113 = .ok (.iconst 1, 1) := dk_4 (dk_at dksX0_wired_4 22 rfl rfl)
theorem dX0_wired_114 : decode cX0_wired 114 = .ok (.istore 6, 2) := dk_54 6 (dk_at dksX0_wired_5 0 rfl rfl)
theorem dX0_wired_116 : decode cX0_wired 116 = .ok (.iload 6, 2) := dk_21 6 (dk_at dksX0_wired_5 2 rfl rfl)
theorem dX0_wired_118 : decode cX0_wired 118 = .ok (.iconst 3, 1) := dk_6 (dk_at dksX0_wired_5 4 rfl rfl)
theorem dX0_wired_119 : decode cX0_wired 119 = .ok (.if_icmp .ge 62, 3) := dk_162 0 62 (dk_at dksX0_wired_5 5 rfl rfl)
theorem dX0_wired_122 : decode cX0_wired 122 = .ok (.iconst 1, 1) := dk_4 (dk_at dksX0_wired_5 8 rfl rfl)
theorem dX0_wired_123 : decode cX0_wired 123 = .ok (.istore 7, 2) := dk_54 7 (dk_at dksX0_wired_5 9 rfl rfl)
theorem dX0_wired_125 : decode cX0_wired 125 = .ok (.iload 7, 2) := dk_21 7 (dk_at dksX0_wired_5 11 rfl rfl)
theorem dX0_wired_127 : decode cX0_wired 127 = .ok (.sipush 256, 3) := dk_17 1 0 (dk_at dksX0_wired_5 13 rfl rfl)
theorem dX0_wired_130 : decode cX0_wired 130 = .ok (.if_icmp .ge 45, 3) := dk_162 0 45 (dk_at dksX0_wired_5 16 rfl rfl)
theorem dX0_wired_133 : decode cX0_wired 133 = .ok (.iload 7, 2) := dk_21 7 (dk_at dksX0_wired_5 19 rfl rfl)
theorem dX0_wired_135 : decode cX0_wired 135 = .ok (.invokestatic 158, 3) := dk_184 0 158 (dk_at dksX0_wired_5 21 rfl rfl)
theorem dX0_wired_138 : decode cX0_wired 138 = .ok (.iload 6, 2) := dk_21 6 (dk_at dksX0_wired_6 0 rfl rfl)
theorem dX0_wired_140 : decode cX0_wired 140 = .ok (.if_icmp .ne 29, 3) := dk_160 0 29 (dk_at dksX0_wired_6 2 rfl rfl)
theorem dX0_wired_143 : decode cX0_wired 143 = .ok (.aload_n 0, 1) := dk_42 (dk_at dksX0_wired_6 5 rfl rfl)
theorem dX0_wired_144 : decode cX0_wired 144 = .ok (.iload_n 1, 1) := dk_27 (dk_at dksX0_wired_6 6 rfl rfl)
theorem dX0_wired_145 : decode cX0_wired 145 = .ok (.iload_n 2, 1) := dk_28 (dk_at dksX0_wired_6 7 rfl rfl)
theorem dX0_wired_146 : decode cX0_wired 146 = .ok (.iload 7, 2) := dk_21 7 (dk_at dksX0_wired_6 8 rfl rfl)
theorem dX0_wired_148 : decode cX0_wired 148 = .ok (.invokevirtual 308, 3) := dk_182 1 52 (dk_at dksX0_wired_6 10 rfl rfl)
theorem dX0_wired_151 : decode cX0_wired 151 = .ok (.ifCond .eq 18, 3) := dk_153 0 18 (dk_at dksX0_wired_6 13 rfl rfl)
theorem dX0_wired_154 : decode cX0_wired 154 = .ok (.iload 5, 2) := dk_21 5 (dk_at dksX0_wired_6 16 rfl rfl)
theorem dX0_wired_156 : decode cX0_wired 156 = .ok (.iload_n 3, 1) := dk_29 (dk_at dksX0_wired_6 18 rfl rfl)
theorem dX0_wired_157 : decode cX0_wired 157 = .ok (.bipush 10, 2) := dk_16 10 (dk_at dksX0_wired_6 19 rfl rfl)
theorem dX0_wired_159 : decode cX0_wired 159 = .ok (.isub, 1) := dk_100 (dk_at dksX0_wired_6 21 rfl rfl)
theorem dX0_wired_160 : decode cX0_wired 160 = .ok (.if_icmp .ne 6, 3) := dk_160 0 6 (dk_at dksX0_wired_7 0 rfl rfl)
theorem dX0_wired_163 : decode cX0_wired 163 = .ok (.iload 7, 2) := dk_21 7 (dk_at dksX0_wired_7 3 rfl rfl)
theorem dX0_wired_165 : decode cX0_wired 165 = .ok (.ireturn, 1) := dk_172 (dk_at dksX0_wired_7 5 rfl rfl)
theorem dX0_wired_166 : decode cX0_wired 166 = .ok (.iinc 5 1, 3) := dk_132 5 1 (dk_at dksX0_wired_7 6 rfl rfl)
theorem dX0_wired_169 : decode cX0_wired 169 = .ok (.iinc 7 1, 3) := dk_132 7 1 (dk_at dksX0_wired_7 9 rfl rfl)
theorem dX0_wired_172 : decode cX0_wired 172 = .ok (.goto (-47), 3) := dk_167 255 209 (dk_at dksX0_wired_7 12 rfl rfl)
theorem dX0_wired_175 : decode cX0_wired 175 = .ok (.iinc 6 1, 3) := dk_132 6 1 (dk_at dksX0_wired_7 15 rfl rfl)
theorem dX0_wired_178 : decode cX0_wired 178 = .ok (.goto (-62), 3) := dk_167 255 194 (dk_at dksX0_wired_7 18 rfl rfl)
theorem dX0_wired_181 : decode cX0_wired 181 = .ok (.iload_n 3, 1) := dk_29 (dk_at dksX0_wired_7 21 rfl rfl)
theorem dX0_wired_182 : decode cX0_wired 182 = .ok (.ifCond .ne 8, 3) := dk_154 0 8 (dk_at dksX0_wired_8 0 rfl rfl)
theorem dX0_wired_185 : decode cX0_wired 185 = .ok (.iload 5, 2) := dk_21 5 (dk_at dksX0_wired_8 3 rfl rfl)
theorem dX0_wired_187 : decode cX0_wired 187 = .ok (.goto 4, 3) := dk_167 0 4 (dk_at dksX0_wired_8 5 rfl rfl)
theorem dX0_wired_190 : decode cX0_wired 190 = .ok (.iconst (-1), 1) := dk_2 (dk_at dksX0_wired_8 8 rfl rfl)
theorem dX0_wired_191 : decode cX0_wired 191 = .ok (.ireturn, 1) := dk_172 (dk_at dksX0_wired_8 9 rfl rfl)
abbrev cX0_isWired : ByteArray := prog_1_method_54_code
def yX0_isWired : MethodName := ⟨RX0, "isWired", "(III)Z"⟩
def dkwX0_isWired_5 : List UInt8 := [167, 255, 192, 21, 5, 172]
abbrev dktX0_isWired_5 : List UInt8 := dkwX0_isWired_5 ++ []
def dkwX0_isWired_4 : List UInt8 := [180, 1, 47, 21, 6, 50, 5, 46, 21, 4, 160, 0, 7, 4, 167, 0, 4, 3, 54, 5, 132, 6, 1]
abbrev dktX0_isWired_4 : List UInt8 := dkwX0_isWired_4 ++ dktX0_isWired_5
def dkwX0_isWired_3 : List UInt8 := [21, 6, 50, 3, 46, 27, 160, 0, 30, 42, 180, 1, 47, 21, 6, 50, 4, 46, 28, 160, 0, 17, 42]
abbrev dktX0_isWired_3 : List UInt8 := dkwX0_isWired_3 ++ dktX0_isWired_4
def dkwX0_isWired_2 : List UInt8 := [54, 5, 3, 54, 6, 21, 6, 42, 180, 0, 98, 162, 0, 61, 21, 5, 153, 0, 47, 42, 180, 1, 47]
abbrev dktX0_isWired_2 : List UInt8 := dkwX0_isWired_2 ++ dktX0_isWired_3
def dkwX0_isWired_1 : List UInt8 := [160, 0, 13, 42, 180, 0, 41, 21, 5, 46, 167, 0, 4, 3, 96, 54, 4, 132, 5, 1, 167, 255, 220, 4]
abbrev dktX0_isWired_1 : List UInt8 := dkwX0_isWired_1 ++ dktX0_isWired_2
def dkwX0_isWired_0 : List UInt8 := [3, 54, 4, 3, 54, 5, 21, 5, 16, 8, 162, 0, 35, 21, 4, 29, 21, 5, 122, 4, 126, 4]
abbrev dktX0_isWired_0 : List UInt8 := dkwX0_isWired_0 ++ dktX0_isWired_1
theorem dksX0_isWired_0 : cX0_isWired.data.toList.drop 0 = dktX0_isWired_0 := by decide +kernel
theorem dksX0_isWired_1 : cX0_isWired.data.toList.drop 22 = dktX0_isWired_1 := dk_seg dksX0_isWired_0 22 rfl rfl
theorem dksX0_isWired_2 : cX0_isWired.data.toList.drop 46 = dktX0_isWired_2 := dk_seg dksX0_isWired_1 24 rfl rfl
theorem dksX0_isWired_3 : cX0_isWired.data.toList.drop 69 = dktX0_isWired_3 := dk_seg dksX0_isWired_2 23 rfl rfl
theorem dksX0_isWired_4 : cX0_isWired.data.toList.drop 92 = dktX0_isWired_4 := dk_seg dksX0_isWired_3 23 rfl rfl
theorem dksX0_isWired_5 : cX0_isWired.data.toList.drop 115 = dktX0_isWired_5 := dk_seg dksX0_isWired_4 23 rfl rfl
theorem dX0_isWired_0 : decode cX0_isWired 0 = .ok (.iconst 0, 1) := dk_3 (dk_at dksX0_isWired_0 0 rfl rfl)
theorem dX0_isWired_1 : decode cX0_isWired 1 = .ok (.istore 4, 2) := dk_54 4 (dk_at dksX0_isWired_0 1 rfl rfl)
theorem dX0_isWired_3 : decode cX0_isWired 3 = .ok (.iconst 0, 1) := dk_3 (dk_at dksX0_isWired_0 3 rfl rfl)
theorem dX0_isWired_4 : decode cX0_isWired 4 = .ok (.istore 5, 2) := dk_54 5 (dk_at dksX0_isWired_0 4 rfl rfl)
theorem dX0_isWired_6 : decode cX0_isWired 6 = .ok (.iload 5, 2) := dk_21 5 (dk_at dksX0_isWired_0 6 rfl rfl)
theorem dX0_isWired_8 : decode cX0_isWired 8 = .ok (.bipush 8, 2) := dk_16 8 (dk_at dksX0_isWired_0 8 rfl rfl)
theorem dX0_isWired_10 : decode cX0_isWired 10 = .ok (.if_icmp .ge 35, 3) := dk_162 0 35 (dk_at dksX0_isWired_0 10 rfl rfl)
theorem dX0_isWired_13 : decode cX0_isWired 13 = .ok (.iload 4, 2) := dk_21 4 (dk_at dksX0_isWired_0 13 rfl rfl)
theorem dX0_isWired_15 : decode cX0_isWired 15 = .ok (.iload_n 3, 1) := dk_29 (dk_at dksX0_isWired_0 15 rfl rfl)
theorem dX0_isWired_16 : decode cX0_isWired 16 = .ok (.iload 5, 2) := dk_21 5 (dk_at dksX0_isWired_0 16 rfl rfl)
theorem dX0_isWired_18 : decode cX0_isWired 18 = .ok (.ishr, 1) := dk_122 (dk_at dksX0_isWired_0 18 rfl rfl)
theorem dX0_isWired_19 : decode cX0_isWired 19 = .ok (.iconst 1, 1) := dk_4 (dk_at dksX0_isWired_0 19 rfl rfl)
theorem dX0_isWired_20 : decode cX0_isWired 20 = .ok (.iand, 1) := dk_126 (dk_at dksX0_isWired_0 20 rfl rfl)
theorem dX0_isWired_21 : decode cX0_isWired 21 = .ok (.iconst 1, 1) := dk_4 (dk_at dksX0_isWired_0 21 rfl rfl)
theorem dX0_isWired_22 : decode cX0_isWired 22 = .ok (.if_icmp .ne 13, 3) := dk_160 0 13 (dk_at dksX0_isWired_1 0 rfl rfl)
theorem dX0_isWired_25 : decode cX0_isWired 25 = .ok (.aload_n 0, 1) := dk_42 (dk_at dksX0_isWired_1 3 rfl rfl)
theorem dX0_isWired_26 : decode cX0_isWired 26 = .ok (.getfield 41, 3) := dk_180 0 41 (dk_at dksX0_isWired_1 4 rfl rfl)
theorem dX0_isWired_29 : decode cX0_isWired 29 = .ok (.iload 5, 2) := dk_21 5 (dk_at dksX0_isWired_1 7 rfl rfl)
theorem dX0_isWired_31 : decode cX0_isWired 31 = .ok (.iaload, 1) := dk_46 (dk_at dksX0_isWired_1 9 rfl rfl)
theorem dX0_isWired_32 : decode cX0_isWired 32 = .ok (.goto 4, 3) := dk_167 0 4 (dk_at dksX0_isWired_1 10 rfl rfl)
theorem dX0_isWired_35 : decode cX0_isWired 35 = .ok (.iconst 0, 1) := dk_3 (dk_at dksX0_isWired_1 13 rfl rfl)
theorem dX0_isWired_36 : decode cX0_isWired 36 = .ok (.iadd, 1) := dk_96 (dk_at dksX0_isWired_1 14 rfl rfl)
theorem dX0_isWired_37 : decode cX0_isWired 37 = .ok (.istore 4, 2) := dk_54 4 (dk_at dksX0_isWired_1 15 rfl rfl)
theorem dX0_isWired_39 : decode cX0_isWired 39 = .ok (.iinc 5 1, 3) := dk_132 5 1 (dk_at dksX0_isWired_1 17 rfl rfl)
theorem dX0_isWired_42 : decode cX0_isWired 42 = .ok (.goto (-36), 3) := dk_167 255 220 (dk_at dksX0_isWired_1 20 rfl rfl)
theorem dX0_isWired_45 : decode cX0_isWired 45 = .ok (.iconst 1, 1) := dk_4 (dk_at dksX0_isWired_1 23 rfl rfl)
theorem dX0_isWired_46 : decode cX0_isWired 46 = .ok (.istore 5, 2) := dk_54 5 (dk_at dksX0_isWired_2 0 rfl rfl)
theorem dX0_isWired_48 : decode cX0_isWired 48 = .ok (.iconst 0, 1) := dk_3 (dk_at dksX0_isWired_2 2 rfl rfl)
theorem dX0_isWired_49 : decode cX0_isWired 49 = .ok (.istore 6, 2) := dk_54 6 (dk_at dksX0_isWired_2 3 rfl rfl)
theorem dX0_isWired_51 : decode cX0_isWired 51 = .ok (.iload 6, 2) := dk_21 6 (dk_at dksX0_isWired_2 5 rfl rfl)
theorem dX0_isWired_53 : decode cX0_isWired 53 = .ok (.aload_n 0, 1) := dk_42 (dk_at dksX0_isWired_2 7 rfl rfl)
theorem dX0_isWired_54 : decode cX0_isWired 54 = .ok (.getfield 98, 3) := dk_180 0 98 (dk_at dksX0_isWired_2 8 rfl rfl)
theorem dX0_isWired_57 : decode cX0_isWired 57 = .ok (.if_icmp .ge 61, 3) := dk_162 0 61 (dk_at dksX0_isWired_2 11 rfl rfl)
theorem dX0_isWired_60 : decode cX0_isWired 60 = .ok (.iload 5, 2) := dk_21 5 (dk_at dksX0_isWired_2 14 rfl rfl)
theorem dX0_isWired_62 : decode cX0_isWired 62 = .ok (.ifCond .eq 47, 3) := dk_153 0 47 (dk_at dksX0_isWired_2 16 rfl rfl)
theorem dX0_isWired_65 : decode cX0_isWired 65 = .ok (.aload_n 0, 1) := dk_42 (dk_at dksX0_isWired_2 19 rfl rfl)
theorem dX0_isWired_66 : decode cX0_isWired 66 = .ok (.getfield 303, 3) := dk_180 1 47 (dk_at dksX0_isWired_2 20 rfl rfl)
theorem dX0_isWired_69 : decode cX0_isWired 69 = .ok (.iload 6, 2) := dk_21 6 (dk_at dksX0_isWired_3 0 rfl rfl)
theorem dX0_isWired_71 : decode cX0_isWired 71 = .ok (.aaload, 1) := dk_50 (dk_at dksX0_isWired_3 2 rfl rfl)
theorem dX0_isWired_72 : decode cX0_isWired 72 = .ok (.iconst 0, 1) := dk_3 (dk_at dksX0_isWired_3 3 rfl rfl)
theorem dX0_isWired_73 : decode cX0_isWired 73 = .ok (.iaload, 1) := dk_46 (dk_at dksX0_isWired_3 4 rfl rfl)
theorem dX0_isWired_74 : decode cX0_isWired 74 = .ok (.iload_n 1, 1) := dk_27 (dk_at dksX0_isWired_3 5 rfl rfl)
theorem dX0_isWired_75 : decode cX0_isWired 75 = .ok (.if_icmp .ne 30, 3) := dk_160 0 30 (dk_at dksX0_isWired_3 6 rfl rfl)
theorem dX0_isWired_78 : decode cX0_isWired 78 = .ok (.aload_n 0, 1) := dk_42 (dk_at dksX0_isWired_3 9 rfl rfl)
theorem dX0_isWired_79 : decode cX0_isWired 79 = .ok (.getfield 303, 3) := dk_180 1 47 (dk_at dksX0_isWired_3 10 rfl rfl)
theorem dX0_isWired_82 : decode cX0_isWired 82 = .ok (.iload 6, 2) := dk_21 6 (dk_at dksX0_isWired_3 13 rfl rfl)
theorem dX0_isWired_84 : decode cX0_isWired 84 = .ok (.aaload, 1) := dk_50 (dk_at dksX0_isWired_3 15 rfl rfl)
theorem dX0_isWired_85 : decode cX0_isWired 85 = .ok (.iconst 1, 1) := dk_4 (dk_at dksX0_isWired_3 16 rfl rfl)
theorem dX0_isWired_86 : decode cX0_isWired 86 = .ok (.iaload, 1) := dk_46 (dk_at dksX0_isWired_3 17 rfl rfl)
theorem dX0_isWired_87 : decode cX0_isWired 87 = .ok (.iload_n 2, 1) := dk_28 (dk_at dksX0_isWired_3 18 rfl rfl)
theorem dX0_isWired_88 : decode cX0_isWired 88 = .ok (.if_icmp .ne 17, 3) := dk_160 0 17 (dk_at dksX0_isWired_3 19 rfl rfl)
theorem dX0_isWired_91 : decode cX0_isWired 91 = .ok (.aload_n 0, 1) := dk_42 (dk_at dksX0_isWired_3 22 rfl rfl)
theorem dX0_isWired_92 : decode cX0_isWired 92 = .ok (.getfield 303, 3) := dk_180 1 47 (dk_at dksX0_isWired_4 0 rfl rfl)
theorem dX0_isWired_95 : decode cX0_isWired 95 = .ok (.iload 6, 2) := dk_21 6 (dk_at dksX0_isWired_4 3 rfl rfl)
theorem dX0_isWired_97 : decode cX0_isWired 97 = .ok (.aaload, 1) := dk_50 (dk_at dksX0_isWired_4 5 rfl rfl)
theorem dX0_isWired_98 : decode cX0_isWired 98 = .ok (.iconst 2, 1) := dk_5 (dk_at dksX0_isWired_4 6 rfl rfl)
theorem dX0_isWired_99 : decode cX0_isWired 99 = .ok (.iaload, 1) := dk_46 (dk_at dksX0_isWired_4 7 rfl rfl)
theorem dX0_isWired_100 : decode cX0_isWired 100 = .ok (.iload 4, 2) := dk_21 4 (dk_at dksX0_isWired_4 8 rfl rfl)
theorem dX0_isWired_102 : decode cX0_isWired 102 = .ok (.if_icmp .ne 7, 3) := dk_160 0 7 (dk_at dksX0_isWired_4 10 rfl rfl)
theorem dX0_isWired_105 : decode cX0_isWired 105 = .ok (.iconst 1, 1) := dk_4 (dk_at dksX0_isWired_4 13 rfl rfl)
theorem dX0_isWired_106 : decode cX0_isWired 106 = .ok (.goto 4, 3) := dk_167 0 4 (dk_at dksX0_isWired_4 14 rfl rfl)
theorem dX0_isWired_109 : decode cX0_isWired 109 = .ok (.iconst 0, 1) := dk_3 (dk_at dksX0_isWired_4 17 rfl rfl)
theorem dX0_isWired_110 : decode cX0_isWired 110 = .ok (.istore 5, 2) := dk_54 5 (dk_at dksX0_isWired_4 18 rfl rfl)
theorem dX0_isWired_112 : decode cX0_isWired 112 = .ok (.iinc 6 1, 3) := dk_132 6 1 (dk_at dksX0_isWired_4 20 rfl rfl)
theorem dX0_isWired_115 : decode cX0_isWired 115 = .ok (.goto (-64), 3) := dk_167 255 192 (dk_at dksX0_isWired_5 0 rfl rfl)
theorem dX0_isWired_118 : decode cX0_isWired 118 = .ok (.iload 5, 2) := dk_21 5 (dk_at dksX0_isWired_5 3 rfl rfl)
theorem dX0_isWired_120 : decode cX0_isWired 120 = .ok (.ireturn, 1) := dk_172 (dk_at dksX0_isWired_5 5 rfl rfl)
abbrev cX0_init : ByteArray := prog_1_method_56_code
def yX0_init : MethodName := ⟨RX0, "<init>", "()V"⟩
def dkwX0_init_8 : List UInt8 := [183, 1, 64, 83, 89, 6, 187, 1, 62, 89, 183, 1, 64, 83, 181, 1, 65, 177]
abbrev dktX0_init_8 : List UInt8 := dkwX0_init_8 ++ []
def dkwX0_init_7 : List UInt8 := [187, 1, 62, 89, 183, 1, 64, 83, 89, 4, 187, 1, 62, 89, 183, 1, 64, 83, 89, 5, 187, 1, 62, 89]
abbrev dktX0_init_7 : List UInt8 := dkwX0_init_7 ++ dktX0_init_8
def dkwX0_init_6 : List UInt8 := [188, 10, 181, 1, 7, 42, 16, 12, 6, 197, 1, 60, 2, 181, 1, 47, 42, 7, 189, 1, 62, 89, 3]
abbrev dktX0_init_6 : List UInt8 := dkwX0_init_6 ++ dktX0_init_7
def dkwX0_init_5 : List UInt8 := [181, 0, 218, 42, 17, 1, 0, 188, 10, 181, 0, 222, 42, 16, 8, 188, 10, 181, 0, 231, 42, 16, 16]
abbrev dktX0_init_5 : List UInt8 := dkwX0_init_5 ++ dktX0_init_6
def dkwX0_init_4 : List UInt8 := [183, 1, 61, 83, 89, 6, 187, 0, 188, 89, 183, 1, 61, 83, 181, 0, 183, 42, 17, 1, 0, 188, 4]
abbrev dktX0_init_4 : List UInt8 := dkwX0_init_4 ++ dktX0_init_5
def dkwX0_init_3 : List UInt8 := [187, 0, 188, 89, 183, 1, 61, 83, 89, 4, 187, 0, 188, 89, 183, 1, 61, 83, 89, 5, 187, 0, 188, 89]
abbrev dktX0_init_3 : List UInt8 := dkwX0_init_3 ++ dktX0_init_4
def dkwX0_init_2 : List UInt8 := [16, 16, 16, 8, 197, 1, 60, 2, 181, 0, 167, 42, 5, 181, 0, 178, 42, 7, 189, 0, 188, 89, 3]
abbrev dktX0_init_2 : List UInt8 := dkwX0_init_2 ++ dktX0_init_3
def dkwX0_init_1 : List UInt8 := [189, 0, 136, 181, 0, 90, 42, 17, 23, 112, 188, 10, 181, 0, 25, 42, 16, 8, 188, 10, 181, 0, 41, 42]
abbrev dktX0_init_1 : List UInt8 := dkwX0_init_1 ++ dktX0_init_2
def dkwX0_init_0 : List UInt8 := [42, 183, 1, 55, 42, 17, 1, 64, 188, 8, 181, 0, 17, 42, 16, 16, 189, 0, 58, 181, 0, 53, 42, 5]
abbrev dktX0_init_0 : List UInt8 := dkwX0_init_0 ++ dktX0_init_1
theorem dksX0_init_0 : cX0_init.data.toList.drop 0 = dktX0_init_0 := by decide +kernel
theorem dksX0_init_1 : cX0_init.data.toList.drop 24 = dktX0_init_1 := dk_seg dksX0_init_0 24 rfl rfl
theorem dksX0_init_2 : cX0_init.data.toList.drop 48 = dktX0_init_2 := dk_seg dksX0_init_1 24 rfl rfl
theorem dksX0_init_3 : cX0_init.data.toList.drop 71 = dktX0_init_3 := dk_seg dksX0_init_2 23 rfl rfl
theorem dksX0_init_4 : cX0_init.data.toList.drop 95 = dktX0_init_4 := dk_seg dksX0_init_3 24 rfl rfl
theorem dksX0_init_5 : cX0_init.data.toList.drop 118 = dktX0_init_5 := dk_seg dksX0_init_4 23 rfl rfl
theorem dksX0_init_6 : cX0_init.data.toList.drop 141 = dktX0_init_6 := dk_seg dksX0_init_5 23 rfl rfl
theorem dksX0_init_7 : cX0_init.data.toList.drop 164 = dktX0_init_7 := dk_seg dksX0_init_6 23 rfl rfl
theorem dksX0_init_8 : cX0_init.data.toList.drop 188 = dktX0_init_8 := dk_seg dksX0_init_7 24 rfl rfl
theorem dX0_init_0 : decode cX0_init 0 = .ok (.aload_n 0, 1) := dk_42 (dk_at dksX0_init_0 0 rfl rfl)
theorem dX0_init_1 : decode cX0_init 1 = .ok (.invokespecial 311, 3) := dk_183 1 55 (dk_at dksX0_init_0 1 rfl rfl)
theorem dX0_init_4 : decode cX0_init 4 = .ok (.aload_n 0, 1) := dk_42 (dk_at dksX0_init_0 4 rfl rfl)
theorem dX0_init_5 : decode cX0_init 5 = .ok (.sipush 320, 3) := dk_17 1 64 (dk_at dksX0_init_0 5 rfl rfl)
theorem dX0_init_8 : decode cX0_init 8 = .ok (.newarray .byte, 2) := dk_188_8 (dk_at dksX0_init_0 8 rfl rfl)
theorem dX0_init_10 : decode cX0_init 10 = .ok (.putfield 17, 3) := dk_181 0 17 (dk_at dksX0_init_0 10 rfl rfl)
theorem dX0_init_13 : decode cX0_init 13 = .ok (.aload_n 0, 1) := dk_42 (dk_at dksX0_init_0 13 rfl rfl)
theorem dX0_init_14 : decode cX0_init 14 = .ok (.bipush 16, 2) := dk_16 16 (dk_at dksX0_init_0 14 rfl rfl)
theorem dX0_init_16 : decode cX0_init 16 = .ok (.anewarray 58, 3) := dk_189 0 58 (dk_at dksX0_init_0 16 rfl rfl)
theorem dX0_init_19 : decode cX0_init 19 = .ok (.putfield 53, 3) := dk_181 0 53 (dk_at dksX0_init_0 19 rfl rfl)
theorem dX0_init_22 : decode cX0_init 22 = .ok (.aload_n 0, 1) := dk_42 (dk_at dksX0_init_0 22 rfl rfl)
theorem dX0_init_23 : decode cX0_init 23 = .ok (.iconst 2, 1) := dk_5 (dk_at dksX0_init_0 23 rfl rfl)
theorem dX0_init_24 : decode cX0_init 24 = .ok (.anewarray 136, 3) := dk_189 0 136 (dk_at dksX0_init_1 0 rfl rfl)
theorem dX0_init_27 : decode cX0_init 27 = .ok (.putfield 90, 3) := dk_181 0 90 (dk_at dksX0_init_1 3 rfl rfl)
theorem dX0_init_30 : decode cX0_init 30 = .ok (.aload_n 0, 1) := dk_42 (dk_at dksX0_init_1 6 rfl rfl)
theorem dX0_init_31 : decode cX0_init 31 = .ok (.sipush 6000, 3) := dk_17 23 112 (dk_at dksX0_init_1 7 rfl rfl)
theorem dX0_init_34 : decode cX0_init 34 = .ok (.newarray .int, 2) := dk_188_10 (dk_at dksX0_init_1 10 rfl rfl)
theorem dX0_init_36 : decode cX0_init 36 = .ok (.putfield 25, 3) := dk_181 0 25 (dk_at dksX0_init_1 12 rfl rfl)
theorem dX0_init_39 : decode cX0_init 39 = .ok (.aload_n 0, 1) := dk_42 (dk_at dksX0_init_1 15 rfl rfl)
theorem dX0_init_40 : decode cX0_init 40 = .ok (.bipush 8, 2) := dk_16 8 (dk_at dksX0_init_1 16 rfl rfl)
theorem dX0_init_42 : decode cX0_init 42 = .ok (.newarray .int, 2) := dk_188_10 (dk_at dksX0_init_1 18 rfl rfl)
theorem dX0_init_44 : decode cX0_init 44 = .ok (.putfield 41, 3) := dk_181 0 41 (dk_at dksX0_init_1 20 rfl rfl)
theorem dX0_init_47 : decode cX0_init 47 = .ok (.aload_n 0, 1) := dk_42 (dk_at dksX0_init_1 23 rfl rfl)
theorem dX0_init_48 : decode cX0_init 48 = .ok (.bipush 16, 2) := dk_16 16 (dk_at dksX0_init_2 0 rfl rfl)
theorem dX0_init_50 : decode cX0_init 50 = .ok (.bipush 8, 2) := dk_16 8 (dk_at dksX0_init_2 2 rfl rfl)
theorem dX0_init_52 : decode cX0_init 52 = .ok (.multianewarray 316 2, 4) := by decide +kernel
theorem dX0_init_56 : decode cX0_init 56 = .ok (.putfield 167, 3) := dk_181 0 167 (dk_at dksX0_init_2 8 rfl rfl)
theorem dX0_init_59 : decode cX0_init 59 = .ok (.aload_n 0, 1) := dk_42 (dk_at dksX0_init_2 11 rfl rfl)
theorem dX0_init_60 : decode cX0_init 60 = .ok (.iconst 2, 1) := dk_5 (dk_at dksX0_init_2 12 rfl rfl)
theorem dX0_init_61 : decode cX0_init 61 = .ok (.putfield 178, 3) := dk_181 0 178 (dk_at dksX0_init_2 13 rfl rfl)
theorem dX0_init_64 : decode cX0_init 64 = .ok (.aload_n 0, 1) := dk_42 (dk_at dksX0_init_2 16 rfl rfl)
theorem dX0_init_65 : decode cX0_init 65 = .ok (.iconst 4, 1) := dk_7 (dk_at dksX0_init_2 17 rfl rfl)
theorem dX0_init_66 : decode cX0_init 66 = .ok (.anewarray 188, 3) := dk_189 0 188 (dk_at dksX0_init_2 18 rfl rfl)
theorem dX0_init_69 : decode cX0_init 69 = .ok (.dup, 1) := dk_89 (dk_at dksX0_init_2 21 rfl rfl)
theorem dX0_init_70 : decode cX0_init 70 = .ok (.iconst 0, 1) := dk_3 (dk_at dksX0_init_2 22 rfl rfl)
theorem dX0_init_71 : decode cX0_init 71 = .ok (.new 188, 3) := dk_187 0 188 (dk_at dksX0_init_3 0 rfl rfl)
theorem dX0_init_74 : decode cX0_init 74 = .ok (.dup, 1) := dk_89 (dk_at dksX0_init_3 3 rfl rfl)
theorem dX0_init_75 : decode cX0_init 75 = .ok (.invokespecial 317, 3) := dk_183 1 61 (dk_at dksX0_init_3 4 rfl rfl)
theorem dX0_init_78 : decode cX0_init 78 = .ok (.aastore, 1) := dk_83 (dk_at dksX0_init_3 7 rfl rfl)
theorem dX0_init_79 : decode cX0_init 79 = .ok (.dup, 1) := dk_89 (dk_at dksX0_init_3 8 rfl rfl)
theorem dX0_init_80 : decode cX0_init 80 = .ok (.iconst 1, 1) := dk_4 (dk_at dksX0_init_3 9 rfl rfl)
theorem dX0_init_81 : decode cX0_init 81 = .ok (.new 188, 3) := dk_187 0 188 (dk_at dksX0_init_3 10 rfl rfl)
theorem dX0_init_84 : decode cX0_init 84 = .ok (.dup, 1) := dk_89 (dk_at dksX0_init_3 13 rfl rfl)
theorem dX0_init_85 : decode cX0_init 85 = .ok (.invokespecial 317, 3) := dk_183 1 61 (dk_at dksX0_init_3 14 rfl rfl)
theorem dX0_init_88 : decode cX0_init 88 = .ok (.aastore, 1) := dk_83 (dk_at dksX0_init_3 17 rfl rfl)
theorem dX0_init_89 : decode cX0_init 89 = .ok (.dup, 1) := dk_89 (dk_at dksX0_init_3 18 rfl rfl)
theorem dX0_init_90 : decode cX0_init 90 = .ok (.iconst 2, 1) := dk_5 (dk_at dksX0_init_3 19 rfl rfl)
theorem dX0_init_91 : decode cX0_init 91 = .ok (.new 188, 3) := dk_187 0 188 (dk_at dksX0_init_3 20 rfl rfl)
theorem dX0_init_94 : decode cX0_init 94 = .ok (.dup, 1) := dk_89 (dk_at dksX0_init_3 23 rfl rfl)
theorem dX0_init_95 : decode cX0_init 95 = .ok (.invokespecial 317, 3) := dk_183 1 61 (dk_at dksX0_init_4 0 rfl rfl)
theorem dX0_init_98 : decode cX0_init 98 = .ok (.aastore, 1) := dk_83 (dk_at dksX0_init_4 3 rfl rfl)
theorem dX0_init_99 : decode cX0_init 99 = .ok (.dup, 1) := dk_89 (dk_at dksX0_init_4 4 rfl rfl)
theorem dX0_init_100 : decode cX0_init 100 = .ok (.iconst 3, 1) := dk_6 (dk_at dksX0_init_4 5 rfl rfl)
theorem dX0_init_101 : decode cX0_init 101 = .ok (.new 188, 3) := dk_187 0 188 (dk_at dksX0_init_4 6 rfl rfl)
theorem dX0_init_104 : decode cX0_init 104 = .ok (.dup, 1) := dk_89 (dk_at dksX0_init_4 9 rfl rfl)
theorem dX0_init_105 : decode cX0_init 105 = .ok (.invokespecial 317, 3) := dk_183 1 61 (dk_at dksX0_init_4 10 rfl rfl)
theorem dX0_init_108 : decode cX0_init 108 = .ok (.aastore, 1) := dk_83 (dk_at dksX0_init_4 13 rfl rfl)
theorem dX0_init_109 : decode cX0_init 109 = .ok (.putfield 183, 3) := dk_181 0 183 (dk_at dksX0_init_4 14 rfl rfl)
theorem dX0_init_112 : decode cX0_init 112 = .ok (.aload_n 0, 1) := dk_42 (dk_at dksX0_init_4 17 rfl rfl)
theorem dX0_init_113 : decode cX0_init 113 = .ok (.sipush 256, 3) := dk_17 1 0 (dk_at dksX0_init_4 18 rfl rfl)
theorem dX0_init_116 : decode cX0_init 116 = .ok (.newarray .boolean, 2) := dk_188_4 (dk_at dksX0_init_4 21 rfl rfl)
theorem dX0_init_118 : decode cX0_init 118 = .ok (.putfield 218, 3) := dk_181 0 218 (dk_at dksX0_init_5 0 rfl rfl)
theorem dX0_init_121 : decode cX0_init 121 = .ok (.aload_n 0, 1) := dk_42 (dk_at dksX0_init_5 3 rfl rfl)
theorem dX0_init_122 : decode cX0_init 122 = .ok (.sipush 256, 3) := dk_17 1 0 (dk_at dksX0_init_5 4 rfl rfl)
theorem dX0_init_125 : decode cX0_init 125 = .ok (.newarray .int, 2) := dk_188_10 (dk_at dksX0_init_5 7 rfl rfl)
theorem dX0_init_127 : decode cX0_init 127 = .ok (.putfield 222, 3) := dk_181 0 222 (dk_at dksX0_init_5 9 rfl rfl)
theorem dX0_init_130 : decode cX0_init 130 = .ok (.aload_n 0, 1) := dk_42 (dk_at dksX0_init_5 12 rfl rfl)
theorem dX0_init_131 : decode cX0_init 131 = .ok (.bipush 8, 2) := dk_16 8 (dk_at dksX0_init_5 13 rfl rfl)
theorem dX0_init_133 : decode cX0_init 133 = .ok (.newarray .int, 2) := dk_188_10 (dk_at dksX0_init_5 15 rfl rfl)
theorem dX0_init_135 : decode cX0_init 135 = .ok (.putfield 231, 3) := dk_181 0 231 (dk_at dksX0_init_5 17 rfl rfl)
theorem dX0_init_138 : decode cX0_init 138 = .ok (.aload_n 0, 1) := dk_42 (dk_at dksX0_init_5 20 rfl rfl)
theorem dX0_init_139 : decode cX0_init 139 = .ok (.bipush 16, 2) := dk_16 16 (dk_at dksX0_init_5 21 rfl rfl)
theorem dX0_init_141 : decode cX0_init 141 = .ok (.newarray .int, 2) := dk_188_10 (dk_at dksX0_init_6 0 rfl rfl)
theorem dX0_init_143 : decode cX0_init 143 = .ok (.putfield 263, 3) := dk_181 1 7 (dk_at dksX0_init_6 2 rfl rfl)
theorem dX0_init_146 : decode cX0_init 146 = .ok (.aload_n 0, 1) := dk_42 (dk_at dksX0_init_6 5 rfl rfl)
theorem dX0_init_147 : decode cX0_init 147 = .ok (.bipush 12, 2) := dk_16 12 (dk_at dksX0_init_6 6 rfl rfl)
theorem dX0_init_149 : decode cX0_init 149 = .ok (.iconst 3, 1) := dk_6 (dk_at dksX0_init_6 8 rfl rfl)
theorem dX0_init_150 : decode cX0_init 150 = .ok (.multianewarray 316 2, 4) := by decide +kernel
theorem dX0_init_154 : decode cX0_init 154 = .ok (.putfield 303, 3) := dk_181 1 47 (dk_at dksX0_init_6 13 rfl rfl)
theorem dX0_init_157 : decode cX0_init 157 = .ok (.aload_n 0, 1) := dk_42 (dk_at dksX0_init_6 16 rfl rfl)
theorem dX0_init_158 : decode cX0_init 158 = .ok (.iconst 4, 1) := dk_7 (dk_at dksX0_init_6 17 rfl rfl)
theorem dX0_init_159 : decode cX0_init 159 = .ok (.anewarray 318, 3) := dk_189 1 62 (dk_at dksX0_init_6 18 rfl rfl)
theorem dX0_init_162 : decode cX0_init 162 = .ok (.dup, 1) := dk_89 (dk_at dksX0_init_6 21 rfl rfl)
theorem dX0_init_163 : decode cX0_init 163 = .ok (.iconst 0, 1) := dk_3 (dk_at dksX0_init_6 22 rfl rfl)
theorem dX0_init_164 : decode cX0_init 164 = .ok (.new 318, 3) := dk_187 1 62 (dk_at dksX0_init_7 0 rfl rfl)
theorem dX0_init_167 : decode cX0_init 167 = .ok (.dup, 1) := dk_89 (dk_at dksX0_init_7 3 rfl rfl)
theorem dX0_init_168 : decode cX0_init 168 = .ok (.invokespecial 320, 3) := dk_183 1 64 (dk_at dksX0_init_7 4 rfl rfl)
theorem dX0_init_171 : decode cX0_init 171 = .ok (.aastore, 1) := dk_83 (dk_at dksX0_init_7 7 rfl rfl)
theorem dX0_init_172 : decode cX0_init 172 = .ok (.dup, 1) := dk_89 (dk_at dksX0_init_7 8 rfl rfl)
theorem dX0_init_173 : decode cX0_init 173 = .ok (.iconst 1, 1) := dk_4 (dk_at dksX0_init_7 9 rfl rfl)
theorem dX0_init_174 : decode cX0_init 174 = .ok (.new 318, 3) := dk_187 1 62 (dk_at dksX0_init_7 10 rfl rfl)
theorem dX0_init_177 : decode cX0_init 177 = .ok (.dup, 1) := dk_89 (dk_at dksX0_init_7 13 rfl rfl)
theorem dX0_init_178 : decode cX0_init 178 = .ok (.invokespecial 320, 3) := dk_183 1 64 (dk_at dksX0_init_7 14 rfl rfl)
theorem dX0_init_181 : decode cX0_init 181 = .ok (.aastore, 1) := dk_83 (dk_at dksX0_init_7 17 rfl rfl)
theorem dX0_init_182 : decode cX0_init 182 = .ok (.dup, 1) := dk_89 (dk_at dksX0_init_7 18 rfl rfl)
theorem dX0_init_183 : decode cX0_init 183 = .ok (.iconst 2, 1) := dk_5 (dk_at dksX0_init_7 19 rfl rfl)
theorem dX0_init_184 : decode cX0_init 184 = .ok (.new 318, 3) := dk_187 1 62 (dk_at dksX0_init_7 20 rfl rfl)
theorem dX0_init_187 : decode cX0_init 187 = .ok (.dup, 1) := dk_89 (dk_at dksX0_init_7 23 rfl rfl)
theorem dX0_init_188 : decode cX0_init 188 = .ok (.invokespecial 320, 3) := dk_183 1 64 (dk_at dksX0_init_8 0 rfl rfl)
theorem dX0_init_191 : decode cX0_init 191 = .ok (.aastore, 1) := dk_83 (dk_at dksX0_init_8 3 rfl rfl)
theorem dX0_init_192 : decode cX0_init 192 = .ok (.dup, 1) := dk_89 (dk_at dksX0_init_8 4 rfl rfl)
theorem dX0_init_193 : decode cX0_init 193 = .ok (.iconst 3, 1) := dk_6 (dk_at dksX0_init_8 5 rfl rfl)
theorem dX0_init_194 : decode cX0_init 194 = .ok (.new 318, 3) := dk_187 1 62 (dk_at dksX0_init_8 6 rfl rfl)
theorem dX0_init_197 : decode cX0_init 197 = .ok (.dup, 1) := dk_89 (dk_at dksX0_init_8 9 rfl rfl)
theorem dX0_init_198 : decode cX0_init 198 = .ok (.invokespecial 320, 3) := dk_183 1 64 (dk_at dksX0_init_8 10 rfl rfl)
theorem dX0_init_201 : decode cX0_init 201 = .ok (.aastore, 1) := dk_83 (dk_at dksX0_init_8 13 rfl rfl)
theorem dX0_init_202 : decode cX0_init 202 = .ok (.putfield 321, 3) := dk_181 1 65 (dk_at dksX0_init_8 14 rfl rfl)
theorem dX0_init_205 : decode cX0_init 205 = .ok (.return_, 1) := dk_177 (dk_at dksX0_init_8 17 rfl rfl)
abbrev cX0_sheet : ByteArray := prog_1_method_58_code
def yX0_sheet : MethodName := ⟨RX0, "sheet", "(III)I"⟩
def dkwX0_sheet_2 : List UInt8 := [180, 1, 65, 27, 50, 29, 181, 1, 77, 4, 172, 58, 4, 16, 242, 172]
abbrev dktX0_sheet_2 : List UInt8 := dkwX0_sheet_2 ++ []
def dkwX0_sheet_1 : List UInt8 := [29, 16, 40, 164, 0, 5, 2, 172, 42, 180, 1, 65, 27, 50, 28, 29, 184, 1, 69, 181, 1, 73, 42]
abbrev dktX0_sheet_1 : List UInt8 := dkwX0_sheet_1 ++ dktX0_sheet_2
def dkwX0_sheet_0 : List UInt8 := [27, 133, 9, 20, 0, 253, 184, 0, 21, 153, 0, 21, 28, 133, 9, 20, 0, 201, 184, 0, 21, 153, 0, 9]
abbrev dktX0_sheet_0 : List UInt8 := dkwX0_sheet_0 ++ dktX0_sheet_1
theorem dksX0_sheet_0 : cX0_sheet.data.toList.drop 0 = dktX0_sheet_0 := by decide +kernel
theorem dksX0_sheet_1 : cX0_sheet.data.toList.drop 24 = dktX0_sheet_1 := dk_seg dksX0_sheet_0 24 rfl rfl
theorem dksX0_sheet_2 : cX0_sheet.data.toList.drop 47 = dktX0_sheet_2 := dk_seg dksX0_sheet_1 23 rfl rfl
theorem dX0_sheet_0 : decode cX0_sheet 0 = .ok (.iload_n 1, 1) := dk_27 (dk_at dksX0_sheet_0 0 rfl rfl)
theorem dX0_sheet_1 : decode cX0_sheet 1 = .ok (.i2l, 1) := dk_133 (dk_at dksX0_sheet_0 1 rfl rfl)
theorem dX0_sheet_2 : decode cX0_sheet 2 = .ok (.lconst 0, 1) := dk_9 (dk_at dksX0_sheet_0 2 rfl rfl)
theorem dX0_sheet_3 : decode cX0_sheet 3 = .ok (.ldc2_w 253, 3) := dk_20 0 253 (dk_at dksX0_sheet_0 3 rfl rfl)
theorem dX0_sheet_6 : decode cX0_sheet 6 = .ok (.invokestatic 21, 3) := dk_184 0 21 (dk_at dksX0_sheet_0 6 rfl rfl)
theorem dX0_sheet_9 : decode cX0_sheet 9 = .ok (.ifCond .eq 21, 3) := dk_153 0 21 (dk_at dksX0_sheet_0 9 rfl rfl)
theorem dX0_sheet_12 : decode cX0_sheet 12 = .ok (.iload_n 2, 1) := dk_28 (dk_at dksX0_sheet_0 12 rfl rfl)
theorem dX0_sheet_13 : decode cX0_sheet 13 = .ok (.i2l, 1) := dk_133 (dk_at dksX0_sheet_0 13 rfl rfl)
theorem dX0_sheet_14 : decode cX0_sheet 14 = .ok (.lconst 0, 1) := dk_9 (dk_at dksX0_sheet_0 14 rfl rfl)
theorem dX0_sheet_15 : decode cX0_sheet 15 = .ok (.ldc2_w 201, 3) := dk_20 0 201 (dk_at dksX0_sheet_0 15 rfl rfl)
theorem dX0_sheet_18 : decode cX0_sheet 18 = .ok (.invokestatic 21, 3) := dk_184 0 21 (dk_at dksX0_sheet_0 18 rfl rfl)
theorem dX0_sheet_21 : decode cX0_sheet 21 = .ok (.ifCond .eq 9, 3) := dk_153 0 9 (dk_at dksX0_sheet_0 21 rfl rfl)
theorem dX0_sheet_24 : decode cX0_sheet 24 = .ok (.iload_n 3, 1) := dk_29 (dk_at dksX0_sheet_1 0 rfl rfl)
theorem dX0_sheet_25 : decode cX0_sheet 25 = .ok (.bipush 40, 2) := dk_16 40 (dk_at dksX0_sheet_1 1 rfl rfl)
theorem dX0_sheet_27 : decode cX0_sheet 27 = .ok (.if_icmp .le 5, 3) := dk_164 0 5 (dk_at dksX0_sheet_1 3 rfl rfl)
theorem dX0_sheet_30 : decode cX0_sheet 30 = .ok (.iconst (-1), 1) := dk_2 (dk_at dksX0_sheet_1 6 rfl rfl)
theorem dX0_sheet_31 : decode cX0_sheet 31 = .ok (.ireturn, 1) := dk_172 (dk_at dksX0_sheet_1 7 rfl rfl)
theorem dX0_sheet_32 : decode cX0_sheet 32 = .ok (.aload_n 0, 1) := dk_42 (dk_at dksX0_sheet_1 8 rfl rfl)
theorem dX0_sheet_33 : decode cX0_sheet 33 = .ok (.getfield 321, 3) := dk_180 1 65 (dk_at dksX0_sheet_1 9 rfl rfl)
theorem dX0_sheet_36 : decode cX0_sheet 36 = .ok (.iload_n 1, 1) := dk_27 (dk_at dksX0_sheet_1 12 rfl rfl)
theorem dX0_sheet_37 : decode cX0_sheet 37 = .ok (.aaload, 1) := dk_50 (dk_at dksX0_sheet_1 13 rfl rfl)
theorem dX0_sheet_38 : decode cX0_sheet 38 = .ok (.iload_n 2, 1) := dk_28 (dk_at dksX0_sheet_1 14 rfl rfl)
theorem dX0_sheet_39 : decode cX0_sheet 39 = .ok (.iload_n 3, 1) := dk_29 (dk_at dksX0_sheet_1 15 rfl rfl)
theorem dX0_sheet_40 : decode cX0_sheet 40 = .ok (.invokestatic 325, 3) := dk_184 1 69 (dk_at dksX0_sheet_1 16 rfl rfl)
theorem dX0_sheet_43 : decode cX0_sheet 43 = .ok (.putfield 329, 3) := dk_181 1 73 (dk_at dksX0_sheet_1 19 rfl rfl)
theorem dX0_sheet_46 : decode cX0_sheet 46 = .ok (.aload_n 0, 1) := dk_42 (dk_at dksX0_sheet_1 22 rfl rfl)
theorem dX0_sheet_47 : decode cX0_sheet 47 = .ok (.getfield 321, 3) := dk_180 1 65 (dk_at dksX0_sheet_2 0 rfl rfl)
theorem dX0_sheet_50 : decode cX0_sheet 50 = .ok (.iload_n 1, 1) := dk_27 (dk_at dksX0_sheet_2 3 rfl rfl)
theorem dX0_sheet_51 : decode cX0_sheet 51 = .ok (.aaload, 1) := dk_50 (dk_at dksX0_sheet_2 4 rfl rfl)
theorem dX0_sheet_52 : decode cX0_sheet 52 = .ok (.iload_n 3, 1) := dk_29 (dk_at dksX0_sheet_2 5 rfl rfl)
theorem dX0_sheet_53 : decode cX0_sheet 53 = .ok (.putfield 333, 3) := dk_181 1 77 (dk_at dksX0_sheet_2 6 rfl rfl)
theorem dX0_sheet_56 : decode cX0_sheet 56 = .ok (.iconst 1, 1) := dk_4 (dk_at dksX0_sheet_2 9 rfl rfl)
theorem dX0_sheet_57 : decode cX0_sheet 57 = .ok (.ireturn, 1) := dk_172 (dk_at dksX0_sheet_2 10 rfl rfl)
theorem dX0_sheet_58 : decode cX0_sheet 58 = .ok (.astore 4, 2) := dk_58 4 (dk_at dksX0_sheet_2 11 rfl rfl)
theorem dX0_sheet_60 : decode cX0_sheet 60 = .ok (.bipush (-14), 2) := dk_16 242 (dk_at dksX0_sheet_2 13 rfl rfl)
theorem dX0_sheet_62 : decode cX0_sheet 62 = .ok (.ireturn, 1) := dk_172 (dk_at dksX0_sheet_2 15 rfl rfl)
abbrev cX0_newRow : ByteArray := prog_1_method_57_code
def yX0_newRow : MethodName := ⟨RX0, "newRow", "(II)Ljava/lang/Object;"⟩
def dkwX0_newRow_2 : List UInt8 := [27, 188, 8, 176, 27, 188, 9, 176, 27, 188, 10, 176]
abbrev dktX0_newRow_2 : List UInt8 := dkwX0_newRow_2 ++ []
def dkwX0_newRow_1 : List UInt8 := [171, 0, 0, 0, 0, 0, 35, 0, 0, 0, 2, 0, 0, 0, 0, 0, 0, 0, 27, 0, 0, 0, 1, 0, 0, 0, 31]
abbrev dktX0_newRow_1 : List UInt8 := dkwX0_newRow_1 ++ dktX0_newRow_2
def dkwX0_newRow_0 : List UInt8 := [26]
abbrev dktX0_newRow_0 : List UInt8 := dkwX0_newRow_0 ++ dktX0_newRow_1
theorem dksX0_newRow_0 : cX0_newRow.data.toList.drop 0 = dktX0_newRow_0 := by decide +kernel
theorem dksX0_newRow_1 : cX0_newRow.data.toList.drop 1 = dktX0_newRow_1 := dk_seg dksX0_newRow_0 1 rfl rfl
theorem dksX0_newRow_2 : cX0_newRow.data.toList.drop 28 = dktX0_newRow_2 := dk_seg dksX0_newRow_1 27 rfl rfl
theorem dX0_newRow_0 : decode cX0_newRow 0 = .ok (.iload_n 0, 1) := dk_26 (dk_at dksX0_newRow_0 0 rfl rfl)
theorem dX0_newRow_1 : decode cX0_newRow 1 = .ok (.lookupswitch 35 #[(0, 27), (1, 31)], 27) := by decide +kernel
theorem dX0_newRow_28 : decode cX0_newRow 28 = .ok (.iload_n 1, 1) := dk_27 (dk_at dksX0_newRow_2 0 rfl rfl)
theorem dX0_newRow_29 : decode cX0_newRow 29 = .ok (.newarray .byte, 2) := dk_188_8 (dk_at dksX0_newRow_2 1 rfl rfl)
theorem dX0_newRow_31 : decode cX0_newRow 31 = .ok (.areturn, 1) := dk_176 (dk_at dksX0_newRow_2 3 rfl rfl)
theorem dX0_newRow_32 : decode cX0_newRow 32 = .ok (.iload_n 1, 1) := dk_27 (dk_at dksX0_newRow_2 4 rfl rfl)
theorem dX0_newRow_33 : decode cX0_newRow 33 = .ok (.newarray .short, 2) := dk_188_9 (dk_at dksX0_newRow_2 5 rfl rfl)
theorem dX0_newRow_35 : decode cX0_newRow 35 = .ok (.areturn, 1) := dk_176 (dk_at dksX0_newRow_2 7 rfl rfl)
theorem dX0_newRow_36 : decode cX0_newRow 36 = .ok (.iload_n 1, 1) := dk_27 (dk_at dksX0_newRow_2 8 rfl rfl)
theorem dX0_newRow_37 : decode cX0_newRow 37 = .ok (.newarray .int, 2) := dk_188_10 (dk_at dksX0_newRow_2 9 rfl rfl)
theorem dX0_newRow_39 : decode cX0_newRow 39 = .ok (.areturn, 1) := dk_176 (dk_at dksX0_newRow_2 11 rfl rfl)
abbrev cX0_lay : ByteArray := prog_1_method_59_code
def yX0_lay : MethodName := ⟨RX0, "lay", "(III)I"⟩
def dkwX0_lay_3 : List UInt8 := [29, 79, 4, 172, 58, 5, 16, 245, 172, 58, 5, 16, 244, 172]
abbrev dktX0_lay_3 : List UInt8 := dkwX0_lay_3 ++ []
def dkwX0_lay_2 : List UInt8 := [193, 1, 83, 153, 0, 15, 25, 4, 192, 1, 83, 28, 29, 147, 86, 167, 0, 11, 25, 4, 192, 1, 85, 28]
abbrev dktX0_lay_2 : List UInt8 := dkwX0_lay_2 ++ dktX0_lay_3
def dkwX0_lay_1 : List UInt8 := [58, 4, 25, 4, 193, 1, 82, 153, 0, 15, 25, 4, 192, 1, 82, 28, 29, 145, 84, 167, 0, 31, 25, 4]
abbrev dktX0_lay_1 : List UInt8 := dkwX0_lay_1 ++ dktX0_lay_2
def dkwX0_lay_0 : List UInt8 := [27, 133, 9, 20, 0, 253, 184, 0, 21, 154, 0, 5, 2, 172, 42, 180, 1, 65, 27, 50, 180, 1, 73]
abbrev dktX0_lay_0 : List UInt8 := dkwX0_lay_0 ++ dktX0_lay_1
theorem dksX0_lay_0 : cX0_lay.data.toList.drop 0 = dktX0_lay_0 := by decide +kernel
theorem dksX0_lay_1 : cX0_lay.data.toList.drop 23 = dktX0_lay_1 := dk_seg dksX0_lay_0 23 rfl rfl
theorem dksX0_lay_2 : cX0_lay.data.toList.drop 47 = dktX0_lay_2 := dk_seg dksX0_lay_1 24 rfl rfl
theorem dksX0_lay_3 : cX0_lay.data.toList.drop 71 = dktX0_lay_3 := dk_seg dksX0_lay_2 24 rfl rfl
theorem dX0_lay_0 : decode cX0_lay 0 = .ok (.iload_n 1, 1) := dk_27 (dk_at dksX0_lay_0 0 rfl rfl)
theorem dX0_lay_1 : decode cX0_lay 1 = .ok (.i2l, 1) := dk_133 (dk_at dksX0_lay_0 1 rfl rfl)
theorem dX0_lay_2 : decode cX0_lay 2 = .ok (.lconst 0, 1) := dk_9 (dk_at dksX0_lay_0 2 rfl rfl)
theorem dX0_lay_3 : decode cX0_lay 3 = .ok (.ldc2_w 253, 3) := dk_20 0 253 (dk_at dksX0_lay_0 3 rfl rfl)
theorem dX0_lay_6 : decode cX0_lay 6 = .ok (.invokestatic 21, 3) := dk_184 0 21 (dk_at dksX0_lay_0 6 rfl rfl)
theorem dX0_lay_9 : decode cX0_lay 9 = .ok (.ifCond .ne 5, 3) := dk_154 0 5 (dk_at dksX0_lay_0 9 rfl rfl)
theorem dX0_lay_12 : decode cX0_lay 12 = .ok (.iconst (-1), 1) := dk_2 (dk_at dksX0_lay_0 12 rfl rfl)
theorem dX0_lay_13 : decode cX0_lay 13 = .ok (.ireturn, 1) := dk_172 (dk_at dksX0_lay_0 13 rfl rfl)
theorem dX0_lay_14 : decode cX0_lay 14 = .ok (.aload_n 0, 1) := dk_42 (dk_at dksX0_lay_0 14 rfl rfl)
theorem dX0_lay_15 : decode cX0_lay 15 = .ok (.getfield 321, 3) := dk_180 1 65 (dk_at dksX0_lay_0 15 rfl rfl)
theorem dX0_lay_18 : decode cX0_lay 18 = .ok (.iload_n 1, 1) := dk_27 (dk_at dksX0_lay_0 18 rfl rfl)
theorem dX0_lay_19 : decode cX0_lay 19 = .ok (.aaload, 1) := dk_50 (dk_at dksX0_lay_0 19 rfl rfl)
theorem dX0_lay_20 : decode cX0_lay 20 = .ok (.getfield 329, 3) := dk_180 1 73 (dk_at dksX0_lay_0 20 rfl rfl)
theorem dX0_lay_23 : decode cX0_lay 23 = .ok (.astore 4, 2) := dk_58 4 (dk_at dksX0_lay_1 0 rfl rfl)
theorem dX0_lay_25 : decode cX0_lay 25 = .ok (.aload 4, 2) := dk_25 4 (dk_at dksX0_lay_1 2 rfl rfl)
theorem dX0_lay_27 : decode cX0_lay 27 = .ok (.instanceof 338, 3) := dk_193 1 82 (dk_at dksX0_lay_1 4 rfl rfl)
theorem dX0_lay_30 : decode cX0_lay 30 = .ok (.ifCond .eq 15, 3) := dk_153 0 15 (dk_at dksX0_lay_1 7 rfl rfl)
theorem dX0_lay_33 : decode cX0_lay 33 = .ok (.aload 4, 2) := dk_25 4 (dk_at dksX0_lay_1 10 rfl rfl)
theorem dX0_lay_35 : decode cX0_lay 35 = .ok (.checkcast 338, 3) := dk_192 1 82 (dk_at dksX0_lay_1 12 rfl rfl)
theorem dX0_lay_38 : decode cX0_lay 38 = .ok (.iload_n 2, 1) := dk_28 (dk_at dksX0_lay_1 15 rfl rfl)
theorem dX0_lay_39 : decode cX0_lay 39 = .ok (.iload_n 3, 1) := dk_29 (dk_at dksX0_lay_1 16 rfl rfl)
theorem dX0_lay_40 : decode cX0_lay 40 = .ok (.i2b, 1) := dk_145 (dk_at dksX0_lay_1 17 rfl rfl)
theorem dX0_lay_41 : decode cX0_lay 41 = .ok (.bastore, 1) := dk_84 (dk_at dksX0_lay_1 18 rfl rfl)
theorem dX0_lay_42 : decode cX0_lay 42 = .ok (.goto 31, 3) := dk_167 0 31 (dk_at dksX0_lay_1 19 rfl rfl)
theorem dX0_lay_45 : decode cX0_lay 45 = .ok (.aload 4, 2) := dk_25 4 (dk_at dksX0_lay_1 22 rfl rfl)
theorem dX0_lay_47 : decode cX0_lay 47 = .ok (.instanceof 339, 3) := dk_193 1 83 (dk_at dksX0_lay_2 0 rfl rfl)
theorem dX0_lay_50 : decode cX0_lay 50 = .ok (.ifCond .eq 15, 3) := dk_153 0 15 (dk_at dksX0_lay_2 3 rfl rfl)
theorem dX0_lay_53 : decode cX0_lay 53 = .ok (.aload 4, 2) := dk_25 4 (dk_at dksX0_lay_2 6 rfl rfl)
theorem dX0_lay_55 : decode cX0_lay 55 = .ok (.checkcast 339, 3) := dk_192 1 83 (dk_at dksX0_lay_2 8 rfl rfl)
theorem dX0_lay_58 : decode cX0_lay 58 = .ok (.iload_n 2, 1) := dk_28 (dk_at dksX0_lay_2 11 rfl rfl)
theorem dX0_lay_59 : decode cX0_lay 59 = .ok (.iload_n 3, 1) := dk_29 (dk_at dksX0_lay_2 12 rfl rfl)
theorem dX0_lay_60 : decode cX0_lay 60 = .ok (.i2s, 1) := dk_147 (dk_at dksX0_lay_2 13 rfl rfl)
theorem dX0_lay_61 : decode cX0_lay 61 = .ok (.sastore, 1) := dk_86 (dk_at dksX0_lay_2 14 rfl rfl)
theorem dX0_lay_62 : decode cX0_lay 62 = .ok (.goto 11, 3) := dk_167 0 11 (dk_at dksX0_lay_2 15 rfl rfl)
theorem dX0_lay_65 : decode cX0_lay 65 = .ok (.aload 4, 2) := dk_25 4 (dk_at dksX0_lay_2 18 rfl rfl)
theorem dX0_lay_67 : decode cX0_lay 67 = .ok (.checkcast 341, 3) := dk_192 1 85 (dk_at dksX0_lay_2 20 rfl rfl)
theorem dX0_lay_70 : decode cX0_lay 70 = .ok (.iload_n 2, 1) := dk_28 (dk_at dksX0_lay_2 23 rfl rfl)
theorem dX0_lay_71 : decode cX0_lay 71 = .ok (.iload_n 3, 1) := dk_29 (dk_at dksX0_lay_3 0 rfl rfl)
theorem dX0_lay_72 : decode cX0_lay 72 = .ok (.iastore, 1) := dk_79 (dk_at dksX0_lay_3 1 rfl rfl)
theorem dX0_lay_73 : decode cX0_lay 73 = .ok (.iconst 1, 1) := dk_4 (dk_at dksX0_lay_3 2 rfl rfl)
theorem dX0_lay_74 : decode cX0_lay 74 = .ok (.ireturn, 1) := dk_172 (dk_at dksX0_lay_3 3 rfl rfl)
theorem dX0_lay_75 : decode cX0_lay 75 = .ok (.astore 5, 2) := dk_58 5 (dk_at dksX0_lay_3 4 rfl rfl)
theorem dX0_lay_77 : decode cX0_lay 77 = .ok (.bipush (-11), 2) := dk_16 245 (dk_at dksX0_lay_3 6 rfl rfl)
theorem dX0_lay_79 : decode cX0_lay 79 = .ok (.ireturn, 1) := dk_172 (dk_at dksX0_lay_3 8 rfl rfl)
theorem dX0_lay_80 : decode cX0_lay 80 = .ok (.astore 5, 2) := dk_58 5 (dk_at dksX0_lay_3 9 rfl rfl)
theorem dX0_lay_82 : decode cX0_lay 82 = .ok (.bipush (-12), 2) := dk_16 244 (dk_at dksX0_lay_3 11 rfl rfl)
theorem dX0_lay_84 : decode cX0_lay 84 = .ok (.ireturn, 1) := dk_172 (dk_at dksX0_lay_3 13 rfl rfl)
abbrev cX0_said : ByteArray := prog_1_method_61_code
def yX0_said : MethodName := ⟨RX0, "said", "(IIIII)I"⟩
def dkwX0_said_12 : List UInt8 := [160, 0, 8, 21, 8, 167, 0, 5, 21, 9, 172]
abbrev dktX0_said_12 : List UInt8 := dkwX0_said_12 ++ []
def dkwX0_said_11 : List UInt8 := [154, 0, 8, 21, 6, 167, 0, 27, 21, 5, 4, 160, 0, 8, 21, 7, 167, 0, 16, 21, 5, 5]
abbrev dktX0_said_11 : List UInt8 := dkwX0_said_11 ++ dktX0_said_12
def dkwX0_said_10 : List UInt8 := [167, 255, 130, 167, 0, 18, 58, 10, 16, 245, 172, 58, 10, 16, 243, 172, 58, 10, 16, 244, 172, 21, 5]
abbrev dktX0_said_10 : List UInt8 := dkwX0_said_10 ++ dktX0_said_11
def dkwX0_said_9 : List UInt8 := [184, 0, 175, 96, 54, 8, 21, 9, 3, 21, 14, 21, 13, 100, 184, 0, 175, 96, 54, 9, 132, 12, 1]
abbrev dktX0_said_9 : List UInt8 := dkwX0_said_9 ++ dktX0_said_10
def dkwX0_said_8 : List UInt8 := [16, 252, 160, 0, 8, 21, 12, 167, 0, 5, 21, 7, 54, 7, 21, 8, 3, 21, 13, 21, 14, 100]
abbrev dktX0_said_8 : List UInt8 := dkwX0_said_8 ++ dktX0_said_9
def dkwX0_said_7 : List UInt8 := [21, 13, 21, 14, 160, 0, 7, 4, 167, 0, 4, 3, 96, 54, 6, 21, 13, 21, 14, 159, 0, 15, 21, 7]
abbrev dktX0_said_7 : List UInt8 := dkwX0_said_7 ++ dktX0_said_8
def dkwX0_said_6 : List UInt8 := [184, 0, 21, 154, 0, 9, 16, 236, 21, 12, 100, 172, 42, 21, 12, 21, 4, 182, 0, 163, 54, 14, 21, 6]
abbrev dktX0_said_6 : List UInt8 := dkwX0_said_6 ++ dktX0_said_7
def dkwX0_said_5 : List UInt8 := [21, 11, 155, 0, 118, 25, 10, 28, 29, 21, 12, 96, 184, 1, 90, 54, 13, 21, 13, 133, 9, 20, 0, 148]
abbrev dktX0_said_5 : List UInt8 := dkwX0_said_5 ++ dktX0_said_6
def dkwX0_said_4 : List UInt8 := [167, 0, 9, 25, 10, 192, 1, 85, 190, 54, 11, 3, 54, 12, 21, 12, 42, 180, 0, 50, 162, 0, 123]
abbrev dktX0_said_4 : List UInt8 := dkwX0_said_4 ++ dktX0_said_5
def dkwX0_said_3 : List UInt8 := [154, 0, 12, 25, 10, 192, 1, 82, 190, 167, 0, 23, 28, 4, 160, 0, 12, 25, 10, 192, 1, 83, 190]
abbrev dktX0_said_3 : List UInt8 := dkwX0_said_3 ++ dktX0_said_4
def dkwX0_said_2 : List UInt8 := [54, 6, 16, 252, 54, 7, 3, 54, 8, 3, 54, 9, 42, 180, 1, 65, 27, 50, 180, 1, 73, 58, 10, 28]
abbrev dktX0_said_2 : List UInt8 := dkwX0_said_2 ++ dktX0_said_3
def dkwX0_said_1 : List UInt8 := [21, 4, 184, 0, 125, 153, 0, 16, 21, 5, 133, 9, 20, 0, 253, 184, 0, 21, 154, 0, 5, 2, 172, 3]
abbrev dktX0_said_1 : List UInt8 := dkwX0_said_1 ++ dktX0_said_2
def dkwX0_said_0 : List UInt8 := [27, 133, 9, 20, 0, 253, 184, 0, 21, 153, 0, 36, 28, 133, 9, 20, 0, 201, 184, 0, 21, 153, 0, 24]
abbrev dktX0_said_0 : List UInt8 := dkwX0_said_0 ++ dktX0_said_1
theorem dksX0_said_0 : cX0_said.data.toList.drop 0 = dktX0_said_0 := by decide +kernel
theorem dksX0_said_1 : cX0_said.data.toList.drop 24 = dktX0_said_1 := dk_seg dksX0_said_0 24 rfl rfl
theorem dksX0_said_2 : cX0_said.data.toList.drop 48 = dktX0_said_2 := dk_seg dksX0_said_1 24 rfl rfl
theorem dksX0_said_3 : cX0_said.data.toList.drop 72 = dktX0_said_3 := dk_seg dksX0_said_2 24 rfl rfl
theorem dksX0_said_4 : cX0_said.data.toList.drop 95 = dktX0_said_4 := dk_seg dksX0_said_3 23 rfl rfl
theorem dksX0_said_5 : cX0_said.data.toList.drop 118 = dktX0_said_5 := dk_seg dksX0_said_4 23 rfl rfl
theorem dksX0_said_6 : cX0_said.data.toList.drop 142 = dktX0_said_6 := dk_seg dksX0_said_5 24 rfl rfl
theorem dksX0_said_7 : cX0_said.data.toList.drop 166 = dktX0_said_7 := dk_seg dksX0_said_6 24 rfl rfl
theorem dksX0_said_8 : cX0_said.data.toList.drop 190 = dktX0_said_8 := dk_seg dksX0_said_7 24 rfl rfl
theorem dksX0_said_9 : cX0_said.data.toList.drop 212 = dktX0_said_9 := dk_seg dksX0_said_8 22 rfl rfl
theorem dksX0_said_10 : cX0_said.data.toList.drop 235 = dktX0_said_10 := dk_seg dksX0_said_9 23 rfl rfl
theorem dksX0_said_11 : cX0_said.data.toList.drop 258 = dktX0_said_11 := dk_seg dksX0_said_10 23 rfl rfl
theorem dksX0_said_12 : cX0_said.data.toList.drop 280 = dktX0_said_12 := dk_seg dksX0_said_11 22 rfl rfl
theorem dX0_said_0 : decode cX0_said 0 = .ok (.iload_n 1, 1) := dk_27 (dk_at dksX0_said_0 0 rfl rfl)
theorem dX0_said_1 : decode cX0_said 1 = .ok (.i2l, 1) := dk_133 (dk_at dksX0_said_0 1 rfl rfl)
theorem dX0_said_2 : decode cX0_said 2 = .ok (.lconst 0, 1) := dk_9 (dk_at dksX0_said_0 2 rfl rfl)
theorem dX0_said_3 : decode cX0_said 3 = .ok (.ldc2_w 253, 3) := dk_20 0 253 (dk_at dksX0_said_0 3 rfl rfl)
theorem dX0_said_6 : decode cX0_said 6 = .ok (.invokestatic 21, 3) := dk_184 0 21 (dk_at dksX0_said_0 6 rfl rfl)
theorem dX0_said_9 : decode cX0_said 9 = .ok (.ifCond .eq 36, 3) := dk_153 0 36 (dk_at dksX0_said_0 9 rfl rfl)
theorem dX0_said_12 : decode cX0_said 12 = .ok (.iload_n 2, 1) := dk_28 (dk_at dksX0_said_0 12 rfl rfl)
theorem dX0_said_13 : decode cX0_said 13 = .ok (.i2l, 1) := dk_133 (dk_at dksX0_said_0 13 rfl rfl)
theorem dX0_said_14 : decode cX0_said 14 = .ok (.lconst 0, 1) := dk_9 (dk_at dksX0_said_0 14 rfl rfl)
theorem dX0_said_15 : decode cX0_said 15 = .ok (.ldc2_w 201, 3) := dk_20 0 201 (dk_at dksX0_said_0 15 rfl rfl)
theorem dX0_said_18 : decode cX0_said 18 = .ok (.invokestatic 21, 3) := dk_184 0 21 (dk_at dksX0_said_0 18 rfl rfl)
theorem dX0_said_21 : decode cX0_said 21 = .ok (.ifCond .eq 24, 3) := dk_153 0 24 (dk_at dksX0_said_0 21 rfl rfl)
theorem dX0_said_24 : decode cX0_said 24 = .ok (.iload 4, 2) := dk_21 4 (dk_at dksX0_said_1 0 rfl rfl)
theorem dX0_said_26 : decode cX0_said 26 = .ok (.invokestatic 125, 3) := dk_184 0 125 (dk_at dksX0_said_1 2 rfl rfl)
theorem dX0_said_29 : decode cX0_said 29 = .ok (.ifCond .eq 16, 3) := dk_153 0 16 (dk_at dksX0_said_1 5 rfl rfl)
theorem dX0_said_32 : decode cX0_said 32 = .ok (.iload 5, 2) := dk_21 5 (dk_at dksX0_said_1 8 rfl rfl)
theorem dX0_said_34 : decode cX0_said 34 = .ok (.i2l, 1) := dk_133 (dk_at dksX0_said_1 10 rfl rfl)
theorem dX0_said_35 : decode cX0_said 35 = .ok (.lconst 0, 1) := dk_9 (dk_at dksX0_said_1 11 rfl rfl)
theorem dX0_said_36 : decode cX0_said 36 = .ok (.ldc2_w 253, 3) := dk_20 0 253 (dk_at dksX0_said_1 12 rfl rfl)
theorem dX0_said_39 : decode cX0_said 39 = .ok (.invokestatic 21, 3) := dk_184 0 21 (dk_at dksX0_said_1 15 rfl rfl)
theorem dX0_said_42 : decode cX0_said 42 = .ok (.ifCond .ne 5, 3) := dk_154 0 5 (dk_at dksX0_said_1 18 rfl rfl)
theorem dX0_said_45 : decode cX0_said 45 = .ok (.iconst (-1), 1) := dk_2 (dk_at dksX0_said_1 21 rfl rfl)
theorem dX0_said_46 : decode cX0_said 46 = .ok (.ireturn, 1) := dk_172 (dk_at dksX0_said_1 22 rfl rfl)
theorem dX0_said_47 : decode cX0_said 47 = .ok (.iconst 0, 1) := dk_3 (dk_at dksX0_said_1 23 rfl rfl)
theorem dX0_said_48 : decode cX0_said 48 = .ok (.istore 6, 2) := dk_54 6 (dk_at dksX0_said_2 0 rfl rfl)
theorem dX0_said_50 : decode cX0_said 50 = .ok (.bipush (-4), 2) := dk_16 252 (dk_at dksX0_said_2 2 rfl rfl)
theorem dX0_said_52 : decode cX0_said 52 = .ok (.istore 7, 2) := dk_54 7 (dk_at dksX0_said_2 4 rfl rfl)
theorem dX0_said_54 : decode cX0_said 54 = .ok (.iconst 0, 1) := dk_3 (dk_at dksX0_said_2 6 rfl rfl)
theorem dX0_said_55 : decode cX0_said 55 = .ok (.istore 8, 2) := dk_54 8 (dk_at dksX0_said_2 7 rfl rfl)
theorem dX0_said_57 : decode cX0_said 57 = .ok (.iconst 0, 1) := dk_3 (dk_at dksX0_said_2 9 rfl rfl)
theorem dX0_said_58 : decode cX0_said 58 = .ok (.istore 9, 2) := dk_54 9 (dk_at dksX0_said_2 10 rfl rfl)
theorem dX0_said_60 : decode cX0_said 60 = .ok (.aload_n 0, 1) := dk_42 (dk_at dksX0_said_2 12 rfl rfl)
theorem dX0_said_61 : decode cX0_said 61 = .ok (.getfield 321, 3) := dk_180 1 65 (dk_at dksX0_said_2 13 rfl rfl)
theorem dX0_said_64 : decode cX0_said 64 = .ok (.iload_n 1, 1) := dk_27 (dk_at dksX0_said_2 16 rfl rfl)
theorem dX0_said_65 : decode cX0_said 65 = .ok (.aaload, 1) := dk_50 (dk_at dksX0_said_2 17 rfl rfl)
theorem dX0_said_66 : decode cX0_said 66 = .ok (.getfield 329, 3) := dk_180 1 73 (dk_at dksX0_said_2 18 rfl rfl)
theorem dX0_said_69 : decode cX0_said 69 = .ok (.astore 10, 2) := dk_58 10 (dk_at dksX0_said_2 21 rfl rfl)
theorem dX0_said_71 : decode cX0_said 71 = .ok (.iload_n 2, 1) := dk_28 (dk_at dksX0_said_2 23 rfl rfl)
theorem dX0_said_72 : decode cX0_said 72 = .ok (.ifCond .ne 12, 3) := dk_154 0 12 (dk_at dksX0_said_3 0 rfl rfl)
theorem dX0_said_75 : decode cX0_said 75 = .ok (.aload 10, 2) := dk_25 10 (dk_at dksX0_said_3 3 rfl rfl)
theorem dX0_said_77 : decode cX0_said 77 = .ok (.checkcast 338, 3) := dk_192 1 82 (dk_at dksX0_said_3 5 rfl rfl)
theorem dX0_said_80 : decode cX0_said 80 = .ok (.arraylength, 1) := dk_190 (dk_at dksX0_said_3 8 rfl rfl)
theorem dX0_said_81 : decode cX0_said 81 = .ok (.goto 23, 3) := dk_167 0 23 (dk_at dksX0_said_3 9 rfl rfl)
theorem dX0_said_84 : decode cX0_said 84 = .ok (.iload_n 2, 1) := dk_28 (dk_at dksX0_said_3 12 rfl rfl)
theorem dX0_said_85 : decode cX0_said 85 = .ok (.iconst 1, 1) := dk_4 (dk_at dksX0_said_3 13 rfl rfl)
theorem dX0_said_86 : decode cX0_said 86 = .ok (.if_icmp .ne 12, 3) := dk_160 0 12 (dk_at dksX0_said_3 14 rfl rfl)
theorem dX0_said_89 : decode cX0_said 89 = .ok (.aload 10, 2) := dk_25 10 (dk_at dksX0_said_3 17 rfl rfl)
theorem dX0_said_91 : decode cX0_said 91 = .ok (.checkcast 339, 3) := dk_192 1 83 (dk_at dksX0_said_3 19 rfl rfl)
theorem dX0_said_94 : decode cX0_said 94 = .ok (.arraylength, 1) := dk_190 (dk_at dksX0_said_3 22 rfl rfl)
theorem dX0_said_95 : decode cX0_said 95 = .ok (.goto 9, 3) := dk_167 0 9 (dk_at dksX0_said_4 0 rfl rfl)
theorem dX0_said_98 : decode cX0_said 98 = .ok (.aload 10, 2) := dk_25 10 (dk_at dksX0_said_4 3 rfl rfl)
theorem dX0_said_100 : decode cX0_said 100 = .ok (.checkcast 341, 3) := dk_192 1 85 (dk_at dksX0_said_4 5 rfl rfl)
theorem dX0_said_103 : decode cX0_said 103 = .ok (.arraylength, 1) := dk_190 (dk_at dksX0_said_4 8 rfl rfl)
theorem dX0_said_104 : decode cX0_said 104 = .ok (.istore 11, 2) := dk_54 11 (dk_at dksX0_said_4 9 rfl rfl)
theorem dX0_said_106 : decode cX0_said 106 = .ok (.iconst 0, 1) := dk_3 (dk_at dksX0_said_4 11 rfl rfl)
theorem dX0_said_107 : decode cX0_said 107 = .ok (.istore 12, 2) := dk_54 12 (dk_at dksX0_said_4 12 rfl rfl)
theorem dX0_said_109 : decode cX0_said 109 = .ok (.iload 12, 2) := dk_21 12 (dk_at dksX0_said_4 14 rfl rfl)
theorem dX0_said_111 : decode cX0_said 111 = .ok (.aload_n 0, 1) := dk_42 (dk_at dksX0_said_4 16 rfl rfl)
theorem dX0_said_112 : decode cX0_said 112 = .ok (.getfield 50, 3) := dk_180 0 50 (dk_at dksX0_said_4 17 rfl rfl)
theorem dX0_said_115 : decode cX0_said 115 = .ok (.if_icmp .ge 123, 3) := dk_162 0 123 (dk_at dksX0_said_4 20 rfl rfl)
theorem dX0_said_118 : decode cX0_said 118 = .ok (.iload 11, 2) := dk_21 11 (dk_at dksX0_said_5 0 rfl rfl)
theorem dX0_said_120 : decode cX0_said 120 = .ok (.ifCond .lt 118, 3) := dk_155 0 118 (dk_at dksX0_said_5 2 rfl rfl)
theorem dX0_said_123 : decode cX0_said 123 = .ok (.aload 10, 2) := dk_25 10 (dk_at dksX0_said_5 5 rfl rfl)
theorem dX0_said_125 : decode cX0_said 125 = .ok (.iload_n 2, 1) := dk_28 (dk_at dksX0_said_5 7 rfl rfl)
theorem dX0_said_126 : decode cX0_said 126 = .ok (.iload_n 3, 1) := dk_29 (dk_at dksX0_said_5 8 rfl rfl)
theorem dX0_said_127 : decode cX0_said 127 = .ok (.iload 12, 2) := dk_21 12 (dk_at dksX0_said_5 9 rfl rfl)
theorem dX0_said_129 : decode cX0_said 129 = .ok (.iadd, 1) := dk_96 (dk_at dksX0_said_5 11 rfl rfl)
theorem dX0_said_130 : decode cX0_said 130 = .ok (.invokestatic 346, 3) := dk_184 1 90 (dk_at dksX0_said_5 12 rfl rfl)
theorem dX0_said_133 : decode cX0_said 133 = .ok (.istore 13, 2) := dk_54 13 (dk_at dksX0_said_5 15 rfl rfl)
theorem dX0_said_135 : decode cX0_said 135 = .ok (.iload 13, 2) := dk_21 13 (dk_at dksX0_said_5 17 rfl rfl)
theorem dX0_said_137 : decode cX0_said 137 = .ok (.i2l, 1) := dk_133 (dk_at dksX0_said_5 19 rfl rfl)
theorem dX0_said_138 : decode cX0_said 138 = .ok (.lconst 0, 1) := dk_9 (dk_at dksX0_said_5 20 rfl rfl)
theorem dX0_said_139 : decode cX0_said 139 = .ok (.ldc2_w 148, 3) := dk_20 0 148 (dk_at dksX0_said_5 21 rfl rfl)
theorem dX0_said_142 : decode cX0_said 142 = .ok (.invokestatic 21, 3) := dk_184 0 21 (dk_at dksX0_said_6 0 rfl rfl)
theorem dX0_said_145 : decode cX0_said 145 = .ok (.ifCond .ne 9, 3) := dk_154 0 9 (dk_at dksX0_said_6 3 rfl rfl)
theorem dX0_said_148 : decode cX0_said 148 = .ok (.bipush (-20), 2) := dk_16 236 (dk_at dksX0_said_6 6 rfl rfl)
theorem dX0_said_150 : decode cX0_said 150 = .ok (.iload 12, 2) := dk_21 12 (dk_at dksX0_said_6 8 rfl rfl)
theorem dX0_said_152 : decode cX0_said 152 = .ok (.isub, 1) := dk_100 (dk_at dksX0_said_6 10 rfl rfl)
theorem dX0_said_153 : decode cX0_said 153 = .ok (.ireturn, 1) := dk_172 (dk_at dksX0_said_6 11 rfl rfl)
theorem dX0_said_154 : decode cX0_said 154 = .ok (.aload_n 0, 1) := dk_42 (dk_at dksX0_said_6 12 rfl rfl)
theorem dX0_said_155 : decode cX0_said 155 = .ok (.iload 12, 2) := dk_21 12 (dk_at dksX0_said_6 13 rfl rfl)
theorem dX0_said_157 : decode cX0_said 157 = .ok (.iload 4, 2) := dk_21 4 (dk_at dksX0_said_6 15 rfl rfl)
theorem dX0_said_159 : decode cX0_said 159 = .ok (.invokevirtual 163, 3) := dk_182 0 163 (dk_at dksX0_said_6 17 rfl rfl)
theorem dX0_said_162 : decode cX0_said 162 = .ok (.istore 14, 2) := dk_54 14 (dk_at dksX0_said_6 20 rfl rfl)
theorem dX0_said_164 : decode cX0_said 164 = .ok (.iload 6, 2) := dk_21 6 (dk_at dksX0_said_6 22 rfl rfl)
theorem dX0_said_166 : decode cX0_said 166 = .ok (.iload 13, 2) := dk_21 13 (dk_at dksX0_said_7 0 rfl rfl)
theorem dX0_said_168 : decode cX0_said 168 = .ok (.iload 14, 2) := dk_21 14 (dk_at dksX0_said_7 2 rfl rfl)
theorem dX0_said_170 : decode cX0_said 170 = .ok (.if_icmp .ne 7, 3) := dk_160 0 7 (dk_at dksX0_said_7 4 rfl rfl)
theorem dX0_said_173 : decode cX0_said 173 = .ok (.iconst 1, 1) := dk_4 (dk_at dksX0_said_7 7 rfl rfl)
theorem dX0_said_174 : decode cX0_said 174 = .ok (.goto 4, 3) := dk_167 0 4 (dk_at dksX0_said_7 8 rfl rfl)
theorem dX0_said_177 : decode cX0_said 177 = .ok (.iconst 0, 1) := dk_3 (dk_at dksX0_said_7 11 rfl rfl)
theorem dX0_said_178 : decode cX0_said 178 = .ok (.iadd, 1) := dk_96 (dk_at dksX0_said_7 12 rfl rfl)
theorem dX0_said_179 : decode cX0_said 179 = .ok (.istore 6, 2) := dk_54 6 (dk_at dksX0_said_7 13 rfl rfl)
theorem dX0_said_181 : decode cX0_said 181 = .ok (.iload 13, 2) := dk_21 13 (dk_at dksX0_said_7 15 rfl rfl)
theorem dX0_said_183 : decode cX0_said 183 = .ok (.iload 14, 2) := dk_21 14 (dk_at dksX0_said_7 17 rfl rfl)
theorem dX0_said_185 : decode cX0_said 185 = .ok (.if_icmp .eq 15, 3) := dk_159 0 15 (dk_at dksX0_said_7 19 rfl rfl)
theorem dX0_said_188 : decode cX0_said 188 = .ok (.iload 7, 2) := dk_21 7 (dk_at dksX0_said_7 22 rfl rfl)
theorem dX0_said_190 : decode cX0_said 190 = .ok (.bipush (-4), 2) := dk_16 252 (dk_at dksX0_said_8 0 rfl rfl)
theorem dX0_said_192 : decode cX0_said 192 = .ok (.if_icmp .ne 8, 3) := dk_160 0 8 (dk_at dksX0_said_8 2 rfl rfl)
theorem dX0_said_195 : decode cX0_said 195 = .ok (.iload 12, 2) := dk_21 12 (dk_at dksX0_said_8 5 rfl rfl)
theorem dX0_said_197 : decode cX0_said 197 = .ok (.goto 5, 3) := dk_167 0 5 (dk_at dksX0_said_8 7 rfl rfl)
theorem dX0_said_200 : decode cX0_said 200 = .ok (.iload 7, 2) := dk_21 7 (dk_at dksX0_said_8 10 rfl rfl)
theorem dX0_said_202 : decode cX0_said 202 = .ok (.istore 7, 2) := dk_54 7 (dk_at dksX0_said_8 12 rfl rfl)
theorem dX0_said_204 : decode cX0_said 204 = .ok (.iload 8, 2) := dk_21 8 (dk_at dksX0_said_8 14 rfl rfl)
theorem dX0_said_206 : decode cX0_said 206 = .ok (.iconst 0, 1) := dk_3 (dk_at dksX0_said_8 16 rfl rfl)
theorem dX0_said_207 : decode cX0_said 207 = .ok (.iload 13, 2) := dk_21 13 (dk_at dksX0_said_8 17 rfl rfl)
theorem dX0_said_209 : decode cX0_said 209 = .ok (.iload 14, 2) := dk_21 14 (dk_at dksX0_said_8 19 rfl rfl)
theorem dX0_said_211 : decode cX0_said 211 = .ok (.isub, 1) := dk_100 (dk_at dksX0_said_8 21 rfl rfl)
theorem dX0_said_212 : decode cX0_said 212 = .ok (.invokestatic 175, 3) := dk_184 0 175 (dk_at dksX0_said_9 0 rfl rfl)
theorem dX0_said_215 : decode cX0_said 215 = .ok (.iadd, 1) := dk_96 (dk_at dksX0_said_9 3 rfl rfl)
theorem dX0_said_216 : decode cX0_said 216 = .ok (.istore 8, 2) := dk_54 8 (dk_at dksX0_said_9 4 rfl rfl)
theorem dX0_said_218 : decode cX0_said 218 = .ok (.iload 9, 2) := dk_21 9 (dk_at dksX0_said_9 6 rfl rfl)
theorem dX0_said_220 : decode cX0_said 220 = .ok (.iconst 0, 1) := dk_3 (dk_at dksX0_said_9 8 rfl rfl)
theorem dX0_said_221 : decode cX0_said 221 = .ok (.iload 14, 2) := dk_21 14 (dk_at dksX0_said_9 9 rfl rfl)
theorem dX0_said_223 : decode cX0_said 223 = .ok (.iload 13, 2) := dk_21 13 (dk_at dksX0_said_9 11 rfl rfl)
theorem dX0_said_225 : decode cX0_said 225 = .ok (.isub, 1) := dk_100 (dk_at dksX0_said_9 13 rfl rfl)
theorem dX0_said_226 : decode cX0_said 226 = .ok (.invokestatic 175, 3) := dk_184 0 175 (dk_at dksX0_said_9 14 rfl rfl)
theorem dX0_said_229 : decode cX0_said 229 = .ok (.iadd, 1) := dk_96 (dk_at dksX0_said_9 17 rfl rfl)
theorem dX0_said_230 : decode cX0_said 230 = .ok (.istore 9, 2) := dk_54 9 (dk_at dksX0_said_9 18 rfl rfl)
theorem dX0_said_232 : decode cX0_said 232 = .ok (.iinc 12 1, 3) := dk_132 12 1 (dk_at dksX0_said_9 20 rfl rfl)
theorem dX0_said_235 : decode cX0_said 235 = .ok (.goto (-126), 3) := dk_167 255 130 (dk_at dksX0_said_10 0 rfl rfl)
theorem dX0_said_238 : decode cX0_said 238 = .ok (.goto 18, 3) := dk_167 0 18 (dk_at dksX0_said_10 3 rfl rfl)
theorem dX0_said_241 : decode cX0_said 241 = .ok (.astore 10, 2) := dk_58 10 (dk_at dksX0_said_10 6 rfl rfl)
theorem dX0_said_243 : decode cX0_said 243 = .ok (.bipush (-11), 2) := dk_16 245 (dk_at dksX0_said_10 8 rfl rfl)
theorem dX0_said_245 : decode cX0_said 245 = .ok (.ireturn, 1) := dk_172 (dk_at dksX0_said_10 10 rfl rfl)
theorem dX0_said_246 : decode cX0_said 246 = .ok (.astore 10, 2) := dk_58 10 (dk_at dksX0_said_10 11 rfl rfl)
theorem dX0_said_248 : decode cX0_said 248 = .ok (.bipush (-13), 2) := dk_16 243 (dk_at dksX0_said_10 13 rfl rfl)
theorem dX0_said_250 : decode cX0_said 250 = .ok (.ireturn, 1) := dk_172 (dk_at dksX0_said_10 15 rfl rfl)
theorem dX0_said_251 : decode cX0_said 251 = .ok (.astore 10, 2) := dk_58 10 (dk_at dksX0_said_10 16 rfl rfl)
theorem dX0_said_253 : decode cX0_said 253 = .ok (.bipush (-12), 2) := dk_16 244 (dk_at dksX0_said_10 18 rfl rfl)
theorem dX0_said_255 : decode cX0_said 255 = .ok (.ireturn, 1) := dk_172 (dk_at dksX0_said_10 20 rfl rfl)
theorem dX0_said_256 : decode cX0_said 256 = .ok (.iload 5, 2) := dk_21 5 (dk_at dksX0_said_10 21 rfl rfl)
theorem dX0_said_258 : decode cX0_said 258 = .ok (.ifCond .ne 8, 3) := dk_154 0 8 (dk_at dksX0_said_11 0 rfl rfl)
theorem dX0_said_261 : decode cX0_said 261 = .ok (.iload 6, 2) := dk_21 6 (dk_at dksX0_said_11 3 rfl rfl)
theorem dX0_said_263 : decode cX0_said 263 = .ok (.goto 27, 3) := dk_167 0 27 (dk_at dksX0_said_11 5 rfl rfl)
theorem dX0_said_266 : decode cX0_said 266 = .ok (.iload 5, 2) := dk_21 5 (dk_at dksX0_said_11 8 rfl rfl)
theorem dX0_said_268 : decode cX0_said 268 = .ok (.iconst 1, 1) := dk_4 (dk_at dksX0_said_11 10 rfl rfl)
theorem dX0_said_269 : decode cX0_said 269 = .ok (.if_icmp .ne 8, 3) := dk_160 0 8 (dk_at dksX0_said_11 11 rfl rfl)
theorem dX0_said_272 : decode cX0_said 272 = .ok (.iload 7, 2) := dk_21 7 (dk_at dksX0_said_11 14 rfl rfl)
theorem dX0_said_274 : decode cX0_said 274 = .ok (.goto 16, 3) := dk_167 0 16 (dk_at dksX0_said_11 16 rfl rfl)
theorem dX0_said_277 : decode cX0_said 277 = .ok (.iload 5, 2) := dk_21 5 (dk_at dksX0_said_11 19 rfl rfl)
theorem dX0_said_279 : decode cX0_said 279 = .ok (.iconst 2, 1) := dk_5 (dk_at dksX0_said_11 21 rfl rfl)
theorem dX0_said_280 : decode cX0_said 280 = .ok (.if_icmp .ne 8, 3) := dk_160 0 8 (dk_at dksX0_said_12 0 rfl rfl)
theorem dX0_said_283 : decode cX0_said 283 = .ok (.iload 8, 2) := dk_21 8 (dk_at dksX0_said_12 3 rfl rfl)
theorem dX0_said_285 : decode cX0_said 285 = .ok (.goto 5, 3) := dk_167 0 5 (dk_at dksX0_said_12 5 rfl rfl)
theorem dX0_said_288 : decode cX0_said 288 = .ok (.iload 9, 2) := dk_21 9 (dk_at dksX0_said_12 8 rfl rfl)
theorem dX0_said_290 : decode cX0_said 290 = .ok (.ireturn, 1) := dk_172 (dk_at dksX0_said_12 10 rfl rfl)
abbrev cX0_cell : ByteArray := prog_1_method_60_code
def yX0_cell : MethodName := ⟨RX0, "cell", "(Ljava/lang/Object;II)I"⟩
def dkwX0_cell_1 : List UInt8 := [167, 0, 9, 42, 192, 1, 85, 28, 46, 172]
abbrev dktX0_cell_1 : List UInt8 := dkwX0_cell_1 ++ []
def dkwX0_cell_0 : List UInt8 := [27, 154, 0, 12, 42, 192, 1, 82, 28, 51, 167, 0, 23, 27, 4, 160, 0, 12, 42, 192, 1, 83, 28, 53]
abbrev dktX0_cell_0 : List UInt8 := dkwX0_cell_0 ++ dktX0_cell_1
theorem dksX0_cell_0 : cX0_cell.data.toList.drop 0 = dktX0_cell_0 := by decide +kernel
theorem dksX0_cell_1 : cX0_cell.data.toList.drop 24 = dktX0_cell_1 := dk_seg dksX0_cell_0 24 rfl rfl
theorem dX0_cell_0 : decode cX0_cell 0 = .ok (.iload_n 1, 1) := dk_27 (dk_at dksX0_cell_0 0 rfl rfl)
theorem dX0_cell_1 : decode cX0_cell 1 = .ok (.ifCond .ne 12, 3) := dk_154 0 12 (dk_at dksX0_cell_0 1 rfl rfl)
theorem dX0_cell_4 : decode cX0_cell 4 = .ok (.aload_n 0, 1) := dk_42 (dk_at dksX0_cell_0 4 rfl rfl)
theorem dX0_cell_5 : decode cX0_cell 5 = .ok (.checkcast 338, 3) := dk_192 1 82 (dk_at dksX0_cell_0 5 rfl rfl)
theorem dX0_cell_8 : decode cX0_cell 8 = .ok (.iload_n 2, 1) := dk_28 (dk_at dksX0_cell_0 8 rfl rfl)
theorem dX0_cell_9 : decode cX0_cell 9 = .ok (.baload, 1) := dk_51 (dk_at dksX0_cell_0 9 rfl rfl)
theorem dX0_cell_10 : decode cX0_cell 10 = .ok (.goto 23, 3) := dk_167 0 23 (dk_at dksX0_cell_0 10 rfl rfl)
theorem dX0_cell_13 : decode cX0_cell 13 = .ok (.iload_n 1, 1) := dk_27 (dk_at dksX0_cell_0 13 rfl rfl)
theorem dX0_cell_14 : decode cX0_cell 14 = .ok (.iconst 1, 1) := dk_4 (dk_at dksX0_cell_0 14 rfl rfl)
theorem dX0_cell_15 : decode cX0_cell 15 = .ok (.if_icmp .ne 12, 3) := dk_160 0 12 (dk_at dksX0_cell_0 15 rfl rfl)
theorem dX0_cell_18 : decode cX0_cell 18 = .ok (.aload_n 0, 1) := dk_42 (dk_at dksX0_cell_0 18 rfl rfl)
theorem dX0_cell_19 : decode cX0_cell 19 = .ok (.checkcast 339, 3) := dk_192 1 83 (dk_at dksX0_cell_0 19 rfl rfl)
theorem dX0_cell_22 : decode cX0_cell 22 = .ok (.iload_n 2, 1) := dk_28 (dk_at dksX0_cell_0 22 rfl rfl)
theorem dX0_cell_23 : decode cX0_cell 23 = .ok (.saload, 1) := dk_53 (dk_at dksX0_cell_0 23 rfl rfl)
theorem dX0_cell_24 : decode cX0_cell 24 = .ok (.goto 9, 3) := dk_167 0 9 (dk_at dksX0_cell_1 0 rfl rfl)
theorem dX0_cell_27 : decode cX0_cell 27 = .ok (.aload_n 0, 1) := dk_42 (dk_at dksX0_cell_1 3 rfl rfl)
theorem dX0_cell_28 : decode cX0_cell 28 = .ok (.checkcast 341, 3) := dk_192 1 85 (dk_at dksX0_cell_1 4 rfl rfl)
theorem dX0_cell_31 : decode cX0_cell 31 = .ok (.iload_n 2, 1) := dk_28 (dk_at dksX0_cell_1 7 rfl rfl)
theorem dX0_cell_32 : decode cX0_cell 32 = .ok (.iaload, 1) := dk_46 (dk_at dksX0_cell_1 8 rfl rfl)
theorem dX0_cell_33 : decode cX0_cell 33 = .ok (.ireturn, 1) := dk_172 (dk_at dksX0_cell_1 9 rfl rfl)
abbrev cX0_count : ByteArray := prog_1_method_62_code
def yX0_count : MethodName := ⟨RX0, "count", "(I)I"⟩
def dkwX0_count_6 : List UInt8 := [180, 0, 94, 172, 2, 172]
abbrev dktX0_count_6 : List UInt8 := dkwX0_count_6 ++ []
def dkwX0_count_5 : List UInt8 := [3, 50, 180, 1, 73, 199, 0, 8, 16, 252, 167, 0, 12, 42, 180, 1, 65, 3, 50, 180, 1, 77, 172, 42]
abbrev dktX0_count_5 : List UInt8 := dkwX0_count_5 ++ dktX0_count_6
def dkwX0_count_4 : List UInt8 := [42, 180, 0, 50, 172, 42, 180, 0, 178, 172, 42, 180, 0, 98, 172, 42, 180, 0, 13, 172, 42, 180, 1, 65]
abbrev dktX0_count_4 : List UInt8 := dkwX0_count_4 ++ dktX0_count_5
def dkwX0_count_3 : List UInt8 := [170, 0, 0, 0, 0, 0, 91, 0, 0, 0, 0, 0, 0, 0, 5, 0, 0, 0, 39, 0, 0, 0, 44, 0, 0, 0, 49, 0, 0, 0, 54, 0, 0, 0, 59, 0, 0, 0, 86]
abbrev dktX0_count_3 : List UInt8 := dkwX0_count_3 ++ dktX0_count_4
def dkwX0_count_2 : List UInt8 := [180, 0, 183, 27, 16, 20, 100, 50, 180, 0, 192, 172, 27]
abbrev dktX0_count_2 : List UInt8 := dkwX0_count_2 ++ dktX0_count_3
def dkwX0_count_1 : List UInt8 := [100, 50, 180, 0, 187, 172, 27, 16, 20, 161, 0, 27, 42, 27, 16, 20, 100, 182, 0, 195, 153, 0, 16, 42]
abbrev dktX0_count_1 : List UInt8 := dkwX0_count_1 ++ dktX0_count_2
def dkwX0_count_0 : List UInt8 := [27, 16, 10, 161, 0, 27, 42, 27, 16, 10, 100, 182, 0, 195, 153, 0, 16, 42, 180, 0, 183, 27, 16, 10]
abbrev dktX0_count_0 : List UInt8 := dkwX0_count_0 ++ dktX0_count_1
theorem dksX0_count_0 : cX0_count.data.toList.drop 0 = dktX0_count_0 := by decide +kernel
theorem dksX0_count_1 : cX0_count.data.toList.drop 24 = dktX0_count_1 := dk_seg dksX0_count_0 24 rfl rfl
theorem dksX0_count_2 : cX0_count.data.toList.drop 48 = dktX0_count_2 := dk_seg dksX0_count_1 24 rfl rfl
theorem dksX0_count_3 : cX0_count.data.toList.drop 61 = dktX0_count_3 := dk_seg dksX0_count_2 13 rfl rfl
theorem dksX0_count_4 : cX0_count.data.toList.drop 100 = dktX0_count_4 := dk_seg dksX0_count_3 39 rfl rfl
theorem dksX0_count_5 : cX0_count.data.toList.drop 124 = dktX0_count_5 := dk_seg dksX0_count_4 24 rfl rfl
theorem dksX0_count_6 : cX0_count.data.toList.drop 148 = dktX0_count_6 := dk_seg dksX0_count_5 24 rfl rfl
theorem dX0_count_0 : decode cX0_count 0 = .ok (.iload_n 1, 1) := dk_27 (dk_at dksX0_count_0 0 rfl rfl)
theorem dX0_count_1 : decode cX0_count 1 = .ok (.bipush 10, 2) := dk_16 10 (dk_at dksX0_count_0 1 rfl rfl)
theorem dX0_count_3 : decode cX0_count 3 = .ok (.if_icmp .lt 27, 3) := dk_161 0 27 (dk_at dksX0_count_0 3 rfl rfl)
theorem dX0_count_6 : decode cX0_count 6 = .ok (.aload_n 0, 1) := dk_42 (dk_at dksX0_count_0 6 rfl rfl)
theorem dX0_count_7 : decode cX0_count 7 = .ok (.iload_n 1, 1) := dk_27 (dk_at dksX0_count_0 7 rfl rfl)
theorem dX0_count_8 : decode cX0_count 8 = .ok (.bipush 10, 2) := dk_16 10 (dk_at dksX0_count_0 8 rfl rfl)
theorem dX0_count_10 : decode cX0_count 10 = .ok (.isub, 1) := dk_100 (dk_at dksX0_count_0 10 rfl rfl)
theorem dX0_count_11 : decode cX0_count 11 = .ok (.invokevirtual 195, 3) := dk_182 0 195 (dk_at dksX0_count_0 11 rfl rfl)
theorem dX0_count_14 : decode cX0_count 14 = .ok (.ifCond .eq 16, 3) := dk_153 0 16 (dk_at dksX0_count_0 14 rfl rfl)
theorem dX0_count_17 : decode cX0_count 17 = .ok (.aload_n 0, 1) := dk_42 (dk_at dksX0_count_0 17 rfl rfl)
theorem dX0_count_18 : decode cX0_count 18 = .ok (.getfield 183, 3) := dk_180 0 183 (dk_at dksX0_count_0 18 rfl rfl)
theorem dX0_count_21 : decode cX0_count 21 = .ok (.iload_n 1, 1) := dk_27 (dk_at dksX0_count_0 21 rfl rfl)
theorem dX0_count_22 : decode cX0_count 22 = .ok (.bipush 10, 2) := dk_16 10 (dk_at dksX0_count_0 22 rfl rfl)
theorem dX0_count_24 : decode cX0_count 24 = .ok (.isub, 1) := dk_100 (dk_at dksX0_count_1 0 rfl rfl)
theorem dX0_count_25 : decode cX0_count 25 = .ok (.aaload, 1) := dk_50 (dk_at dksX0_count_1 1 rfl rfl)
theorem dX0_count_26 : decode cX0_count 26 = .ok (.getfield 187, 3) := dk_180 0 187 (dk_at dksX0_count_1 2 rfl rfl)
theorem dX0_count_29 : decode cX0_count 29 = .ok (.ireturn, 1) := dk_172 (dk_at dksX0_count_1 5 rfl rfl)
theorem dX0_count_30 : decode cX0_count 30 = .ok (.iload_n 1, 1) := dk_27 (dk_at dksX0_count_1 6 rfl rfl)
theorem dX0_count_31 : decode cX0_count 31 = .ok (.bipush 20, 2) := dk_16 20 (dk_at dksX0_count_1 7 rfl rfl)
theorem dX0_count_33 : decode cX0_count 33 = .ok (.if_icmp .lt 27, 3) := dk_161 0 27 (dk_at dksX0_count_1 9 rfl rfl)
theorem dX0_count_36 : decode cX0_count 36 = .ok (.aload_n 0, 1) := dk_42 (dk_at dksX0_count_1 12 rfl rfl)
theorem dX0_count_37 : decode cX0_count 37 = .ok (.iload_n 1, 1) := dk_27 (dk_at dksX0_count_1 13 rfl rfl)
theorem dX0_count_38 : decode cX0_count 38 = .ok (.bipush 20, 2) := dk_16 20 (dk_at dksX0_count_1 14 rfl rfl)
theorem dX0_count_40 : decode cX0_count 40 = .ok (.isub, 1) := dk_100 (dk_at dksX0_count_1 16 rfl rfl)
theorem dX0_count_41 : decode cX0_count 41 = .ok (.invokevirtual 195, 3) := dk_182 0 195 (dk_at dksX0_count_1 17 rfl rfl)
theorem dX0_count_44 : decode cX0_count 44 = .ok (.ifCond .eq 16, 3) := dk_153 0 16 (dk_at dksX0_count_1 20 rfl rfl)
theorem dX0_count_47 : decode cX0_count 47 = .ok (.aload_n 0, 1) := dk_42 (dk_at dksX0_count_1 23 rfl rfl)
theorem dX0_count_48 : decode cX0_count 48 = .ok (.getfield 183, 3) := dk_180 0 183 (dk_at dksX0_count_2 0 rfl rfl)
theorem dX0_count_51 : decode cX0_count 51 = .ok (.iload_n 1, 1) := dk_27 (dk_at dksX0_count_2 3 rfl rfl)
theorem dX0_count_52 : decode cX0_count 52 = .ok (.bipush 20, 2) := dk_16 20 (dk_at dksX0_count_2 4 rfl rfl)
theorem dX0_count_54 : decode cX0_count 54 = .ok (.isub, 1) := dk_100 (dk_at dksX0_count_2 6 rfl rfl)
theorem dX0_count_55 : decode cX0_count 55 = .ok (.aaload, 1) := dk_50 (dk_at dksX0_count_2 7 rfl rfl)
theorem dX0_count_56 : decode cX0_count 56 = .ok (.getfield 192, 3) := dk_180 0 192 (dk_at dksX0_count_2 8 rfl rfl)
theorem dX0_count_59 : decode cX0_count 59 = .ok (.ireturn, 1) := dk_172 (dk_at dksX0_count_2 11 rfl rfl)
theorem dX0_count_60 : decode cX0_count 60 = .ok (.iload_n 1, 1) := dk_27 (dk_at dksX0_count_2 12 rfl rfl)
theorem dX0_count_61 : decode cX0_count 61 = .ok (.tableswitch 91 0 5 #[39, 44, 49, 54, 59, 86], 39) := by decide +kernel
theorem dX0_count_100 : decode cX0_count 100 = .ok (.aload_n 0, 1) := dk_42 (dk_at dksX0_count_4 0 rfl rfl)
theorem dX0_count_101 : decode cX0_count 101 = .ok (.getfield 50, 3) := dk_180 0 50 (dk_at dksX0_count_4 1 rfl rfl)
theorem dX0_count_104 : decode cX0_count 104 = .ok (.ireturn, 1) := dk_172 (dk_at dksX0_count_4 4 rfl rfl)
theorem dX0_count_105 : decode cX0_count 105 = .ok (.aload_n 0, 1) := dk_42 (dk_at dksX0_count_4 5 rfl rfl)
theorem dX0_count_106 : decode cX0_count 106 = .ok (.getfield 178, 3) := dk_180 0 178 (dk_at dksX0_count_4 6 rfl rfl)
theorem dX0_count_109 : decode cX0_count 109 = .ok (.ireturn, 1) := dk_172 (dk_at dksX0_count_4 9 rfl rfl)
theorem dX0_count_110 : decode cX0_count 110 = .ok (.aload_n 0, 1) := dk_42 (dk_at dksX0_count_4 10 rfl rfl)
theorem dX0_count_111 : decode cX0_count 111 = .ok (.getfield 98, 3) := dk_180 0 98 (dk_at dksX0_count_4 11 rfl rfl)
theorem dX0_count_114 : decode cX0_count 114 = .ok (.ireturn, 1) := dk_172 (dk_at dksX0_count_4 14 rfl rfl)
theorem dX0_count_115 : decode cX0_count 115 = .ok (.aload_n 0, 1) := dk_42 (dk_at dksX0_count_4 15 rfl rfl)
theorem dX0_count_116 : decode cX0_count 116 = .ok (.getfield 13, 3) := dk_180 0 13 (dk_at dksX0_count_4 16 rfl rfl)
theorem dX0_count_119 : decode cX0_count 119 = .ok (.ireturn, 1) := dk_172 (dk_at dksX0_count_4 19 rfl rfl)
theorem dX0_count_120 : decode cX0_count 120 = .ok (.aload_n 0, 1) := dk_42 (dk_at dksX0_count_4 20 rfl rfl)
theorem dX0_count_121 : decode cX0_count 121 = .ok (.getfield 321, 3) := dk_180 1 65 (dk_at dksX0_count_4 21 rfl rfl)
theorem dX0_count_124 : decode cX0_count 124 = .ok (.iconst 0, 1) := dk_3 (dk_at dksX0_count_5 0 rfl rfl)
theorem dX0_count_125 : decode cX0_count 125 = .ok (.aaload, 1) := dk_50 (dk_at dksX0_count_5 1 rfl rfl)
theorem dX0_count_126 : decode cX0_count 126 = .ok (.getfield 329, 3) := dk_180 1 73 (dk_at dksX0_count_5 2 rfl rfl)
theorem dX0_count_129 : decode cX0_count 129 = .ok (.ifnonnull 8, 3) := dk_199 0 8 (dk_at dksX0_count_5 5 rfl rfl)
theorem dX0_count_132 : decode cX0_count 132 = .ok (.bipush (-4), 2) := dk_16 252 (dk_at dksX0_count_5 8 rfl rfl)
theorem dX0_count_134 : decode cX0_count 134 = .ok (.goto 12, 3) := dk_167 0 12 (dk_at dksX0_count_5 10 rfl rfl)
theorem dX0_count_137 : decode cX0_count 137 = .ok (.aload_n 0, 1) := dk_42 (dk_at dksX0_count_5 13 rfl rfl)
theorem dX0_count_138 : decode cX0_count 138 = .ok (.getfield 321, 3) := dk_180 1 65 (dk_at dksX0_count_5 14 rfl rfl)
theorem dX0_count_141 : decode cX0_count 141 = .ok (.iconst 0, 1) := dk_3 (dk_at dksX0_count_5 17 rfl rfl)
theorem dX0_count_142 : decode cX0_count 142 = .ok (.aaload, 1) := dk_50 (dk_at dksX0_count_5 18 rfl rfl)
theorem dX0_count_143 : decode cX0_count 143 = .ok (.getfield 333, 3) := dk_180 1 77 (dk_at dksX0_count_5 19 rfl rfl)
theorem dX0_count_146 : decode cX0_count 146 = .ok (.ireturn, 1) := dk_172 (dk_at dksX0_count_5 22 rfl rfl)
theorem dX0_count_147 : decode cX0_count 147 = .ok (.aload_n 0, 1) := dk_42 (dk_at dksX0_count_5 23 rfl rfl)
theorem dX0_count_148 : decode cX0_count 148 = .ok (.getfield 94, 3) := dk_180 0 94 (dk_at dksX0_count_6 0 rfl rfl)
theorem dX0_count_151 : decode cX0_count 151 = .ok (.ireturn, 1) := dk_172 (dk_at dksX0_count_6 3 rfl rfl)
theorem dX0_count_152 : decode cX0_count 152 = .ok (.iconst (-1), 1) := dk_2 (dk_at dksX0_count_6 4 rfl rfl)
theorem dX0_count_153 : decode cX0_count 153 = .ok (.ireturn, 1) := dk_172 (dk_at dksX0_count_6 5 rfl rfl)
theorem q60 : (Jvm.Cond.initialized "EventCounters") ∈ lw_all := lw_g (lw_at lw_m1 1 rfl) rfl
theorem q87 : (Jvm.Cond.instanceMethod ({ cls := "EventCounters", name := "feed", desc := "(J)I" } : Jvm.MethodName)) ∈ lw_all := lw_g (lw_at lw_m1 28 rfl) rfl
theorem q88 : (Jvm.Cond.selects "EventCounters" ({ cls := "EventCounters", name := "feed", desc := "(J)I" } : Jvm.MethodName) ({ cls := "EventCounters", name := "feed", desc := "(J)I" } : Jvm.MethodName)) ∈ lw_all := lw_g (lw_at lw_m1 29 rfl) rfl
theorem q89 : (Jvm.Cond.code ({ cls := "EventCounters", name := "feed", desc := "(J)I" } : Jvm.MethodName) prog_1_method_4_code (4 : Nat) (Option.some Jvm.ClassFile.FieldType.int)) ∈ lw_all := lw_g (lw_at lw_m1 30 rfl) rfl
theorem q91 : (Jvm.Cond.instanceMethod ({ cls := "EventCounters", name := "end", desc := "(I)I" } : Jvm.MethodName)) ∈ lw_all := lw_g (lw_at lw_m1 32 rfl) rfl
theorem q92 : (Jvm.Cond.selects "EventCounters" ({ cls := "EventCounters", name := "end", desc := "(I)I" } : Jvm.MethodName) ({ cls := "EventCounters", name := "end", desc := "(I)I" } : Jvm.MethodName)) ∈ lw_all := lw_g (lw_at lw_m1 33 rfl) rfl
theorem q93 : (Jvm.Cond.code ({ cls := "EventCounters", name := "end", desc := "(I)I" } : Jvm.MethodName) prog_1_method_5_code (3 : Nat) (Option.some Jvm.ClassFile.FieldType.int)) ∈ lw_all := lw_g (lw_at lw_m1 34 rfl) rfl
theorem q94 : (Jvm.Cond.methodLink "EventCounters" (21 : Nat) ({ cls := "EventCounters", name := "isIn", desc := "(JJJ)Z" } : Jvm.MethodName)) ∈ lw_all := lw_g (lw_at lw_m1 35 rfl) rfl
theorem q95 : (Jvm.Cond.static ({ cls := "EventCounters", name := "isIn", desc := "(JJJ)Z" } : Jvm.MethodName)) ∈ lw_all := lw_g (lw_at lw_m1 36 rfl) rfl
theorem q96 : (Jvm.Cond.code ({ cls := "EventCounters", name := "isIn", desc := "(JJJ)Z" } : Jvm.MethodName) prog_1_method_1_code (6 : Nat) (Option.some Jvm.ClassFile.FieldType.boolean)) ∈ lw_all := lw_g (lw_at lw_m1 37 rfl) rfl
theorem q98 : (Jvm.Cond.instanceMethod ({ cls := "EventCounters", name := "program", desc := "()I" } : Jvm.MethodName)) ∈ lw_all := lw_g (lw_at lw_m1 39 rfl) rfl
theorem q99 : (Jvm.Cond.selects "EventCounters" ({ cls := "EventCounters", name := "program", desc := "()I" } : Jvm.MethodName) ({ cls := "EventCounters", name := "program", desc := "()I" } : Jvm.MethodName)) ∈ lw_all := lw_g (lw_at lw_m1 40 rfl) rfl
theorem q100 : (Jvm.Cond.codeWith ({ cls := "EventCounters", name := "program", desc := "()I" } : Jvm.MethodName) prog_1_method_7_code (4 : Nat) (Option.some Jvm.ClassFile.FieldType.int) [((26 : Nat), (91 : Nat), (92 : Nat), (104 : Nat))]) ∈ lw_all := lw_g (lw_at lw_m1 41 rfl) rfl
theorem q101 : (Jvm.Cond.classLink "EventCounters" (104 : Nat) "EventCounters$Fault") ∈ lw_all := lw_g (lw_at lw_m1 42 rfl) rfl
theorem q102 : (Jvm.Cond.methodLink "EventCounters" (66 : Nat) ({ cls := "java/lang/System", name := "arraycopy", desc := "(Ljava/lang/Object;ILjava/lang/Object;II)V" } : Jvm.MethodName)) ∈ lw_all := lw_g (lw_at lw_m1 43 rfl) rfl
theorem q105 : (Jvm.Cond.classLink "EventCounters" (72 : Nat) "EventCounters$Reader") ∈ lw_all := lw_g (lw_at lw_m1 46 rfl) rfl
theorem q107 : (Jvm.Cond.methodLink "EventCounters" (74 : Nat) ({ cls := "EventCounters$Reader", name := "<init>", desc := "([B)V" } : Jvm.MethodName)) ∈ lw_all := lw_g (lw_at lw_m1 48 rfl) rfl
theorem q203 : (Jvm.Cond.fieldLinkNest "EventCounters" (106 : Nat) "EventCounters$Fault" "code" "I" "EventCounters") ∈ lw_tbl := lw_at lw_m1 144 rfl
theorem q205 : (Jvm.Cond.fieldLinkNest "EventCounters" (109 : Nat) "EventCounters$Fault" "place" "I" "EventCounters") ∈ lw_tbl := lw_at lw_m1 146 rfl
theorem q226 : (Jvm.Cond.fieldLinkNest "EventCounters" (82 : Nat) "EventCounters$Reader" "lines" "[LEventCounters$Line;" "EventCounters") ∈ lw_tbl := lw_at lw_m1 167 rfl
theorem q227 : (Jvm.Cond.fieldLinkNest "EventCounters" (83 : Nat) "EventCounters$Reader" "many" "I" "EventCounters") ∈ lw_tbl := lw_at lw_m1 168 rfl
theorem q230 : (Jvm.Cond.fieldLinkNest "EventCounters" (86 : Nat) "EventCounters$Reader" "loops" "[LEventCounters$Loop;" "EventCounters") ∈ lw_tbl := lw_at lw_m1 171 rfl
theorem q231 : (Jvm.Cond.fieldLinkNest "EventCounters" (91 : Nat) "EventCounters$Reader" "loopMany" "I" "EventCounters") ∈ lw_tbl := lw_at lw_m1 172 rfl
theorem q256 : (Jvm.Cond.methodLink "EventCounters" (78 : Nat) ({ cls := "EventCounters$Reader", name := "all", desc := "()LEventCounters$Block;" } : Jvm.MethodName)) ∈ lw_all := lw_g (lw_at lw_m1 197 rfl) rfl
theorem q351 : (Jvm.Cond.fieldLinkNest "EventCounters" (122 : Nat) "EventCounters$Line" "deep" "I" "EventCounters") ∈ lw_tbl := lw_at lw_m2 52 rfl
theorem q353 : (Jvm.Cond.fieldLinkNest "EventCounters" (62 : Nat) "EventCounters$Line" "ticks" "I" "EventCounters") ∈ lw_tbl := lw_at lw_m2 54 rfl
theorem q355 : (Jvm.Cond.fieldLinkNest "EventCounters" (63 : Nat) "EventCounters$Line" "events" "[I" "EventCounters") ∈ lw_tbl := lw_at lw_m2 56 rfl
theorem q358 : (Jvm.Cond.fieldLinkNest "EventCounters" (57 : Nat) "EventCounters$Line" "times" "I" "EventCounters") ∈ lw_tbl := lw_at lw_m2 59 rfl
theorem q387 : (Jvm.Cond.fieldLinkNest "EventCounters" (135 : Nat) "EventCounters$Loop" "times" "I" "EventCounters") ∈ lw_tbl := lw_at lw_m2 88 rfl
theorem q389 : (Jvm.Cond.fieldLinkNest "EventCounters" (138 : Nat) "EventCounters$Loop" "deep" "I" "EventCounters") ∈ lw_tbl := lw_at lw_m2 90 rfl
theorem q391 : (Jvm.Cond.fieldLinkNest "EventCounters" (142 : Nat) "EventCounters$Loop" "comes" "I" "EventCounters") ∈ lw_tbl := lw_at lw_m2 92 rfl
theorem q432 : (Jvm.Cond.methodLink "EventCounters" (95 : Nat) ({ cls := "EventCounters", name := "lays", desc := "(LEventCounters$Block;)V" } : Jvm.MethodName)) ∈ lw_all := lw_g (lw_at lw_m2 133 rfl) rfl
theorem q433 : (Jvm.Cond.privateMethod ({ cls := "EventCounters", name := "lays", desc := "(LEventCounters$Block;)V" } : Jvm.MethodName)) ∈ lw_tbl := lw_at lw_m2 134 rfl
theorem q434 : (Jvm.Cond.instanceMethod ({ cls := "EventCounters", name := "lays", desc := "(LEventCounters$Block;)V" } : Jvm.MethodName)) ∈ lw_all := lw_g (lw_at lw_m2 135 rfl) rfl
theorem q435 : (Jvm.Cond.instantiable "EventCounters" (28 : Nat)) ∈ lw_all := lw_g (lw_at lw_m2 136 rfl) rfl
theorem q436 : (Jvm.Cond.code ({ cls := "EventCounters", name := "lays", desc := "(LEventCounters$Block;)V" } : Jvm.MethodName) prog_1_method_6_code (5 : Nat) (Option.none : Option Jvm.ClassFile.FieldType)) ∈ lw_all := lw_g (lw_at lw_m2 137 rfl) rfl
theorem q437 : (Jvm.Cond.methodLink "EventCounters" (29 : Nat) ({ cls := "EventCounters$Block", name := "lays", desc := "([II)I" } : Jvm.MethodName)) ∈ lw_all := lw_g (lw_at lw_m2 138 rfl) rfl
theorem q454 : (Jvm.Cond.methodLink "EventCounters" (44 : Nat) ({ cls := "java/util/Arrays", name := "fill", desc := "([II)V" } : Jvm.MethodName)) ∈ lw_all := lw_g (lw_at lw_m2 155 rfl) rfl
theorem q458 : (Jvm.Cond.instanceMethod ({ cls := "EventCounters", name := "fault", desc := "()I" } : Jvm.MethodName)) ∈ lw_all := lw_g (lw_at lw_m2 159 rfl) rfl
theorem q459 : (Jvm.Cond.selects "EventCounters" ({ cls := "EventCounters", name := "fault", desc := "()I" } : Jvm.MethodName) ({ cls := "EventCounters", name := "fault", desc := "()I" } : Jvm.MethodName)) ∈ lw_all := lw_g (lw_at lw_m2 160 rfl) rfl
theorem q460 : (Jvm.Cond.code ({ cls := "EventCounters", name := "fault", desc := "()I" } : Jvm.MethodName) prog_1_method_8_code (1 : Nat) (Option.some Jvm.ClassFile.FieldType.int)) ∈ lw_all := lw_g (lw_at lw_m2 161 rfl) rfl
theorem q462 : (Jvm.Cond.instanceMethod ({ cls := "EventCounters", name := "line", desc := "(II)I" } : Jvm.MethodName)) ∈ lw_all := lw_g (lw_at lw_m2 163 rfl) rfl
theorem q463 : (Jvm.Cond.selects "EventCounters" ({ cls := "EventCounters", name := "line", desc := "(II)I" } : Jvm.MethodName) ({ cls := "EventCounters", name := "line", desc := "(II)I" } : Jvm.MethodName)) ∈ lw_all := lw_g (lw_at lw_m2 164 rfl) rfl
theorem q464 : (Jvm.Cond.code ({ cls := "EventCounters", name := "line", desc := "(II)I" } : Jvm.MethodName) prog_1_method_11_code (4 : Nat) (Option.some Jvm.ClassFile.FieldType.int)) ∈ lw_all := lw_g (lw_at lw_m2 165 rfl) rfl
theorem q465 : (Jvm.Cond.methodLink "EventCounters" (114 : Nat) ({ cls := "EventCounters", name := "isLine", desc := "(I)Z" } : Jvm.MethodName)) ∈ lw_all := lw_g (lw_at lw_m2 166 rfl) rfl
theorem q466 : (Jvm.Cond.privateMethod ({ cls := "EventCounters", name := "isLine", desc := "(I)Z" } : Jvm.MethodName)) ∈ lw_tbl := lw_at lw_m2 167 rfl
theorem q467 : (Jvm.Cond.instanceMethod ({ cls := "EventCounters", name := "isLine", desc := "(I)Z" } : Jvm.MethodName)) ∈ lw_all := lw_g (lw_at lw_m2 168 rfl) rfl
theorem q468 : (Jvm.Cond.code ({ cls := "EventCounters", name := "isLine", desc := "(I)Z" } : Jvm.MethodName) prog_1_method_9_code (2 : Nat) (Option.some Jvm.ClassFile.FieldType.boolean)) ∈ lw_all := lw_g (lw_at lw_m2 169 rfl) rfl
theorem q469 : (Jvm.Cond.constantLong "EventCounters" (118 : Nat) (10 : Int64)) ∈ lw_all := lw_g (lw_at lw_m2 170 rfl) rfl
theorem q470 : (Jvm.Cond.constantLong "EventCounters" (120 : Nat) (17 : Int64)) ∈ lw_all := lw_g (lw_at lw_m2 171 rfl) rfl
theorem q472 : (Jvm.Cond.instanceMethod ({ cls := "EventCounters", name := "step", desc := "(I)I" } : Jvm.MethodName)) ∈ lw_all := lw_g (lw_at lw_m2 173 rfl) rfl
theorem q473 : (Jvm.Cond.selects "EventCounters" ({ cls := "EventCounters", name := "step", desc := "(I)I" } : Jvm.MethodName) ({ cls := "EventCounters", name := "step", desc := "(I)I" } : Jvm.MethodName)) ∈ lw_all := lw_g (lw_at lw_m2 174 rfl) rfl
theorem q474 : (Jvm.Cond.code ({ cls := "EventCounters", name := "step", desc := "(I)I" } : Jvm.MethodName) prog_1_method_12_code (2 : Nat) (Option.some Jvm.ClassFile.FieldType.int)) ∈ lw_all := lw_g (lw_at lw_m2 175 rfl) rfl
theorem q476 : (Jvm.Cond.instanceMethod ({ cls := "EventCounters", name := "whole", desc := "(I)I" } : Jvm.MethodName)) ∈ lw_all := lw_g (lw_at lw_m2 177 rfl) rfl
theorem q477 : (Jvm.Cond.selects "EventCounters" ({ cls := "EventCounters", name := "whole", desc := "(I)I" } : Jvm.MethodName) ({ cls := "EventCounters", name := "whole", desc := "(I)I" } : Jvm.MethodName)) ∈ lw_all := lw_g (lw_at lw_m2 178 rfl) rfl
theorem q478 : (Jvm.Cond.code ({ cls := "EventCounters", name := "whole", desc := "(I)I" } : Jvm.MethodName) prog_1_method_13_code (2 : Nat) (Option.some Jvm.ClassFile.FieldType.int)) ∈ lw_all := lw_g (lw_at lw_m2 179 rfl) rfl
theorem q480 : (Jvm.Cond.instanceMethod ({ cls := "EventCounters", name := "ratio", desc := "(IIII)I" } : Jvm.MethodName)) ∈ lw_all := lw_g (lw_at lw_m2 181 rfl) rfl
theorem q481 : (Jvm.Cond.selects "EventCounters" ({ cls := "EventCounters", name := "ratio", desc := "(IIII)I" } : Jvm.MethodName) ({ cls := "EventCounters", name := "ratio", desc := "(IIII)I" } : Jvm.MethodName)) ∈ lw_all := lw_g (lw_at lw_m2 182 rfl) rfl
theorem q482 : (Jvm.Cond.code ({ cls := "EventCounters", name := "ratio", desc := "(IIII)I" } : Jvm.MethodName) prog_1_method_14_code (7 : Nat) (Option.some Jvm.ClassFile.FieldType.int)) ∈ lw_all := lw_g (lw_at lw_m2 183 rfl) rfl
theorem q483 : (Jvm.Cond.methodLink "EventCounters" (125 : Nat) ({ cls := "EventCounters", name := "isEvent", desc := "(I)Z" } : Jvm.MethodName)) ∈ lw_all := lw_g (lw_at lw_m2 184 rfl) rfl
theorem q484 : (Jvm.Cond.static ({ cls := "EventCounters", name := "isEvent", desc := "(I)Z" } : Jvm.MethodName)) ∈ lw_all := lw_g (lw_at lw_m2 185 rfl) rfl
theorem q485 : (Jvm.Cond.code ({ cls := "EventCounters", name := "isEvent", desc := "(I)Z" } : Jvm.MethodName) prog_1_method_10_code (1 : Nat) (Option.some Jvm.ClassFile.FieldType.boolean)) ∈ lw_all := lw_g (lw_at lw_m2 186 rfl) rfl
theorem q486 : (Jvm.Cond.constantLong "EventCounters" (112 : Nat) (7 : Int64)) ∈ lw_all := lw_g (lw_at lw_m2 187 rfl) rfl
theorem q487 : (Jvm.Cond.methodLink "EventCounters" (128 : Nat) ({ cls := "EventCounters", name := "lowest", desc := "(JJI)J" } : Jvm.MethodName)) ∈ lw_all := lw_g (lw_at lw_m2 188 rfl) rfl
theorem q488 : (Jvm.Cond.static ({ cls := "EventCounters", name := "lowest", desc := "(JJI)J" } : Jvm.MethodName)) ∈ lw_all := lw_g (lw_at lw_m2 189 rfl) rfl
theorem q489 : (Jvm.Cond.code ({ cls := "EventCounters", name := "lowest", desc := "(JJI)J" } : Jvm.MethodName) prog_1_method_3_code (5 : Nat) (Option.some Jvm.ClassFile.FieldType.long)) ∈ lw_all := lw_g (lw_at lw_m2 190 rfl) rfl
theorem q490 : (Jvm.Cond.methodLink "EventCounters" (7 : Nat) ({ cls := "EventCounters", name := "common", desc := "(JJ)J" } : Jvm.MethodName)) ∈ lw_all := lw_g (lw_at lw_m2 191 rfl) rfl
theorem q491 : (Jvm.Cond.static ({ cls := "EventCounters", name := "common", desc := "(JJ)J" } : Jvm.MethodName)) ∈ lw_all := lw_g (lw_at lw_m2 192 rfl) rfl
theorem q492 : (Jvm.Cond.code ({ cls := "EventCounters", name := "common", desc := "(JJ)J" } : Jvm.MethodName) prog_1_method_2_code (10 : Nat) (Option.some Jvm.ClassFile.FieldType.long)) ∈ lw_all := lw_g (lw_at lw_m2 193 rfl) rfl
theorem q493 : (Jvm.Cond.methodLink "EventCounters" (1 : Nat) ({ cls := "java/lang/Math", name := "abs", desc := "(J)J" } : Jvm.MethodName)) ∈ lw_all := lw_g (lw_at lw_m2 194 rfl) rfl
theorem q497 : (Jvm.Cond.instanceMethod ({ cls := "EventCounters", name := "loop", desc := "(II)I" } : Jvm.MethodName)) ∈ lw_all := lw_g (lw_at lw_m2 198 rfl) rfl
theorem q498 : (Jvm.Cond.selects "EventCounters" ({ cls := "EventCounters", name := "loop", desc := "(II)I" } : Jvm.MethodName) ({ cls := "EventCounters", name := "loop", desc := "(II)I" } : Jvm.MethodName)) ∈ lw_all := lw_g (lw_at lw_m2 199 rfl) rfl
theorem q499 : (Jvm.Cond.code ({ cls := "EventCounters", name := "loop", desc := "(II)I" } : Jvm.MethodName) prog_1_method_16_code (4 : Nat) (Option.some Jvm.ClassFile.FieldType.int)) ∈ lw_all := lw_g (lw_at lw_m2 200 rfl) rfl
theorem q500 : (Jvm.Cond.methodLink "EventCounters" (132 : Nat) ({ cls := "EventCounters", name := "isLoop", desc := "(I)Z" } : Jvm.MethodName)) ∈ lw_all := lw_g (lw_at lw_m2 201 rfl) rfl
theorem q501 : (Jvm.Cond.privateMethod ({ cls := "EventCounters", name := "isLoop", desc := "(I)Z" } : Jvm.MethodName)) ∈ lw_tbl := lw_at lw_m2 202 rfl
theorem q502 : (Jvm.Cond.instanceMethod ({ cls := "EventCounters", name := "isLoop", desc := "(I)Z" } : Jvm.MethodName)) ∈ lw_all := lw_g (lw_at lw_m2 203 rfl) rfl
theorem q503 : (Jvm.Cond.code ({ cls := "EventCounters", name := "isLoop", desc := "(I)Z" } : Jvm.MethodName) prog_1_method_15_code (2 : Nat) (Option.some Jvm.ClassFile.FieldType.boolean)) ∈ lw_all := lw_g (lw_at lw_m2 204 rfl) rfl
theorem q504 : (Jvm.Cond.methodLink "EventCounters" (139 : Nat) ({ cls := "EventCounters$Loop", name := "lines", desc := "()I" } : Jvm.MethodName)) ∈ lw_all := lw_g (lw_at lw_m2 205 rfl) rfl
theorem q518 : (Jvm.Cond.methodLink "EventCounters" (145 : Nat) ({ cls := "EventCounters$Loop", name := "steps", desc := "()J" } : Jvm.MethodName)) ∈ lw_all := lw_g (lw_at lw_m2 219 rfl) rfl
theorem q520 : (Jvm.Cond.instanceMethod ({ cls := "EventCounters", name := "went", desc := "(III)I" } : Jvm.MethodName)) ∈ lw_all := lw_g (lw_at lw_m2 221 rfl) rfl
theorem q521 : (Jvm.Cond.selects "EventCounters" ({ cls := "EventCounters", name := "went", desc := "(III)I" } : Jvm.MethodName) ({ cls := "EventCounters", name := "went", desc := "(III)I" } : Jvm.MethodName)) ∈ lw_all := lw_g (lw_at lw_m2 222 rfl) rfl
theorem q522 : (Jvm.Cond.code ({ cls := "EventCounters", name := "went", desc := "(III)I" } : Jvm.MethodName) prog_1_method_17_code (9 : Nat) (Option.some Jvm.ClassFile.FieldType.int)) ∈ lw_all := lw_g (lw_at lw_m2 223 rfl) rfl
theorem q523 : (Jvm.Cond.constantLong "EventCounters" (148 : Nat) (999999 : Int64)) ∈ lw_all := lw_g (lw_at lw_m2 224 rfl) rfl
theorem q524 : (Jvm.Cond.methodLink "EventCounters" (150 : Nat) ({ cls := "EventCounters$Loop", name := "makesOnce", desc := "(I)I" } : Jvm.MethodName)) ∈ lw_all := lw_g (lw_at lw_m2 225 rfl) rfl
theorem q541 : (Jvm.Cond.constantLong "EventCounters" (154 : Nat) (9999 : Int64)) ∈ lw_all := lw_g (lw_at lw_m3 2 rfl) rfl
theorem q543 : (Jvm.Cond.instanceMethod ({ cls := "EventCounters", name := "hot", desc := "(III)I" } : Jvm.MethodName)) ∈ lw_all := lw_g (lw_at lw_m3 4 rfl) rfl
theorem q544 : (Jvm.Cond.selects "EventCounters" ({ cls := "EventCounters", name := "hot", desc := "(III)I" } : Jvm.MethodName) ({ cls := "EventCounters", name := "hot", desc := "(III)I" } : Jvm.MethodName)) ∈ lw_all := lw_g (lw_at lw_m3 5 rfl) rfl
theorem q545 : (Jvm.Cond.code ({ cls := "EventCounters", name := "hot", desc := "(III)I" } : Jvm.MethodName) prog_1_method_19_code (9 : Nat) (Option.some Jvm.ClassFile.FieldType.int)) ∈ lw_all := lw_g (lw_at lw_m3 6 rfl) rfl
theorem q546 : (Jvm.Cond.constantLong "EventCounters" (156 : Nat) (100 : Int64)) ∈ lw_all := lw_g (lw_at lw_m3 7 rfl) rfl
theorem q547 : (Jvm.Cond.methodLink "EventCounters" (158 : Nat) ({ cls := "java/lang/Integer", name := "bitCount", desc := "(I)I" } : Jvm.MethodName)) ∈ lw_all := lw_g (lw_at lw_m3 8 rfl) rfl
theorem q553 : (Jvm.Cond.methodLink "EventCounters" (163 : Nat) ({ cls := "EventCounters", name := "made", desc := "(II)I" } : Jvm.MethodName)) ∈ lw_all := lw_g (lw_at lw_m3 14 rfl) rfl
theorem q554 : (Jvm.Cond.privateMethod ({ cls := "EventCounters", name := "made", desc := "(II)I" } : Jvm.MethodName)) ∈ lw_tbl := lw_at lw_m3 15 rfl
theorem q555 : (Jvm.Cond.instanceMethod ({ cls := "EventCounters", name := "made", desc := "(II)I" } : Jvm.MethodName)) ∈ lw_all := lw_g (lw_at lw_m3 16 rfl) rfl
theorem q556 : (Jvm.Cond.code ({ cls := "EventCounters", name := "made", desc := "(II)I" } : Jvm.MethodName) prog_1_method_18_code (3 : Nat) (Option.some Jvm.ClassFile.FieldType.int)) ∈ lw_all := lw_g (lw_at lw_m3 17 rfl) rfl
theorem q558 : (Jvm.Cond.instanceMethod ({ cls := "EventCounters", name := "keep", desc := "()I" } : Jvm.MethodName)) ∈ lw_all := lw_g (lw_at lw_m3 19 rfl) rfl
theorem q559 : (Jvm.Cond.selects "EventCounters" ({ cls := "EventCounters", name := "keep", desc := "()I" } : Jvm.MethodName) ({ cls := "EventCounters", name := "keep", desc := "()I" } : Jvm.MethodName)) ∈ lw_all := lw_g (lw_at lw_m3 20 rfl) rfl
theorem q560 : (Jvm.Cond.code ({ cls := "EventCounters", name := "keep", desc := "()I" } : Jvm.MethodName) prog_1_method_20_code (3 : Nat) (Option.some Jvm.ClassFile.FieldType.int)) ∈ lw_all := lw_g (lw_at lw_m3 21 rfl) rfl
theorem q562 : (Jvm.Cond.instanceMethod ({ cls := "EventCounters", name := "beside", desc := "(II)I" } : Jvm.MethodName)) ∈ lw_all := lw_g (lw_at lw_m3 23 rfl) rfl
theorem q563 : (Jvm.Cond.selects "EventCounters" ({ cls := "EventCounters", name := "beside", desc := "(II)I" } : Jvm.MethodName) ({ cls := "EventCounters", name := "beside", desc := "(II)I" } : Jvm.MethodName)) ∈ lw_all := lw_g (lw_at lw_m3 24 rfl) rfl
theorem q564 : (Jvm.Cond.code ({ cls := "EventCounters", name := "beside", desc := "(II)I" } : Jvm.MethodName) prog_1_method_21_code (10 : Nat) (Option.some Jvm.ClassFile.FieldType.int)) ∈ lw_all := lw_g (lw_at lw_m3 25 rfl) rfl
theorem q565 : (Jvm.Cond.constantLong "EventCounters" (171 : Nat) (4 : Int64)) ∈ lw_all := lw_g (lw_at lw_m3 26 rfl) rfl
theorem q566 : (Jvm.Cond.methodLink "EventCounters" (173 : Nat) ({ cls := "java/lang/Math", name := "abs", desc := "(I)I" } : Jvm.MethodName)) ∈ lw_all := lw_g (lw_at lw_m3 27 rfl) rfl
theorem q569 : (Jvm.Cond.methodLink "EventCounters" (175 : Nat) ({ cls := "java/lang/Math", name := "max", desc := "(II)I" } : Jvm.MethodName)) ∈ lw_all := lw_g (lw_at lw_m3 30 rfl) rfl
theorem q573 : (Jvm.Cond.instanceMethod ({ cls := "EventCounters", name := "counters", desc := "(I)I" } : Jvm.MethodName)) ∈ lw_all := lw_g (lw_at lw_m3 34 rfl) rfl
theorem q574 : (Jvm.Cond.selects "EventCounters" ({ cls := "EventCounters", name := "counters", desc := "(I)I" } : Jvm.MethodName) ({ cls := "EventCounters", name := "counters", desc := "(I)I" } : Jvm.MethodName)) ∈ lw_all := lw_g (lw_at lw_m3 35 rfl) rfl
theorem q575 : (Jvm.Cond.code ({ cls := "EventCounters", name := "counters", desc := "(I)I" } : Jvm.MethodName) prog_1_method_24_code (7 : Nat) (Option.some Jvm.ClassFile.FieldType.int)) ∈ lw_all := lw_g (lw_at lw_m3 36 rfl) rfl
theorem q577 : (Jvm.Cond.instanceMethod ({ cls := "EventCounters", name := "mask", desc := "(II)I" } : Jvm.MethodName)) ∈ lw_all := lw_g (lw_at lw_m3 38 rfl) rfl
theorem q578 : (Jvm.Cond.selects "EventCounters" ({ cls := "EventCounters", name := "mask", desc := "(II)I" } : Jvm.MethodName) ({ cls := "EventCounters", name := "mask", desc := "(II)I" } : Jvm.MethodName)) ∈ lw_all := lw_g (lw_at lw_m3 39 rfl) rfl
theorem q579 : (Jvm.Cond.code ({ cls := "EventCounters", name := "mask", desc := "(II)I" } : Jvm.MethodName) prog_1_method_25_code (4 : Nat) (Option.some Jvm.ClassFile.FieldType.int)) ∈ lw_all := lw_g (lw_at lw_m3 40 rfl) rfl
theorem q580 : (Jvm.Cond.methodLink "EventCounters" (195 : Nat) ({ cls := "EventCounters", name := "isCounter", desc := "(I)Z" } : Jvm.MethodName)) ∈ lw_all := lw_g (lw_at lw_m3 41 rfl) rfl
theorem q581 : (Jvm.Cond.privateMethod ({ cls := "EventCounters", name := "isCounter", desc := "(I)Z" } : Jvm.MethodName)) ∈ lw_tbl := lw_at lw_m3 42 rfl
theorem q582 : (Jvm.Cond.instanceMethod ({ cls := "EventCounters", name := "isCounter", desc := "(I)Z" } : Jvm.MethodName)) ∈ lw_all := lw_g (lw_at lw_m3 43 rfl) rfl
theorem q583 : (Jvm.Cond.code ({ cls := "EventCounters", name := "isCounter", desc := "(I)Z" } : Jvm.MethodName) prog_1_method_22_code (2 : Nat) (Option.some Jvm.ClassFile.FieldType.boolean)) ∈ lw_all := lw_g (lw_at lw_m3 44 rfl) rfl
theorem q584 : (Jvm.Cond.methodLink "EventCounters" (198 : Nat) ({ cls := "EventCounters", name := "isSet", desc := "(I)Z" } : Jvm.MethodName)) ∈ lw_all := lw_g (lw_at lw_m3 45 rfl) rfl
theorem q585 : (Jvm.Cond.static ({ cls := "EventCounters", name := "isSet", desc := "(I)Z" } : Jvm.MethodName)) ∈ lw_all := lw_g (lw_at lw_m3 46 rfl) rfl
theorem q586 : (Jvm.Cond.code ({ cls := "EventCounters", name := "isSet", desc := "(I)Z" } : Jvm.MethodName) prog_1_method_23_code (1 : Nat) (Option.some Jvm.ClassFile.FieldType.boolean)) ∈ lw_all := lw_g (lw_at lw_m3 47 rfl) rfl
theorem q587 : (Jvm.Cond.constantLong "EventCounters" (181 : Nat) (255 : Int64)) ∈ lw_all := lw_g (lw_at lw_m3 48 rfl) rfl
theorem q589 : (Jvm.Cond.instanceMethod ({ cls := "EventCounters", name := "width", desc := "(II)I" } : Jvm.MethodName)) ∈ lw_all := lw_g (lw_at lw_m3 50 rfl) rfl
theorem q590 : (Jvm.Cond.selects "EventCounters" ({ cls := "EventCounters", name := "width", desc := "(II)I" } : Jvm.MethodName) ({ cls := "EventCounters", name := "width", desc := "(II)I" } : Jvm.MethodName)) ∈ lw_all := lw_g (lw_at lw_m3 51 rfl) rfl
theorem q591 : (Jvm.Cond.code ({ cls := "EventCounters", name := "width", desc := "(II)I" } : Jvm.MethodName) prog_1_method_26_code (4 : Nat) (Option.some Jvm.ClassFile.FieldType.int)) ∈ lw_all := lw_g (lw_at lw_m3 52 rfl) rfl
theorem q592 : (Jvm.Cond.constantLong "EventCounters" (201 : Nat) (2 : Int64)) ∈ lw_all := lw_g (lw_at lw_m3 53 rfl) rfl
theorem q593 : (Jvm.Cond.constantLong "EventCounters" (203 : Nat) (16 : Int64)) ∈ lw_all := lw_g (lw_at lw_m3 54 rfl) rfl
theorem q595 : (Jvm.Cond.instanceMethod ({ cls := "EventCounters", name := "together", desc := "(I)I" } : Jvm.MethodName)) ∈ lw_all := lw_g (lw_at lw_m3 56 rfl) rfl
theorem q596 : (Jvm.Cond.selects "EventCounters" ({ cls := "EventCounters", name := "together", desc := "(I)I" } : Jvm.MethodName) ({ cls := "EventCounters", name := "together", desc := "(I)I" } : Jvm.MethodName)) ∈ lw_all := lw_g (lw_at lw_m3 57 rfl) rfl
theorem q597 : (Jvm.Cond.code ({ cls := "EventCounters", name := "together", desc := "(I)I" } : Jvm.MethodName) prog_1_method_29_code (2 : Nat) (Option.some Jvm.ClassFile.FieldType.int)) ∈ lw_all := lw_g (lw_at lw_m3 58 rfl) rfl
theorem q598 : (Jvm.Cond.methodLink "EventCounters" (215 : Nat) ({ cls := "EventCounters", name := "goTogether", desc := "(I)Z" } : Jvm.MethodName)) ∈ lw_all := lw_g (lw_at lw_m3 59 rfl) rfl
theorem q599 : (Jvm.Cond.privateMethod ({ cls := "EventCounters", name := "goTogether", desc := "(I)Z" } : Jvm.MethodName)) ∈ lw_tbl := lw_at lw_m3 60 rfl
theorem q600 : (Jvm.Cond.instanceMethod ({ cls := "EventCounters", name := "goTogether", desc := "(I)Z" } : Jvm.MethodName)) ∈ lw_all := lw_g (lw_at lw_m3 61 rfl) rfl
theorem q601 : (Jvm.Cond.code ({ cls := "EventCounters", name := "goTogether", desc := "(I)Z" } : Jvm.MethodName) prog_1_method_28_code (2 : Nat) (Option.some Jvm.ClassFile.FieldType.boolean)) ∈ lw_all := lw_g (lw_at lw_m3 62 rfl) rfl
theorem q602 : (Jvm.Cond.methodLink "EventCounters" (211 : Nat) ({ cls := "EventCounters", name := "canGo", desc := "(II)Z" } : Jvm.MethodName)) ∈ lw_all := lw_g (lw_at lw_m3 63 rfl) rfl
theorem q603 : (Jvm.Cond.privateMethod ({ cls := "EventCounters", name := "canGo", desc := "(II)Z" } : Jvm.MethodName)) ∈ lw_tbl := lw_at lw_m3 64 rfl
theorem q604 : (Jvm.Cond.instanceMethod ({ cls := "EventCounters", name := "canGo", desc := "(II)Z" } : Jvm.MethodName)) ∈ lw_all := lw_g (lw_at lw_m3 65 rfl) rfl
theorem q605 : (Jvm.Cond.code ({ cls := "EventCounters", name := "canGo", desc := "(II)Z" } : Jvm.MethodName) prog_1_method_27_code (6 : Nat) (Option.some Jvm.ClassFile.FieldType.boolean)) ∈ lw_all := lw_g (lw_at lw_m3 66 rfl) rfl
theorem q606 : (Jvm.Cond.methodLink "EventCounters" (205 : Nat) ({ cls := "java/lang/Integer", name := "numberOfTrailingZeros", desc := "(I)I" } : Jvm.MethodName)) ∈ lw_all := lw_g (lw_at lw_m3 67 rfl) rfl
theorem q610 : (Jvm.Cond.methodLink "EventCounters" (208 : Nat) ({ cls := "EventCounters$Counter", name := "canCount", desc := "(I)Z" } : Jvm.MethodName)) ∈ lw_all := lw_g (lw_at lw_m3 71 rfl) rfl
theorem q615 : (Jvm.Cond.instanceMethod ({ cls := "EventCounters", name := "goes", desc := "(II)I" } : Jvm.MethodName)) ∈ lw_all := lw_g (lw_at lw_m3 76 rfl) rfl
theorem q616 : (Jvm.Cond.selects "EventCounters" ({ cls := "EventCounters", name := "goes", desc := "(II)I" } : Jvm.MethodName) ({ cls := "EventCounters", name := "goes", desc := "(II)I" } : Jvm.MethodName)) ∈ lw_all := lw_g (lw_at lw_m3 77 rfl) rfl
theorem q617 : (Jvm.Cond.code ({ cls := "EventCounters", name := "goes", desc := "(II)I" } : Jvm.MethodName) prog_1_method_30_code (7 : Nat) (Option.some Jvm.ClassFile.FieldType.int)) ∈ lw_all := lw_g (lw_at lw_m3 78 rfl) rfl
theorem q619 : (Jvm.Cond.instanceMethod ({ cls := "EventCounters", name := "rounds", desc := "(II)I" } : Jvm.MethodName)) ∈ lw_all := lw_g (lw_at lw_m3 80 rfl) rfl
theorem q620 : (Jvm.Cond.selects "EventCounters" ({ cls := "EventCounters", name := "rounds", desc := "(II)I" } : Jvm.MethodName) ({ cls := "EventCounters", name := "rounds", desc := "(II)I" } : Jvm.MethodName)) ∈ lw_all := lw_g (lw_at lw_m3 81 rfl) rfl
theorem q621 : (Jvm.Cond.code ({ cls := "EventCounters", name := "rounds", desc := "(II)I" } : Jvm.MethodName) prog_1_method_32_code (3 : Nat) (Option.some Jvm.ClassFile.FieldType.int)) ∈ lw_all := lw_g (lw_at lw_m3 82 rfl) rfl
theorem q622 : (Jvm.Cond.methodLink "EventCounters" (234 : Nat) ({ cls := "EventCounters", name := "layRounds", desc := "(I)Z" } : Jvm.MethodName)) ∈ lw_all := lw_g (lw_at lw_m3 83 rfl) rfl
theorem q623 : (Jvm.Cond.privateMethod ({ cls := "EventCounters", name := "layRounds", desc := "(I)Z" } : Jvm.MethodName)) ∈ lw_tbl := lw_at lw_m3 84 rfl
theorem q624 : (Jvm.Cond.instanceMethod ({ cls := "EventCounters", name := "layRounds", desc := "(I)Z" } : Jvm.MethodName)) ∈ lw_all := lw_g (lw_at lw_m3 85 rfl) rfl
theorem q625 : (Jvm.Cond.code ({ cls := "EventCounters", name := "layRounds", desc := "(I)Z" } : Jvm.MethodName) prog_1_method_31_code (5 : Nat) (Option.some Jvm.ClassFile.FieldType.boolean)) ∈ lw_all := lw_g (lw_at lw_m3 86 rfl) rfl
theorem q626 : (Jvm.Cond.methodLink "EventCounters" (225 : Nat) ({ cls := "java/lang/Math", name := "min", desc := "(II)I" } : Jvm.MethodName)) ∈ lw_all := lw_g (lw_at lw_m3 87 rfl) rfl
theorem q630 : (Jvm.Cond.instanceMethod ({ cls := "EventCounters", name := "sliced", desc := "(IIII)I" } : Jvm.MethodName)) ∈ lw_all := lw_g (lw_at lw_m3 91 rfl) rfl
theorem q631 : (Jvm.Cond.selects "EventCounters" ({ cls := "EventCounters", name := "sliced", desc := "(IIII)I" } : Jvm.MethodName) ({ cls := "EventCounters", name := "sliced", desc := "(IIII)I" } : Jvm.MethodName)) ∈ lw_all := lw_g (lw_at lw_m3 92 rfl) rfl
theorem q632 : (Jvm.Cond.code ({ cls := "EventCounters", name := "sliced", desc := "(IIII)I" } : Jvm.MethodName) prog_1_method_35_code (5 : Nat) (Option.some Jvm.ClassFile.FieldType.int)) ∈ lw_all := lw_g (lw_at lw_m3 93 rfl) rfl
theorem q633 : (Jvm.Cond.methodLink "EventCounters" (245 : Nat) ({ cls := "EventCounters", name := "isSlice", desc := "(III)Z" } : Jvm.MethodName)) ∈ lw_all := lw_g (lw_at lw_m3 94 rfl) rfl
theorem q634 : (Jvm.Cond.static ({ cls := "EventCounters", name := "isSlice", desc := "(III)Z" } : Jvm.MethodName)) ∈ lw_all := lw_g (lw_at lw_m3 95 rfl) rfl
theorem q635 : (Jvm.Cond.code ({ cls := "EventCounters", name := "isSlice", desc := "(III)Z" } : Jvm.MethodName) prog_1_method_34_code (3 : Nat) (Option.some Jvm.ClassFile.FieldType.boolean)) ∈ lw_all := lw_g (lw_at lw_m3 96 rfl) rfl
theorem q636 : (Jvm.Cond.constantLong "EventCounters" (243 : Nat) (999 : Int64)) ∈ lw_all := lw_g (lw_at lw_m3 97 rfl) rfl
theorem q637 : (Jvm.Cond.methodLink "EventCounters" (249 : Nat) ({ cls := "EventCounters", name := "laySlices", desc := "(II)V" } : Jvm.MethodName)) ∈ lw_all := lw_g (lw_at lw_m3 98 rfl) rfl
theorem q638 : (Jvm.Cond.privateMethod ({ cls := "EventCounters", name := "laySlices", desc := "(II)V" } : Jvm.MethodName)) ∈ lw_tbl := lw_at lw_m3 99 rfl
theorem q639 : (Jvm.Cond.instanceMethod ({ cls := "EventCounters", name := "laySlices", desc := "(II)V" } : Jvm.MethodName)) ∈ lw_all := lw_g (lw_at lw_m3 100 rfl) rfl
theorem q640 : (Jvm.Cond.code ({ cls := "EventCounters", name := "laySlices", desc := "(II)V" } : Jvm.MethodName) prog_1_method_33_code (7 : Nat) (Option.none : Option Jvm.ClassFile.FieldType)) ∈ lw_all := lw_g (lw_at lw_m3 101 rfl) rfl
theorem q642 : (Jvm.Cond.instanceMethod ({ cls := "EventCounters", name := "scaled", desc := "(IIII)J" } : Jvm.MethodName)) ∈ lw_all := lw_g (lw_at lw_m3 103 rfl) rfl
theorem q643 : (Jvm.Cond.selects "EventCounters" ({ cls := "EventCounters", name := "scaled", desc := "(IIII)J" } : Jvm.MethodName) ({ cls := "EventCounters", name := "scaled", desc := "(IIII)J" } : Jvm.MethodName)) ∈ lw_all := lw_g (lw_at lw_m3 104 rfl) rfl
theorem q644 : (Jvm.Cond.code ({ cls := "EventCounters", name := "scaled", desc := "(IIII)J" } : Jvm.MethodName) prog_1_method_37_code (5 : Nat) (Option.some Jvm.ClassFile.FieldType.long)) ∈ lw_all := lw_g (lw_at lw_m3 105 rfl) rfl
theorem q645 : (Jvm.Cond.constantLong "EventCounters" (253 : Nat) (3 : Int64)) ∈ lw_all := lw_g (lw_at lw_m3 106 rfl) rfl
theorem q646 : (Jvm.Cond.constantLong "EventCounters" (255 : Nat) (-1000000000000 : Int64)) ∈ lw_all := lw_g (lw_at lw_m3 107 rfl) rfl
theorem q647 : (Jvm.Cond.constantLong "EventCounters" (257 : Nat) (-1000000000004 : Int64)) ∈ lw_all := lw_g (lw_at lw_m3 108 rfl) rfl
theorem q648 : (Jvm.Cond.methodLink "EventCounters" (259 : Nat) ({ cls := "EventCounters", name := "off", desc := "(I)J" } : Jvm.MethodName)) ∈ lw_all := lw_g (lw_at lw_m3 109 rfl) rfl
theorem q649 : (Jvm.Cond.privateMethod ({ cls := "EventCounters", name := "off", desc := "(I)J" } : Jvm.MethodName)) ∈ lw_tbl := lw_at lw_m3 110 rfl
theorem q650 : (Jvm.Cond.instanceMethod ({ cls := "EventCounters", name := "off", desc := "(I)J" } : Jvm.MethodName)) ∈ lw_all := lw_g (lw_at lw_m3 111 rfl) rfl
theorem q651 : (Jvm.Cond.code ({ cls := "EventCounters", name := "off", desc := "(I)J" } : Jvm.MethodName) prog_1_method_36_code (2 : Nat) (Option.some Jvm.ClassFile.FieldType.long)) ∈ lw_all := lw_g (lw_at lw_m3 112 rfl) rfl
theorem q653 : (Jvm.Cond.instanceMethod ({ cls := "EventCounters", name := "finest", desc := "(IIII)I" } : Jvm.MethodName)) ∈ lw_all := lw_g (lw_at lw_m3 114 rfl) rfl
theorem q654 : (Jvm.Cond.selects "EventCounters" ({ cls := "EventCounters", name := "finest", desc := "(IIII)I" } : Jvm.MethodName) ({ cls := "EventCounters", name := "finest", desc := "(IIII)I" } : Jvm.MethodName)) ∈ lw_all := lw_g (lw_at lw_m3 115 rfl) rfl
theorem q655 : (Jvm.Cond.code ({ cls := "EventCounters", name := "finest", desc := "(IIII)I" } : Jvm.MethodName) prog_1_method_38_code (13 : Nat) (Option.some Jvm.ClassFile.FieldType.int)) ∈ lw_all := lw_g (lw_at lw_m3 116 rfl) rfl
theorem q657 : (Jvm.Cond.instanceMethod ({ cls := "EventCounters", name := "shows", desc := "(IIIII)I" } : Jvm.MethodName)) ∈ lw_all := lw_g (lw_at lw_m3 118 rfl) rfl
theorem q658 : (Jvm.Cond.selects "EventCounters" ({ cls := "EventCounters", name := "shows", desc := "(IIIII)I" } : Jvm.MethodName) ({ cls := "EventCounters", name := "shows", desc := "(IIIII)I" } : Jvm.MethodName)) ∈ lw_all := lw_g (lw_at lw_m3 119 rfl) rfl
theorem q659 : (Jvm.Cond.code ({ cls := "EventCounters", name := "shows", desc := "(IIIII)I" } : Jvm.MethodName) prog_1_method_41_code (6 : Nat) (Option.some Jvm.ClassFile.FieldType.int)) ∈ lw_all := lw_g (lw_at lw_m3 120 rfl) rfl
theorem q660 : (Jvm.Cond.methodLink "EventCounters" (274 : Nat) ({ cls := "EventCounters", name := "isSample", desc := "(IIII)Z" } : Jvm.MethodName)) ∈ lw_all := lw_g (lw_at lw_m3 121 rfl) rfl
theorem q661 : (Jvm.Cond.static ({ cls := "EventCounters", name := "isSample", desc := "(IIII)Z" } : Jvm.MethodName)) ∈ lw_all := lw_g (lw_at lw_m3 122 rfl) rfl
theorem q662 : (Jvm.Cond.code ({ cls := "EventCounters", name := "isSample", desc := "(IIII)Z" } : Jvm.MethodName) prog_1_method_40_code (4 : Nat) (Option.some Jvm.ClassFile.FieldType.boolean)) ∈ lw_all := lw_g (lw_at lw_m3 123 rfl) rfl
theorem q663 : (Jvm.Cond.constantLong "EventCounters" (272 : Nat) (9 : Int64)) ∈ lw_all := lw_g (lw_at lw_m3 124 rfl) rfl
theorem q664 : (Jvm.Cond.methodLink "EventCounters" (278 : Nat) ({ cls := "EventCounters", name := "laySamples", desc := "(IIII)V" } : Jvm.MethodName)) ∈ lw_all := lw_g (lw_at lw_m3 125 rfl) rfl
theorem q665 : (Jvm.Cond.privateMethod ({ cls := "EventCounters", name := "laySamples", desc := "(IIII)V" } : Jvm.MethodName)) ∈ lw_tbl := lw_at lw_m3 126 rfl
theorem q666 : (Jvm.Cond.instanceMethod ({ cls := "EventCounters", name := "laySamples", desc := "(IIII)V" } : Jvm.MethodName)) ∈ lw_all := lw_g (lw_at lw_m3 127 rfl) rfl
theorem q667 : (Jvm.Cond.code ({ cls := "EventCounters", name := "laySamples", desc := "(IIII)V" } : Jvm.MethodName) prog_1_method_39_code (8 : Nat) (Option.none : Option Jvm.ClassFile.FieldType)) ∈ lw_all := lw_g (lw_at lw_m3 128 rfl) rfl
theorem q669 : (Jvm.Cond.instanceMethod ({ cls := "EventCounters", name := "samples", desc := "(IIIII)I" } : Jvm.MethodName)) ∈ lw_all := lw_g (lw_at lw_m3 130 rfl) rfl
theorem q670 : (Jvm.Cond.selects "EventCounters" ({ cls := "EventCounters", name := "samples", desc := "(IIIII)I" } : Jvm.MethodName) ({ cls := "EventCounters", name := "samples", desc := "(IIIII)I" } : Jvm.MethodName)) ∈ lw_all := lw_g (lw_at lw_m3 131 rfl) rfl
theorem q671 : (Jvm.Cond.code ({ cls := "EventCounters", name := "samples", desc := "(IIIII)I" } : Jvm.MethodName) prog_1_method_42_code (10 : Nat) (Option.some Jvm.ClassFile.FieldType.int)) ∈ lw_all := lw_g (lw_at lw_m3 132 rfl) rfl
theorem q672 : (Jvm.Cond.constantLong "EventCounters" (282 : Nat) (5 : Int64)) ∈ lw_all := lw_g (lw_at lw_m3 133 rfl) rfl
theorem q674 : (Jvm.Cond.instanceMethod ({ cls := "EventCounters", name := "far", desc := "(IIIII)J" } : Jvm.MethodName)) ∈ lw_all := lw_g (lw_at lw_m3 135 rfl) rfl
theorem q675 : (Jvm.Cond.selects "EventCounters" ({ cls := "EventCounters", name := "far", desc := "(IIIII)J" } : Jvm.MethodName) ({ cls := "EventCounters", name := "far", desc := "(IIIII)J" } : Jvm.MethodName)) ∈ lw_all := lw_g (lw_at lw_m3 136 rfl) rfl
theorem q676 : (Jvm.Cond.code ({ cls := "EventCounters", name := "far", desc := "(IIIII)J" } : Jvm.MethodName) prog_1_method_44_code (6 : Nat) (Option.some Jvm.ClassFile.FieldType.long)) ∈ lw_all := lw_g (lw_at lw_m3 137 rfl) rfl
theorem q677 : (Jvm.Cond.constantLong "EventCounters" (284 : Nat) (-1 : Int64)) ∈ lw_all := lw_g (lw_at lw_m3 138 rfl) rfl
theorem q678 : (Jvm.Cond.constantLong "EventCounters" (286 : Nat) (-4 : Int64)) ∈ lw_all := lw_g (lw_at lw_m3 139 rfl) rfl
theorem q679 : (Jvm.Cond.methodLink "EventCounters" (288 : Nat) ({ cls := "EventCounters", name := "apart", desc := "(I)J" } : Jvm.MethodName)) ∈ lw_all := lw_g (lw_at lw_m3 140 rfl) rfl
theorem q680 : (Jvm.Cond.privateMethod ({ cls := "EventCounters", name := "apart", desc := "(I)J" } : Jvm.MethodName)) ∈ lw_tbl := lw_at lw_m3 141 rfl
theorem q681 : (Jvm.Cond.instanceMethod ({ cls := "EventCounters", name := "apart", desc := "(I)J" } : Jvm.MethodName)) ∈ lw_all := lw_g (lw_at lw_m3 142 rfl) rfl
theorem q682 : (Jvm.Cond.code ({ cls := "EventCounters", name := "apart", desc := "(I)J" } : Jvm.MethodName) prog_1_method_43_code (5 : Nat) (Option.some Jvm.ClassFile.FieldType.long)) ∈ lw_all := lw_g (lw_at lw_m3 143 rfl) rfl
theorem q684 : (Jvm.Cond.instanceMethod ({ cls := "EventCounters", name := "truest", desc := "(IIII)I" } : Jvm.MethodName)) ∈ lw_all := lw_g (lw_at lw_m3 145 rfl) rfl
theorem q685 : (Jvm.Cond.selects "EventCounters" ({ cls := "EventCounters", name := "truest", desc := "(IIII)I" } : Jvm.MethodName) ({ cls := "EventCounters", name := "truest", desc := "(IIII)I" } : Jvm.MethodName)) ∈ lw_all := lw_g (lw_at lw_m3 146 rfl) rfl
theorem q686 : (Jvm.Cond.code ({ cls := "EventCounters", name := "truest", desc := "(IIII)I" } : Jvm.MethodName) prog_1_method_45_code (13 : Nat) (Option.some Jvm.ClassFile.FieldType.int)) ∈ lw_all := lw_g (lw_at lw_m3 147 rfl) rfl
theorem q688 : (Jvm.Cond.instanceMethod ({ cls := "EventCounters", name := "beats", desc := "(IIII)I" } : Jvm.MethodName)) ∈ lw_all := lw_g (lw_at lw_m3 149 rfl) rfl
theorem q689 : (Jvm.Cond.selects "EventCounters" ({ cls := "EventCounters", name := "beats", desc := "(IIII)I" } : Jvm.MethodName) ({ cls := "EventCounters", name := "beats", desc := "(IIII)I" } : Jvm.MethodName)) ∈ lw_all := lw_g (lw_at lw_m3 150 rfl) rfl
theorem q690 : (Jvm.Cond.code ({ cls := "EventCounters", name := "beats", desc := "(IIII)I" } : Jvm.MethodName) prog_1_method_46_code (14 : Nat) (Option.some Jvm.ClassFile.FieldType.int)) ∈ lw_all := lw_g (lw_at lw_m3 151 rfl) rfl
theorem q692 : (Jvm.Cond.instanceMethod ({ cls := "EventCounters", name := "over", desc := "(IIII)I" } : Jvm.MethodName)) ∈ lw_all := lw_g (lw_at lw_m3 153 rfl) rfl
theorem q693 : (Jvm.Cond.selects "EventCounters" ({ cls := "EventCounters", name := "over", desc := "(IIII)I" } : Jvm.MethodName) ({ cls := "EventCounters", name := "over", desc := "(IIII)I" } : Jvm.MethodName)) ∈ lw_all := lw_g (lw_at lw_m3 154 rfl) rfl
theorem q694 : (Jvm.Cond.code ({ cls := "EventCounters", name := "over", desc := "(IIII)I" } : Jvm.MethodName) prog_1_method_48_code (6 : Nat) (Option.some Jvm.ClassFile.FieldType.int)) ∈ lw_all := lw_g (lw_at lw_m3 155 rfl) rfl
theorem q695 : (Jvm.Cond.methodLink "EventCounters" (291 : Nat) ({ cls := "EventCounters", name := "canCount", desc := "(II)Z" } : Jvm.MethodName)) ∈ lw_all := lw_g (lw_at lw_m3 156 rfl) rfl
theorem q696 : (Jvm.Cond.privateMethod ({ cls := "EventCounters", name := "canCount", desc := "(II)Z" } : Jvm.MethodName)) ∈ lw_tbl := lw_at lw_m3 157 rfl
theorem q697 : (Jvm.Cond.instanceMethod ({ cls := "EventCounters", name := "canCount", desc := "(II)Z" } : Jvm.MethodName)) ∈ lw_all := lw_g (lw_at lw_m3 158 rfl) rfl
theorem q698 : (Jvm.Cond.code ({ cls := "EventCounters", name := "canCount", desc := "(II)Z" } : Jvm.MethodName) prog_1_method_47_code (3 : Nat) (Option.some Jvm.ClassFile.FieldType.boolean)) ∈ lw_all := lw_g (lw_at lw_m3 159 rfl) rfl
theorem q700 : (Jvm.Cond.instanceMethod ({ cls := "EventCounters", name := "looked", desc := "(IIII)I" } : Jvm.MethodName)) ∈ lw_all := lw_g (lw_at lw_m3 161 rfl) rfl
theorem q701 : (Jvm.Cond.selects "EventCounters" ({ cls := "EventCounters", name := "looked", desc := "(IIII)I" } : Jvm.MethodName) ({ cls := "EventCounters", name := "looked", desc := "(IIII)I" } : Jvm.MethodName)) ∈ lw_all := lw_g (lw_at lw_m3 162 rfl) rfl
theorem q702 : (Jvm.Cond.code ({ cls := "EventCounters", name := "looked", desc := "(IIII)I" } : Jvm.MethodName) prog_1_method_50_code (5 : Nat) (Option.some Jvm.ClassFile.FieldType.int)) ∈ lw_all := lw_g (lw_at lw_m3 163 rfl) rfl
theorem q703 : (Jvm.Cond.methodLink "EventCounters" (299 : Nat) ({ cls := "EventCounters", name := "layLooks", desc := "(III)V" } : Jvm.MethodName)) ∈ lw_all := lw_g (lw_at lw_m3 164 rfl) rfl
theorem q704 : (Jvm.Cond.privateMethod ({ cls := "EventCounters", name := "layLooks", desc := "(III)V" } : Jvm.MethodName)) ∈ lw_tbl := lw_at lw_m3 165 rfl
theorem q705 : (Jvm.Cond.instanceMethod ({ cls := "EventCounters", name := "layLooks", desc := "(III)V" } : Jvm.MethodName)) ∈ lw_all := lw_g (lw_at lw_m3 166 rfl) rfl
theorem q706 : (Jvm.Cond.code ({ cls := "EventCounters", name := "layLooks", desc := "(III)V" } : Jvm.MethodName) prog_1_method_49_code (10 : Nat) (Option.none : Option Jvm.ClassFile.FieldType)) ∈ lw_all := lw_g (lw_at lw_m3 167 rfl) rfl
theorem q708 : (Jvm.Cond.instanceMethod ({ cls := "EventCounters", name := "seldom", desc := "(II)I" } : Jvm.MethodName)) ∈ lw_all := lw_g (lw_at lw_m3 169 rfl) rfl
theorem q709 : (Jvm.Cond.selects "EventCounters" ({ cls := "EventCounters", name := "seldom", desc := "(II)I" } : Jvm.MethodName) ({ cls := "EventCounters", name := "seldom", desc := "(II)I" } : Jvm.MethodName)) ∈ lw_all := lw_g (lw_at lw_m3 170 rfl) rfl
theorem q710 : (Jvm.Cond.code ({ cls := "EventCounters", name := "seldom", desc := "(II)I" } : Jvm.MethodName) prog_1_method_51_code (5 : Nat) (Option.some Jvm.ClassFile.FieldType.int)) ∈ lw_all := lw_g (lw_at lw_m3 171 rfl) rfl
theorem q712 : (Jvm.Cond.instanceMethod ({ cls := "EventCounters", name := "run", desc := "(III)I" } : Jvm.MethodName)) ∈ lw_all := lw_g (lw_at lw_m3 173 rfl) rfl
theorem q713 : (Jvm.Cond.selects "EventCounters" ({ cls := "EventCounters", name := "run", desc := "(III)I" } : Jvm.MethodName) ({ cls := "EventCounters", name := "run", desc := "(III)I" } : Jvm.MethodName)) ∈ lw_all := lw_g (lw_at lw_m3 174 rfl) rfl
theorem q714 : (Jvm.Cond.code ({ cls := "EventCounters", name := "run", desc := "(III)I" } : Jvm.MethodName) prog_1_method_52_code (4 : Nat) (Option.some Jvm.ClassFile.FieldType.int)) ∈ lw_all := lw_g (lw_at lw_m3 175 rfl) rfl
theorem q716 : (Jvm.Cond.instanceMethod ({ cls := "EventCounters", name := "forget", desc := "()I" } : Jvm.MethodName)) ∈ lw_all := lw_g (lw_at lw_m3 177 rfl) rfl
theorem q717 : (Jvm.Cond.selects "EventCounters" ({ cls := "EventCounters", name := "forget", desc := "()I" } : Jvm.MethodName) ({ cls := "EventCounters", name := "forget", desc := "()I" } : Jvm.MethodName)) ∈ lw_all := lw_g (lw_at lw_m3 178 rfl) rfl
theorem q718 : (Jvm.Cond.code ({ cls := "EventCounters", name := "forget", desc := "()I" } : Jvm.MethodName) prog_1_method_53_code (2 : Nat) (Option.some Jvm.ClassFile.FieldType.int)) ∈ lw_all := lw_g (lw_at lw_m3 179 rfl) rfl
theorem q720 : (Jvm.Cond.instanceMethod ({ cls := "EventCounters", name := "wired", desc := "(III)I" } : Jvm.MethodName)) ∈ lw_all := lw_g (lw_at lw_m3 181 rfl) rfl
theorem q721 : (Jvm.Cond.selects "EventCounters" ({ cls := "EventCounters", name := "wired", desc := "(III)I" } : Jvm.MethodName) ({ cls := "EventCounters", name := "wired", desc := "(III)I" } : Jvm.MethodName)) ∈ lw_all := lw_g (lw_at lw_m3 182 rfl) rfl
theorem q722 : (Jvm.Cond.code ({ cls := "EventCounters", name := "wired", desc := "(III)I" } : Jvm.MethodName) prog_1_method_55_code (8 : Nat) (Option.some Jvm.ClassFile.FieldType.int)) ∈ lw_all := lw_g (lw_at lw_m3 183 rfl) rfl
theorem q723 : (Jvm.Cond.constantLong "EventCounters" (306 : Nat) (45 : Int64)) ∈ lw_all := lw_g (lw_at lw_m3 184 rfl) rfl
theorem q724 : (Jvm.Cond.methodLink "EventCounters" (308 : Nat) ({ cls := "EventCounters", name := "isWired", desc := "(III)Z" } : Jvm.MethodName)) ∈ lw_all := lw_g (lw_at lw_m3 185 rfl) rfl
theorem q725 : (Jvm.Cond.privateMethod ({ cls := "EventCounters", name := "isWired", desc := "(III)Z" } : Jvm.MethodName)) ∈ lw_tbl := lw_at lw_m3 186 rfl
theorem q726 : (Jvm.Cond.instanceMethod ({ cls := "EventCounters", name := "isWired", desc := "(III)Z" } : Jvm.MethodName)) ∈ lw_all := lw_g (lw_at lw_m3 187 rfl) rfl
theorem q727 : (Jvm.Cond.code ({ cls := "EventCounters", name := "isWired", desc := "(III)Z" } : Jvm.MethodName) prog_1_method_54_code (7 : Nat) (Option.some Jvm.ClassFile.FieldType.boolean)) ∈ lw_all := lw_g (lw_at lw_m3 188 rfl) rfl
theorem q730 : (Jvm.Cond.instanceMethod ({ cls := "EventCounters", name := "<init>", desc := "()V" } : Jvm.MethodName)) ∈ lw_all := lw_g (lw_at lw_m3 191 rfl) rfl
theorem q731 : (Jvm.Cond.code ({ cls := "EventCounters", name := "<init>", desc := "()V" } : Jvm.MethodName) prog_1_method_56_code (1 : Nat) (Option.none : Option Jvm.ClassFile.FieldType)) ∈ lw_all := lw_g (lw_at lw_m3 192 rfl) rfl
theorem q732 : (Jvm.Cond.methodLink "EventCounters" (311 : Nat) ({ cls := "java/lang/Object", name := "<init>", desc := "()V" } : Jvm.MethodName)) ∈ lw_all := lw_g (lw_at lw_m3 193 rfl) rfl
theorem q733 : (Jvm.Cond.classLink "EventCounters" (58 : Nat) "EventCounters$Line") ∈ lw_all := lw_g (lw_at lw_m3 194 rfl) rfl
theorem q734 : (Jvm.Cond.classLink "EventCounters" (136 : Nat) "EventCounters$Loop") ∈ lw_all := lw_g (lw_at lw_m3 195 rfl) rfl
theorem q735 : (Jvm.Cond.classLink "EventCounters" (316 : Nat) "[[I") ∈ lw_all := lw_g (lw_at lw_m3 196 rfl) rfl
theorem q737 : (Jvm.Cond.classLink "EventCounters" (188 : Nat) "EventCounters$Counter") ∈ lw_all := lw_g (lw_at lw_m3 198 rfl) rfl
theorem q740 : (Jvm.Cond.methodLinkNest "EventCounters" (317 : Nat) ({ cls := "EventCounters$Counter", name := "<init>", desc := "()V" } : Jvm.MethodName) "EventCounters") ∈ lw_tbl := lw_at lw_m3 201 rfl
theorem q745 : (Jvm.Cond.fieldLinkNest "EventCounters" (187 : Nat) "EventCounters$Counter" "mask" "I" "EventCounters") ∈ lw_tbl := lw_at lw_m3 206 rfl
theorem q747 : (Jvm.Cond.fieldLinkNest "EventCounters" (192 : Nat) "EventCounters$Counter" "width" "I" "EventCounters") ∈ lw_tbl := lw_at lw_m3 208 rfl
theorem q753 : (Jvm.Cond.classLink "EventCounters" (318 : Nat) "EventCounters$Sheet") ∈ lw_all := lw_g (lw_at lw_m3 214 rfl) rfl
theorem q756 : (Jvm.Cond.methodLinkNest "EventCounters" (320 : Nat) ({ cls := "EventCounters$Sheet", name := "<init>", desc := "()V" } : Jvm.MethodName) "EventCounters") ∈ lw_tbl := lw_at lw_m3 217 rfl
theorem q760 : (Jvm.Cond.fieldLinkNest "EventCounters" (329 : Nat) "EventCounters$Sheet" "row" "Ljava/lang/Object;" "EventCounters") ∈ lw_tbl := lw_at lw_m3 221 rfl
theorem q761 : (Jvm.Cond.fieldLinkNest "EventCounters" (333 : Nat) "EventCounters$Sheet" "size" "I" "EventCounters") ∈ lw_tbl := lw_at lw_m3 222 rfl
theorem q768 : (Jvm.Cond.fieldLink "EventCounters" (17 : Nat) "EventCounters" "tape" "[B") ∈ lw_all := lw_g (lw_at lw_m3 229 rfl) rfl
theorem q769 : (Jvm.Cond.fieldLink "EventCounters" (13 : Nat) "EventCounters" "taped" "I") ∈ lw_all := lw_g (lw_at lw_m3 230 rfl) rfl
theorem q770 : (Jvm.Cond.fieldLink "EventCounters" (101 : Nat) "EventCounters" "fault" "I") ∈ lw_all := lw_g (lw_at lw_m3 231 rfl) rfl
theorem q771 : (Jvm.Cond.fieldLink "EventCounters" (53 : Nat) "EventCounters" "lines" "[LEventCounters$Line;") ∈ lw_all := lw_g (lw_at lw_m3 232 rfl) rfl
theorem q772 : (Jvm.Cond.fieldLink "EventCounters" (50 : Nat) "EventCounters" "lineMany" "I") ∈ lw_all := lw_g (lw_at lw_m3 233 rfl) rfl
theorem q773 : (Jvm.Cond.fieldLink "EventCounters" (90 : Nat) "EventCounters" "loops" "[LEventCounters$Loop;") ∈ lw_all := lw_g (lw_at lw_m3 234 rfl) rfl
theorem q774 : (Jvm.Cond.fieldLink "EventCounters" (94 : Nat) "EventCounters" "loopMany" "I") ∈ lw_all := lw_g (lw_at lw_m3 235 rfl) rfl
theorem q775 : (Jvm.Cond.fieldLink "EventCounters" (25 : Nat) "EventCounters" "steps" "[I") ∈ lw_all := lw_g (lw_at lw_m3 236 rfl) rfl
theorem q776 : (Jvm.Cond.fieldLink "EventCounters" (35 : Nat) "EventCounters" "stepMany" "I") ∈ lw_all := lw_g (lw_at lw_m3 237 rfl) rfl
theorem q777 : (Jvm.Cond.fieldLink "EventCounters" (38 : Nat) "EventCounters" "ticks" "I") ∈ lw_all := lw_g (lw_at lw_m3 238 rfl) rfl
theorem q778 : (Jvm.Cond.fieldLink "EventCounters" (41 : Nat) "EventCounters" "totals" "[I") ∈ lw_all := lw_g (lw_at lw_m3 239 rfl) rfl
theorem q779 : (Jvm.Cond.fieldLink "EventCounters" (167 : Nat) "EventCounters" "keptMade" "[[I") ∈ lw_all := lw_g (lw_at lw_m4 0 rfl) rfl
theorem q780 : (Jvm.Cond.fieldLink "EventCounters" (178 : Nat) "EventCounters" "counterMany" "I") ∈ lw_all := lw_g (lw_at lw_m4 1 rfl) rfl
theorem q781 : (Jvm.Cond.fieldLink "EventCounters" (183 : Nat) "EventCounters" "counters" "[LEventCounters$Counter;") ∈ lw_all := lw_g (lw_at lw_m4 2 rfl) rfl
theorem q782 : (Jvm.Cond.fieldLink "EventCounters" (218 : Nat) "EventCounters" "can" "[Z") ∈ lw_all := lw_g (lw_at lw_m4 3 rfl) rfl
theorem q783 : (Jvm.Cond.fieldLink "EventCounters" (222 : Nat) "EventCounters" "fewest" "[I") ∈ lw_all := lw_g (lw_at lw_m4 4 rfl) rfl
theorem q784 : (Jvm.Cond.fieldLink "EventCounters" (231 : Nat) "EventCounters" "rounds" "[I") ∈ lw_all := lw_g (lw_at lw_m4 5 rfl) rfl
theorem q785 : (Jvm.Cond.fieldLink "EventCounters" (228 : Nat) "EventCounters" "roundMany" "I") ∈ lw_all := lw_g (lw_at lw_m4 6 rfl) rfl
theorem q786 : (Jvm.Cond.fieldLink "EventCounters" (237 : Nat) "EventCounters" "counted" "I") ∈ lw_all := lw_g (lw_at lw_m4 7 rfl) rfl
theorem q787 : (Jvm.Cond.fieldLink "EventCounters" (240 : Nat) "EventCounters" "countedTicks" "I") ∈ lw_all := lw_g (lw_at lw_m4 8 rfl) rfl
theorem q788 : (Jvm.Cond.fieldLink "EventCounters" (263 : Nat) "EventCounters" "shown" "[I") ∈ lw_all := lw_g (lw_at lw_m4 9 rfl) rfl
theorem q789 : (Jvm.Cond.fieldLink "EventCounters" (266 : Nat) "EventCounters" "shownMany" "I") ∈ lw_all := lw_g (lw_at lw_m4 10 rfl) rfl
theorem q790 : (Jvm.Cond.fieldLink "EventCounters" (269 : Nat) "EventCounters" "lostMany" "I") ∈ lw_all := lw_g (lw_at lw_m4 11 rfl) rfl
theorem q791 : (Jvm.Cond.fieldLink "EventCounters" (293 : Nat) "EventCounters" "toldMany" "I") ∈ lw_all := lw_g (lw_at lw_m4 12 rfl) rfl
theorem q792 : (Jvm.Cond.fieldLink "EventCounters" (296 : Nat) "EventCounters" "looks" "I") ∈ lw_all := lw_g (lw_at lw_m4 13 rfl) rfl
theorem q793 : (Jvm.Cond.fieldLink "EventCounters" (303 : Nat) "EventCounters" "runs" "[[I") ∈ lw_all := lw_g (lw_at lw_m4 14 rfl) rfl
theorem q794 : (Jvm.Cond.fieldLink "EventCounters" (98 : Nat) "EventCounters" "runMany" "I") ∈ lw_all := lw_g (lw_at lw_m4 15 rfl) rfl
theorem q795 : (Jvm.Cond.fieldLink "EventCounters" (321 : Nat) "EventCounters" "sheets" "[LEventCounters$Sheet;") ∈ lw_all := lw_g (lw_at lw_m4 16 rfl) rfl
theorem q796 : (Jvm.Cond.laysFinal "EventCounters" "EventCounters" "tape" "[B") ∈ lw_all := lw_g (lw_at lw_m4 17 rfl) rfl
theorem q797 : (Jvm.Cond.soleField "EventCounters" "tape") ∈ lw_all := lw_g (lw_at lw_m4 18 rfl) rfl
theorem q798 : (Jvm.Cond.lays "EventCounters" "EventCounters" "taped" "I") ∈ lw_all := lw_g (lw_at lw_m4 19 rfl) rfl
theorem q799 : (Jvm.Cond.soleField "EventCounters" "taped") ∈ lw_all := lw_g (lw_at lw_m4 20 rfl) rfl
theorem q800 : (Jvm.Cond.lays "EventCounters" "EventCounters" "fault" "I") ∈ lw_all := lw_g (lw_at lw_m4 21 rfl) rfl
theorem q801 : (Jvm.Cond.soleField "EventCounters" "fault") ∈ lw_all := lw_g (lw_at lw_m4 22 rfl) rfl
theorem q802 : (Jvm.Cond.lays "EventCounters" "EventCounters" "lines" "[LEventCounters$Line;") ∈ lw_all := lw_g (lw_at lw_m4 23 rfl) rfl
theorem q803 : (Jvm.Cond.soleField "EventCounters" "lines") ∈ lw_all := lw_g (lw_at lw_m4 24 rfl) rfl
theorem q804 : (Jvm.Cond.lays "EventCounters" "EventCounters" "lineMany" "I") ∈ lw_all := lw_g (lw_at lw_m4 25 rfl) rfl
theorem q805 : (Jvm.Cond.soleField "EventCounters" "lineMany") ∈ lw_all := lw_g (lw_at lw_m4 26 rfl) rfl
theorem q806 : (Jvm.Cond.lays "EventCounters" "EventCounters" "loops" "[LEventCounters$Loop;") ∈ lw_all := lw_g (lw_at lw_m4 27 rfl) rfl
theorem q807 : (Jvm.Cond.soleField "EventCounters" "loops") ∈ lw_all := lw_g (lw_at lw_m4 28 rfl) rfl
theorem q808 : (Jvm.Cond.lays "EventCounters" "EventCounters" "loopMany" "I") ∈ lw_all := lw_g (lw_at lw_m4 29 rfl) rfl
theorem q809 : (Jvm.Cond.soleField "EventCounters" "loopMany") ∈ lw_all := lw_g (lw_at lw_m4 30 rfl) rfl
theorem q810 : (Jvm.Cond.laysFinal "EventCounters" "EventCounters" "steps" "[I") ∈ lw_all := lw_g (lw_at lw_m4 31 rfl) rfl
theorem q811 : (Jvm.Cond.soleField "EventCounters" "steps") ∈ lw_all := lw_g (lw_at lw_m4 32 rfl) rfl
theorem q812 : (Jvm.Cond.lays "EventCounters" "EventCounters" "stepMany" "I") ∈ lw_all := lw_g (lw_at lw_m4 33 rfl) rfl
theorem q813 : (Jvm.Cond.soleField "EventCounters" "stepMany") ∈ lw_all := lw_g (lw_at lw_m4 34 rfl) rfl
theorem q814 : (Jvm.Cond.lays "EventCounters" "EventCounters" "ticks" "I") ∈ lw_all := lw_g (lw_at lw_m4 35 rfl) rfl
theorem q815 : (Jvm.Cond.soleField "EventCounters" "ticks") ∈ lw_all := lw_g (lw_at lw_m4 36 rfl) rfl
theorem q816 : (Jvm.Cond.laysFinal "EventCounters" "EventCounters" "totals" "[I") ∈ lw_all := lw_g (lw_at lw_m4 37 rfl) rfl
theorem q817 : (Jvm.Cond.soleField "EventCounters" "totals") ∈ lw_all := lw_g (lw_at lw_m4 38 rfl) rfl
theorem q818 : (Jvm.Cond.laysFinal "EventCounters" "EventCounters" "keptMade" "[[I") ∈ lw_all := lw_g (lw_at lw_m4 39 rfl) rfl
theorem q819 : (Jvm.Cond.soleField "EventCounters" "keptMade") ∈ lw_all := lw_g (lw_at lw_m4 40 rfl) rfl
theorem q820 : (Jvm.Cond.lays "EventCounters" "EventCounters" "counterMany" "I") ∈ lw_all := lw_g (lw_at lw_m4 41 rfl) rfl
theorem q821 : (Jvm.Cond.soleField "EventCounters" "counterMany") ∈ lw_all := lw_g (lw_at lw_m4 42 rfl) rfl
theorem q822 : (Jvm.Cond.laysFinal "EventCounters" "EventCounters" "counters" "[LEventCounters$Counter;") ∈ lw_all := lw_g (lw_at lw_m4 43 rfl) rfl
theorem q823 : (Jvm.Cond.soleField "EventCounters" "counters") ∈ lw_all := lw_g (lw_at lw_m4 44 rfl) rfl
theorem q824 : (Jvm.Cond.laysFinal "EventCounters" "EventCounters" "can" "[Z") ∈ lw_all := lw_g (lw_at lw_m4 45 rfl) rfl
theorem q825 : (Jvm.Cond.soleField "EventCounters" "can") ∈ lw_all := lw_g (lw_at lw_m4 46 rfl) rfl
theorem q826 : (Jvm.Cond.laysFinal "EventCounters" "EventCounters" "fewest" "[I") ∈ lw_all := lw_g (lw_at lw_m4 47 rfl) rfl
theorem q827 : (Jvm.Cond.soleField "EventCounters" "fewest") ∈ lw_all := lw_g (lw_at lw_m4 48 rfl) rfl
theorem q828 : (Jvm.Cond.laysFinal "EventCounters" "EventCounters" "rounds" "[I") ∈ lw_all := lw_g (lw_at lw_m4 49 rfl) rfl
theorem q829 : (Jvm.Cond.soleField "EventCounters" "rounds") ∈ lw_all := lw_g (lw_at lw_m4 50 rfl) rfl
theorem q830 : (Jvm.Cond.lays "EventCounters" "EventCounters" "roundMany" "I") ∈ lw_all := lw_g (lw_at lw_m4 51 rfl) rfl
theorem q831 : (Jvm.Cond.soleField "EventCounters" "roundMany") ∈ lw_all := lw_g (lw_at lw_m4 52 rfl) rfl
theorem q832 : (Jvm.Cond.lays "EventCounters" "EventCounters" "counted" "I") ∈ lw_all := lw_g (lw_at lw_m4 53 rfl) rfl
theorem q833 : (Jvm.Cond.soleField "EventCounters" "counted") ∈ lw_all := lw_g (lw_at lw_m4 54 rfl) rfl
theorem q834 : (Jvm.Cond.lays "EventCounters" "EventCounters" "countedTicks" "I") ∈ lw_all := lw_g (lw_at lw_m4 55 rfl) rfl
theorem q835 : (Jvm.Cond.soleField "EventCounters" "countedTicks") ∈ lw_all := lw_g (lw_at lw_m4 56 rfl) rfl
theorem q836 : (Jvm.Cond.laysFinal "EventCounters" "EventCounters" "shown" "[I") ∈ lw_all := lw_g (lw_at lw_m4 57 rfl) rfl
theorem q837 : (Jvm.Cond.soleField "EventCounters" "shown") ∈ lw_all := lw_g (lw_at lw_m4 58 rfl) rfl
theorem q838 : (Jvm.Cond.lays "EventCounters" "EventCounters" "shownMany" "I") ∈ lw_all := lw_g (lw_at lw_m4 59 rfl) rfl
theorem q839 : (Jvm.Cond.soleField "EventCounters" "shownMany") ∈ lw_all := lw_g (lw_at lw_m4 60 rfl) rfl
theorem q840 : (Jvm.Cond.lays "EventCounters" "EventCounters" "lostMany" "I") ∈ lw_all := lw_g (lw_at lw_m4 61 rfl) rfl
theorem q841 : (Jvm.Cond.soleField "EventCounters" "lostMany") ∈ lw_all := lw_g (lw_at lw_m4 62 rfl) rfl
theorem q842 : (Jvm.Cond.lays "EventCounters" "EventCounters" "toldMany" "I") ∈ lw_all := lw_g (lw_at lw_m4 63 rfl) rfl
theorem q843 : (Jvm.Cond.soleField "EventCounters" "toldMany") ∈ lw_all := lw_g (lw_at lw_m4 64 rfl) rfl
theorem q844 : (Jvm.Cond.lays "EventCounters" "EventCounters" "looks" "I") ∈ lw_all := lw_g (lw_at lw_m4 65 rfl) rfl
theorem q845 : (Jvm.Cond.soleField "EventCounters" "looks") ∈ lw_all := lw_g (lw_at lw_m4 66 rfl) rfl
theorem q846 : (Jvm.Cond.laysFinal "EventCounters" "EventCounters" "runs" "[[I") ∈ lw_all := lw_g (lw_at lw_m4 67 rfl) rfl
theorem q847 : (Jvm.Cond.soleField "EventCounters" "runs") ∈ lw_all := lw_g (lw_at lw_m4 68 rfl) rfl
theorem q848 : (Jvm.Cond.lays "EventCounters" "EventCounters" "runMany" "I") ∈ lw_all := lw_g (lw_at lw_m4 69 rfl) rfl
theorem q849 : (Jvm.Cond.soleField "EventCounters" "runMany") ∈ lw_all := lw_g (lw_at lw_m4 70 rfl) rfl
theorem q850 : (Jvm.Cond.laysFinal "EventCounters" "EventCounters" "sheets" "[LEventCounters$Sheet;") ∈ lw_all := lw_g (lw_at lw_m4 71 rfl) rfl
theorem q851 : (Jvm.Cond.soleField "EventCounters" "sheets") ∈ lw_all := lw_g (lw_at lw_m4 72 rfl) rfl
theorem q852 : (Jvm.Cond.superclass "EventCounters" "java/lang/Object") ∈ lw_all := lw_g (lw_at lw_m4 73 rfl) rfl
theorem q854 : (Jvm.Cond.instanceMethod ({ cls := "EventCounters", name := "sheet", desc := "(III)I" } : Jvm.MethodName)) ∈ lw_all := lw_g (lw_at lw_m4 75 rfl) rfl
theorem q855 : (Jvm.Cond.selects "EventCounters" ({ cls := "EventCounters", name := "sheet", desc := "(III)I" } : Jvm.MethodName) ({ cls := "EventCounters", name := "sheet", desc := "(III)I" } : Jvm.MethodName)) ∈ lw_all := lw_g (lw_at lw_m4 76 rfl) rfl
theorem q856 : (Jvm.Cond.codeWith ({ cls := "EventCounters", name := "sheet", desc := "(III)I" } : Jvm.MethodName) prog_1_method_58_code (5 : Nat) (Option.some Jvm.ClassFile.FieldType.int) [((32 : Nat), (57 : Nat), (58 : Nat), (336 : Nat))]) ∈ lw_all := lw_g (lw_at lw_m4 77 rfl) rfl
theorem q857 : (Jvm.Cond.classLink "EventCounters" (336 : Nat) "java/lang/NegativeArraySizeException") ∈ lw_all := lw_g (lw_at lw_m4 78 rfl) rfl
theorem q884 : (Jvm.Cond.methodLink "EventCounters" (325 : Nat) ({ cls := "EventCounters", name := "newRow", desc := "(II)Ljava/lang/Object;" } : Jvm.MethodName)) ∈ lw_all := lw_g (lw_at lw_m4 105 rfl) rfl
theorem q885 : (Jvm.Cond.static ({ cls := "EventCounters", name := "newRow", desc := "(II)Ljava/lang/Object;" } : Jvm.MethodName)) ∈ lw_all := lw_g (lw_at lw_m4 106 rfl) rfl
theorem q886 : (Jvm.Cond.code ({ cls := "EventCounters", name := "newRow", desc := "(II)Ljava/lang/Object;" } : Jvm.MethodName) prog_1_method_57_code (2 : Nat) (Option.some (Jvm.ClassFile.FieldType.object "java/lang/Object"))) ∈ lw_all := lw_g (lw_at lw_m4 107 rfl) rfl
theorem q889 : (Jvm.Cond.instanceMethod ({ cls := "EventCounters", name := "lay", desc := "(III)I" } : Jvm.MethodName)) ∈ lw_all := lw_g (lw_at lw_m4 110 rfl) rfl
theorem q890 : (Jvm.Cond.selects "EventCounters" ({ cls := "EventCounters", name := "lay", desc := "(III)I" } : Jvm.MethodName) ({ cls := "EventCounters", name := "lay", desc := "(III)I" } : Jvm.MethodName)) ∈ lw_all := lw_g (lw_at lw_m4 111 rfl) rfl
theorem q891 : (Jvm.Cond.codeWith ({ cls := "EventCounters", name := "lay", desc := "(III)I" } : Jvm.MethodName) prog_1_method_59_code (6 : Nat) (Option.some Jvm.ClassFile.FieldType.int) [((25 : Nat), (74 : Nat), (75 : Nat), (342 : Nat)), ((25 : Nat), (74 : Nat), (80 : Nat), (344 : Nat))]) ∈ lw_all := lw_g (lw_at lw_m4 112 rfl) rfl
theorem q892 : (Jvm.Cond.classLink "EventCounters" (342 : Nat) "java/lang/NullPointerException") ∈ lw_all := lw_g (lw_at lw_m4 113 rfl) rfl
theorem q917 : (Jvm.Cond.classLink "EventCounters" (344 : Nat) "java/lang/ArrayIndexOutOfBoundsException") ∈ lw_all := lw_g (lw_at lw_m4 138 rfl) rfl
theorem q936 : (Jvm.Cond.classLink "EventCounters" (338 : Nat) "[B") ∈ lw_all := lw_g (lw_at lw_m4 157 rfl) rfl
theorem q937 : (Jvm.Cond.classLink "EventCounters" (339 : Nat) "[S") ∈ lw_all := lw_g (lw_at lw_m4 158 rfl) rfl
theorem q938 : (Jvm.Cond.classLink "EventCounters" (341 : Nat) "[I") ∈ lw_all := lw_g (lw_at lw_m4 159 rfl) rfl
theorem q940 : (Jvm.Cond.instanceMethod ({ cls := "EventCounters", name := "said", desc := "(IIIII)I" } : Jvm.MethodName)) ∈ lw_all := lw_g (lw_at lw_m4 161 rfl) rfl
theorem q941 : (Jvm.Cond.selects "EventCounters" ({ cls := "EventCounters", name := "said", desc := "(IIIII)I" } : Jvm.MethodName) ({ cls := "EventCounters", name := "said", desc := "(IIIII)I" } : Jvm.MethodName)) ∈ lw_all := lw_g (lw_at lw_m4 162 rfl) rfl
theorem q942 : (Jvm.Cond.codeWith ({ cls := "EventCounters", name := "said", desc := "(IIIII)I" } : Jvm.MethodName) prog_1_method_61_code (15 : Nat) (Option.some Jvm.ClassFile.FieldType.int) [((60 : Nat), (153 : Nat), (241 : Nat), (342 : Nat)), ((154 : Nat), (238 : Nat), (241 : Nat), (342 : Nat)), ((60 : Nat), (153 : Nat), (246 : Nat), (350 : Nat)), ((154 : Nat), (238 : Nat), (246 : Nat), (350 : Nat)), ((60 : Nat), (153 : Nat), (251 : Nat), (344 : Nat)), ((154 : Nat), (238 : Nat), (251 : Nat), (344 : Nat))]) ∈ lw_all := lw_g (lw_at lw_m4 163 rfl) rfl
theorem q943 : (Jvm.Cond.classLink "EventCounters" (350 : Nat) "java/lang/ClassCastException") ∈ lw_all := lw_g (lw_at lw_m4 164 rfl) rfl
theorem q957 : (Jvm.Cond.methodLink "EventCounters" (346 : Nat) ({ cls := "EventCounters", name := "cell", desc := "(Ljava/lang/Object;II)I" } : Jvm.MethodName)) ∈ lw_all := lw_g (lw_at lw_m4 178 rfl) rfl
theorem q958 : (Jvm.Cond.static ({ cls := "EventCounters", name := "cell", desc := "(Ljava/lang/Object;II)I" } : Jvm.MethodName)) ∈ lw_all := lw_g (lw_at lw_m4 179 rfl) rfl
theorem q959 : (Jvm.Cond.code ({ cls := "EventCounters", name := "cell", desc := "(Ljava/lang/Object;II)I" } : Jvm.MethodName) prog_1_method_60_code (3 : Nat) (Option.some Jvm.ClassFile.FieldType.int)) ∈ lw_all := lw_g (lw_at lw_m4 180 rfl) rfl
theorem q961 : (Jvm.Cond.instanceMethod ({ cls := "EventCounters", name := "count", desc := "(I)I" } : Jvm.MethodName)) ∈ lw_all := lw_g (lw_at lw_m4 182 rfl) rfl
theorem q962 : (Jvm.Cond.selects "EventCounters" ({ cls := "EventCounters", name := "count", desc := "(I)I" } : Jvm.MethodName) ({ cls := "EventCounters", name := "count", desc := "(I)I" } : Jvm.MethodName)) ∈ lw_all := lw_g (lw_at lw_m4 183 rfl) rfl
theorem q963 : (Jvm.Cond.code ({ cls := "EventCounters", name := "count", desc := "(I)I" } : Jvm.MethodName) prog_1_method_62_code (2 : Nat) (Option.some Jvm.ClassFile.FieldType.int)) ∈ lw_all := lw_g (lw_at lw_m4 184 rfl) rfl
theorem in_X0 : ∀ w ∈ wsX00, w ∈ lw_all := lw_in wsX00 [796, 798, 800, 802, 804, 806, 808, 810, 812, 814, 816, 818, 820, 822, 824, 826, 828, 830, 832, 834, 836, 838, 840, 842, 844, 846, 848, 850] (by decide +kernel) (by decide +kernel)
