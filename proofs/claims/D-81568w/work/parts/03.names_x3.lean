/-! EventCountersModel -/
set_option maxRecDepth 100000
def RX3 : String := "EventCountersModel"
def TX3 : u_T := fun k => match k with
  | 0 => ("EventCountersModel", "lines", "I", false)
  | 1 => ("EventCountersModel", "ticks", "[I", true)
  | 2 => ("EventCountersModel", "makes", "[I", true)
  | 3 => ("EventCountersModel", "around", "[I", true)
  | 4 => ("EventCountersModel", "loops", "I", false)
  | 5 => ("EventCountersModel", "often", "[I", true)
  | 6 => ("EventCountersModel", "outer", "[I", true)
  | 7 => ("EventCountersModel", "steps", "I", false)
  | 8 => ("EventCountersModel", "lineOf", "[I", true)
  | 9 => ("EventCountersModel", "times", "[I", true)
  | 10 => ("EventCountersModel", "allTicks", "I", false)
  | 11 => ("EventCountersModel", "dLines", "I", false)
  | 12 => ("EventCountersModel", "dTicks", "[I", true)
  | 13 => ("EventCountersModel", "dMakes", "[I", true)
  | 14 => ("EventCountersModel", "dAround", "[I", true)
  | 15 => ("EventCountersModel", "dLoops", "I", false)
  | 16 => ("EventCountersModel", "dOften", "[I", true)
  | 17 => ("EventCountersModel", "dOuter", "[I", true)
  | 18 => ("EventCountersModel", "open", "[I", true)
  | 19 => ("EventCountersModel", "depth", "I", false)
  | 20 => ("EventCountersModel", "row", "[I", true)
  | 21 => ("EventCountersModel", "dRow", "[I", true)
  | 22 => ("EventCountersModel", "rowLong", "I", false)
  | 23 => ("EventCountersModel", "dRowLong", "I", false)
  | 24 => ("EventCountersModel", "tape", "[I", true)
  | 25 => ("EventCountersModel", "taped", "I", false)
  | 26 => ("EventCountersModel", "pos", "I", false)
  | 27 => ("EventCountersModel", "from", "I", false)
  | 28 => ("EventCountersModel", "sort", "I", false)
  | 29 => ("EventCountersModel", "value", "I", false)
  | 30 => ("EventCountersModel", "fault", "I", false)
  | 31 => ("EventCountersModel", "wrongAt", "I", false)
  | 32 => ("EventCountersModel", "left", "[I", true)
  | 33 => ("EventCountersModel", "began", "[I", true)
  | 34 => ("EventCountersModel", "keptLines", "I", false)
  | 35 => ("EventCountersModel", "kept", "[I", true)
  | 36 => ("EventCountersModel", "counters", "I", false)
  | 37 => ("EventCountersModel", "masks", "[I", true)
  | 38 => ("EventCountersModel", "widths", "[I", true)
  | 39 => ("EventCountersModel", "fewest", "[I", true)
  | 40 => ("EventCountersModel", "goTogether", "[Z", true)
  | 41 => ("EventCountersModel", "roundMany", "I", false)
  | 42 => ("EventCountersModel", "rounds", "[I", true)
  | 43 => ("EventCountersModel", "counted", "J", false)
  | 44 => ("EventCountersModel", "countedTicks", "J", false)
  | 45 => ("EventCountersModel", "samples", "I", false)
  | 46 => ("EventCountersModel", "lost", "I", false)
  | 47 => ("EventCountersModel", "shown", "[I", true)
  | 48 => ("EventCountersModel", "looks", "I", false)
  | 49 => ("EventCountersModel", "runs", "I", false)
  | 50 => ("EventCountersModel", "runCounter", "[I", true)
  | 51 => ("EventCountersModel", "runEvent", "[I", true)
  | 52 => ("EventCountersModel", "runShown", "[I", true)
  | 53 => ("EventCountersModel", "lanes", "[I", true)
  | 54 => ("EventCountersModel", "sizes", "[I", true)
  | _ => ("EventCountersModel", "cells", "[I", true)
def tyX3 : Nat → FieldType := fun k => match k with
  | 0 => .int
  | 1 => .array .int
  | 2 => .array .int
  | 3 => .array .int
  | 4 => .int
  | 5 => .array .int
  | 6 => .array .int
  | 7 => .int
  | 8 => .array .int
  | 9 => .array .int
  | 10 => .int
  | 11 => .int
  | 12 => .array .int
  | 13 => .array .int
  | 14 => .array .int
  | 15 => .int
  | 16 => .array .int
  | 17 => .array .int
  | 18 => .array .int
  | 19 => .int
  | 20 => .array .int
  | 21 => .array .int
  | 22 => .int
  | 23 => .int
  | 24 => .array .int
  | 25 => .int
  | 26 => .int
  | 27 => .int
  | 28 => .int
  | 29 => .int
  | 30 => .int
  | 31 => .int
  | 32 => .array .int
  | 33 => .array .int
  | 34 => .int
  | 35 => .array .int
  | 36 => .int
  | 37 => .array .int
  | 38 => .array .int
  | 39 => .array .int
  | 40 => .array .boolean
  | 41 => .int
  | 42 => .array .int
  | 43 => .long
  | 44 => .long
  | 45 => .int
  | 46 => .int
  | 47 => .array .int
  | 48 => .int
  | 49 => .int
  | 50 => .array .int
  | 51 => .array .int
  | 52 => .array .int
  | 53 => .array .int
  | 54 => .array .int
  | _ => .array .int
abbrev wsX30 : List Cond := u_ws RX3 TX3 56
set_option maxRecDepth 100000 in
theorem nmX3 : ∀ a, a < 56 → ∀ b, b < 56 → a ≠ b → (TX3 a).2.1 ≠ (TX3 b).2.1 := by decide +kernel
set_option maxRecDepth 100000 in
theorem tyX3_ok : ∀ k, k < 56 → parseFieldDescriptor (TX3 k).2.2.1 = some (tyX3 k) := by decide +kernel
abbrev cX3_init : ByteArray := prog_11_method_1_code
def yX3_init : MethodName := ⟨RX3, "<init>", "()V"⟩
def dkwX3_init_12 : List UInt8 := [167, 255, 240, 42, 182, 0, 108, 177]
abbrev dktX3_init_12 : List UInt8 := dkwX3_init_12 ++ []
def dkwX3_init_11 : List UInt8 := [188, 10, 181, 0, 105, 3, 60, 27, 7, 162, 0, 17, 42, 180, 0, 99, 27, 16, 252, 79, 132, 1, 1]
abbrev dktX3_init_11 : List UInt8 := dkwX3_init_11 ++ dktX3_init_12
def dkwX3_init_10 : List UInt8 := [188, 10, 181, 0, 96, 42, 7, 188, 10, 181, 0, 99, 42, 7, 188, 10, 181, 0, 102, 42, 17, 0, 160]
abbrev dktX3_init_10 : List UInt8 := dkwX3_init_10 ++ dktX3_init_11
def dkwX3_init_9 : List UInt8 := [188, 10, 181, 0, 87, 42, 16, 12, 188, 10, 181, 0, 90, 42, 16, 12, 188, 10, 181, 0, 93, 42, 16, 12]
abbrev dktX3_init_9 : List UInt8 := dkwX3_init_9 ++ dktX3_init_10
def dkwX3_init_8 : List UInt8 := [181, 0, 77, 42, 17, 1, 0, 188, 4, 181, 0, 80, 42, 16, 8, 188, 10, 181, 0, 84, 42, 16, 16]
abbrev dktX3_init_8 : List UInt8 := dkwX3_init_8 ++ dktX3_init_9
def dkwX3_init_7 : List UInt8 := [181, 0, 67, 42, 7, 188, 10, 181, 0, 71, 42, 7, 188, 10, 181, 0, 74, 42, 17, 1, 0, 188, 10]
abbrev dktX3_init_7 : List UInt8 := dkwX3_init_7 ++ dktX3_init_8
def dkwX3_init_6 : List UInt8 := [188, 10, 181, 0, 58, 42, 16, 40, 188, 10, 181, 0, 61, 42, 17, 0, 128, 188, 10, 181, 0, 64, 42, 5]
abbrev dktX3_init_6 : List UInt8 := dkwX3_init_6 ++ dktX3_init_7
def dkwX3_init_5 : List UInt8 := [181, 0, 49, 42, 16, 100, 188, 10, 181, 0, 52, 42, 17, 1, 64, 188, 10, 181, 0, 55, 42, 16, 40]
abbrev dktX3_init_5 : List UInt8 := dkwX3_init_5 ++ dktX3_init_6
def dkwX3_init_4 : List UInt8 := [181, 0, 40, 42, 16, 40, 188, 10, 181, 0, 43, 42, 8, 188, 10, 181, 0, 46, 42, 16, 100, 188, 10]
abbrev dktX3_init_4 : List UInt8 := dkwX3_init_4 ++ dktX3_init_5
def dkwX3_init_3 : List UInt8 := [42, 17, 0, 128, 188, 10, 181, 0, 34, 42, 16, 16, 188, 10, 181, 0, 37, 42, 16, 40, 188, 10]
abbrev dktX3_init_3 : List UInt8 := dkwX3_init_3 ++ dktX3_init_4
def dkwX3_init_2 : List UInt8 := [17, 23, 112, 188, 10, 181, 0, 25, 42, 16, 16, 188, 10, 181, 0, 28, 42, 16, 16, 188, 10, 181, 0, 31]
abbrev dktX3_init_2 : List UInt8 := dkwX3_init_2 ++ dktX3_init_3
def dkwX3_init_1 : List UInt8 := [188, 10, 181, 0, 16, 42, 16, 40, 188, 10, 181, 0, 19, 42, 16, 40, 188, 10, 181, 0, 22, 42]
abbrev dktX3_init_1 : List UInt8 := dkwX3_init_1 ++ dktX3_init_2
def dkwX3_init_0 : List UInt8 := [42, 183, 0, 1, 42, 16, 16, 188, 10, 181, 0, 7, 42, 17, 0, 128, 188, 10, 181, 0, 13, 42, 16, 16]
abbrev dktX3_init_0 : List UInt8 := dkwX3_init_0 ++ dktX3_init_1
theorem dksX3_init_0 : cX3_init.data.toList.drop 0 = dktX3_init_0 := by decide +kernel
theorem dksX3_init_1 : cX3_init.data.toList.drop 24 = dktX3_init_1 := dk_seg dksX3_init_0 24 rfl rfl
theorem dksX3_init_2 : cX3_init.data.toList.drop 46 = dktX3_init_2 := dk_seg dksX3_init_1 22 rfl rfl
theorem dksX3_init_3 : cX3_init.data.toList.drop 70 = dktX3_init_3 := dk_seg dksX3_init_2 24 rfl rfl
theorem dksX3_init_4 : cX3_init.data.toList.drop 92 = dktX3_init_4 := dk_seg dksX3_init_3 22 rfl rfl
theorem dksX3_init_5 : cX3_init.data.toList.drop 115 = dktX3_init_5 := dk_seg dksX3_init_4 23 rfl rfl
theorem dksX3_init_6 : cX3_init.data.toList.drop 138 = dktX3_init_6 := dk_seg dksX3_init_5 23 rfl rfl
theorem dksX3_init_7 : cX3_init.data.toList.drop 162 = dktX3_init_7 := dk_seg dksX3_init_6 24 rfl rfl
theorem dksX3_init_8 : cX3_init.data.toList.drop 185 = dktX3_init_8 := dk_seg dksX3_init_7 23 rfl rfl
theorem dksX3_init_9 : cX3_init.data.toList.drop 208 = dktX3_init_9 := dk_seg dksX3_init_8 23 rfl rfl
theorem dksX3_init_10 : cX3_init.data.toList.drop 232 = dktX3_init_10 := dk_seg dksX3_init_9 24 rfl rfl
theorem dksX3_init_11 : cX3_init.data.toList.drop 255 = dktX3_init_11 := dk_seg dksX3_init_10 23 rfl rfl
theorem dksX3_init_12 : cX3_init.data.toList.drop 278 = dktX3_init_12 := dk_seg dksX3_init_11 23 rfl rfl
theorem dX3_init_0 : decode cX3_init 0 = .ok (.aload_n 0, 1) := dk_42 (dk_at dksX3_init_0 0 rfl rfl)
theorem dX3_init_1 : decode cX3_init 1 = .ok (.invokespecial 1, 3) := dk_183 0 1 (dk_at dksX3_init_0 1 rfl rfl)
theorem dX3_init_4 : decode cX3_init 4 = .ok (.aload_n 0, 1) := dk_42 (dk_at dksX3_init_0 4 rfl rfl)
theorem dX3_init_5 : decode cX3_init 5 = .ok (.bipush 16, 2) := dk_16 16 (dk_at dksX3_init_0 5 rfl rfl)
theorem dX3_init_7 : decode cX3_init 7 = .ok (.newarray .int, 2) := dk_188_10 (dk_at dksX3_init_0 7 rfl rfl)
theorem dX3_init_9 : decode cX3_init 9 = .ok (.putfield 7, 3) := dk_181 0 7 (dk_at dksX3_init_0 9 rfl rfl)
theorem dX3_init_12 : decode cX3_init 12 = .ok (.aload_n 0, 1) := dk_42 (dk_at dksX3_init_0 12 rfl rfl)
theorem dX3_init_13 : decode cX3_init 13 = .ok (.sipush 128, 3) := dk_17 0 128 (dk_at dksX3_init_0 13 rfl rfl)
theorem dX3_init_16 : decode cX3_init 16 = .ok (.newarray .int, 2) := dk_188_10 (dk_at dksX3_init_0 16 rfl rfl)
theorem dX3_init_18 : decode cX3_init 18 = .ok (.putfield 13, 3) := dk_181 0 13 (dk_at dksX3_init_0 18 rfl rfl)
theorem dX3_init_21 : decode cX3_init 21 = .ok (.aload_n 0, 1) := dk_42 (dk_at dksX3_init_0 21 rfl rfl)
theorem dX3_init_22 : decode cX3_init 22 = .ok (.bipush 16, 2) := dk_16 16 (dk_at dksX3_init_0 22 rfl rfl)
theorem dX3_init_24 : decode cX3_init 24 = .ok (.newarray .int, 2) := dk_188_10 (dk_at dksX3_init_1 0 rfl rfl)
theorem dX3_init_26 : decode cX3_init 26 = .ok (.putfield 16, 3) := dk_181 0 16 (dk_at dksX3_init_1 2 rfl rfl)
theorem dX3_init_29 : decode cX3_init 29 = .ok (.aload_n 0, 1) := dk_42 (dk_at dksX3_init_1 5 rfl rfl)
theorem dX3_init_30 : decode cX3_init 30 = .ok (.bipush 40, 2) := dk_16 40 (dk_at dksX3_init_1 6 rfl rfl)
theorem dX3_init_32 : decode cX3_init 32 = .ok (.newarray .int, 2) := dk_188_10 (dk_at dksX3_init_1 8 rfl rfl)
theorem dX3_init_34 : decode cX3_init 34 = .ok (.putfield 19, 3) := dk_181 0 19 (dk_at dksX3_init_1 10 rfl rfl)
theorem dX3_init_37 : decode cX3_init 37 = .ok (.aload_n 0, 1) := dk_42 (dk_at dksX3_init_1 13 rfl rfl)
theorem dX3_init_38 : decode cX3_init 38 = .ok (.bipush 40, 2) := dk_16 40 (dk_at dksX3_init_1 14 rfl rfl)
theorem dX3_init_40 : decode cX3_init 40 = .ok (.newarray .int, 2) := dk_188_10 (dk_at dksX3_init_1 16 rfl rfl)
theorem dX3_init_42 : decode cX3_init 42 = .ok (.putfield 22, 3) := dk_181 0 22 (dk_at dksX3_init_1 18 rfl rfl)
theorem dX3_init_45 : decode cX3_init 45 = .ok (.aload_n 0, 1) := dk_42 (dk_at dksX3_init_1 21 rfl rfl)
theorem dX3_init_46 : decode cX3_init 46 = .ok (.sipush 6000, 3) := dk_17 23 112 (dk_at dksX3_init_2 0 rfl rfl)
theorem dX3_init_49 : decode cX3_init 49 = .ok (.newarray .int, 2) := dk_188_10 (dk_at dksX3_init_2 3 rfl rfl)
theorem dX3_init_51 : decode cX3_init 51 = .ok (.putfield 25, 3) := dk_181 0 25 (dk_at dksX3_init_2 5 rfl rfl)
theorem dX3_init_54 : decode cX3_init 54 = .ok (.aload_n 0, 1) := dk_42 (dk_at dksX3_init_2 8 rfl rfl)
theorem dX3_init_55 : decode cX3_init 55 = .ok (.bipush 16, 2) := dk_16 16 (dk_at dksX3_init_2 9 rfl rfl)
theorem dX3_init_57 : decode cX3_init 57 = .ok (.newarray .int, 2) := dk_188_10 (dk_at dksX3_init_2 11 rfl rfl)
theorem dX3_init_59 : decode cX3_init 59 = .ok (.putfield 28, 3) := dk_181 0 28 (dk_at dksX3_init_2 13 rfl rfl)
theorem dX3_init_62 : decode cX3_init 62 = .ok (.aload_n 0, 1) := dk_42 (dk_at dksX3_init_2 16 rfl rfl)
theorem dX3_init_63 : decode cX3_init 63 = .ok (.bipush 16, 2) := dk_16 16 (dk_at dksX3_init_2 17 rfl rfl)
theorem dX3_init_65 : decode cX3_init 65 = .ok (.newarray .int, 2) := dk_188_10 (dk_at dksX3_init_2 19 rfl rfl)
theorem dX3_init_67 : decode cX3_init 67 = .ok (.putfield 31, 3) := dk_181 0 31 (dk_at dksX3_init_2 21 rfl rfl)
theorem dX3_init_70 : decode cX3_init 70 = .ok (.aload_n 0, 1) := dk_42 (dk_at dksX3_init_3 0 rfl rfl)
theorem dX3_init_71 : decode cX3_init 71 = .ok (.sipush 128, 3) := dk_17 0 128 (dk_at dksX3_init_3 1 rfl rfl)
theorem dX3_init_74 : decode cX3_init 74 = .ok (.newarray .int, 2) := dk_188_10 (dk_at dksX3_init_3 4 rfl rfl)
theorem dX3_init_76 : decode cX3_init 76 = .ok (.putfield 34, 3) := dk_181 0 34 (dk_at dksX3_init_3 6 rfl rfl)
theorem dX3_init_79 : decode cX3_init 79 = .ok (.aload_n 0, 1) := dk_42 (dk_at dksX3_init_3 9 rfl rfl)
theorem dX3_init_80 : decode cX3_init 80 = .ok (.bipush 16, 2) := dk_16 16 (dk_at dksX3_init_3 10 rfl rfl)
theorem dX3_init_82 : decode cX3_init 82 = .ok (.newarray .int, 2) := dk_188_10 (dk_at dksX3_init_3 12 rfl rfl)
theorem dX3_init_84 : decode cX3_init 84 = .ok (.putfield 37, 3) := dk_181 0 37 (dk_at dksX3_init_3 14 rfl rfl)
theorem dX3_init_87 : decode cX3_init 87 = .ok (.aload_n 0, 1) := dk_42 (dk_at dksX3_init_3 17 rfl rfl)
theorem dX3_init_88 : decode cX3_init 88 = .ok (.bipush 40, 2) := dk_16 40 (dk_at dksX3_init_3 18 rfl rfl)
theorem dX3_init_90 : decode cX3_init 90 = .ok (.newarray .int, 2) := dk_188_10 (dk_at dksX3_init_3 20 rfl rfl)
theorem dX3_init_92 : decode cX3_init 92 = .ok (.putfield 40, 3) := dk_181 0 40 (dk_at dksX3_init_4 0 rfl rfl)
theorem dX3_init_95 : decode cX3_init 95 = .ok (.aload_n 0, 1) := dk_42 (dk_at dksX3_init_4 3 rfl rfl)
theorem dX3_init_96 : decode cX3_init 96 = .ok (.bipush 40, 2) := dk_16 40 (dk_at dksX3_init_4 4 rfl rfl)
theorem dX3_init_98 : decode cX3_init 98 = .ok (.newarray .int, 2) := dk_188_10 (dk_at dksX3_init_4 6 rfl rfl)
theorem dX3_init_100 : decode cX3_init 100 = .ok (.putfield 43, 3) := dk_181 0 43 (dk_at dksX3_init_4 8 rfl rfl)
theorem dX3_init_103 : decode cX3_init 103 = .ok (.aload_n 0, 1) := dk_42 (dk_at dksX3_init_4 11 rfl rfl)
theorem dX3_init_104 : decode cX3_init 104 = .ok (.iconst 5, 1) := dk_8 (dk_at dksX3_init_4 12 rfl rfl)
theorem dX3_init_105 : decode cX3_init 105 = .ok (.newarray .int, 2) := dk_188_10 (dk_at dksX3_init_4 13 rfl rfl)
theorem dX3_init_107 : decode cX3_init 107 = .ok (.putfield 46, 3) := dk_181 0 46 (dk_at dksX3_init_4 15 rfl rfl)
theorem dX3_init_110 : decode cX3_init 110 = .ok (.aload_n 0, 1) := dk_42 (dk_at dksX3_init_4 18 rfl rfl)
theorem dX3_init_111 : decode cX3_init 111 = .ok (.bipush 100, 2) := dk_16 100 (dk_at dksX3_init_4 19 rfl rfl)
theorem dX3_init_113 : decode cX3_init 113 = .ok (.newarray .int, 2) := dk_188_10 (dk_at dksX3_init_4 21 rfl rfl)
theorem dX3_init_115 : decode cX3_init 115 = .ok (.putfield 49, 3) := dk_181 0 49 (dk_at dksX3_init_5 0 rfl rfl)
theorem dX3_init_118 : decode cX3_init 118 = .ok (.aload_n 0, 1) := dk_42 (dk_at dksX3_init_5 3 rfl rfl)
theorem dX3_init_119 : decode cX3_init 119 = .ok (.bipush 100, 2) := dk_16 100 (dk_at dksX3_init_5 4 rfl rfl)
theorem dX3_init_121 : decode cX3_init 121 = .ok (.newarray .int, 2) := dk_188_10 (dk_at dksX3_init_5 6 rfl rfl)
theorem dX3_init_123 : decode cX3_init 123 = .ok (.putfield 52, 3) := dk_181 0 52 (dk_at dksX3_init_5 8 rfl rfl)
theorem dX3_init_126 : decode cX3_init 126 = .ok (.aload_n 0, 1) := dk_42 (dk_at dksX3_init_5 11 rfl rfl)
theorem dX3_init_127 : decode cX3_init 127 = .ok (.sipush 320, 3) := dk_17 1 64 (dk_at dksX3_init_5 12 rfl rfl)
theorem dX3_init_130 : decode cX3_init 130 = .ok (.newarray .int, 2) := dk_188_10 (dk_at dksX3_init_5 15 rfl rfl)
theorem dX3_init_132 : decode cX3_init 132 = .ok (.putfield 55, 3) := dk_181 0 55 (dk_at dksX3_init_5 17 rfl rfl)
theorem dX3_init_135 : decode cX3_init 135 = .ok (.aload_n 0, 1) := dk_42 (dk_at dksX3_init_5 20 rfl rfl)
theorem dX3_init_136 : decode cX3_init 136 = .ok (.bipush 40, 2) := dk_16 40 (dk_at dksX3_init_5 21 rfl rfl)
theorem dX3_init_138 : decode cX3_init 138 = .ok (.newarray .int, 2) := dk_188_10 (dk_at dksX3_init_6 0 rfl rfl)
theorem dX3_init_140 : decode cX3_init 140 = .ok (.putfield 58, 3) := dk_181 0 58 (dk_at dksX3_init_6 2 rfl rfl)
theorem dX3_init_143 : decode cX3_init 143 = .ok (.aload_n 0, 1) := dk_42 (dk_at dksX3_init_6 5 rfl rfl)
theorem dX3_init_144 : decode cX3_init 144 = .ok (.bipush 40, 2) := dk_16 40 (dk_at dksX3_init_6 6 rfl rfl)
theorem dX3_init_146 : decode cX3_init 146 = .ok (.newarray .int, 2) := dk_188_10 (dk_at dksX3_init_6 8 rfl rfl)
theorem dX3_init_148 : decode cX3_init 148 = .ok (.putfield 61, 3) := dk_181 0 61 (dk_at dksX3_init_6 10 rfl rfl)
theorem dX3_init_151 : decode cX3_init 151 = .ok (.aload_n 0, 1) := dk_42 (dk_at dksX3_init_6 13 rfl rfl)
theorem dX3_init_152 : decode cX3_init 152 = .ok (.sipush 128, 3) := dk_17 0 128 (dk_at dksX3_init_6 14 rfl rfl)
theorem dX3_init_155 : decode cX3_init 155 = .ok (.newarray .int, 2) := dk_188_10 (dk_at dksX3_init_6 17 rfl rfl)
theorem dX3_init_157 : decode cX3_init 157 = .ok (.putfield 64, 3) := dk_181 0 64 (dk_at dksX3_init_6 19 rfl rfl)
theorem dX3_init_160 : decode cX3_init 160 = .ok (.aload_n 0, 1) := dk_42 (dk_at dksX3_init_6 22 rfl rfl)
theorem dX3_init_161 : decode cX3_init 161 = .ok (.iconst 2, 1) := dk_5 (dk_at dksX3_init_6 23 rfl rfl)
theorem dX3_init_162 : decode cX3_init 162 = .ok (.putfield 67, 3) := dk_181 0 67 (dk_at dksX3_init_7 0 rfl rfl)
theorem dX3_init_165 : decode cX3_init 165 = .ok (.aload_n 0, 1) := dk_42 (dk_at dksX3_init_7 3 rfl rfl)
theorem dX3_init_166 : decode cX3_init 166 = .ok (.iconst 4, 1) := dk_7 (dk_at dksX3_init_7 4 rfl rfl)
theorem dX3_init_167 : decode cX3_init 167 = .ok (.newarray .int, 2) := dk_188_10 (dk_at dksX3_init_7 5 rfl rfl)
theorem dX3_init_169 : decode cX3_init 169 = .ok (.putfield 71, 3) := dk_181 0 71 (dk_at dksX3_init_7 7 rfl rfl)
theorem dX3_init_172 : decode cX3_init 172 = .ok (.aload_n 0, 1) := dk_42 (dk_at dksX3_init_7 10 rfl rfl)
theorem dX3_init_173 : decode cX3_init 173 = .ok (.iconst 4, 1) := dk_7 (dk_at dksX3_init_7 11 rfl rfl)
theorem dX3_init_174 : decode cX3_init 174 = .ok (.newarray .int, 2) := dk_188_10 (dk_at dksX3_init_7 12 rfl rfl)
theorem dX3_init_176 : decode cX3_init 176 = .ok (.putfield 74, 3) := dk_181 0 74 (dk_at dksX3_init_7 14 rfl rfl)
theorem dX3_init_179 : decode cX3_init 179 = .ok (.aload_n 0, 1) := dk_42 (dk_at dksX3_init_7 17 rfl rfl)
theorem dX3_init_180 : decode cX3_init 180 = .ok (.sipush 256, 3) := dk_17 1 0 (dk_at dksX3_init_7 18 rfl rfl)
theorem dX3_init_183 : decode cX3_init 183 = .ok (.newarray .int, 2) := dk_188_10 (dk_at dksX3_init_7 21 rfl rfl)
theorem dX3_init_185 : decode cX3_init 185 = .ok (.putfield 77, 3) := dk_181 0 77 (dk_at dksX3_init_8 0 rfl rfl)
theorem dX3_init_188 : decode cX3_init 188 = .ok (.aload_n 0, 1) := dk_42 (dk_at dksX3_init_8 3 rfl rfl)
theorem dX3_init_189 : decode cX3_init 189 = .ok (.sipush 256, 3) := dk_17 1 0 (dk_at dksX3_init_8 4 rfl rfl)
theorem dX3_init_192 : decode cX3_init 192 = .ok (.newarray .boolean, 2) := dk_188_4 (dk_at dksX3_init_8 7 rfl rfl)
theorem dX3_init_194 : decode cX3_init 194 = .ok (.putfield 80, 3) := dk_181 0 80 (dk_at dksX3_init_8 9 rfl rfl)
theorem dX3_init_197 : decode cX3_init 197 = .ok (.aload_n 0, 1) := dk_42 (dk_at dksX3_init_8 12 rfl rfl)
theorem dX3_init_198 : decode cX3_init 198 = .ok (.bipush 8, 2) := dk_16 8 (dk_at dksX3_init_8 13 rfl rfl)
theorem dX3_init_200 : decode cX3_init 200 = .ok (.newarray .int, 2) := dk_188_10 (dk_at dksX3_init_8 15 rfl rfl)
theorem dX3_init_202 : decode cX3_init 202 = .ok (.putfield 84, 3) := dk_181 0 84 (dk_at dksX3_init_8 17 rfl rfl)
theorem dX3_init_205 : decode cX3_init 205 = .ok (.aload_n 0, 1) := dk_42 (dk_at dksX3_init_8 20 rfl rfl)
theorem dX3_init_206 : decode cX3_init 206 = .ok (.bipush 16, 2) := dk_16 16 (dk_at dksX3_init_8 21 rfl rfl)
theorem dX3_init_208 : decode cX3_init 208 = .ok (.newarray .int, 2) := dk_188_10 (dk_at dksX3_init_9 0 rfl rfl)
theorem dX3_init_210 : decode cX3_init 210 = .ok (.putfield 87, 3) := dk_181 0 87 (dk_at dksX3_init_9 2 rfl rfl)
theorem dX3_init_213 : decode cX3_init 213 = .ok (.aload_n 0, 1) := dk_42 (dk_at dksX3_init_9 5 rfl rfl)
theorem dX3_init_214 : decode cX3_init 214 = .ok (.bipush 12, 2) := dk_16 12 (dk_at dksX3_init_9 6 rfl rfl)
theorem dX3_init_216 : decode cX3_init 216 = .ok (.newarray .int, 2) := dk_188_10 (dk_at dksX3_init_9 8 rfl rfl)
theorem dX3_init_218 : decode cX3_init 218 = .ok (.putfield 90, 3) := dk_181 0 90 (dk_at dksX3_init_9 10 rfl rfl)
theorem dX3_init_221 : decode cX3_init 221 = .ok (.aload_n 0, 1) := dk_42 (dk_at dksX3_init_9 13 rfl rfl)
theorem dX3_init_222 : decode cX3_init 222 = .ok (.bipush 12, 2) := dk_16 12 (dk_at dksX3_init_9 14 rfl rfl)
theorem dX3_init_224 : decode cX3_init 224 = .ok (.newarray .int, 2) := dk_188_10 (dk_at dksX3_init_9 16 rfl rfl)
theorem dX3_init_226 : decode cX3_init 226 = .ok (.putfield 93, 3) := dk_181 0 93 (dk_at dksX3_init_9 18 rfl rfl)
theorem dX3_init_229 : decode cX3_init 229 = .ok (.aload_n 0, 1) := dk_42 (dk_at dksX3_init_9 21 rfl rfl)
theorem dX3_init_230 : decode cX3_init 230 = .ok (.bipush 12, 2) := dk_16 12 (dk_at dksX3_init_9 22 rfl rfl)
theorem dX3_init_232 : decode cX3_init 232 = .ok (.newarray .int, 2) := dk_188_10 (dk_at dksX3_init_10 0 rfl rfl)
theorem dX3_init_234 : decode cX3_init 234 = .ok (.putfield 96, 3) := dk_181 0 96 (dk_at dksX3_init_10 2 rfl rfl)
theorem dX3_init_237 : decode cX3_init 237 = .ok (.aload_n 0, 1) := dk_42 (dk_at dksX3_init_10 5 rfl rfl)
theorem dX3_init_238 : decode cX3_init 238 = .ok (.iconst 4, 1) := dk_7 (dk_at dksX3_init_10 6 rfl rfl)
theorem dX3_init_239 : decode cX3_init 239 = .ok (.newarray .int, 2) := dk_188_10 (dk_at dksX3_init_10 7 rfl rfl)
theorem dX3_init_241 : decode cX3_init 241 = .ok (.putfield 99, 3) := dk_181 0 99 (dk_at dksX3_init_10 9 rfl rfl)
theorem dX3_init_244 : decode cX3_init 244 = .ok (.aload_n 0, 1) := dk_42 (dk_at dksX3_init_10 12 rfl rfl)
theorem dX3_init_245 : decode cX3_init 245 = .ok (.iconst 4, 1) := dk_7 (dk_at dksX3_init_10 13 rfl rfl)
theorem dX3_init_246 : decode cX3_init 246 = .ok (.newarray .int, 2) := dk_188_10 (dk_at dksX3_init_10 14 rfl rfl)
theorem dX3_init_248 : decode cX3_init 248 = .ok (.putfield 102, 3) := dk_181 0 102 (dk_at dksX3_init_10 16 rfl rfl)
theorem dX3_init_251 : decode cX3_init 251 = .ok (.aload_n 0, 1) := dk_42 (dk_at dksX3_init_10 19 rfl rfl)
theorem dX3_init_252 : decode cX3_init 252 = .ok (.sipush 160, 3) := dk_17 0 160 (dk_at dksX3_init_10 20 rfl rfl)
theorem dX3_init_255 : decode cX3_init 255 = .ok (.newarray .int, 2) := dk_188_10 (dk_at dksX3_init_11 0 rfl rfl)
theorem dX3_init_257 : decode cX3_init 257 = .ok (.putfield 105, 3) := dk_181 0 105 (dk_at dksX3_init_11 2 rfl rfl)
theorem dX3_init_260 : decode cX3_init 260 = .ok (.iconst 0, 1) := dk_3 (dk_at dksX3_init_11 5 rfl rfl)
theorem dX3_init_261 : decode cX3_init 261 = .ok (.istore_n 1, 1) := dk_60 (dk_at dksX3_init_11 6 rfl rfl)
theorem dX3_init_262 : decode cX3_init 262 = .ok (.iload_n 1, 1) := dk_27 (dk_at dksX3_init_11 7 rfl rfl)
theorem dX3_init_263 : decode cX3_init 263 = .ok (.iconst 4, 1) := dk_7 (dk_at dksX3_init_11 8 rfl rfl)
theorem dX3_init_264 : decode cX3_init 264 = .ok (.if_icmp .ge 17, 3) := dk_162 0 17 (dk_at dksX3_init_11 9 rfl rfl)
theorem dX3_init_267 : decode cX3_init 267 = .ok (.aload_n 0, 1) := dk_42 (dk_at dksX3_init_11 12 rfl rfl)
theorem dX3_init_268 : decode cX3_init 268 = .ok (.getfield 99, 3) := dk_180 0 99 (dk_at dksX3_init_11 13 rfl rfl)
theorem dX3_init_271 : decode cX3_init 271 = .ok (.iload_n 1, 1) := dk_27 (dk_at dksX3_init_11 16 rfl rfl)
theorem dX3_init_272 : decode cX3_init 272 = .ok (.bipush (-4), 2) := dk_16 252 (dk_at dksX3_init_11 17 rfl rfl)
theorem dX3_init_274 : decode cX3_init 274 = .ok (.iastore, 1) := dk_79 (dk_at dksX3_init_11 19 rfl rfl)
theorem dX3_init_275 : decode cX3_init 275 = .ok (.iinc 1 1, 3) := dk_132 1 1 (dk_at dksX3_init_11 20 rfl rfl)
theorem dX3_init_278 : decode cX3_init 278 = .ok (.goto (-16), 3) := dk_167 255 240 (dk_at dksX3_init_12 0 rfl rfl)
theorem dX3_init_281 : decode cX3_init 281 = .ok (.aload_n 0, 1) := dk_42 (dk_at dksX3_init_12 3 rfl rfl)
theorem dX3_init_282 : decode cX3_init 282 = .ok (.invokevirtual 108, 3) := dk_182 0 108 (dk_at dksX3_init_12 4 rfl rfl)
theorem dX3_init_285 : decode cX3_init 285 = .ok (.return_, 1) := dk_177 (dk_at dksX3_init_12 7 rfl rfl)
abbrev cX3_freshCounters : ByteArray := prog_11_method_42_code
def yX3_freshCounters : MethodName := ⟨RX3, "freshCounters", "()V"⟩
def dkwX3_freshCounters_1 : List UInt8 := [132, 1, 1, 167, 255, 231, 177]
abbrev dktX3_freshCounters_1 : List UInt8 := dkwX3_freshCounters_1 ++ []
def dkwX3_freshCounters_0 : List UInt8 := [3, 60, 27, 7, 162, 0, 26, 42, 180, 0, 71, 27, 17, 0, 255, 79, 42, 180, 0, 74, 27, 16, 8, 79]
abbrev dktX3_freshCounters_0 : List UInt8 := dkwX3_freshCounters_0 ++ dktX3_freshCounters_1
theorem dksX3_freshCounters_0 : cX3_freshCounters.data.toList.drop 0 = dktX3_freshCounters_0 := by decide +kernel
theorem dksX3_freshCounters_1 : cX3_freshCounters.data.toList.drop 24 = dktX3_freshCounters_1 := dk_seg dksX3_freshCounters_0 24 rfl rfl
theorem dX3_freshCounters_0 : decode cX3_freshCounters 0 = .ok (.iconst 0, 1) := dk_3 (dk_at dksX3_freshCounters_0 0 rfl rfl)
theorem dX3_freshCounters_1 : decode cX3_freshCounters 1 = .ok (.istore_n 1, 1) := dk_60 (dk_at dksX3_freshCounters_0 1 rfl rfl)
theorem dX3_freshCounters_2 : decode cX3_freshCounters 2 = .ok (.iload_n 1, 1) := dk_27 (dk_at dksX3_freshCounters_0 2 rfl rfl)
theorem dX3_freshCounters_3 : decode cX3_freshCounters 3 = .ok (.iconst 4, 1) := dk_7 (dk_at dksX3_freshCounters_0 3 rfl rfl)
theorem dX3_freshCounters_4 : decode cX3_freshCounters 4 = .ok (.if_icmp .ge 26, 3) := dk_162 0 26 (dk_at dksX3_freshCounters_0 4 rfl rfl)
theorem dX3_freshCounters_7 : decode cX3_freshCounters 7 = .ok (.aload_n 0, 1) := dk_42 (dk_at dksX3_freshCounters_0 7 rfl rfl)
theorem dX3_freshCounters_8 : decode cX3_freshCounters 8 = .ok (.getfield 71, 3) := dk_180 0 71 (dk_at dksX3_freshCounters_0 8 rfl rfl)
theorem dX3_freshCounters_11 : decode cX3_freshCounters 11 = .ok (.iload_n 1, 1) := dk_27 (dk_at dksX3_freshCounters_0 11 rfl rfl)
theorem dX3_freshCounters_12 : decode cX3_freshCounters 12 = .ok (.sipush 255, 3) := dk_17 0 255 (dk_at dksX3_freshCounters_0 12 rfl rfl)
theorem dX3_freshCounters_15 : decode cX3_freshCounters 15 = .ok (.iastore, 1) := dk_79 (dk_at dksX3_freshCounters_0 15 rfl rfl)
theorem dX3_freshCounters_16 : decode cX3_freshCounters 16 = .ok (.aload_n 0, 1) := dk_42 (dk_at dksX3_freshCounters_0 16 rfl rfl)
theorem dX3_freshCounters_17 : decode cX3_freshCounters 17 = .ok (.getfield 74, 3) := dk_180 0 74 (dk_at dksX3_freshCounters_0 17 rfl rfl)
theorem dX3_freshCounters_20 : decode cX3_freshCounters 20 = .ok (.iload_n 1, 1) := dk_27 (dk_at dksX3_freshCounters_0 20 rfl rfl)
theorem dX3_freshCounters_21 : decode cX3_freshCounters 21 = .ok (.bipush 8, 2) := dk_16 8 (dk_at dksX3_freshCounters_0 21 rfl rfl)
theorem dX3_freshCounters_23 : decode cX3_freshCounters 23 = .ok (.iastore, 1) := dk_79 (dk_at dksX3_freshCounters_0 23 rfl rfl)
theorem dX3_freshCounters_24 : decode cX3_freshCounters 24 = .ok (.iinc 1 1, 3) := dk_132 1 1 (dk_at dksX3_freshCounters_1 0 rfl rfl)
theorem dX3_freshCounters_27 : decode cX3_freshCounters 27 = .ok (.goto (-25), 3) := dk_167 255 231 (dk_at dksX3_freshCounters_1 3 rfl rfl)
theorem dX3_freshCounters_30 : decode cX3_freshCounters 30 = .ok (.return_, 1) := dk_177 (dk_at dksX3_freshCounters_1 6 rfl rfl)
abbrev cX3_feed : ByteArray := prog_11_method_8_code
def yX3_feed : MethodName := ⟨RX3, "feed", "(J)I"⟩
def dkwX3_feed_2 : List UInt8 := [181, 0, 119, 132, 3, 248, 167, 255, 222, 42, 180, 0, 119, 172]
abbrev dktX3_feed_2 : List UInt8 := dkwX3_feed_2 ++ []
def dkwX3_feed_1 : List UInt8 := [180, 0, 55, 42, 180, 0, 119, 31, 29, 123, 20, 0, 122, 127, 136, 79, 42, 89, 180, 0, 119, 4, 96]
abbrev dktX3_feed_1 : List UInt8 := dkwX3_feed_1 ++ dktX3_feed_2
def dkwX3_feed_0 : List UInt8 := [42, 180, 0, 119, 16, 8, 96, 17, 1, 64, 164, 0, 6, 16, 253, 172, 16, 56, 62, 29, 155, 0, 36, 42]
abbrev dktX3_feed_0 : List UInt8 := dkwX3_feed_0 ++ dktX3_feed_1
theorem dksX3_feed_0 : cX3_feed.data.toList.drop 0 = dktX3_feed_0 := by decide +kernel
theorem dksX3_feed_1 : cX3_feed.data.toList.drop 24 = dktX3_feed_1 := dk_seg dksX3_feed_0 24 rfl rfl
theorem dksX3_feed_2 : cX3_feed.data.toList.drop 47 = dktX3_feed_2 := dk_seg dksX3_feed_1 23 rfl rfl
theorem dX3_feed_0 : decode cX3_feed 0 = .ok (.aload_n 0, 1) := dk_42 (dk_at dksX3_feed_0 0 rfl rfl)
theorem dX3_feed_1 : decode cX3_feed 1 = .ok (.getfield 119, 3) := dk_180 0 119 (dk_at dksX3_feed_0 1 rfl rfl)
theorem dX3_feed_4 : decode cX3_feed 4 = .ok (.bipush 8, 2) := dk_16 8 (dk_at dksX3_feed_0 4 rfl rfl)
theorem dX3_feed_6 : decode cX3_feed 6 = .ok (.iadd, 1) := dk_96 (dk_at dksX3_feed_0 6 rfl rfl)
theorem dX3_feed_7 : decode cX3_feed 7 = .ok (.sipush 320, 3) := dk_17 1 64 (dk_at dksX3_feed_0 7 rfl rfl)
theorem dX3_feed_10 : decode cX3_feed 10 = .ok (.if_icmp .le 6, 3) := dk_164 0 6 (dk_at dksX3_feed_0 10 rfl rfl)
theorem dX3_feed_13 : decode cX3_feed 13 = .ok (.bipush (-3), 2) := dk_16 253 (dk_at dksX3_feed_0 13 rfl rfl)
theorem dX3_feed_15 : decode cX3_feed 15 = .ok (.ireturn, 1) := dk_172 (dk_at dksX3_feed_0 15 rfl rfl)
theorem dX3_feed_16 : decode cX3_feed 16 = .ok (.bipush 56, 2) := dk_16 56 (dk_at dksX3_feed_0 16 rfl rfl)
theorem dX3_feed_18 : decode cX3_feed 18 = .ok (.istore_n 3, 1) := dk_62 (dk_at dksX3_feed_0 18 rfl rfl)
theorem dX3_feed_19 : decode cX3_feed 19 = .ok (.iload_n 3, 1) := dk_29 (dk_at dksX3_feed_0 19 rfl rfl)
theorem dX3_feed_20 : decode cX3_feed 20 = .ok (.ifCond .lt 36, 3) := dk_155 0 36 (dk_at dksX3_feed_0 20 rfl rfl)
theorem dX3_feed_23 : decode cX3_feed 23 = .ok (.aload_n 0, 1) := dk_42 (dk_at dksX3_feed_0 23 rfl rfl)
theorem dX3_feed_24 : decode cX3_feed 24 = .ok (.getfield 55, 3) := dk_180 0 55 (dk_at dksX3_feed_1 0 rfl rfl)
theorem dX3_feed_27 : decode cX3_feed 27 = .ok (.aload_n 0, 1) := dk_42 (dk_at dksX3_feed_1 3 rfl rfl)
theorem dX3_feed_28 : decode cX3_feed 28 = .ok (.getfield 119, 3) := dk_180 0 119 (dk_at dksX3_feed_1 4 rfl rfl)
theorem dX3_feed_31 : decode cX3_feed 31 = .ok (.lload_n 1, 1) := dk_31 (dk_at dksX3_feed_1 7 rfl rfl)
theorem dX3_feed_32 : decode cX3_feed 32 = .ok (.iload_n 3, 1) := dk_29 (dk_at dksX3_feed_1 8 rfl rfl)
theorem dX3_feed_33 : decode cX3_feed 33 = .ok (.lshr, 1) := dk_123 (dk_at dksX3_feed_1 9 rfl rfl)
theorem dX3_feed_34 : decode cX3_feed 34 = .ok (.ldc2_w 122, 3) := dk_20 0 122 (dk_at dksX3_feed_1 10 rfl rfl)
theorem dX3_feed_37 : decode cX3_feed 37 = .ok (.land, 1) := dk_127 (dk_at dksX3_feed_1 13 rfl rfl)
theorem dX3_feed_38 : decode cX3_feed 38 = .ok (.l2i, 1) := dk_136 (dk_at dksX3_feed_1 14 rfl rfl)
theorem dX3_feed_39 : decode cX3_feed 39 = .ok (.iastore, 1) := dk_79 (dk_at dksX3_feed_1 15 rfl rfl)
theorem dX3_feed_40 : decode cX3_feed 40 = .ok (.aload_n 0, 1) := dk_42 (dk_at dksX3_feed_1 16 rfl rfl)
theorem dX3_feed_41 : decode cX3_feed 41 = .ok (.dup, 1) := dk_89 (dk_at dksX3_feed_1 17 rfl rfl)
theorem dX3_feed_42 : decode cX3_feed 42 = .ok (.getfield 119, 3) := dk_180 0 119 (dk_at dksX3_feed_1 18 rfl rfl)
theorem dX3_feed_45 : decode cX3_feed 45 = .ok (.iconst 1, 1) := dk_4 (dk_at dksX3_feed_1 21 rfl rfl)
theorem dX3_feed_46 : decode cX3_feed 46 = .ok (.iadd, 1) := dk_96 (dk_at dksX3_feed_1 22 rfl rfl)
theorem dX3_feed_47 : decode cX3_feed 47 = .ok (.putfield 119, 3) := dk_181 0 119 (dk_at dksX3_feed_2 0 rfl rfl)
theorem dX3_feed_50 : decode cX3_feed 50 = .ok (.iinc 3 (-8), 3) := dk_132 3 248 (dk_at dksX3_feed_2 3 rfl rfl)
theorem dX3_feed_53 : decode cX3_feed 53 = .ok (.goto (-34), 3) := dk_167 255 222 (dk_at dksX3_feed_2 6 rfl rfl)
theorem dX3_feed_56 : decode cX3_feed 56 = .ok (.aload_n 0, 1) := dk_42 (dk_at dksX3_feed_2 9 rfl rfl)
theorem dX3_feed_57 : decode cX3_feed 57 = .ok (.getfield 119, 3) := dk_180 0 119 (dk_at dksX3_feed_2 10 rfl rfl)
theorem dX3_feed_60 : decode cX3_feed 60 = .ok (.ireturn, 1) := dk_172 (dk_at dksX3_feed_2 13 rfl rfl)
abbrev cX3_end : ByteArray := prog_11_method_9_code
def yX3_end : MethodName := ⟨RX3, "end", "(I)I"⟩
def dkwX3_end_1 : List UInt8 := [181, 0, 119, 28, 172]
abbrev dktX3_end_1 : List UInt8 := dkwX3_end_1 ++ []
def dkwX3_end_0 : List UInt8 := [27, 133, 9, 42, 180, 0, 119, 133, 184, 0, 124, 154, 0, 5, 2, 172, 42, 180, 0, 119, 61, 42, 27]
abbrev dktX3_end_0 : List UInt8 := dkwX3_end_0 ++ dktX3_end_1
theorem dksX3_end_0 : cX3_end.data.toList.drop 0 = dktX3_end_0 := by decide +kernel
theorem dksX3_end_1 : cX3_end.data.toList.drop 23 = dktX3_end_1 := dk_seg dksX3_end_0 23 rfl rfl
theorem dX3_end_0 : decode cX3_end 0 = .ok (.iload_n 1, 1) := dk_27 (dk_at dksX3_end_0 0 rfl rfl)
theorem dX3_end_1 : decode cX3_end 1 = .ok (.i2l, 1) := dk_133 (dk_at dksX3_end_0 1 rfl rfl)
theorem dX3_end_2 : decode cX3_end 2 = .ok (.lconst 0, 1) := dk_9 (dk_at dksX3_end_0 2 rfl rfl)
theorem dX3_end_3 : decode cX3_end 3 = .ok (.aload_n 0, 1) := dk_42 (dk_at dksX3_end_0 3 rfl rfl)
theorem dX3_end_4 : decode cX3_end 4 = .ok (.getfield 119, 3) := dk_180 0 119 (dk_at dksX3_end_0 4 rfl rfl)
theorem dX3_end_7 : decode cX3_end 7 = .ok (.i2l, 1) := dk_133 (dk_at dksX3_end_0 7 rfl rfl)
theorem dX3_end_8 : decode cX3_end 8 = .ok (.invokestatic 124, 3) := dk_184 0 124 (dk_at dksX3_end_0 8 rfl rfl)
theorem dX3_end_11 : decode cX3_end 11 = .ok (.ifCond .ne 5, 3) := dk_154 0 5 (dk_at dksX3_end_0 11 rfl rfl)
theorem dX3_end_14 : decode cX3_end 14 = .ok (.iconst (-1), 1) := dk_2 (dk_at dksX3_end_0 14 rfl rfl)
theorem dX3_end_15 : decode cX3_end 15 = .ok (.ireturn, 1) := dk_172 (dk_at dksX3_end_0 15 rfl rfl)
theorem dX3_end_16 : decode cX3_end 16 = .ok (.aload_n 0, 1) := dk_42 (dk_at dksX3_end_0 16 rfl rfl)
theorem dX3_end_17 : decode cX3_end 17 = .ok (.getfield 119, 3) := dk_180 0 119 (dk_at dksX3_end_0 17 rfl rfl)
theorem dX3_end_20 : decode cX3_end 20 = .ok (.istore_n 2, 1) := dk_61 (dk_at dksX3_end_0 20 rfl rfl)
theorem dX3_end_21 : decode cX3_end 21 = .ok (.aload_n 0, 1) := dk_42 (dk_at dksX3_end_0 21 rfl rfl)
theorem dX3_end_22 : decode cX3_end 22 = .ok (.iload_n 1, 1) := dk_27 (dk_at dksX3_end_0 22 rfl rfl)
theorem dX3_end_23 : decode cX3_end 23 = .ok (.putfield 119, 3) := dk_181 0 119 (dk_at dksX3_end_1 0 rfl rfl)
theorem dX3_end_26 : decode cX3_end 26 = .ok (.iload_n 2, 1) := dk_28 (dk_at dksX3_end_1 3 rfl rfl)
theorem dX3_end_27 : decode cX3_end 27 = .ok (.ireturn, 1) := dk_172 (dk_at dksX3_end_1 4 rfl rfl)
abbrev cX3_in : ByteArray := prog_11_method_3_code
def yX3_in : MethodName := ⟨RX3, "in", "(JJJ)Z"⟩
def dkwX3_in_0 : List UInt8 := [30, 32, 148, 155, 0, 14, 30, 22, 4, 148, 157, 0, 7, 4, 167, 0, 4, 3, 172]
abbrev dktX3_in_0 : List UInt8 := dkwX3_in_0 ++ []
theorem dksX3_in_0 : cX3_in.data.toList.drop 0 = dktX3_in_0 := by decide +kernel
theorem dX3_in_0 : decode cX3_in 0 = .ok (.lload_n 0, 1) := dk_30 (dk_at dksX3_in_0 0 rfl rfl)
theorem dX3_in_1 : decode cX3_in 1 = .ok (.lload_n 2, 1) := dk_32 (dk_at dksX3_in_0 1 rfl rfl)
theorem dX3_in_2 : decode cX3_in 2 = .ok (.lcmp, 1) := dk_148 (dk_at dksX3_in_0 2 rfl rfl)
theorem dX3_in_3 : decode cX3_in 3 = .ok (.ifCond .lt 14, 3) := dk_155 0 14 (dk_at dksX3_in_0 3 rfl rfl)
theorem dX3_in_6 : decode cX3_in 6 = .ok (.lload_n 0, 1) := dk_30 (dk_at dksX3_in_0 6 rfl rfl)
theorem dX3_in_7 : decode cX3_in 7 = .ok (.lload 4, 2) := dk_22 4 (dk_at dksX3_in_0 7 rfl rfl)
theorem dX3_in_9 : decode cX3_in 9 = .ok (.lcmp, 1) := dk_148 (dk_at dksX3_in_0 9 rfl rfl)
theorem dX3_in_10 : decode cX3_in 10 = .ok (.ifCond .gt 7, 3) := dk_157 0 7 (dk_at dksX3_in_0 10 rfl rfl)
theorem dX3_in_13 : decode cX3_in 13 = .ok (.iconst 1, 1) := dk_4 (dk_at dksX3_in_0 13 rfl rfl)
theorem dX3_in_14 : decode cX3_in 14 = .ok (.goto 4, 3) := dk_167 0 4 (dk_at dksX3_in_0 14 rfl rfl)
theorem dX3_in_17 : decode cX3_in 17 = .ok (.iconst 0, 1) := dk_3 (dk_at dksX3_in_0 17 rfl rfl)
theorem dX3_in_18 : decode cX3_in 18 = .ok (.ireturn, 1) := dk_172 (dk_at dksX3_in_0 18 rfl rfl)
abbrev cX3_program : ByteArray := prog_11_method_26_code
def yX3_program : MethodName := ⟨RX3, "program", "()I"⟩
def dkwX3_program_6 : List UInt8 := [16, 246, 42, 180, 0, 134, 100, 172, 42, 182, 0, 240, 42, 180, 0, 203, 172]
abbrev dktX3_program_6 : List UInt8 := dkwX3_program_6 ++ []
def dkwX3_program_5 : List UInt8 := [181, 0, 128, 42, 42, 180, 0, 119, 181, 0, 134, 42, 3, 181, 0, 119, 42, 180, 0, 128, 158, 0, 11]
abbrev dktX3_program_5 : List UInt8 := dkwX3_program_5 ++ dktX3_program_6
def dkwX3_program_4 : List UInt8 := [132, 3, 1, 167, 255, 237, 42, 180, 0, 128, 154, 0, 25, 31, 20, 0, 238, 148, 158, 0, 17, 42, 16, 6]
abbrev dktX3_program_4 : List UInt8 := dkwX3_program_4 ++ dktX3_program_5
def dkwX3_program_3 : List UInt8 := [182, 0, 162, 9, 64, 3, 62, 29, 42, 180, 0, 175, 162, 0, 17, 31, 42, 29, 182, 0, 215, 97, 64]
abbrev dktX3_program_3 : List UInt8 := dkwX3_program_3 ++ dktX3_program_4
def dkwX3_program_2 : List UInt8 := [153, 0, 10, 42, 182, 0, 235, 167, 255, 238, 42, 42, 180, 0, 181, 154, 0, 7, 4, 167, 0, 4, 3, 5]
abbrev dktX3_program_2 : List UInt8 := dkwX3_program_2 ++ dktX3_program_3
def dkwX3_program_1 : List UInt8 := [181, 0, 184, 42, 3, 181, 0, 181, 42, 182, 0, 166, 42, 180, 0, 128, 154, 0, 17, 42, 180, 0, 148]
abbrev dktX3_program_1 : List UInt8 := dkwX3_program_1 ++ dktX3_program_2
def dkwX3_program_0 : List UInt8 := [42, 3, 181, 0, 128, 42, 3, 181, 0, 137, 42, 3, 181, 0, 175, 42, 3, 181, 0, 187, 42, 3]
abbrev dktX3_program_0 : List UInt8 := dkwX3_program_0 ++ dktX3_program_1
theorem dksX3_program_0 : cX3_program.data.toList.drop 0 = dktX3_program_0 := by decide +kernel
theorem dksX3_program_1 : cX3_program.data.toList.drop 22 = dktX3_program_1 := dk_seg dksX3_program_0 22 rfl rfl
theorem dksX3_program_2 : cX3_program.data.toList.drop 45 = dktX3_program_2 := dk_seg dksX3_program_1 23 rfl rfl
theorem dksX3_program_3 : cX3_program.data.toList.drop 69 = dktX3_program_3 := dk_seg dksX3_program_2 24 rfl rfl
theorem dksX3_program_4 : cX3_program.data.toList.drop 92 = dktX3_program_4 := dk_seg dksX3_program_3 23 rfl rfl
theorem dksX3_program_5 : cX3_program.data.toList.drop 116 = dktX3_program_5 := dk_seg dksX3_program_4 24 rfl rfl
theorem dksX3_program_6 : cX3_program.data.toList.drop 139 = dktX3_program_6 := dk_seg dksX3_program_5 23 rfl rfl
theorem dX3_program_0 : decode cX3_program 0 = .ok (.aload_n 0, 1) := dk_42 (dk_at dksX3_program_0 0 rfl rfl)
theorem dX3_program_1 : decode cX3_program 1 = .ok (.iconst 0, 1) := dk_3 (dk_at dksX3_program_0 1 rfl rfl)
theorem dX3_program_2 : decode cX3_program 2 = .ok (.putfield 128, 3) := dk_181 0 128 (dk_at dksX3_program_0 2 rfl rfl)
theorem dX3_program_5 : decode cX3_program 5 = .ok (.aload_n 0, 1) := dk_42 (dk_at dksX3_program_0 5 rfl rfl)
theorem dX3_program_6 : decode cX3_program 6 = .ok (.iconst 0, 1) := dk_3 (dk_at dksX3_program_0 6 rfl rfl)
theorem dX3_program_7 : decode cX3_program 7 = .ok (.putfield 137, 3) := dk_181 0 137 (dk_at dksX3_program_0 7 rfl rfl)
theorem dX3_program_10 : decode cX3_program 10 = .ok (.aload_n 0, 1) := dk_42 (dk_at dksX3_program_0 10 rfl rfl)
theorem dX3_program_11 : decode cX3_program 11 = .ok (.iconst 0, 1) := dk_3 (dk_at dksX3_program_0 11 rfl rfl)
theorem dX3_program_12 : decode cX3_program 12 = .ok (.putfield 175, 3) := dk_181 0 175 (dk_at dksX3_program_0 12 rfl rfl)
theorem dX3_program_15 : decode cX3_program 15 = .ok (.aload_n 0, 1) := dk_42 (dk_at dksX3_program_0 15 rfl rfl)
theorem dX3_program_16 : decode cX3_program 16 = .ok (.iconst 0, 1) := dk_3 (dk_at dksX3_program_0 16 rfl rfl)
theorem dX3_program_17 : decode cX3_program 17 = .ok (.putfield 187, 3) := dk_181 0 187 (dk_at dksX3_program_0 17 rfl rfl)
theorem dX3_program_20 : decode cX3_program 20 = .ok (.aload_n 0, 1) := dk_42 (dk_at dksX3_program_0 20 rfl rfl)
theorem dX3_program_21 : decode cX3_program 21 = .ok (.iconst 0, 1) := dk_3 (dk_at dksX3_program_0 21 rfl rfl)
theorem dX3_program_22 : decode cX3_program 22 = .ok (.putfield 184, 3) := dk_181 0 184 (dk_at dksX3_program_1 0 rfl rfl)
theorem dX3_program_25 : decode cX3_program 25 = .ok (.aload_n 0, 1) := dk_42 (dk_at dksX3_program_1 3 rfl rfl)
theorem dX3_program_26 : decode cX3_program 26 = .ok (.iconst 0, 1) := dk_3 (dk_at dksX3_program_1 4 rfl rfl)
theorem dX3_program_27 : decode cX3_program 27 = .ok (.putfield 181, 3) := dk_181 0 181 (dk_at dksX3_program_1 5 rfl rfl)
theorem dX3_program_30 : decode cX3_program 30 = .ok (.aload_n 0, 1) := dk_42 (dk_at dksX3_program_1 8 rfl rfl)
theorem dX3_program_31 : decode cX3_program 31 = .ok (.invokevirtual 166, 3) := dk_182 0 166 (dk_at dksX3_program_1 9 rfl rfl)
theorem dX3_program_34 : decode cX3_program 34 = .ok (.aload_n 0, 1) := dk_42 (dk_at dksX3_program_1 12 rfl rfl)
theorem dX3_program_35 : decode cX3_program 35 = .ok (.getfield 128, 3) := dk_180 0 128 (dk_at dksX3_program_1 13 rfl rfl)
theorem dX3_program_38 : decode cX3_program 38 = .ok (.ifCond .ne 17, 3) := dk_154 0 17 (dk_at dksX3_program_1 16 rfl rfl)
theorem dX3_program_41 : decode cX3_program 41 = .ok (.aload_n 0, 1) := dk_42 (dk_at dksX3_program_1 19 rfl rfl)
theorem dX3_program_42 : decode cX3_program 42 = .ok (.getfield 148, 3) := dk_180 0 148 (dk_at dksX3_program_1 20 rfl rfl)
theorem dX3_program_45 : decode cX3_program 45 = .ok (.ifCond .eq 10, 3) := dk_153 0 10 (dk_at dksX3_program_2 0 rfl rfl)
theorem dX3_program_48 : decode cX3_program 48 = .ok (.aload_n 0, 1) := dk_42 (dk_at dksX3_program_2 3 rfl rfl)
theorem dX3_program_49 : decode cX3_program 49 = .ok (.invokevirtual 235, 3) := dk_182 0 235 (dk_at dksX3_program_2 4 rfl rfl)
theorem dX3_program_52 : decode cX3_program 52 = .ok (.goto (-18), 3) := dk_167 255 238 (dk_at dksX3_program_2 7 rfl rfl)
theorem dX3_program_55 : decode cX3_program 55 = .ok (.aload_n 0, 1) := dk_42 (dk_at dksX3_program_2 10 rfl rfl)
theorem dX3_program_56 : decode cX3_program 56 = .ok (.aload_n 0, 1) := dk_42 (dk_at dksX3_program_2 11 rfl rfl)
theorem dX3_program_57 : decode cX3_program 57 = .ok (.getfield 181, 3) := dk_180 0 181 (dk_at dksX3_program_2 12 rfl rfl)
theorem dX3_program_60 : decode cX3_program 60 = .ok (.ifCond .ne 7, 3) := dk_154 0 7 (dk_at dksX3_program_2 15 rfl rfl)
theorem dX3_program_63 : decode cX3_program 63 = .ok (.iconst 1, 1) := dk_4 (dk_at dksX3_program_2 18 rfl rfl)
theorem dX3_program_64 : decode cX3_program 64 = .ok (.goto 4, 3) := dk_167 0 4 (dk_at dksX3_program_2 19 rfl rfl)
theorem dX3_program_67 : decode cX3_program 67 = .ok (.iconst 0, 1) := dk_3 (dk_at dksX3_program_2 22 rfl rfl)
theorem dX3_program_68 : decode cX3_program 68 = .ok (.iconst 2, 1) := dk_5 (dk_at dksX3_program_2 23 rfl rfl)
theorem dX3_program_69 : decode cX3_program 69 = .ok (.invokevirtual 162, 3) := dk_182 0 162 (dk_at dksX3_program_3 0 rfl rfl)
theorem dX3_program_72 : decode cX3_program 72 = .ok (.lconst 0, 1) := dk_9 (dk_at dksX3_program_3 3 rfl rfl)
theorem dX3_program_73 : decode cX3_program 73 = .ok (.lstore_n 1, 1) := dk_64 (dk_at dksX3_program_3 4 rfl rfl)
theorem dX3_program_74 : decode cX3_program 74 = .ok (.iconst 0, 1) := dk_3 (dk_at dksX3_program_3 5 rfl rfl)
theorem dX3_program_75 : decode cX3_program 75 = .ok (.istore_n 3, 1) := dk_62 (dk_at dksX3_program_3 6 rfl rfl)
theorem dX3_program_76 : decode cX3_program 76 = .ok (.iload_n 3, 1) := dk_29 (dk_at dksX3_program_3 7 rfl rfl)
theorem dX3_program_77 : decode cX3_program 77 = .ok (.aload_n 0, 1) := dk_42 (dk_at dksX3_program_3 8 rfl rfl)
theorem dX3_program_78 : decode cX3_program 78 = .ok (.getfield 175, 3) := dk_180 0 175 (dk_at dksX3_program_3 9 rfl rfl)
theorem dX3_program_81 : decode cX3_program 81 = .ok (.if_icmp .ge 17, 3) := dk_162 0 17 (dk_at dksX3_program_3 12 rfl rfl)
theorem dX3_program_84 : decode cX3_program 84 = .ok (.lload_n 1, 1) := dk_31 (dk_at dksX3_program_3 15 rfl rfl)
theorem dX3_program_85 : decode cX3_program 85 = .ok (.aload_n 0, 1) := dk_42 (dk_at dksX3_program_3 16 rfl rfl)
theorem dX3_program_86 : decode cX3_program 86 = .ok (.iload_n 3, 1) := dk_29 (dk_at dksX3_program_3 17 rfl rfl)
theorem dX3_program_87 : decode cX3_program 87 = .ok (.invokevirtual 215, 3) := dk_182 0 215 (dk_at dksX3_program_3 18 rfl rfl)
theorem dX3_program_90 : decode cX3_program 90 = .ok (.ladd, 1) := dk_97 (dk_at dksX3_program_3 21 rfl rfl)
theorem dX3_program_91 : decode cX3_program 91 = .ok (.lstore_n 1, 1) := dk_64 (dk_at dksX3_program_3 22 rfl rfl)
theorem dX3_program_92 : decode cX3_program 92 = .ok (.iinc 3 1, 3) := dk_132 3 1 (dk_at dksX3_program_4 0 rfl rfl)
theorem dX3_program_95 : decode cX3_program 95 = .ok (.goto (-19), 3) := dk_167 255 237 (dk_at dksX3_program_4 3 rfl rfl)
theorem dX3_program_98 : decode cX3_program 98 = .ok (.aload_n 0, 1) := dk_42 (dk_at dksX3_program_4 6 rfl rfl)
theorem dX3_program_99 : decode cX3_program 99 = .ok (.getfield 128, 3) := dk_180 0 128 (dk_at dksX3_program_4 7 rfl rfl)
theorem dX3_program_102 : decode cX3_program 102 = .ok (.ifCond .ne 25, 3) := dk_154 0 25 (dk_at dksX3_program_4 10 rfl rfl)
theorem dX3_program_105 : decode cX3_program 105 = .ok (.lload_n 1, 1) := dk_31 (dk_at dksX3_program_4 13 rfl rfl)
theorem dX3_program_106 : decode cX3_program 106 = .ok (.ldc2_w 238, 3) := dk_20 0 238 (dk_at dksX3_program_4 14 rfl rfl)
theorem dX3_program_109 : decode cX3_program 109 = .ok (.lcmp, 1) := dk_148 (dk_at dksX3_program_4 17 rfl rfl)
theorem dX3_program_110 : decode cX3_program 110 = .ok (.ifCond .le 17, 3) := dk_158 0 17 (dk_at dksX3_program_4 18 rfl rfl)
theorem dX3_program_113 : decode cX3_program 113 = .ok (.aload_n 0, 1) := dk_42 (dk_at dksX3_program_4 21 rfl rfl)
theorem dX3_program_114 : decode cX3_program 114 = .ok (.bipush 6, 2) := dk_16 6 (dk_at dksX3_program_4 22 rfl rfl)
theorem dX3_program_116 : decode cX3_program 116 = .ok (.putfield 128, 3) := dk_181 0 128 (dk_at dksX3_program_5 0 rfl rfl)
theorem dX3_program_119 : decode cX3_program 119 = .ok (.aload_n 0, 1) := dk_42 (dk_at dksX3_program_5 3 rfl rfl)
theorem dX3_program_120 : decode cX3_program 120 = .ok (.aload_n 0, 1) := dk_42 (dk_at dksX3_program_5 4 rfl rfl)
theorem dX3_program_121 : decode cX3_program 121 = .ok (.getfield 119, 3) := dk_180 0 119 (dk_at dksX3_program_5 5 rfl rfl)
theorem dX3_program_124 : decode cX3_program 124 = .ok (.putfield 134, 3) := dk_181 0 134 (dk_at dksX3_program_5 8 rfl rfl)
theorem dX3_program_127 : decode cX3_program 127 = .ok (.aload_n 0, 1) := dk_42 (dk_at dksX3_program_5 11 rfl rfl)
theorem dX3_program_128 : decode cX3_program 128 = .ok (.iconst 0, 1) := dk_3 (dk_at dksX3_program_5 12 rfl rfl)
theorem dX3_program_129 : decode cX3_program 129 = .ok (.putfield 119, 3) := dk_181 0 119 (dk_at dksX3_program_5 13 rfl rfl)
theorem dX3_program_132 : decode cX3_program 132 = .ok (.aload_n 0, 1) := dk_42 (dk_at dksX3_program_5 16 rfl rfl)
theorem dX3_program_133 : decode cX3_program 133 = .ok (.getfield 128, 3) := dk_180 0 128 (dk_at dksX3_program_5 17 rfl rfl)
theorem dX3_program_136 : decode cX3_program 136 = .ok (.ifCond .le 11, 3) := dk_158 0 11 (dk_at dksX3_program_5 20 rfl rfl)
theorem dX3_program_139 : decode cX3_program 139 = .ok (.bipush (-10), 2) := dk_16 246 (dk_at dksX3_program_6 0 rfl rfl)
theorem dX3_program_141 : decode cX3_program 141 = .ok (.aload_n 0, 1) := dk_42 (dk_at dksX3_program_6 2 rfl rfl)
theorem dX3_program_142 : decode cX3_program 142 = .ok (.getfield 134, 3) := dk_180 0 134 (dk_at dksX3_program_6 3 rfl rfl)
theorem dX3_program_145 : decode cX3_program 145 = .ok (.isub, 1) := dk_100 (dk_at dksX3_program_6 6 rfl rfl)
theorem dX3_program_146 : decode cX3_program 146 = .ok (.ireturn, 1) := dk_172 (dk_at dksX3_program_6 7 rfl rfl)
theorem dX3_program_147 : decode cX3_program 147 = .ok (.aload_n 0, 1) := dk_42 (dk_at dksX3_program_6 8 rfl rfl)
theorem dX3_program_148 : decode cX3_program 148 = .ok (.invokevirtual 240, 3) := dk_182 0 240 (dk_at dksX3_program_6 9 rfl rfl)
theorem dX3_program_151 : decode cX3_program 151 = .ok (.aload_n 0, 1) := dk_42 (dk_at dksX3_program_6 12 rfl rfl)
theorem dX3_program_152 : decode cX3_program 152 = .ok (.getfield 203, 3) := dk_180 0 203 (dk_at dksX3_program_6 13 rfl rfl)
theorem dX3_program_155 : decode cX3_program 155 = .ok (.ireturn, 1) := dk_172 (dk_at dksX3_program_6 16 rfl rfl)
abbrev cX3_next : ByteArray := prog_11_method_14_code
def yX3_next : MethodName := ⟨RX3, "next", "()V"⟩
def dkwX3_next_11 : List UInt8 := [182, 0, 162, 42, 89, 180, 0, 137, 4, 96, 181, 0, 137, 177]
abbrev dktX3_next_11 : List UInt8 := dkwX3_next_11 ++ []
def dkwX3_next_10 : List UInt8 := [182, 0, 162, 167, 0, 34, 42, 6, 181, 0, 148, 42, 27, 16, 59, 160, 0, 7, 4, 167, 0, 4, 3, 4]
abbrev dktX3_next_10 : List UInt8 := dkwX3_next_10 ++ dktX3_next_11
def dkwX3_next_9 : List UInt8 := [167, 255, 182, 42, 42, 180, 0, 137, 42, 180, 0, 131, 100, 5, 163, 0, 7, 4, 167, 0, 4, 3, 4]
abbrev dktX3_next_9 : List UInt8 := dkwX3_next_9 ++ dktX3_next_10
def dkwX3_next_8 : List UInt8 := [96, 16, 48, 100, 167, 0, 7, 42, 180, 0, 159, 181, 0, 159, 42, 89, 180, 0, 137, 4, 96, 181, 0, 137]
abbrev dktX3_next_8 : List UInt8 := dkwX3_next_8 ++ dktX3_next_9
def dkwX3_next_7 : List UInt8 := [42, 180, 0, 131, 100, 5, 162, 0, 25, 16, 10, 42, 180, 0, 159, 104, 42, 42, 180, 0, 137, 182, 0, 140]
abbrev dktX3_next_7 : List UInt8 := dkwX3_next_7 ++ dktX3_next_8
def dkwX3_next_6 : List UInt8 := [180, 0, 137, 182, 0, 140, 133, 20, 0, 155, 20, 0, 157, 184, 0, 124, 153, 0, 59, 42, 42, 180, 0, 137]
abbrev dktX3_next_6 : List UInt8 := dkwX3_next_6 ++ dktX3_next_7
def dkwX3_next_5 : List UInt8 := [20, 0, 155, 20, 0, 157, 184, 0, 124, 153, 0, 116, 42, 5, 181, 0, 148, 42, 3, 181, 0, 159, 42, 42]
abbrev dktX3_next_5 : List UInt8 := dkwX3_next_5 ++ dktX3_next_6
def dkwX3_next_4 : List UInt8 := [20, 0, 153, 184, 0, 124, 153, 0, 174, 42, 89, 180, 0, 137, 4, 96, 181, 0, 137, 167, 255, 225, 27, 133]
abbrev dktX3_next_4 : List UInt8 := dkwX3_next_4 ++ dktX3_next_5
def dkwX3_next_3 : List UInt8 := [184, 0, 124, 153, 0, 42, 42, 4, 181, 0, 148, 42, 42, 180, 0, 137, 182, 0, 140, 133, 20, 0, 151]
abbrev dktX3_next_3 : List UInt8 := dkwX3_next_3 ++ dktX3_next_4
def dkwX3_next_2 : List UInt8 := [182, 0, 140, 60, 27, 156, 0, 11, 42, 3, 181, 0, 148, 167, 0, 214, 27, 133, 20, 0, 151, 20, 0, 153]
abbrev dktX3_next_2 : List UInt8 := dkwX3_next_2 ++ dktX3_next_3
def dkwX3_next_1 : List UInt8 := [180, 0, 137, 4, 96, 181, 0, 137, 167, 255, 233, 42, 42, 180, 0, 137, 181, 0, 131, 42, 42, 180, 0, 137]
abbrev dktX3_next_1 : List UInt8 := dkwX3_next_1 ++ dktX3_next_2
def dkwX3_next_0 : List UInt8 := [42, 180, 0, 128, 158, 0, 4, 177, 42, 42, 180, 0, 137, 182, 0, 140, 16, 32, 160, 0, 16, 42, 89]
abbrev dktX3_next_0 : List UInt8 := dkwX3_next_0 ++ dktX3_next_1
theorem dksX3_next_0 : cX3_next.data.toList.drop 0 = dktX3_next_0 := by decide +kernel
theorem dksX3_next_1 : cX3_next.data.toList.drop 23 = dktX3_next_1 := dk_seg dksX3_next_0 23 rfl rfl
theorem dksX3_next_2 : cX3_next.data.toList.drop 47 = dktX3_next_2 := dk_seg dksX3_next_1 24 rfl rfl
theorem dksX3_next_3 : cX3_next.data.toList.drop 71 = dktX3_next_3 := dk_seg dksX3_next_2 24 rfl rfl
theorem dksX3_next_4 : cX3_next.data.toList.drop 94 = dktX3_next_4 := dk_seg dksX3_next_3 23 rfl rfl
theorem dksX3_next_5 : cX3_next.data.toList.drop 118 = dktX3_next_5 := dk_seg dksX3_next_4 24 rfl rfl
theorem dksX3_next_6 : cX3_next.data.toList.drop 142 = dktX3_next_6 := dk_seg dksX3_next_5 24 rfl rfl
theorem dksX3_next_7 : cX3_next.data.toList.drop 166 = dktX3_next_7 := dk_seg dksX3_next_6 24 rfl rfl
theorem dksX3_next_8 : cX3_next.data.toList.drop 190 = dktX3_next_8 := dk_seg dksX3_next_7 24 rfl rfl
theorem dksX3_next_9 : cX3_next.data.toList.drop 214 = dktX3_next_9 := dk_seg dksX3_next_8 24 rfl rfl
theorem dksX3_next_10 : cX3_next.data.toList.drop 237 = dktX3_next_10 := dk_seg dksX3_next_9 23 rfl rfl
theorem dksX3_next_11 : cX3_next.data.toList.drop 261 = dktX3_next_11 := dk_seg dksX3_next_10 24 rfl rfl
theorem dX3_next_0 : decode cX3_next 0 = .ok (.aload_n 0, 1) := dk_42 (dk_at dksX3_next_0 0 rfl rfl)
theorem dX3_next_1 : decode cX3_next 1 = .ok (.getfield 128, 3) := dk_180 0 128 (dk_at dksX3_next_0 1 rfl rfl)
theorem dX3_next_4 : decode cX3_next 4 = .ok (.ifCond .le 4, 3) := dk_158 0 4 (dk_at dksX3_next_0 4 rfl rfl)
theorem dX3_next_7 : decode cX3_next 7 = .ok (.return_, 1) := dk_177 (dk_at dksX3_next_0 7 rfl rfl)
theorem dX3_next_8 : decode cX3_next 8 = .ok (.aload_n 0, 1) := dk_42 (dk_at dksX3_next_0 8 rfl rfl)
theorem dX3_next_9 : decode cX3_next 9 = .ok (.aload_n 0, 1) := dk_42 (dk_at dksX3_next_0 9 rfl rfl)
theorem dX3_next_10 : decode cX3_next 10 = .ok (.getfield 137, 3) := dk_180 0 137 (dk_at dksX3_next_0 10 rfl rfl)
theorem dX3_next_13 : decode cX3_next 13 = .ok (.invokevirtual 140, 3) := dk_182 0 140 (dk_at dksX3_next_0 13 rfl rfl)
theorem dX3_next_16 : decode cX3_next 16 = .ok (.bipush 32, 2) := dk_16 32 (dk_at dksX3_next_0 16 rfl rfl)
theorem dX3_next_18 : decode cX3_next 18 = .ok (.if_icmp .ne 16, 3) := dk_160 0 16 (dk_at dksX3_next_0 18 rfl rfl)
theorem dX3_next_21 : decode cX3_next 21 = .ok (.aload_n 0, 1) := dk_42 (dk_at dksX3_next_0 21 rfl rfl)
theorem dX3_next_22 : decode cX3_next 22 = .ok (.dup, 1) := dk_89 (dk_at dksX3_next_0 22 rfl rfl)
theorem dX3_next_23 : decode cX3_next 23 = .ok (.getfield 137, 3) := dk_180 0 137 (dk_at dksX3_next_1 0 rfl rfl)
theorem dX3_next_26 : decode cX3_next 26 = .ok (.iconst 1, 1) := dk_4 (dk_at dksX3_next_1 3 rfl rfl)
theorem dX3_next_27 : decode cX3_next 27 = .ok (.iadd, 1) := dk_96 (dk_at dksX3_next_1 4 rfl rfl)
theorem dX3_next_28 : decode cX3_next 28 = .ok (.putfield 137, 3) := dk_181 0 137 (dk_at dksX3_next_1 5 rfl rfl)
theorem dX3_next_31 : decode cX3_next 31 = .ok (.goto (-23), 3) := dk_167 255 233 (dk_at dksX3_next_1 8 rfl rfl)
theorem dX3_next_34 : decode cX3_next 34 = .ok (.aload_n 0, 1) := dk_42 (dk_at dksX3_next_1 11 rfl rfl)
theorem dX3_next_35 : decode cX3_next 35 = .ok (.aload_n 0, 1) := dk_42 (dk_at dksX3_next_1 12 rfl rfl)
theorem dX3_next_36 : decode cX3_next 36 = .ok (.getfield 137, 3) := dk_180 0 137 (dk_at dksX3_next_1 13 rfl rfl)
theorem dX3_next_39 : decode cX3_next 39 = .ok (.putfield 131, 3) := dk_181 0 131 (dk_at dksX3_next_1 16 rfl rfl)
theorem dX3_next_42 : decode cX3_next 42 = .ok (.aload_n 0, 1) := dk_42 (dk_at dksX3_next_1 19 rfl rfl)
theorem dX3_next_43 : decode cX3_next 43 = .ok (.aload_n 0, 1) := dk_42 (dk_at dksX3_next_1 20 rfl rfl)
theorem dX3_next_44 : decode cX3_next 44 = .ok (.getfield 137, 3) := dk_180 0 137 (dk_at dksX3_next_1 21 rfl rfl)
theorem dX3_next_47 : decode cX3_next 47 = .ok (.invokevirtual 140, 3) := dk_182 0 140 (dk_at dksX3_next_2 0 rfl rfl)
theorem dX3_next_50 : decode cX3_next 50 = .ok (.istore_n 1, 1) := dk_60 (dk_at dksX3_next_2 3 rfl rfl)
theorem dX3_next_51 : decode cX3_next 51 = .ok (.iload_n 1, 1) := dk_27 (dk_at dksX3_next_2 4 rfl rfl)
theorem dX3_next_52 : decode cX3_next 52 = .ok (.ifCond .ge 11, 3) := dk_156 0 11 (dk_at dksX3_next_2 5 rfl rfl)
theorem dX3_next_55 : decode cX3_next 55 = .ok (.aload_n 0, 1) := dk_42 (dk_at dksX3_next_2 8 rfl rfl)
theorem dX3_next_56 : decode cX3_next 56 = .ok (.iconst 0, 1) := dk_3 (dk_at dksX3_next_2 9 rfl rfl)
theorem dX3_next_57 : decode cX3_next 57 = .ok (.putfield 148, 3) := dk_181 0 148 (dk_at dksX3_next_2 10 rfl rfl)
theorem dX3_next_60 : decode cX3_next 60 = .ok (.goto 214, 3) := dk_167 0 214 (dk_at dksX3_next_2 13 rfl rfl)
theorem dX3_next_63 : decode cX3_next 63 = .ok (.iload_n 1, 1) := dk_27 (dk_at dksX3_next_2 16 rfl rfl)
theorem dX3_next_64 : decode cX3_next 64 = .ok (.i2l, 1) := dk_133 (dk_at dksX3_next_2 17 rfl rfl)
theorem dX3_next_65 : decode cX3_next 65 = .ok (.ldc2_w 151, 3) := dk_20 0 151 (dk_at dksX3_next_2 18 rfl rfl)
theorem dX3_next_68 : decode cX3_next 68 = .ok (.ldc2_w 153, 3) := dk_20 0 153 (dk_at dksX3_next_2 21 rfl rfl)
theorem dX3_next_71 : decode cX3_next 71 = .ok (.invokestatic 124, 3) := dk_184 0 124 (dk_at dksX3_next_3 0 rfl rfl)
theorem dX3_next_74 : decode cX3_next 74 = .ok (.ifCond .eq 42, 3) := dk_153 0 42 (dk_at dksX3_next_3 3 rfl rfl)
theorem dX3_next_77 : decode cX3_next 77 = .ok (.aload_n 0, 1) := dk_42 (dk_at dksX3_next_3 6 rfl rfl)
theorem dX3_next_78 : decode cX3_next 78 = .ok (.iconst 1, 1) := dk_4 (dk_at dksX3_next_3 7 rfl rfl)
theorem dX3_next_79 : decode cX3_next 79 = .ok (.putfield 148, 3) := dk_181 0 148 (dk_at dksX3_next_3 8 rfl rfl)
theorem dX3_next_82 : decode cX3_next 82 = .ok (.aload_n 0, 1) := dk_42 (dk_at dksX3_next_3 11 rfl rfl)
theorem dX3_next_83 : decode cX3_next 83 = .ok (.aload_n 0, 1) := dk_42 (dk_at dksX3_next_3 12 rfl rfl)
theorem dX3_next_84 : decode cX3_next 84 = .ok (.getfield 137, 3) := dk_180 0 137 (dk_at dksX3_next_3 13 rfl rfl)
theorem dX3_next_87 : decode cX3_next 87 = .ok (.invokevirtual 140, 3) := dk_182 0 140 (dk_at dksX3_next_3 16 rfl rfl)
theorem dX3_next_90 : decode cX3_next 90 = .ok (.i2l, 1) := dk_133 (dk_at dksX3_next_3 19 rfl rfl)
theorem dX3_next_91 : decode cX3_next 91 = .ok (.ldc2_w 151, 3) := dk_20 0 151 (dk_at dksX3_next_3 20 rfl rfl)
theorem dX3_next_94 : decode cX3_next 94 = .ok (.ldc2_w 153, 3) := dk_20 0 153 (dk_at dksX3_next_4 0 rfl rfl)
theorem dX3_next_97 : decode cX3_next 97 = .ok (.invokestatic 124, 3) := dk_184 0 124 (dk_at dksX3_next_4 3 rfl rfl)
theorem dX3_next_100 : decode cX3_next 100 = .ok (.ifCond .eq 174, 3) := dk_153 0 174 (dk_at dksX3_next_4 6 rfl rfl)
theorem dX3_next_103 : decode cX3_next 103 = .ok (.aload_n 0, 1) := dk_42 (dk_at dksX3_next_4 9 rfl rfl)
theorem dX3_next_104 : decode cX3_next 104 = .ok (.dup, 1) := dk_89 (dk_at dksX3_next_4 10 rfl rfl)
theorem dX3_next_105 : decode cX3_next 105 = .ok (.getfield 137, 3) := dk_180 0 137 (dk_at dksX3_next_4 11 rfl rfl)
theorem dX3_next_108 : decode cX3_next 108 = .ok (.iconst 1, 1) := dk_4 (dk_at dksX3_next_4 14 rfl rfl)
theorem dX3_next_109 : decode cX3_next 109 = .ok (.iadd, 1) := dk_96 (dk_at dksX3_next_4 15 rfl rfl)
theorem dX3_next_110 : decode cX3_next 110 = .ok (.putfield 137, 3) := dk_181 0 137 (dk_at dksX3_next_4 16 rfl rfl)
theorem dX3_next_113 : decode cX3_next 113 = .ok (.goto (-31), 3) := dk_167 255 225 (dk_at dksX3_next_4 19 rfl rfl)
theorem dX3_next_116 : decode cX3_next 116 = .ok (.iload_n 1, 1) := dk_27 (dk_at dksX3_next_4 22 rfl rfl)
theorem dX3_next_117 : decode cX3_next 117 = .ok (.i2l, 1) := dk_133 (dk_at dksX3_next_4 23 rfl rfl)
theorem dX3_next_118 : decode cX3_next 118 = .ok (.ldc2_w 155, 3) := dk_20 0 155 (dk_at dksX3_next_5 0 rfl rfl)
theorem dX3_next_121 : decode cX3_next 121 = .ok (.ldc2_w 157, 3) := dk_20 0 157 (dk_at dksX3_next_5 3 rfl rfl)
theorem dX3_next_124 : decode cX3_next 124 = .ok (.invokestatic 124, 3) := dk_184 0 124 (dk_at dksX3_next_5 6 rfl rfl)
theorem dX3_next_127 : decode cX3_next 127 = .ok (.ifCond .eq 116, 3) := dk_153 0 116 (dk_at dksX3_next_5 9 rfl rfl)
theorem dX3_next_130 : decode cX3_next 130 = .ok (.aload_n 0, 1) := dk_42 (dk_at dksX3_next_5 12 rfl rfl)
theorem dX3_next_131 : decode cX3_next 131 = .ok (.iconst 2, 1) := dk_5 (dk_at dksX3_next_5 13 rfl rfl)
theorem dX3_next_132 : decode cX3_next 132 = .ok (.putfield 148, 3) := dk_181 0 148 (dk_at dksX3_next_5 14 rfl rfl)
theorem dX3_next_135 : decode cX3_next 135 = .ok (.aload_n 0, 1) := dk_42 (dk_at dksX3_next_5 17 rfl rfl)
theorem dX3_next_136 : decode cX3_next 136 = .ok (.iconst 0, 1) := dk_3 (dk_at dksX3_next_5 18 rfl rfl)
theorem dX3_next_137 : decode cX3_next 137 = .ok (.putfield 159, 3) := dk_181 0 159 (dk_at dksX3_next_5 19 rfl rfl)
theorem dX3_next_140 : decode cX3_next 140 = .ok (.aload_n 0, 1) := dk_42 (dk_at dksX3_next_5 22 rfl rfl)
theorem dX3_next_141 : decode cX3_next 141 = .ok (.aload_n 0, 1) := dk_42 (dk_at dksX3_next_5 23 rfl rfl)
theorem dX3_next_142 : decode cX3_next 142 = .ok (.getfield 137, 3) := dk_180 0 137 (dk_at dksX3_next_6 0 rfl rfl)
theorem dX3_next_145 : decode cX3_next 145 = .ok (.invokevirtual 140, 3) := dk_182 0 140 (dk_at dksX3_next_6 3 rfl rfl)
theorem dX3_next_148 : decode cX3_next 148 = .ok (.i2l, 1) := dk_133 (dk_at dksX3_next_6 6 rfl rfl)
theorem dX3_next_149 : decode cX3_next 149 = .ok (.ldc2_w 155, 3) := dk_20 0 155 (dk_at dksX3_next_6 7 rfl rfl)
theorem dX3_next_152 : decode cX3_next 152 = .ok (.ldc2_w 157, 3) := dk_20 0 157 (dk_at dksX3_next_6 10 rfl rfl)
theorem dX3_next_155 : decode cX3_next 155 = .ok (.invokestatic 124, 3) := dk_184 0 124 (dk_at dksX3_next_6 13 rfl rfl)
theorem dX3_next_158 : decode cX3_next 158 = .ok (.ifCond .eq 59, 3) := dk_153 0 59 (dk_at dksX3_next_6 16 rfl rfl)
theorem dX3_next_161 : decode cX3_next 161 = .ok (.aload_n 0, 1) := dk_42 (dk_at dksX3_next_6 19 rfl rfl)
theorem dX3_next_162 : decode cX3_next 162 = .ok (.aload_n 0, 1) := dk_42 (dk_at dksX3_next_6 20 rfl rfl)
theorem dX3_next_163 : decode cX3_next 163 = .ok (.getfield 137, 3) := dk_180 0 137 (dk_at dksX3_next_6 21 rfl rfl)
theorem dX3_next_166 : decode cX3_next 166 = .ok (.aload_n 0, 1) := dk_42 (dk_at dksX3_next_7 0 rfl rfl)
theorem dX3_next_167 : decode cX3_next 167 = .ok (.getfield 131, 3) := dk_180 0 131 (dk_at dksX3_next_7 1 rfl rfl)
theorem dX3_next_170 : decode cX3_next 170 = .ok (.isub, 1) := dk_100 (dk_at dksX3_next_7 4 rfl rfl)
theorem dX3_next_171 : decode cX3_next 171 = .ok (.iconst 2, 1) := dk_5 (dk_at dksX3_next_7 5 rfl rfl)
theorem dX3_next_172 : decode cX3_next 172 = .ok (.if_icmp .ge 25, 3) := dk_162 0 25 (dk_at dksX3_next_7 6 rfl rfl)
theorem dX3_next_175 : decode cX3_next 175 = .ok (.bipush 10, 2) := dk_16 10 (dk_at dksX3_next_7 9 rfl rfl)
theorem dX3_next_177 : decode cX3_next 177 = .ok (.aload_n 0, 1) := dk_42 (dk_at dksX3_next_7 11 rfl rfl)
theorem dX3_next_178 : decode cX3_next 178 = .ok (.getfield 159, 3) := dk_180 0 159 (dk_at dksX3_next_7 12 rfl rfl)
theorem dX3_next_181 : decode cX3_next 181 = .ok (.imul, 1) := dk_104 (dk_at dksX3_next_7 15 rfl rfl)
theorem dX3_next_182 : decode cX3_next 182 = .ok (.aload_n 0, 1) := dk_42 (dk_at dksX3_next_7 16 rfl rfl)
theorem dX3_next_183 : decode cX3_next 183 = .ok (.aload_n 0, 1) := dk_42 (dk_at dksX3_next_7 17 rfl rfl)
theorem dX3_next_184 : decode cX3_next 184 = .ok (.getfield 137, 3) := dk_180 0 137 (dk_at dksX3_next_7 18 rfl rfl)
theorem dX3_next_187 : decode cX3_next 187 = .ok (.invokevirtual 140, 3) := dk_182 0 140 (dk_at dksX3_next_7 21 rfl rfl)
theorem dX3_next_190 : decode cX3_next 190 = .ok (.iadd, 1) := dk_96 (dk_at dksX3_next_8 0 rfl rfl)
theorem dX3_next_191 : decode cX3_next 191 = .ok (.bipush 48, 2) := dk_16 48 (dk_at dksX3_next_8 1 rfl rfl)
theorem dX3_next_193 : decode cX3_next 193 = .ok (.isub, 1) := dk_100 (dk_at dksX3_next_8 3 rfl rfl)
theorem dX3_next_194 : decode cX3_next 194 = .ok (.goto 7, 3) := dk_167 0 7 (dk_at dksX3_next_8 4 rfl rfl)
theorem dX3_next_197 : decode cX3_next 197 = .ok (.aload_n 0, 1) := dk_42 (dk_at dksX3_next_8 7 rfl rfl)
theorem dX3_next_198 : decode cX3_next 198 = .ok (.getfield 159, 3) := dk_180 0 159 (dk_at dksX3_next_8 8 rfl rfl)
theorem dX3_next_201 : decode cX3_next 201 = .ok (.putfield 159, 3) := dk_181 0 159 (dk_at dksX3_next_8 11 rfl rfl)
theorem dX3_next_204 : decode cX3_next 204 = .ok (.aload_n 0, 1) := dk_42 (dk_at dksX3_next_8 14 rfl rfl)
theorem dX3_next_205 : decode cX3_next 205 = .ok (.dup, 1) := dk_89 (dk_at dksX3_next_8 15 rfl rfl)
theorem dX3_next_206 : decode cX3_next 206 = .ok (.getfield 137, 3) := dk_180 0 137 (dk_at dksX3_next_8 16 rfl rfl)
theorem dX3_next_209 : decode cX3_next 209 = .ok (.iconst 1, 1) := dk_4 (dk_at dksX3_next_8 19 rfl rfl)
theorem dX3_next_210 : decode cX3_next 210 = .ok (.iadd, 1) := dk_96 (dk_at dksX3_next_8 20 rfl rfl)
theorem dX3_next_211 : decode cX3_next 211 = .ok (.putfield 137, 3) := dk_181 0 137 (dk_at dksX3_next_8 21 rfl rfl)
theorem dX3_next_214 : decode cX3_next 214 = .ok (.goto (-74), 3) := dk_167 255 182 (dk_at dksX3_next_9 0 rfl rfl)
theorem dX3_next_217 : decode cX3_next 217 = .ok (.aload_n 0, 1) := dk_42 (dk_at dksX3_next_9 3 rfl rfl)
theorem dX3_next_218 : decode cX3_next 218 = .ok (.aload_n 0, 1) := dk_42 (dk_at dksX3_next_9 4 rfl rfl)
theorem dX3_next_219 : decode cX3_next 219 = .ok (.getfield 137, 3) := dk_180 0 137 (dk_at dksX3_next_9 5 rfl rfl)
theorem dX3_next_222 : decode cX3_next 222 = .ok (.aload_n 0, 1) := dk_42 (dk_at dksX3_next_9 8 rfl rfl)
theorem dX3_next_223 : decode cX3_next 223 = .ok (.getfield 131, 3) := dk_180 0 131 (dk_at dksX3_next_9 9 rfl rfl)
theorem dX3_next_226 : decode cX3_next 226 = .ok (.isub, 1) := dk_100 (dk_at dksX3_next_9 12 rfl rfl)
theorem dX3_next_227 : decode cX3_next 227 = .ok (.iconst 2, 1) := dk_5 (dk_at dksX3_next_9 13 rfl rfl)
theorem dX3_next_228 : decode cX3_next 228 = .ok (.if_icmp .gt 7, 3) := dk_163 0 7 (dk_at dksX3_next_9 14 rfl rfl)
theorem dX3_next_231 : decode cX3_next 231 = .ok (.iconst 1, 1) := dk_4 (dk_at dksX3_next_9 17 rfl rfl)
theorem dX3_next_232 : decode cX3_next 232 = .ok (.goto 4, 3) := dk_167 0 4 (dk_at dksX3_next_9 18 rfl rfl)
theorem dX3_next_235 : decode cX3_next 235 = .ok (.iconst 0, 1) := dk_3 (dk_at dksX3_next_9 21 rfl rfl)
theorem dX3_next_236 : decode cX3_next 236 = .ok (.iconst 1, 1) := dk_4 (dk_at dksX3_next_9 22 rfl rfl)
theorem dX3_next_237 : decode cX3_next 237 = .ok (.invokevirtual 162, 3) := dk_182 0 162 (dk_at dksX3_next_10 0 rfl rfl)
theorem dX3_next_240 : decode cX3_next 240 = .ok (.goto 34, 3) := dk_167 0 34 (dk_at dksX3_next_10 3 rfl rfl)
theorem dX3_next_243 : decode cX3_next 243 = .ok (.aload_n 0, 1) := dk_42 (dk_at dksX3_next_10 6 rfl rfl)
theorem dX3_next_244 : decode cX3_next 244 = .ok (.iconst 3, 1) := dk_6 (dk_at dksX3_next_10 7 rfl rfl)
theorem dX3_next_245 : decode cX3_next 245 = .ok (.putfield 148, 3) := dk_181 0 148 (dk_at dksX3_next_10 8 rfl rfl)
theorem dX3_next_248 : decode cX3_next 248 = .ok (.aload_n 0, 1) := dk_42 (dk_at dksX3_next_10 11 rfl rfl)
theorem dX3_next_249 : decode cX3_next 249 = .ok (.iload_n 1, 1) := dk_27 (dk_at dksX3_next_10 12 rfl rfl)
theorem dX3_next_250 : decode cX3_next 250 = .ok (.bipush 59, 2) := dk_16 59 (dk_at dksX3_next_10 13 rfl rfl)
theorem dX3_next_252 : decode cX3_next 252 = .ok (.if_icmp .ne 7, 3) := dk_160 0 7 (dk_at dksX3_next_10 15 rfl rfl)
theorem dX3_next_255 : decode cX3_next 255 = .ok (.iconst 1, 1) := dk_4 (dk_at dksX3_next_10 18 rfl rfl)
theorem dX3_next_256 : decode cX3_next 256 = .ok (.goto 4, 3) := dk_167 0 4 (dk_at dksX3_next_10 19 rfl rfl)
theorem dX3_next_259 : decode cX3_next 259 = .ok (.iconst 0, 1) := dk_3 (dk_at dksX3_next_10 22 rfl rfl)
theorem dX3_next_260 : decode cX3_next 260 = .ok (.iconst 1, 1) := dk_4 (dk_at dksX3_next_10 23 rfl rfl)
theorem dX3_next_261 : decode cX3_next 261 = .ok (.invokevirtual 162, 3) := dk_182 0 162 (dk_at dksX3_next_11 0 rfl rfl)
theorem dX3_next_264 : decode cX3_next 264 = .ok (.aload_n 0, 1) := dk_42 (dk_at dksX3_next_11 3 rfl rfl)
theorem dX3_next_265 : decode cX3_next 265 = .ok (.dup, 1) := dk_89 (dk_at dksX3_next_11 4 rfl rfl)
theorem dX3_next_266 : decode cX3_next 266 = .ok (.getfield 137, 3) := dk_180 0 137 (dk_at dksX3_next_11 5 rfl rfl)
theorem dX3_next_269 : decode cX3_next 269 = .ok (.iconst 1, 1) := dk_4 (dk_at dksX3_next_11 8 rfl rfl)
theorem dX3_next_270 : decode cX3_next 270 = .ok (.iadd, 1) := dk_96 (dk_at dksX3_next_11 9 rfl rfl)
theorem dX3_next_271 : decode cX3_next 271 = .ok (.putfield 137, 3) := dk_181 0 137 (dk_at dksX3_next_11 10 rfl rfl)
theorem dX3_next_274 : decode cX3_next 274 = .ok (.return_, 1) := dk_177 (dk_at dksX3_next_11 13 rfl rfl)
abbrev cX3_look : ByteArray := prog_11_method_11_code
def yX3_look : MethodName := ⟨RX3, "look", "(I)I"⟩
def dkwX3_look_0 : List UInt8 := [27, 42, 180, 0, 119, 162, 0, 12, 42, 180, 0, 55, 27, 46, 167, 0, 4, 2, 172]
abbrev dktX3_look_0 : List UInt8 := dkwX3_look_0 ++ []
theorem dksX3_look_0 : cX3_look.data.toList.drop 0 = dktX3_look_0 := by decide +kernel
theorem dX3_look_0 : decode cX3_look 0 = .ok (.iload_n 1, 1) := dk_27 (dk_at dksX3_look_0 0 rfl rfl)
theorem dX3_look_1 : decode cX3_look 1 = .ok (.aload_n 0, 1) := dk_42 (dk_at dksX3_look_0 1 rfl rfl)
theorem dX3_look_2 : decode cX3_look 2 = .ok (.getfield 119, 3) := dk_180 0 119 (dk_at dksX3_look_0 2 rfl rfl)
theorem dX3_look_5 : decode cX3_look 5 = .ok (.if_icmp .ge 12, 3) := dk_162 0 12 (dk_at dksX3_look_0 5 rfl rfl)
theorem dX3_look_8 : decode cX3_look 8 = .ok (.aload_n 0, 1) := dk_42 (dk_at dksX3_look_0 8 rfl rfl)
theorem dX3_look_9 : decode cX3_look 9 = .ok (.getfield 55, 3) := dk_180 0 55 (dk_at dksX3_look_0 9 rfl rfl)
theorem dX3_look_12 : decode cX3_look 12 = .ok (.iload_n 1, 1) := dk_27 (dk_at dksX3_look_0 12 rfl rfl)
theorem dX3_look_13 : decode cX3_look 13 = .ok (.iaload, 1) := dk_46 (dk_at dksX3_look_0 13 rfl rfl)
theorem dX3_look_14 : decode cX3_look 14 = .ok (.goto 4, 3) := dk_167 0 4 (dk_at dksX3_look_0 14 rfl rfl)
theorem dX3_look_17 : decode cX3_look 17 = .ok (.iconst (-1), 1) := dk_2 (dk_at dksX3_look_0 17 rfl rfl)
theorem dX3_look_18 : decode cX3_look 18 = .ok (.ireturn, 1) := dk_172 (dk_at dksX3_look_0 18 rfl rfl)
abbrev cX3_wants : ByteArray := prog_11_method_10_code
def yX3_wants : MethodName := ⟨RX3, "wants", "(ZI)V"⟩
def dkwX3_wants_1 : List UInt8 := [177]
abbrev dktX3_wants_1 : List UInt8 := dkwX3_wants_1 ++ []
def dkwX3_wants_0 : List UInt8 := [27, 154, 0, 23, 42, 180, 0, 128, 154, 0, 16, 42, 28, 181, 0, 128, 42, 42, 180, 0, 131, 181, 0, 134]
abbrev dktX3_wants_0 : List UInt8 := dkwX3_wants_0 ++ dktX3_wants_1
theorem dksX3_wants_0 : cX3_wants.data.toList.drop 0 = dktX3_wants_0 := by decide +kernel
theorem dksX3_wants_1 : cX3_wants.data.toList.drop 24 = dktX3_wants_1 := dk_seg dksX3_wants_0 24 rfl rfl
theorem dX3_wants_0 : decode cX3_wants 0 = .ok (.iload_n 1, 1) := dk_27 (dk_at dksX3_wants_0 0 rfl rfl)
theorem dX3_wants_1 : decode cX3_wants 1 = .ok (.ifCond .ne 23, 3) := dk_154 0 23 (dk_at dksX3_wants_0 1 rfl rfl)
theorem dX3_wants_4 : decode cX3_wants 4 = .ok (.aload_n 0, 1) := dk_42 (dk_at dksX3_wants_0 4 rfl rfl)
theorem dX3_wants_5 : decode cX3_wants 5 = .ok (.getfield 128, 3) := dk_180 0 128 (dk_at dksX3_wants_0 5 rfl rfl)
theorem dX3_wants_8 : decode cX3_wants 8 = .ok (.ifCond .ne 16, 3) := dk_154 0 16 (dk_at dksX3_wants_0 8 rfl rfl)
theorem dX3_wants_11 : decode cX3_wants 11 = .ok (.aload_n 0, 1) := dk_42 (dk_at dksX3_wants_0 11 rfl rfl)
theorem dX3_wants_12 : decode cX3_wants 12 = .ok (.iload_n 2, 1) := dk_28 (dk_at dksX3_wants_0 12 rfl rfl)
theorem dX3_wants_13 : decode cX3_wants 13 = .ok (.putfield 128, 3) := dk_181 0 128 (dk_at dksX3_wants_0 13 rfl rfl)
theorem dX3_wants_16 : decode cX3_wants 16 = .ok (.aload_n 0, 1) := dk_42 (dk_at dksX3_wants_0 16 rfl rfl)
theorem dX3_wants_17 : decode cX3_wants 17 = .ok (.aload_n 0, 1) := dk_42 (dk_at dksX3_wants_0 17 rfl rfl)
theorem dX3_wants_18 : decode cX3_wants 18 = .ok (.getfield 131, 3) := dk_180 0 131 (dk_at dksX3_wants_0 18 rfl rfl)
theorem dX3_wants_21 : decode cX3_wants 21 = .ok (.putfield 134, 3) := dk_181 0 134 (dk_at dksX3_wants_0 21 rfl rfl)
theorem dX3_wants_24 : decode cX3_wants 24 = .ok (.return_, 1) := dk_177 (dk_at dksX3_wants_1 0 rfl rfl)
abbrev cX3_readItem : ByteArray := prog_11_method_20_code
def yX3_readItem : MethodName := ⟨RX3, "readItem", "()V"⟩
def dkwX3_readItem_4 : List UInt8 := [182, 0, 166, 177]
abbrev dktX3_readItem_4 : List UInt8 := dkwX3_readItem_4 ++ []
def dkwX3_readItem_3 : List UInt8 := [154, 0, 21, 42, 42, 180, 0, 148, 6, 160, 0, 7, 4, 167, 0, 4, 3, 5, 182, 0, 162, 42]
abbrev dktX3_readItem_3 : List UInt8 := dkwX3_readItem_3 ++ dktX3_readItem_4
def dkwX3_readItem_2 : List UInt8 := [4, 160, 0, 10, 42, 182, 0, 197, 167, 0, 12, 27, 5, 160, 0, 7, 42, 182, 0, 200, 42, 180, 0, 128]
abbrev dktX3_readItem_2 : List UInt8 := dkwX3_readItem_2 ++ dktX3_readItem_3
def dkwX3_readItem_1 : List UInt8 := [159, 0, 7, 4, 167, 0, 4, 3, 5, 182, 0, 162, 27, 154, 0, 10, 42, 182, 0, 194, 167, 0, 24, 27]
abbrev dktX3_readItem_1 : List UInt8 := dkwX3_readItem_1 ++ dktX3_readItem_2
def dkwX3_readItem_0 : List UInt8 := [42, 180, 0, 148, 4, 160, 0, 10, 42, 182, 0, 190, 167, 0, 5, 16, 252, 60, 42, 27, 16, 252]
abbrev dktX3_readItem_0 : List UInt8 := dkwX3_readItem_0 ++ dktX3_readItem_1
theorem dksX3_readItem_0 : cX3_readItem.data.toList.drop 0 = dktX3_readItem_0 := by decide +kernel
theorem dksX3_readItem_1 : cX3_readItem.data.toList.drop 22 = dktX3_readItem_1 := dk_seg dksX3_readItem_0 22 rfl rfl
theorem dksX3_readItem_2 : cX3_readItem.data.toList.drop 46 = dktX3_readItem_2 := dk_seg dksX3_readItem_1 24 rfl rfl
theorem dksX3_readItem_3 : cX3_readItem.data.toList.drop 70 = dktX3_readItem_3 := dk_seg dksX3_readItem_2 24 rfl rfl
theorem dksX3_readItem_4 : cX3_readItem.data.toList.drop 92 = dktX3_readItem_4 := dk_seg dksX3_readItem_3 22 rfl rfl
theorem dX3_readItem_0 : decode cX3_readItem 0 = .ok (.aload_n 0, 1) := dk_42 (dk_at dksX3_readItem_0 0 rfl rfl)
theorem dX3_readItem_1 : decode cX3_readItem 1 = .ok (.getfield 148, 3) := dk_180 0 148 (dk_at dksX3_readItem_0 1 rfl rfl)
theorem dX3_readItem_4 : decode cX3_readItem 4 = .ok (.iconst 1, 1) := dk_4 (dk_at dksX3_readItem_0 4 rfl rfl)
theorem dX3_readItem_5 : decode cX3_readItem 5 = .ok (.if_icmp .ne 10, 3) := dk_160 0 10 (dk_at dksX3_readItem_0 5 rfl rfl)
theorem dX3_readItem_8 : decode cX3_readItem 8 = .ok (.aload_n 0, 1) := dk_42 (dk_at dksX3_readItem_0 8 rfl rfl)
theorem dX3_readItem_9 : decode cX3_readItem 9 = .ok (.invokevirtual 190, 3) := dk_182 0 190 (dk_at dksX3_readItem_0 9 rfl rfl)
theorem dX3_readItem_12 : decode cX3_readItem 12 = .ok (.goto 5, 3) := dk_167 0 5 (dk_at dksX3_readItem_0 12 rfl rfl)
theorem dX3_readItem_15 : decode cX3_readItem 15 = .ok (.bipush (-4), 2) := dk_16 252 (dk_at dksX3_readItem_0 15 rfl rfl)
theorem dX3_readItem_17 : decode cX3_readItem 17 = .ok (.istore_n 1, 1) := dk_60 (dk_at dksX3_readItem_0 17 rfl rfl)
theorem dX3_readItem_18 : decode cX3_readItem 18 = .ok (.aload_n 0, 1) := dk_42 (dk_at dksX3_readItem_0 18 rfl rfl)
theorem dX3_readItem_19 : decode cX3_readItem 19 = .ok (.iload_n 1, 1) := dk_27 (dk_at dksX3_readItem_0 19 rfl rfl)
theorem dX3_readItem_20 : decode cX3_readItem 20 = .ok (.bipush (-4), 2) := dk_16 252 (dk_at dksX3_readItem_0 20 rfl rfl)
theorem dX3_readItem_22 : decode cX3_readItem 22 = .ok (.if_icmp .eq 7, 3) := dk_159 0 7 (dk_at dksX3_readItem_1 0 rfl rfl)
theorem dX3_readItem_25 : decode cX3_readItem 25 = .ok (.iconst 1, 1) := dk_4 (dk_at dksX3_readItem_1 3 rfl rfl)
theorem dX3_readItem_26 : decode cX3_readItem 26 = .ok (.goto 4, 3) := dk_167 0 4 (dk_at dksX3_readItem_1 4 rfl rfl)
theorem dX3_readItem_29 : decode cX3_readItem 29 = .ok (.iconst 0, 1) := dk_3 (dk_at dksX3_readItem_1 7 rfl rfl)
theorem dX3_readItem_30 : decode cX3_readItem 30 = .ok (.iconst 2, 1) := dk_5 (dk_at dksX3_readItem_1 8 rfl rfl)
theorem dX3_readItem_31 : decode cX3_readItem 31 = .ok (.invokevirtual 162, 3) := dk_182 0 162 (dk_at dksX3_readItem_1 9 rfl rfl)
theorem dX3_readItem_34 : decode cX3_readItem 34 = .ok (.iload_n 1, 1) := dk_27 (dk_at dksX3_readItem_1 12 rfl rfl)
theorem dX3_readItem_35 : decode cX3_readItem 35 = .ok (.ifCond .ne 10, 3) := dk_154 0 10 (dk_at dksX3_readItem_1 13 rfl rfl)
theorem dX3_readItem_38 : decode cX3_readItem 38 = .ok (.aload_n 0, 1) := dk_42 (dk_at dksX3_readItem_1 16 rfl rfl)
theorem dX3_readItem_39 : decode cX3_readItem 39 = .ok (.invokevirtual 194, 3) := dk_182 0 194 (dk_at dksX3_readItem_1 17 rfl rfl)
theorem dX3_readItem_42 : decode cX3_readItem 42 = .ok (.goto 24, 3) := dk_167 0 24 (dk_at dksX3_readItem_1 20 rfl rfl)
theorem dX3_readItem_45 : decode cX3_readItem 45 = .ok (.iload_n 1, 1) := dk_27 (dk_at dksX3_readItem_1 23 rfl rfl)
theorem dX3_readItem_46 : decode cX3_readItem 46 = .ok (.iconst 1, 1) := dk_4 (dk_at dksX3_readItem_2 0 rfl rfl)
theorem dX3_readItem_47 : decode cX3_readItem 47 = .ok (.if_icmp .ne 10, 3) := dk_160 0 10 (dk_at dksX3_readItem_2 1 rfl rfl)
theorem dX3_readItem_50 : decode cX3_readItem 50 = .ok (.aload_n 0, 1) := dk_42 (dk_at dksX3_readItem_2 4 rfl rfl)
theorem dX3_readItem_51 : decode cX3_readItem 51 = .ok (.invokevirtual 197, 3) := dk_182 0 197 (dk_at dksX3_readItem_2 5 rfl rfl)
theorem dX3_readItem_54 : decode cX3_readItem 54 = .ok (.goto 12, 3) := dk_167 0 12 (dk_at dksX3_readItem_2 8 rfl rfl)
theorem dX3_readItem_57 : decode cX3_readItem 57 = .ok (.iload_n 1, 1) := dk_27 (dk_at dksX3_readItem_2 11 rfl rfl)
theorem dX3_readItem_58 : decode cX3_readItem 58 = .ok (.iconst 2, 1) := dk_5 (dk_at dksX3_readItem_2 12 rfl rfl)
theorem dX3_readItem_59 : decode cX3_readItem 59 = .ok (.if_icmp .ne 7, 3) := dk_160 0 7 (dk_at dksX3_readItem_2 13 rfl rfl)
theorem dX3_readItem_62 : decode cX3_readItem 62 = .ok (.aload_n 0, 1) := dk_42 (dk_at dksX3_readItem_2 16 rfl rfl)
theorem dX3_readItem_63 : decode cX3_readItem 63 = .ok (.invokevirtual 200, 3) := dk_182 0 200 (dk_at dksX3_readItem_2 17 rfl rfl)
theorem dX3_readItem_66 : decode cX3_readItem 66 = .ok (.aload_n 0, 1) := dk_42 (dk_at dksX3_readItem_2 20 rfl rfl)
theorem dX3_readItem_67 : decode cX3_readItem 67 = .ok (.getfield 128, 3) := dk_180 0 128 (dk_at dksX3_readItem_2 21 rfl rfl)
theorem dX3_readItem_70 : decode cX3_readItem 70 = .ok (.ifCond .ne 21, 3) := dk_154 0 21 (dk_at dksX3_readItem_3 0 rfl rfl)
theorem dX3_readItem_73 : decode cX3_readItem 73 = .ok (.aload_n 0, 1) := dk_42 (dk_at dksX3_readItem_3 3 rfl rfl)
theorem dX3_readItem_74 : decode cX3_readItem 74 = .ok (.aload_n 0, 1) := dk_42 (dk_at dksX3_readItem_3 4 rfl rfl)
theorem dX3_readItem_75 : decode cX3_readItem 75 = .ok (.getfield 148, 3) := dk_180 0 148 (dk_at dksX3_readItem_3 5 rfl rfl)
theorem dX3_readItem_78 : decode cX3_readItem 78 = .ok (.iconst 3, 1) := dk_6 (dk_at dksX3_readItem_3 8 rfl rfl)
theorem dX3_readItem_79 : decode cX3_readItem 79 = .ok (.if_icmp .ne 7, 3) := dk_160 0 7 (dk_at dksX3_readItem_3 9 rfl rfl)
theorem dX3_readItem_82 : decode cX3_readItem 82 = .ok (.iconst 1, 1) := dk_4 (dk_at dksX3_readItem_3 12 rfl rfl)
theorem dX3_readItem_83 : decode cX3_readItem 83 = .ok (.goto 4, 3) := dk_167 0 4 (dk_at dksX3_readItem_3 13 rfl rfl)
theorem dX3_readItem_86 : decode cX3_readItem 86 = .ok (.iconst 0, 1) := dk_3 (dk_at dksX3_readItem_3 16 rfl rfl)
theorem dX3_readItem_87 : decode cX3_readItem 87 = .ok (.iconst 2, 1) := dk_5 (dk_at dksX3_readItem_3 17 rfl rfl)
theorem dX3_readItem_88 : decode cX3_readItem 88 = .ok (.invokevirtual 162, 3) := dk_182 0 162 (dk_at dksX3_readItem_3 18 rfl rfl)
theorem dX3_readItem_91 : decode cX3_readItem 91 = .ok (.aload_n 0, 1) := dk_42 (dk_at dksX3_readItem_3 21 rfl rfl)
theorem dX3_readItem_92 : decode cX3_readItem 92 = .ok (.invokevirtual 166, 3) := dk_182 0 166 (dk_at dksX3_readItem_4 0 rfl rfl)
theorem dX3_readItem_95 : decode cX3_readItem 95 = .ok (.return_, 1) := dk_177 (dk_at dksX3_readItem_4 3 rfl rfl)
abbrev cX3_nameNow : ByteArray := prog_11_method_13_code
def yX3_nameNow : MethodName := ⟨RX3, "nameNow", "()I"⟩
def dkwX3_nameNow_2 : List UInt8 := [3, 182, 0, 144, 153, 0, 7, 5, 167, 0, 5, 16, 252, 172]
abbrev dktX3_nameNow_2 : List UInt8 := dkwX3_nameNow_2 ++ []
def dkwX3_nameNow_1 : List UInt8 := [16, 111, 16, 111, 16, 112, 182, 0, 144, 153, 0, 7, 4, 167, 0, 24, 42, 6, 16, 101, 16, 110, 16, 100]
abbrev dktX3_nameNow_1 : List UInt8 := dkwX3_nameNow_1 ++ dktX3_nameNow_2
def dkwX3_nameNow_0 : List UInt8 := [42, 7, 16, 108, 16, 105, 16, 110, 16, 101, 182, 0, 144, 153, 0, 7, 3, 167, 0, 44, 42, 7, 16, 108]
abbrev dktX3_nameNow_0 : List UInt8 := dkwX3_nameNow_0 ++ dktX3_nameNow_1
theorem dksX3_nameNow_0 : cX3_nameNow.data.toList.drop 0 = dktX3_nameNow_0 := by decide +kernel
theorem dksX3_nameNow_1 : cX3_nameNow.data.toList.drop 24 = dktX3_nameNow_1 := dk_seg dksX3_nameNow_0 24 rfl rfl
theorem dksX3_nameNow_2 : cX3_nameNow.data.toList.drop 48 = dktX3_nameNow_2 := dk_seg dksX3_nameNow_1 24 rfl rfl
theorem dX3_nameNow_0 : decode cX3_nameNow 0 = .ok (.aload_n 0, 1) := dk_42 (dk_at dksX3_nameNow_0 0 rfl rfl)
theorem dX3_nameNow_1 : decode cX3_nameNow 1 = .ok (.iconst 4, 1) := dk_7 (dk_at dksX3_nameNow_0 1 rfl rfl)
theorem dX3_nameNow_2 : decode cX3_nameNow 2 = .ok (.bipush 108, 2) := dk_16 108 (dk_at dksX3_nameNow_0 2 rfl rfl)
theorem dX3_nameNow_4 : decode cX3_nameNow 4 = .ok (.bipush 105, 2) := dk_16 105 (dk_at dksX3_nameNow_0 4 rfl rfl)
theorem dX3_nameNow_6 : decode cX3_nameNow 6 = .ok (.bipush 110, 2) := dk_16 110 (dk_at dksX3_nameNow_0 6 rfl rfl)
theorem dX3_nameNow_8 : decode cX3_nameNow 8 = .ok (.bipush 101, 2) := dk_16 101 (dk_at dksX3_nameNow_0 8 rfl rfl)
theorem dX3_nameNow_10 : decode cX3_nameNow 10 = .ok (.invokevirtual 144, 3) := dk_182 0 144 (dk_at dksX3_nameNow_0 10 rfl rfl)
theorem dX3_nameNow_13 : decode cX3_nameNow 13 = .ok (.ifCond .eq 7, 3) := dk_153 0 7 (dk_at dksX3_nameNow_0 13 rfl rfl)
theorem dX3_nameNow_16 : decode cX3_nameNow 16 = .ok (.iconst 0, 1) := dk_3 (dk_at dksX3_nameNow_0 16 rfl rfl)
theorem dX3_nameNow_17 : decode cX3_nameNow 17 = .ok (.goto 44, 3) := dk_167 0 44 (dk_at dksX3_nameNow_0 17 rfl rfl)
theorem dX3_nameNow_20 : decode cX3_nameNow 20 = .ok (.aload_n 0, 1) := dk_42 (dk_at dksX3_nameNow_0 20 rfl rfl)
theorem dX3_nameNow_21 : decode cX3_nameNow 21 = .ok (.iconst 4, 1) := dk_7 (dk_at dksX3_nameNow_0 21 rfl rfl)
theorem dX3_nameNow_22 : decode cX3_nameNow 22 = .ok (.bipush 108, 2) := dk_16 108 (dk_at dksX3_nameNow_0 22 rfl rfl)
theorem dX3_nameNow_24 : decode cX3_nameNow 24 = .ok (.bipush 111, 2) := dk_16 111 (dk_at dksX3_nameNow_1 0 rfl rfl)
theorem dX3_nameNow_26 : decode cX3_nameNow 26 = .ok (.bipush 111, 2) := dk_16 111 (dk_at dksX3_nameNow_1 2 rfl rfl)
theorem dX3_nameNow_28 : decode cX3_nameNow 28 = .ok (.bipush 112, 2) := dk_16 112 (dk_at dksX3_nameNow_1 4 rfl rfl)
theorem dX3_nameNow_30 : decode cX3_nameNow 30 = .ok (.invokevirtual 144, 3) := dk_182 0 144 (dk_at dksX3_nameNow_1 6 rfl rfl)
theorem dX3_nameNow_33 : decode cX3_nameNow 33 = .ok (.ifCond .eq 7, 3) := dk_153 0 7 (dk_at dksX3_nameNow_1 9 rfl rfl)
theorem dX3_nameNow_36 : decode cX3_nameNow 36 = .ok (.iconst 1, 1) := dk_4 (dk_at dksX3_nameNow_1 12 rfl rfl)
theorem dX3_nameNow_37 : decode cX3_nameNow 37 = .ok (.goto 24, 3) := dk_167 0 24 (dk_at dksX3_nameNow_1 13 rfl rfl)
theorem dX3_nameNow_40 : decode cX3_nameNow 40 = .ok (.aload_n 0, 1) := dk_42 (dk_at dksX3_nameNow_1 16 rfl rfl)
theorem dX3_nameNow_41 : decode cX3_nameNow 41 = .ok (.iconst 3, 1) := dk_6 (dk_at dksX3_nameNow_1 17 rfl rfl)
theorem dX3_nameNow_42 : decode cX3_nameNow 42 = .ok (.bipush 101, 2) := dk_16 101 (dk_at dksX3_nameNow_1 18 rfl rfl)
theorem dX3_nameNow_44 : decode cX3_nameNow 44 = .ok (.bipush 110, 2) := dk_16 110 (dk_at dksX3_nameNow_1 20 rfl rfl)
theorem dX3_nameNow_46 : decode cX3_nameNow 46 = .ok (.bipush 100, 2) := dk_16 100 (dk_at dksX3_nameNow_1 22 rfl rfl)
theorem dX3_nameNow_48 : decode cX3_nameNow 48 = .ok (.iconst 0, 1) := dk_3 (dk_at dksX3_nameNow_2 0 rfl rfl)
theorem dX3_nameNow_49 : decode cX3_nameNow 49 = .ok (.invokevirtual 144, 3) := dk_182 0 144 (dk_at dksX3_nameNow_2 1 rfl rfl)
theorem dX3_nameNow_52 : decode cX3_nameNow 52 = .ok (.ifCond .eq 7, 3) := dk_153 0 7 (dk_at dksX3_nameNow_2 4 rfl rfl)
theorem dX3_nameNow_55 : decode cX3_nameNow 55 = .ok (.iconst 2, 1) := dk_5 (dk_at dksX3_nameNow_2 7 rfl rfl)
theorem dX3_nameNow_56 : decode cX3_nameNow 56 = .ok (.goto 5, 3) := dk_167 0 5 (dk_at dksX3_nameNow_2 8 rfl rfl)
theorem dX3_nameNow_59 : decode cX3_nameNow 59 = .ok (.bipush (-4), 2) := dk_16 252 (dk_at dksX3_nameNow_2 11 rfl rfl)
theorem dX3_nameNow_61 : decode cX3_nameNow 61 = .ok (.ireturn, 1) := dk_172 (dk_at dksX3_nameNow_2 13 rfl rfl)
abbrev cX3_is : ByteArray := prog_11_method_12_code
def yX3_is : MethodName := ⟨RX3, "is", "(IIIII)Z"⟩
def dkwX3_is_3 : List UInt8 := [21, 5, 160, 0, 7, 4, 167, 0, 4, 3, 172]
abbrev dktX3_is_3 : List UInt8 := dkwX3_is_3 ++ []
def dkwX3_is_2 : List UInt8 := [182, 0, 140, 21, 4, 160, 0, 27, 27, 7, 161, 0, 18, 42, 42, 180, 0, 131, 6, 96, 182, 0, 140]
abbrev dktX3_is_2 : List UInt8 := dkwX3_is_2 ++ dktX3_is_3
def dkwX3_is_1 : List UInt8 := [160, 0, 56, 42, 42, 180, 0, 131, 4, 96, 182, 0, 140, 29, 160, 0, 42, 42, 42, 180, 0, 131, 5, 96]
abbrev dktX3_is_1 : List UInt8 := dkwX3_is_1 ++ dktX3_is_2
def dkwX3_is_0 : List UInt8 := [42, 180, 0, 137, 42, 180, 0, 131, 100, 27, 160, 0, 68, 42, 42, 180, 0, 131, 182, 0, 140, 28]
abbrev dktX3_is_0 : List UInt8 := dkwX3_is_0 ++ dktX3_is_1
theorem dksX3_is_0 : cX3_is.data.toList.drop 0 = dktX3_is_0 := by decide +kernel
theorem dksX3_is_1 : cX3_is.data.toList.drop 22 = dktX3_is_1 := dk_seg dksX3_is_0 22 rfl rfl
theorem dksX3_is_2 : cX3_is.data.toList.drop 46 = dktX3_is_2 := dk_seg dksX3_is_1 24 rfl rfl
theorem dksX3_is_3 : cX3_is.data.toList.drop 69 = dktX3_is_3 := dk_seg dksX3_is_2 23 rfl rfl
theorem dX3_is_0 : decode cX3_is 0 = .ok (.aload_n 0, 1) := dk_42 (dk_at dksX3_is_0 0 rfl rfl)
theorem dX3_is_1 : decode cX3_is 1 = .ok (.getfield 137, 3) := dk_180 0 137 (dk_at dksX3_is_0 1 rfl rfl)
theorem dX3_is_4 : decode cX3_is 4 = .ok (.aload_n 0, 1) := dk_42 (dk_at dksX3_is_0 4 rfl rfl)
theorem dX3_is_5 : decode cX3_is 5 = .ok (.getfield 131, 3) := dk_180 0 131 (dk_at dksX3_is_0 5 rfl rfl)
theorem dX3_is_8 : decode cX3_is 8 = .ok (.isub, 1) := dk_100 (dk_at dksX3_is_0 8 rfl rfl)
theorem dX3_is_9 : decode cX3_is 9 = .ok (.iload_n 1, 1) := dk_27 (dk_at dksX3_is_0 9 rfl rfl)
theorem dX3_is_10 : decode cX3_is 10 = .ok (.if_icmp .ne 68, 3) := dk_160 0 68 (dk_at dksX3_is_0 10 rfl rfl)
theorem dX3_is_13 : decode cX3_is 13 = .ok (.aload_n 0, 1) := dk_42 (dk_at dksX3_is_0 13 rfl rfl)
theorem dX3_is_14 : decode cX3_is 14 = .ok (.aload_n 0, 1) := dk_42 (dk_at dksX3_is_0 14 rfl rfl)
theorem dX3_is_15 : decode cX3_is 15 = .ok (.getfield 131, 3) := dk_180 0 131 (dk_at dksX3_is_0 15 rfl rfl)
theorem dX3_is_18 : decode cX3_is 18 = .ok (.invokevirtual 140, 3) := dk_182 0 140 (dk_at dksX3_is_0 18 rfl rfl)
theorem dX3_is_21 : decode cX3_is 21 = .ok (.iload_n 2, 1) := dk_28 (dk_at dksX3_is_0 21 rfl rfl)
theorem dX3_is_22 : decode cX3_is 22 = .ok (.if_icmp .ne 56, 3) := dk_160 0 56 (dk_at dksX3_is_1 0 rfl rfl)
theorem dX3_is_25 : decode cX3_is 25 = .ok (.aload_n 0, 1) := dk_42 (dk_at dksX3_is_1 3 rfl rfl)
theorem dX3_is_26 : decode cX3_is 26 = .ok (.aload_n 0, 1) := dk_42 (dk_at dksX3_is_1 4 rfl rfl)
theorem dX3_is_27 : decode cX3_is 27 = .ok (.getfield 131, 3) := dk_180 0 131 (dk_at dksX3_is_1 5 rfl rfl)
theorem dX3_is_30 : decode cX3_is 30 = .ok (.iconst 1, 1) := dk_4 (dk_at dksX3_is_1 8 rfl rfl)
theorem dX3_is_31 : decode cX3_is 31 = .ok (.iadd, 1) := dk_96 (dk_at dksX3_is_1 9 rfl rfl)
theorem dX3_is_32 : decode cX3_is 32 = .ok (.invokevirtual 140, 3) := dk_182 0 140 (dk_at dksX3_is_1 10 rfl rfl)
theorem dX3_is_35 : decode cX3_is 35 = .ok (.iload_n 3, 1) := dk_29 (dk_at dksX3_is_1 13 rfl rfl)
theorem dX3_is_36 : decode cX3_is 36 = .ok (.if_icmp .ne 42, 3) := dk_160 0 42 (dk_at dksX3_is_1 14 rfl rfl)
theorem dX3_is_39 : decode cX3_is 39 = .ok (.aload_n 0, 1) := dk_42 (dk_at dksX3_is_1 17 rfl rfl)
theorem dX3_is_40 : decode cX3_is 40 = .ok (.aload_n 0, 1) := dk_42 (dk_at dksX3_is_1 18 rfl rfl)
theorem dX3_is_41 : decode cX3_is 41 = .ok (.getfield 131, 3) := dk_180 0 131 (dk_at dksX3_is_1 19 rfl rfl)
theorem dX3_is_44 : decode cX3_is 44 = .ok (.iconst 2, 1) := dk_5 (dk_at dksX3_is_1 22 rfl rfl)
theorem dX3_is_45 : decode cX3_is 45 = .ok (.iadd, 1) := dk_96 (dk_at dksX3_is_1 23 rfl rfl)
theorem dX3_is_46 : decode cX3_is 46 = .ok (.invokevirtual 140, 3) := dk_182 0 140 (dk_at dksX3_is_2 0 rfl rfl)
theorem dX3_is_49 : decode cX3_is 49 = .ok (.iload 4, 2) := dk_21 4 (dk_at dksX3_is_2 3 rfl rfl)
theorem dX3_is_51 : decode cX3_is 51 = .ok (.if_icmp .ne 27, 3) := dk_160 0 27 (dk_at dksX3_is_2 5 rfl rfl)
theorem dX3_is_54 : decode cX3_is 54 = .ok (.iload_n 1, 1) := dk_27 (dk_at dksX3_is_2 8 rfl rfl)
theorem dX3_is_55 : decode cX3_is 55 = .ok (.iconst 4, 1) := dk_7 (dk_at dksX3_is_2 9 rfl rfl)
theorem dX3_is_56 : decode cX3_is 56 = .ok (.if_icmp .lt 18, 3) := dk_161 0 18 (dk_at dksX3_is_2 10 rfl rfl)
theorem dX3_is_59 : decode cX3_is 59 = .ok (.aload_n 0, 1) := dk_42 (dk_at dksX3_is_2 13 rfl rfl)
theorem dX3_is_60 : decode cX3_is 60 = .ok (.aload_n 0, 1) := dk_42 (dk_at dksX3_is_2 14 rfl rfl)
theorem dX3_is_61 : decode cX3_is 61 = .ok (.getfield 131, 3) := dk_180 0 131 (dk_at dksX3_is_2 15 rfl rfl)
theorem dX3_is_64 : decode cX3_is 64 = .ok (.iconst 3, 1) := dk_6 (dk_at dksX3_is_2 18 rfl rfl)
theorem dX3_is_65 : decode cX3_is 65 = .ok (.iadd, 1) := dk_96 (dk_at dksX3_is_2 19 rfl rfl)
theorem dX3_is_66 : decode cX3_is 66 = .ok (.invokevirtual 140, 3) := dk_182 0 140 (dk_at dksX3_is_2 20 rfl rfl)
theorem dX3_is_69 : decode cX3_is 69 = .ok (.iload 5, 2) := dk_21 5 (dk_at dksX3_is_3 0 rfl rfl)
theorem dX3_is_71 : decode cX3_is 71 = .ok (.if_icmp .ne 7, 3) := dk_160 0 7 (dk_at dksX3_is_3 2 rfl rfl)
theorem dX3_is_74 : decode cX3_is 74 = .ok (.iconst 1, 1) := dk_4 (dk_at dksX3_is_3 5 rfl rfl)
theorem dX3_is_75 : decode cX3_is 75 = .ok (.goto 4, 3) := dk_167 0 4 (dk_at dksX3_is_3 6 rfl rfl)
theorem dX3_is_78 : decode cX3_is 78 = .ok (.iconst 0, 1) := dk_3 (dk_at dksX3_is_3 9 rfl rfl)
theorem dX3_is_79 : decode cX3_is 79 = .ok (.ireturn, 1) := dk_172 (dk_at dksX3_is_3 10 rfl rfl)
abbrev cX3_readLine : ByteArray := prog_11_method_17_code
def yX3_readLine : MethodName := ⟨RX3, "readLine", "()V"⟩
def dkwX3_readLine_6 : List UInt8 := [181, 0, 184, 42, 89, 180, 0, 175, 4, 96, 181, 0, 175, 177]
abbrev dktX3_readLine_6 : List UInt8 := dkwX3_readLine_6 ++ []
def dkwX3_readLine_5 : List UInt8 := [100, 46, 79, 42, 180, 0, 52, 42, 180, 0, 184, 42, 180, 0, 175, 79, 42, 89, 180, 0, 184, 4, 96]
abbrev dktX3_readLine_5 : List UInt8 := dkwX3_readLine_5 ++ dktX3_readLine_6
def dkwX3_readLine_4 : List UInt8 := [180, 0, 175, 42, 180, 0, 181, 154, 0, 8, 16, 252, 167, 0, 14, 42, 180, 0, 46, 42, 180, 0, 181, 4]
abbrev dktX3_readLine_4 : List UInt8 := dkwX3_readLine_4 ++ dktX3_readLine_5
def dkwX3_readLine_3 : List UInt8 := [42, 180, 0, 128, 154, 0, 78, 42, 180, 0, 31, 42, 180, 0, 175, 27, 79, 42, 180, 0, 37, 42]
abbrev dktX3_readLine_3 : List UInt8 := dkwX3_readLine_3 ++ dktX3_readLine_4
def dkwX3_readLine_2 : List UInt8 := [180, 0, 34, 16, 8, 42, 180, 0, 175, 104, 28, 96, 3, 79, 132, 2, 1, 167, 255, 225, 42, 182, 0, 178]
abbrev dktX3_readLine_2 : List UInt8 := dkwX3_readLine_2 ++ dktX3_readLine_3
def dkwX3_readLine_1 : List UInt8 := [4, 16, 20, 182, 0, 171, 60, 3, 61, 28, 16, 8, 162, 0, 31, 42, 180, 0, 128, 154, 0, 24, 42]
abbrev dktX3_readLine_1 : List UInt8 := dkwX3_readLine_1 ++ dktX3_readLine_2
def dkwX3_readLine_0 : List UInt8 := [42, 42, 180, 0, 175, 16, 16, 162, 0, 7, 4, 167, 0, 4, 3, 8, 182, 0, 162, 42, 182, 0, 166, 42]
abbrev dktX3_readLine_0 : List UInt8 := dkwX3_readLine_0 ++ dktX3_readLine_1
theorem dksX3_readLine_0 : cX3_readLine.data.toList.drop 0 = dktX3_readLine_0 := by decide +kernel
theorem dksX3_readLine_1 : cX3_readLine.data.toList.drop 24 = dktX3_readLine_1 := dk_seg dksX3_readLine_0 24 rfl rfl
theorem dksX3_readLine_2 : cX3_readLine.data.toList.drop 47 = dktX3_readLine_2 := dk_seg dksX3_readLine_1 23 rfl rfl
theorem dksX3_readLine_3 : cX3_readLine.data.toList.drop 71 = dktX3_readLine_3 := dk_seg dksX3_readLine_2 24 rfl rfl
theorem dksX3_readLine_4 : cX3_readLine.data.toList.drop 93 = dktX3_readLine_4 := dk_seg dksX3_readLine_3 22 rfl rfl
theorem dksX3_readLine_5 : cX3_readLine.data.toList.drop 117 = dktX3_readLine_5 := dk_seg dksX3_readLine_4 24 rfl rfl
theorem dksX3_readLine_6 : cX3_readLine.data.toList.drop 140 = dktX3_readLine_6 := dk_seg dksX3_readLine_5 23 rfl rfl
theorem dX3_readLine_0 : decode cX3_readLine 0 = .ok (.aload_n 0, 1) := dk_42 (dk_at dksX3_readLine_0 0 rfl rfl)
theorem dX3_readLine_1 : decode cX3_readLine 1 = .ok (.aload_n 0, 1) := dk_42 (dk_at dksX3_readLine_0 1 rfl rfl)
theorem dX3_readLine_2 : decode cX3_readLine 2 = .ok (.getfield 175, 3) := dk_180 0 175 (dk_at dksX3_readLine_0 2 rfl rfl)
theorem dX3_readLine_5 : decode cX3_readLine 5 = .ok (.bipush 16, 2) := dk_16 16 (dk_at dksX3_readLine_0 5 rfl rfl)
theorem dX3_readLine_7 : decode cX3_readLine 7 = .ok (.if_icmp .ge 7, 3) := dk_162 0 7 (dk_at dksX3_readLine_0 7 rfl rfl)
theorem dX3_readLine_10 : decode cX3_readLine 10 = .ok (.iconst 1, 1) := dk_4 (dk_at dksX3_readLine_0 10 rfl rfl)
theorem dX3_readLine_11 : decode cX3_readLine 11 = .ok (.goto 4, 3) := dk_167 0 4 (dk_at dksX3_readLine_0 11 rfl rfl)
theorem dX3_readLine_14 : decode cX3_readLine 14 = .ok (.iconst 0, 1) := dk_3 (dk_at dksX3_readLine_0 14 rfl rfl)
theorem dX3_readLine_15 : decode cX3_readLine 15 = .ok (.iconst 5, 1) := dk_8 (dk_at dksX3_readLine_0 15 rfl rfl)
theorem dX3_readLine_16 : decode cX3_readLine 16 = .ok (.invokevirtual 162, 3) := dk_182 0 162 (dk_at dksX3_readLine_0 16 rfl rfl)
theorem dX3_readLine_19 : decode cX3_readLine 19 = .ok (.aload_n 0, 1) := dk_42 (dk_at dksX3_readLine_0 19 rfl rfl)
theorem dX3_readLine_20 : decode cX3_readLine 20 = .ok (.invokevirtual 166, 3) := dk_182 0 166 (dk_at dksX3_readLine_0 20 rfl rfl)
theorem dX3_readLine_23 : decode cX3_readLine 23 = .ok (.aload_n 0, 1) := dk_42 (dk_at dksX3_readLine_0 23 rfl rfl)
theorem dX3_readLine_24 : decode cX3_readLine 24 = .ok (.iconst 1, 1) := dk_4 (dk_at dksX3_readLine_1 0 rfl rfl)
theorem dX3_readLine_25 : decode cX3_readLine 25 = .ok (.bipush 20, 2) := dk_16 20 (dk_at dksX3_readLine_1 1 rfl rfl)
theorem dX3_readLine_27 : decode cX3_readLine 27 = .ok (.invokevirtual 171, 3) := dk_182 0 171 (dk_at dksX3_readLine_1 3 rfl rfl)
theorem dX3_readLine_30 : decode cX3_readLine 30 = .ok (.istore_n 1, 1) := dk_60 (dk_at dksX3_readLine_1 6 rfl rfl)
theorem dX3_readLine_31 : decode cX3_readLine 31 = .ok (.iconst 0, 1) := dk_3 (dk_at dksX3_readLine_1 7 rfl rfl)
theorem dX3_readLine_32 : decode cX3_readLine 32 = .ok (.istore_n 2, 1) := dk_61 (dk_at dksX3_readLine_1 8 rfl rfl)
theorem dX3_readLine_33 : decode cX3_readLine 33 = .ok (.iload_n 2, 1) := dk_28 (dk_at dksX3_readLine_1 9 rfl rfl)
theorem dX3_readLine_34 : decode cX3_readLine 34 = .ok (.bipush 8, 2) := dk_16 8 (dk_at dksX3_readLine_1 10 rfl rfl)
theorem dX3_readLine_36 : decode cX3_readLine 36 = .ok (.if_icmp .ge 31, 3) := dk_162 0 31 (dk_at dksX3_readLine_1 12 rfl rfl)
theorem dX3_readLine_39 : decode cX3_readLine 39 = .ok (.aload_n 0, 1) := dk_42 (dk_at dksX3_readLine_1 15 rfl rfl)
theorem dX3_readLine_40 : decode cX3_readLine 40 = .ok (.getfield 128, 3) := dk_180 0 128 (dk_at dksX3_readLine_1 16 rfl rfl)
theorem dX3_readLine_43 : decode cX3_readLine 43 = .ok (.ifCond .ne 24, 3) := dk_154 0 24 (dk_at dksX3_readLine_1 19 rfl rfl)
theorem dX3_readLine_46 : decode cX3_readLine 46 = .ok (.aload_n 0, 1) := dk_42 (dk_at dksX3_readLine_1 22 rfl rfl)
theorem dX3_readLine_47 : decode cX3_readLine 47 = .ok (.getfield 34, 3) := dk_180 0 34 (dk_at dksX3_readLine_2 0 rfl rfl)
theorem dX3_readLine_50 : decode cX3_readLine 50 = .ok (.bipush 8, 2) := dk_16 8 (dk_at dksX3_readLine_2 3 rfl rfl)
theorem dX3_readLine_52 : decode cX3_readLine 52 = .ok (.aload_n 0, 1) := dk_42 (dk_at dksX3_readLine_2 5 rfl rfl)
theorem dX3_readLine_53 : decode cX3_readLine 53 = .ok (.getfield 175, 3) := dk_180 0 175 (dk_at dksX3_readLine_2 6 rfl rfl)
theorem dX3_readLine_56 : decode cX3_readLine 56 = .ok (.imul, 1) := dk_104 (dk_at dksX3_readLine_2 9 rfl rfl)
theorem dX3_readLine_57 : decode cX3_readLine 57 = .ok (.iload_n 2, 1) := dk_28 (dk_at dksX3_readLine_2 10 rfl rfl)
theorem dX3_readLine_58 : decode cX3_readLine 58 = .ok (.iadd, 1) := dk_96 (dk_at dksX3_readLine_2 11 rfl rfl)
theorem dX3_readLine_59 : decode cX3_readLine 59 = .ok (.iconst 0, 1) := dk_3 (dk_at dksX3_readLine_2 12 rfl rfl)
theorem dX3_readLine_60 : decode cX3_readLine 60 = .ok (.iastore, 1) := dk_79 (dk_at dksX3_readLine_2 13 rfl rfl)
theorem dX3_readLine_61 : decode cX3_readLine 61 = .ok (.iinc 2 1, 3) := dk_132 2 1 (dk_at dksX3_readLine_2 14 rfl rfl)
theorem dX3_readLine_64 : decode cX3_readLine 64 = .ok (.goto (-31), 3) := dk_167 255 225 (dk_at dksX3_readLine_2 17 rfl rfl)
theorem dX3_readLine_67 : decode cX3_readLine 67 = .ok (.aload_n 0, 1) := dk_42 (dk_at dksX3_readLine_2 20 rfl rfl)
theorem dX3_readLine_68 : decode cX3_readLine 68 = .ok (.invokevirtual 178, 3) := dk_182 0 178 (dk_at dksX3_readLine_2 21 rfl rfl)
theorem dX3_readLine_71 : decode cX3_readLine 71 = .ok (.aload_n 0, 1) := dk_42 (dk_at dksX3_readLine_3 0 rfl rfl)
theorem dX3_readLine_72 : decode cX3_readLine 72 = .ok (.getfield 128, 3) := dk_180 0 128 (dk_at dksX3_readLine_3 1 rfl rfl)
theorem dX3_readLine_75 : decode cX3_readLine 75 = .ok (.ifCond .ne 78, 3) := dk_154 0 78 (dk_at dksX3_readLine_3 4 rfl rfl)
theorem dX3_readLine_78 : decode cX3_readLine 78 = .ok (.aload_n 0, 1) := dk_42 (dk_at dksX3_readLine_3 7 rfl rfl)
theorem dX3_readLine_79 : decode cX3_readLine 79 = .ok (.getfield 31, 3) := dk_180 0 31 (dk_at dksX3_readLine_3 8 rfl rfl)
theorem dX3_readLine_82 : decode cX3_readLine 82 = .ok (.aload_n 0, 1) := dk_42 (dk_at dksX3_readLine_3 11 rfl rfl)
theorem dX3_readLine_83 : decode cX3_readLine 83 = .ok (.getfield 175, 3) := dk_180 0 175 (dk_at dksX3_readLine_3 12 rfl rfl)
theorem dX3_readLine_86 : decode cX3_readLine 86 = .ok (.iload_n 1, 1) := dk_27 (dk_at dksX3_readLine_3 15 rfl rfl)
theorem dX3_readLine_87 : decode cX3_readLine 87 = .ok (.iastore, 1) := dk_79 (dk_at dksX3_readLine_3 16 rfl rfl)
theorem dX3_readLine_88 : decode cX3_readLine 88 = .ok (.aload_n 0, 1) := dk_42 (dk_at dksX3_readLine_3 17 rfl rfl)
theorem dX3_readLine_89 : decode cX3_readLine 89 = .ok (.getfield 37, 3) := dk_180 0 37 (dk_at dksX3_readLine_3 18 rfl rfl)
theorem dX3_readLine_92 : decode cX3_readLine 92 = .ok (.aload_n 0, 1) := dk_42 (dk_at dksX3_readLine_3 21 rfl rfl)
theorem dX3_readLine_93 : decode cX3_readLine 93 = .ok (.getfield 175, 3) := dk_180 0 175 (dk_at dksX3_readLine_4 0 rfl rfl)
theorem dX3_readLine_96 : decode cX3_readLine 96 = .ok (.aload_n 0, 1) := dk_42 (dk_at dksX3_readLine_4 3 rfl rfl)
theorem dX3_readLine_97 : decode cX3_readLine 97 = .ok (.getfield 181, 3) := dk_180 0 181 (dk_at dksX3_readLine_4 4 rfl rfl)
theorem dX3_readLine_100 : decode cX3_readLine 100 = .ok (.ifCond .ne 8, 3) := dk_154 0 8 (dk_at dksX3_readLine_4 7 rfl rfl)
theorem dX3_readLine_103 : decode cX3_readLine 103 = .ok (.bipush (-4), 2) := dk_16 252 (dk_at dksX3_readLine_4 10 rfl rfl)
theorem dX3_readLine_105 : decode cX3_readLine 105 = .ok (.goto 14, 3) := dk_167 0 14 (dk_at dksX3_readLine_4 12 rfl rfl)
theorem dX3_readLine_108 : decode cX3_readLine 108 = .ok (.aload_n 0, 1) := dk_42 (dk_at dksX3_readLine_4 15 rfl rfl)
theorem dX3_readLine_109 : decode cX3_readLine 109 = .ok (.getfield 46, 3) := dk_180 0 46 (dk_at dksX3_readLine_4 16 rfl rfl)
theorem dX3_readLine_112 : decode cX3_readLine 112 = .ok (.aload_n 0, 1) := dk_42 (dk_at dksX3_readLine_4 19 rfl rfl)
theorem dX3_readLine_113 : decode cX3_readLine 113 = .ok (.getfield 181, 3) := dk_180 0 181 (dk_at dksX3_readLine_4 20 rfl rfl)
theorem dX3_readLine_116 : decode cX3_readLine 116 = .ok (.iconst 1, 1) := dk_4 (dk_at dksX3_readLine_4 23 rfl rfl)
theorem dX3_readLine_117 : decode cX3_readLine 117 = .ok (.isub, 1) := dk_100 (dk_at dksX3_readLine_5 0 rfl rfl)
theorem dX3_readLine_118 : decode cX3_readLine 118 = .ok (.iaload, 1) := dk_46 (dk_at dksX3_readLine_5 1 rfl rfl)
theorem dX3_readLine_119 : decode cX3_readLine 119 = .ok (.iastore, 1) := dk_79 (dk_at dksX3_readLine_5 2 rfl rfl)
theorem dX3_readLine_120 : decode cX3_readLine 120 = .ok (.aload_n 0, 1) := dk_42 (dk_at dksX3_readLine_5 3 rfl rfl)
theorem dX3_readLine_121 : decode cX3_readLine 121 = .ok (.getfield 52, 3) := dk_180 0 52 (dk_at dksX3_readLine_5 4 rfl rfl)
theorem dX3_readLine_124 : decode cX3_readLine 124 = .ok (.aload_n 0, 1) := dk_42 (dk_at dksX3_readLine_5 7 rfl rfl)
theorem dX3_readLine_125 : decode cX3_readLine 125 = .ok (.getfield 184, 3) := dk_180 0 184 (dk_at dksX3_readLine_5 8 rfl rfl)
theorem dX3_readLine_128 : decode cX3_readLine 128 = .ok (.aload_n 0, 1) := dk_42 (dk_at dksX3_readLine_5 11 rfl rfl)
theorem dX3_readLine_129 : decode cX3_readLine 129 = .ok (.getfield 175, 3) := dk_180 0 175 (dk_at dksX3_readLine_5 12 rfl rfl)
theorem dX3_readLine_132 : decode cX3_readLine 132 = .ok (.iastore, 1) := dk_79 (dk_at dksX3_readLine_5 15 rfl rfl)
theorem dX3_readLine_133 : decode cX3_readLine 133 = .ok (.aload_n 0, 1) := dk_42 (dk_at dksX3_readLine_5 16 rfl rfl)
theorem dX3_readLine_134 : decode cX3_readLine 134 = .ok (.dup, 1) := dk_89 (dk_at dksX3_readLine_5 17 rfl rfl)
theorem dX3_readLine_135 : decode cX3_readLine 135 = .ok (.getfield 184, 3) := dk_180 0 184 (dk_at dksX3_readLine_5 18 rfl rfl)
theorem dX3_readLine_138 : decode cX3_readLine 138 = .ok (.iconst 1, 1) := dk_4 (dk_at dksX3_readLine_5 21 rfl rfl)
theorem dX3_readLine_139 : decode cX3_readLine 139 = .ok (.iadd, 1) := dk_96 (dk_at dksX3_readLine_5 22 rfl rfl)
theorem dX3_readLine_140 : decode cX3_readLine 140 = .ok (.putfield 184, 3) := dk_181 0 184 (dk_at dksX3_readLine_6 0 rfl rfl)
theorem dX3_readLine_143 : decode cX3_readLine 143 = .ok (.aload_n 0, 1) := dk_42 (dk_at dksX3_readLine_6 3 rfl rfl)
theorem dX3_readLine_144 : decode cX3_readLine 144 = .ok (.dup, 1) := dk_89 (dk_at dksX3_readLine_6 4 rfl rfl)
theorem dX3_readLine_145 : decode cX3_readLine 145 = .ok (.getfield 175, 3) := dk_180 0 175 (dk_at dksX3_readLine_6 5 rfl rfl)
theorem dX3_readLine_148 : decode cX3_readLine 148 = .ok (.iconst 1, 1) := dk_4 (dk_at dksX3_readLine_6 8 rfl rfl)
theorem dX3_readLine_149 : decode cX3_readLine 149 = .ok (.iadd, 1) := dk_96 (dk_at dksX3_readLine_6 9 rfl rfl)
theorem dX3_readLine_150 : decode cX3_readLine 150 = .ok (.putfield 175, 3) := dk_181 0 175 (dk_at dksX3_readLine_6 10 rfl rfl)
theorem dX3_readLine_153 : decode cX3_readLine 153 = .ok (.return_, 1) := dk_177 (dk_at dksX3_readLine_6 13 rfl rfl)
abbrev cX3_readNumber : ByteArray := prog_11_method_15_code
def yX3_readNumber : MethodName := ⟨RX3, "readNumber", "(II)I"⟩
def dkwX3_readNumber_2 : List UInt8 := [182, 0, 162, 42, 180, 0, 159, 62, 42, 182, 0, 166, 29, 172]
abbrev dktX3_readNumber_2 : List UInt8 := dkwX3_readNumber_2 ++ []
def dkwX3_readNumber_1 : List UInt8 := [182, 0, 162, 42, 180, 0, 128, 154, 0, 20, 42, 42, 180, 0, 159, 133, 27, 133, 28, 133, 184, 0, 124, 6]
abbrev dktX3_readNumber_1 : List UInt8 := dkwX3_readNumber_1 ++ dktX3_readNumber_2
def dkwX3_readNumber_0 : List UInt8 := [42, 180, 0, 128, 154, 0, 21, 42, 42, 180, 0, 148, 5, 160, 0, 7, 4, 167, 0, 4, 3, 5]
abbrev dktX3_readNumber_0 : List UInt8 := dkwX3_readNumber_0 ++ dktX3_readNumber_1
theorem dksX3_readNumber_0 : cX3_readNumber.data.toList.drop 0 = dktX3_readNumber_0 := by decide +kernel
theorem dksX3_readNumber_1 : cX3_readNumber.data.toList.drop 22 = dktX3_readNumber_1 := dk_seg dksX3_readNumber_0 22 rfl rfl
theorem dksX3_readNumber_2 : cX3_readNumber.data.toList.drop 46 = dktX3_readNumber_2 := dk_seg dksX3_readNumber_1 24 rfl rfl
theorem dX3_readNumber_0 : decode cX3_readNumber 0 = .ok (.aload_n 0, 1) := dk_42 (dk_at dksX3_readNumber_0 0 rfl rfl)
theorem dX3_readNumber_1 : decode cX3_readNumber 1 = .ok (.getfield 128, 3) := dk_180 0 128 (dk_at dksX3_readNumber_0 1 rfl rfl)
theorem dX3_readNumber_4 : decode cX3_readNumber 4 = .ok (.ifCond .ne 21, 3) := dk_154 0 21 (dk_at dksX3_readNumber_0 4 rfl rfl)
theorem dX3_readNumber_7 : decode cX3_readNumber 7 = .ok (.aload_n 0, 1) := dk_42 (dk_at dksX3_readNumber_0 7 rfl rfl)
theorem dX3_readNumber_8 : decode cX3_readNumber 8 = .ok (.aload_n 0, 1) := dk_42 (dk_at dksX3_readNumber_0 8 rfl rfl)
theorem dX3_readNumber_9 : decode cX3_readNumber 9 = .ok (.getfield 148, 3) := dk_180 0 148 (dk_at dksX3_readNumber_0 9 rfl rfl)
theorem dX3_readNumber_12 : decode cX3_readNumber 12 = .ok (.iconst 2, 1) := dk_5 (dk_at dksX3_readNumber_0 12 rfl rfl)
theorem dX3_readNumber_13 : decode cX3_readNumber 13 = .ok (.if_icmp .ne 7, 3) := dk_160 0 7 (dk_at dksX3_readNumber_0 13 rfl rfl)
theorem dX3_readNumber_16 : decode cX3_readNumber 16 = .ok (.iconst 1, 1) := dk_4 (dk_at dksX3_readNumber_0 16 rfl rfl)
theorem dX3_readNumber_17 : decode cX3_readNumber 17 = .ok (.goto 4, 3) := dk_167 0 4 (dk_at dksX3_readNumber_0 17 rfl rfl)
theorem dX3_readNumber_20 : decode cX3_readNumber 20 = .ok (.iconst 0, 1) := dk_3 (dk_at dksX3_readNumber_0 20 rfl rfl)
theorem dX3_readNumber_21 : decode cX3_readNumber 21 = .ok (.iconst 2, 1) := dk_5 (dk_at dksX3_readNumber_0 21 rfl rfl)
theorem dX3_readNumber_22 : decode cX3_readNumber 22 = .ok (.invokevirtual 162, 3) := dk_182 0 162 (dk_at dksX3_readNumber_1 0 rfl rfl)
theorem dX3_readNumber_25 : decode cX3_readNumber 25 = .ok (.aload_n 0, 1) := dk_42 (dk_at dksX3_readNumber_1 3 rfl rfl)
theorem dX3_readNumber_26 : decode cX3_readNumber 26 = .ok (.getfield 128, 3) := dk_180 0 128 (dk_at dksX3_readNumber_1 4 rfl rfl)
theorem dX3_readNumber_29 : decode cX3_readNumber 29 = .ok (.ifCond .ne 20, 3) := dk_154 0 20 (dk_at dksX3_readNumber_1 7 rfl rfl)
theorem dX3_readNumber_32 : decode cX3_readNumber 32 = .ok (.aload_n 0, 1) := dk_42 (dk_at dksX3_readNumber_1 10 rfl rfl)
theorem dX3_readNumber_33 : decode cX3_readNumber 33 = .ok (.aload_n 0, 1) := dk_42 (dk_at dksX3_readNumber_1 11 rfl rfl)
theorem dX3_readNumber_34 : decode cX3_readNumber 34 = .ok (.getfield 159, 3) := dk_180 0 159 (dk_at dksX3_readNumber_1 12 rfl rfl)
theorem dX3_readNumber_37 : decode cX3_readNumber 37 = .ok (.i2l, 1) := dk_133 (dk_at dksX3_readNumber_1 15 rfl rfl)
theorem dX3_readNumber_38 : decode cX3_readNumber 38 = .ok (.iload_n 1, 1) := dk_27 (dk_at dksX3_readNumber_1 16 rfl rfl)
theorem dX3_readNumber_39 : decode cX3_readNumber 39 = .ok (.i2l, 1) := dk_133 (dk_at dksX3_readNumber_1 17 rfl rfl)
theorem dX3_readNumber_40 : decode cX3_readNumber 40 = .ok (.iload_n 2, 1) := dk_28 (dk_at dksX3_readNumber_1 18 rfl rfl)
theorem dX3_readNumber_41 : decode cX3_readNumber 41 = .ok (.i2l, 1) := dk_133 (dk_at dksX3_readNumber_1 19 rfl rfl)
theorem dX3_readNumber_42 : decode cX3_readNumber 42 = .ok (.invokestatic 124, 3) := dk_184 0 124 (dk_at dksX3_readNumber_1 20 rfl rfl)
theorem dX3_readNumber_45 : decode cX3_readNumber 45 = .ok (.iconst 3, 1) := dk_6 (dk_at dksX3_readNumber_1 23 rfl rfl)
theorem dX3_readNumber_46 : decode cX3_readNumber 46 = .ok (.invokevirtual 162, 3) := dk_182 0 162 (dk_at dksX3_readNumber_2 0 rfl rfl)
theorem dX3_readNumber_49 : decode cX3_readNumber 49 = .ok (.aload_n 0, 1) := dk_42 (dk_at dksX3_readNumber_2 3 rfl rfl)
theorem dX3_readNumber_50 : decode cX3_readNumber 50 = .ok (.getfield 159, 3) := dk_180 0 159 (dk_at dksX3_readNumber_2 4 rfl rfl)
theorem dX3_readNumber_53 : decode cX3_readNumber 53 = .ok (.istore_n 3, 1) := dk_62 (dk_at dksX3_readNumber_2 7 rfl rfl)
theorem dX3_readNumber_54 : decode cX3_readNumber 54 = .ok (.aload_n 0, 1) := dk_42 (dk_at dksX3_readNumber_2 8 rfl rfl)
theorem dX3_readNumber_55 : decode cX3_readNumber 55 = .ok (.invokevirtual 166, 3) := dk_182 0 166 (dk_at dksX3_readNumber_2 9 rfl rfl)
theorem dX3_readNumber_58 : decode cX3_readNumber 58 = .ok (.iload_n 3, 1) := dk_29 (dk_at dksX3_readNumber_2 12 rfl rfl)
theorem dX3_readNumber_59 : decode cX3_readNumber 59 = .ok (.ireturn, 1) := dk_172 (dk_at dksX3_readNumber_2 13 rfl rfl)
abbrev cX3_readEvents : ByteArray := prog_11_method_16_code
def yX3_readEvents : MethodName := ⟨RX3, "readEvents", "()V"⟩
def dkwX3_readEvents_5 : List UInt8 := [42, 180, 0, 34, 16, 8, 42, 180, 0, 175, 104, 28, 96, 29, 79, 167, 255, 129, 177]
abbrev dktX3_readEvents_5 : List UInt8 := dkwX3_readEvents_5 ++ []
def dkwX3_readEvents_4 : List UInt8 := [182, 0, 166, 42, 3, 16, 99, 182, 0, 171, 62, 42, 180, 0, 128, 154, 0, 24, 27, 4, 28, 120, 128, 60]
abbrev dktX3_readEvents_4 : List UInt8 := dkwX3_readEvents_4 ++ dktX3_readEvents_5
def dkwX3_readEvents_3 : List UInt8 := [154, 0, 21, 42, 27, 28, 122, 4, 126, 154, 0, 7, 4, 167, 0, 4, 3, 7, 182, 0, 162, 42]
abbrev dktX3_readEvents_3 : List UInt8 := dkwX3_readEvents_3 ++ dktX3_readEvents_4
def dkwX3_readEvents_2 : List UInt8 := [20, 0, 169, 184, 0, 124, 153, 0, 7, 4, 167, 0, 4, 3, 6, 182, 0, 162, 42, 180, 0, 128]
abbrev dktX3_readEvents_2 : List UInt8 := dkwX3_readEvents_2 ++ dktX3_readEvents_3
def dkwX3_readEvents_1 : List UInt8 := [182, 0, 140, 16, 97, 100, 61, 42, 42, 180, 0, 137, 42, 180, 0, 131, 100, 4, 160, 0, 19, 28, 133, 9]
abbrev dktX3_readEvents_1 : List UInt8 := dkwX3_readEvents_1 ++ dktX3_readEvents_2
def dkwX3_readEvents_0 : List UInt8 := [3, 60, 42, 180, 0, 128, 154, 0, 126, 42, 180, 0, 148, 4, 160, 0, 118, 42, 42, 180, 0, 131]
abbrev dktX3_readEvents_0 : List UInt8 := dkwX3_readEvents_0 ++ dktX3_readEvents_1
theorem dksX3_readEvents_0 : cX3_readEvents.data.toList.drop 0 = dktX3_readEvents_0 := by decide +kernel
theorem dksX3_readEvents_1 : cX3_readEvents.data.toList.drop 22 = dktX3_readEvents_1 := dk_seg dksX3_readEvents_0 22 rfl rfl
theorem dksX3_readEvents_2 : cX3_readEvents.data.toList.drop 46 = dktX3_readEvents_2 := dk_seg dksX3_readEvents_1 24 rfl rfl
theorem dksX3_readEvents_3 : cX3_readEvents.data.toList.drop 68 = dktX3_readEvents_3 := dk_seg dksX3_readEvents_2 22 rfl rfl
theorem dksX3_readEvents_4 : cX3_readEvents.data.toList.drop 90 = dktX3_readEvents_4 := dk_seg dksX3_readEvents_3 22 rfl rfl
theorem dksX3_readEvents_5 : cX3_readEvents.data.toList.drop 114 = dktX3_readEvents_5 := dk_seg dksX3_readEvents_4 24 rfl rfl
theorem dX3_readEvents_0 : decode cX3_readEvents 0 = .ok (.iconst 0, 1) := dk_3 (dk_at dksX3_readEvents_0 0 rfl rfl)
theorem dX3_readEvents_1 : decode cX3_readEvents 1 = .ok (.istore_n 1, 1) := dk_60 (dk_at dksX3_readEvents_0 1 rfl rfl)
theorem dX3_readEvents_2 : decode cX3_readEvents 2 = .ok (.aload_n 0, 1) := dk_42 (dk_at dksX3_readEvents_0 2 rfl rfl)
theorem dX3_readEvents_3 : decode cX3_readEvents 3 = .ok (.getfield 128, 3) := dk_180 0 128 (dk_at dksX3_readEvents_0 3 rfl rfl)
theorem dX3_readEvents_6 : decode cX3_readEvents 6 = .ok (.ifCond .ne 126, 3) := dk_154 0 126 (dk_at dksX3_readEvents_0 6 rfl rfl)
theorem dX3_readEvents_9 : decode cX3_readEvents 9 = .ok (.aload_n 0, 1) := dk_42 (dk_at dksX3_readEvents_0 9 rfl rfl)
theorem dX3_readEvents_10 : decode cX3_readEvents 10 = .ok (.getfield 148, 3) := dk_180 0 148 (dk_at dksX3_readEvents_0 10 rfl rfl)
theorem dX3_readEvents_13 : decode cX3_readEvents 13 = .ok (.iconst 1, 1) := dk_4 (dk_at dksX3_readEvents_0 13 rfl rfl)
theorem dX3_readEvents_14 : decode cX3_readEvents 14 = .ok (.if_icmp .ne 118, 3) := dk_160 0 118 (dk_at dksX3_readEvents_0 14 rfl rfl)
theorem dX3_readEvents_17 : decode cX3_readEvents 17 = .ok (.aload_n 0, 1) := dk_42 (dk_at dksX3_readEvents_0 17 rfl rfl)
theorem dX3_readEvents_18 : decode cX3_readEvents 18 = .ok (.aload_n 0, 1) := dk_42 (dk_at dksX3_readEvents_0 18 rfl rfl)
theorem dX3_readEvents_19 : decode cX3_readEvents 19 = .ok (.getfield 131, 3) := dk_180 0 131 (dk_at dksX3_readEvents_0 19 rfl rfl)
theorem dX3_readEvents_22 : decode cX3_readEvents 22 = .ok (.invokevirtual 140, 3) := dk_182 0 140 (dk_at dksX3_readEvents_1 0 rfl rfl)
theorem dX3_readEvents_25 : decode cX3_readEvents 25 = .ok (.bipush 97, 2) := dk_16 97 (dk_at dksX3_readEvents_1 3 rfl rfl)
theorem dX3_readEvents_27 : decode cX3_readEvents 27 = .ok (.isub, 1) := dk_100 (dk_at dksX3_readEvents_1 5 rfl rfl)
theorem dX3_readEvents_28 : decode cX3_readEvents 28 = .ok (.istore_n 2, 1) := dk_61 (dk_at dksX3_readEvents_1 6 rfl rfl)
theorem dX3_readEvents_29 : decode cX3_readEvents 29 = .ok (.aload_n 0, 1) := dk_42 (dk_at dksX3_readEvents_1 7 rfl rfl)
theorem dX3_readEvents_30 : decode cX3_readEvents 30 = .ok (.aload_n 0, 1) := dk_42 (dk_at dksX3_readEvents_1 8 rfl rfl)
theorem dX3_readEvents_31 : decode cX3_readEvents 31 = .ok (.getfield 137, 3) := dk_180 0 137 (dk_at dksX3_readEvents_1 9 rfl rfl)
theorem dX3_readEvents_34 : decode cX3_readEvents 34 = .ok (.aload_n 0, 1) := dk_42 (dk_at dksX3_readEvents_1 12 rfl rfl)
theorem dX3_readEvents_35 : decode cX3_readEvents 35 = .ok (.getfield 131, 3) := dk_180 0 131 (dk_at dksX3_readEvents_1 13 rfl rfl)
theorem dX3_readEvents_38 : decode cX3_readEvents 38 = .ok (.isub, 1) := dk_100 (dk_at dksX3_readEvents_1 16 rfl rfl)
theorem dX3_readEvents_39 : decode cX3_readEvents 39 = .ok (.iconst 1, 1) := dk_4 (dk_at dksX3_readEvents_1 17 rfl rfl)
theorem dX3_readEvents_40 : decode cX3_readEvents 40 = .ok (.if_icmp .ne 19, 3) := dk_160 0 19 (dk_at dksX3_readEvents_1 18 rfl rfl)
theorem dX3_readEvents_43 : decode cX3_readEvents 43 = .ok (.iload_n 2, 1) := dk_28 (dk_at dksX3_readEvents_1 21 rfl rfl)
theorem dX3_readEvents_44 : decode cX3_readEvents 44 = .ok (.i2l, 1) := dk_133 (dk_at dksX3_readEvents_1 22 rfl rfl)
theorem dX3_readEvents_45 : decode cX3_readEvents 45 = .ok (.lconst 0, 1) := dk_9 (dk_at dksX3_readEvents_1 23 rfl rfl)
theorem dX3_readEvents_46 : decode cX3_readEvents 46 = .ok (.ldc2_w 169, 3) := dk_20 0 169 (dk_at dksX3_readEvents_2 0 rfl rfl)
theorem dX3_readEvents_49 : decode cX3_readEvents 49 = .ok (.invokestatic 124, 3) := dk_184 0 124 (dk_at dksX3_readEvents_2 3 rfl rfl)
theorem dX3_readEvents_52 : decode cX3_readEvents 52 = .ok (.ifCond .eq 7, 3) := dk_153 0 7 (dk_at dksX3_readEvents_2 6 rfl rfl)
theorem dX3_readEvents_55 : decode cX3_readEvents 55 = .ok (.iconst 1, 1) := dk_4 (dk_at dksX3_readEvents_2 9 rfl rfl)
theorem dX3_readEvents_56 : decode cX3_readEvents 56 = .ok (.goto 4, 3) := dk_167 0 4 (dk_at dksX3_readEvents_2 10 rfl rfl)
theorem dX3_readEvents_59 : decode cX3_readEvents 59 = .ok (.iconst 0, 1) := dk_3 (dk_at dksX3_readEvents_2 13 rfl rfl)
theorem dX3_readEvents_60 : decode cX3_readEvents 60 = .ok (.iconst 3, 1) := dk_6 (dk_at dksX3_readEvents_2 14 rfl rfl)
theorem dX3_readEvents_61 : decode cX3_readEvents 61 = .ok (.invokevirtual 162, 3) := dk_182 0 162 (dk_at dksX3_readEvents_2 15 rfl rfl)
theorem dX3_readEvents_64 : decode cX3_readEvents 64 = .ok (.aload_n 0, 1) := dk_42 (dk_at dksX3_readEvents_2 18 rfl rfl)
theorem dX3_readEvents_65 : decode cX3_readEvents 65 = .ok (.getfield 128, 3) := dk_180 0 128 (dk_at dksX3_readEvents_2 19 rfl rfl)
theorem dX3_readEvents_68 : decode cX3_readEvents 68 = .ok (.ifCond .ne 21, 3) := dk_154 0 21 (dk_at dksX3_readEvents_3 0 rfl rfl)
theorem dX3_readEvents_71 : decode cX3_readEvents 71 = .ok (.aload_n 0, 1) := dk_42 (dk_at dksX3_readEvents_3 3 rfl rfl)
theorem dX3_readEvents_72 : decode cX3_readEvents 72 = .ok (.iload_n 1, 1) := dk_27 (dk_at dksX3_readEvents_3 4 rfl rfl)
theorem dX3_readEvents_73 : decode cX3_readEvents 73 = .ok (.iload_n 2, 1) := dk_28 (dk_at dksX3_readEvents_3 5 rfl rfl)
theorem dX3_readEvents_74 : decode cX3_readEvents 74 = .ok (.ishr, 1) := dk_122 (dk_at dksX3_readEvents_3 6 rfl rfl)
theorem dX3_readEvents_75 : decode cX3_readEvents 75 = .ok (.iconst 1, 1) := dk_4 (dk_at dksX3_readEvents_3 7 rfl rfl)
theorem dX3_readEvents_76 : decode cX3_readEvents 76 = .ok (.iand, 1) := dk_126 (dk_at dksX3_readEvents_3 8 rfl rfl)
theorem dX3_readEvents_77 : decode cX3_readEvents 77 = .ok (.ifCond .ne 7, 3) := dk_154 0 7 (dk_at dksX3_readEvents_3 9 rfl rfl)
theorem dX3_readEvents_80 : decode cX3_readEvents 80 = .ok (.iconst 1, 1) := dk_4 (dk_at dksX3_readEvents_3 12 rfl rfl)
theorem dX3_readEvents_81 : decode cX3_readEvents 81 = .ok (.goto 4, 3) := dk_167 0 4 (dk_at dksX3_readEvents_3 13 rfl rfl)
theorem dX3_readEvents_84 : decode cX3_readEvents 84 = .ok (.iconst 0, 1) := dk_3 (dk_at dksX3_readEvents_3 16 rfl rfl)
theorem dX3_readEvents_85 : decode cX3_readEvents 85 = .ok (.iconst 4, 1) := dk_7 (dk_at dksX3_readEvents_3 17 rfl rfl)
theorem dX3_readEvents_86 : decode cX3_readEvents 86 = .ok (.invokevirtual 162, 3) := dk_182 0 162 (dk_at dksX3_readEvents_3 18 rfl rfl)
theorem dX3_readEvents_89 : decode cX3_readEvents 89 = .ok (.aload_n 0, 1) := dk_42 (dk_at dksX3_readEvents_3 21 rfl rfl)
theorem dX3_readEvents_90 : decode cX3_readEvents 90 = .ok (.invokevirtual 166, 3) := dk_182 0 166 (dk_at dksX3_readEvents_4 0 rfl rfl)
theorem dX3_readEvents_93 : decode cX3_readEvents 93 = .ok (.aload_n 0, 1) := dk_42 (dk_at dksX3_readEvents_4 3 rfl rfl)
theorem dX3_readEvents_94 : decode cX3_readEvents 94 = .ok (.iconst 0, 1) := dk_3 (dk_at dksX3_readEvents_4 4 rfl rfl)
theorem dX3_readEvents_95 : decode cX3_readEvents 95 = .ok (.bipush 99, 2) := dk_16 99 (dk_at dksX3_readEvents_4 5 rfl rfl)
theorem dX3_readEvents_97 : decode cX3_readEvents 97 = .ok (.invokevirtual 171, 3) := dk_182 0 171 (dk_at dksX3_readEvents_4 7 rfl rfl)
theorem dX3_readEvents_100 : decode cX3_readEvents 100 = .ok (.istore_n 3, 1) := dk_62 (dk_at dksX3_readEvents_4 10 rfl rfl)
theorem dX3_readEvents_101 : decode cX3_readEvents 101 = .ok (.aload_n 0, 1) := dk_42 (dk_at dksX3_readEvents_4 11 rfl rfl)
theorem dX3_readEvents_102 : decode cX3_readEvents 102 = .ok (.getfield 128, 3) := dk_180 0 128 (dk_at dksX3_readEvents_4 12 rfl rfl)
theorem dX3_readEvents_105 : decode cX3_readEvents 105 = .ok (.ifCond .ne 24, 3) := dk_154 0 24 (dk_at dksX3_readEvents_4 15 rfl rfl)
theorem dX3_readEvents_108 : decode cX3_readEvents 108 = .ok (.iload_n 1, 1) := dk_27 (dk_at dksX3_readEvents_4 18 rfl rfl)
theorem dX3_readEvents_109 : decode cX3_readEvents 109 = .ok (.iconst 1, 1) := dk_4 (dk_at dksX3_readEvents_4 19 rfl rfl)
theorem dX3_readEvents_110 : decode cX3_readEvents 110 = .ok (.iload_n 2, 1) := dk_28 (dk_at dksX3_readEvents_4 20 rfl rfl)
theorem dX3_readEvents_111 : decode cX3_readEvents 111 = .ok (.ishl, 1) := dk_120 (dk_at dksX3_readEvents_4 21 rfl rfl)
theorem dX3_readEvents_112 : decode cX3_readEvents 112 = .ok (.ior, 1) := dk_128 (dk_at dksX3_readEvents_4 22 rfl rfl)
theorem dX3_readEvents_113 : decode cX3_readEvents 113 = .ok (.istore_n 1, 1) := dk_60 (dk_at dksX3_readEvents_4 23 rfl rfl)
theorem dX3_readEvents_114 : decode cX3_readEvents 114 = .ok (.aload_n 0, 1) := dk_42 (dk_at dksX3_readEvents_5 0 rfl rfl)
theorem dX3_readEvents_115 : decode cX3_readEvents 115 = .ok (.getfield 34, 3) := dk_180 0 34 (dk_at dksX3_readEvents_5 1 rfl rfl)
theorem dX3_readEvents_118 : decode cX3_readEvents 118 = .ok (.bipush 8, 2) := dk_16 8 (dk_at dksX3_readEvents_5 4 rfl rfl)
theorem dX3_readEvents_120 : decode cX3_readEvents 120 = .ok (.aload_n 0, 1) := dk_42 (dk_at dksX3_readEvents_5 6 rfl rfl)
theorem dX3_readEvents_121 : decode cX3_readEvents 121 = .ok (.getfield 175, 3) := dk_180 0 175 (dk_at dksX3_readEvents_5 7 rfl rfl)
theorem dX3_readEvents_124 : decode cX3_readEvents 124 = .ok (.imul, 1) := dk_104 (dk_at dksX3_readEvents_5 10 rfl rfl)
theorem dX3_readEvents_125 : decode cX3_readEvents 125 = .ok (.iload_n 2, 1) := dk_28 (dk_at dksX3_readEvents_5 11 rfl rfl)
theorem dX3_readEvents_126 : decode cX3_readEvents 126 = .ok (.iadd, 1) := dk_96 (dk_at dksX3_readEvents_5 12 rfl rfl)
theorem dX3_readEvents_127 : decode cX3_readEvents 127 = .ok (.iload_n 3, 1) := dk_29 (dk_at dksX3_readEvents_5 13 rfl rfl)
theorem dX3_readEvents_128 : decode cX3_readEvents 128 = .ok (.iastore, 1) := dk_79 (dk_at dksX3_readEvents_5 14 rfl rfl)
theorem dX3_readEvents_129 : decode cX3_readEvents 129 = .ok (.goto (-127), 3) := dk_167 255 129 (dk_at dksX3_readEvents_5 15 rfl rfl)
theorem dX3_readEvents_132 : decode cX3_readEvents 132 = .ok (.return_, 1) := dk_177 (dk_at dksX3_readEvents_5 18 rfl rfl)
abbrev cX3_readLoop : ByteArray := prog_11_method_18_code
def yX3_readLoop : MethodName := ⟨RX3, "readLoop", "()V"⟩
def dkwX3_readLoop_5 : List UInt8 := [180, 0, 187, 4, 96, 181, 0, 187, 42, 89, 180, 0, 181, 4, 96, 181, 0, 181, 177]
abbrev dktX3_readLoop_5 : List UInt8 := dkwX3_readLoop_5 ++ []
def dkwX3_readLoop_4 : List UInt8 := [42, 180, 0, 184, 16, 100, 42, 180, 0, 187, 96, 79, 42, 89, 180, 0, 184, 4, 96, 181, 0, 184, 42, 89]
abbrev dktX3_readLoop_4 : List UInt8 := dkwX3_readLoop_4 ++ dktX3_readLoop_5
def dkwX3_readLoop_3 : List UInt8 := [180, 0, 181, 4, 100, 46, 79, 42, 180, 0, 46, 42, 180, 0, 181, 42, 180, 0, 187, 79, 42, 180, 0, 52]
abbrev dktX3_readLoop_3 : List UInt8 := dkwX3_readLoop_3 ++ dktX3_readLoop_4
def dkwX3_readLoop_2 : List UInt8 := [180, 0, 43, 42, 180, 0, 187, 42, 180, 0, 181, 154, 0, 8, 16, 252, 167, 0, 14, 42, 180, 0, 46, 42]
abbrev dktX3_readLoop_2 : List UInt8 := dkwX3_readLoop_2 ++ dktX3_readLoop_3
def dkwX3_readLoop_1 : List UInt8 := [16, 99, 182, 0, 171, 60, 42, 180, 0, 128, 154, 0, 104, 42, 180, 0, 40, 42, 180, 0, 187, 27, 79, 42]
abbrev dktX3_readLoop_1 : List UInt8 := dkwX3_readLoop_1 ++ dktX3_readLoop_2
def dkwX3_readLoop_0 : List UInt8 := [42, 42, 180, 0, 181, 7, 162, 0, 7, 4, 167, 0, 4, 3, 8, 182, 0, 162, 42, 182, 0, 166, 42, 4]
abbrev dktX3_readLoop_0 : List UInt8 := dkwX3_readLoop_0 ++ dktX3_readLoop_1
theorem dksX3_readLoop_0 : cX3_readLoop.data.toList.drop 0 = dktX3_readLoop_0 := by decide +kernel
theorem dksX3_readLoop_1 : cX3_readLoop.data.toList.drop 24 = dktX3_readLoop_1 := dk_seg dksX3_readLoop_0 24 rfl rfl
theorem dksX3_readLoop_2 : cX3_readLoop.data.toList.drop 48 = dktX3_readLoop_2 := dk_seg dksX3_readLoop_1 24 rfl rfl
theorem dksX3_readLoop_3 : cX3_readLoop.data.toList.drop 72 = dktX3_readLoop_3 := dk_seg dksX3_readLoop_2 24 rfl rfl
theorem dksX3_readLoop_4 : cX3_readLoop.data.toList.drop 96 = dktX3_readLoop_4 := dk_seg dksX3_readLoop_3 24 rfl rfl
theorem dksX3_readLoop_5 : cX3_readLoop.data.toList.drop 120 = dktX3_readLoop_5 := dk_seg dksX3_readLoop_4 24 rfl rfl
theorem dX3_readLoop_0 : decode cX3_readLoop 0 = .ok (.aload_n 0, 1) := dk_42 (dk_at dksX3_readLoop_0 0 rfl rfl)
theorem dX3_readLoop_1 : decode cX3_readLoop 1 = .ok (.aload_n 0, 1) := dk_42 (dk_at dksX3_readLoop_0 1 rfl rfl)
theorem dX3_readLoop_2 : decode cX3_readLoop 2 = .ok (.getfield 181, 3) := dk_180 0 181 (dk_at dksX3_readLoop_0 2 rfl rfl)
theorem dX3_readLoop_5 : decode cX3_readLoop 5 = .ok (.iconst 4, 1) := dk_7 (dk_at dksX3_readLoop_0 5 rfl rfl)
theorem dX3_readLoop_6 : decode cX3_readLoop 6 = .ok (.if_icmp .ge 7, 3) := dk_162 0 7 (dk_at dksX3_readLoop_0 6 rfl rfl)
theorem dX3_readLoop_9 : decode cX3_readLoop 9 = .ok (.iconst 1, 1) := dk_4 (dk_at dksX3_readLoop_0 9 rfl rfl)
theorem dX3_readLoop_10 : decode cX3_readLoop 10 = .ok (.goto 4, 3) := dk_167 0 4 (dk_at dksX3_readLoop_0 10 rfl rfl)
theorem dX3_readLoop_13 : decode cX3_readLoop 13 = .ok (.iconst 0, 1) := dk_3 (dk_at dksX3_readLoop_0 13 rfl rfl)
theorem dX3_readLoop_14 : decode cX3_readLoop 14 = .ok (.iconst 5, 1) := dk_8 (dk_at dksX3_readLoop_0 14 rfl rfl)
theorem dX3_readLoop_15 : decode cX3_readLoop 15 = .ok (.invokevirtual 162, 3) := dk_182 0 162 (dk_at dksX3_readLoop_0 15 rfl rfl)
theorem dX3_readLoop_18 : decode cX3_readLoop 18 = .ok (.aload_n 0, 1) := dk_42 (dk_at dksX3_readLoop_0 18 rfl rfl)
theorem dX3_readLoop_19 : decode cX3_readLoop 19 = .ok (.invokevirtual 166, 3) := dk_182 0 166 (dk_at dksX3_readLoop_0 19 rfl rfl)
theorem dX3_readLoop_22 : decode cX3_readLoop 22 = .ok (.aload_n 0, 1) := dk_42 (dk_at dksX3_readLoop_0 22 rfl rfl)
theorem dX3_readLoop_23 : decode cX3_readLoop 23 = .ok (.iconst 1, 1) := dk_4 (dk_at dksX3_readLoop_0 23 rfl rfl)
theorem dX3_readLoop_24 : decode cX3_readLoop 24 = .ok (.bipush 99, 2) := dk_16 99 (dk_at dksX3_readLoop_1 0 rfl rfl)
theorem dX3_readLoop_26 : decode cX3_readLoop 26 = .ok (.invokevirtual 171, 3) := dk_182 0 171 (dk_at dksX3_readLoop_1 2 rfl rfl)
theorem dX3_readLoop_29 : decode cX3_readLoop 29 = .ok (.istore_n 1, 1) := dk_60 (dk_at dksX3_readLoop_1 5 rfl rfl)
theorem dX3_readLoop_30 : decode cX3_readLoop 30 = .ok (.aload_n 0, 1) := dk_42 (dk_at dksX3_readLoop_1 6 rfl rfl)
theorem dX3_readLoop_31 : decode cX3_readLoop 31 = .ok (.getfield 128, 3) := dk_180 0 128 (dk_at dksX3_readLoop_1 7 rfl rfl)
theorem dX3_readLoop_34 : decode cX3_readLoop 34 = .ok (.ifCond .ne 104, 3) := dk_154 0 104 (dk_at dksX3_readLoop_1 10 rfl rfl)
theorem dX3_readLoop_37 : decode cX3_readLoop 37 = .ok (.aload_n 0, 1) := dk_42 (dk_at dksX3_readLoop_1 13 rfl rfl)
theorem dX3_readLoop_38 : decode cX3_readLoop 38 = .ok (.getfield 40, 3) := dk_180 0 40 (dk_at dksX3_readLoop_1 14 rfl rfl)
theorem dX3_readLoop_41 : decode cX3_readLoop 41 = .ok (.aload_n 0, 1) := dk_42 (dk_at dksX3_readLoop_1 17 rfl rfl)
theorem dX3_readLoop_42 : decode cX3_readLoop 42 = .ok (.getfield 187, 3) := dk_180 0 187 (dk_at dksX3_readLoop_1 18 rfl rfl)
theorem dX3_readLoop_45 : decode cX3_readLoop 45 = .ok (.iload_n 1, 1) := dk_27 (dk_at dksX3_readLoop_1 21 rfl rfl)
theorem dX3_readLoop_46 : decode cX3_readLoop 46 = .ok (.iastore, 1) := dk_79 (dk_at dksX3_readLoop_1 22 rfl rfl)
theorem dX3_readLoop_47 : decode cX3_readLoop 47 = .ok (.aload_n 0, 1) := dk_42 (dk_at dksX3_readLoop_1 23 rfl rfl)
theorem dX3_readLoop_48 : decode cX3_readLoop 48 = .ok (.getfield 43, 3) := dk_180 0 43 (dk_at dksX3_readLoop_2 0 rfl rfl)
theorem dX3_readLoop_51 : decode cX3_readLoop 51 = .ok (.aload_n 0, 1) := dk_42 (dk_at dksX3_readLoop_2 3 rfl rfl)
theorem dX3_readLoop_52 : decode cX3_readLoop 52 = .ok (.getfield 187, 3) := dk_180 0 187 (dk_at dksX3_readLoop_2 4 rfl rfl)
theorem dX3_readLoop_55 : decode cX3_readLoop 55 = .ok (.aload_n 0, 1) := dk_42 (dk_at dksX3_readLoop_2 7 rfl rfl)
theorem dX3_readLoop_56 : decode cX3_readLoop 56 = .ok (.getfield 181, 3) := dk_180 0 181 (dk_at dksX3_readLoop_2 8 rfl rfl)
theorem dX3_readLoop_59 : decode cX3_readLoop 59 = .ok (.ifCond .ne 8, 3) := dk_154 0 8 (dk_at dksX3_readLoop_2 11 rfl rfl)
theorem dX3_readLoop_62 : decode cX3_readLoop 62 = .ok (.bipush (-4), 2) := dk_16 252 (dk_at dksX3_readLoop_2 14 rfl rfl)
theorem dX3_readLoop_64 : decode cX3_readLoop 64 = .ok (.goto 14, 3) := dk_167 0 14 (dk_at dksX3_readLoop_2 16 rfl rfl)
theorem dX3_readLoop_67 : decode cX3_readLoop 67 = .ok (.aload_n 0, 1) := dk_42 (dk_at dksX3_readLoop_2 19 rfl rfl)
theorem dX3_readLoop_68 : decode cX3_readLoop 68 = .ok (.getfield 46, 3) := dk_180 0 46 (dk_at dksX3_readLoop_2 20 rfl rfl)
theorem dX3_readLoop_71 : decode cX3_readLoop 71 = .ok (.aload_n 0, 1) := dk_42 (dk_at dksX3_readLoop_2 23 rfl rfl)
theorem dX3_readLoop_72 : decode cX3_readLoop 72 = .ok (.getfield 181, 3) := dk_180 0 181 (dk_at dksX3_readLoop_3 0 rfl rfl)
theorem dX3_readLoop_75 : decode cX3_readLoop 75 = .ok (.iconst 1, 1) := dk_4 (dk_at dksX3_readLoop_3 3 rfl rfl)
theorem dX3_readLoop_76 : decode cX3_readLoop 76 = .ok (.isub, 1) := dk_100 (dk_at dksX3_readLoop_3 4 rfl rfl)
theorem dX3_readLoop_77 : decode cX3_readLoop 77 = .ok (.iaload, 1) := dk_46 (dk_at dksX3_readLoop_3 5 rfl rfl)
theorem dX3_readLoop_78 : decode cX3_readLoop 78 = .ok (.iastore, 1) := dk_79 (dk_at dksX3_readLoop_3 6 rfl rfl)
theorem dX3_readLoop_79 : decode cX3_readLoop 79 = .ok (.aload_n 0, 1) := dk_42 (dk_at dksX3_readLoop_3 7 rfl rfl)
theorem dX3_readLoop_80 : decode cX3_readLoop 80 = .ok (.getfield 46, 3) := dk_180 0 46 (dk_at dksX3_readLoop_3 8 rfl rfl)
theorem dX3_readLoop_83 : decode cX3_readLoop 83 = .ok (.aload_n 0, 1) := dk_42 (dk_at dksX3_readLoop_3 11 rfl rfl)
theorem dX3_readLoop_84 : decode cX3_readLoop 84 = .ok (.getfield 181, 3) := dk_180 0 181 (dk_at dksX3_readLoop_3 12 rfl rfl)
theorem dX3_readLoop_87 : decode cX3_readLoop 87 = .ok (.aload_n 0, 1) := dk_42 (dk_at dksX3_readLoop_3 15 rfl rfl)
theorem dX3_readLoop_88 : decode cX3_readLoop 88 = .ok (.getfield 187, 3) := dk_180 0 187 (dk_at dksX3_readLoop_3 16 rfl rfl)
theorem dX3_readLoop_91 : decode cX3_readLoop 91 = .ok (.iastore, 1) := dk_79 (dk_at dksX3_readLoop_3 19 rfl rfl)
theorem dX3_readLoop_92 : decode cX3_readLoop 92 = .ok (.aload_n 0, 1) := dk_42 (dk_at dksX3_readLoop_3 20 rfl rfl)
theorem dX3_readLoop_93 : decode cX3_readLoop 93 = .ok (.getfield 52, 3) := dk_180 0 52 (dk_at dksX3_readLoop_3 21 rfl rfl)
theorem dX3_readLoop_96 : decode cX3_readLoop 96 = .ok (.aload_n 0, 1) := dk_42 (dk_at dksX3_readLoop_4 0 rfl rfl)
theorem dX3_readLoop_97 : decode cX3_readLoop 97 = .ok (.getfield 184, 3) := dk_180 0 184 (dk_at dksX3_readLoop_4 1 rfl rfl)
theorem dX3_readLoop_100 : decode cX3_readLoop 100 = .ok (.bipush 100, 2) := dk_16 100 (dk_at dksX3_readLoop_4 4 rfl rfl)
theorem dX3_readLoop_102 : decode cX3_readLoop 102 = .ok (.aload_n 0, 1) := dk_42 (dk_at dksX3_readLoop_4 6 rfl rfl)
theorem dX3_readLoop_103 : decode cX3_readLoop 103 = .ok (.getfield 187, 3) := dk_180 0 187 (dk_at dksX3_readLoop_4 7 rfl rfl)
theorem dX3_readLoop_106 : decode cX3_readLoop 106 = .ok (.iadd, 1) := dk_96 (dk_at dksX3_readLoop_4 10 rfl rfl)
theorem dX3_readLoop_107 : decode cX3_readLoop 107 = .ok (.iastore, 1) := dk_79 (dk_at dksX3_readLoop_4 11 rfl rfl)
theorem dX3_readLoop_108 : decode cX3_readLoop 108 = .ok (.aload_n 0, 1) := dk_42 (dk_at dksX3_readLoop_4 12 rfl rfl)
theorem dX3_readLoop_109 : decode cX3_readLoop 109 = .ok (.dup, 1) := dk_89 (dk_at dksX3_readLoop_4 13 rfl rfl)
theorem dX3_readLoop_110 : decode cX3_readLoop 110 = .ok (.getfield 184, 3) := dk_180 0 184 (dk_at dksX3_readLoop_4 14 rfl rfl)
theorem dX3_readLoop_113 : decode cX3_readLoop 113 = .ok (.iconst 1, 1) := dk_4 (dk_at dksX3_readLoop_4 17 rfl rfl)
theorem dX3_readLoop_114 : decode cX3_readLoop 114 = .ok (.iadd, 1) := dk_96 (dk_at dksX3_readLoop_4 18 rfl rfl)
theorem dX3_readLoop_115 : decode cX3_readLoop 115 = .ok (.putfield 184, 3) := dk_181 0 184 (dk_at dksX3_readLoop_4 19 rfl rfl)
theorem dX3_readLoop_118 : decode cX3_readLoop 118 = .ok (.aload_n 0, 1) := dk_42 (dk_at dksX3_readLoop_4 22 rfl rfl)
theorem dX3_readLoop_119 : decode cX3_readLoop 119 = .ok (.dup, 1) := dk_89 (dk_at dksX3_readLoop_4 23 rfl rfl)
theorem dX3_readLoop_120 : decode cX3_readLoop 120 = .ok (.getfield 187, 3) := dk_180 0 187 (dk_at dksX3_readLoop_5 0 rfl rfl)
theorem dX3_readLoop_123 : decode cX3_readLoop 123 = .ok (.iconst 1, 1) := dk_4 (dk_at dksX3_readLoop_5 3 rfl rfl)
theorem dX3_readLoop_124 : decode cX3_readLoop 124 = .ok (.iadd, 1) := dk_96 (dk_at dksX3_readLoop_5 4 rfl rfl)
theorem dX3_readLoop_125 : decode cX3_readLoop 125 = .ok (.putfield 187, 3) := dk_181 0 187 (dk_at dksX3_readLoop_5 5 rfl rfl)
theorem dX3_readLoop_128 : decode cX3_readLoop 128 = .ok (.aload_n 0, 1) := dk_42 (dk_at dksX3_readLoop_5 8 rfl rfl)
theorem dX3_readLoop_129 : decode cX3_readLoop 129 = .ok (.dup, 1) := dk_89 (dk_at dksX3_readLoop_5 9 rfl rfl)
theorem dX3_readLoop_130 : decode cX3_readLoop 130 = .ok (.getfield 181, 3) := dk_180 0 181 (dk_at dksX3_readLoop_5 10 rfl rfl)
theorem dX3_readLoop_133 : decode cX3_readLoop 133 = .ok (.iconst 1, 1) := dk_4 (dk_at dksX3_readLoop_5 13 rfl rfl)
theorem dX3_readLoop_134 : decode cX3_readLoop 134 = .ok (.iadd, 1) := dk_96 (dk_at dksX3_readLoop_5 14 rfl rfl)
theorem dX3_readLoop_135 : decode cX3_readLoop 135 = .ok (.putfield 181, 3) := dk_181 0 181 (dk_at dksX3_readLoop_5 15 rfl rfl)
theorem dX3_readLoop_138 : decode cX3_readLoop 138 = .ok (.return_, 1) := dk_177 (dk_at dksX3_readLoop_5 18 rfl rfl)
abbrev cX3_readEnd : ByteArray := prog_11_method_19_code
def yX3_readEnd : MethodName := ⟨RX3, "readEnd", "()V"⟩
def dkwX3_readEnd_3 : List UInt8 := [177]
abbrev dktX3_readEnd_3 : List UInt8 := dkwX3_readEnd_3 ++ []
def dkwX3_readEnd_2 : List UInt8 := [180, 0, 46, 42, 180, 0, 181, 46, 96, 79, 42, 89, 180, 0, 184, 4, 96, 181, 0, 184, 42, 182, 0, 166]
abbrev dktX3_readEnd_2 : List UInt8 := dkwX3_readEnd_2 ++ dktX3_readEnd_3
def dkwX3_readEnd_1 : List UInt8 := [42, 89, 180, 0, 181, 4, 100, 181, 0, 181, 42, 180, 0, 52, 42, 180, 0, 184, 17, 0, 200, 42]
abbrev dktX3_readEnd_1 : List UInt8 := dkwX3_readEnd_1 ++ dktX3_readEnd_2
def dkwX3_readEnd_0 : List UInt8 := [42, 42, 180, 0, 181, 158, 0, 7, 4, 167, 0, 4, 3, 5, 182, 0, 162, 42, 180, 0, 128, 154, 0, 45]
abbrev dktX3_readEnd_0 : List UInt8 := dkwX3_readEnd_0 ++ dktX3_readEnd_1
theorem dksX3_readEnd_0 : cX3_readEnd.data.toList.drop 0 = dktX3_readEnd_0 := by decide +kernel
theorem dksX3_readEnd_1 : cX3_readEnd.data.toList.drop 24 = dktX3_readEnd_1 := dk_seg dksX3_readEnd_0 24 rfl rfl
theorem dksX3_readEnd_2 : cX3_readEnd.data.toList.drop 46 = dktX3_readEnd_2 := dk_seg dksX3_readEnd_1 22 rfl rfl
theorem dksX3_readEnd_3 : cX3_readEnd.data.toList.drop 70 = dktX3_readEnd_3 := dk_seg dksX3_readEnd_2 24 rfl rfl
theorem dX3_readEnd_0 : decode cX3_readEnd 0 = .ok (.aload_n 0, 1) := dk_42 (dk_at dksX3_readEnd_0 0 rfl rfl)
theorem dX3_readEnd_1 : decode cX3_readEnd 1 = .ok (.aload_n 0, 1) := dk_42 (dk_at dksX3_readEnd_0 1 rfl rfl)
theorem dX3_readEnd_2 : decode cX3_readEnd 2 = .ok (.getfield 181, 3) := dk_180 0 181 (dk_at dksX3_readEnd_0 2 rfl rfl)
theorem dX3_readEnd_5 : decode cX3_readEnd 5 = .ok (.ifCond .le 7, 3) := dk_158 0 7 (dk_at dksX3_readEnd_0 5 rfl rfl)
theorem dX3_readEnd_8 : decode cX3_readEnd 8 = .ok (.iconst 1, 1) := dk_4 (dk_at dksX3_readEnd_0 8 rfl rfl)
theorem dX3_readEnd_9 : decode cX3_readEnd 9 = .ok (.goto 4, 3) := dk_167 0 4 (dk_at dksX3_readEnd_0 9 rfl rfl)
theorem dX3_readEnd_12 : decode cX3_readEnd 12 = .ok (.iconst 0, 1) := dk_3 (dk_at dksX3_readEnd_0 12 rfl rfl)
theorem dX3_readEnd_13 : decode cX3_readEnd 13 = .ok (.iconst 2, 1) := dk_5 (dk_at dksX3_readEnd_0 13 rfl rfl)
theorem dX3_readEnd_14 : decode cX3_readEnd 14 = .ok (.invokevirtual 162, 3) := dk_182 0 162 (dk_at dksX3_readEnd_0 14 rfl rfl)
theorem dX3_readEnd_17 : decode cX3_readEnd 17 = .ok (.aload_n 0, 1) := dk_42 (dk_at dksX3_readEnd_0 17 rfl rfl)
theorem dX3_readEnd_18 : decode cX3_readEnd 18 = .ok (.getfield 128, 3) := dk_180 0 128 (dk_at dksX3_readEnd_0 18 rfl rfl)
theorem dX3_readEnd_21 : decode cX3_readEnd 21 = .ok (.ifCond .ne 45, 3) := dk_154 0 45 (dk_at dksX3_readEnd_0 21 rfl rfl)
theorem dX3_readEnd_24 : decode cX3_readEnd 24 = .ok (.aload_n 0, 1) := dk_42 (dk_at dksX3_readEnd_1 0 rfl rfl)
theorem dX3_readEnd_25 : decode cX3_readEnd 25 = .ok (.dup, 1) := dk_89 (dk_at dksX3_readEnd_1 1 rfl rfl)
theorem dX3_readEnd_26 : decode cX3_readEnd 26 = .ok (.getfield 181, 3) := dk_180 0 181 (dk_at dksX3_readEnd_1 2 rfl rfl)
theorem dX3_readEnd_29 : decode cX3_readEnd 29 = .ok (.iconst 1, 1) := dk_4 (dk_at dksX3_readEnd_1 5 rfl rfl)
theorem dX3_readEnd_30 : decode cX3_readEnd 30 = .ok (.isub, 1) := dk_100 (dk_at dksX3_readEnd_1 6 rfl rfl)
theorem dX3_readEnd_31 : decode cX3_readEnd 31 = .ok (.putfield 181, 3) := dk_181 0 181 (dk_at dksX3_readEnd_1 7 rfl rfl)
theorem dX3_readEnd_34 : decode cX3_readEnd 34 = .ok (.aload_n 0, 1) := dk_42 (dk_at dksX3_readEnd_1 10 rfl rfl)
theorem dX3_readEnd_35 : decode cX3_readEnd 35 = .ok (.getfield 52, 3) := dk_180 0 52 (dk_at dksX3_readEnd_1 11 rfl rfl)
theorem dX3_readEnd_38 : decode cX3_readEnd 38 = .ok (.aload_n 0, 1) := dk_42 (dk_at dksX3_readEnd_1 14 rfl rfl)
theorem dX3_readEnd_39 : decode cX3_readEnd 39 = .ok (.getfield 184, 3) := dk_180 0 184 (dk_at dksX3_readEnd_1 15 rfl rfl)
theorem dX3_readEnd_42 : decode cX3_readEnd 42 = .ok (.sipush 200, 3) := dk_17 0 200 (dk_at dksX3_readEnd_1 18 rfl rfl)
theorem dX3_readEnd_45 : decode cX3_readEnd 45 = .ok (.aload_n 0, 1) := dk_42 (dk_at dksX3_readEnd_1 21 rfl rfl)
theorem dX3_readEnd_46 : decode cX3_readEnd 46 = .ok (.getfield 46, 3) := dk_180 0 46 (dk_at dksX3_readEnd_2 0 rfl rfl)
theorem dX3_readEnd_49 : decode cX3_readEnd 49 = .ok (.aload_n 0, 1) := dk_42 (dk_at dksX3_readEnd_2 3 rfl rfl)
theorem dX3_readEnd_50 : decode cX3_readEnd 50 = .ok (.getfield 181, 3) := dk_180 0 181 (dk_at dksX3_readEnd_2 4 rfl rfl)
theorem dX3_readEnd_53 : decode cX3_readEnd 53 = .ok (.iaload, 1) := dk_46 (dk_at dksX3_readEnd_2 7 rfl rfl)
theorem dX3_readEnd_54 : decode cX3_readEnd 54 = .ok (.iadd, 1) := dk_96 (dk_at dksX3_readEnd_2 8 rfl rfl)
theorem dX3_readEnd_55 : decode cX3_readEnd 55 = .ok (.iastore, 1) := dk_79 (dk_at dksX3_readEnd_2 9 rfl rfl)
theorem dX3_readEnd_56 : decode cX3_readEnd 56 = .ok (.aload_n 0, 1) := dk_42 (dk_at dksX3_readEnd_2 10 rfl rfl)
theorem dX3_readEnd_57 : decode cX3_readEnd 57 = .ok (.dup, 1) := dk_89 (dk_at dksX3_readEnd_2 11 rfl rfl)
theorem dX3_readEnd_58 : decode cX3_readEnd 58 = .ok (.getfield 184, 3) := dk_180 0 184 (dk_at dksX3_readEnd_2 12 rfl rfl)
theorem dX3_readEnd_61 : decode cX3_readEnd 61 = .ok (.iconst 1, 1) := dk_4 (dk_at dksX3_readEnd_2 15 rfl rfl)
theorem dX3_readEnd_62 : decode cX3_readEnd 62 = .ok (.iadd, 1) := dk_96 (dk_at dksX3_readEnd_2 16 rfl rfl)
theorem dX3_readEnd_63 : decode cX3_readEnd 63 = .ok (.putfield 184, 3) := dk_181 0 184 (dk_at dksX3_readEnd_2 17 rfl rfl)
theorem dX3_readEnd_66 : decode cX3_readEnd 66 = .ok (.aload_n 0, 1) := dk_42 (dk_at dksX3_readEnd_2 20 rfl rfl)
theorem dX3_readEnd_67 : decode cX3_readEnd 67 = .ok (.invokevirtual 166, 3) := dk_182 0 166 (dk_at dksX3_readEnd_2 21 rfl rfl)
theorem dX3_readEnd_70 : decode cX3_readEnd 70 = .ok (.return_, 1) := dk_177 (dk_at dksX3_readEnd_3 0 rfl rfl)
abbrev cX3_dTimes : ByteArray := prog_11_method_21_code
def yX3_dTimes : MethodName := ⟨RX3, "dTimes", "(I)J"⟩
def dkwX3_dTimes_1 : List UInt8 := [46, 133, 105, 65, 42, 180, 0, 43, 21, 4, 46, 54, 4, 167, 255, 229, 32, 173]
abbrev dktX3_dTimes_1 : List UInt8 := dkwX3_dTimes_1 ++ []
def dkwX3_dTimes_0 : List UInt8 := [10, 65, 42, 180, 0, 37, 27, 46, 54, 4, 21, 4, 16, 252, 159, 0, 26, 32, 42, 180, 0, 40, 21, 4]
abbrev dktX3_dTimes_0 : List UInt8 := dkwX3_dTimes_0 ++ dktX3_dTimes_1
theorem dksX3_dTimes_0 : cX3_dTimes.data.toList.drop 0 = dktX3_dTimes_0 := by decide +kernel
theorem dksX3_dTimes_1 : cX3_dTimes.data.toList.drop 24 = dktX3_dTimes_1 := dk_seg dksX3_dTimes_0 24 rfl rfl
theorem dX3_dTimes_0 : decode cX3_dTimes 0 = .ok (.lconst 1, 1) := dk_10 (dk_at dksX3_dTimes_0 0 rfl rfl)
theorem dX3_dTimes_1 : decode cX3_dTimes 1 = .ok (.lstore_n 2, 1) := dk_65 (dk_at dksX3_dTimes_0 1 rfl rfl)
theorem dX3_dTimes_2 : decode cX3_dTimes 2 = .ok (.aload_n 0, 1) := dk_42 (dk_at dksX3_dTimes_0 2 rfl rfl)
theorem dX3_dTimes_3 : decode cX3_dTimes 3 = .ok (.getfield 37, 3) := dk_180 0 37 (dk_at dksX3_dTimes_0 3 rfl rfl)
theorem dX3_dTimes_6 : decode cX3_dTimes 6 = .ok (.iload_n 1, 1) := dk_27 (dk_at dksX3_dTimes_0 6 rfl rfl)
theorem dX3_dTimes_7 : decode cX3_dTimes 7 = .ok (.iaload, 1) := dk_46 (dk_at dksX3_dTimes_0 7 rfl rfl)
theorem dX3_dTimes_8 : decode cX3_dTimes 8 = .ok (.istore 4, 2) := dk_54 4 (dk_at dksX3_dTimes_0 8 rfl rfl)
theorem dX3_dTimes_10 : decode cX3_dTimes 10 = .ok (.iload 4, 2) := dk_21 4 (dk_at dksX3_dTimes_0 10 rfl rfl)
theorem dX3_dTimes_12 : decode cX3_dTimes 12 = .ok (.bipush (-4), 2) := dk_16 252 (dk_at dksX3_dTimes_0 12 rfl rfl)
theorem dX3_dTimes_14 : decode cX3_dTimes 14 = .ok (.if_icmp .eq 26, 3) := dk_159 0 26 (dk_at dksX3_dTimes_0 14 rfl rfl)
theorem dX3_dTimes_17 : decode cX3_dTimes 17 = .ok (.lload_n 2, 1) := dk_32 (dk_at dksX3_dTimes_0 17 rfl rfl)
theorem dX3_dTimes_18 : decode cX3_dTimes 18 = .ok (.aload_n 0, 1) := dk_42 (dk_at dksX3_dTimes_0 18 rfl rfl)
theorem dX3_dTimes_19 : decode cX3_dTimes 19 = .ok (.getfield 40, 3) := dk_180 0 40 (dk_at dksX3_dTimes_0 19 rfl rfl)
theorem dX3_dTimes_22 : decode cX3_dTimes 22 = .ok (.iload 4, 2) := dk_21 4 (dk_at dksX3_dTimes_0 22 rfl rfl)
theorem dX3_dTimes_24 : decode cX3_dTimes 24 = .ok (.iaload, 1) := dk_46 (dk_at dksX3_dTimes_1 0 rfl rfl)
theorem dX3_dTimes_25 : decode cX3_dTimes 25 = .ok (.i2l, 1) := dk_133 (dk_at dksX3_dTimes_1 1 rfl rfl)
theorem dX3_dTimes_26 : decode cX3_dTimes 26 = .ok (.lmul, 1) := dk_105 (dk_at dksX3_dTimes_1 2 rfl rfl)
theorem dX3_dTimes_27 : decode cX3_dTimes 27 = .ok (.lstore_n 2, 1) := dk_65 (dk_at dksX3_dTimes_1 3 rfl rfl)
theorem dX3_dTimes_28 : decode cX3_dTimes 28 = .ok (.aload_n 0, 1) := dk_42 (dk_at dksX3_dTimes_1 4 rfl rfl)
theorem dX3_dTimes_29 : decode cX3_dTimes 29 = .ok (.getfield 43, 3) := dk_180 0 43 (dk_at dksX3_dTimes_1 5 rfl rfl)
theorem dX3_dTimes_32 : decode cX3_dTimes 32 = .ok (.iload 4, 2) := dk_21 4 (dk_at dksX3_dTimes_1 8 rfl rfl)
theorem dX3_dTimes_34 : decode cX3_dTimes 34 = .ok (.iaload, 1) := dk_46 (dk_at dksX3_dTimes_1 10 rfl rfl)
theorem dX3_dTimes_35 : decode cX3_dTimes 35 = .ok (.istore 4, 2) := dk_54 4 (dk_at dksX3_dTimes_1 11 rfl rfl)
theorem dX3_dTimes_37 : decode cX3_dTimes 37 = .ok (.goto (-27), 3) := dk_167 255 229 (dk_at dksX3_dTimes_1 13 rfl rfl)
theorem dX3_dTimes_40 : decode cX3_dTimes 40 = .ok (.lload_n 2, 1) := dk_32 (dk_at dksX3_dTimes_1 16 rfl rfl)
theorem dX3_dTimes_41 : decode cX3_dTimes 41 = .ok (.lreturn, 1) := dk_173 (dk_at dksX3_dTimes_1 17 rfl rfl)
abbrev cX3_keepProgram : ByteArray := prog_11_method_22_code
def yX3_keepProgram : MethodName := ⟨RX3, "keepProgram", "()V"⟩
def dkwX3_keepProgram_8 : List UInt8 := [180, 0, 52, 27, 46, 79, 132, 1, 1, 167, 255, 233, 42, 182, 0, 219, 42, 3, 181, 0, 222, 177]
abbrev dktX3_keepProgram_8 : List UInt8 := dkwX3_keepProgram_8 ++ []
def dkwX3_keepProgram_7 : List UInt8 := [132, 1, 1, 167, 255, 221, 3, 60, 27, 42, 180, 0, 209, 162, 0, 21, 42, 180, 0, 49, 27, 42]
abbrev dktX3_keepProgram_7 : List UInt8 := dkwX3_keepProgram_7 ++ dktX3_keepProgram_8
def dkwX3_keepProgram_6 : List UInt8 := [180, 0, 19, 27, 42, 180, 0, 40, 27, 46, 79, 42, 180, 0, 22, 27, 42, 180, 0, 43, 27, 46, 79]
abbrev dktX3_keepProgram_6 : List UInt8 := dkwX3_keepProgram_6 ++ dktX3_keepProgram_7
def dkwX3_keepProgram_5 : List UInt8 := [180, 0, 34, 27, 46, 79, 132, 1, 1, 167, 255, 234, 3, 60, 27, 42, 180, 0, 206, 162, 0, 33, 42]
abbrev dktX3_keepProgram_5 : List UInt8 := dkwX3_keepProgram_5 ++ dktX3_keepProgram_6
def dkwX3_keepProgram_4 : List UInt8 := [181, 0, 212, 132, 1, 1, 167, 255, 187, 3, 60, 27, 17, 0, 128, 162, 0, 21, 42, 180, 0, 13, 27, 42]
abbrev dktX3_keepProgram_4 : List UInt8 := dkwX3_keepProgram_4 ++ dktX3_keepProgram_5
def dkwX3_keepProgram_3 : List UInt8 := [182, 0, 215, 136, 79, 42, 89, 180, 0, 212, 42, 180, 0, 7, 27, 46, 42, 180, 0, 28, 27, 46, 104, 96]
abbrev dktX3_keepProgram_3 : List UInt8 := dkwX3_keepProgram_3 ++ dktX3_keepProgram_4
def dkwX3_keepProgram_2 : List UInt8 := [27, 46, 79, 42, 180, 0, 16, 27, 42, 180, 0, 37, 27, 46, 79, 42, 180, 0, 28, 27, 42, 27]
abbrev dktX3_keepProgram_2 : List UInt8 := dkwX3_keepProgram_2 ++ dktX3_keepProgram_3
def dkwX3_keepProgram_1 : List UInt8 := [42, 3, 181, 0, 212, 3, 60, 27, 42, 180, 0, 203, 162, 0, 67, 42, 180, 0, 7, 27, 42, 180, 0, 31]
abbrev dktX3_keepProgram_1 : List UInt8 := dkwX3_keepProgram_1 ++ dktX3_keepProgram_2
def dkwX3_keepProgram_0 : List UInt8 := [42, 42, 180, 0, 175, 181, 0, 203, 42, 42, 180, 0, 187, 181, 0, 206, 42, 42, 180, 0, 184, 181, 0, 209]
abbrev dktX3_keepProgram_0 : List UInt8 := dkwX3_keepProgram_0 ++ dktX3_keepProgram_1
theorem dksX3_keepProgram_0 : cX3_keepProgram.data.toList.drop 0 = dktX3_keepProgram_0 := by decide +kernel
theorem dksX3_keepProgram_1 : cX3_keepProgram.data.toList.drop 24 = dktX3_keepProgram_1 := dk_seg dksX3_keepProgram_0 24 rfl rfl
theorem dksX3_keepProgram_2 : cX3_keepProgram.data.toList.drop 48 = dktX3_keepProgram_2 := dk_seg dksX3_keepProgram_1 24 rfl rfl
theorem dksX3_keepProgram_3 : cX3_keepProgram.data.toList.drop 70 = dktX3_keepProgram_3 := dk_seg dksX3_keepProgram_2 22 rfl rfl
theorem dksX3_keepProgram_4 : cX3_keepProgram.data.toList.drop 94 = dktX3_keepProgram_4 := dk_seg dksX3_keepProgram_3 24 rfl rfl
theorem dksX3_keepProgram_5 : cX3_keepProgram.data.toList.drop 118 = dktX3_keepProgram_5 := dk_seg dksX3_keepProgram_4 24 rfl rfl
theorem dksX3_keepProgram_6 : cX3_keepProgram.data.toList.drop 141 = dktX3_keepProgram_6 := dk_seg dksX3_keepProgram_5 23 rfl rfl
theorem dksX3_keepProgram_7 : cX3_keepProgram.data.toList.drop 164 = dktX3_keepProgram_7 := dk_seg dksX3_keepProgram_6 23 rfl rfl
theorem dksX3_keepProgram_8 : cX3_keepProgram.data.toList.drop 186 = dktX3_keepProgram_8 := dk_seg dksX3_keepProgram_7 22 rfl rfl
theorem dX3_keepProgram_0 : decode cX3_keepProgram 0 = .ok (.aload_n 0, 1) := dk_42 (dk_at dksX3_keepProgram_0 0 rfl rfl)
theorem dX3_keepProgram_1 : decode cX3_keepProgram 1 = .ok (.aload_n 0, 1) := dk_42 (dk_at dksX3_keepProgram_0 1 rfl rfl)
theorem dX3_keepProgram_2 : decode cX3_keepProgram 2 = .ok (.getfield 175, 3) := dk_180 0 175 (dk_at dksX3_keepProgram_0 2 rfl rfl)
theorem dX3_keepProgram_5 : decode cX3_keepProgram 5 = .ok (.putfield 203, 3) := dk_181 0 203 (dk_at dksX3_keepProgram_0 5 rfl rfl)
theorem dX3_keepProgram_8 : decode cX3_keepProgram 8 = .ok (.aload_n 0, 1) := dk_42 (dk_at dksX3_keepProgram_0 8 rfl rfl)
theorem dX3_keepProgram_9 : decode cX3_keepProgram 9 = .ok (.aload_n 0, 1) := dk_42 (dk_at dksX3_keepProgram_0 9 rfl rfl)
theorem dX3_keepProgram_10 : decode cX3_keepProgram 10 = .ok (.getfield 187, 3) := dk_180 0 187 (dk_at dksX3_keepProgram_0 10 rfl rfl)
theorem dX3_keepProgram_13 : decode cX3_keepProgram 13 = .ok (.putfield 206, 3) := dk_181 0 206 (dk_at dksX3_keepProgram_0 13 rfl rfl)
theorem dX3_keepProgram_16 : decode cX3_keepProgram 16 = .ok (.aload_n 0, 1) := dk_42 (dk_at dksX3_keepProgram_0 16 rfl rfl)
theorem dX3_keepProgram_17 : decode cX3_keepProgram 17 = .ok (.aload_n 0, 1) := dk_42 (dk_at dksX3_keepProgram_0 17 rfl rfl)
theorem dX3_keepProgram_18 : decode cX3_keepProgram 18 = .ok (.getfield 184, 3) := dk_180 0 184 (dk_at dksX3_keepProgram_0 18 rfl rfl)
theorem dX3_keepProgram_21 : decode cX3_keepProgram 21 = .ok (.putfield 209, 3) := dk_181 0 209 (dk_at dksX3_keepProgram_0 21 rfl rfl)
theorem dX3_keepProgram_24 : decode cX3_keepProgram 24 = .ok (.aload_n 0, 1) := dk_42 (dk_at dksX3_keepProgram_1 0 rfl rfl)
theorem dX3_keepProgram_25 : decode cX3_keepProgram 25 = .ok (.iconst 0, 1) := dk_3 (dk_at dksX3_keepProgram_1 1 rfl rfl)
theorem dX3_keepProgram_26 : decode cX3_keepProgram 26 = .ok (.putfield 212, 3) := dk_181 0 212 (dk_at dksX3_keepProgram_1 2 rfl rfl)
theorem dX3_keepProgram_29 : decode cX3_keepProgram 29 = .ok (.iconst 0, 1) := dk_3 (dk_at dksX3_keepProgram_1 5 rfl rfl)
theorem dX3_keepProgram_30 : decode cX3_keepProgram 30 = .ok (.istore_n 1, 1) := dk_60 (dk_at dksX3_keepProgram_1 6 rfl rfl)
theorem dX3_keepProgram_31 : decode cX3_keepProgram 31 = .ok (.iload_n 1, 1) := dk_27 (dk_at dksX3_keepProgram_1 7 rfl rfl)
theorem dX3_keepProgram_32 : decode cX3_keepProgram 32 = .ok (.aload_n 0, 1) := dk_42 (dk_at dksX3_keepProgram_1 8 rfl rfl)
theorem dX3_keepProgram_33 : decode cX3_keepProgram 33 = .ok (.getfield 203, 3) := dk_180 0 203 (dk_at dksX3_keepProgram_1 9 rfl rfl)
theorem dX3_keepProgram_36 : decode cX3_keepProgram 36 = .ok (.if_icmp .ge 67, 3) := dk_162 0 67 (dk_at dksX3_keepProgram_1 12 rfl rfl)
theorem dX3_keepProgram_39 : decode cX3_keepProgram 39 = .ok (.aload_n 0, 1) := dk_42 (dk_at dksX3_keepProgram_1 15 rfl rfl)
theorem dX3_keepProgram_40 : decode cX3_keepProgram 40 = .ok (.getfield 7, 3) := dk_180 0 7 (dk_at dksX3_keepProgram_1 16 rfl rfl)
theorem dX3_keepProgram_43 : decode cX3_keepProgram 43 = .ok (.iload_n 1, 1) := dk_27 (dk_at dksX3_keepProgram_1 19 rfl rfl)
theorem dX3_keepProgram_44 : decode cX3_keepProgram 44 = .ok (.aload_n 0, 1) := dk_42 (dk_at dksX3_keepProgram_1 20 rfl rfl)
theorem dX3_keepProgram_45 : decode cX3_keepProgram 45 = .ok (.getfield 31, 3) := dk_180 0 31 (dk_at dksX3_keepProgram_1 21 rfl rfl)
theorem dX3_keepProgram_48 : decode cX3_keepProgram 48 = .ok (.iload_n 1, 1) := dk_27 (dk_at dksX3_keepProgram_2 0 rfl rfl)
theorem dX3_keepProgram_49 : decode cX3_keepProgram 49 = .ok (.iaload, 1) := dk_46 (dk_at dksX3_keepProgram_2 1 rfl rfl)
theorem dX3_keepProgram_50 : decode cX3_keepProgram 50 = .ok (.iastore, 1) := dk_79 (dk_at dksX3_keepProgram_2 2 rfl rfl)
theorem dX3_keepProgram_51 : decode cX3_keepProgram 51 = .ok (.aload_n 0, 1) := dk_42 (dk_at dksX3_keepProgram_2 3 rfl rfl)
theorem dX3_keepProgram_52 : decode cX3_keepProgram 52 = .ok (.getfield 16, 3) := dk_180 0 16 (dk_at dksX3_keepProgram_2 4 rfl rfl)
theorem dX3_keepProgram_55 : decode cX3_keepProgram 55 = .ok (.iload_n 1, 1) := dk_27 (dk_at dksX3_keepProgram_2 7 rfl rfl)
theorem dX3_keepProgram_56 : decode cX3_keepProgram 56 = .ok (.aload_n 0, 1) := dk_42 (dk_at dksX3_keepProgram_2 8 rfl rfl)
theorem dX3_keepProgram_57 : decode cX3_keepProgram 57 = .ok (.getfield 37, 3) := dk_180 0 37 (dk_at dksX3_keepProgram_2 9 rfl rfl)
theorem dX3_keepProgram_60 : decode cX3_keepProgram 60 = .ok (.iload_n 1, 1) := dk_27 (dk_at dksX3_keepProgram_2 12 rfl rfl)
theorem dX3_keepProgram_61 : decode cX3_keepProgram 61 = .ok (.iaload, 1) := dk_46 (dk_at dksX3_keepProgram_2 13 rfl rfl)
theorem dX3_keepProgram_62 : decode cX3_keepProgram 62 = .ok (.iastore, 1) := dk_79 (dk_at dksX3_keepProgram_2 14 rfl rfl)
theorem dX3_keepProgram_63 : decode cX3_keepProgram 63 = .ok (.aload_n 0, 1) := dk_42 (dk_at dksX3_keepProgram_2 15 rfl rfl)
theorem dX3_keepProgram_64 : decode cX3_keepProgram 64 = .ok (.getfield 28, 3) := dk_180 0 28 (dk_at dksX3_keepProgram_2 16 rfl rfl)
theorem dX3_keepProgram_67 : decode cX3_keepProgram 67 = .ok (.iload_n 1, 1) := dk_27 (dk_at dksX3_keepProgram_2 19 rfl rfl)
theorem dX3_keepProgram_68 : decode cX3_keepProgram 68 = .ok (.aload_n 0, 1) := dk_42 (dk_at dksX3_keepProgram_2 20 rfl rfl)
theorem dX3_keepProgram_69 : decode cX3_keepProgram 69 = .ok (.iload_n 1, 1) := dk_27 (dk_at dksX3_keepProgram_2 21 rfl rfl)
theorem dX3_keepProgram_70 : decode cX3_keepProgram 70 = .ok (.invokevirtual 215, 3) := dk_182 0 215 (dk_at dksX3_keepProgram_3 0 rfl rfl)
theorem dX3_keepProgram_73 : decode cX3_keepProgram 73 = .ok (.l2i, 1) := dk_136 (dk_at dksX3_keepProgram_3 3 rfl rfl)
theorem dX3_keepProgram_74 : decode cX3_keepProgram 74 = .ok (.iastore, 1) := dk_79 (dk_at dksX3_keepProgram_3 4 rfl rfl)
theorem dX3_keepProgram_75 : decode cX3_keepProgram 75 = .ok (.aload_n 0, 1) := dk_42 (dk_at dksX3_keepProgram_3 5 rfl rfl)
theorem dX3_keepProgram_76 : decode cX3_keepProgram 76 = .ok (.dup, 1) := dk_89 (dk_at dksX3_keepProgram_3 6 rfl rfl)
theorem dX3_keepProgram_77 : decode cX3_keepProgram 77 = .ok (.getfield 212, 3) := dk_180 0 212 (dk_at dksX3_keepProgram_3 7 rfl rfl)
theorem dX3_keepProgram_80 : decode cX3_keepProgram 80 = .ok (.aload_n 0, 1) := dk_42 (dk_at dksX3_keepProgram_3 10 rfl rfl)
theorem dX3_keepProgram_81 : decode cX3_keepProgram 81 = .ok (.getfield 7, 3) := dk_180 0 7 (dk_at dksX3_keepProgram_3 11 rfl rfl)
theorem dX3_keepProgram_84 : decode cX3_keepProgram 84 = .ok (.iload_n 1, 1) := dk_27 (dk_at dksX3_keepProgram_3 14 rfl rfl)
theorem dX3_keepProgram_85 : decode cX3_keepProgram 85 = .ok (.iaload, 1) := dk_46 (dk_at dksX3_keepProgram_3 15 rfl rfl)
theorem dX3_keepProgram_86 : decode cX3_keepProgram 86 = .ok (.aload_n 0, 1) := dk_42 (dk_at dksX3_keepProgram_3 16 rfl rfl)
theorem dX3_keepProgram_87 : decode cX3_keepProgram 87 = .ok (.getfield 28, 3) := dk_180 0 28 (dk_at dksX3_keepProgram_3 17 rfl rfl)
theorem dX3_keepProgram_90 : decode cX3_keepProgram 90 = .ok (.iload_n 1, 1) := dk_27 (dk_at dksX3_keepProgram_3 20 rfl rfl)
theorem dX3_keepProgram_91 : decode cX3_keepProgram 91 = .ok (.iaload, 1) := dk_46 (dk_at dksX3_keepProgram_3 21 rfl rfl)
theorem dX3_keepProgram_92 : decode cX3_keepProgram 92 = .ok (.imul, 1) := dk_104 (dk_at dksX3_keepProgram_3 22 rfl rfl)
theorem dX3_keepProgram_93 : decode cX3_keepProgram 93 = .ok (.iadd, 1) := dk_96 (dk_at dksX3_keepProgram_3 23 rfl rfl)
theorem dX3_keepProgram_94 : decode cX3_keepProgram 94 = .ok (.putfield 212, 3) := dk_181 0 212 (dk_at dksX3_keepProgram_4 0 rfl rfl)
theorem dX3_keepProgram_97 : decode cX3_keepProgram 97 = .ok (.iinc 1 1, 3) := dk_132 1 1 (dk_at dksX3_keepProgram_4 3 rfl rfl)
theorem dX3_keepProgram_100 : decode cX3_keepProgram 100 = .ok (.goto (-69), 3) := dk_167 255 187 (dk_at dksX3_keepProgram_4 6 rfl rfl)
theorem dX3_keepProgram_103 : decode cX3_keepProgram 103 = .ok (.iconst 0, 1) := dk_3 (dk_at dksX3_keepProgram_4 9 rfl rfl)
theorem dX3_keepProgram_104 : decode cX3_keepProgram 104 = .ok (.istore_n 1, 1) := dk_60 (dk_at dksX3_keepProgram_4 10 rfl rfl)
theorem dX3_keepProgram_105 : decode cX3_keepProgram 105 = .ok (.iload_n 1, 1) := dk_27 (dk_at dksX3_keepProgram_4 11 rfl rfl)
theorem dX3_keepProgram_106 : decode cX3_keepProgram 106 = .ok (.sipush 128, 3) := dk_17 0 128 (dk_at dksX3_keepProgram_4 12 rfl rfl)
theorem dX3_keepProgram_109 : decode cX3_keepProgram 109 = .ok (.if_icmp .ge 21, 3) := dk_162 0 21 (dk_at dksX3_keepProgram_4 15 rfl rfl)
theorem dX3_keepProgram_112 : decode cX3_keepProgram 112 = .ok (.aload_n 0, 1) := dk_42 (dk_at dksX3_keepProgram_4 18 rfl rfl)
theorem dX3_keepProgram_113 : decode cX3_keepProgram 113 = .ok (.getfield 13, 3) := dk_180 0 13 (dk_at dksX3_keepProgram_4 19 rfl rfl)
theorem dX3_keepProgram_116 : decode cX3_keepProgram 116 = .ok (.iload_n 1, 1) := dk_27 (dk_at dksX3_keepProgram_4 22 rfl rfl)
theorem dX3_keepProgram_117 : decode cX3_keepProgram 117 = .ok (.aload_n 0, 1) := dk_42 (dk_at dksX3_keepProgram_4 23 rfl rfl)
theorem dX3_keepProgram_118 : decode cX3_keepProgram 118 = .ok (.getfield 34, 3) := dk_180 0 34 (dk_at dksX3_keepProgram_5 0 rfl rfl)
theorem dX3_keepProgram_121 : decode cX3_keepProgram 121 = .ok (.iload_n 1, 1) := dk_27 (dk_at dksX3_keepProgram_5 3 rfl rfl)
theorem dX3_keepProgram_122 : decode cX3_keepProgram 122 = .ok (.iaload, 1) := dk_46 (dk_at dksX3_keepProgram_5 4 rfl rfl)
theorem dX3_keepProgram_123 : decode cX3_keepProgram 123 = .ok (.iastore, 1) := dk_79 (dk_at dksX3_keepProgram_5 5 rfl rfl)
theorem dX3_keepProgram_124 : decode cX3_keepProgram 124 = .ok (.iinc 1 1, 3) := dk_132 1 1 (dk_at dksX3_keepProgram_5 6 rfl rfl)
theorem dX3_keepProgram_127 : decode cX3_keepProgram 127 = .ok (.goto (-22), 3) := dk_167 255 234 (dk_at dksX3_keepProgram_5 9 rfl rfl)
theorem dX3_keepProgram_130 : decode cX3_keepProgram 130 = .ok (.iconst 0, 1) := dk_3 (dk_at dksX3_keepProgram_5 12 rfl rfl)
theorem dX3_keepProgram_131 : decode cX3_keepProgram 131 = .ok (.istore_n 1, 1) := dk_60 (dk_at dksX3_keepProgram_5 13 rfl rfl)
theorem dX3_keepProgram_132 : decode cX3_keepProgram 132 = .ok (.iload_n 1, 1) := dk_27 (dk_at dksX3_keepProgram_5 14 rfl rfl)
theorem dX3_keepProgram_133 : decode cX3_keepProgram 133 = .ok (.aload_n 0, 1) := dk_42 (dk_at dksX3_keepProgram_5 15 rfl rfl)
theorem dX3_keepProgram_134 : decode cX3_keepProgram 134 = .ok (.getfield 206, 3) := dk_180 0 206 (dk_at dksX3_keepProgram_5 16 rfl rfl)
theorem dX3_keepProgram_137 : decode cX3_keepProgram 137 = .ok (.if_icmp .ge 33, 3) := dk_162 0 33 (dk_at dksX3_keepProgram_5 19 rfl rfl)
theorem dX3_keepProgram_140 : decode cX3_keepProgram 140 = .ok (.aload_n 0, 1) := dk_42 (dk_at dksX3_keepProgram_5 22 rfl rfl)
theorem dX3_keepProgram_141 : decode cX3_keepProgram 141 = .ok (.getfield 19, 3) := dk_180 0 19 (dk_at dksX3_keepProgram_6 0 rfl rfl)
theorem dX3_keepProgram_144 : decode cX3_keepProgram 144 = .ok (.iload_n 1, 1) := dk_27 (dk_at dksX3_keepProgram_6 3 rfl rfl)
theorem dX3_keepProgram_145 : decode cX3_keepProgram 145 = .ok (.aload_n 0, 1) := dk_42 (dk_at dksX3_keepProgram_6 4 rfl rfl)
theorem dX3_keepProgram_146 : decode cX3_keepProgram 146 = .ok (.getfield 40, 3) := dk_180 0 40 (dk_at dksX3_keepProgram_6 5 rfl rfl)
theorem dX3_keepProgram_149 : decode cX3_keepProgram 149 = .ok (.iload_n 1, 1) := dk_27 (dk_at dksX3_keepProgram_6 8 rfl rfl)
theorem dX3_keepProgram_150 : decode cX3_keepProgram 150 = .ok (.iaload, 1) := dk_46 (dk_at dksX3_keepProgram_6 9 rfl rfl)
theorem dX3_keepProgram_151 : decode cX3_keepProgram 151 = .ok (.iastore, 1) := dk_79 (dk_at dksX3_keepProgram_6 10 rfl rfl)
theorem dX3_keepProgram_152 : decode cX3_keepProgram 152 = .ok (.aload_n 0, 1) := dk_42 (dk_at dksX3_keepProgram_6 11 rfl rfl)
theorem dX3_keepProgram_153 : decode cX3_keepProgram 153 = .ok (.getfield 22, 3) := dk_180 0 22 (dk_at dksX3_keepProgram_6 12 rfl rfl)
theorem dX3_keepProgram_156 : decode cX3_keepProgram 156 = .ok (.iload_n 1, 1) := dk_27 (dk_at dksX3_keepProgram_6 15 rfl rfl)
theorem dX3_keepProgram_157 : decode cX3_keepProgram 157 = .ok (.aload_n 0, 1) := dk_42 (dk_at dksX3_keepProgram_6 16 rfl rfl)
theorem dX3_keepProgram_158 : decode cX3_keepProgram 158 = .ok (.getfield 43, 3) := dk_180 0 43 (dk_at dksX3_keepProgram_6 17 rfl rfl)
theorem dX3_keepProgram_161 : decode cX3_keepProgram 161 = .ok (.iload_n 1, 1) := dk_27 (dk_at dksX3_keepProgram_6 20 rfl rfl)
theorem dX3_keepProgram_162 : decode cX3_keepProgram 162 = .ok (.iaload, 1) := dk_46 (dk_at dksX3_keepProgram_6 21 rfl rfl)
theorem dX3_keepProgram_163 : decode cX3_keepProgram 163 = .ok (.iastore, 1) := dk_79 (dk_at dksX3_keepProgram_6 22 rfl rfl)
theorem dX3_keepProgram_164 : decode cX3_keepProgram 164 = .ok (.iinc 1 1, 3) := dk_132 1 1 (dk_at dksX3_keepProgram_7 0 rfl rfl)
theorem dX3_keepProgram_167 : decode cX3_keepProgram 167 = .ok (.goto (-35), 3) := dk_167 255 221 (dk_at dksX3_keepProgram_7 3 rfl rfl)
theorem dX3_keepProgram_170 : decode cX3_keepProgram 170 = .ok (.iconst 0, 1) := dk_3 (dk_at dksX3_keepProgram_7 6 rfl rfl)
theorem dX3_keepProgram_171 : decode cX3_keepProgram 171 = .ok (.istore_n 1, 1) := dk_60 (dk_at dksX3_keepProgram_7 7 rfl rfl)
theorem dX3_keepProgram_172 : decode cX3_keepProgram 172 = .ok (.iload_n 1, 1) := dk_27 (dk_at dksX3_keepProgram_7 8 rfl rfl)
theorem dX3_keepProgram_173 : decode cX3_keepProgram 173 = .ok (.aload_n 0, 1) := dk_42 (dk_at dksX3_keepProgram_7 9 rfl rfl)
theorem dX3_keepProgram_174 : decode cX3_keepProgram 174 = .ok (.getfield 209, 3) := dk_180 0 209 (dk_at dksX3_keepProgram_7 10 rfl rfl)
theorem dX3_keepProgram_177 : decode cX3_keepProgram 177 = .ok (.if_icmp .ge 21, 3) := dk_162 0 21 (dk_at dksX3_keepProgram_7 13 rfl rfl)
theorem dX3_keepProgram_180 : decode cX3_keepProgram 180 = .ok (.aload_n 0, 1) := dk_42 (dk_at dksX3_keepProgram_7 16 rfl rfl)
theorem dX3_keepProgram_181 : decode cX3_keepProgram 181 = .ok (.getfield 49, 3) := dk_180 0 49 (dk_at dksX3_keepProgram_7 17 rfl rfl)
theorem dX3_keepProgram_184 : decode cX3_keepProgram 184 = .ok (.iload_n 1, 1) := dk_27 (dk_at dksX3_keepProgram_7 20 rfl rfl)
theorem dX3_keepProgram_185 : decode cX3_keepProgram 185 = .ok (.aload_n 0, 1) := dk_42 (dk_at dksX3_keepProgram_7 21 rfl rfl)
theorem dX3_keepProgram_186 : decode cX3_keepProgram 186 = .ok (.getfield 52, 3) := dk_180 0 52 (dk_at dksX3_keepProgram_8 0 rfl rfl)
theorem dX3_keepProgram_189 : decode cX3_keepProgram 189 = .ok (.iload_n 1, 1) := dk_27 (dk_at dksX3_keepProgram_8 3 rfl rfl)
theorem dX3_keepProgram_190 : decode cX3_keepProgram 190 = .ok (.iaload, 1) := dk_46 (dk_at dksX3_keepProgram_8 4 rfl rfl)
theorem dX3_keepProgram_191 : decode cX3_keepProgram 191 = .ok (.iastore, 1) := dk_79 (dk_at dksX3_keepProgram_8 5 rfl rfl)
theorem dX3_keepProgram_192 : decode cX3_keepProgram 192 = .ok (.iinc 1 1, 3) := dk_132 1 1 (dk_at dksX3_keepProgram_8 6 rfl rfl)
theorem dX3_keepProgram_195 : decode cX3_keepProgram 195 = .ok (.goto (-23), 3) := dk_167 255 233 (dk_at dksX3_keepProgram_8 9 rfl rfl)
theorem dX3_keepProgram_198 : decode cX3_keepProgram 198 = .ok (.aload_n 0, 1) := dk_42 (dk_at dksX3_keepProgram_8 12 rfl rfl)
theorem dX3_keepProgram_199 : decode cX3_keepProgram 199 = .ok (.invokevirtual 219, 3) := dk_182 0 219 (dk_at dksX3_keepProgram_8 13 rfl rfl)
theorem dX3_keepProgram_202 : decode cX3_keepProgram 202 = .ok (.aload_n 0, 1) := dk_42 (dk_at dksX3_keepProgram_8 16 rfl rfl)
theorem dX3_keepProgram_203 : decode cX3_keepProgram 203 = .ok (.iconst 0, 1) := dk_3 (dk_at dksX3_keepProgram_8 17 rfl rfl)
theorem dX3_keepProgram_204 : decode cX3_keepProgram 204 = .ok (.putfield 222, 3) := dk_181 0 222 (dk_at dksX3_keepProgram_8 18 rfl rfl)
theorem dX3_keepProgram_207 : decode cX3_keepProgram 207 = .ok (.return_, 1) := dk_177 (dk_at dksX3_keepProgram_8 21 rfl rfl)
abbrev cX3_walk : ByteArray := prog_11_method_23_code
def yX3_walk : MethodName := ⟨RX3, "walk", "()V"⟩
def dkwX3_walk_6 : List UInt8 := [46, 167, 0, 4, 27, 60, 132, 1, 1, 167, 255, 114, 177]
abbrev dktX3_walk_6 : List UInt8 := dkwX3_walk_6 ++ []
def dkwX3_walk_5 : List UInt8 := [100, 79, 42, 180, 0, 58, 28, 17, 0, 200, 100, 46, 158, 0, 16, 42, 180, 0, 61, 28, 17, 0, 200, 100]
abbrev dktX3_walk_5 : List UInt8 := dkwX3_walk_5 ++ dktX3_walk_6
def dkwX3_walk_4 : List UInt8 := [180, 0, 61, 28, 16, 100, 100, 27, 79, 167, 0, 45, 42, 180, 0, 58, 28, 17, 0, 200, 100, 92, 46, 4]
abbrev dktX3_walk_4 : List UInt8 := dkwX3_walk_4 ++ dktX3_walk_5
def dkwX3_walk_3 : List UInt8 := [16, 100, 100, 182, 0, 228, 154, 0, 7, 4, 167, 0, 12, 42, 180, 0, 19, 28, 16, 100, 100, 46, 79, 42]
abbrev dktX3_walk_3 : List UInt8 := dkwX3_walk_3 ++ dktX3_walk_4
def dkwX3_walk_2 : List UInt8 := [181, 0, 225, 167, 0, 98, 28, 17, 0, 200, 162, 0, 49, 42, 180, 0, 58, 28, 16, 100, 100, 42, 28]
abbrev dktX3_walk_2 : List UInt8 := dkwX3_walk_2 ++ dktX3_walk_3
def dkwX3_walk_1 : List UInt8 := [16, 100, 162, 0, 26, 42, 180, 0, 25, 42, 180, 0, 225, 28, 79, 42, 89, 180, 0, 225, 4, 96]
abbrev dktX3_walk_1 : List UInt8 := dkwX3_walk_1 ++ dktX3_walk_2
def dkwX3_walk_0 : List UInt8 := [42, 3, 181, 0, 225, 3, 60, 27, 42, 180, 0, 209, 162, 0, 140, 42, 180, 0, 49, 27, 46, 61, 28]
abbrev dktX3_walk_0 : List UInt8 := dkwX3_walk_0 ++ dktX3_walk_1
theorem dksX3_walk_0 : cX3_walk.data.toList.drop 0 = dktX3_walk_0 := by decide +kernel
theorem dksX3_walk_1 : cX3_walk.data.toList.drop 23 = dktX3_walk_1 := dk_seg dksX3_walk_0 23 rfl rfl
theorem dksX3_walk_2 : cX3_walk.data.toList.drop 45 = dktX3_walk_2 := dk_seg dksX3_walk_1 22 rfl rfl
theorem dksX3_walk_3 : cX3_walk.data.toList.drop 68 = dktX3_walk_3 := dk_seg dksX3_walk_2 23 rfl rfl
theorem dksX3_walk_4 : cX3_walk.data.toList.drop 92 = dktX3_walk_4 := dk_seg dksX3_walk_3 24 rfl rfl
theorem dksX3_walk_5 : cX3_walk.data.toList.drop 116 = dktX3_walk_5 := dk_seg dksX3_walk_4 24 rfl rfl
theorem dksX3_walk_6 : cX3_walk.data.toList.drop 140 = dktX3_walk_6 := dk_seg dksX3_walk_5 24 rfl rfl
theorem dX3_walk_0 : decode cX3_walk 0 = .ok (.aload_n 0, 1) := dk_42 (dk_at dksX3_walk_0 0 rfl rfl)
theorem dX3_walk_1 : decode cX3_walk 1 = .ok (.iconst 0, 1) := dk_3 (dk_at dksX3_walk_0 1 rfl rfl)
theorem dX3_walk_2 : decode cX3_walk 2 = .ok (.putfield 225, 3) := dk_181 0 225 (dk_at dksX3_walk_0 2 rfl rfl)
theorem dX3_walk_5 : decode cX3_walk 5 = .ok (.iconst 0, 1) := dk_3 (dk_at dksX3_walk_0 5 rfl rfl)
theorem dX3_walk_6 : decode cX3_walk 6 = .ok (.istore_n 1, 1) := dk_60 (dk_at dksX3_walk_0 6 rfl rfl)
theorem dX3_walk_7 : decode cX3_walk 7 = .ok (.iload_n 1, 1) := dk_27 (dk_at dksX3_walk_0 7 rfl rfl)
theorem dX3_walk_8 : decode cX3_walk 8 = .ok (.aload_n 0, 1) := dk_42 (dk_at dksX3_walk_0 8 rfl rfl)
theorem dX3_walk_9 : decode cX3_walk 9 = .ok (.getfield 209, 3) := dk_180 0 209 (dk_at dksX3_walk_0 9 rfl rfl)
theorem dX3_walk_12 : decode cX3_walk 12 = .ok (.if_icmp .ge 140, 3) := dk_162 0 140 (dk_at dksX3_walk_0 12 rfl rfl)
theorem dX3_walk_15 : decode cX3_walk 15 = .ok (.aload_n 0, 1) := dk_42 (dk_at dksX3_walk_0 15 rfl rfl)
theorem dX3_walk_16 : decode cX3_walk 16 = .ok (.getfield 49, 3) := dk_180 0 49 (dk_at dksX3_walk_0 16 rfl rfl)
theorem dX3_walk_19 : decode cX3_walk 19 = .ok (.iload_n 1, 1) := dk_27 (dk_at dksX3_walk_0 19 rfl rfl)
theorem dX3_walk_20 : decode cX3_walk 20 = .ok (.iaload, 1) := dk_46 (dk_at dksX3_walk_0 20 rfl rfl)
theorem dX3_walk_21 : decode cX3_walk 21 = .ok (.istore_n 2, 1) := dk_61 (dk_at dksX3_walk_0 21 rfl rfl)
theorem dX3_walk_22 : decode cX3_walk 22 = .ok (.iload_n 2, 1) := dk_28 (dk_at dksX3_walk_0 22 rfl rfl)
theorem dX3_walk_23 : decode cX3_walk 23 = .ok (.bipush 100, 2) := dk_16 100 (dk_at dksX3_walk_1 0 rfl rfl)
theorem dX3_walk_25 : decode cX3_walk 25 = .ok (.if_icmp .ge 26, 3) := dk_162 0 26 (dk_at dksX3_walk_1 2 rfl rfl)
theorem dX3_walk_28 : decode cX3_walk 28 = .ok (.aload_n 0, 1) := dk_42 (dk_at dksX3_walk_1 5 rfl rfl)
theorem dX3_walk_29 : decode cX3_walk 29 = .ok (.getfield 25, 3) := dk_180 0 25 (dk_at dksX3_walk_1 6 rfl rfl)
theorem dX3_walk_32 : decode cX3_walk 32 = .ok (.aload_n 0, 1) := dk_42 (dk_at dksX3_walk_1 9 rfl rfl)
theorem dX3_walk_33 : decode cX3_walk 33 = .ok (.getfield 225, 3) := dk_180 0 225 (dk_at dksX3_walk_1 10 rfl rfl)
theorem dX3_walk_36 : decode cX3_walk 36 = .ok (.iload_n 2, 1) := dk_28 (dk_at dksX3_walk_1 13 rfl rfl)
theorem dX3_walk_37 : decode cX3_walk 37 = .ok (.iastore, 1) := dk_79 (dk_at dksX3_walk_1 14 rfl rfl)
theorem dX3_walk_38 : decode cX3_walk 38 = .ok (.aload_n 0, 1) := dk_42 (dk_at dksX3_walk_1 15 rfl rfl)
theorem dX3_walk_39 : decode cX3_walk 39 = .ok (.dup, 1) := dk_89 (dk_at dksX3_walk_1 16 rfl rfl)
theorem dX3_walk_40 : decode cX3_walk 40 = .ok (.getfield 225, 3) := dk_180 0 225 (dk_at dksX3_walk_1 17 rfl rfl)
theorem dX3_walk_43 : decode cX3_walk 43 = .ok (.iconst 1, 1) := dk_4 (dk_at dksX3_walk_1 20 rfl rfl)
theorem dX3_walk_44 : decode cX3_walk 44 = .ok (.iadd, 1) := dk_96 (dk_at dksX3_walk_1 21 rfl rfl)
theorem dX3_walk_45 : decode cX3_walk 45 = .ok (.putfield 225, 3) := dk_181 0 225 (dk_at dksX3_walk_2 0 rfl rfl)
theorem dX3_walk_48 : decode cX3_walk 48 = .ok (.goto 98, 3) := dk_167 0 98 (dk_at dksX3_walk_2 3 rfl rfl)
theorem dX3_walk_51 : decode cX3_walk 51 = .ok (.iload_n 2, 1) := dk_28 (dk_at dksX3_walk_2 6 rfl rfl)
theorem dX3_walk_52 : decode cX3_walk 52 = .ok (.sipush 200, 3) := dk_17 0 200 (dk_at dksX3_walk_2 7 rfl rfl)
theorem dX3_walk_55 : decode cX3_walk 55 = .ok (.if_icmp .ge 49, 3) := dk_162 0 49 (dk_at dksX3_walk_2 10 rfl rfl)
theorem dX3_walk_58 : decode cX3_walk 58 = .ok (.aload_n 0, 1) := dk_42 (dk_at dksX3_walk_2 13 rfl rfl)
theorem dX3_walk_59 : decode cX3_walk 59 = .ok (.getfield 58, 3) := dk_180 0 58 (dk_at dksX3_walk_2 14 rfl rfl)
theorem dX3_walk_62 : decode cX3_walk 62 = .ok (.iload_n 2, 1) := dk_28 (dk_at dksX3_walk_2 17 rfl rfl)
theorem dX3_walk_63 : decode cX3_walk 63 = .ok (.bipush 100, 2) := dk_16 100 (dk_at dksX3_walk_2 18 rfl rfl)
theorem dX3_walk_65 : decode cX3_walk 65 = .ok (.isub, 1) := dk_100 (dk_at dksX3_walk_2 20 rfl rfl)
theorem dX3_walk_66 : decode cX3_walk 66 = .ok (.aload_n 0, 1) := dk_42 (dk_at dksX3_walk_2 21 rfl rfl)
theorem dX3_walk_67 : decode cX3_walk 67 = .ok (.iload_n 2, 1) := dk_28 (dk_at dksX3_walk_2 22 rfl rfl)
theorem dX3_walk_68 : decode cX3_walk 68 = .ok (.bipush 100, 2) := dk_16 100 (dk_at dksX3_walk_3 0 rfl rfl)
theorem dX3_walk_70 : decode cX3_walk 70 = .ok (.isub, 1) := dk_100 (dk_at dksX3_walk_3 2 rfl rfl)
theorem dX3_walk_71 : decode cX3_walk 71 = .ok (.invokevirtual 228, 3) := dk_182 0 228 (dk_at dksX3_walk_3 3 rfl rfl)
theorem dX3_walk_74 : decode cX3_walk 74 = .ok (.ifCond .ne 7, 3) := dk_154 0 7 (dk_at dksX3_walk_3 6 rfl rfl)
theorem dX3_walk_77 : decode cX3_walk 77 = .ok (.iconst 1, 1) := dk_4 (dk_at dksX3_walk_3 9 rfl rfl)
theorem dX3_walk_78 : decode cX3_walk 78 = .ok (.goto 12, 3) := dk_167 0 12 (dk_at dksX3_walk_3 10 rfl rfl)
theorem dX3_walk_81 : decode cX3_walk 81 = .ok (.aload_n 0, 1) := dk_42 (dk_at dksX3_walk_3 13 rfl rfl)
theorem dX3_walk_82 : decode cX3_walk 82 = .ok (.getfield 19, 3) := dk_180 0 19 (dk_at dksX3_walk_3 14 rfl rfl)
theorem dX3_walk_85 : decode cX3_walk 85 = .ok (.iload_n 2, 1) := dk_28 (dk_at dksX3_walk_3 17 rfl rfl)
theorem dX3_walk_86 : decode cX3_walk 86 = .ok (.bipush 100, 2) := dk_16 100 (dk_at dksX3_walk_3 18 rfl rfl)
theorem dX3_walk_88 : decode cX3_walk 88 = .ok (.isub, 1) := dk_100 (dk_at dksX3_walk_3 20 rfl rfl)
theorem dX3_walk_89 : decode cX3_walk 89 = .ok (.iaload, 1) := dk_46 (dk_at dksX3_walk_3 21 rfl rfl)
theorem dX3_walk_90 : decode cX3_walk 90 = .ok (.iastore, 1) := dk_79 (dk_at dksX3_walk_3 22 rfl rfl)
theorem dX3_walk_91 : decode cX3_walk 91 = .ok (.aload_n 0, 1) := dk_42 (dk_at dksX3_walk_3 23 rfl rfl)
theorem dX3_walk_92 : decode cX3_walk 92 = .ok (.getfield 61, 3) := dk_180 0 61 (dk_at dksX3_walk_4 0 rfl rfl)
theorem dX3_walk_95 : decode cX3_walk 95 = .ok (.iload_n 2, 1) := dk_28 (dk_at dksX3_walk_4 3 rfl rfl)
theorem dX3_walk_96 : decode cX3_walk 96 = .ok (.bipush 100, 2) := dk_16 100 (dk_at dksX3_walk_4 4 rfl rfl)
theorem dX3_walk_98 : decode cX3_walk 98 = .ok (.isub, 1) := dk_100 (dk_at dksX3_walk_4 6 rfl rfl)
theorem dX3_walk_99 : decode cX3_walk 99 = .ok (.iload_n 1, 1) := dk_27 (dk_at dksX3_walk_4 7 rfl rfl)
theorem dX3_walk_100 : decode cX3_walk 100 = .ok (.iastore, 1) := dk_79 (dk_at dksX3_walk_4 8 rfl rfl)
theorem dX3_walk_101 : decode cX3_walk 101 = .ok (.goto 45, 3) := dk_167 0 45 (dk_at dksX3_walk_4 9 rfl rfl)
theorem dX3_walk_104 : decode cX3_walk 104 = .ok (.aload_n 0, 1) := dk_42 (dk_at dksX3_walk_4 12 rfl rfl)
theorem dX3_walk_105 : decode cX3_walk 105 = .ok (.getfield 58, 3) := dk_180 0 58 (dk_at dksX3_walk_4 13 rfl rfl)
theorem dX3_walk_108 : decode cX3_walk 108 = .ok (.iload_n 2, 1) := dk_28 (dk_at dksX3_walk_4 16 rfl rfl)
theorem dX3_walk_109 : decode cX3_walk 109 = .ok (.sipush 200, 3) := dk_17 0 200 (dk_at dksX3_walk_4 17 rfl rfl)
theorem dX3_walk_112 : decode cX3_walk 112 = .ok (.isub, 1) := dk_100 (dk_at dksX3_walk_4 20 rfl rfl)
theorem dX3_walk_113 : decode cX3_walk 113 = .ok (.dup2, 1) := dk_92 (dk_at dksX3_walk_4 21 rfl rfl)
theorem dX3_walk_114 : decode cX3_walk 114 = .ok (.iaload, 1) := dk_46 (dk_at dksX3_walk_4 22 rfl rfl)
theorem dX3_walk_115 : decode cX3_walk 115 = .ok (.iconst 1, 1) := dk_4 (dk_at dksX3_walk_4 23 rfl rfl)
theorem dX3_walk_116 : decode cX3_walk 116 = .ok (.isub, 1) := dk_100 (dk_at dksX3_walk_5 0 rfl rfl)
theorem dX3_walk_117 : decode cX3_walk 117 = .ok (.iastore, 1) := dk_79 (dk_at dksX3_walk_5 1 rfl rfl)
theorem dX3_walk_118 : decode cX3_walk 118 = .ok (.aload_n 0, 1) := dk_42 (dk_at dksX3_walk_5 2 rfl rfl)
theorem dX3_walk_119 : decode cX3_walk 119 = .ok (.getfield 58, 3) := dk_180 0 58 (dk_at dksX3_walk_5 3 rfl rfl)
theorem dX3_walk_122 : decode cX3_walk 122 = .ok (.iload_n 2, 1) := dk_28 (dk_at dksX3_walk_5 6 rfl rfl)
theorem dX3_walk_123 : decode cX3_walk 123 = .ok (.sipush 200, 3) := dk_17 0 200 (dk_at dksX3_walk_5 7 rfl rfl)
theorem dX3_walk_126 : decode cX3_walk 126 = .ok (.isub, 1) := dk_100 (dk_at dksX3_walk_5 10 rfl rfl)
theorem dX3_walk_127 : decode cX3_walk 127 = .ok (.iaload, 1) := dk_46 (dk_at dksX3_walk_5 11 rfl rfl)
theorem dX3_walk_128 : decode cX3_walk 128 = .ok (.ifCond .le 16, 3) := dk_158 0 16 (dk_at dksX3_walk_5 12 rfl rfl)
theorem dX3_walk_131 : decode cX3_walk 131 = .ok (.aload_n 0, 1) := dk_42 (dk_at dksX3_walk_5 15 rfl rfl)
theorem dX3_walk_132 : decode cX3_walk 132 = .ok (.getfield 61, 3) := dk_180 0 61 (dk_at dksX3_walk_5 16 rfl rfl)
theorem dX3_walk_135 : decode cX3_walk 135 = .ok (.iload_n 2, 1) := dk_28 (dk_at dksX3_walk_5 19 rfl rfl)
theorem dX3_walk_136 : decode cX3_walk 136 = .ok (.sipush 200, 3) := dk_17 0 200 (dk_at dksX3_walk_5 20 rfl rfl)
theorem dX3_walk_139 : decode cX3_walk 139 = .ok (.isub, 1) := dk_100 (dk_at dksX3_walk_5 23 rfl rfl)
theorem dX3_walk_140 : decode cX3_walk 140 = .ok (.iaload, 1) := dk_46 (dk_at dksX3_walk_6 0 rfl rfl)
theorem dX3_walk_141 : decode cX3_walk 141 = .ok (.goto 4, 3) := dk_167 0 4 (dk_at dksX3_walk_6 1 rfl rfl)
theorem dX3_walk_144 : decode cX3_walk 144 = .ok (.iload_n 1, 1) := dk_27 (dk_at dksX3_walk_6 4 rfl rfl)
theorem dX3_walk_145 : decode cX3_walk 145 = .ok (.istore_n 1, 1) := dk_60 (dk_at dksX3_walk_6 5 rfl rfl)
theorem dX3_walk_146 : decode cX3_walk 146 = .ok (.iinc 1 1, 3) := dk_132 1 1 (dk_at dksX3_walk_6 6 rfl rfl)
theorem dX3_walk_149 : decode cX3_walk 149 = .ok (.goto (-142), 3) := dk_167 255 114 (dk_at dksX3_walk_6 9 rfl rfl)
theorem dX3_walk_152 : decode cX3_walk 152 = .ok (.return_, 1) := dk_177 (dk_at dksX3_walk_6 12 rfl rfl)
abbrev cX3_linesIn : ByteArray := prog_11_method_25_code
def yX3_linesIn : MethodName := ⟨RX3, "linesIn", "(I)I"⟩
def dkwX3_linesIn_1 : List UInt8 := [153, 0, 9, 4, 29, 120, 167, 0, 4, 3, 128, 61, 132, 3, 1, 167, 255, 221, 28, 172]
abbrev dktX3_linesIn_1 : List UInt8 := dkwX3_linesIn_1 ++ []
def dkwX3_linesIn_0 : List UInt8 := [3, 61, 3, 62, 29, 42, 180, 0, 203, 162, 0, 33, 28, 42, 42, 180, 0, 16, 29, 46, 27, 182, 0, 231]
abbrev dktX3_linesIn_0 : List UInt8 := dkwX3_linesIn_0 ++ dktX3_linesIn_1
theorem dksX3_linesIn_0 : cX3_linesIn.data.toList.drop 0 = dktX3_linesIn_0 := by decide +kernel
theorem dksX3_linesIn_1 : cX3_linesIn.data.toList.drop 24 = dktX3_linesIn_1 := dk_seg dksX3_linesIn_0 24 rfl rfl
theorem dX3_linesIn_0 : decode cX3_linesIn 0 = .ok (.iconst 0, 1) := dk_3 (dk_at dksX3_linesIn_0 0 rfl rfl)
theorem dX3_linesIn_1 : decode cX3_linesIn 1 = .ok (.istore_n 2, 1) := dk_61 (dk_at dksX3_linesIn_0 1 rfl rfl)
theorem dX3_linesIn_2 : decode cX3_linesIn 2 = .ok (.iconst 0, 1) := dk_3 (dk_at dksX3_linesIn_0 2 rfl rfl)
theorem dX3_linesIn_3 : decode cX3_linesIn 3 = .ok (.istore_n 3, 1) := dk_62 (dk_at dksX3_linesIn_0 3 rfl rfl)
theorem dX3_linesIn_4 : decode cX3_linesIn 4 = .ok (.iload_n 3, 1) := dk_29 (dk_at dksX3_linesIn_0 4 rfl rfl)
theorem dX3_linesIn_5 : decode cX3_linesIn 5 = .ok (.aload_n 0, 1) := dk_42 (dk_at dksX3_linesIn_0 5 rfl rfl)
theorem dX3_linesIn_6 : decode cX3_linesIn 6 = .ok (.getfield 203, 3) := dk_180 0 203 (dk_at dksX3_linesIn_0 6 rfl rfl)
theorem dX3_linesIn_9 : decode cX3_linesIn 9 = .ok (.if_icmp .ge 33, 3) := dk_162 0 33 (dk_at dksX3_linesIn_0 9 rfl rfl)
theorem dX3_linesIn_12 : decode cX3_linesIn 12 = .ok (.iload_n 2, 1) := dk_28 (dk_at dksX3_linesIn_0 12 rfl rfl)
theorem dX3_linesIn_13 : decode cX3_linesIn 13 = .ok (.aload_n 0, 1) := dk_42 (dk_at dksX3_linesIn_0 13 rfl rfl)
theorem dX3_linesIn_14 : decode cX3_linesIn 14 = .ok (.aload_n 0, 1) := dk_42 (dk_at dksX3_linesIn_0 14 rfl rfl)
theorem dX3_linesIn_15 : decode cX3_linesIn 15 = .ok (.getfield 16, 3) := dk_180 0 16 (dk_at dksX3_linesIn_0 15 rfl rfl)
theorem dX3_linesIn_18 : decode cX3_linesIn 18 = .ok (.iload_n 3, 1) := dk_29 (dk_at dksX3_linesIn_0 18 rfl rfl)
theorem dX3_linesIn_19 : decode cX3_linesIn 19 = .ok (.iaload, 1) := dk_46 (dk_at dksX3_linesIn_0 19 rfl rfl)
theorem dX3_linesIn_20 : decode cX3_linesIn 20 = .ok (.iload_n 1, 1) := dk_27 (dk_at dksX3_linesIn_0 20 rfl rfl)
theorem dX3_linesIn_21 : decode cX3_linesIn 21 = .ok (.invokevirtual 231, 3) := dk_182 0 231 (dk_at dksX3_linesIn_0 21 rfl rfl)
theorem dX3_linesIn_24 : decode cX3_linesIn 24 = .ok (.ifCond .eq 9, 3) := dk_153 0 9 (dk_at dksX3_linesIn_1 0 rfl rfl)
theorem dX3_linesIn_27 : decode cX3_linesIn 27 = .ok (.iconst 1, 1) := dk_4 (dk_at dksX3_linesIn_1 3 rfl rfl)
theorem dX3_linesIn_28 : decode cX3_linesIn 28 = .ok (.iload_n 3, 1) := dk_29 (dk_at dksX3_linesIn_1 4 rfl rfl)
theorem dX3_linesIn_29 : decode cX3_linesIn 29 = .ok (.ishl, 1) := dk_120 (dk_at dksX3_linesIn_1 5 rfl rfl)
theorem dX3_linesIn_30 : decode cX3_linesIn 30 = .ok (.goto 4, 3) := dk_167 0 4 (dk_at dksX3_linesIn_1 6 rfl rfl)
theorem dX3_linesIn_33 : decode cX3_linesIn 33 = .ok (.iconst 0, 1) := dk_3 (dk_at dksX3_linesIn_1 9 rfl rfl)
theorem dX3_linesIn_34 : decode cX3_linesIn 34 = .ok (.ior, 1) := dk_128 (dk_at dksX3_linesIn_1 10 rfl rfl)
theorem dX3_linesIn_35 : decode cX3_linesIn 35 = .ok (.istore_n 2, 1) := dk_61 (dk_at dksX3_linesIn_1 11 rfl rfl)
theorem dX3_linesIn_36 : decode cX3_linesIn 36 = .ok (.iinc 3 1, 3) := dk_132 3 1 (dk_at dksX3_linesIn_1 12 rfl rfl)
theorem dX3_linesIn_39 : decode cX3_linesIn 39 = .ok (.goto (-35), 3) := dk_167 255 221 (dk_at dksX3_linesIn_1 15 rfl rfl)
theorem dX3_linesIn_42 : decode cX3_linesIn 42 = .ok (.iload_n 2, 1) := dk_28 (dk_at dksX3_linesIn_1 18 rfl rfl)
theorem dX3_linesIn_43 : decode cX3_linesIn 43 = .ok (.ireturn, 1) := dk_172 (dk_at dksX3_linesIn_1 19 rfl rfl)
abbrev cX3_isWithin : ByteArray := prog_11_method_24_code
def yX3_isWithin : MethodName := ⟨RX3, "isWithin", "(II)Z"⟩
def dkwX3_isWithin_1 : List UInt8 := [167, 0, 4, 3, 62, 42, 180, 0, 22, 21, 4, 46, 54, 4, 167, 255, 224, 29, 172]
abbrev dktX3_isWithin_1 : List UInt8 := dkwX3_isWithin_1 ++ []
def dkwX3_isWithin_0 : List UInt8 := [3, 62, 27, 54, 4, 21, 4, 16, 252, 159, 0, 31, 29, 154, 0, 9, 21, 4, 28, 160, 0, 7, 4]
abbrev dktX3_isWithin_0 : List UInt8 := dkwX3_isWithin_0 ++ dktX3_isWithin_1
theorem dksX3_isWithin_0 : cX3_isWithin.data.toList.drop 0 = dktX3_isWithin_0 := by decide +kernel
theorem dksX3_isWithin_1 : cX3_isWithin.data.toList.drop 23 = dktX3_isWithin_1 := dk_seg dksX3_isWithin_0 23 rfl rfl
theorem dX3_isWithin_0 : decode cX3_isWithin 0 = .ok (.iconst 0, 1) := dk_3 (dk_at dksX3_isWithin_0 0 rfl rfl)
theorem dX3_isWithin_1 : decode cX3_isWithin 1 = .ok (.istore_n 3, 1) := dk_62 (dk_at dksX3_isWithin_0 1 rfl rfl)
theorem dX3_isWithin_2 : decode cX3_isWithin 2 = .ok (.iload_n 1, 1) := dk_27 (dk_at dksX3_isWithin_0 2 rfl rfl)
theorem dX3_isWithin_3 : decode cX3_isWithin 3 = .ok (.istore 4, 2) := dk_54 4 (dk_at dksX3_isWithin_0 3 rfl rfl)
theorem dX3_isWithin_5 : decode cX3_isWithin 5 = .ok (.iload 4, 2) := dk_21 4 (dk_at dksX3_isWithin_0 5 rfl rfl)
theorem dX3_isWithin_7 : decode cX3_isWithin 7 = .ok (.bipush (-4), 2) := dk_16 252 (dk_at dksX3_isWithin_0 7 rfl rfl)
theorem dX3_isWithin_9 : decode cX3_isWithin 9 = .ok (.if_icmp .eq 31, 3) := dk_159 0 31 (dk_at dksX3_isWithin_0 9 rfl rfl)
theorem dX3_isWithin_12 : decode cX3_isWithin 12 = .ok (.iload_n 3, 1) := dk_29 (dk_at dksX3_isWithin_0 12 rfl rfl)
theorem dX3_isWithin_13 : decode cX3_isWithin 13 = .ok (.ifCond .ne 9, 3) := dk_154 0 9 (dk_at dksX3_isWithin_0 13 rfl rfl)
theorem dX3_isWithin_16 : decode cX3_isWithin 16 = .ok (.iload 4, 2) := dk_21 4 (dk_at dksX3_isWithin_0 16 rfl rfl)
theorem dX3_isWithin_18 : decode cX3_isWithin 18 = .ok (.iload_n 2, 1) := dk_28 (dk_at dksX3_isWithin_0 18 rfl rfl)
theorem dX3_isWithin_19 : decode cX3_isWithin 19 = .ok (.if_icmp .ne 7, 3) := dk_160 0 7 (dk_at dksX3_isWithin_0 19 rfl rfl)
theorem dX3_isWithin_22 : decode cX3_isWithin 22 = .ok (.iconst 1, 1) := dk_4 (dk_at dksX3_isWithin_0 22 rfl rfl)
theorem dX3_isWithin_23 : decode cX3_isWithin 23 = .ok (.goto 4, 3) := dk_167 0 4 (dk_at dksX3_isWithin_1 0 rfl rfl)
theorem dX3_isWithin_26 : decode cX3_isWithin 26 = .ok (.iconst 0, 1) := dk_3 (dk_at dksX3_isWithin_1 3 rfl rfl)
theorem dX3_isWithin_27 : decode cX3_isWithin 27 = .ok (.istore_n 3, 1) := dk_62 (dk_at dksX3_isWithin_1 4 rfl rfl)
theorem dX3_isWithin_28 : decode cX3_isWithin 28 = .ok (.aload_n 0, 1) := dk_42 (dk_at dksX3_isWithin_1 5 rfl rfl)
theorem dX3_isWithin_29 : decode cX3_isWithin 29 = .ok (.getfield 22, 3) := dk_180 0 22 (dk_at dksX3_isWithin_1 6 rfl rfl)
theorem dX3_isWithin_32 : decode cX3_isWithin 32 = .ok (.iload 4, 2) := dk_21 4 (dk_at dksX3_isWithin_1 9 rfl rfl)
theorem dX3_isWithin_34 : decode cX3_isWithin 34 = .ok (.iaload, 1) := dk_46 (dk_at dksX3_isWithin_1 11 rfl rfl)
theorem dX3_isWithin_35 : decode cX3_isWithin 35 = .ok (.istore 4, 2) := dk_54 4 (dk_at dksX3_isWithin_1 12 rfl rfl)
theorem dX3_isWithin_37 : decode cX3_isWithin 37 = .ok (.goto (-32), 3) := dk_167 255 224 (dk_at dksX3_isWithin_1 14 rfl rfl)
theorem dX3_isWithin_40 : decode cX3_isWithin 40 = .ok (.iload_n 3, 1) := dk_29 (dk_at dksX3_isWithin_1 17 rfl rfl)
theorem dX3_isWithin_41 : decode cX3_isWithin 41 = .ok (.ireturn, 1) := dk_172 (dk_at dksX3_isWithin_1 18 rfl rfl)
abbrev cX3_fault : ByteArray := prog_11_method_27_code
def yX3_fault : MethodName := ⟨RX3, "fault", "()I"⟩
theorem dX3_fault_0 : decode cX3_fault 0 = .ok (.aload_n 0, 1) := by decide +kernel
theorem dX3_fault_1 : decode cX3_fault 1 = .ok (.getfield 128, 3) := by decide +kernel
theorem dX3_fault_4 : decode cX3_fault 4 = .ok (.ireturn, 1) := by decide +kernel
abbrev cX3_line : ByteArray := prog_11_method_32_code
def yX3_line : MethodName := ⟨RX3, "line", "(II)I"⟩
def dkwX3_line_3 : List UInt8 := [46, 182, 0, 254, 167, 0, 4, 2, 172]
abbrev dktX3_line_3 : List UInt8 := dkwX3_line_3 ++ []
def dkwX3_line_2 : List UInt8 := [4, 160, 0, 12, 42, 180, 0, 28, 27, 46, 167, 0, 22, 28, 5, 160, 0, 16, 42, 42, 180, 0, 16, 27]
abbrev dktX3_line_2 : List UInt8 := dkwX3_line_2 ++ dktX3_line_3
def dkwX3_line_1 : List UInt8 := [42, 27, 28, 16, 10, 100, 182, 0, 251, 172, 28, 154, 0, 12, 42, 180, 0, 7, 27, 46, 167, 0, 36, 28]
abbrev dktX3_line_1 : List UInt8 := dkwX3_line_1 ++ dktX3_line_2
def dkwX3_line_0 : List UInt8 := [42, 27, 182, 0, 243, 154, 0, 5, 2, 172, 28, 133, 20, 0, 247, 20, 0, 249, 184, 0, 124, 153, 0, 13]
abbrev dktX3_line_0 : List UInt8 := dkwX3_line_0 ++ dktX3_line_1
theorem dksX3_line_0 : cX3_line.data.toList.drop 0 = dktX3_line_0 := by decide +kernel
theorem dksX3_line_1 : cX3_line.data.toList.drop 24 = dktX3_line_1 := dk_seg dksX3_line_0 24 rfl rfl
theorem dksX3_line_2 : cX3_line.data.toList.drop 48 = dktX3_line_2 := dk_seg dksX3_line_1 24 rfl rfl
theorem dksX3_line_3 : cX3_line.data.toList.drop 72 = dktX3_line_3 := dk_seg dksX3_line_2 24 rfl rfl
theorem dX3_line_0 : decode cX3_line 0 = .ok (.aload_n 0, 1) := dk_42 (dk_at dksX3_line_0 0 rfl rfl)
theorem dX3_line_1 : decode cX3_line 1 = .ok (.iload_n 1, 1) := dk_27 (dk_at dksX3_line_0 1 rfl rfl)
theorem dX3_line_2 : decode cX3_line 2 = .ok (.invokevirtual 243, 3) := dk_182 0 243 (dk_at dksX3_line_0 2 rfl rfl)
theorem dX3_line_5 : decode cX3_line 5 = .ok (.ifCond .ne 5, 3) := dk_154 0 5 (dk_at dksX3_line_0 5 rfl rfl)
theorem dX3_line_8 : decode cX3_line 8 = .ok (.iconst (-1), 1) := dk_2 (dk_at dksX3_line_0 8 rfl rfl)
theorem dX3_line_9 : decode cX3_line 9 = .ok (.ireturn, 1) := dk_172 (dk_at dksX3_line_0 9 rfl rfl)
theorem dX3_line_10 : decode cX3_line 10 = .ok (.iload_n 2, 1) := dk_28 (dk_at dksX3_line_0 10 rfl rfl)
theorem dX3_line_11 : decode cX3_line 11 = .ok (.i2l, 1) := dk_133 (dk_at dksX3_line_0 11 rfl rfl)
theorem dX3_line_12 : decode cX3_line 12 = .ok (.ldc2_w 247, 3) := dk_20 0 247 (dk_at dksX3_line_0 12 rfl rfl)
theorem dX3_line_15 : decode cX3_line 15 = .ok (.ldc2_w 249, 3) := dk_20 0 249 (dk_at dksX3_line_0 15 rfl rfl)
theorem dX3_line_18 : decode cX3_line 18 = .ok (.invokestatic 124, 3) := dk_184 0 124 (dk_at dksX3_line_0 18 rfl rfl)
theorem dX3_line_21 : decode cX3_line 21 = .ok (.ifCond .eq 13, 3) := dk_153 0 13 (dk_at dksX3_line_0 21 rfl rfl)
theorem dX3_line_24 : decode cX3_line 24 = .ok (.aload_n 0, 1) := dk_42 (dk_at dksX3_line_1 0 rfl rfl)
theorem dX3_line_25 : decode cX3_line 25 = .ok (.iload_n 1, 1) := dk_27 (dk_at dksX3_line_1 1 rfl rfl)
theorem dX3_line_26 : decode cX3_line 26 = .ok (.iload_n 2, 1) := dk_28 (dk_at dksX3_line_1 2 rfl rfl)
theorem dX3_line_27 : decode cX3_line 27 = .ok (.bipush 10, 2) := dk_16 10 (dk_at dksX3_line_1 3 rfl rfl)
theorem dX3_line_29 : decode cX3_line 29 = .ok (.isub, 1) := dk_100 (dk_at dksX3_line_1 5 rfl rfl)
theorem dX3_line_30 : decode cX3_line 30 = .ok (.invokevirtual 251, 3) := dk_182 0 251 (dk_at dksX3_line_1 6 rfl rfl)
theorem dX3_line_33 : decode cX3_line 33 = .ok (.ireturn, 1) := dk_172 (dk_at dksX3_line_1 9 rfl rfl)
theorem dX3_line_34 : decode cX3_line 34 = .ok (.iload_n 2, 1) := dk_28 (dk_at dksX3_line_1 10 rfl rfl)
theorem dX3_line_35 : decode cX3_line 35 = .ok (.ifCond .ne 12, 3) := dk_154 0 12 (dk_at dksX3_line_1 11 rfl rfl)
theorem dX3_line_38 : decode cX3_line 38 = .ok (.aload_n 0, 1) := dk_42 (dk_at dksX3_line_1 14 rfl rfl)
theorem dX3_line_39 : decode cX3_line 39 = .ok (.getfield 7, 3) := dk_180 0 7 (dk_at dksX3_line_1 15 rfl rfl)
theorem dX3_line_42 : decode cX3_line 42 = .ok (.iload_n 1, 1) := dk_27 (dk_at dksX3_line_1 18 rfl rfl)
theorem dX3_line_43 : decode cX3_line 43 = .ok (.iaload, 1) := dk_46 (dk_at dksX3_line_1 19 rfl rfl)
theorem dX3_line_44 : decode cX3_line 44 = .ok (.goto 36, 3) := dk_167 0 36 (dk_at dksX3_line_1 20 rfl rfl)
theorem dX3_line_47 : decode cX3_line 47 = .ok (.iload_n 2, 1) := dk_28 (dk_at dksX3_line_1 23 rfl rfl)
theorem dX3_line_48 : decode cX3_line 48 = .ok (.iconst 1, 1) := dk_4 (dk_at dksX3_line_2 0 rfl rfl)
theorem dX3_line_49 : decode cX3_line 49 = .ok (.if_icmp .ne 12, 3) := dk_160 0 12 (dk_at dksX3_line_2 1 rfl rfl)
theorem dX3_line_52 : decode cX3_line 52 = .ok (.aload_n 0, 1) := dk_42 (dk_at dksX3_line_2 4 rfl rfl)
theorem dX3_line_53 : decode cX3_line 53 = .ok (.getfield 28, 3) := dk_180 0 28 (dk_at dksX3_line_2 5 rfl rfl)
theorem dX3_line_56 : decode cX3_line 56 = .ok (.iload_n 1, 1) := dk_27 (dk_at dksX3_line_2 8 rfl rfl)
theorem dX3_line_57 : decode cX3_line 57 = .ok (.iaload, 1) := dk_46 (dk_at dksX3_line_2 9 rfl rfl)
theorem dX3_line_58 : decode cX3_line 58 = .ok (.goto 22, 3) := dk_167 0 22 (dk_at dksX3_line_2 10 rfl rfl)
theorem dX3_line_61 : decode cX3_line 61 = .ok (.iload_n 2, 1) := dk_28 (dk_at dksX3_line_2 13 rfl rfl)
theorem dX3_line_62 : decode cX3_line 62 = .ok (.iconst 2, 1) := dk_5 (dk_at dksX3_line_2 14 rfl rfl)
theorem dX3_line_63 : decode cX3_line 63 = .ok (.if_icmp .ne 16, 3) := dk_160 0 16 (dk_at dksX3_line_2 15 rfl rfl)
theorem dX3_line_66 : decode cX3_line 66 = .ok (.aload_n 0, 1) := dk_42 (dk_at dksX3_line_2 18 rfl rfl)
theorem dX3_line_67 : decode cX3_line 67 = .ok (.aload_n 0, 1) := dk_42 (dk_at dksX3_line_2 19 rfl rfl)
theorem dX3_line_68 : decode cX3_line 68 = .ok (.getfield 16, 3) := dk_180 0 16 (dk_at dksX3_line_2 20 rfl rfl)
theorem dX3_line_71 : decode cX3_line 71 = .ok (.iload_n 1, 1) := dk_27 (dk_at dksX3_line_2 23 rfl rfl)
theorem dX3_line_72 : decode cX3_line 72 = .ok (.iaload, 1) := dk_46 (dk_at dksX3_line_3 0 rfl rfl)
theorem dX3_line_73 : decode cX3_line 73 = .ok (.invokevirtual 254, 3) := dk_182 0 254 (dk_at dksX3_line_3 1 rfl rfl)
theorem dX3_line_76 : decode cX3_line 76 = .ok (.goto 4, 3) := dk_167 0 4 (dk_at dksX3_line_3 4 rfl rfl)
theorem dX3_line_79 : decode cX3_line 79 = .ok (.iconst (-1), 1) := dk_2 (dk_at dksX3_line_3 7 rfl rfl)
theorem dX3_line_80 : decode cX3_line 80 = .ok (.ireturn, 1) := dk_172 (dk_at dksX3_line_3 8 rfl rfl)
abbrev cX3_isLine : ByteArray := prog_11_method_28_code
def yX3_isLine : MethodName := ⟨RX3, "isLine", "(I)Z"⟩
def dkwX3_isLine_0 : List UInt8 := [27, 133, 9, 42, 180, 0, 203, 4, 100, 133, 184, 0, 124, 172]
abbrev dktX3_isLine_0 : List UInt8 := dkwX3_isLine_0 ++ []
theorem dksX3_isLine_0 : cX3_isLine.data.toList.drop 0 = dktX3_isLine_0 := by decide +kernel
theorem dX3_isLine_0 : decode cX3_isLine 0 = .ok (.iload_n 1, 1) := dk_27 (dk_at dksX3_isLine_0 0 rfl rfl)
theorem dX3_isLine_1 : decode cX3_isLine 1 = .ok (.i2l, 1) := dk_133 (dk_at dksX3_isLine_0 1 rfl rfl)
theorem dX3_isLine_2 : decode cX3_isLine 2 = .ok (.lconst 0, 1) := dk_9 (dk_at dksX3_isLine_0 2 rfl rfl)
theorem dX3_isLine_3 : decode cX3_isLine 3 = .ok (.aload_n 0, 1) := dk_42 (dk_at dksX3_isLine_0 3 rfl rfl)
theorem dX3_isLine_4 : decode cX3_isLine 4 = .ok (.getfield 203, 3) := dk_180 0 203 (dk_at dksX3_isLine_0 4 rfl rfl)
theorem dX3_isLine_7 : decode cX3_isLine 7 = .ok (.iconst 1, 1) := dk_4 (dk_at dksX3_isLine_0 7 rfl rfl)
theorem dX3_isLine_8 : decode cX3_isLine 8 = .ok (.isub, 1) := dk_100 (dk_at dksX3_isLine_0 8 rfl rfl)
theorem dX3_isLine_9 : decode cX3_isLine 9 = .ok (.i2l, 1) := dk_133 (dk_at dksX3_isLine_0 9 rfl rfl)
theorem dX3_isLine_10 : decode cX3_isLine 10 = .ok (.invokestatic 124, 3) := dk_184 0 124 (dk_at dksX3_isLine_0 10 rfl rfl)
theorem dX3_isLine_13 : decode cX3_isLine 13 = .ok (.ireturn, 1) := dk_172 (dk_at dksX3_isLine_0 13 rfl rfl)
abbrev cX3_made : ByteArray := prog_11_method_30_code
def yX3_made : MethodName := ⟨RX3, "made", "(II)I"⟩
def dkwX3_made_0 : List UInt8 := [42, 180, 0, 13, 16, 8, 27, 104, 28, 96, 46, 172]
abbrev dktX3_made_0 : List UInt8 := dkwX3_made_0 ++ []
theorem dksX3_made_0 : cX3_made.data.toList.drop 0 = dktX3_made_0 := by decide +kernel
theorem dX3_made_0 : decode cX3_made 0 = .ok (.aload_n 0, 1) := dk_42 (dk_at dksX3_made_0 0 rfl rfl)
theorem dX3_made_1 : decode cX3_made 1 = .ok (.getfield 13, 3) := dk_180 0 13 (dk_at dksX3_made_0 1 rfl rfl)
theorem dX3_made_4 : decode cX3_made 4 = .ok (.bipush 8, 2) := dk_16 8 (dk_at dksX3_made_0 4 rfl rfl)
theorem dX3_made_6 : decode cX3_made 6 = .ok (.iload_n 1, 1) := dk_27 (dk_at dksX3_made_0 6 rfl rfl)
theorem dX3_made_7 : decode cX3_made 7 = .ok (.imul, 1) := dk_104 (dk_at dksX3_made_0 7 rfl rfl)
theorem dX3_made_8 : decode cX3_made 8 = .ok (.iload_n 2, 1) := dk_28 (dk_at dksX3_made_0 8 rfl rfl)
theorem dX3_made_9 : decode cX3_made 9 = .ok (.iadd, 1) := dk_96 (dk_at dksX3_made_0 9 rfl rfl)
theorem dX3_made_10 : decode cX3_made 10 = .ok (.iaload, 1) := dk_46 (dk_at dksX3_made_0 10 rfl rfl)
theorem dX3_made_11 : decode cX3_made 11 = .ok (.ireturn, 1) := dk_172 (dk_at dksX3_made_0 11 rfl rfl)
abbrev cX3_depthOf : ByteArray := prog_11_method_31_code
def yX3_depthOf : MethodName := ⟨RX3, "depthOf", "(I)I"⟩
def dkwX3_depthOf_1 : List UInt8 := [172]
abbrev dktX3_depthOf_1 : List UInt8 := dkwX3_depthOf_1 ++ []
def dkwX3_depthOf_0 : List UInt8 := [3, 61, 27, 62, 29, 16, 252, 159, 0, 16, 132, 2, 1, 42, 180, 0, 22, 29, 46, 62, 167, 255, 240, 28]
abbrev dktX3_depthOf_0 : List UInt8 := dkwX3_depthOf_0 ++ dktX3_depthOf_1
theorem dksX3_depthOf_0 : cX3_depthOf.data.toList.drop 0 = dktX3_depthOf_0 := by decide +kernel
theorem dksX3_depthOf_1 : cX3_depthOf.data.toList.drop 24 = dktX3_depthOf_1 := dk_seg dksX3_depthOf_0 24 rfl rfl
theorem dX3_depthOf_0 : decode cX3_depthOf 0 = .ok (.iconst 0, 1) := dk_3 (dk_at dksX3_depthOf_0 0 rfl rfl)
theorem dX3_depthOf_1 : decode cX3_depthOf 1 = .ok (.istore_n 2, 1) := dk_61 (dk_at dksX3_depthOf_0 1 rfl rfl)
theorem dX3_depthOf_2 : decode cX3_depthOf 2 = .ok (.iload_n 1, 1) := dk_27 (dk_at dksX3_depthOf_0 2 rfl rfl)
theorem dX3_depthOf_3 : decode cX3_depthOf 3 = .ok (.istore_n 3, 1) := dk_62 (dk_at dksX3_depthOf_0 3 rfl rfl)
theorem dX3_depthOf_4 : decode cX3_depthOf 4 = .ok (.iload_n 3, 1) := dk_29 (dk_at dksX3_depthOf_0 4 rfl rfl)
theorem dX3_depthOf_5 : decode cX3_depthOf 5 = .ok (.bipush (-4), 2) := dk_16 252 (dk_at dksX3_depthOf_0 5 rfl rfl)
theorem dX3_depthOf_7 : decode cX3_depthOf 7 = .ok (.if_icmp .eq 16, 3) := dk_159 0 16 (dk_at dksX3_depthOf_0 7 rfl rfl)
theorem dX3_depthOf_10 : decode cX3_depthOf 10 = .ok (.iinc 2 1, 3) := dk_132 2 1 (dk_at dksX3_depthOf_0 10 rfl rfl)
theorem dX3_depthOf_13 : decode cX3_depthOf 13 = .ok (.aload_n 0, 1) := dk_42 (dk_at dksX3_depthOf_0 13 rfl rfl)
theorem dX3_depthOf_14 : decode cX3_depthOf 14 = .ok (.getfield 22, 3) := dk_180 0 22 (dk_at dksX3_depthOf_0 14 rfl rfl)
theorem dX3_depthOf_17 : decode cX3_depthOf 17 = .ok (.iload_n 3, 1) := dk_29 (dk_at dksX3_depthOf_0 17 rfl rfl)
theorem dX3_depthOf_18 : decode cX3_depthOf 18 = .ok (.iaload, 1) := dk_46 (dk_at dksX3_depthOf_0 18 rfl rfl)
theorem dX3_depthOf_19 : decode cX3_depthOf 19 = .ok (.istore_n 3, 1) := dk_62 (dk_at dksX3_depthOf_0 19 rfl rfl)
theorem dX3_depthOf_20 : decode cX3_depthOf 20 = .ok (.goto (-16), 3) := dk_167 255 240 (dk_at dksX3_depthOf_0 20 rfl rfl)
theorem dX3_depthOf_23 : decode cX3_depthOf 23 = .ok (.iload_n 2, 1) := dk_28 (dk_at dksX3_depthOf_0 23 rfl rfl)
theorem dX3_depthOf_24 : decode cX3_depthOf 24 = .ok (.ireturn, 1) := dk_172 (dk_at dksX3_depthOf_1 0 rfl rfl)
abbrev cX3_step : ByteArray := prog_11_method_33_code
def yX3_step : MethodName := ⟨RX3, "step", "(I)I"⟩
def dkwX3_step_1 : List UInt8 := [167, 0, 4, 2, 172]
abbrev dktX3_step_1 : List UInt8 := dkwX3_step_1 ++ []
def dkwX3_step_0 : List UInt8 := [27, 133, 9, 42, 180, 0, 225, 4, 100, 133, 184, 0, 124, 153, 0, 12, 42, 180, 0, 25, 27, 46]
abbrev dktX3_step_0 : List UInt8 := dkwX3_step_0 ++ dktX3_step_1
theorem dksX3_step_0 : cX3_step.data.toList.drop 0 = dktX3_step_0 := by decide +kernel
theorem dksX3_step_1 : cX3_step.data.toList.drop 22 = dktX3_step_1 := dk_seg dksX3_step_0 22 rfl rfl
theorem dX3_step_0 : decode cX3_step 0 = .ok (.iload_n 1, 1) := dk_27 (dk_at dksX3_step_0 0 rfl rfl)
theorem dX3_step_1 : decode cX3_step 1 = .ok (.i2l, 1) := dk_133 (dk_at dksX3_step_0 1 rfl rfl)
theorem dX3_step_2 : decode cX3_step 2 = .ok (.lconst 0, 1) := dk_9 (dk_at dksX3_step_0 2 rfl rfl)
theorem dX3_step_3 : decode cX3_step 3 = .ok (.aload_n 0, 1) := dk_42 (dk_at dksX3_step_0 3 rfl rfl)
theorem dX3_step_4 : decode cX3_step 4 = .ok (.getfield 225, 3) := dk_180 0 225 (dk_at dksX3_step_0 4 rfl rfl)
theorem dX3_step_7 : decode cX3_step 7 = .ok (.iconst 1, 1) := dk_4 (dk_at dksX3_step_0 7 rfl rfl)
theorem dX3_step_8 : decode cX3_step 8 = .ok (.isub, 1) := dk_100 (dk_at dksX3_step_0 8 rfl rfl)
theorem dX3_step_9 : decode cX3_step 9 = .ok (.i2l, 1) := dk_133 (dk_at dksX3_step_0 9 rfl rfl)
theorem dX3_step_10 : decode cX3_step 10 = .ok (.invokestatic 124, 3) := dk_184 0 124 (dk_at dksX3_step_0 10 rfl rfl)
theorem dX3_step_13 : decode cX3_step 13 = .ok (.ifCond .eq 12, 3) := dk_153 0 12 (dk_at dksX3_step_0 13 rfl rfl)
theorem dX3_step_16 : decode cX3_step 16 = .ok (.aload_n 0, 1) := dk_42 (dk_at dksX3_step_0 16 rfl rfl)
theorem dX3_step_17 : decode cX3_step 17 = .ok (.getfield 25, 3) := dk_180 0 25 (dk_at dksX3_step_0 17 rfl rfl)
theorem dX3_step_20 : decode cX3_step 20 = .ok (.iload_n 1, 1) := dk_27 (dk_at dksX3_step_0 20 rfl rfl)
theorem dX3_step_21 : decode cX3_step 21 = .ok (.iaload, 1) := dk_46 (dk_at dksX3_step_0 21 rfl rfl)
theorem dX3_step_22 : decode cX3_step 22 = .ok (.goto 4, 3) := dk_167 0 4 (dk_at dksX3_step_1 0 rfl rfl)
theorem dX3_step_25 : decode cX3_step 25 = .ok (.iconst (-1), 1) := dk_2 (dk_at dksX3_step_1 3 rfl rfl)
theorem dX3_step_26 : decode cX3_step 26 = .ok (.ireturn, 1) := dk_172 (dk_at dksX3_step_1 4 rfl rfl)
abbrev cX3_whole : ByteArray := prog_11_method_35_code
def yX3_whole : MethodName := ⟨RX3, "whole", "(I)I"⟩
def dkwX3_whole_2 : List UInt8 := [2, 172]
abbrev dktX3_whole_2 : List UInt8 := dkwX3_whole_2 ++ []
def dkwX3_whole_1 : List UInt8 := [133, 20, 0, 247, 20, 0, 249, 184, 0, 124, 153, 0, 14, 42, 27, 16, 10, 100, 182, 1, 1, 167, 0, 4]
abbrev dktX3_whole_1 : List UInt8 := dkwX3_whole_1 ++ dktX3_whole_2
def dkwX3_whole_0 : List UInt8 := [27, 154, 0, 10, 42, 180, 0, 225, 167, 0, 41, 27, 4, 160, 0, 10, 42, 180, 0, 212, 167, 0, 29, 27]
abbrev dktX3_whole_0 : List UInt8 := dkwX3_whole_0 ++ dktX3_whole_1
theorem dksX3_whole_0 : cX3_whole.data.toList.drop 0 = dktX3_whole_0 := by decide +kernel
theorem dksX3_whole_1 : cX3_whole.data.toList.drop 24 = dktX3_whole_1 := dk_seg dksX3_whole_0 24 rfl rfl
theorem dksX3_whole_2 : cX3_whole.data.toList.drop 48 = dktX3_whole_2 := dk_seg dksX3_whole_1 24 rfl rfl
theorem dX3_whole_0 : decode cX3_whole 0 = .ok (.iload_n 1, 1) := dk_27 (dk_at dksX3_whole_0 0 rfl rfl)
theorem dX3_whole_1 : decode cX3_whole 1 = .ok (.ifCond .ne 10, 3) := dk_154 0 10 (dk_at dksX3_whole_0 1 rfl rfl)
theorem dX3_whole_4 : decode cX3_whole 4 = .ok (.aload_n 0, 1) := dk_42 (dk_at dksX3_whole_0 4 rfl rfl)
theorem dX3_whole_5 : decode cX3_whole 5 = .ok (.getfield 225, 3) := dk_180 0 225 (dk_at dksX3_whole_0 5 rfl rfl)
theorem dX3_whole_8 : decode cX3_whole 8 = .ok (.goto 41, 3) := dk_167 0 41 (dk_at dksX3_whole_0 8 rfl rfl)
theorem dX3_whole_11 : decode cX3_whole 11 = .ok (.iload_n 1, 1) := dk_27 (dk_at dksX3_whole_0 11 rfl rfl)
theorem dX3_whole_12 : decode cX3_whole 12 = .ok (.iconst 1, 1) := dk_4 (dk_at dksX3_whole_0 12 rfl rfl)
theorem dX3_whole_13 : decode cX3_whole 13 = .ok (.if_icmp .ne 10, 3) := dk_160 0 10 (dk_at dksX3_whole_0 13 rfl rfl)
theorem dX3_whole_16 : decode cX3_whole 16 = .ok (.aload_n 0, 1) := dk_42 (dk_at dksX3_whole_0 16 rfl rfl)
theorem dX3_whole_17 : decode cX3_whole 17 = .ok (.getfield 212, 3) := dk_180 0 212 (dk_at dksX3_whole_0 17 rfl rfl)
theorem dX3_whole_20 : decode cX3_whole 20 = .ok (.goto 29, 3) := dk_167 0 29 (dk_at dksX3_whole_0 20 rfl rfl)
theorem dX3_whole_23 : decode cX3_whole 23 = .ok (.iload_n 1, 1) := dk_27 (dk_at dksX3_whole_0 23 rfl rfl)
theorem dX3_whole_24 : decode cX3_whole 24 = .ok (.i2l, 1) := dk_133 (dk_at dksX3_whole_1 0 rfl rfl)
theorem dX3_whole_25 : decode cX3_whole 25 = .ok (.ldc2_w 247, 3) := dk_20 0 247 (dk_at dksX3_whole_1 1 rfl rfl)
theorem dX3_whole_28 : decode cX3_whole 28 = .ok (.ldc2_w 249, 3) := dk_20 0 249 (dk_at dksX3_whole_1 4 rfl rfl)
theorem dX3_whole_31 : decode cX3_whole 31 = .ok (.invokestatic 124, 3) := dk_184 0 124 (dk_at dksX3_whole_1 7 rfl rfl)
theorem dX3_whole_34 : decode cX3_whole 34 = .ok (.ifCond .eq 14, 3) := dk_153 0 14 (dk_at dksX3_whole_1 10 rfl rfl)
theorem dX3_whole_37 : decode cX3_whole 37 = .ok (.aload_n 0, 1) := dk_42 (dk_at dksX3_whole_1 13 rfl rfl)
theorem dX3_whole_38 : decode cX3_whole 38 = .ok (.iload_n 1, 1) := dk_27 (dk_at dksX3_whole_1 14 rfl rfl)
theorem dX3_whole_39 : decode cX3_whole 39 = .ok (.bipush 10, 2) := dk_16 10 (dk_at dksX3_whole_1 15 rfl rfl)
theorem dX3_whole_41 : decode cX3_whole 41 = .ok (.isub, 1) := dk_100 (dk_at dksX3_whole_1 17 rfl rfl)
theorem dX3_whole_42 : decode cX3_whole 42 = .ok (.invokevirtual 257, 3) := dk_182 1 1 (dk_at dksX3_whole_1 18 rfl rfl)
theorem dX3_whole_45 : decode cX3_whole 45 = .ok (.goto 4, 3) := dk_167 0 4 (dk_at dksX3_whole_1 21 rfl rfl)
theorem dX3_whole_48 : decode cX3_whole 48 = .ok (.iconst (-1), 1) := dk_2 (dk_at dksX3_whole_2 0 rfl rfl)
theorem dX3_whole_49 : decode cX3_whole 49 = .ok (.ireturn, 1) := dk_172 (dk_at dksX3_whole_2 1 rfl rfl)
abbrev cX3_total : ByteArray := prog_11_method_34_code
def yX3_total : MethodName := ⟨RX3, "total", "(I)I"⟩
def dkwX3_total_1 : List UInt8 := [182, 0, 251, 104, 96, 61, 132, 3, 1, 167, 255, 229, 28, 172]
abbrev dktX3_total_1 : List UInt8 := dkwX3_total_1 ++ []
def dkwX3_total_0 : List UInt8 := [3, 61, 3, 62, 29, 42, 180, 0, 203, 162, 0, 25, 28, 42, 180, 0, 28, 29, 46, 42, 29, 27]
abbrev dktX3_total_0 : List UInt8 := dkwX3_total_0 ++ dktX3_total_1
theorem dksX3_total_0 : cX3_total.data.toList.drop 0 = dktX3_total_0 := by decide +kernel
theorem dksX3_total_1 : cX3_total.data.toList.drop 22 = dktX3_total_1 := dk_seg dksX3_total_0 22 rfl rfl
theorem dX3_total_0 : decode cX3_total 0 = .ok (.iconst 0, 1) := dk_3 (dk_at dksX3_total_0 0 rfl rfl)
theorem dX3_total_1 : decode cX3_total 1 = .ok (.istore_n 2, 1) := dk_61 (dk_at dksX3_total_0 1 rfl rfl)
theorem dX3_total_2 : decode cX3_total 2 = .ok (.iconst 0, 1) := dk_3 (dk_at dksX3_total_0 2 rfl rfl)
theorem dX3_total_3 : decode cX3_total 3 = .ok (.istore_n 3, 1) := dk_62 (dk_at dksX3_total_0 3 rfl rfl)
theorem dX3_total_4 : decode cX3_total 4 = .ok (.iload_n 3, 1) := dk_29 (dk_at dksX3_total_0 4 rfl rfl)
theorem dX3_total_5 : decode cX3_total 5 = .ok (.aload_n 0, 1) := dk_42 (dk_at dksX3_total_0 5 rfl rfl)
theorem dX3_total_6 : decode cX3_total 6 = .ok (.getfield 203, 3) := dk_180 0 203 (dk_at dksX3_total_0 6 rfl rfl)
theorem dX3_total_9 : decode cX3_total 9 = .ok (.if_icmp .ge 25, 3) := dk_162 0 25 (dk_at dksX3_total_0 9 rfl rfl)
theorem dX3_total_12 : decode cX3_total 12 = .ok (.iload_n 2, 1) := dk_28 (dk_at dksX3_total_0 12 rfl rfl)
theorem dX3_total_13 : decode cX3_total 13 = .ok (.aload_n 0, 1) := dk_42 (dk_at dksX3_total_0 13 rfl rfl)
theorem dX3_total_14 : decode cX3_total 14 = .ok (.getfield 28, 3) := dk_180 0 28 (dk_at dksX3_total_0 14 rfl rfl)
theorem dX3_total_17 : decode cX3_total 17 = .ok (.iload_n 3, 1) := dk_29 (dk_at dksX3_total_0 17 rfl rfl)
theorem dX3_total_18 : decode cX3_total 18 = .ok (.iaload, 1) := dk_46 (dk_at dksX3_total_0 18 rfl rfl)
theorem dX3_total_19 : decode cX3_total 19 = .ok (.aload_n 0, 1) := dk_42 (dk_at dksX3_total_0 19 rfl rfl)
theorem dX3_total_20 : decode cX3_total 20 = .ok (.iload_n 3, 1) := dk_29 (dk_at dksX3_total_0 20 rfl rfl)
theorem dX3_total_21 : decode cX3_total 21 = .ok (.iload_n 1, 1) := dk_27 (dk_at dksX3_total_0 21 rfl rfl)
theorem dX3_total_22 : decode cX3_total 22 = .ok (.invokevirtual 251, 3) := dk_182 0 251 (dk_at dksX3_total_1 0 rfl rfl)
theorem dX3_total_25 : decode cX3_total 25 = .ok (.imul, 1) := dk_104 (dk_at dksX3_total_1 3 rfl rfl)
theorem dX3_total_26 : decode cX3_total 26 = .ok (.iadd, 1) := dk_96 (dk_at dksX3_total_1 4 rfl rfl)
theorem dX3_total_27 : decode cX3_total 27 = .ok (.istore_n 2, 1) := dk_61 (dk_at dksX3_total_1 5 rfl rfl)
theorem dX3_total_28 : decode cX3_total 28 = .ok (.iinc 3 1, 3) := dk_132 3 1 (dk_at dksX3_total_1 6 rfl rfl)
theorem dX3_total_31 : decode cX3_total 31 = .ok (.goto (-27), 3) := dk_167 255 229 (dk_at dksX3_total_1 9 rfl rfl)
theorem dX3_total_34 : decode cX3_total 34 = .ok (.iload_n 2, 1) := dk_28 (dk_at dksX3_total_1 12 rfl rfl)
theorem dX3_total_35 : decode cX3_total 35 = .ok (.ireturn, 1) := dk_172 (dk_at dksX3_total_1 13 rfl rfl)
abbrev cX3_ratio : ByteArray := prog_11_method_36_code
def yX3_ratio : MethodName := ⟨RX3, "ratio", "(IIII)I"⟩
def dkwX3_ratio_4 : List UInt8 := [16, 252, 167, 0, 15, 21, 5, 133, 21, 6, 133, 21, 4, 184, 1, 7, 136, 172]
abbrev dktX3_ratio_4 : List UInt8 := dkwX3_ratio_4 ++ []
def dkwX3_ratio_3 : List UInt8 := [160, 0, 11, 42, 29, 182, 1, 1, 167, 0, 9, 42, 27, 29, 182, 0, 251, 54, 6, 21, 6, 154, 0, 8]
abbrev dktX3_ratio_3 : List UInt8 := dkwX3_ratio_3 ++ dktX3_ratio_4
def dkwX3_ratio_2 : List UInt8 := [160, 0, 11, 42, 28, 182, 1, 1, 167, 0, 9, 42, 27, 28, 182, 0, 251, 54, 5, 27, 16, 252]
abbrev dktX3_ratio_2 : List UInt8 := dkwX3_ratio_2 ++ dktX3_ratio_3
def dkwX3_ratio_1 : List UInt8 := [184, 1, 4, 153, 0, 14, 21, 4, 133, 9, 10, 184, 0, 124, 154, 0, 5, 2, 172, 27, 16, 252]
abbrev dktX3_ratio_1 : List UInt8 := dkwX3_ratio_1 ++ dktX3_ratio_2
def dkwX3_ratio_0 : List UInt8 := [27, 16, 252, 159, 0, 11, 42, 27, 182, 0, 243, 153, 0, 28, 28, 184, 1, 4, 153, 0, 21, 29]
abbrev dktX3_ratio_0 : List UInt8 := dkwX3_ratio_0 ++ dktX3_ratio_1
theorem dksX3_ratio_0 : cX3_ratio.data.toList.drop 0 = dktX3_ratio_0 := by decide +kernel
theorem dksX3_ratio_1 : cX3_ratio.data.toList.drop 22 = dktX3_ratio_1 := dk_seg dksX3_ratio_0 22 rfl rfl
theorem dksX3_ratio_2 : cX3_ratio.data.toList.drop 44 = dktX3_ratio_2 := dk_seg dksX3_ratio_1 22 rfl rfl
theorem dksX3_ratio_3 : cX3_ratio.data.toList.drop 66 = dktX3_ratio_3 := dk_seg dksX3_ratio_2 22 rfl rfl
theorem dksX3_ratio_4 : cX3_ratio.data.toList.drop 90 = dktX3_ratio_4 := dk_seg dksX3_ratio_3 24 rfl rfl
theorem dX3_ratio_0 : decode cX3_ratio 0 = .ok (.iload_n 1, 1) := dk_27 (dk_at dksX3_ratio_0 0 rfl rfl)
theorem dX3_ratio_1 : decode cX3_ratio 1 = .ok (.bipush (-4), 2) := dk_16 252 (dk_at dksX3_ratio_0 1 rfl rfl)
theorem dX3_ratio_3 : decode cX3_ratio 3 = .ok (.if_icmp .eq 11, 3) := dk_159 0 11 (dk_at dksX3_ratio_0 3 rfl rfl)
theorem dX3_ratio_6 : decode cX3_ratio 6 = .ok (.aload_n 0, 1) := dk_42 (dk_at dksX3_ratio_0 6 rfl rfl)
theorem dX3_ratio_7 : decode cX3_ratio 7 = .ok (.iload_n 1, 1) := dk_27 (dk_at dksX3_ratio_0 7 rfl rfl)
theorem dX3_ratio_8 : decode cX3_ratio 8 = .ok (.invokevirtual 243, 3) := dk_182 0 243 (dk_at dksX3_ratio_0 8 rfl rfl)
theorem dX3_ratio_11 : decode cX3_ratio 11 = .ok (.ifCond .eq 28, 3) := dk_153 0 28 (dk_at dksX3_ratio_0 11 rfl rfl)
theorem dX3_ratio_14 : decode cX3_ratio 14 = .ok (.iload_n 2, 1) := dk_28 (dk_at dksX3_ratio_0 14 rfl rfl)
theorem dX3_ratio_15 : decode cX3_ratio 15 = .ok (.invokestatic 260, 3) := dk_184 1 4 (dk_at dksX3_ratio_0 15 rfl rfl)
theorem dX3_ratio_18 : decode cX3_ratio 18 = .ok (.ifCond .eq 21, 3) := dk_153 0 21 (dk_at dksX3_ratio_0 18 rfl rfl)
theorem dX3_ratio_21 : decode cX3_ratio 21 = .ok (.iload_n 3, 1) := dk_29 (dk_at dksX3_ratio_0 21 rfl rfl)
theorem dX3_ratio_22 : decode cX3_ratio 22 = .ok (.invokestatic 260, 3) := dk_184 1 4 (dk_at dksX3_ratio_1 0 rfl rfl)
theorem dX3_ratio_25 : decode cX3_ratio 25 = .ok (.ifCond .eq 14, 3) := dk_153 0 14 (dk_at dksX3_ratio_1 3 rfl rfl)
theorem dX3_ratio_28 : decode cX3_ratio 28 = .ok (.iload 4, 2) := dk_21 4 (dk_at dksX3_ratio_1 6 rfl rfl)
theorem dX3_ratio_30 : decode cX3_ratio 30 = .ok (.i2l, 1) := dk_133 (dk_at dksX3_ratio_1 8 rfl rfl)
theorem dX3_ratio_31 : decode cX3_ratio 31 = .ok (.lconst 0, 1) := dk_9 (dk_at dksX3_ratio_1 9 rfl rfl)
theorem dX3_ratio_32 : decode cX3_ratio 32 = .ok (.lconst 1, 1) := dk_10 (dk_at dksX3_ratio_1 10 rfl rfl)
theorem dX3_ratio_33 : decode cX3_ratio 33 = .ok (.invokestatic 124, 3) := dk_184 0 124 (dk_at dksX3_ratio_1 11 rfl rfl)
theorem dX3_ratio_36 : decode cX3_ratio 36 = .ok (.ifCond .ne 5, 3) := dk_154 0 5 (dk_at dksX3_ratio_1 14 rfl rfl)
theorem dX3_ratio_39 : decode cX3_ratio 39 = .ok (.iconst (-1), 1) := dk_2 (dk_at dksX3_ratio_1 17 rfl rfl)
theorem dX3_ratio_40 : decode cX3_ratio 40 = .ok (.ireturn, 1) := dk_172 (dk_at dksX3_ratio_1 18 rfl rfl)
theorem dX3_ratio_41 : decode cX3_ratio 41 = .ok (.iload_n 1, 1) := dk_27 (dk_at dksX3_ratio_1 19 rfl rfl)
theorem dX3_ratio_42 : decode cX3_ratio 42 = .ok (.bipush (-4), 2) := dk_16 252 (dk_at dksX3_ratio_1 20 rfl rfl)
theorem dX3_ratio_44 : decode cX3_ratio 44 = .ok (.if_icmp .ne 11, 3) := dk_160 0 11 (dk_at dksX3_ratio_2 0 rfl rfl)
theorem dX3_ratio_47 : decode cX3_ratio 47 = .ok (.aload_n 0, 1) := dk_42 (dk_at dksX3_ratio_2 3 rfl rfl)
theorem dX3_ratio_48 : decode cX3_ratio 48 = .ok (.iload_n 2, 1) := dk_28 (dk_at dksX3_ratio_2 4 rfl rfl)
theorem dX3_ratio_49 : decode cX3_ratio 49 = .ok (.invokevirtual 257, 3) := dk_182 1 1 (dk_at dksX3_ratio_2 5 rfl rfl)
theorem dX3_ratio_52 : decode cX3_ratio 52 = .ok (.goto 9, 3) := dk_167 0 9 (dk_at dksX3_ratio_2 8 rfl rfl)
theorem dX3_ratio_55 : decode cX3_ratio 55 = .ok (.aload_n 0, 1) := dk_42 (dk_at dksX3_ratio_2 11 rfl rfl)
theorem dX3_ratio_56 : decode cX3_ratio 56 = .ok (.iload_n 1, 1) := dk_27 (dk_at dksX3_ratio_2 12 rfl rfl)
theorem dX3_ratio_57 : decode cX3_ratio 57 = .ok (.iload_n 2, 1) := dk_28 (dk_at dksX3_ratio_2 13 rfl rfl)
theorem dX3_ratio_58 : decode cX3_ratio 58 = .ok (.invokevirtual 251, 3) := dk_182 0 251 (dk_at dksX3_ratio_2 14 rfl rfl)
theorem dX3_ratio_61 : decode cX3_ratio 61 = .ok (.istore 5, 2) := dk_54 5 (dk_at dksX3_ratio_2 17 rfl rfl)
theorem dX3_ratio_63 : decode cX3_ratio 63 = .ok (.iload_n 1, 1) := dk_27 (dk_at dksX3_ratio_2 19 rfl rfl)
theorem dX3_ratio_64 : decode cX3_ratio 64 = .ok (.bipush (-4), 2) := dk_16 252 (dk_at dksX3_ratio_2 20 rfl rfl)
theorem dX3_ratio_66 : decode cX3_ratio 66 = .ok (.if_icmp .ne 11, 3) := dk_160 0 11 (dk_at dksX3_ratio_3 0 rfl rfl)
theorem dX3_ratio_69 : decode cX3_ratio 69 = .ok (.aload_n 0, 1) := dk_42 (dk_at dksX3_ratio_3 3 rfl rfl)
theorem dX3_ratio_70 : decode cX3_ratio 70 = .ok (.iload_n 3, 1) := dk_29 (dk_at dksX3_ratio_3 4 rfl rfl)
theorem dX3_ratio_71 : decode cX3_ratio 71 = .ok (.invokevirtual 257, 3) := dk_182 1 1 (dk_at dksX3_ratio_3 5 rfl rfl)
theorem dX3_ratio_74 : decode cX3_ratio 74 = .ok (.goto 9, 3) := dk_167 0 9 (dk_at dksX3_ratio_3 8 rfl rfl)
theorem dX3_ratio_77 : decode cX3_ratio 77 = .ok (.aload_n 0, 1) := dk_42 (dk_at dksX3_ratio_3 11 rfl rfl)
theorem dX3_ratio_78 : decode cX3_ratio 78 = .ok (.iload_n 1, 1) := dk_27 (dk_at dksX3_ratio_3 12 rfl rfl)
theorem dX3_ratio_79 : decode cX3_ratio 79 = .ok (.iload_n 3, 1) := dk_29 (dk_at dksX3_ratio_3 13 rfl rfl)
theorem dX3_ratio_80 : decode cX3_ratio 80 = .ok (.invokevirtual 251, 3) := dk_182 0 251 (dk_at dksX3_ratio_3 14 rfl rfl)
theorem dX3_ratio_83 : decode cX3_ratio 83 = .ok (.istore 6, 2) := dk_54 6 (dk_at dksX3_ratio_3 17 rfl rfl)
theorem dX3_ratio_85 : decode cX3_ratio 85 = .ok (.iload 6, 2) := dk_21 6 (dk_at dksX3_ratio_3 19 rfl rfl)
theorem dX3_ratio_87 : decode cX3_ratio 87 = .ok (.ifCond .ne 8, 3) := dk_154 0 8 (dk_at dksX3_ratio_3 21 rfl rfl)
theorem dX3_ratio_90 : decode cX3_ratio 90 = .ok (.bipush (-4), 2) := dk_16 252 (dk_at dksX3_ratio_4 0 rfl rfl)
theorem dX3_ratio_92 : decode cX3_ratio 92 = .ok (.goto 15, 3) := dk_167 0 15 (dk_at dksX3_ratio_4 2 rfl rfl)
theorem dX3_ratio_95 : decode cX3_ratio 95 = .ok (.iload 5, 2) := dk_21 5 (dk_at dksX3_ratio_4 5 rfl rfl)
theorem dX3_ratio_97 : decode cX3_ratio 97 = .ok (.i2l, 1) := dk_133 (dk_at dksX3_ratio_4 7 rfl rfl)
theorem dX3_ratio_98 : decode cX3_ratio 98 = .ok (.iload 6, 2) := dk_21 6 (dk_at dksX3_ratio_4 8 rfl rfl)
theorem dX3_ratio_100 : decode cX3_ratio 100 = .ok (.i2l, 1) := dk_133 (dk_at dksX3_ratio_4 10 rfl rfl)
theorem dX3_ratio_101 : decode cX3_ratio 101 = .ok (.iload 4, 2) := dk_21 4 (dk_at dksX3_ratio_4 11 rfl rfl)
theorem dX3_ratio_103 : decode cX3_ratio 103 = .ok (.invokestatic 263, 3) := dk_184 1 7 (dk_at dksX3_ratio_4 13 rfl rfl)
theorem dX3_ratio_106 : decode cX3_ratio 106 = .ok (.l2i, 1) := dk_136 (dk_at dksX3_ratio_4 16 rfl rfl)
theorem dX3_ratio_107 : decode cX3_ratio 107 = .ok (.ireturn, 1) := dk_172 (dk_at dksX3_ratio_4 17 rfl rfl)
abbrev cX3_isEvent : ByteArray := prog_11_method_29_code
def yX3_isEvent : MethodName := ⟨RX3, "isEvent", "(I)Z"⟩
def dkwX3_isEvent_0 : List UInt8 := [26, 133, 9, 20, 0, 169, 184, 0, 124, 172]
abbrev dktX3_isEvent_0 : List UInt8 := dkwX3_isEvent_0 ++ []
theorem dksX3_isEvent_0 : cX3_isEvent.data.toList.drop 0 = dktX3_isEvent_0 := by decide +kernel
theorem dX3_isEvent_0 : decode cX3_isEvent 0 = .ok (.iload_n 0, 1) := dk_26 (dk_at dksX3_isEvent_0 0 rfl rfl)
theorem dX3_isEvent_1 : decode cX3_isEvent 1 = .ok (.i2l, 1) := dk_133 (dk_at dksX3_isEvent_0 1 rfl rfl)
theorem dX3_isEvent_2 : decode cX3_isEvent 2 = .ok (.lconst 0, 1) := dk_9 (dk_at dksX3_isEvent_0 2 rfl rfl)
theorem dX3_isEvent_3 : decode cX3_isEvent 3 = .ok (.ldc2_w 169, 3) := dk_20 0 169 (dk_at dksX3_isEvent_0 3 rfl rfl)
theorem dX3_isEvent_6 : decode cX3_isEvent 6 = .ok (.invokestatic 124, 3) := dk_184 0 124 (dk_at dksX3_isEvent_0 6 rfl rfl)
theorem dX3_isEvent_9 : decode cX3_isEvent 9 = .ok (.ireturn, 1) := dk_172 (dk_at dksX3_isEvent_0 9 rfl rfl)
abbrev cX3_told : ByteArray := prog_11_method_7_code
def yX3_told : MethodName := ⟨RX3, "told", "(JJI)J"⟩
def dkwX3_told_1 : List UInt8 := [22, 5, 109, 173]
abbrev dktX3_told_1 : List UInt8 := dkwX3_told_1 ++ []
def dkwX3_told_0 : List UInt8 := [32, 30, 184, 0, 111, 184, 0, 115, 55, 5, 21, 4, 154, 0, 10, 30, 22, 5, 109, 167, 0, 7, 32]
abbrev dktX3_told_0 : List UInt8 := dkwX3_told_0 ++ dktX3_told_1
theorem dksX3_told_0 : cX3_told.data.toList.drop 0 = dktX3_told_0 := by decide +kernel
theorem dksX3_told_1 : cX3_told.data.toList.drop 23 = dktX3_told_1 := dk_seg dksX3_told_0 23 rfl rfl
theorem dX3_told_0 : decode cX3_told 0 = .ok (.lload_n 2, 1) := dk_32 (dk_at dksX3_told_0 0 rfl rfl)
theorem dX3_told_1 : decode cX3_told 1 = .ok (.lload_n 0, 1) := dk_30 (dk_at dksX3_told_0 1 rfl rfl)
theorem dX3_told_2 : decode cX3_told 2 = .ok (.invokestatic 111, 3) := dk_184 0 111 (dk_at dksX3_told_0 2 rfl rfl)
theorem dX3_told_5 : decode cX3_told 5 = .ok (.invokestatic 115, 3) := dk_184 0 115 (dk_at dksX3_told_0 5 rfl rfl)
theorem dX3_told_8 : decode cX3_told 8 = .ok (.lstore 5, 2) := dk_55 5 (dk_at dksX3_told_0 8 rfl rfl)
theorem dX3_told_10 : decode cX3_told 10 = .ok (.iload 4, 2) := dk_21 4 (dk_at dksX3_told_0 10 rfl rfl)
theorem dX3_told_12 : decode cX3_told 12 = .ok (.ifCond .ne 10, 3) := dk_154 0 10 (dk_at dksX3_told_0 12 rfl rfl)
theorem dX3_told_15 : decode cX3_told 15 = .ok (.lload_n 0, 1) := dk_30 (dk_at dksX3_told_0 15 rfl rfl)
theorem dX3_told_16 : decode cX3_told 16 = .ok (.lload 5, 2) := dk_22 5 (dk_at dksX3_told_0 16 rfl rfl)
theorem dX3_told_18 : decode cX3_told 18 = .ok (.ldiv, 1) := dk_109 (dk_at dksX3_told_0 18 rfl rfl)
theorem dX3_told_19 : decode cX3_told 19 = .ok (.goto 7, 3) := dk_167 0 7 (dk_at dksX3_told_0 19 rfl rfl)
theorem dX3_told_22 : decode cX3_told 22 = .ok (.lload_n 2, 1) := dk_32 (dk_at dksX3_told_0 22 rfl rfl)
theorem dX3_told_23 : decode cX3_told 23 = .ok (.lload 5, 2) := dk_22 5 (dk_at dksX3_told_1 0 rfl rfl)
theorem dX3_told_25 : decode cX3_told 25 = .ok (.ldiv, 1) := dk_109 (dk_at dksX3_told_1 2 rfl rfl)
theorem dX3_told_26 : decode cX3_told 26 = .ok (.lreturn, 1) := dk_173 (dk_at dksX3_told_1 3 rfl rfl)
abbrev cX3_size : ByteArray := prog_11_method_5_code
def yX3_size : MethodName := ⟨RX3, "size", "(J)J"⟩
def dkwX3_size_0 : List UInt8 := [30, 9, 148, 156, 0, 8, 30, 117, 167, 0, 4, 30, 173]
abbrev dktX3_size_0 : List UInt8 := dkwX3_size_0 ++ []
theorem dksX3_size_0 : cX3_size.data.toList.drop 0 = dktX3_size_0 := by decide +kernel
theorem dX3_size_0 : decode cX3_size 0 = .ok (.lload_n 0, 1) := dk_30 (dk_at dksX3_size_0 0 rfl rfl)
theorem dX3_size_1 : decode cX3_size 1 = .ok (.lconst 0, 1) := dk_9 (dk_at dksX3_size_0 1 rfl rfl)
theorem dX3_size_2 : decode cX3_size 2 = .ok (.lcmp, 1) := dk_148 (dk_at dksX3_size_0 2 rfl rfl)
theorem dX3_size_3 : decode cX3_size 3 = .ok (.ifCond .ge 8, 3) := dk_156 0 8 (dk_at dksX3_size_0 3 rfl rfl)
theorem dX3_size_6 : decode cX3_size 6 = .ok (.lload_n 0, 1) := dk_30 (dk_at dksX3_size_0 6 rfl rfl)
theorem dX3_size_7 : decode cX3_size 7 = .ok (.lneg, 1) := dk_117 (dk_at dksX3_size_0 7 rfl rfl)
theorem dX3_size_8 : decode cX3_size 8 = .ok (.goto 4, 3) := dk_167 0 4 (dk_at dksX3_size_0 8 rfl rfl)
theorem dX3_size_11 : decode cX3_size 11 = .ok (.lload_n 0, 1) := dk_30 (dk_at dksX3_size_0 11 rfl rfl)
theorem dX3_size_12 : decode cX3_size 12 = .ok (.lreturn, 1) := dk_173 (dk_at dksX3_size_0 12 rfl rfl)
abbrev cX3_common : ByteArray := prog_11_method_6_code
def yX3_common : MethodName := ⟨RX3, "common", "(JJ)J"⟩
def dkwX3_common_1 : List UInt8 := [22, 8, 55, 6, 167, 255, 234, 22, 4, 184, 0, 111, 173]
abbrev dktX3_common_1 : List UInt8 := dkwX3_common_1 ++ []
def dkwX3_common_0 : List UInt8 := [30, 55, 4, 32, 55, 6, 22, 6, 9, 148, 153, 0, 21, 22, 4, 22, 6, 113, 55, 8, 22, 6, 55, 4]
abbrev dktX3_common_0 : List UInt8 := dkwX3_common_0 ++ dktX3_common_1
theorem dksX3_common_0 : cX3_common.data.toList.drop 0 = dktX3_common_0 := by decide +kernel
theorem dksX3_common_1 : cX3_common.data.toList.drop 24 = dktX3_common_1 := dk_seg dksX3_common_0 24 rfl rfl
theorem dX3_common_0 : decode cX3_common 0 = .ok (.lload_n 0, 1) := dk_30 (dk_at dksX3_common_0 0 rfl rfl)
theorem dX3_common_1 : decode cX3_common 1 = .ok (.lstore 4, 2) := dk_55 4 (dk_at dksX3_common_0 1 rfl rfl)
theorem dX3_common_3 : decode cX3_common 3 = .ok (.lload_n 2, 1) := dk_32 (dk_at dksX3_common_0 3 rfl rfl)
theorem dX3_common_4 : decode cX3_common 4 = .ok (.lstore 6, 2) := dk_55 6 (dk_at dksX3_common_0 4 rfl rfl)
theorem dX3_common_6 : decode cX3_common 6 = .ok (.lload 6, 2) := dk_22 6 (dk_at dksX3_common_0 6 rfl rfl)
theorem dX3_common_8 : decode cX3_common 8 = .ok (.lconst 0, 1) := dk_9 (dk_at dksX3_common_0 8 rfl rfl)
theorem dX3_common_9 : decode cX3_common 9 = .ok (.lcmp, 1) := dk_148 (dk_at dksX3_common_0 9 rfl rfl)
theorem dX3_common_10 : decode cX3_common 10 = .ok (.ifCond .eq 21, 3) := dk_153 0 21 (dk_at dksX3_common_0 10 rfl rfl)
theorem dX3_common_13 : decode cX3_common 13 = .ok (.lload 4, 2) := dk_22 4 (dk_at dksX3_common_0 13 rfl rfl)
theorem dX3_common_15 : decode cX3_common 15 = .ok (.lload 6, 2) := dk_22 6 (dk_at dksX3_common_0 15 rfl rfl)
theorem dX3_common_17 : decode cX3_common 17 = .ok (.lrem, 1) := dk_113 (dk_at dksX3_common_0 17 rfl rfl)
theorem dX3_common_18 : decode cX3_common 18 = .ok (.lstore 8, 2) := dk_55 8 (dk_at dksX3_common_0 18 rfl rfl)
theorem dX3_common_20 : decode cX3_common 20 = .ok (.lload 6, 2) := dk_22 6 (dk_at dksX3_common_0 20 rfl rfl)
theorem dX3_common_22 : decode cX3_common 22 = .ok (.lstore 4, 2) := dk_55 4 (dk_at dksX3_common_0 22 rfl rfl)
theorem dX3_common_24 : decode cX3_common 24 = .ok (.lload 8, 2) := dk_22 8 (dk_at dksX3_common_1 0 rfl rfl)
theorem dX3_common_26 : decode cX3_common 26 = .ok (.lstore 6, 2) := dk_55 6 (dk_at dksX3_common_1 2 rfl rfl)
theorem dX3_common_28 : decode cX3_common 28 = .ok (.goto (-22), 3) := dk_167 255 234 (dk_at dksX3_common_1 4 rfl rfl)
theorem dX3_common_31 : decode cX3_common 31 = .ok (.lload 4, 2) := dk_22 4 (dk_at dksX3_common_1 7 rfl rfl)
theorem dX3_common_33 : decode cX3_common 33 = .ok (.invokestatic 111, 3) := dk_184 0 111 (dk_at dksX3_common_1 9 rfl rfl)
theorem dX3_common_36 : decode cX3_common 36 = .ok (.lreturn, 1) := dk_173 (dk_at dksX3_common_1 12 rfl rfl)
abbrev cX3_loop : ByteArray := prog_11_method_37_code
def yX3_loop : MethodName := ⟨RX3, "loop", "(II)I"⟩
def dkwX3_loop_7 : List UInt8 := [160, 0, 8, 21, 4, 167, 0, 14, 28, 6, 160, 0, 7, 29, 167, 0, 5, 21, 5, 172]
abbrev dktX3_loop_7 : List UInt8 := dkwX3_loop_7 ++ []
def dkwX3_loop_6 : List UInt8 := [167, 0, 42, 28, 4, 160, 0, 16, 42, 42, 180, 0, 22, 27, 46, 182, 0, 254, 167, 0, 24, 28, 5]
abbrev dktX3_loop_6 : List UInt8 := dkwX3_loop_6 ++ dktX3_loop_7
def dkwX3_loop_5 : List UInt8 := [167, 0, 4, 3, 96, 54, 5, 132, 6, 1, 167, 255, 217, 28, 154, 0, 12, 42, 180, 0, 19, 27, 46]
abbrev dktX3_loop_5 : List UInt8 := dkwX3_loop_5 ++ dktX3_loop_6
def dkwX3_loop_4 : List UInt8 := [162, 0, 36, 21, 5, 21, 4, 21, 6, 122, 4, 126, 4, 160, 0, 13, 42, 180, 0, 28, 21, 6, 46]
abbrev dktX3_loop_4 : List UInt8 := dkwX3_loop_4 ++ dktX3_loop_5
def dkwX3_loop_3 : List UInt8 := [167, 255, 230, 42, 27, 182, 0, 228, 54, 4, 3, 54, 5, 3, 54, 6, 21, 6, 42, 180, 0, 203]
abbrev dktX3_loop_3 : List UInt8 := dkwX3_loop_3 ++ dktX3_loop_4
def dkwX3_loop_2 : List UInt8 := [159, 0, 25, 29, 42, 180, 0, 19, 21, 4, 46, 104, 62, 42, 180, 0, 22, 21, 4, 46, 54, 4]
abbrev dktX3_loop_2 : List UInt8 := dkwX3_loop_2 ++ dktX3_loop_3
def dkwX3_loop_1 : List UInt8 := [184, 0, 124, 154, 0, 5, 2, 172, 4, 62, 42, 180, 0, 22, 27, 46, 54, 4, 21, 4, 16, 252]
abbrev dktX3_loop_1 : List UInt8 := dkwX3_loop_1 ++ dktX3_loop_2
def dkwX3_loop_0 : List UInt8 := [27, 133, 9, 42, 180, 0, 206, 4, 100, 133, 184, 0, 124, 153, 0, 15, 28, 133, 9, 20, 1, 11]
abbrev dktX3_loop_0 : List UInt8 := dkwX3_loop_0 ++ dktX3_loop_1
theorem dksX3_loop_0 : cX3_loop.data.toList.drop 0 = dktX3_loop_0 := by decide +kernel
theorem dksX3_loop_1 : cX3_loop.data.toList.drop 22 = dktX3_loop_1 := dk_seg dksX3_loop_0 22 rfl rfl
theorem dksX3_loop_2 : cX3_loop.data.toList.drop 44 = dktX3_loop_2 := dk_seg dksX3_loop_1 22 rfl rfl
theorem dksX3_loop_3 : cX3_loop.data.toList.drop 66 = dktX3_loop_3 := dk_seg dksX3_loop_2 22 rfl rfl
theorem dksX3_loop_4 : cX3_loop.data.toList.drop 88 = dktX3_loop_4 := dk_seg dksX3_loop_3 22 rfl rfl
theorem dksX3_loop_5 : cX3_loop.data.toList.drop 111 = dktX3_loop_5 := dk_seg dksX3_loop_4 23 rfl rfl
theorem dksX3_loop_6 : cX3_loop.data.toList.drop 134 = dktX3_loop_6 := dk_seg dksX3_loop_5 23 rfl rfl
theorem dksX3_loop_7 : cX3_loop.data.toList.drop 157 = dktX3_loop_7 := dk_seg dksX3_loop_6 23 rfl rfl
theorem dX3_loop_0 : decode cX3_loop 0 = .ok (.iload_n 1, 1) := dk_27 (dk_at dksX3_loop_0 0 rfl rfl)
theorem dX3_loop_1 : decode cX3_loop 1 = .ok (.i2l, 1) := dk_133 (dk_at dksX3_loop_0 1 rfl rfl)
theorem dX3_loop_2 : decode cX3_loop 2 = .ok (.lconst 0, 1) := dk_9 (dk_at dksX3_loop_0 2 rfl rfl)
theorem dX3_loop_3 : decode cX3_loop 3 = .ok (.aload_n 0, 1) := dk_42 (dk_at dksX3_loop_0 3 rfl rfl)
theorem dX3_loop_4 : decode cX3_loop 4 = .ok (.getfield 206, 3) := dk_180 0 206 (dk_at dksX3_loop_0 4 rfl rfl)
theorem dX3_loop_7 : decode cX3_loop 7 = .ok (.iconst 1, 1) := dk_4 (dk_at dksX3_loop_0 7 rfl rfl)
theorem dX3_loop_8 : decode cX3_loop 8 = .ok (.isub, 1) := dk_100 (dk_at dksX3_loop_0 8 rfl rfl)
theorem dX3_loop_9 : decode cX3_loop 9 = .ok (.i2l, 1) := dk_133 (dk_at dksX3_loop_0 9 rfl rfl)
theorem dX3_loop_10 : decode cX3_loop 10 = .ok (.invokestatic 124, 3) := dk_184 0 124 (dk_at dksX3_loop_0 10 rfl rfl)
theorem dX3_loop_13 : decode cX3_loop 13 = .ok (.ifCond .eq 15, 3) := dk_153 0 15 (dk_at dksX3_loop_0 13 rfl rfl)
theorem dX3_loop_16 : decode cX3_loop 16 = .ok (.iload_n 2, 1) := dk_28 (dk_at dksX3_loop_0 16 rfl rfl)
theorem dX3_loop_17 : decode cX3_loop 17 = .ok (.i2l, 1) := dk_133 (dk_at dksX3_loop_0 17 rfl rfl)
theorem dX3_loop_18 : decode cX3_loop 18 = .ok (.lconst 0, 1) := dk_9 (dk_at dksX3_loop_0 18 rfl rfl)
theorem dX3_loop_19 : decode cX3_loop 19 = .ok (.ldc2_w 267, 3) := dk_20 1 11 (dk_at dksX3_loop_0 19 rfl rfl)
theorem dX3_loop_22 : decode cX3_loop 22 = .ok (.invokestatic 124, 3) := dk_184 0 124 (dk_at dksX3_loop_1 0 rfl rfl)
theorem dX3_loop_25 : decode cX3_loop 25 = .ok (.ifCond .ne 5, 3) := dk_154 0 5 (dk_at dksX3_loop_1 3 rfl rfl)
theorem dX3_loop_28 : decode cX3_loop 28 = .ok (.iconst (-1), 1) := dk_2 (dk_at dksX3_loop_1 6 rfl rfl)
theorem dX3_loop_29 : decode cX3_loop 29 = .ok (.ireturn, 1) := dk_172 (dk_at dksX3_loop_1 7 rfl rfl)
theorem dX3_loop_30 : decode cX3_loop 30 = .ok (.iconst 1, 1) := dk_4 (dk_at dksX3_loop_1 8 rfl rfl)
theorem dX3_loop_31 : decode cX3_loop 31 = .ok (.istore_n 3, 1) := dk_62 (dk_at dksX3_loop_1 9 rfl rfl)
theorem dX3_loop_32 : decode cX3_loop 32 = .ok (.aload_n 0, 1) := dk_42 (dk_at dksX3_loop_1 10 rfl rfl)
theorem dX3_loop_33 : decode cX3_loop 33 = .ok (.getfield 22, 3) := dk_180 0 22 (dk_at dksX3_loop_1 11 rfl rfl)
theorem dX3_loop_36 : decode cX3_loop 36 = .ok (.iload_n 1, 1) := dk_27 (dk_at dksX3_loop_1 14 rfl rfl)
theorem dX3_loop_37 : decode cX3_loop 37 = .ok (.iaload, 1) := dk_46 (dk_at dksX3_loop_1 15 rfl rfl)
theorem dX3_loop_38 : decode cX3_loop 38 = .ok (.istore 4, 2) := dk_54 4 (dk_at dksX3_loop_1 16 rfl rfl)
theorem dX3_loop_40 : decode cX3_loop 40 = .ok (.iload 4, 2) := dk_21 4 (dk_at dksX3_loop_1 18 rfl rfl)
theorem dX3_loop_42 : decode cX3_loop 42 = .ok (.bipush (-4), 2) := dk_16 252 (dk_at dksX3_loop_1 20 rfl rfl)
theorem dX3_loop_44 : decode cX3_loop 44 = .ok (.if_icmp .eq 25, 3) := dk_159 0 25 (dk_at dksX3_loop_2 0 rfl rfl)
theorem dX3_loop_47 : decode cX3_loop 47 = .ok (.iload_n 3, 1) := dk_29 (dk_at dksX3_loop_2 3 rfl rfl)
theorem dX3_loop_48 : decode cX3_loop 48 = .ok (.aload_n 0, 1) := dk_42 (dk_at dksX3_loop_2 4 rfl rfl)
theorem dX3_loop_49 : decode cX3_loop 49 = .ok (.getfield 19, 3) := dk_180 0 19 (dk_at dksX3_loop_2 5 rfl rfl)
theorem dX3_loop_52 : decode cX3_loop 52 = .ok (.iload 4, 2) := dk_21 4 (dk_at dksX3_loop_2 8 rfl rfl)
theorem dX3_loop_54 : decode cX3_loop 54 = .ok (.iaload, 1) := dk_46 (dk_at dksX3_loop_2 10 rfl rfl)
theorem dX3_loop_55 : decode cX3_loop 55 = .ok (.imul, 1) := dk_104 (dk_at dksX3_loop_2 11 rfl rfl)
theorem dX3_loop_56 : decode cX3_loop 56 = .ok (.istore_n 3, 1) := dk_62 (dk_at dksX3_loop_2 12 rfl rfl)
theorem dX3_loop_57 : decode cX3_loop 57 = .ok (.aload_n 0, 1) := dk_42 (dk_at dksX3_loop_2 13 rfl rfl)
theorem dX3_loop_58 : decode cX3_loop 58 = .ok (.getfield 22, 3) := dk_180 0 22 (dk_at dksX3_loop_2 14 rfl rfl)
theorem dX3_loop_61 : decode cX3_loop 61 = .ok (.iload 4, 2) := dk_21 4 (dk_at dksX3_loop_2 17 rfl rfl)
theorem dX3_loop_63 : decode cX3_loop 63 = .ok (.iaload, 1) := dk_46 (dk_at dksX3_loop_2 19 rfl rfl)
theorem dX3_loop_64 : decode cX3_loop 64 = .ok (.istore 4, 2) := dk_54 4 (dk_at dksX3_loop_2 20 rfl rfl)
theorem dX3_loop_66 : decode cX3_loop 66 = .ok (.goto (-26), 3) := dk_167 255 230 (dk_at dksX3_loop_3 0 rfl rfl)
theorem dX3_loop_69 : decode cX3_loop 69 = .ok (.aload_n 0, 1) := dk_42 (dk_at dksX3_loop_3 3 rfl rfl)
theorem dX3_loop_70 : decode cX3_loop 70 = .ok (.iload_n 1, 1) := dk_27 (dk_at dksX3_loop_3 4 rfl rfl)
theorem dX3_loop_71 : decode cX3_loop 71 = .ok (.invokevirtual 228, 3) := dk_182 0 228 (dk_at dksX3_loop_3 5 rfl rfl)
theorem dX3_loop_74 : decode cX3_loop 74 = .ok (.istore 4, 2) := dk_54 4 (dk_at dksX3_loop_3 8 rfl rfl)
theorem dX3_loop_76 : decode cX3_loop 76 = .ok (.iconst 0, 1) := dk_3 (dk_at dksX3_loop_3 10 rfl rfl)
theorem dX3_loop_77 : decode cX3_loop 77 = .ok (.istore 5, 2) := dk_54 5 (dk_at dksX3_loop_3 11 rfl rfl)
theorem dX3_loop_79 : decode cX3_loop 79 = .ok (.iconst 0, 1) := dk_3 (dk_at dksX3_loop_3 13 rfl rfl)
theorem dX3_loop_80 : decode cX3_loop 80 = .ok (.istore 6, 2) := dk_54 6 (dk_at dksX3_loop_3 14 rfl rfl)
theorem dX3_loop_82 : decode cX3_loop 82 = .ok (.iload 6, 2) := dk_21 6 (dk_at dksX3_loop_3 16 rfl rfl)
theorem dX3_loop_84 : decode cX3_loop 84 = .ok (.aload_n 0, 1) := dk_42 (dk_at dksX3_loop_3 18 rfl rfl)
theorem dX3_loop_85 : decode cX3_loop 85 = .ok (.getfield 203, 3) := dk_180 0 203 (dk_at dksX3_loop_3 19 rfl rfl)
theorem dX3_loop_88 : decode cX3_loop 88 = .ok (.if_icmp .ge 36, 3) := dk_162 0 36 (dk_at dksX3_loop_4 0 rfl rfl)
theorem dX3_loop_91 : decode cX3_loop 91 = .ok (.iload 5, 2) := dk_21 5 (dk_at dksX3_loop_4 3 rfl rfl)
theorem dX3_loop_93 : decode cX3_loop 93 = .ok (.iload 4, 2) := dk_21 4 (dk_at dksX3_loop_4 5 rfl rfl)
theorem dX3_loop_95 : decode cX3_loop 95 = .ok (.iload 6, 2) := dk_21 6 (dk_at dksX3_loop_4 7 rfl rfl)
theorem dX3_loop_97 : decode cX3_loop 97 = .ok (.ishr, 1) := dk_122 (dk_at dksX3_loop_4 9 rfl rfl)
theorem dX3_loop_98 : decode cX3_loop 98 = .ok (.iconst 1, 1) := dk_4 (dk_at dksX3_loop_4 10 rfl rfl)
theorem dX3_loop_99 : decode cX3_loop 99 = .ok (.iand, 1) := dk_126 (dk_at dksX3_loop_4 11 rfl rfl)
theorem dX3_loop_100 : decode cX3_loop 100 = .ok (.iconst 1, 1) := dk_4 (dk_at dksX3_loop_4 12 rfl rfl)
theorem dX3_loop_101 : decode cX3_loop 101 = .ok (.if_icmp .ne 13, 3) := dk_160 0 13 (dk_at dksX3_loop_4 13 rfl rfl)
theorem dX3_loop_104 : decode cX3_loop 104 = .ok (.aload_n 0, 1) := dk_42 (dk_at dksX3_loop_4 16 rfl rfl)
theorem dX3_loop_105 : decode cX3_loop 105 = .ok (.getfield 28, 3) := dk_180 0 28 (dk_at dksX3_loop_4 17 rfl rfl)
theorem dX3_loop_108 : decode cX3_loop 108 = .ok (.iload 6, 2) := dk_21 6 (dk_at dksX3_loop_4 20 rfl rfl)
theorem dX3_loop_110 : decode cX3_loop 110 = .ok (.iaload, 1) := dk_46 (dk_at dksX3_loop_4 22 rfl rfl)
theorem dX3_loop_111 : decode cX3_loop 111 = .ok (.goto 4, 3) := dk_167 0 4 (dk_at dksX3_loop_5 0 rfl rfl)
theorem dX3_loop_114 : decode cX3_loop 114 = .ok (.iconst 0, 1) := dk_3 (dk_at dksX3_loop_5 3 rfl rfl)
theorem dX3_loop_115 : decode cX3_loop 115 = .ok (.iadd, 1) := dk_96 (dk_at dksX3_loop_5 4 rfl rfl)
theorem dX3_loop_116 : decode cX3_loop 116 = .ok (.istore 5, 2) := dk_54 5 (dk_at dksX3_loop_5 5 rfl rfl)
theorem dX3_loop_118 : decode cX3_loop 118 = .ok (.iinc 6 1, 3) := dk_132 6 1 (dk_at dksX3_loop_5 7 rfl rfl)
theorem dX3_loop_121 : decode cX3_loop 121 = .ok (.goto (-39), 3) := dk_167 255 217 (dk_at dksX3_loop_5 10 rfl rfl)
theorem dX3_loop_124 : decode cX3_loop 124 = .ok (.iload_n 2, 1) := dk_28 (dk_at dksX3_loop_5 13 rfl rfl)
theorem dX3_loop_125 : decode cX3_loop 125 = .ok (.ifCond .ne 12, 3) := dk_154 0 12 (dk_at dksX3_loop_5 14 rfl rfl)
theorem dX3_loop_128 : decode cX3_loop 128 = .ok (.aload_n 0, 1) := dk_42 (dk_at dksX3_loop_5 17 rfl rfl)
theorem dX3_loop_129 : decode cX3_loop 129 = .ok (.getfield 19, 3) := dk_180 0 19 (dk_at dksX3_loop_5 18 rfl rfl)
theorem dX3_loop_132 : decode cX3_loop 132 = .ok (.iload_n 1, 1) := dk_27 (dk_at dksX3_loop_5 21 rfl rfl)
theorem dX3_loop_133 : decode cX3_loop 133 = .ok (.iaload, 1) := dk_46 (dk_at dksX3_loop_5 22 rfl rfl)
theorem dX3_loop_134 : decode cX3_loop 134 = .ok (.goto 42, 3) := dk_167 0 42 (dk_at dksX3_loop_6 0 rfl rfl)
theorem dX3_loop_137 : decode cX3_loop 137 = .ok (.iload_n 2, 1) := dk_28 (dk_at dksX3_loop_6 3 rfl rfl)
theorem dX3_loop_138 : decode cX3_loop 138 = .ok (.iconst 1, 1) := dk_4 (dk_at dksX3_loop_6 4 rfl rfl)
theorem dX3_loop_139 : decode cX3_loop 139 = .ok (.if_icmp .ne 16, 3) := dk_160 0 16 (dk_at dksX3_loop_6 5 rfl rfl)
theorem dX3_loop_142 : decode cX3_loop 142 = .ok (.aload_n 0, 1) := dk_42 (dk_at dksX3_loop_6 8 rfl rfl)
theorem dX3_loop_143 : decode cX3_loop 143 = .ok (.aload_n 0, 1) := dk_42 (dk_at dksX3_loop_6 9 rfl rfl)
theorem dX3_loop_144 : decode cX3_loop 144 = .ok (.getfield 22, 3) := dk_180 0 22 (dk_at dksX3_loop_6 10 rfl rfl)
theorem dX3_loop_147 : decode cX3_loop 147 = .ok (.iload_n 1, 1) := dk_27 (dk_at dksX3_loop_6 13 rfl rfl)
theorem dX3_loop_148 : decode cX3_loop 148 = .ok (.iaload, 1) := dk_46 (dk_at dksX3_loop_6 14 rfl rfl)
theorem dX3_loop_149 : decode cX3_loop 149 = .ok (.invokevirtual 254, 3) := dk_182 0 254 (dk_at dksX3_loop_6 15 rfl rfl)
theorem dX3_loop_152 : decode cX3_loop 152 = .ok (.goto 24, 3) := dk_167 0 24 (dk_at dksX3_loop_6 18 rfl rfl)
theorem dX3_loop_155 : decode cX3_loop 155 = .ok (.iload_n 2, 1) := dk_28 (dk_at dksX3_loop_6 21 rfl rfl)
theorem dX3_loop_156 : decode cX3_loop 156 = .ok (.iconst 2, 1) := dk_5 (dk_at dksX3_loop_6 22 rfl rfl)
theorem dX3_loop_157 : decode cX3_loop 157 = .ok (.if_icmp .ne 8, 3) := dk_160 0 8 (dk_at dksX3_loop_7 0 rfl rfl)
theorem dX3_loop_160 : decode cX3_loop 160 = .ok (.iload 4, 2) := dk_21 4 (dk_at dksX3_loop_7 3 rfl rfl)
theorem dX3_loop_162 : decode cX3_loop 162 = .ok (.goto 14, 3) := dk_167 0 14 (dk_at dksX3_loop_7 5 rfl rfl)
theorem dX3_loop_165 : decode cX3_loop 165 = .ok (.iload_n 2, 1) := dk_28 (dk_at dksX3_loop_7 8 rfl rfl)
theorem dX3_loop_166 : decode cX3_loop 166 = .ok (.iconst 3, 1) := dk_6 (dk_at dksX3_loop_7 9 rfl rfl)
theorem dX3_loop_167 : decode cX3_loop 167 = .ok (.if_icmp .ne 7, 3) := dk_160 0 7 (dk_at dksX3_loop_7 10 rfl rfl)
theorem dX3_loop_170 : decode cX3_loop 170 = .ok (.iload_n 3, 1) := dk_29 (dk_at dksX3_loop_7 13 rfl rfl)
theorem dX3_loop_171 : decode cX3_loop 171 = .ok (.goto 5, 3) := dk_167 0 5 (dk_at dksX3_loop_7 14 rfl rfl)
theorem dX3_loop_174 : decode cX3_loop 174 = .ok (.iload 5, 2) := dk_21 5 (dk_at dksX3_loop_7 17 rfl rfl)
theorem dX3_loop_176 : decode cX3_loop 176 = .ok (.ireturn, 1) := dk_172 (dk_at dksX3_loop_7 19 rfl rfl)
abbrev cX3_went : ByteArray := prog_11_method_38_code
def yX3_went : MethodName := ⟨RX3, "went", "(III)I"⟩
def dkwX3_went_9 : List UInt8 := [172]
abbrev dktX3_went_9 : List UInt8 := dkwX3_went_9 ++ []
def dkwX3_went_8 : List UInt8 := [154, 0, 22, 21, 7, 21, 6, 108, 17, 39, 15, 163, 0, 11, 21, 7, 21, 6, 108, 167, 0, 5, 16, 252]
abbrev dktX3_went_8 : List UInt8 := dkwX3_went_8 ++ dktX3_went_9
def dkwX3_went_7 : List UInt8 := [21, 7, 154, 0, 7, 3, 167, 0, 5, 16, 252, 172, 21, 7, 155, 0, 30, 21, 7, 21, 6, 112]
abbrev dktX3_went_7 : List UInt8 := dkwX3_went_7 ++ dktX3_went_8
def dkwX3_went_6 : List UInt8 := [167, 0, 4, 3, 96, 54, 6, 132, 7, 1, 167, 255, 161, 29, 21, 5, 100, 54, 7, 21, 6, 154, 0, 15]
abbrev dktX3_went_6 : List UInt8 := dkwX3_went_6 ++ dktX3_went_7
def dkwX3_went_5 : List UInt8 := [42, 180, 0, 28, 21, 7, 46, 42, 180, 0, 19, 27, 46, 108, 42, 21, 7, 28, 182, 0, 251, 104]
abbrev dktX3_went_5 : List UInt8 := dkwX3_went_5 ++ dktX3_went_6
def dkwX3_went_4 : List UInt8 := [180, 0, 28, 21, 7, 46, 42, 21, 7, 28, 182, 0, 251, 104, 96, 54, 5, 21, 6, 21, 8, 153, 0, 28]
abbrev dktX3_went_4 : List UInt8 := dkwX3_went_4 ++ dktX3_went_5
def dkwX3_went_3 : List UInt8 := [160, 0, 7, 4, 167, 0, 4, 3, 54, 8, 21, 5, 21, 8, 153, 0, 7, 3, 167, 0, 18, 42]
abbrev dktX3_went_3 : List UInt8 := dkwX3_went_3 ++ dktX3_went_4
def dkwX3_went_2 : List UInt8 := [54, 6, 3, 54, 7, 21, 7, 42, 180, 0, 203, 162, 0, 92, 21, 4, 21, 7, 122, 4, 126, 4]
abbrev dktX3_went_2 : List UInt8 := dkwX3_went_2 ++ dktX3_went_3
def dkwX3_went_1 : List UInt8 := [133, 9, 20, 1, 13, 184, 0, 124, 154, 0, 5, 2, 172, 42, 27, 182, 0, 228, 54, 4, 3, 54, 5, 3]
abbrev dktX3_went_1 : List UInt8 := dkwX3_went_1 ++ dktX3_went_2
def dkwX3_went_0 : List UInt8 := [27, 133, 9, 42, 180, 0, 206, 4, 100, 133, 184, 0, 124, 153, 0, 22, 28, 184, 1, 4, 153, 0, 15, 29]
abbrev dktX3_went_0 : List UInt8 := dkwX3_went_0 ++ dktX3_went_1
theorem dksX3_went_0 : cX3_went.data.toList.drop 0 = dktX3_went_0 := by decide +kernel
theorem dksX3_went_1 : cX3_went.data.toList.drop 24 = dktX3_went_1 := dk_seg dksX3_went_0 24 rfl rfl
theorem dksX3_went_2 : cX3_went.data.toList.drop 48 = dktX3_went_2 := dk_seg dksX3_went_1 24 rfl rfl
theorem dksX3_went_3 : cX3_went.data.toList.drop 70 = dktX3_went_3 := dk_seg dksX3_went_2 22 rfl rfl
theorem dksX3_went_4 : cX3_went.data.toList.drop 92 = dktX3_went_4 := dk_seg dksX3_went_3 22 rfl rfl
theorem dksX3_went_5 : cX3_went.data.toList.drop 116 = dktX3_went_5 := dk_seg dksX3_went_4 24 rfl rfl
theorem dksX3_went_6 : cX3_went.data.toList.drop 138 = dktX3_went_6 := dk_seg dksX3_went_5 22 rfl rfl
theorem dksX3_went_7 : cX3_went.data.toList.drop 162 = dktX3_went_7 := dk_seg dksX3_went_6 24 rfl rfl
theorem dksX3_went_8 : cX3_went.data.toList.drop 184 = dktX3_went_8 := dk_seg dksX3_went_7 22 rfl rfl
theorem dksX3_went_9 : cX3_went.data.toList.drop 208 = dktX3_went_9 := dk_seg dksX3_went_8 24 rfl rfl
theorem dX3_went_0 : decode cX3_went 0 = .ok (.iload_n 1, 1) := dk_27 (dk_at dksX3_went_0 0 rfl rfl)
theorem dX3_went_1 : decode cX3_went 1 = .ok (.i2l, 1) := dk_133 (dk_at dksX3_went_0 1 rfl rfl)
theorem dX3_went_2 : decode cX3_went 2 = .ok (.lconst 0, 1) := dk_9 (dk_at dksX3_went_0 2 rfl rfl)
theorem dX3_went_3 : decode cX3_went 3 = .ok (.aload_n 0, 1) := dk_42 (dk_at dksX3_went_0 3 rfl rfl)
theorem dX3_went_4 : decode cX3_went 4 = .ok (.getfield 206, 3) := dk_180 0 206 (dk_at dksX3_went_0 4 rfl rfl)
theorem dX3_went_7 : decode cX3_went 7 = .ok (.iconst 1, 1) := dk_4 (dk_at dksX3_went_0 7 rfl rfl)
theorem dX3_went_8 : decode cX3_went 8 = .ok (.isub, 1) := dk_100 (dk_at dksX3_went_0 8 rfl rfl)
theorem dX3_went_9 : decode cX3_went 9 = .ok (.i2l, 1) := dk_133 (dk_at dksX3_went_0 9 rfl rfl)
theorem dX3_went_10 : decode cX3_went 10 = .ok (.invokestatic 124, 3) := dk_184 0 124 (dk_at dksX3_went_0 10 rfl rfl)
theorem dX3_went_13 : decode cX3_went 13 = .ok (.ifCond .eq 22, 3) := dk_153 0 22 (dk_at dksX3_went_0 13 rfl rfl)
theorem dX3_went_16 : decode cX3_went 16 = .ok (.iload_n 2, 1) := dk_28 (dk_at dksX3_went_0 16 rfl rfl)
theorem dX3_went_17 : decode cX3_went 17 = .ok (.invokestatic 260, 3) := dk_184 1 4 (dk_at dksX3_went_0 17 rfl rfl)
theorem dX3_went_20 : decode cX3_went 20 = .ok (.ifCond .eq 15, 3) := dk_153 0 15 (dk_at dksX3_went_0 20 rfl rfl)
theorem dX3_went_23 : decode cX3_went 23 = .ok (.iload_n 3, 1) := dk_29 (dk_at dksX3_went_0 23 rfl rfl)
theorem dX3_went_24 : decode cX3_went 24 = .ok (.i2l, 1) := dk_133 (dk_at dksX3_went_1 0 rfl rfl)
theorem dX3_went_25 : decode cX3_went 25 = .ok (.lconst 0, 1) := dk_9 (dk_at dksX3_went_1 1 rfl rfl)
theorem dX3_went_26 : decode cX3_went 26 = .ok (.ldc2_w 269, 3) := dk_20 1 13 (dk_at dksX3_went_1 2 rfl rfl)
theorem dX3_went_29 : decode cX3_went 29 = .ok (.invokestatic 124, 3) := dk_184 0 124 (dk_at dksX3_went_1 5 rfl rfl)
theorem dX3_went_32 : decode cX3_went 32 = .ok (.ifCond .ne 5, 3) := dk_154 0 5 (dk_at dksX3_went_1 8 rfl rfl)
theorem dX3_went_35 : decode cX3_went 35 = .ok (.iconst (-1), 1) := dk_2 (dk_at dksX3_went_1 11 rfl rfl)
theorem dX3_went_36 : decode cX3_went 36 = .ok (.ireturn, 1) := dk_172 (dk_at dksX3_went_1 12 rfl rfl)
theorem dX3_went_37 : decode cX3_went 37 = .ok (.aload_n 0, 1) := dk_42 (dk_at dksX3_went_1 13 rfl rfl)
theorem dX3_went_38 : decode cX3_went 38 = .ok (.iload_n 1, 1) := dk_27 (dk_at dksX3_went_1 14 rfl rfl)
theorem dX3_went_39 : decode cX3_went 39 = .ok (.invokevirtual 228, 3) := dk_182 0 228 (dk_at dksX3_went_1 15 rfl rfl)
theorem dX3_went_42 : decode cX3_went 42 = .ok (.istore 4, 2) := dk_54 4 (dk_at dksX3_went_1 18 rfl rfl)
theorem dX3_went_44 : decode cX3_went 44 = .ok (.iconst 0, 1) := dk_3 (dk_at dksX3_went_1 20 rfl rfl)
theorem dX3_went_45 : decode cX3_went 45 = .ok (.istore 5, 2) := dk_54 5 (dk_at dksX3_went_1 21 rfl rfl)
theorem dX3_went_47 : decode cX3_went 47 = .ok (.iconst 0, 1) := dk_3 (dk_at dksX3_went_1 23 rfl rfl)
theorem dX3_went_48 : decode cX3_went 48 = .ok (.istore 6, 2) := dk_54 6 (dk_at dksX3_went_2 0 rfl rfl)
theorem dX3_went_50 : decode cX3_went 50 = .ok (.iconst 0, 1) := dk_3 (dk_at dksX3_went_2 2 rfl rfl)
theorem dX3_went_51 : decode cX3_went 51 = .ok (.istore 7, 2) := dk_54 7 (dk_at dksX3_went_2 3 rfl rfl)
theorem dX3_went_53 : decode cX3_went 53 = .ok (.iload 7, 2) := dk_21 7 (dk_at dksX3_went_2 5 rfl rfl)
theorem dX3_went_55 : decode cX3_went 55 = .ok (.aload_n 0, 1) := dk_42 (dk_at dksX3_went_2 7 rfl rfl)
theorem dX3_went_56 : decode cX3_went 56 = .ok (.getfield 203, 3) := dk_180 0 203 (dk_at dksX3_went_2 8 rfl rfl)
theorem dX3_went_59 : decode cX3_went 59 = .ok (.if_icmp .ge 92, 3) := dk_162 0 92 (dk_at dksX3_went_2 11 rfl rfl)
theorem dX3_went_62 : decode cX3_went 62 = .ok (.iload 4, 2) := dk_21 4 (dk_at dksX3_went_2 14 rfl rfl)
theorem dX3_went_64 : decode cX3_went 64 = .ok (.iload 7, 2) := dk_21 7 (dk_at dksX3_went_2 16 rfl rfl)
theorem dX3_went_66 : decode cX3_went 66 = .ok (.ishr, 1) := dk_122 (dk_at dksX3_went_2 18 rfl rfl)
theorem dX3_went_67 : decode cX3_went 67 = .ok (.iconst 1, 1) := dk_4 (dk_at dksX3_went_2 19 rfl rfl)
theorem dX3_went_68 : decode cX3_went 68 = .ok (.iand, 1) := dk_126 (dk_at dksX3_went_2 20 rfl rfl)
theorem dX3_went_69 : decode cX3_went 69 = .ok (.iconst 1, 1) := dk_4 (dk_at dksX3_went_2 21 rfl rfl)
theorem dX3_went_70 : decode cX3_went 70 = .ok (.if_icmp .ne 7, 3) := dk_160 0 7 (dk_at dksX3_went_3 0 rfl rfl)
theorem dX3_went_73 : decode cX3_went 73 = .ok (.iconst 1, 1) := dk_4 (dk_at dksX3_went_3 3 rfl rfl)
theorem dX3_went_74 : decode cX3_went 74 = .ok (.goto 4, 3) := dk_167 0 4 (dk_at dksX3_went_3 4 rfl rfl)
theorem dX3_went_77 : decode cX3_went 77 = .ok (.iconst 0, 1) := dk_3 (dk_at dksX3_went_3 7 rfl rfl)
theorem dX3_went_78 : decode cX3_went 78 = .ok (.istore 8, 2) := dk_54 8 (dk_at dksX3_went_3 8 rfl rfl)
theorem dX3_went_80 : decode cX3_went 80 = .ok (.iload 5, 2) := dk_21 5 (dk_at dksX3_went_3 10 rfl rfl)
theorem dX3_went_82 : decode cX3_went 82 = .ok (.iload 8, 2) := dk_21 8 (dk_at dksX3_went_3 12 rfl rfl)
theorem dX3_went_84 : decode cX3_went 84 = .ok (.ifCond .eq 7, 3) := dk_153 0 7 (dk_at dksX3_went_3 14 rfl rfl)
theorem dX3_went_87 : decode cX3_went 87 = .ok (.iconst 0, 1) := dk_3 (dk_at dksX3_went_3 17 rfl rfl)
theorem dX3_went_88 : decode cX3_went 88 = .ok (.goto 18, 3) := dk_167 0 18 (dk_at dksX3_went_3 18 rfl rfl)
theorem dX3_went_91 : decode cX3_went 91 = .ok (.aload_n 0, 1) := dk_42 (dk_at dksX3_went_3 21 rfl rfl)
theorem dX3_went_92 : decode cX3_went 92 = .ok (.getfield 28, 3) := dk_180 0 28 (dk_at dksX3_went_4 0 rfl rfl)
theorem dX3_went_95 : decode cX3_went 95 = .ok (.iload 7, 2) := dk_21 7 (dk_at dksX3_went_4 3 rfl rfl)
theorem dX3_went_97 : decode cX3_went 97 = .ok (.iaload, 1) := dk_46 (dk_at dksX3_went_4 5 rfl rfl)
theorem dX3_went_98 : decode cX3_went 98 = .ok (.aload_n 0, 1) := dk_42 (dk_at dksX3_went_4 6 rfl rfl)
theorem dX3_went_99 : decode cX3_went 99 = .ok (.iload 7, 2) := dk_21 7 (dk_at dksX3_went_4 7 rfl rfl)
theorem dX3_went_101 : decode cX3_went 101 = .ok (.iload_n 2, 1) := dk_28 (dk_at dksX3_went_4 9 rfl rfl)
theorem dX3_went_102 : decode cX3_went 102 = .ok (.invokevirtual 251, 3) := dk_182 0 251 (dk_at dksX3_went_4 10 rfl rfl)
theorem dX3_went_105 : decode cX3_went 105 = .ok (.imul, 1) := dk_104 (dk_at dksX3_went_4 13 rfl rfl)
theorem dX3_went_106 : decode cX3_went 106 = .ok (.iadd, 1) := dk_96 (dk_at dksX3_went_4 14 rfl rfl)
theorem dX3_went_107 : decode cX3_went 107 = .ok (.istore 5, 2) := dk_54 5 (dk_at dksX3_went_4 15 rfl rfl)
theorem dX3_went_109 : decode cX3_went 109 = .ok (.iload 6, 2) := dk_21 6 (dk_at dksX3_went_4 17 rfl rfl)
theorem dX3_went_111 : decode cX3_went 111 = .ok (.iload 8, 2) := dk_21 8 (dk_at dksX3_went_4 19 rfl rfl)
theorem dX3_went_113 : decode cX3_went 113 = .ok (.ifCond .eq 28, 3) := dk_153 0 28 (dk_at dksX3_went_4 21 rfl rfl)
theorem dX3_went_116 : decode cX3_went 116 = .ok (.aload_n 0, 1) := dk_42 (dk_at dksX3_went_5 0 rfl rfl)
theorem dX3_went_117 : decode cX3_went 117 = .ok (.getfield 28, 3) := dk_180 0 28 (dk_at dksX3_went_5 1 rfl rfl)
theorem dX3_went_120 : decode cX3_went 120 = .ok (.iload 7, 2) := dk_21 7 (dk_at dksX3_went_5 4 rfl rfl)
theorem dX3_went_122 : decode cX3_went 122 = .ok (.iaload, 1) := dk_46 (dk_at dksX3_went_5 6 rfl rfl)
theorem dX3_went_123 : decode cX3_went 123 = .ok (.aload_n 0, 1) := dk_42 (dk_at dksX3_went_5 7 rfl rfl)
theorem dX3_went_124 : decode cX3_went 124 = .ok (.getfield 19, 3) := dk_180 0 19 (dk_at dksX3_went_5 8 rfl rfl)
theorem dX3_went_127 : decode cX3_went 127 = .ok (.iload_n 1, 1) := dk_27 (dk_at dksX3_went_5 11 rfl rfl)
theorem dX3_went_128 : decode cX3_went 128 = .ok (.iaload, 1) := dk_46 (dk_at dksX3_went_5 12 rfl rfl)
theorem dX3_went_129 : decode cX3_went 129 = .ok (.idiv, 1) := dk_108 (dk_at dksX3_went_5 13 rfl rfl)
theorem dX3_went_130 : decode cX3_went 130 = .ok (.aload_n 0, 1) := dk_42 (dk_at dksX3_went_5 14 rfl rfl)
theorem dX3_went_131 : decode cX3_went 131 = .ok (.iload 7, 2) := dk_21 7 (dk_at dksX3_went_5 15 rfl rfl)
theorem dX3_went_133 : decode cX3_went 133 = .ok (.iload_n 2, 1) := dk_28 (dk_at dksX3_went_5 17 rfl rfl)
theorem dX3_went_134 : decode cX3_went 134 = .ok (.invokevirtual 251, 3) := dk_182 0 251 (dk_at dksX3_went_5 18 rfl rfl)
theorem dX3_went_137 : decode cX3_went 137 = .ok (.imul, 1) := dk_104 (dk_at dksX3_went_5 21 rfl rfl)
theorem dX3_went_138 : decode cX3_went 138 = .ok (.goto 4, 3) := dk_167 0 4 (dk_at dksX3_went_6 0 rfl rfl)
theorem dX3_went_141 : decode cX3_went 141 = .ok (.iconst 0, 1) := dk_3 (dk_at dksX3_went_6 3 rfl rfl)
theorem dX3_went_142 : decode cX3_went 142 = .ok (.iadd, 1) := dk_96 (dk_at dksX3_went_6 4 rfl rfl)
theorem dX3_went_143 : decode cX3_went 143 = .ok (.istore 6, 2) := dk_54 6 (dk_at dksX3_went_6 5 rfl rfl)
theorem dX3_went_145 : decode cX3_went 145 = .ok (.iinc 7 1, 3) := dk_132 7 1 (dk_at dksX3_went_6 7 rfl rfl)
theorem dX3_went_148 : decode cX3_went 148 = .ok (.goto (-95), 3) := dk_167 255 161 (dk_at dksX3_went_6 10 rfl rfl)
theorem dX3_went_151 : decode cX3_went 151 = .ok (.iload_n 3, 1) := dk_29 (dk_at dksX3_went_6 13 rfl rfl)
theorem dX3_went_152 : decode cX3_went 152 = .ok (.iload 5, 2) := dk_21 5 (dk_at dksX3_went_6 14 rfl rfl)
theorem dX3_went_154 : decode cX3_went 154 = .ok (.isub, 1) := dk_100 (dk_at dksX3_went_6 16 rfl rfl)
theorem dX3_went_155 : decode cX3_went 155 = .ok (.istore 7, 2) := dk_54 7 (dk_at dksX3_went_6 17 rfl rfl)
theorem dX3_went_157 : decode cX3_went 157 = .ok (.iload 6, 2) := dk_21 6 (dk_at dksX3_went_6 19 rfl rfl)
theorem dX3_went_159 : decode cX3_went 159 = .ok (.ifCond .ne 15, 3) := dk_154 0 15 (dk_at dksX3_went_6 21 rfl rfl)
theorem dX3_went_162 : decode cX3_went 162 = .ok (.iload 7, 2) := dk_21 7 (dk_at dksX3_went_7 0 rfl rfl)
theorem dX3_went_164 : decode cX3_went 164 = .ok (.ifCond .ne 7, 3) := dk_154 0 7 (dk_at dksX3_went_7 2 rfl rfl)
theorem dX3_went_167 : decode cX3_went 167 = .ok (.iconst 0, 1) := dk_3 (dk_at dksX3_went_7 5 rfl rfl)
theorem dX3_went_168 : decode cX3_went 168 = .ok (.goto 5, 3) := dk_167 0 5 (dk_at dksX3_went_7 6 rfl rfl)
theorem dX3_went_171 : decode cX3_went 171 = .ok (.bipush (-4), 2) := dk_16 252 (dk_at dksX3_went_7 9 rfl rfl)
theorem dX3_went_173 : decode cX3_went 173 = .ok (.ireturn, 1) := dk_172 (dk_at dksX3_went_7 11 rfl rfl)
theorem dX3_went_174 : decode cX3_went 174 = .ok (.iload 7, 2) := dk_21 7 (dk_at dksX3_went_7 12 rfl rfl)
theorem dX3_went_176 : decode cX3_went 176 = .ok (.ifCond .lt 30, 3) := dk_155 0 30 (dk_at dksX3_went_7 14 rfl rfl)
theorem dX3_went_179 : decode cX3_went 179 = .ok (.iload 7, 2) := dk_21 7 (dk_at dksX3_went_7 17 rfl rfl)
theorem dX3_went_181 : decode cX3_went 181 = .ok (.iload 6, 2) := dk_21 6 (dk_at dksX3_went_7 19 rfl rfl)
theorem dX3_went_183 : decode cX3_went 183 = .ok (.irem, 1) := dk_112 (dk_at dksX3_went_7 21 rfl rfl)
theorem dX3_went_184 : decode cX3_went 184 = .ok (.ifCond .ne 22, 3) := dk_154 0 22 (dk_at dksX3_went_8 0 rfl rfl)
theorem dX3_went_187 : decode cX3_went 187 = .ok (.iload 7, 2) := dk_21 7 (dk_at dksX3_went_8 3 rfl rfl)
theorem dX3_went_189 : decode cX3_went 189 = .ok (.iload 6, 2) := dk_21 6 (dk_at dksX3_went_8 5 rfl rfl)
theorem dX3_went_191 : decode cX3_went 191 = .ok (.idiv, 1) := dk_108 (dk_at dksX3_went_8 7 rfl rfl)
theorem dX3_went_192 : decode cX3_went 192 = .ok (.sipush 9999, 3) := dk_17 39 15 (dk_at dksX3_went_8 8 rfl rfl)
theorem dX3_went_195 : decode cX3_went 195 = .ok (.if_icmp .gt 11, 3) := dk_163 0 11 (dk_at dksX3_went_8 11 rfl rfl)
theorem dX3_went_198 : decode cX3_went 198 = .ok (.iload 7, 2) := dk_21 7 (dk_at dksX3_went_8 14 rfl rfl)
theorem dX3_went_200 : decode cX3_went 200 = .ok (.iload 6, 2) := dk_21 6 (dk_at dksX3_went_8 16 rfl rfl)
theorem dX3_went_202 : decode cX3_went 202 = .ok (.idiv, 1) := dk_108 (dk_at dksX3_went_8 18 rfl rfl)
theorem dX3_went_203 : decode cX3_went 203 = .ok (.goto 5, 3) := dk_167 0 5 (dk_at dksX3_went_8 19 rfl rfl)
theorem dX3_went_206 : decode cX3_went 206 = .ok (.bipush (-4), 2) := dk_16 252 (dk_at dksX3_went_8 22 rfl rfl)
theorem dX3_went_208 : decode cX3_went 208 = .ok (.ireturn, 1) := dk_172 (dk_at dksX3_went_9 0 rfl rfl)
abbrev cX3_hot : ByteArray := prog_11_method_39_code
def yX3_hot : MethodName := ⟨RX3, "hot", "(III)I"⟩
def dkwX3_hot_8 : List UInt8 := [184, 1, 17, 167, 0, 5, 21, 5, 172]
abbrev dktX3_hot_8 : List UInt8 := dkwX3_hot_8 ++ []
def dkwX3_hot_7 : List UInt8 := [132, 6, 1, 167, 255, 135, 21, 5, 16, 252, 160, 0, 8, 16, 252, 167, 0, 17, 29, 154, 0, 11, 21, 5]
abbrev dktX3_hot_7 : List UInt8 := dkwX3_hot_7 ++ dktX3_hot_8
def dkwX3_hot_6 : List UInt8 := [21, 7, 133, 105, 28, 133, 21, 4, 133, 105, 148, 155, 0, 8, 21, 6, 167, 0, 5, 21, 5, 54, 5]
abbrev dktX3_hot_6 : List UInt8 := dkwX3_hot_6 ++ dktX3_hot_7
def dkwX3_hot_5 : List UInt8 := [21, 8, 27, 182, 0, 251, 104, 167, 0, 4, 3, 96, 54, 7, 132, 8, 1, 167, 255, 209, 20, 1, 15]
abbrev dktX3_hot_5 : List UInt8 := dkwX3_hot_5 ++ dktX3_hot_6
def dkwX3_hot_4 : List UInt8 := [162, 0, 44, 21, 7, 21, 6, 21, 8, 122, 4, 126, 4, 160, 0, 21, 42, 180, 0, 28, 21, 8, 46, 42]
abbrev dktX3_hot_4 : List UInt8 := dkwX3_hot_4 ++ dktX3_hot_5
def dkwX3_hot_3 : List UInt8 := [184, 1, 17, 21, 5, 184, 1, 17, 162, 0, 85, 3, 54, 7, 3, 54, 8, 21, 8, 42, 180, 0, 203]
abbrev dktX3_hot_3 : List UInt8 := dkwX3_hot_3 ++ dktX3_hot_4
def dkwX3_hot_2 : List UInt8 := [4, 42, 180, 0, 203, 120, 162, 0, 116, 21, 4, 158, 0, 111, 21, 5, 16, 252, 159, 0, 16, 21, 6]
abbrev dktX3_hot_2 : List UInt8 := dkwX3_hot_2 ++ dktX3_hot_3
def dkwX3_hot_1 : List UInt8 := [184, 0, 124, 154, 0, 5, 2, 172, 42, 27, 182, 1, 1, 54, 4, 16, 252, 54, 5, 4, 54, 6, 21, 6]
abbrev dktX3_hot_1 : List UInt8 := dkwX3_hot_1 ++ dktX3_hot_2
def dkwX3_hot_0 : List UInt8 := [27, 184, 1, 4, 153, 0, 25, 28, 133, 10, 20, 1, 15, 184, 0, 124, 153, 0, 13, 29, 133, 9, 10]
abbrev dktX3_hot_0 : List UInt8 := dkwX3_hot_0 ++ dktX3_hot_1
theorem dksX3_hot_0 : cX3_hot.data.toList.drop 0 = dktX3_hot_0 := by decide +kernel
theorem dksX3_hot_1 : cX3_hot.data.toList.drop 23 = dktX3_hot_1 := dk_seg dksX3_hot_0 23 rfl rfl
theorem dksX3_hot_2 : cX3_hot.data.toList.drop 47 = dktX3_hot_2 := dk_seg dksX3_hot_1 24 rfl rfl
theorem dksX3_hot_3 : cX3_hot.data.toList.drop 70 = dktX3_hot_3 := dk_seg dksX3_hot_2 23 rfl rfl
theorem dksX3_hot_4 : cX3_hot.data.toList.drop 93 = dktX3_hot_4 := dk_seg dksX3_hot_3 23 rfl rfl
theorem dksX3_hot_5 : cX3_hot.data.toList.drop 117 = dktX3_hot_5 := dk_seg dksX3_hot_4 24 rfl rfl
theorem dksX3_hot_6 : cX3_hot.data.toList.drop 140 = dktX3_hot_6 := dk_seg dksX3_hot_5 23 rfl rfl
theorem dksX3_hot_7 : cX3_hot.data.toList.drop 163 = dktX3_hot_7 := dk_seg dksX3_hot_6 23 rfl rfl
theorem dksX3_hot_8 : cX3_hot.data.toList.drop 187 = dktX3_hot_8 := dk_seg dksX3_hot_7 24 rfl rfl
theorem dX3_hot_0 : decode cX3_hot 0 = .ok (.iload_n 1, 1) := dk_27 (dk_at dksX3_hot_0 0 rfl rfl)
theorem dX3_hot_1 : decode cX3_hot 1 = .ok (.invokestatic 260, 3) := dk_184 1 4 (dk_at dksX3_hot_0 1 rfl rfl)
theorem dX3_hot_4 : decode cX3_hot 4 = .ok (.ifCond .eq 25, 3) := dk_153 0 25 (dk_at dksX3_hot_0 4 rfl rfl)
theorem dX3_hot_7 : decode cX3_hot 7 = .ok (.iload_n 2, 1) := dk_28 (dk_at dksX3_hot_0 7 rfl rfl)
theorem dX3_hot_8 : decode cX3_hot 8 = .ok (.i2l, 1) := dk_133 (dk_at dksX3_hot_0 8 rfl rfl)
theorem dX3_hot_9 : decode cX3_hot 9 = .ok (.lconst 1, 1) := dk_10 (dk_at dksX3_hot_0 9 rfl rfl)
theorem dX3_hot_10 : decode cX3_hot 10 = .ok (.ldc2_w 271, 3) := dk_20 1 15 (dk_at dksX3_hot_0 10 rfl rfl)
theorem dX3_hot_13 : decode cX3_hot 13 = .ok (.invokestatic 124, 3) := dk_184 0 124 (dk_at dksX3_hot_0 13 rfl rfl)
theorem dX3_hot_16 : decode cX3_hot 16 = .ok (.ifCond .eq 13, 3) := dk_153 0 13 (dk_at dksX3_hot_0 16 rfl rfl)
theorem dX3_hot_19 : decode cX3_hot 19 = .ok (.iload_n 3, 1) := dk_29 (dk_at dksX3_hot_0 19 rfl rfl)
theorem dX3_hot_20 : decode cX3_hot 20 = .ok (.i2l, 1) := dk_133 (dk_at dksX3_hot_0 20 rfl rfl)
theorem dX3_hot_21 : decode cX3_hot 21 = .ok (.lconst 0, 1) := dk_9 (dk_at dksX3_hot_0 21 rfl rfl)
theorem dX3_hot_22 : decode cX3_hot 22 = .ok (.lconst 1, 1) := dk_10 (dk_at dksX3_hot_0 22 rfl rfl)
theorem dX3_hot_23 : decode cX3_hot 23 = .ok (.invokestatic 124, 3) := dk_184 0 124 (dk_at dksX3_hot_1 0 rfl rfl)
theorem dX3_hot_26 : decode cX3_hot 26 = .ok (.ifCond .ne 5, 3) := dk_154 0 5 (dk_at dksX3_hot_1 3 rfl rfl)
theorem dX3_hot_29 : decode cX3_hot 29 = .ok (.iconst (-1), 1) := dk_2 (dk_at dksX3_hot_1 6 rfl rfl)
theorem dX3_hot_30 : decode cX3_hot 30 = .ok (.ireturn, 1) := dk_172 (dk_at dksX3_hot_1 7 rfl rfl)
theorem dX3_hot_31 : decode cX3_hot 31 = .ok (.aload_n 0, 1) := dk_42 (dk_at dksX3_hot_1 8 rfl rfl)
theorem dX3_hot_32 : decode cX3_hot 32 = .ok (.iload_n 1, 1) := dk_27 (dk_at dksX3_hot_1 9 rfl rfl)
theorem dX3_hot_33 : decode cX3_hot 33 = .ok (.invokevirtual 257, 3) := dk_182 1 1 (dk_at dksX3_hot_1 10 rfl rfl)
theorem dX3_hot_36 : decode cX3_hot 36 = .ok (.istore 4, 2) := dk_54 4 (dk_at dksX3_hot_1 13 rfl rfl)
theorem dX3_hot_38 : decode cX3_hot 38 = .ok (.bipush (-4), 2) := dk_16 252 (dk_at dksX3_hot_1 15 rfl rfl)
theorem dX3_hot_40 : decode cX3_hot 40 = .ok (.istore 5, 2) := dk_54 5 (dk_at dksX3_hot_1 17 rfl rfl)
theorem dX3_hot_42 : decode cX3_hot 42 = .ok (.iconst 1, 1) := dk_4 (dk_at dksX3_hot_1 19 rfl rfl)
theorem dX3_hot_43 : decode cX3_hot 43 = .ok (.istore 6, 2) := dk_54 6 (dk_at dksX3_hot_1 20 rfl rfl)
theorem dX3_hot_45 : decode cX3_hot 45 = .ok (.iload 6, 2) := dk_21 6 (dk_at dksX3_hot_1 22 rfl rfl)
theorem dX3_hot_47 : decode cX3_hot 47 = .ok (.iconst 1, 1) := dk_4 (dk_at dksX3_hot_2 0 rfl rfl)
theorem dX3_hot_48 : decode cX3_hot 48 = .ok (.aload_n 0, 1) := dk_42 (dk_at dksX3_hot_2 1 rfl rfl)
theorem dX3_hot_49 : decode cX3_hot 49 = .ok (.getfield 203, 3) := dk_180 0 203 (dk_at dksX3_hot_2 2 rfl rfl)
theorem dX3_hot_52 : decode cX3_hot 52 = .ok (.ishl, 1) := dk_120 (dk_at dksX3_hot_2 5 rfl rfl)
theorem dX3_hot_53 : decode cX3_hot 53 = .ok (.if_icmp .ge 116, 3) := dk_162 0 116 (dk_at dksX3_hot_2 6 rfl rfl)
theorem dX3_hot_56 : decode cX3_hot 56 = .ok (.iload 4, 2) := dk_21 4 (dk_at dksX3_hot_2 9 rfl rfl)
theorem dX3_hot_58 : decode cX3_hot 58 = .ok (.ifCond .le 111, 3) := dk_158 0 111 (dk_at dksX3_hot_2 11 rfl rfl)
theorem dX3_hot_61 : decode cX3_hot 61 = .ok (.iload 5, 2) := dk_21 5 (dk_at dksX3_hot_2 14 rfl rfl)
theorem dX3_hot_63 : decode cX3_hot 63 = .ok (.bipush (-4), 2) := dk_16 252 (dk_at dksX3_hot_2 16 rfl rfl)
theorem dX3_hot_65 : decode cX3_hot 65 = .ok (.if_icmp .eq 16, 3) := dk_159 0 16 (dk_at dksX3_hot_2 18 rfl rfl)
theorem dX3_hot_68 : decode cX3_hot 68 = .ok (.iload 6, 2) := dk_21 6 (dk_at dksX3_hot_2 21 rfl rfl)
theorem dX3_hot_70 : decode cX3_hot 70 = .ok (.invokestatic 273, 3) := dk_184 1 17 (dk_at dksX3_hot_3 0 rfl rfl)
theorem dX3_hot_73 : decode cX3_hot 73 = .ok (.iload 5, 2) := dk_21 5 (dk_at dksX3_hot_3 3 rfl rfl)
theorem dX3_hot_75 : decode cX3_hot 75 = .ok (.invokestatic 273, 3) := dk_184 1 17 (dk_at dksX3_hot_3 5 rfl rfl)
theorem dX3_hot_78 : decode cX3_hot 78 = .ok (.if_icmp .ge 85, 3) := dk_162 0 85 (dk_at dksX3_hot_3 8 rfl rfl)
theorem dX3_hot_81 : decode cX3_hot 81 = .ok (.iconst 0, 1) := dk_3 (dk_at dksX3_hot_3 11 rfl rfl)
theorem dX3_hot_82 : decode cX3_hot 82 = .ok (.istore 7, 2) := dk_54 7 (dk_at dksX3_hot_3 12 rfl rfl)
theorem dX3_hot_84 : decode cX3_hot 84 = .ok (.iconst 0, 1) := dk_3 (dk_at dksX3_hot_3 14 rfl rfl)
theorem dX3_hot_85 : decode cX3_hot 85 = .ok (.istore 8, 2) := dk_54 8 (dk_at dksX3_hot_3 15 rfl rfl)
theorem dX3_hot_87 : decode cX3_hot 87 = .ok (.iload 8, 2) := dk_21 8 (dk_at dksX3_hot_3 17 rfl rfl)
theorem dX3_hot_89 : decode cX3_hot 89 = .ok (.aload_n 0, 1) := dk_42 (dk_at dksX3_hot_3 19 rfl rfl)
theorem dX3_hot_90 : decode cX3_hot 90 = .ok (.getfield 203, 3) := dk_180 0 203 (dk_at dksX3_hot_3 20 rfl rfl)
theorem dX3_hot_93 : decode cX3_hot 93 = .ok (.if_icmp .ge 44, 3) := dk_162 0 44 (dk_at dksX3_hot_4 0 rfl rfl)
theorem dX3_hot_96 : decode cX3_hot 96 = .ok (.iload 7, 2) := dk_21 7 (dk_at dksX3_hot_4 3 rfl rfl)
theorem dX3_hot_98 : decode cX3_hot 98 = .ok (.iload 6, 2) := dk_21 6 (dk_at dksX3_hot_4 5 rfl rfl)
theorem dX3_hot_100 : decode cX3_hot 100 = .ok (.iload 8, 2) := dk_21 8 (dk_at dksX3_hot_4 7 rfl rfl)
theorem dX3_hot_102 : decode cX3_hot 102 = .ok (.ishr, 1) := dk_122 (dk_at dksX3_hot_4 9 rfl rfl)
theorem dX3_hot_103 : decode cX3_hot 103 = .ok (.iconst 1, 1) := dk_4 (dk_at dksX3_hot_4 10 rfl rfl)
theorem dX3_hot_104 : decode cX3_hot 104 = .ok (.iand, 1) := dk_126 (dk_at dksX3_hot_4 11 rfl rfl)
theorem dX3_hot_105 : decode cX3_hot 105 = .ok (.iconst 1, 1) := dk_4 (dk_at dksX3_hot_4 12 rfl rfl)
theorem dX3_hot_106 : decode cX3_hot 106 = .ok (.if_icmp .ne 21, 3) := dk_160 0 21 (dk_at dksX3_hot_4 13 rfl rfl)
theorem dX3_hot_109 : decode cX3_hot 109 = .ok (.aload_n 0, 1) := dk_42 (dk_at dksX3_hot_4 16 rfl rfl)
theorem dX3_hot_110 : decode cX3_hot 110 = .ok (.getfield 28, 3) := dk_180 0 28 (dk_at dksX3_hot_4 17 rfl rfl)
theorem dX3_hot_113 : decode cX3_hot 113 = .ok (.iload 8, 2) := dk_21 8 (dk_at dksX3_hot_4 20 rfl rfl)
theorem dX3_hot_115 : decode cX3_hot 115 = .ok (.iaload, 1) := dk_46 (dk_at dksX3_hot_4 22 rfl rfl)
theorem dX3_hot_116 : decode cX3_hot 116 = .ok (.aload_n 0, 1) := dk_42 (dk_at dksX3_hot_4 23 rfl rfl)
theorem dX3_hot_117 : decode cX3_hot 117 = .ok (.iload 8, 2) := dk_21 8 (dk_at dksX3_hot_5 0 rfl rfl)
theorem dX3_hot_119 : decode cX3_hot 119 = .ok (.iload_n 1, 1) := dk_27 (dk_at dksX3_hot_5 2 rfl rfl)
theorem dX3_hot_120 : decode cX3_hot 120 = .ok (.invokevirtual 251, 3) := dk_182 0 251 (dk_at dksX3_hot_5 3 rfl rfl)
theorem dX3_hot_123 : decode cX3_hot 123 = .ok (.imul, 1) := dk_104 (dk_at dksX3_hot_5 6 rfl rfl)
theorem dX3_hot_124 : decode cX3_hot 124 = .ok (.goto 4, 3) := dk_167 0 4 (dk_at dksX3_hot_5 7 rfl rfl)
theorem dX3_hot_127 : decode cX3_hot 127 = .ok (.iconst 0, 1) := dk_3 (dk_at dksX3_hot_5 10 rfl rfl)
theorem dX3_hot_128 : decode cX3_hot 128 = .ok (.iadd, 1) := dk_96 (dk_at dksX3_hot_5 11 rfl rfl)
theorem dX3_hot_129 : decode cX3_hot 129 = .ok (.istore 7, 2) := dk_54 7 (dk_at dksX3_hot_5 12 rfl rfl)
theorem dX3_hot_131 : decode cX3_hot 131 = .ok (.iinc 8 1, 3) := dk_132 8 1 (dk_at dksX3_hot_5 14 rfl rfl)
theorem dX3_hot_134 : decode cX3_hot 134 = .ok (.goto (-47), 3) := dk_167 255 209 (dk_at dksX3_hot_5 17 rfl rfl)
theorem dX3_hot_137 : decode cX3_hot 137 = .ok (.ldc2_w 271, 3) := dk_20 1 15 (dk_at dksX3_hot_5 20 rfl rfl)
theorem dX3_hot_140 : decode cX3_hot 140 = .ok (.iload 7, 2) := dk_21 7 (dk_at dksX3_hot_6 0 rfl rfl)
theorem dX3_hot_142 : decode cX3_hot 142 = .ok (.i2l, 1) := dk_133 (dk_at dksX3_hot_6 2 rfl rfl)
theorem dX3_hot_143 : decode cX3_hot 143 = .ok (.lmul, 1) := dk_105 (dk_at dksX3_hot_6 3 rfl rfl)
theorem dX3_hot_144 : decode cX3_hot 144 = .ok (.iload_n 2, 1) := dk_28 (dk_at dksX3_hot_6 4 rfl rfl)
theorem dX3_hot_145 : decode cX3_hot 145 = .ok (.i2l, 1) := dk_133 (dk_at dksX3_hot_6 5 rfl rfl)
theorem dX3_hot_146 : decode cX3_hot 146 = .ok (.iload 4, 2) := dk_21 4 (dk_at dksX3_hot_6 6 rfl rfl)
theorem dX3_hot_148 : decode cX3_hot 148 = .ok (.i2l, 1) := dk_133 (dk_at dksX3_hot_6 8 rfl rfl)
theorem dX3_hot_149 : decode cX3_hot 149 = .ok (.lmul, 1) := dk_105 (dk_at dksX3_hot_6 9 rfl rfl)
theorem dX3_hot_150 : decode cX3_hot 150 = .ok (.lcmp, 1) := dk_148 (dk_at dksX3_hot_6 10 rfl rfl)
theorem dX3_hot_151 : decode cX3_hot 151 = .ok (.ifCond .lt 8, 3) := dk_155 0 8 (dk_at dksX3_hot_6 11 rfl rfl)
theorem dX3_hot_154 : decode cX3_hot 154 = .ok (.iload 6, 2) := dk_21 6 (dk_at dksX3_hot_6 14 rfl rfl)
theorem dX3_hot_156 : decode cX3_hot 156 = .ok (.goto 5, 3) := dk_167 0 5 (dk_at dksX3_hot_6 16 rfl rfl)
theorem dX3_hot_159 : decode cX3_hot 159 = .ok (.iload 5, 2) := dk_21 5 (dk_at dksX3_hot_6 19 rfl rfl)
theorem dX3_hot_161 : decode cX3_hot 161 = .ok (.istore 5, 2) := dk_54 5 (dk_at dksX3_hot_6 21 rfl rfl)
theorem dX3_hot_163 : decode cX3_hot 163 = .ok (.iinc 6 1, 3) := dk_132 6 1 (dk_at dksX3_hot_7 0 rfl rfl)
theorem dX3_hot_166 : decode cX3_hot 166 = .ok (.goto (-121), 3) := dk_167 255 135 (dk_at dksX3_hot_7 3 rfl rfl)
theorem dX3_hot_169 : decode cX3_hot 169 = .ok (.iload 5, 2) := dk_21 5 (dk_at dksX3_hot_7 6 rfl rfl)
theorem dX3_hot_171 : decode cX3_hot 171 = .ok (.bipush (-4), 2) := dk_16 252 (dk_at dksX3_hot_7 8 rfl rfl)
theorem dX3_hot_173 : decode cX3_hot 173 = .ok (.if_icmp .ne 8, 3) := dk_160 0 8 (dk_at dksX3_hot_7 10 rfl rfl)
theorem dX3_hot_176 : decode cX3_hot 176 = .ok (.bipush (-4), 2) := dk_16 252 (dk_at dksX3_hot_7 13 rfl rfl)
theorem dX3_hot_178 : decode cX3_hot 178 = .ok (.goto 17, 3) := dk_167 0 17 (dk_at dksX3_hot_7 15 rfl rfl)
theorem dX3_hot_181 : decode cX3_hot 181 = .ok (.iload_n 3, 1) := dk_29 (dk_at dksX3_hot_7 18 rfl rfl)
theorem dX3_hot_182 : decode cX3_hot 182 = .ok (.ifCond .ne 11, 3) := dk_154 0 11 (dk_at dksX3_hot_7 19 rfl rfl)
theorem dX3_hot_185 : decode cX3_hot 185 = .ok (.iload 5, 2) := dk_21 5 (dk_at dksX3_hot_7 22 rfl rfl)
theorem dX3_hot_187 : decode cX3_hot 187 = .ok (.invokestatic 273, 3) := dk_184 1 17 (dk_at dksX3_hot_8 0 rfl rfl)
theorem dX3_hot_190 : decode cX3_hot 190 = .ok (.goto 5, 3) := dk_167 0 5 (dk_at dksX3_hot_8 3 rfl rfl)
theorem dX3_hot_193 : decode cX3_hot 193 = .ok (.iload 5, 2) := dk_21 5 (dk_at dksX3_hot_8 6 rfl rfl)
theorem dX3_hot_195 : decode cX3_hot 195 = .ok (.ireturn, 1) := dk_172 (dk_at dksX3_hot_8 8 rfl rfl)
abbrev cX3_countOf : ByteArray := prog_11_method_4_code
def yX3_countOf : MethodName := ⟨RX3, "countOf", "(I)I"⟩
def dkwX3_countOf_1 : List UInt8 := [27, 172]
abbrev dktX3_countOf_1 : List UInt8 := dkwX3_countOf_1 ++ []
def dkwX3_countOf_0 : List UInt8 := [3, 60, 3, 61, 28, 16, 16, 162, 0, 17, 27, 26, 28, 122, 4, 126, 96, 60, 132, 2, 1, 167, 255, 239]
abbrev dktX3_countOf_0 : List UInt8 := dkwX3_countOf_0 ++ dktX3_countOf_1
theorem dksX3_countOf_0 : cX3_countOf.data.toList.drop 0 = dktX3_countOf_0 := by decide +kernel
theorem dksX3_countOf_1 : cX3_countOf.data.toList.drop 24 = dktX3_countOf_1 := dk_seg dksX3_countOf_0 24 rfl rfl
theorem dX3_countOf_0 : decode cX3_countOf 0 = .ok (.iconst 0, 1) := dk_3 (dk_at dksX3_countOf_0 0 rfl rfl)
theorem dX3_countOf_1 : decode cX3_countOf 1 = .ok (.istore_n 1, 1) := dk_60 (dk_at dksX3_countOf_0 1 rfl rfl)
theorem dX3_countOf_2 : decode cX3_countOf 2 = .ok (.iconst 0, 1) := dk_3 (dk_at dksX3_countOf_0 2 rfl rfl)
theorem dX3_countOf_3 : decode cX3_countOf 3 = .ok (.istore_n 2, 1) := dk_61 (dk_at dksX3_countOf_0 3 rfl rfl)
theorem dX3_countOf_4 : decode cX3_countOf 4 = .ok (.iload_n 2, 1) := dk_28 (dk_at dksX3_countOf_0 4 rfl rfl)
theorem dX3_countOf_5 : decode cX3_countOf 5 = .ok (.bipush 16, 2) := dk_16 16 (dk_at dksX3_countOf_0 5 rfl rfl)
theorem dX3_countOf_7 : decode cX3_countOf 7 = .ok (.if_icmp .ge 17, 3) := dk_162 0 17 (dk_at dksX3_countOf_0 7 rfl rfl)
theorem dX3_countOf_10 : decode cX3_countOf 10 = .ok (.iload_n 1, 1) := dk_27 (dk_at dksX3_countOf_0 10 rfl rfl)
theorem dX3_countOf_11 : decode cX3_countOf 11 = .ok (.iload_n 0, 1) := dk_26 (dk_at dksX3_countOf_0 11 rfl rfl)
theorem dX3_countOf_12 : decode cX3_countOf 12 = .ok (.iload_n 2, 1) := dk_28 (dk_at dksX3_countOf_0 12 rfl rfl)
theorem dX3_countOf_13 : decode cX3_countOf 13 = .ok (.ishr, 1) := dk_122 (dk_at dksX3_countOf_0 13 rfl rfl)
theorem dX3_countOf_14 : decode cX3_countOf 14 = .ok (.iconst 1, 1) := dk_4 (dk_at dksX3_countOf_0 14 rfl rfl)
theorem dX3_countOf_15 : decode cX3_countOf 15 = .ok (.iand, 1) := dk_126 (dk_at dksX3_countOf_0 15 rfl rfl)
theorem dX3_countOf_16 : decode cX3_countOf 16 = .ok (.iadd, 1) := dk_96 (dk_at dksX3_countOf_0 16 rfl rfl)
theorem dX3_countOf_17 : decode cX3_countOf 17 = .ok (.istore_n 1, 1) := dk_60 (dk_at dksX3_countOf_0 17 rfl rfl)
theorem dX3_countOf_18 : decode cX3_countOf 18 = .ok (.iinc 2 1, 3) := dk_132 2 1 (dk_at dksX3_countOf_0 18 rfl rfl)
theorem dX3_countOf_21 : decode cX3_countOf 21 = .ok (.goto (-17), 3) := dk_167 255 239 (dk_at dksX3_countOf_0 21 rfl rfl)
theorem dX3_countOf_24 : decode cX3_countOf 24 = .ok (.iload_n 1, 1) := dk_27 (dk_at dksX3_countOf_1 0 rfl rfl)
theorem dX3_countOf_25 : decode cX3_countOf 25 = .ok (.ireturn, 1) := dk_172 (dk_at dksX3_countOf_1 1 rfl rfl)
abbrev cX3_keep : ByteArray := prog_11_method_40_code
def yX3_keep : MethodName := ⟨RX3, "keep", "()I"⟩
def dkwX3_keep_3 : List UInt8 := [42, 180, 1, 20, 172]
abbrev dktX3_keep_3 : List UInt8 := dkwX3_keep_3 ++ []
def dkwX3_keep_2 : List UInt8 := [42, 27, 28, 182, 0, 251, 104, 167, 0, 4, 3, 79, 132, 2, 1, 167, 255, 211, 132, 1, 1, 167, 255, 197]
abbrev dktX3_keep_2 : List UInt8 := dkwX3_keep_2 ++ dktX3_keep_3
def dkwX3_keep_1 : List UInt8 := [42, 180, 0, 64, 16, 8, 27, 104, 28, 96, 27, 42, 180, 0, 203, 162, 0, 19, 42, 180, 0, 28, 27, 46]
abbrev dktX3_keep_1 : List UInt8 := dkwX3_keep_1 ++ dktX3_keep_2
def dkwX3_keep_0 : List UInt8 := [42, 42, 180, 0, 203, 181, 1, 20, 3, 60, 27, 16, 16, 162, 0, 59, 3, 61, 28, 16, 8, 162, 0, 45]
abbrev dktX3_keep_0 : List UInt8 := dkwX3_keep_0 ++ dktX3_keep_1
theorem dksX3_keep_0 : cX3_keep.data.toList.drop 0 = dktX3_keep_0 := by decide +kernel
theorem dksX3_keep_1 : cX3_keep.data.toList.drop 24 = dktX3_keep_1 := dk_seg dksX3_keep_0 24 rfl rfl
theorem dksX3_keep_2 : cX3_keep.data.toList.drop 48 = dktX3_keep_2 := dk_seg dksX3_keep_1 24 rfl rfl
theorem dksX3_keep_3 : cX3_keep.data.toList.drop 72 = dktX3_keep_3 := dk_seg dksX3_keep_2 24 rfl rfl
theorem dX3_keep_0 : decode cX3_keep 0 = .ok (.aload_n 0, 1) := dk_42 (dk_at dksX3_keep_0 0 rfl rfl)
theorem dX3_keep_1 : decode cX3_keep 1 = .ok (.aload_n 0, 1) := dk_42 (dk_at dksX3_keep_0 1 rfl rfl)
theorem dX3_keep_2 : decode cX3_keep 2 = .ok (.getfield 203, 3) := dk_180 0 203 (dk_at dksX3_keep_0 2 rfl rfl)
theorem dX3_keep_5 : decode cX3_keep 5 = .ok (.putfield 276, 3) := dk_181 1 20 (dk_at dksX3_keep_0 5 rfl rfl)
theorem dX3_keep_8 : decode cX3_keep 8 = .ok (.iconst 0, 1) := dk_3 (dk_at dksX3_keep_0 8 rfl rfl)
theorem dX3_keep_9 : decode cX3_keep 9 = .ok (.istore_n 1, 1) := dk_60 (dk_at dksX3_keep_0 9 rfl rfl)
theorem dX3_keep_10 : decode cX3_keep 10 = .ok (.iload_n 1, 1) := dk_27 (dk_at dksX3_keep_0 10 rfl rfl)
theorem dX3_keep_11 : decode cX3_keep 11 = .ok (.bipush 16, 2) := dk_16 16 (dk_at dksX3_keep_0 11 rfl rfl)
theorem dX3_keep_13 : decode cX3_keep 13 = .ok (.if_icmp .ge 59, 3) := dk_162 0 59 (dk_at dksX3_keep_0 13 rfl rfl)
theorem dX3_keep_16 : decode cX3_keep 16 = .ok (.iconst 0, 1) := dk_3 (dk_at dksX3_keep_0 16 rfl rfl)
theorem dX3_keep_17 : decode cX3_keep 17 = .ok (.istore_n 2, 1) := dk_61 (dk_at dksX3_keep_0 17 rfl rfl)
theorem dX3_keep_18 : decode cX3_keep 18 = .ok (.iload_n 2, 1) := dk_28 (dk_at dksX3_keep_0 18 rfl rfl)
theorem dX3_keep_19 : decode cX3_keep 19 = .ok (.bipush 8, 2) := dk_16 8 (dk_at dksX3_keep_0 19 rfl rfl)
theorem dX3_keep_21 : decode cX3_keep 21 = .ok (.if_icmp .ge 45, 3) := dk_162 0 45 (dk_at dksX3_keep_0 21 rfl rfl)
theorem dX3_keep_24 : decode cX3_keep 24 = .ok (.aload_n 0, 1) := dk_42 (dk_at dksX3_keep_1 0 rfl rfl)
theorem dX3_keep_25 : decode cX3_keep 25 = .ok (.getfield 64, 3) := dk_180 0 64 (dk_at dksX3_keep_1 1 rfl rfl)
theorem dX3_keep_28 : decode cX3_keep 28 = .ok (.bipush 8, 2) := dk_16 8 (dk_at dksX3_keep_1 4 rfl rfl)
theorem dX3_keep_30 : decode cX3_keep 30 = .ok (.iload_n 1, 1) := dk_27 (dk_at dksX3_keep_1 6 rfl rfl)
theorem dX3_keep_31 : decode cX3_keep 31 = .ok (.imul, 1) := dk_104 (dk_at dksX3_keep_1 7 rfl rfl)
theorem dX3_keep_32 : decode cX3_keep 32 = .ok (.iload_n 2, 1) := dk_28 (dk_at dksX3_keep_1 8 rfl rfl)
theorem dX3_keep_33 : decode cX3_keep 33 = .ok (.iadd, 1) := dk_96 (dk_at dksX3_keep_1 9 rfl rfl)
theorem dX3_keep_34 : decode cX3_keep 34 = .ok (.iload_n 1, 1) := dk_27 (dk_at dksX3_keep_1 10 rfl rfl)
theorem dX3_keep_35 : decode cX3_keep 35 = .ok (.aload_n 0, 1) := dk_42 (dk_at dksX3_keep_1 11 rfl rfl)
theorem dX3_keep_36 : decode cX3_keep 36 = .ok (.getfield 203, 3) := dk_180 0 203 (dk_at dksX3_keep_1 12 rfl rfl)
theorem dX3_keep_39 : decode cX3_keep 39 = .ok (.if_icmp .ge 19, 3) := dk_162 0 19 (dk_at dksX3_keep_1 15 rfl rfl)
theorem dX3_keep_42 : decode cX3_keep 42 = .ok (.aload_n 0, 1) := dk_42 (dk_at dksX3_keep_1 18 rfl rfl)
theorem dX3_keep_43 : decode cX3_keep 43 = .ok (.getfield 28, 3) := dk_180 0 28 (dk_at dksX3_keep_1 19 rfl rfl)
theorem dX3_keep_46 : decode cX3_keep 46 = .ok (.iload_n 1, 1) := dk_27 (dk_at dksX3_keep_1 22 rfl rfl)
theorem dX3_keep_47 : decode cX3_keep 47 = .ok (.iaload, 1) := dk_46 (dk_at dksX3_keep_1 23 rfl rfl)
theorem dX3_keep_48 : decode cX3_keep 48 = .ok (.aload_n 0, 1) := dk_42 (dk_at dksX3_keep_2 0 rfl rfl)
theorem dX3_keep_49 : decode cX3_keep 49 = .ok (.iload_n 1, 1) := dk_27 (dk_at dksX3_keep_2 1 rfl rfl)
theorem dX3_keep_50 : decode cX3_keep 50 = .ok (.iload_n 2, 1) := dk_28 (dk_at dksX3_keep_2 2 rfl rfl)
theorem dX3_keep_51 : decode cX3_keep 51 = .ok (.invokevirtual 251, 3) := dk_182 0 251 (dk_at dksX3_keep_2 3 rfl rfl)
theorem dX3_keep_54 : decode cX3_keep 54 = .ok (.imul, 1) := dk_104 (dk_at dksX3_keep_2 6 rfl rfl)
theorem dX3_keep_55 : decode cX3_keep 55 = .ok (.goto 4, 3) := dk_167 0 4 (dk_at dksX3_keep_2 7 rfl rfl)
theorem dX3_keep_58 : decode cX3_keep 58 = .ok (.iconst 0, 1) := dk_3 (dk_at dksX3_keep_2 10 rfl rfl)
theorem dX3_keep_59 : decode cX3_keep 59 = .ok (.iastore, 1) := dk_79 (dk_at dksX3_keep_2 11 rfl rfl)
theorem dX3_keep_60 : decode cX3_keep 60 = .ok (.iinc 2 1, 3) := dk_132 2 1 (dk_at dksX3_keep_2 12 rfl rfl)
theorem dX3_keep_63 : decode cX3_keep 63 = .ok (.goto (-45), 3) := dk_167 255 211 (dk_at dksX3_keep_2 15 rfl rfl)
theorem dX3_keep_66 : decode cX3_keep 66 = .ok (.iinc 1 1, 3) := dk_132 1 1 (dk_at dksX3_keep_2 18 rfl rfl)
theorem dX3_keep_69 : decode cX3_keep 69 = .ok (.goto (-59), 3) := dk_167 255 197 (dk_at dksX3_keep_2 21 rfl rfl)
theorem dX3_keep_72 : decode cX3_keep 72 = .ok (.aload_n 0, 1) := dk_42 (dk_at dksX3_keep_3 0 rfl rfl)
theorem dX3_keep_73 : decode cX3_keep 73 = .ok (.getfield 276, 3) := dk_180 1 20 (dk_at dksX3_keep_3 1 rfl rfl)
theorem dX3_keep_76 : decode cX3_keep 76 = .ok (.ireturn, 1) := dk_172 (dk_at dksX3_keep_3 4 rfl rfl)
abbrev cX3_beside : ByteArray := prog_11_method_41_code
def yX3_beside : MethodName := ⟨RX3, "beside", "(II)I"⟩
def dkwX3_beside_10 : List UInt8 := [21, 6, 172]
abbrev dktX3_beside_10 : List UInt8 := dkwX3_beside_10 ++ []
def dkwX3_beside_9 : List UInt8 := [167, 0, 25, 28, 5, 160, 0, 8, 21, 4, 167, 0, 15, 28, 6, 160, 0, 8, 21, 5, 167, 0, 5]
abbrev dktX3_beside_9 : List UInt8 := dkwX3_beside_9 ++ dktX3_beside_10
def dkwX3_beside_8 : List UInt8 := [132, 8, 1, 167, 255, 103, 28, 154, 0, 11, 42, 27, 182, 1, 1, 167, 0, 34, 28, 4, 160, 0, 7, 29]
abbrev dktX3_beside_8 : List UInt8 := dkwX3_beside_8 ++ dktX3_beside_9
def dkwX3_beside_7 : List UInt8 := [184, 0, 111, 21, 7, 133, 148, 158, 0, 13, 21, 9, 133, 184, 0, 111, 136, 167, 0, 5, 21, 7, 54, 7]
abbrev dktX3_beside_7 : List UInt8 := dkwX3_beside_7 ++ dktX3_beside_8
def dkwX3_beside_6 : List UInt8 := [133, 184, 0, 111, 21, 7, 133, 148, 158, 0, 8, 21, 8, 167, 0, 5, 21, 6, 54, 6, 21, 9, 133]
abbrev dktX3_beside_6 : List UInt8 := dkwX3_beside_6 ++ dktX3_beside_7
def dkwX3_beside_5 : List UInt8 := [3, 128, 54, 4, 21, 5, 21, 9, 156, 0, 10, 4, 21, 8, 120, 167, 0, 4, 3, 128, 54, 5, 21, 9]
abbrev dktX3_beside_5 : List UInt8 := dkwX3_beside_5 ++ dktX3_beside_6
def dkwX3_beside_4 : List UInt8 := [16, 8, 21, 8, 104, 27, 96, 46, 96, 62, 21, 4, 21, 9, 158, 0, 10, 4, 21, 8, 120, 167, 0, 4]
abbrev dktX3_beside_4 : List UInt8 := dkwX3_beside_4 ++ dktX3_beside_5
def dkwX3_beside_3 : List UInt8 := [167, 0, 4, 3, 42, 180, 0, 64, 16, 8, 21, 8, 104, 27, 96, 46, 100, 54, 9, 29, 42, 180, 0, 64]
abbrev dktX3_beside_3 : List UInt8 := dkwX3_beside_3 ++ dktX3_beside_4
def dkwX3_beside_2 : List UInt8 := [42, 180, 0, 203, 162, 0, 21, 42, 180, 0, 28, 21, 8, 46, 42, 21, 8, 27, 182, 0, 251, 104]
abbrev dktX3_beside_2 : List UInt8 := dkwX3_beside_2 ++ dktX3_beside_3
def dkwX3_beside_1 : List UInt8 := [54, 4, 3, 54, 5, 16, 252, 54, 6, 3, 54, 7, 3, 54, 8, 21, 8, 16, 16, 162, 0, 152, 21, 8]
abbrev dktX3_beside_1 : List UInt8 := dkwX3_beside_1 ++ dktX3_beside_2
def dkwX3_beside_0 : List UInt8 := [27, 184, 1, 4, 153, 0, 15, 28, 133, 9, 20, 1, 11, 184, 0, 124, 154, 0, 5, 2, 172, 3, 62, 3]
abbrev dktX3_beside_0 : List UInt8 := dkwX3_beside_0 ++ dktX3_beside_1
theorem dksX3_beside_0 : cX3_beside.data.toList.drop 0 = dktX3_beside_0 := by decide +kernel
theorem dksX3_beside_1 : cX3_beside.data.toList.drop 24 = dktX3_beside_1 := dk_seg dksX3_beside_0 24 rfl rfl
theorem dksX3_beside_2 : cX3_beside.data.toList.drop 48 = dktX3_beside_2 := dk_seg dksX3_beside_1 24 rfl rfl
theorem dksX3_beside_3 : cX3_beside.data.toList.drop 70 = dktX3_beside_3 := dk_seg dksX3_beside_2 22 rfl rfl
theorem dksX3_beside_4 : cX3_beside.data.toList.drop 94 = dktX3_beside_4 := dk_seg dksX3_beside_3 24 rfl rfl
theorem dksX3_beside_5 : cX3_beside.data.toList.drop 118 = dktX3_beside_5 := dk_seg dksX3_beside_4 24 rfl rfl
theorem dksX3_beside_6 : cX3_beside.data.toList.drop 142 = dktX3_beside_6 := dk_seg dksX3_beside_5 24 rfl rfl
theorem dksX3_beside_7 : cX3_beside.data.toList.drop 165 = dktX3_beside_7 := dk_seg dksX3_beside_6 23 rfl rfl
theorem dksX3_beside_8 : cX3_beside.data.toList.drop 189 = dktX3_beside_8 := dk_seg dksX3_beside_7 24 rfl rfl
theorem dksX3_beside_9 : cX3_beside.data.toList.drop 213 = dktX3_beside_9 := dk_seg dksX3_beside_8 24 rfl rfl
theorem dksX3_beside_10 : cX3_beside.data.toList.drop 236 = dktX3_beside_10 := dk_seg dksX3_beside_9 23 rfl rfl
theorem dX3_beside_0 : decode cX3_beside 0 = .ok (.iload_n 1, 1) := dk_27 (dk_at dksX3_beside_0 0 rfl rfl)
theorem dX3_beside_1 : decode cX3_beside 1 = .ok (.invokestatic 260, 3) := dk_184 1 4 (dk_at dksX3_beside_0 1 rfl rfl)
theorem dX3_beside_4 : decode cX3_beside 4 = .ok (.ifCond .eq 15, 3) := dk_153 0 15 (dk_at dksX3_beside_0 4 rfl rfl)
theorem dX3_beside_7 : decode cX3_beside 7 = .ok (.iload_n 2, 1) := dk_28 (dk_at dksX3_beside_0 7 rfl rfl)
theorem dX3_beside_8 : decode cX3_beside 8 = .ok (.i2l, 1) := dk_133 (dk_at dksX3_beside_0 8 rfl rfl)
theorem dX3_beside_9 : decode cX3_beside 9 = .ok (.lconst 0, 1) := dk_9 (dk_at dksX3_beside_0 9 rfl rfl)
theorem dX3_beside_10 : decode cX3_beside 10 = .ok (.ldc2_w 267, 3) := dk_20 1 11 (dk_at dksX3_beside_0 10 rfl rfl)
theorem dX3_beside_13 : decode cX3_beside 13 = .ok (.invokestatic 124, 3) := dk_184 0 124 (dk_at dksX3_beside_0 13 rfl rfl)
theorem dX3_beside_16 : decode cX3_beside 16 = .ok (.ifCond .ne 5, 3) := dk_154 0 5 (dk_at dksX3_beside_0 16 rfl rfl)
theorem dX3_beside_19 : decode cX3_beside 19 = .ok (.iconst (-1), 1) := dk_2 (dk_at dksX3_beside_0 19 rfl rfl)
theorem dX3_beside_20 : decode cX3_beside 20 = .ok (.ireturn, 1) := dk_172 (dk_at dksX3_beside_0 20 rfl rfl)
theorem dX3_beside_21 : decode cX3_beside 21 = .ok (.iconst 0, 1) := dk_3 (dk_at dksX3_beside_0 21 rfl rfl)
theorem dX3_beside_22 : decode cX3_beside 22 = .ok (.istore_n 3, 1) := dk_62 (dk_at dksX3_beside_0 22 rfl rfl)
theorem dX3_beside_23 : decode cX3_beside 23 = .ok (.iconst 0, 1) := dk_3 (dk_at dksX3_beside_0 23 rfl rfl)
theorem dX3_beside_24 : decode cX3_beside 24 = .ok (.istore 4, 2) := dk_54 4 (dk_at dksX3_beside_1 0 rfl rfl)
theorem dX3_beside_26 : decode cX3_beside 26 = .ok (.iconst 0, 1) := dk_3 (dk_at dksX3_beside_1 2 rfl rfl)
theorem dX3_beside_27 : decode cX3_beside 27 = .ok (.istore 5, 2) := dk_54 5 (dk_at dksX3_beside_1 3 rfl rfl)
theorem dX3_beside_29 : decode cX3_beside 29 = .ok (.bipush (-4), 2) := dk_16 252 (dk_at dksX3_beside_1 5 rfl rfl)
theorem dX3_beside_31 : decode cX3_beside 31 = .ok (.istore 6, 2) := dk_54 6 (dk_at dksX3_beside_1 7 rfl rfl)
theorem dX3_beside_33 : decode cX3_beside 33 = .ok (.iconst 0, 1) := dk_3 (dk_at dksX3_beside_1 9 rfl rfl)
theorem dX3_beside_34 : decode cX3_beside 34 = .ok (.istore 7, 2) := dk_54 7 (dk_at dksX3_beside_1 10 rfl rfl)
theorem dX3_beside_36 : decode cX3_beside 36 = .ok (.iconst 0, 1) := dk_3 (dk_at dksX3_beside_1 12 rfl rfl)
theorem dX3_beside_37 : decode cX3_beside 37 = .ok (.istore 8, 2) := dk_54 8 (dk_at dksX3_beside_1 13 rfl rfl)
theorem dX3_beside_39 : decode cX3_beside 39 = .ok (.iload 8, 2) := dk_21 8 (dk_at dksX3_beside_1 15 rfl rfl)
theorem dX3_beside_41 : decode cX3_beside 41 = .ok (.bipush 16, 2) := dk_16 16 (dk_at dksX3_beside_1 17 rfl rfl)
theorem dX3_beside_43 : decode cX3_beside 43 = .ok (.if_icmp .ge 152, 3) := dk_162 0 152 (dk_at dksX3_beside_1 19 rfl rfl)
theorem dX3_beside_46 : decode cX3_beside 46 = .ok (.iload 8, 2) := dk_21 8 (dk_at dksX3_beside_1 22 rfl rfl)
theorem dX3_beside_48 : decode cX3_beside 48 = .ok (.aload_n 0, 1) := dk_42 (dk_at dksX3_beside_2 0 rfl rfl)
theorem dX3_beside_49 : decode cX3_beside 49 = .ok (.getfield 203, 3) := dk_180 0 203 (dk_at dksX3_beside_2 1 rfl rfl)
theorem dX3_beside_52 : decode cX3_beside 52 = .ok (.if_icmp .ge 21, 3) := dk_162 0 21 (dk_at dksX3_beside_2 4 rfl rfl)
theorem dX3_beside_55 : decode cX3_beside 55 = .ok (.aload_n 0, 1) := dk_42 (dk_at dksX3_beside_2 7 rfl rfl)
theorem dX3_beside_56 : decode cX3_beside 56 = .ok (.getfield 28, 3) := dk_180 0 28 (dk_at dksX3_beside_2 8 rfl rfl)
theorem dX3_beside_59 : decode cX3_beside 59 = .ok (.iload 8, 2) := dk_21 8 (dk_at dksX3_beside_2 11 rfl rfl)
theorem dX3_beside_61 : decode cX3_beside 61 = .ok (.iaload, 1) := dk_46 (dk_at dksX3_beside_2 13 rfl rfl)
theorem dX3_beside_62 : decode cX3_beside 62 = .ok (.aload_n 0, 1) := dk_42 (dk_at dksX3_beside_2 14 rfl rfl)
theorem dX3_beside_63 : decode cX3_beside 63 = .ok (.iload 8, 2) := dk_21 8 (dk_at dksX3_beside_2 15 rfl rfl)
theorem dX3_beside_65 : decode cX3_beside 65 = .ok (.iload_n 1, 1) := dk_27 (dk_at dksX3_beside_2 17 rfl rfl)
theorem dX3_beside_66 : decode cX3_beside 66 = .ok (.invokevirtual 251, 3) := dk_182 0 251 (dk_at dksX3_beside_2 18 rfl rfl)
theorem dX3_beside_69 : decode cX3_beside 69 = .ok (.imul, 1) := dk_104 (dk_at dksX3_beside_2 21 rfl rfl)
theorem dX3_beside_70 : decode cX3_beside 70 = .ok (.goto 4, 3) := dk_167 0 4 (dk_at dksX3_beside_3 0 rfl rfl)
theorem dX3_beside_73 : decode cX3_beside 73 = .ok (.iconst 0, 1) := dk_3 (dk_at dksX3_beside_3 3 rfl rfl)
theorem dX3_beside_74 : decode cX3_beside 74 = .ok (.aload_n 0, 1) := dk_42 (dk_at dksX3_beside_3 4 rfl rfl)
theorem dX3_beside_75 : decode cX3_beside 75 = .ok (.getfield 64, 3) := dk_180 0 64 (dk_at dksX3_beside_3 5 rfl rfl)
theorem dX3_beside_78 : decode cX3_beside 78 = .ok (.bipush 8, 2) := dk_16 8 (dk_at dksX3_beside_3 8 rfl rfl)
theorem dX3_beside_80 : decode cX3_beside 80 = .ok (.iload 8, 2) := dk_21 8 (dk_at dksX3_beside_3 10 rfl rfl)
theorem dX3_beside_82 : decode cX3_beside 82 = .ok (.imul, 1) := dk_104 (dk_at dksX3_beside_3 12 rfl rfl)
theorem dX3_beside_83 : decode cX3_beside 83 = .ok (.iload_n 1, 1) := dk_27 (dk_at dksX3_beside_3 13 rfl rfl)
theorem dX3_beside_84 : decode cX3_beside 84 = .ok (.iadd, 1) := dk_96 (dk_at dksX3_beside_3 14 rfl rfl)
theorem dX3_beside_85 : decode cX3_beside 85 = .ok (.iaload, 1) := dk_46 (dk_at dksX3_beside_3 15 rfl rfl)
theorem dX3_beside_86 : decode cX3_beside 86 = .ok (.isub, 1) := dk_100 (dk_at dksX3_beside_3 16 rfl rfl)
theorem dX3_beside_87 : decode cX3_beside 87 = .ok (.istore 9, 2) := dk_54 9 (dk_at dksX3_beside_3 17 rfl rfl)
theorem dX3_beside_89 : decode cX3_beside 89 = .ok (.iload_n 3, 1) := dk_29 (dk_at dksX3_beside_3 19 rfl rfl)
theorem dX3_beside_90 : decode cX3_beside 90 = .ok (.aload_n 0, 1) := dk_42 (dk_at dksX3_beside_3 20 rfl rfl)
theorem dX3_beside_91 : decode cX3_beside 91 = .ok (.getfield 64, 3) := dk_180 0 64 (dk_at dksX3_beside_3 21 rfl rfl)
theorem dX3_beside_94 : decode cX3_beside 94 = .ok (.bipush 8, 2) := dk_16 8 (dk_at dksX3_beside_4 0 rfl rfl)
theorem dX3_beside_96 : decode cX3_beside 96 = .ok (.iload 8, 2) := dk_21 8 (dk_at dksX3_beside_4 2 rfl rfl)
theorem dX3_beside_98 : decode cX3_beside 98 = .ok (.imul, 1) := dk_104 (dk_at dksX3_beside_4 4 rfl rfl)
theorem dX3_beside_99 : decode cX3_beside 99 = .ok (.iload_n 1, 1) := dk_27 (dk_at dksX3_beside_4 5 rfl rfl)
theorem dX3_beside_100 : decode cX3_beside 100 = .ok (.iadd, 1) := dk_96 (dk_at dksX3_beside_4 6 rfl rfl)
theorem dX3_beside_101 : decode cX3_beside 101 = .ok (.iaload, 1) := dk_46 (dk_at dksX3_beside_4 7 rfl rfl)
theorem dX3_beside_102 : decode cX3_beside 102 = .ok (.iadd, 1) := dk_96 (dk_at dksX3_beside_4 8 rfl rfl)
theorem dX3_beside_103 : decode cX3_beside 103 = .ok (.istore_n 3, 1) := dk_62 (dk_at dksX3_beside_4 9 rfl rfl)
theorem dX3_beside_104 : decode cX3_beside 104 = .ok (.iload 4, 2) := dk_21 4 (dk_at dksX3_beside_4 10 rfl rfl)
theorem dX3_beside_106 : decode cX3_beside 106 = .ok (.iload 9, 2) := dk_21 9 (dk_at dksX3_beside_4 12 rfl rfl)
theorem dX3_beside_108 : decode cX3_beside 108 = .ok (.ifCond .le 10, 3) := dk_158 0 10 (dk_at dksX3_beside_4 14 rfl rfl)
theorem dX3_beside_111 : decode cX3_beside 111 = .ok (.iconst 1, 1) := dk_4 (dk_at dksX3_beside_4 17 rfl rfl)
theorem dX3_beside_112 : decode cX3_beside 112 = .ok (.iload 8, 2) := dk_21 8 (dk_at dksX3_beside_4 18 rfl rfl)
theorem dX3_beside_114 : decode cX3_beside 114 = .ok (.ishl, 1) := dk_120 (dk_at dksX3_beside_4 20 rfl rfl)
theorem dX3_beside_115 : decode cX3_beside 115 = .ok (.goto 4, 3) := dk_167 0 4 (dk_at dksX3_beside_4 21 rfl rfl)
theorem dX3_beside_118 : decode cX3_beside 118 = .ok (.iconst 0, 1) := dk_3 (dk_at dksX3_beside_5 0 rfl rfl)
theorem dX3_beside_119 : decode cX3_beside 119 = .ok (.ior, 1) := dk_128 (dk_at dksX3_beside_5 1 rfl rfl)
theorem dX3_beside_120 : decode cX3_beside 120 = .ok (.istore 4, 2) := dk_54 4 (dk_at dksX3_beside_5 2 rfl rfl)
theorem dX3_beside_122 : decode cX3_beside 122 = .ok (.iload 5, 2) := dk_21 5 (dk_at dksX3_beside_5 4 rfl rfl)
theorem dX3_beside_124 : decode cX3_beside 124 = .ok (.iload 9, 2) := dk_21 9 (dk_at dksX3_beside_5 6 rfl rfl)
theorem dX3_beside_126 : decode cX3_beside 126 = .ok (.ifCond .ge 10, 3) := dk_156 0 10 (dk_at dksX3_beside_5 8 rfl rfl)
theorem dX3_beside_129 : decode cX3_beside 129 = .ok (.iconst 1, 1) := dk_4 (dk_at dksX3_beside_5 11 rfl rfl)
theorem dX3_beside_130 : decode cX3_beside 130 = .ok (.iload 8, 2) := dk_21 8 (dk_at dksX3_beside_5 12 rfl rfl)
theorem dX3_beside_132 : decode cX3_beside 132 = .ok (.ishl, 1) := dk_120 (dk_at dksX3_beside_5 14 rfl rfl)
theorem dX3_beside_133 : decode cX3_beside 133 = .ok (.goto 4, 3) := dk_167 0 4 (dk_at dksX3_beside_5 15 rfl rfl)
theorem dX3_beside_136 : decode cX3_beside 136 = .ok (.iconst 0, 1) := dk_3 (dk_at dksX3_beside_5 18 rfl rfl)
theorem dX3_beside_137 : decode cX3_beside 137 = .ok (.ior, 1) := dk_128 (dk_at dksX3_beside_5 19 rfl rfl)
theorem dX3_beside_138 : decode cX3_beside 138 = .ok (.istore 5, 2) := dk_54 5 (dk_at dksX3_beside_5 20 rfl rfl)
theorem dX3_beside_140 : decode cX3_beside 140 = .ok (.iload 9, 2) := dk_21 9 (dk_at dksX3_beside_5 22 rfl rfl)
theorem dX3_beside_142 : decode cX3_beside 142 = .ok (.i2l, 1) := dk_133 (dk_at dksX3_beside_6 0 rfl rfl)
theorem dX3_beside_143 : decode cX3_beside 143 = .ok (.invokestatic 111, 3) := dk_184 0 111 (dk_at dksX3_beside_6 1 rfl rfl)
theorem dX3_beside_146 : decode cX3_beside 146 = .ok (.iload 7, 2) := dk_21 7 (dk_at dksX3_beside_6 4 rfl rfl)
theorem dX3_beside_148 : decode cX3_beside 148 = .ok (.i2l, 1) := dk_133 (dk_at dksX3_beside_6 6 rfl rfl)
theorem dX3_beside_149 : decode cX3_beside 149 = .ok (.lcmp, 1) := dk_148 (dk_at dksX3_beside_6 7 rfl rfl)
theorem dX3_beside_150 : decode cX3_beside 150 = .ok (.ifCond .le 8, 3) := dk_158 0 8 (dk_at dksX3_beside_6 8 rfl rfl)
theorem dX3_beside_153 : decode cX3_beside 153 = .ok (.iload 8, 2) := dk_21 8 (dk_at dksX3_beside_6 11 rfl rfl)
theorem dX3_beside_155 : decode cX3_beside 155 = .ok (.goto 5, 3) := dk_167 0 5 (dk_at dksX3_beside_6 13 rfl rfl)
theorem dX3_beside_158 : decode cX3_beside 158 = .ok (.iload 6, 2) := dk_21 6 (dk_at dksX3_beside_6 16 rfl rfl)
theorem dX3_beside_160 : decode cX3_beside 160 = .ok (.istore 6, 2) := dk_54 6 (dk_at dksX3_beside_6 18 rfl rfl)
theorem dX3_beside_162 : decode cX3_beside 162 = .ok (.iload 9, 2) := dk_21 9 (dk_at dksX3_beside_6 20 rfl rfl)
theorem dX3_beside_164 : decode cX3_beside 164 = .ok (.i2l, 1) := dk_133 (dk_at dksX3_beside_6 22 rfl rfl)
theorem dX3_beside_165 : decode cX3_beside 165 = .ok (.invokestatic 111, 3) := dk_184 0 111 (dk_at dksX3_beside_7 0 rfl rfl)
theorem dX3_beside_168 : decode cX3_beside 168 = .ok (.iload 7, 2) := dk_21 7 (dk_at dksX3_beside_7 3 rfl rfl)
theorem dX3_beside_170 : decode cX3_beside 170 = .ok (.i2l, 1) := dk_133 (dk_at dksX3_beside_7 5 rfl rfl)
theorem dX3_beside_171 : decode cX3_beside 171 = .ok (.lcmp, 1) := dk_148 (dk_at dksX3_beside_7 6 rfl rfl)
theorem dX3_beside_172 : decode cX3_beside 172 = .ok (.ifCond .le 13, 3) := dk_158 0 13 (dk_at dksX3_beside_7 7 rfl rfl)
theorem dX3_beside_175 : decode cX3_beside 175 = .ok (.iload 9, 2) := dk_21 9 (dk_at dksX3_beside_7 10 rfl rfl)
theorem dX3_beside_177 : decode cX3_beside 177 = .ok (.i2l, 1) := dk_133 (dk_at dksX3_beside_7 12 rfl rfl)
theorem dX3_beside_178 : decode cX3_beside 178 = .ok (.invokestatic 111, 3) := dk_184 0 111 (dk_at dksX3_beside_7 13 rfl rfl)
theorem dX3_beside_181 : decode cX3_beside 181 = .ok (.l2i, 1) := dk_136 (dk_at dksX3_beside_7 16 rfl rfl)
theorem dX3_beside_182 : decode cX3_beside 182 = .ok (.goto 5, 3) := dk_167 0 5 (dk_at dksX3_beside_7 17 rfl rfl)
theorem dX3_beside_185 : decode cX3_beside 185 = .ok (.iload 7, 2) := dk_21 7 (dk_at dksX3_beside_7 20 rfl rfl)
theorem dX3_beside_187 : decode cX3_beside 187 = .ok (.istore 7, 2) := dk_54 7 (dk_at dksX3_beside_7 22 rfl rfl)
theorem dX3_beside_189 : decode cX3_beside 189 = .ok (.iinc 8 1, 3) := dk_132 8 1 (dk_at dksX3_beside_8 0 rfl rfl)
theorem dX3_beside_192 : decode cX3_beside 192 = .ok (.goto (-153), 3) := dk_167 255 103 (dk_at dksX3_beside_8 3 rfl rfl)
theorem dX3_beside_195 : decode cX3_beside 195 = .ok (.iload_n 2, 1) := dk_28 (dk_at dksX3_beside_8 6 rfl rfl)
theorem dX3_beside_196 : decode cX3_beside 196 = .ok (.ifCond .ne 11, 3) := dk_154 0 11 (dk_at dksX3_beside_8 7 rfl rfl)
theorem dX3_beside_199 : decode cX3_beside 199 = .ok (.aload_n 0, 1) := dk_42 (dk_at dksX3_beside_8 10 rfl rfl)
theorem dX3_beside_200 : decode cX3_beside 200 = .ok (.iload_n 1, 1) := dk_27 (dk_at dksX3_beside_8 11 rfl rfl)
theorem dX3_beside_201 : decode cX3_beside 201 = .ok (.invokevirtual 257, 3) := dk_182 1 1 (dk_at dksX3_beside_8 12 rfl rfl)
theorem dX3_beside_204 : decode cX3_beside 204 = .ok (.goto 34, 3) := dk_167 0 34 (dk_at dksX3_beside_8 15 rfl rfl)
theorem dX3_beside_207 : decode cX3_beside 207 = .ok (.iload_n 2, 1) := dk_28 (dk_at dksX3_beside_8 18 rfl rfl)
theorem dX3_beside_208 : decode cX3_beside 208 = .ok (.iconst 1, 1) := dk_4 (dk_at dksX3_beside_8 19 rfl rfl)
theorem dX3_beside_209 : decode cX3_beside 209 = .ok (.if_icmp .ne 7, 3) := dk_160 0 7 (dk_at dksX3_beside_8 20 rfl rfl)
theorem dX3_beside_212 : decode cX3_beside 212 = .ok (.iload_n 3, 1) := dk_29 (dk_at dksX3_beside_8 23 rfl rfl)
theorem dX3_beside_213 : decode cX3_beside 213 = .ok (.goto 25, 3) := dk_167 0 25 (dk_at dksX3_beside_9 0 rfl rfl)
theorem dX3_beside_216 : decode cX3_beside 216 = .ok (.iload_n 2, 1) := dk_28 (dk_at dksX3_beside_9 3 rfl rfl)
theorem dX3_beside_217 : decode cX3_beside 217 = .ok (.iconst 2, 1) := dk_5 (dk_at dksX3_beside_9 4 rfl rfl)
theorem dX3_beside_218 : decode cX3_beside 218 = .ok (.if_icmp .ne 8, 3) := dk_160 0 8 (dk_at dksX3_beside_9 5 rfl rfl)
theorem dX3_beside_221 : decode cX3_beside 221 = .ok (.iload 4, 2) := dk_21 4 (dk_at dksX3_beside_9 8 rfl rfl)
theorem dX3_beside_223 : decode cX3_beside 223 = .ok (.goto 15, 3) := dk_167 0 15 (dk_at dksX3_beside_9 10 rfl rfl)
theorem dX3_beside_226 : decode cX3_beside 226 = .ok (.iload_n 2, 1) := dk_28 (dk_at dksX3_beside_9 13 rfl rfl)
theorem dX3_beside_227 : decode cX3_beside 227 = .ok (.iconst 3, 1) := dk_6 (dk_at dksX3_beside_9 14 rfl rfl)
theorem dX3_beside_228 : decode cX3_beside 228 = .ok (.if_icmp .ne 8, 3) := dk_160 0 8 (dk_at dksX3_beside_9 15 rfl rfl)
theorem dX3_beside_231 : decode cX3_beside 231 = .ok (.iload 5, 2) := dk_21 5 (dk_at dksX3_beside_9 18 rfl rfl)
theorem dX3_beside_233 : decode cX3_beside 233 = .ok (.goto 5, 3) := dk_167 0 5 (dk_at dksX3_beside_9 20 rfl rfl)
theorem dX3_beside_236 : decode cX3_beside 236 = .ok (.iload 6, 2) := dk_21 6 (dk_at dksX3_beside_10 0 rfl rfl)
theorem dX3_beside_238 : decode cX3_beside 238 = .ok (.ireturn, 1) := dk_172 (dk_at dksX3_beside_10 2 rfl rfl)
abbrev cX3_counters : ByteArray := prog_11_method_44_code
def yX3_counters : MethodName := ⟨RX3, "counters", "(I)I"⟩
def dkwX3_counters_1 : List UInt8 := [42, 182, 0, 108, 42, 3, 181, 0, 222, 28, 172]
abbrev dktX3_counters_1 : List UInt8 := dkwX3_counters_1 ++ []
def dkwX3_counters_0 : List UInt8 := [27, 133, 10, 20, 1, 11, 184, 0, 124, 154, 0, 5, 2, 172, 42, 180, 0, 67, 61, 42, 27, 181, 0, 67]
abbrev dktX3_counters_0 : List UInt8 := dkwX3_counters_0 ++ dktX3_counters_1
theorem dksX3_counters_0 : cX3_counters.data.toList.drop 0 = dktX3_counters_0 := by decide +kernel
theorem dksX3_counters_1 : cX3_counters.data.toList.drop 24 = dktX3_counters_1 := dk_seg dksX3_counters_0 24 rfl rfl
theorem dX3_counters_0 : decode cX3_counters 0 = .ok (.iload_n 1, 1) := dk_27 (dk_at dksX3_counters_0 0 rfl rfl)
theorem dX3_counters_1 : decode cX3_counters 1 = .ok (.i2l, 1) := dk_133 (dk_at dksX3_counters_0 1 rfl rfl)
theorem dX3_counters_2 : decode cX3_counters 2 = .ok (.lconst 1, 1) := dk_10 (dk_at dksX3_counters_0 2 rfl rfl)
theorem dX3_counters_3 : decode cX3_counters 3 = .ok (.ldc2_w 267, 3) := dk_20 1 11 (dk_at dksX3_counters_0 3 rfl rfl)
theorem dX3_counters_6 : decode cX3_counters 6 = .ok (.invokestatic 124, 3) := dk_184 0 124 (dk_at dksX3_counters_0 6 rfl rfl)
theorem dX3_counters_9 : decode cX3_counters 9 = .ok (.ifCond .ne 5, 3) := dk_154 0 5 (dk_at dksX3_counters_0 9 rfl rfl)
theorem dX3_counters_12 : decode cX3_counters 12 = .ok (.iconst (-1), 1) := dk_2 (dk_at dksX3_counters_0 12 rfl rfl)
theorem dX3_counters_13 : decode cX3_counters 13 = .ok (.ireturn, 1) := dk_172 (dk_at dksX3_counters_0 13 rfl rfl)
theorem dX3_counters_14 : decode cX3_counters 14 = .ok (.aload_n 0, 1) := dk_42 (dk_at dksX3_counters_0 14 rfl rfl)
theorem dX3_counters_15 : decode cX3_counters 15 = .ok (.getfield 67, 3) := dk_180 0 67 (dk_at dksX3_counters_0 15 rfl rfl)
theorem dX3_counters_18 : decode cX3_counters 18 = .ok (.istore_n 2, 1) := dk_61 (dk_at dksX3_counters_0 18 rfl rfl)
theorem dX3_counters_19 : decode cX3_counters 19 = .ok (.aload_n 0, 1) := dk_42 (dk_at dksX3_counters_0 19 rfl rfl)
theorem dX3_counters_20 : decode cX3_counters 20 = .ok (.iload_n 1, 1) := dk_27 (dk_at dksX3_counters_0 20 rfl rfl)
theorem dX3_counters_21 : decode cX3_counters 21 = .ok (.putfield 67, 3) := dk_181 0 67 (dk_at dksX3_counters_0 21 rfl rfl)
theorem dX3_counters_24 : decode cX3_counters 24 = .ok (.aload_n 0, 1) := dk_42 (dk_at dksX3_counters_1 0 rfl rfl)
theorem dX3_counters_25 : decode cX3_counters 25 = .ok (.invokevirtual 108, 3) := dk_182 0 108 (dk_at dksX3_counters_1 1 rfl rfl)
theorem dX3_counters_28 : decode cX3_counters 28 = .ok (.aload_n 0, 1) := dk_42 (dk_at dksX3_counters_1 4 rfl rfl)
theorem dX3_counters_29 : decode cX3_counters 29 = .ok (.iconst 0, 1) := dk_3 (dk_at dksX3_counters_1 5 rfl rfl)
theorem dX3_counters_30 : decode cX3_counters 30 = .ok (.putfield 222, 3) := dk_181 0 222 (dk_at dksX3_counters_1 6 rfl rfl)
theorem dX3_counters_33 : decode cX3_counters 33 = .ok (.iload_n 2, 1) := dk_28 (dk_at dksX3_counters_1 9 rfl rfl)
theorem dX3_counters_34 : decode cX3_counters 34 = .ok (.ireturn, 1) := dk_172 (dk_at dksX3_counters_1 10 rfl rfl)
abbrev cX3_mask : ByteArray := prog_11_method_45_code
def yX3_mask : MethodName := ⟨RX3, "mask", "(II)I"⟩
def dkwX3_mask_1 : List UInt8 := [180, 0, 71, 27, 46, 62, 42, 180, 0, 71, 27, 28, 79, 29, 172]
abbrev dktX3_mask_1 : List UInt8 := dkwX3_mask_1 ++ []
def dkwX3_mask_0 : List UInt8 := [42, 27, 182, 1, 23, 153, 0, 15, 28, 133, 9, 20, 0, 122, 184, 0, 124, 154, 0, 5, 2, 172, 42]
abbrev dktX3_mask_0 : List UInt8 := dkwX3_mask_0 ++ dktX3_mask_1
theorem dksX3_mask_0 : cX3_mask.data.toList.drop 0 = dktX3_mask_0 := by decide +kernel
theorem dksX3_mask_1 : cX3_mask.data.toList.drop 23 = dktX3_mask_1 := dk_seg dksX3_mask_0 23 rfl rfl
theorem dX3_mask_0 : decode cX3_mask 0 = .ok (.aload_n 0, 1) := dk_42 (dk_at dksX3_mask_0 0 rfl rfl)
theorem dX3_mask_1 : decode cX3_mask 1 = .ok (.iload_n 1, 1) := dk_27 (dk_at dksX3_mask_0 1 rfl rfl)
theorem dX3_mask_2 : decode cX3_mask 2 = .ok (.invokevirtual 279, 3) := dk_182 1 23 (dk_at dksX3_mask_0 2 rfl rfl)
theorem dX3_mask_5 : decode cX3_mask 5 = .ok (.ifCond .eq 15, 3) := dk_153 0 15 (dk_at dksX3_mask_0 5 rfl rfl)
theorem dX3_mask_8 : decode cX3_mask 8 = .ok (.iload_n 2, 1) := dk_28 (dk_at dksX3_mask_0 8 rfl rfl)
theorem dX3_mask_9 : decode cX3_mask 9 = .ok (.i2l, 1) := dk_133 (dk_at dksX3_mask_0 9 rfl rfl)
theorem dX3_mask_10 : decode cX3_mask 10 = .ok (.lconst 0, 1) := dk_9 (dk_at dksX3_mask_0 10 rfl rfl)
theorem dX3_mask_11 : decode cX3_mask 11 = .ok (.ldc2_w 122, 3) := dk_20 0 122 (dk_at dksX3_mask_0 11 rfl rfl)
theorem dX3_mask_14 : decode cX3_mask 14 = .ok (.invokestatic 124, 3) := dk_184 0 124 (dk_at dksX3_mask_0 14 rfl rfl)
theorem dX3_mask_17 : decode cX3_mask 17 = .ok (.ifCond .ne 5, 3) := dk_154 0 5 (dk_at dksX3_mask_0 17 rfl rfl)
theorem dX3_mask_20 : decode cX3_mask 20 = .ok (.iconst (-1), 1) := dk_2 (dk_at dksX3_mask_0 20 rfl rfl)
theorem dX3_mask_21 : decode cX3_mask 21 = .ok (.ireturn, 1) := dk_172 (dk_at dksX3_mask_0 21 rfl rfl)
theorem dX3_mask_22 : decode cX3_mask 22 = .ok (.aload_n 0, 1) := dk_42 (dk_at dksX3_mask_0 22 rfl rfl)
theorem dX3_mask_23 : decode cX3_mask 23 = .ok (.getfield 71, 3) := dk_180 0 71 (dk_at dksX3_mask_1 0 rfl rfl)
theorem dX3_mask_26 : decode cX3_mask 26 = .ok (.iload_n 1, 1) := dk_27 (dk_at dksX3_mask_1 3 rfl rfl)
theorem dX3_mask_27 : decode cX3_mask 27 = .ok (.iaload, 1) := dk_46 (dk_at dksX3_mask_1 4 rfl rfl)
theorem dX3_mask_28 : decode cX3_mask 28 = .ok (.istore_n 3, 1) := dk_62 (dk_at dksX3_mask_1 5 rfl rfl)
theorem dX3_mask_29 : decode cX3_mask 29 = .ok (.aload_n 0, 1) := dk_42 (dk_at dksX3_mask_1 6 rfl rfl)
theorem dX3_mask_30 : decode cX3_mask 30 = .ok (.getfield 71, 3) := dk_180 0 71 (dk_at dksX3_mask_1 7 rfl rfl)
theorem dX3_mask_33 : decode cX3_mask 33 = .ok (.iload_n 1, 1) := dk_27 (dk_at dksX3_mask_1 10 rfl rfl)
theorem dX3_mask_34 : decode cX3_mask 34 = .ok (.iload_n 2, 1) := dk_28 (dk_at dksX3_mask_1 11 rfl rfl)
theorem dX3_mask_35 : decode cX3_mask 35 = .ok (.iastore, 1) := dk_79 (dk_at dksX3_mask_1 12 rfl rfl)
theorem dX3_mask_36 : decode cX3_mask 36 = .ok (.iload_n 3, 1) := dk_29 (dk_at dksX3_mask_1 13 rfl rfl)
theorem dX3_mask_37 : decode cX3_mask 37 = .ok (.ireturn, 1) := dk_172 (dk_at dksX3_mask_1 14 rfl rfl)
abbrev cX3_isCounter : ByteArray := prog_11_method_43_code
def yX3_isCounter : MethodName := ⟨RX3, "isCounter", "(I)Z"⟩
def dkwX3_isCounter_0 : List UInt8 := [27, 133, 9, 42, 180, 0, 67, 4, 100, 133, 184, 0, 124, 172]
abbrev dktX3_isCounter_0 : List UInt8 := dkwX3_isCounter_0 ++ []
theorem dksX3_isCounter_0 : cX3_isCounter.data.toList.drop 0 = dktX3_isCounter_0 := by decide +kernel
theorem dX3_isCounter_0 : decode cX3_isCounter 0 = .ok (.iload_n 1, 1) := dk_27 (dk_at dksX3_isCounter_0 0 rfl rfl)
theorem dX3_isCounter_1 : decode cX3_isCounter 1 = .ok (.i2l, 1) := dk_133 (dk_at dksX3_isCounter_0 1 rfl rfl)
theorem dX3_isCounter_2 : decode cX3_isCounter 2 = .ok (.lconst 0, 1) := dk_9 (dk_at dksX3_isCounter_0 2 rfl rfl)
theorem dX3_isCounter_3 : decode cX3_isCounter 3 = .ok (.aload_n 0, 1) := dk_42 (dk_at dksX3_isCounter_0 3 rfl rfl)
theorem dX3_isCounter_4 : decode cX3_isCounter 4 = .ok (.getfield 67, 3) := dk_180 0 67 (dk_at dksX3_isCounter_0 4 rfl rfl)
theorem dX3_isCounter_7 : decode cX3_isCounter 7 = .ok (.iconst 1, 1) := dk_4 (dk_at dksX3_isCounter_0 7 rfl rfl)
theorem dX3_isCounter_8 : decode cX3_isCounter 8 = .ok (.isub, 1) := dk_100 (dk_at dksX3_isCounter_0 8 rfl rfl)
theorem dX3_isCounter_9 : decode cX3_isCounter 9 = .ok (.i2l, 1) := dk_133 (dk_at dksX3_isCounter_0 9 rfl rfl)
theorem dX3_isCounter_10 : decode cX3_isCounter 10 = .ok (.invokestatic 124, 3) := dk_184 0 124 (dk_at dksX3_isCounter_0 10 rfl rfl)
theorem dX3_isCounter_13 : decode cX3_isCounter 13 = .ok (.ireturn, 1) := dk_172 (dk_at dksX3_isCounter_0 13 rfl rfl)
abbrev cX3_width : ByteArray := prog_11_method_46_code
def yX3_width : MethodName := ⟨RX3, "width", "(II)I"⟩
def dkwX3_width_1 : List UInt8 := [42, 180, 0, 74, 27, 46, 62, 42, 180, 0, 74, 27, 28, 79, 29, 172]
abbrev dktX3_width_1 : List UInt8 := dkwX3_width_1 ++ []
def dkwX3_width_0 : List UInt8 := [42, 27, 182, 1, 23, 153, 0, 17, 28, 133, 20, 1, 26, 20, 1, 28, 184, 0, 124, 154, 0, 5, 2, 172]
abbrev dktX3_width_0 : List UInt8 := dkwX3_width_0 ++ dktX3_width_1
theorem dksX3_width_0 : cX3_width.data.toList.drop 0 = dktX3_width_0 := by decide +kernel
theorem dksX3_width_1 : cX3_width.data.toList.drop 24 = dktX3_width_1 := dk_seg dksX3_width_0 24 rfl rfl
theorem dX3_width_0 : decode cX3_width 0 = .ok (.aload_n 0, 1) := dk_42 (dk_at dksX3_width_0 0 rfl rfl)
theorem dX3_width_1 : decode cX3_width 1 = .ok (.iload_n 1, 1) := dk_27 (dk_at dksX3_width_0 1 rfl rfl)
theorem dX3_width_2 : decode cX3_width 2 = .ok (.invokevirtual 279, 3) := dk_182 1 23 (dk_at dksX3_width_0 2 rfl rfl)
theorem dX3_width_5 : decode cX3_width 5 = .ok (.ifCond .eq 17, 3) := dk_153 0 17 (dk_at dksX3_width_0 5 rfl rfl)
theorem dX3_width_8 : decode cX3_width 8 = .ok (.iload_n 2, 1) := dk_28 (dk_at dksX3_width_0 8 rfl rfl)
theorem dX3_width_9 : decode cX3_width 9 = .ok (.i2l, 1) := dk_133 (dk_at dksX3_width_0 9 rfl rfl)
theorem dX3_width_10 : decode cX3_width 10 = .ok (.ldc2_w 282, 3) := dk_20 1 26 (dk_at dksX3_width_0 10 rfl rfl)
theorem dX3_width_13 : decode cX3_width 13 = .ok (.ldc2_w 284, 3) := dk_20 1 28 (dk_at dksX3_width_0 13 rfl rfl)
theorem dX3_width_16 : decode cX3_width 16 = .ok (.invokestatic 124, 3) := dk_184 0 124 (dk_at dksX3_width_0 16 rfl rfl)
theorem dX3_width_19 : decode cX3_width 19 = .ok (.ifCond .ne 5, 3) := dk_154 0 5 (dk_at dksX3_width_0 19 rfl rfl)
theorem dX3_width_22 : decode cX3_width 22 = .ok (.iconst (-1), 1) := dk_2 (dk_at dksX3_width_0 22 rfl rfl)
theorem dX3_width_23 : decode cX3_width 23 = .ok (.ireturn, 1) := dk_172 (dk_at dksX3_width_0 23 rfl rfl)
theorem dX3_width_24 : decode cX3_width 24 = .ok (.aload_n 0, 1) := dk_42 (dk_at dksX3_width_1 0 rfl rfl)
theorem dX3_width_25 : decode cX3_width 25 = .ok (.getfield 74, 3) := dk_180 0 74 (dk_at dksX3_width_1 1 rfl rfl)
theorem dX3_width_28 : decode cX3_width 28 = .ok (.iload_n 1, 1) := dk_27 (dk_at dksX3_width_1 4 rfl rfl)
theorem dX3_width_29 : decode cX3_width 29 = .ok (.iaload, 1) := dk_46 (dk_at dksX3_width_1 5 rfl rfl)
theorem dX3_width_30 : decode cX3_width 30 = .ok (.istore_n 3, 1) := dk_62 (dk_at dksX3_width_1 6 rfl rfl)
theorem dX3_width_31 : decode cX3_width 31 = .ok (.aload_n 0, 1) := dk_42 (dk_at dksX3_width_1 7 rfl rfl)
theorem dX3_width_32 : decode cX3_width 32 = .ok (.getfield 74, 3) := dk_180 0 74 (dk_at dksX3_width_1 8 rfl rfl)
theorem dX3_width_35 : decode cX3_width 35 = .ok (.iload_n 1, 1) := dk_27 (dk_at dksX3_width_1 11 rfl rfl)
theorem dX3_width_36 : decode cX3_width 36 = .ok (.iload_n 2, 1) := dk_28 (dk_at dksX3_width_1 12 rfl rfl)
theorem dX3_width_37 : decode cX3_width 37 = .ok (.iastore, 1) := dk_79 (dk_at dksX3_width_1 13 rfl rfl)
theorem dX3_width_38 : decode cX3_width 38 = .ok (.iload_n 3, 1) := dk_29 (dk_at dksX3_width_1 14 rfl rfl)
theorem dX3_width_39 : decode cX3_width 39 = .ok (.ireturn, 1) := dk_172 (dk_at dksX3_width_1 15 rfl rfl)
abbrev cX3_together : ByteArray := prog_11_method_49_code
def yX3_together : MethodName := ⟨RX3, "together", "(I)I"⟩
def dkwX3_together_1 : List UInt8 := [167, 0, 4, 4, 172]
abbrev dktX3_together_1 : List UInt8 := dkwX3_together_1 ++ []
def dkwX3_together_0 : List UInt8 := [27, 184, 1, 30, 154, 0, 7, 2, 167, 0, 18, 42, 27, 182, 1, 33, 16, 252, 160, 0, 7, 3]
abbrev dktX3_together_0 : List UInt8 := dkwX3_together_0 ++ dktX3_together_1
theorem dksX3_together_0 : cX3_together.data.toList.drop 0 = dktX3_together_0 := by decide +kernel
theorem dksX3_together_1 : cX3_together.data.toList.drop 22 = dktX3_together_1 := dk_seg dksX3_together_0 22 rfl rfl
theorem dX3_together_0 : decode cX3_together 0 = .ok (.iload_n 1, 1) := dk_27 (dk_at dksX3_together_0 0 rfl rfl)
theorem dX3_together_1 : decode cX3_together 1 = .ok (.invokestatic 286, 3) := dk_184 1 30 (dk_at dksX3_together_0 1 rfl rfl)
theorem dX3_together_4 : decode cX3_together 4 = .ok (.ifCond .ne 7, 3) := dk_154 0 7 (dk_at dksX3_together_0 4 rfl rfl)
theorem dX3_together_7 : decode cX3_together 7 = .ok (.iconst (-1), 1) := dk_2 (dk_at dksX3_together_0 7 rfl rfl)
theorem dX3_together_8 : decode cX3_together 8 = .ok (.goto 18, 3) := dk_167 0 18 (dk_at dksX3_together_0 8 rfl rfl)
theorem dX3_together_11 : decode cX3_together 11 = .ok (.aload_n 0, 1) := dk_42 (dk_at dksX3_together_0 11 rfl rfl)
theorem dX3_together_12 : decode cX3_together 12 = .ok (.iload_n 1, 1) := dk_27 (dk_at dksX3_together_0 12 rfl rfl)
theorem dX3_together_13 : decode cX3_together 13 = .ok (.invokevirtual 289, 3) := dk_182 1 33 (dk_at dksX3_together_0 13 rfl rfl)
theorem dX3_together_16 : decode cX3_together 16 = .ok (.bipush (-4), 2) := dk_16 252 (dk_at dksX3_together_0 16 rfl rfl)
theorem dX3_together_18 : decode cX3_together 18 = .ok (.if_icmp .ne 7, 3) := dk_160 0 7 (dk_at dksX3_together_0 18 rfl rfl)
theorem dX3_together_21 : decode cX3_together 21 = .ok (.iconst 0, 1) := dk_3 (dk_at dksX3_together_0 21 rfl rfl)
theorem dX3_together_22 : decode cX3_together 22 = .ok (.goto 4, 3) := dk_167 0 4 (dk_at dksX3_together_1 0 rfl rfl)
theorem dX3_together_25 : decode cX3_together 25 = .ok (.iconst 1, 1) := dk_4 (dk_at dksX3_together_1 3 rfl rfl)
theorem dX3_together_26 : decode cX3_together 26 = .ok (.ireturn, 1) := dk_172 (dk_at dksX3_together_1 4 rfl rfl)
abbrev cX3_areEvents : ByteArray := prog_11_method_48_code
def yX3_areEvents : MethodName := ⟨RX3, "areEvents", "(I)Z"⟩
def dkwX3_areEvents_0 : List UInt8 := [26, 133, 9, 20, 0, 122, 184, 0, 124, 172]
abbrev dktX3_areEvents_0 : List UInt8 := dkwX3_areEvents_0 ++ []
theorem dksX3_areEvents_0 : cX3_areEvents.data.toList.drop 0 = dktX3_areEvents_0 := by decide +kernel
theorem dX3_areEvents_0 : decode cX3_areEvents 0 = .ok (.iload_n 0, 1) := dk_26 (dk_at dksX3_areEvents_0 0 rfl rfl)
theorem dX3_areEvents_1 : decode cX3_areEvents 1 = .ok (.i2l, 1) := dk_133 (dk_at dksX3_areEvents_0 1 rfl rfl)
theorem dX3_areEvents_2 : decode cX3_areEvents 2 = .ok (.lconst 0, 1) := dk_9 (dk_at dksX3_areEvents_0 2 rfl rfl)
theorem dX3_areEvents_3 : decode cX3_areEvents 3 = .ok (.ldc2_w 122, 3) := dk_20 0 122 (dk_at dksX3_areEvents_0 3 rfl rfl)
theorem dX3_areEvents_6 : decode cX3_areEvents 6 = .ok (.invokestatic 124, 3) := dk_184 0 124 (dk_at dksX3_areEvents_0 6 rfl rfl)
theorem dX3_areEvents_9 : decode cX3_areEvents 9 = .ok (.ireturn, 1) := dk_172 (dk_at dksX3_areEvents_0 9 rfl rfl)
abbrev cX3_wayOf : ByteArray := prog_11_method_47_code
def yX3_wayOf : MethodName := ⟨RX3, "wayOf", "(I)I"⟩
def dkwX3_wayOf_6 : List UInt8 := [167, 255, 133, 16, 252, 172]
abbrev dktX3_wayOf_6 : List UInt8 := dkwX3_wayOf_6 ++ []
def dkwX3_wayOf_5 : List UInt8 := [4, 21, 8, 120, 128, 54, 4, 132, 7, 1, 167, 255, 167, 21, 6, 153, 0, 5, 29, 172, 132, 3, 1]
abbrev dktX3_wayOf_5 : List UInt8 := dkwX3_wayOf_5 ++ dktX3_wayOf_6
def dkwX3_wayOf_4 : List UInt8 := [180, 0, 71, 21, 8, 46, 21, 7, 122, 4, 126, 4, 160, 0, 7, 4, 167, 0, 4, 3, 54, 6, 21, 4]
abbrev dktX3_wayOf_4 : List UInt8 := dkwX3_wayOf_4 ++ dktX3_wayOf_5
def dkwX3_wayOf_3 : List UInt8 := [153, 0, 42, 21, 8, 42, 180, 0, 67, 162, 0, 33, 21, 4, 21, 8, 122, 4, 126, 154, 0, 23, 42]
abbrev dktX3_wayOf_3 : List UInt8 := dkwX3_wayOf_3 ++ dktX3_wayOf_4
def dkwX3_wayOf_2 : List UInt8 := [21, 7, 122, 4, 126, 4, 160, 0, 72, 132, 5, 255, 29, 5, 21, 5, 104, 122, 6, 126, 54, 8, 21, 6]
abbrev dktX3_wayOf_2 : List UInt8 := dkwX3_wayOf_2 ++ dktX3_wayOf_3
def dkwX3_wayOf_1 : List UInt8 := [162, 0, 120, 3, 54, 4, 28, 54, 5, 4, 54, 6, 3, 54, 7, 21, 7, 16, 8, 162, 0, 88, 27]
abbrev dktX3_wayOf_1 : List UInt8 := dkwX3_wayOf_1 ++ dktX3_wayOf_2
def dkwX3_wayOf_0 : List UInt8 := [27, 184, 1, 17, 61, 28, 42, 180, 0, 67, 164, 0, 6, 16, 252, 172, 3, 62, 29, 4, 5, 28, 104, 120]
abbrev dktX3_wayOf_0 : List UInt8 := dkwX3_wayOf_0 ++ dktX3_wayOf_1
theorem dksX3_wayOf_0 : cX3_wayOf.data.toList.drop 0 = dktX3_wayOf_0 := by decide +kernel
theorem dksX3_wayOf_1 : cX3_wayOf.data.toList.drop 24 = dktX3_wayOf_1 := dk_seg dksX3_wayOf_0 24 rfl rfl
theorem dksX3_wayOf_2 : cX3_wayOf.data.toList.drop 47 = dktX3_wayOf_2 := dk_seg dksX3_wayOf_1 23 rfl rfl
theorem dksX3_wayOf_3 : cX3_wayOf.data.toList.drop 71 = dktX3_wayOf_3 := dk_seg dksX3_wayOf_2 24 rfl rfl
theorem dksX3_wayOf_4 : cX3_wayOf.data.toList.drop 94 = dktX3_wayOf_4 := dk_seg dksX3_wayOf_3 23 rfl rfl
theorem dksX3_wayOf_5 : cX3_wayOf.data.toList.drop 118 = dktX3_wayOf_5 := dk_seg dksX3_wayOf_4 24 rfl rfl
theorem dksX3_wayOf_6 : cX3_wayOf.data.toList.drop 141 = dktX3_wayOf_6 := dk_seg dksX3_wayOf_5 23 rfl rfl
theorem dX3_wayOf_0 : decode cX3_wayOf 0 = .ok (.iload_n 1, 1) := dk_27 (dk_at dksX3_wayOf_0 0 rfl rfl)
theorem dX3_wayOf_1 : decode cX3_wayOf 1 = .ok (.invokestatic 273, 3) := dk_184 1 17 (dk_at dksX3_wayOf_0 1 rfl rfl)
theorem dX3_wayOf_4 : decode cX3_wayOf 4 = .ok (.istore_n 2, 1) := dk_61 (dk_at dksX3_wayOf_0 4 rfl rfl)
theorem dX3_wayOf_5 : decode cX3_wayOf 5 = .ok (.iload_n 2, 1) := dk_28 (dk_at dksX3_wayOf_0 5 rfl rfl)
theorem dX3_wayOf_6 : decode cX3_wayOf 6 = .ok (.aload_n 0, 1) := dk_42 (dk_at dksX3_wayOf_0 6 rfl rfl)
theorem dX3_wayOf_7 : decode cX3_wayOf 7 = .ok (.getfield 67, 3) := dk_180 0 67 (dk_at dksX3_wayOf_0 7 rfl rfl)
theorem dX3_wayOf_10 : decode cX3_wayOf 10 = .ok (.if_icmp .le 6, 3) := dk_164 0 6 (dk_at dksX3_wayOf_0 10 rfl rfl)
theorem dX3_wayOf_13 : decode cX3_wayOf 13 = .ok (.bipush (-4), 2) := dk_16 252 (dk_at dksX3_wayOf_0 13 rfl rfl)
theorem dX3_wayOf_15 : decode cX3_wayOf 15 = .ok (.ireturn, 1) := dk_172 (dk_at dksX3_wayOf_0 15 rfl rfl)
theorem dX3_wayOf_16 : decode cX3_wayOf 16 = .ok (.iconst 0, 1) := dk_3 (dk_at dksX3_wayOf_0 16 rfl rfl)
theorem dX3_wayOf_17 : decode cX3_wayOf 17 = .ok (.istore_n 3, 1) := dk_62 (dk_at dksX3_wayOf_0 17 rfl rfl)
theorem dX3_wayOf_18 : decode cX3_wayOf 18 = .ok (.iload_n 3, 1) := dk_29 (dk_at dksX3_wayOf_0 18 rfl rfl)
theorem dX3_wayOf_19 : decode cX3_wayOf 19 = .ok (.iconst 1, 1) := dk_4 (dk_at dksX3_wayOf_0 19 rfl rfl)
theorem dX3_wayOf_20 : decode cX3_wayOf 20 = .ok (.iconst 2, 1) := dk_5 (dk_at dksX3_wayOf_0 20 rfl rfl)
theorem dX3_wayOf_21 : decode cX3_wayOf 21 = .ok (.iload_n 2, 1) := dk_28 (dk_at dksX3_wayOf_0 21 rfl rfl)
theorem dX3_wayOf_22 : decode cX3_wayOf 22 = .ok (.imul, 1) := dk_104 (dk_at dksX3_wayOf_0 22 rfl rfl)
theorem dX3_wayOf_23 : decode cX3_wayOf 23 = .ok (.ishl, 1) := dk_120 (dk_at dksX3_wayOf_0 23 rfl rfl)
theorem dX3_wayOf_24 : decode cX3_wayOf 24 = .ok (.if_icmp .ge 120, 3) := dk_162 0 120 (dk_at dksX3_wayOf_1 0 rfl rfl)
theorem dX3_wayOf_27 : decode cX3_wayOf 27 = .ok (.iconst 0, 1) := dk_3 (dk_at dksX3_wayOf_1 3 rfl rfl)
theorem dX3_wayOf_28 : decode cX3_wayOf 28 = .ok (.istore 4, 2) := dk_54 4 (dk_at dksX3_wayOf_1 4 rfl rfl)
theorem dX3_wayOf_30 : decode cX3_wayOf 30 = .ok (.iload_n 2, 1) := dk_28 (dk_at dksX3_wayOf_1 6 rfl rfl)
theorem dX3_wayOf_31 : decode cX3_wayOf 31 = .ok (.istore 5, 2) := dk_54 5 (dk_at dksX3_wayOf_1 7 rfl rfl)
theorem dX3_wayOf_33 : decode cX3_wayOf 33 = .ok (.iconst 1, 1) := dk_4 (dk_at dksX3_wayOf_1 9 rfl rfl)
theorem dX3_wayOf_34 : decode cX3_wayOf 34 = .ok (.istore 6, 2) := dk_54 6 (dk_at dksX3_wayOf_1 10 rfl rfl)
theorem dX3_wayOf_36 : decode cX3_wayOf 36 = .ok (.iconst 0, 1) := dk_3 (dk_at dksX3_wayOf_1 12 rfl rfl)
theorem dX3_wayOf_37 : decode cX3_wayOf 37 = .ok (.istore 7, 2) := dk_54 7 (dk_at dksX3_wayOf_1 13 rfl rfl)
theorem dX3_wayOf_39 : decode cX3_wayOf 39 = .ok (.iload 7, 2) := dk_21 7 (dk_at dksX3_wayOf_1 15 rfl rfl)
theorem dX3_wayOf_41 : decode cX3_wayOf 41 = .ok (.bipush 8, 2) := dk_16 8 (dk_at dksX3_wayOf_1 17 rfl rfl)
theorem dX3_wayOf_43 : decode cX3_wayOf 43 = .ok (.if_icmp .ge 88, 3) := dk_162 0 88 (dk_at dksX3_wayOf_1 19 rfl rfl)
theorem dX3_wayOf_46 : decode cX3_wayOf 46 = .ok (.iload_n 1, 1) := dk_27 (dk_at dksX3_wayOf_1 22 rfl rfl)
theorem dX3_wayOf_47 : decode cX3_wayOf 47 = .ok (.iload 7, 2) := dk_21 7 (dk_at dksX3_wayOf_2 0 rfl rfl)
theorem dX3_wayOf_49 : decode cX3_wayOf 49 = .ok (.ishr, 1) := dk_122 (dk_at dksX3_wayOf_2 2 rfl rfl)
theorem dX3_wayOf_50 : decode cX3_wayOf 50 = .ok (.iconst 1, 1) := dk_4 (dk_at dksX3_wayOf_2 3 rfl rfl)
theorem dX3_wayOf_51 : decode cX3_wayOf 51 = .ok (.iand, 1) := dk_126 (dk_at dksX3_wayOf_2 4 rfl rfl)
theorem dX3_wayOf_52 : decode cX3_wayOf 52 = .ok (.iconst 1, 1) := dk_4 (dk_at dksX3_wayOf_2 5 rfl rfl)
theorem dX3_wayOf_53 : decode cX3_wayOf 53 = .ok (.if_icmp .ne 72, 3) := dk_160 0 72 (dk_at dksX3_wayOf_2 6 rfl rfl)
theorem dX3_wayOf_56 : decode cX3_wayOf 56 = .ok (.iinc 5 (-1), 3) := dk_132 5 255 (dk_at dksX3_wayOf_2 9 rfl rfl)
theorem dX3_wayOf_59 : decode cX3_wayOf 59 = .ok (.iload_n 3, 1) := dk_29 (dk_at dksX3_wayOf_2 12 rfl rfl)
theorem dX3_wayOf_60 : decode cX3_wayOf 60 = .ok (.iconst 2, 1) := dk_5 (dk_at dksX3_wayOf_2 13 rfl rfl)
theorem dX3_wayOf_61 : decode cX3_wayOf 61 = .ok (.iload 5, 2) := dk_21 5 (dk_at dksX3_wayOf_2 14 rfl rfl)
theorem dX3_wayOf_63 : decode cX3_wayOf 63 = .ok (.imul, 1) := dk_104 (dk_at dksX3_wayOf_2 16 rfl rfl)
theorem dX3_wayOf_64 : decode cX3_wayOf 64 = .ok (.ishr, 1) := dk_122 (dk_at dksX3_wayOf_2 17 rfl rfl)
theorem dX3_wayOf_65 : decode cX3_wayOf 65 = .ok (.iconst 3, 1) := dk_6 (dk_at dksX3_wayOf_2 18 rfl rfl)
theorem dX3_wayOf_66 : decode cX3_wayOf 66 = .ok (.iand, 1) := dk_126 (dk_at dksX3_wayOf_2 19 rfl rfl)
theorem dX3_wayOf_67 : decode cX3_wayOf 67 = .ok (.istore 8, 2) := dk_54 8 (dk_at dksX3_wayOf_2 20 rfl rfl)
theorem dX3_wayOf_69 : decode cX3_wayOf 69 = .ok (.iload 6, 2) := dk_21 6 (dk_at dksX3_wayOf_2 22 rfl rfl)
theorem dX3_wayOf_71 : decode cX3_wayOf 71 = .ok (.ifCond .eq 42, 3) := dk_153 0 42 (dk_at dksX3_wayOf_3 0 rfl rfl)
theorem dX3_wayOf_74 : decode cX3_wayOf 74 = .ok (.iload 8, 2) := dk_21 8 (dk_at dksX3_wayOf_3 3 rfl rfl)
theorem dX3_wayOf_76 : decode cX3_wayOf 76 = .ok (.aload_n 0, 1) := dk_42 (dk_at dksX3_wayOf_3 5 rfl rfl)
theorem dX3_wayOf_77 : decode cX3_wayOf 77 = .ok (.getfield 67, 3) := dk_180 0 67 (dk_at dksX3_wayOf_3 6 rfl rfl)
theorem dX3_wayOf_80 : decode cX3_wayOf 80 = .ok (.if_icmp .ge 33, 3) := dk_162 0 33 (dk_at dksX3_wayOf_3 9 rfl rfl)
theorem dX3_wayOf_83 : decode cX3_wayOf 83 = .ok (.iload 4, 2) := dk_21 4 (dk_at dksX3_wayOf_3 12 rfl rfl)
theorem dX3_wayOf_85 : decode cX3_wayOf 85 = .ok (.iload 8, 2) := dk_21 8 (dk_at dksX3_wayOf_3 14 rfl rfl)
theorem dX3_wayOf_87 : decode cX3_wayOf 87 = .ok (.ishr, 1) := dk_122 (dk_at dksX3_wayOf_3 16 rfl rfl)
theorem dX3_wayOf_88 : decode cX3_wayOf 88 = .ok (.iconst 1, 1) := dk_4 (dk_at dksX3_wayOf_3 17 rfl rfl)
theorem dX3_wayOf_89 : decode cX3_wayOf 89 = .ok (.iand, 1) := dk_126 (dk_at dksX3_wayOf_3 18 rfl rfl)
theorem dX3_wayOf_90 : decode cX3_wayOf 90 = .ok (.ifCond .ne 23, 3) := dk_154 0 23 (dk_at dksX3_wayOf_3 19 rfl rfl)
theorem dX3_wayOf_93 : decode cX3_wayOf 93 = .ok (.aload_n 0, 1) := dk_42 (dk_at dksX3_wayOf_3 22 rfl rfl)
theorem dX3_wayOf_94 : decode cX3_wayOf 94 = .ok (.getfield 71, 3) := dk_180 0 71 (dk_at dksX3_wayOf_4 0 rfl rfl)
theorem dX3_wayOf_97 : decode cX3_wayOf 97 = .ok (.iload 8, 2) := dk_21 8 (dk_at dksX3_wayOf_4 3 rfl rfl)
theorem dX3_wayOf_99 : decode cX3_wayOf 99 = .ok (.iaload, 1) := dk_46 (dk_at dksX3_wayOf_4 5 rfl rfl)
theorem dX3_wayOf_100 : decode cX3_wayOf 100 = .ok (.iload 7, 2) := dk_21 7 (dk_at dksX3_wayOf_4 6 rfl rfl)
theorem dX3_wayOf_102 : decode cX3_wayOf 102 = .ok (.ishr, 1) := dk_122 (dk_at dksX3_wayOf_4 8 rfl rfl)
theorem dX3_wayOf_103 : decode cX3_wayOf 103 = .ok (.iconst 1, 1) := dk_4 (dk_at dksX3_wayOf_4 9 rfl rfl)
theorem dX3_wayOf_104 : decode cX3_wayOf 104 = .ok (.iand, 1) := dk_126 (dk_at dksX3_wayOf_4 10 rfl rfl)
theorem dX3_wayOf_105 : decode cX3_wayOf 105 = .ok (.iconst 1, 1) := dk_4 (dk_at dksX3_wayOf_4 11 rfl rfl)
theorem dX3_wayOf_106 : decode cX3_wayOf 106 = .ok (.if_icmp .ne 7, 3) := dk_160 0 7 (dk_at dksX3_wayOf_4 12 rfl rfl)
theorem dX3_wayOf_109 : decode cX3_wayOf 109 = .ok (.iconst 1, 1) := dk_4 (dk_at dksX3_wayOf_4 15 rfl rfl)
theorem dX3_wayOf_110 : decode cX3_wayOf 110 = .ok (.goto 4, 3) := dk_167 0 4 (dk_at dksX3_wayOf_4 16 rfl rfl)
theorem dX3_wayOf_113 : decode cX3_wayOf 113 = .ok (.iconst 0, 1) := dk_3 (dk_at dksX3_wayOf_4 19 rfl rfl)
theorem dX3_wayOf_114 : decode cX3_wayOf 114 = .ok (.istore 6, 2) := dk_54 6 (dk_at dksX3_wayOf_4 20 rfl rfl)
theorem dX3_wayOf_116 : decode cX3_wayOf 116 = .ok (.iload 4, 2) := dk_21 4 (dk_at dksX3_wayOf_4 22 rfl rfl)
theorem dX3_wayOf_118 : decode cX3_wayOf 118 = .ok (.iconst 1, 1) := dk_4 (dk_at dksX3_wayOf_5 0 rfl rfl)
theorem dX3_wayOf_119 : decode cX3_wayOf 119 = .ok (.iload 8, 2) := dk_21 8 (dk_at dksX3_wayOf_5 1 rfl rfl)
theorem dX3_wayOf_121 : decode cX3_wayOf 121 = .ok (.ishl, 1) := dk_120 (dk_at dksX3_wayOf_5 3 rfl rfl)
theorem dX3_wayOf_122 : decode cX3_wayOf 122 = .ok (.ior, 1) := dk_128 (dk_at dksX3_wayOf_5 4 rfl rfl)
theorem dX3_wayOf_123 : decode cX3_wayOf 123 = .ok (.istore 4, 2) := dk_54 4 (dk_at dksX3_wayOf_5 5 rfl rfl)
theorem dX3_wayOf_125 : decode cX3_wayOf 125 = .ok (.iinc 7 1, 3) := dk_132 7 1 (dk_at dksX3_wayOf_5 7 rfl rfl)
theorem dX3_wayOf_128 : decode cX3_wayOf 128 = .ok (.goto (-89), 3) := dk_167 255 167 (dk_at dksX3_wayOf_5 10 rfl rfl)
theorem dX3_wayOf_131 : decode cX3_wayOf 131 = .ok (.iload 6, 2) := dk_21 6 (dk_at dksX3_wayOf_5 13 rfl rfl)
theorem dX3_wayOf_133 : decode cX3_wayOf 133 = .ok (.ifCond .eq 5, 3) := dk_153 0 5 (dk_at dksX3_wayOf_5 15 rfl rfl)
theorem dX3_wayOf_136 : decode cX3_wayOf 136 = .ok (.iload_n 3, 1) := dk_29 (dk_at dksX3_wayOf_5 18 rfl rfl)
theorem dX3_wayOf_137 : decode cX3_wayOf 137 = .ok (.ireturn, 1) := dk_172 (dk_at dksX3_wayOf_5 19 rfl rfl)
theorem dX3_wayOf_138 : decode cX3_wayOf 138 = .ok (.iinc 3 1, 3) := dk_132 3 1 (dk_at dksX3_wayOf_5 20 rfl rfl)
theorem dX3_wayOf_141 : decode cX3_wayOf 141 = .ok (.goto (-123), 3) := dk_167 255 133 (dk_at dksX3_wayOf_6 0 rfl rfl)
theorem dX3_wayOf_144 : decode cX3_wayOf 144 = .ok (.bipush (-4), 2) := dk_16 252 (dk_at dksX3_wayOf_6 3 rfl rfl)
theorem dX3_wayOf_146 : decode cX3_wayOf 146 = .ok (.ireturn, 1) := dk_172 (dk_at dksX3_wayOf_6 5 rfl rfl)
abbrev cX3_goes : ByteArray := prog_11_method_50_code
def yX3_goes : MethodName := ⟨RX3, "goes", "(II)I"⟩
def dkwX3_goes_2 : List UInt8 := [184, 1, 17, 104, 122, 6, 126, 172]
abbrev dktX3_goes_2 : List UInt8 := dkwX3_goes_2 ++ []
def dkwX3_goes_1 : List UInt8 := [42, 27, 182, 1, 33, 62, 29, 16, 252, 160, 0, 8, 16, 252, 167, 0, 17, 29, 5, 27, 28, 4, 96, 122]
abbrev dktX3_goes_1 : List UInt8 := dkwX3_goes_1 ++ dktX3_goes_2
def dkwX3_goes_0 : List UInt8 := [27, 184, 1, 30, 153, 0, 18, 28, 184, 1, 4, 153, 0, 11, 27, 28, 122, 4, 126, 154, 0, 5, 2, 172]
abbrev dktX3_goes_0 : List UInt8 := dkwX3_goes_0 ++ dktX3_goes_1
theorem dksX3_goes_0 : cX3_goes.data.toList.drop 0 = dktX3_goes_0 := by decide +kernel
theorem dksX3_goes_1 : cX3_goes.data.toList.drop 24 = dktX3_goes_1 := dk_seg dksX3_goes_0 24 rfl rfl
theorem dksX3_goes_2 : cX3_goes.data.toList.drop 48 = dktX3_goes_2 := dk_seg dksX3_goes_1 24 rfl rfl
theorem dX3_goes_0 : decode cX3_goes 0 = .ok (.iload_n 1, 1) := dk_27 (dk_at dksX3_goes_0 0 rfl rfl)
theorem dX3_goes_1 : decode cX3_goes 1 = .ok (.invokestatic 286, 3) := dk_184 1 30 (dk_at dksX3_goes_0 1 rfl rfl)
theorem dX3_goes_4 : decode cX3_goes 4 = .ok (.ifCond .eq 18, 3) := dk_153 0 18 (dk_at dksX3_goes_0 4 rfl rfl)
theorem dX3_goes_7 : decode cX3_goes 7 = .ok (.iload_n 2, 1) := dk_28 (dk_at dksX3_goes_0 7 rfl rfl)
theorem dX3_goes_8 : decode cX3_goes 8 = .ok (.invokestatic 260, 3) := dk_184 1 4 (dk_at dksX3_goes_0 8 rfl rfl)
theorem dX3_goes_11 : decode cX3_goes 11 = .ok (.ifCond .eq 11, 3) := dk_153 0 11 (dk_at dksX3_goes_0 11 rfl rfl)
theorem dX3_goes_14 : decode cX3_goes 14 = .ok (.iload_n 1, 1) := dk_27 (dk_at dksX3_goes_0 14 rfl rfl)
theorem dX3_goes_15 : decode cX3_goes 15 = .ok (.iload_n 2, 1) := dk_28 (dk_at dksX3_goes_0 15 rfl rfl)
theorem dX3_goes_16 : decode cX3_goes 16 = .ok (.ishr, 1) := dk_122 (dk_at dksX3_goes_0 16 rfl rfl)
theorem dX3_goes_17 : decode cX3_goes 17 = .ok (.iconst 1, 1) := dk_4 (dk_at dksX3_goes_0 17 rfl rfl)
theorem dX3_goes_18 : decode cX3_goes 18 = .ok (.iand, 1) := dk_126 (dk_at dksX3_goes_0 18 rfl rfl)
theorem dX3_goes_19 : decode cX3_goes 19 = .ok (.ifCond .ne 5, 3) := dk_154 0 5 (dk_at dksX3_goes_0 19 rfl rfl)
theorem dX3_goes_22 : decode cX3_goes 22 = .ok (.iconst (-1), 1) := dk_2 (dk_at dksX3_goes_0 22 rfl rfl)
theorem dX3_goes_23 : decode cX3_goes 23 = .ok (.ireturn, 1) := dk_172 (dk_at dksX3_goes_0 23 rfl rfl)
theorem dX3_goes_24 : decode cX3_goes 24 = .ok (.aload_n 0, 1) := dk_42 (dk_at dksX3_goes_1 0 rfl rfl)
theorem dX3_goes_25 : decode cX3_goes 25 = .ok (.iload_n 1, 1) := dk_27 (dk_at dksX3_goes_1 1 rfl rfl)
theorem dX3_goes_26 : decode cX3_goes 26 = .ok (.invokevirtual 289, 3) := dk_182 1 33 (dk_at dksX3_goes_1 2 rfl rfl)
theorem dX3_goes_29 : decode cX3_goes 29 = .ok (.istore_n 3, 1) := dk_62 (dk_at dksX3_goes_1 5 rfl rfl)
theorem dX3_goes_30 : decode cX3_goes 30 = .ok (.iload_n 3, 1) := dk_29 (dk_at dksX3_goes_1 6 rfl rfl)
theorem dX3_goes_31 : decode cX3_goes 31 = .ok (.bipush (-4), 2) := dk_16 252 (dk_at dksX3_goes_1 7 rfl rfl)
theorem dX3_goes_33 : decode cX3_goes 33 = .ok (.if_icmp .ne 8, 3) := dk_160 0 8 (dk_at dksX3_goes_1 9 rfl rfl)
theorem dX3_goes_36 : decode cX3_goes 36 = .ok (.bipush (-4), 2) := dk_16 252 (dk_at dksX3_goes_1 12 rfl rfl)
theorem dX3_goes_38 : decode cX3_goes 38 = .ok (.goto 17, 3) := dk_167 0 17 (dk_at dksX3_goes_1 14 rfl rfl)
theorem dX3_goes_41 : decode cX3_goes 41 = .ok (.iload_n 3, 1) := dk_29 (dk_at dksX3_goes_1 17 rfl rfl)
theorem dX3_goes_42 : decode cX3_goes 42 = .ok (.iconst 2, 1) := dk_5 (dk_at dksX3_goes_1 18 rfl rfl)
theorem dX3_goes_43 : decode cX3_goes 43 = .ok (.iload_n 1, 1) := dk_27 (dk_at dksX3_goes_1 19 rfl rfl)
theorem dX3_goes_44 : decode cX3_goes 44 = .ok (.iload_n 2, 1) := dk_28 (dk_at dksX3_goes_1 20 rfl rfl)
theorem dX3_goes_45 : decode cX3_goes 45 = .ok (.iconst 1, 1) := dk_4 (dk_at dksX3_goes_1 21 rfl rfl)
theorem dX3_goes_46 : decode cX3_goes 46 = .ok (.iadd, 1) := dk_96 (dk_at dksX3_goes_1 22 rfl rfl)
theorem dX3_goes_47 : decode cX3_goes 47 = .ok (.ishr, 1) := dk_122 (dk_at dksX3_goes_1 23 rfl rfl)
theorem dX3_goes_48 : decode cX3_goes 48 = .ok (.invokestatic 273, 3) := dk_184 1 17 (dk_at dksX3_goes_2 0 rfl rfl)
theorem dX3_goes_51 : decode cX3_goes 51 = .ok (.imul, 1) := dk_104 (dk_at dksX3_goes_2 3 rfl rfl)
theorem dX3_goes_52 : decode cX3_goes 52 = .ok (.ishr, 1) := dk_122 (dk_at dksX3_goes_2 4 rfl rfl)
theorem dX3_goes_53 : decode cX3_goes 53 = .ok (.iconst 3, 1) := dk_6 (dk_at dksX3_goes_2 5 rfl rfl)
theorem dX3_goes_54 : decode cX3_goes 54 = .ok (.iand, 1) := dk_126 (dk_at dksX3_goes_2 6 rfl rfl)
theorem dX3_goes_55 : decode cX3_goes 55 = .ok (.ireturn, 1) := dk_172 (dk_at dksX3_goes_2 7 rfl rfl)
abbrev cX3_rounds : ByteArray := prog_11_method_52_code
def yX3_rounds : MethodName := ⟨RX3, "rounds", "(II)I"⟩
def dkwX3_rounds_3 : List UInt8 := [180, 0, 84, 28, 16, 10, 100, 46, 167, 0, 4, 2, 172]
abbrev dktX3_rounds_3 : List UInt8 := dkwX3_rounds_3 ++ []
def dkwX3_rounds_2 : List UInt8 := [154, 0, 10, 42, 180, 1, 36, 167, 0, 27, 28, 16, 10, 100, 42, 180, 1, 36, 162, 0, 15, 42]
abbrev dktX3_rounds_2 : List UInt8 := dkwX3_rounds_2 ++ dktX3_rounds_3
def dkwX3_rounds_1 : List UInt8 := [154, 0, 5, 2, 172, 42, 27, 182, 1, 39, 42, 180, 1, 36, 16, 252, 160, 0, 6, 16, 252, 172, 28]
abbrev dktX3_rounds_1 : List UInt8 := dkwX3_rounds_1 ++ dktX3_rounds_2
def dkwX3_rounds_0 : List UInt8 := [27, 184, 1, 30, 153, 0, 21, 28, 153, 0, 19, 28, 133, 20, 0, 247, 20, 0, 249, 184, 0, 124]
abbrev dktX3_rounds_0 : List UInt8 := dkwX3_rounds_0 ++ dktX3_rounds_1
theorem dksX3_rounds_0 : cX3_rounds.data.toList.drop 0 = dktX3_rounds_0 := by decide +kernel
theorem dksX3_rounds_1 : cX3_rounds.data.toList.drop 22 = dktX3_rounds_1 := dk_seg dksX3_rounds_0 22 rfl rfl
theorem dksX3_rounds_2 : cX3_rounds.data.toList.drop 45 = dktX3_rounds_2 := dk_seg dksX3_rounds_1 23 rfl rfl
theorem dksX3_rounds_3 : cX3_rounds.data.toList.drop 67 = dktX3_rounds_3 := dk_seg dksX3_rounds_2 22 rfl rfl
theorem dX3_rounds_0 : decode cX3_rounds 0 = .ok (.iload_n 1, 1) := dk_27 (dk_at dksX3_rounds_0 0 rfl rfl)
theorem dX3_rounds_1 : decode cX3_rounds 1 = .ok (.invokestatic 286, 3) := dk_184 1 30 (dk_at dksX3_rounds_0 1 rfl rfl)
theorem dX3_rounds_4 : decode cX3_rounds 4 = .ok (.ifCond .eq 21, 3) := dk_153 0 21 (dk_at dksX3_rounds_0 4 rfl rfl)
theorem dX3_rounds_7 : decode cX3_rounds 7 = .ok (.iload_n 2, 1) := dk_28 (dk_at dksX3_rounds_0 7 rfl rfl)
theorem dX3_rounds_8 : decode cX3_rounds 8 = .ok (.ifCond .eq 19, 3) := dk_153 0 19 (dk_at dksX3_rounds_0 8 rfl rfl)
theorem dX3_rounds_11 : decode cX3_rounds 11 = .ok (.iload_n 2, 1) := dk_28 (dk_at dksX3_rounds_0 11 rfl rfl)
theorem dX3_rounds_12 : decode cX3_rounds 12 = .ok (.i2l, 1) := dk_133 (dk_at dksX3_rounds_0 12 rfl rfl)
theorem dX3_rounds_13 : decode cX3_rounds 13 = .ok (.ldc2_w 247, 3) := dk_20 0 247 (dk_at dksX3_rounds_0 13 rfl rfl)
theorem dX3_rounds_16 : decode cX3_rounds 16 = .ok (.ldc2_w 249, 3) := dk_20 0 249 (dk_at dksX3_rounds_0 16 rfl rfl)
theorem dX3_rounds_19 : decode cX3_rounds 19 = .ok (.invokestatic 124, 3) := dk_184 0 124 (dk_at dksX3_rounds_0 19 rfl rfl)
theorem dX3_rounds_22 : decode cX3_rounds 22 = .ok (.ifCond .ne 5, 3) := dk_154 0 5 (dk_at dksX3_rounds_1 0 rfl rfl)
theorem dX3_rounds_25 : decode cX3_rounds 25 = .ok (.iconst (-1), 1) := dk_2 (dk_at dksX3_rounds_1 3 rfl rfl)
theorem dX3_rounds_26 : decode cX3_rounds 26 = .ok (.ireturn, 1) := dk_172 (dk_at dksX3_rounds_1 4 rfl rfl)
theorem dX3_rounds_27 : decode cX3_rounds 27 = .ok (.aload_n 0, 1) := dk_42 (dk_at dksX3_rounds_1 5 rfl rfl)
theorem dX3_rounds_28 : decode cX3_rounds 28 = .ok (.iload_n 1, 1) := dk_27 (dk_at dksX3_rounds_1 6 rfl rfl)
theorem dX3_rounds_29 : decode cX3_rounds 29 = .ok (.invokevirtual 295, 3) := dk_182 1 39 (dk_at dksX3_rounds_1 7 rfl rfl)
theorem dX3_rounds_32 : decode cX3_rounds 32 = .ok (.aload_n 0, 1) := dk_42 (dk_at dksX3_rounds_1 10 rfl rfl)
theorem dX3_rounds_33 : decode cX3_rounds 33 = .ok (.getfield 292, 3) := dk_180 1 36 (dk_at dksX3_rounds_1 11 rfl rfl)
theorem dX3_rounds_36 : decode cX3_rounds 36 = .ok (.bipush (-4), 2) := dk_16 252 (dk_at dksX3_rounds_1 14 rfl rfl)
theorem dX3_rounds_38 : decode cX3_rounds 38 = .ok (.if_icmp .ne 6, 3) := dk_160 0 6 (dk_at dksX3_rounds_1 16 rfl rfl)
theorem dX3_rounds_41 : decode cX3_rounds 41 = .ok (.bipush (-4), 2) := dk_16 252 (dk_at dksX3_rounds_1 19 rfl rfl)
theorem dX3_rounds_43 : decode cX3_rounds 43 = .ok (.ireturn, 1) := dk_172 (dk_at dksX3_rounds_1 21 rfl rfl)
theorem dX3_rounds_44 : decode cX3_rounds 44 = .ok (.iload_n 2, 1) := dk_28 (dk_at dksX3_rounds_1 22 rfl rfl)
theorem dX3_rounds_45 : decode cX3_rounds 45 = .ok (.ifCond .ne 10, 3) := dk_154 0 10 (dk_at dksX3_rounds_2 0 rfl rfl)
theorem dX3_rounds_48 : decode cX3_rounds 48 = .ok (.aload_n 0, 1) := dk_42 (dk_at dksX3_rounds_2 3 rfl rfl)
theorem dX3_rounds_49 : decode cX3_rounds 49 = .ok (.getfield 292, 3) := dk_180 1 36 (dk_at dksX3_rounds_2 4 rfl rfl)
theorem dX3_rounds_52 : decode cX3_rounds 52 = .ok (.goto 27, 3) := dk_167 0 27 (dk_at dksX3_rounds_2 7 rfl rfl)
theorem dX3_rounds_55 : decode cX3_rounds 55 = .ok (.iload_n 2, 1) := dk_28 (dk_at dksX3_rounds_2 10 rfl rfl)
theorem dX3_rounds_56 : decode cX3_rounds 56 = .ok (.bipush 10, 2) := dk_16 10 (dk_at dksX3_rounds_2 11 rfl rfl)
theorem dX3_rounds_58 : decode cX3_rounds 58 = .ok (.isub, 1) := dk_100 (dk_at dksX3_rounds_2 13 rfl rfl)
theorem dX3_rounds_59 : decode cX3_rounds 59 = .ok (.aload_n 0, 1) := dk_42 (dk_at dksX3_rounds_2 14 rfl rfl)
theorem dX3_rounds_60 : decode cX3_rounds 60 = .ok (.getfield 292, 3) := dk_180 1 36 (dk_at dksX3_rounds_2 15 rfl rfl)
theorem dX3_rounds_63 : decode cX3_rounds 63 = .ok (.if_icmp .ge 15, 3) := dk_162 0 15 (dk_at dksX3_rounds_2 18 rfl rfl)
theorem dX3_rounds_66 : decode cX3_rounds 66 = .ok (.aload_n 0, 1) := dk_42 (dk_at dksX3_rounds_2 21 rfl rfl)
theorem dX3_rounds_67 : decode cX3_rounds 67 = .ok (.getfield 84, 3) := dk_180 0 84 (dk_at dksX3_rounds_3 0 rfl rfl)
theorem dX3_rounds_70 : decode cX3_rounds 70 = .ok (.iload_n 2, 1) := dk_28 (dk_at dksX3_rounds_3 3 rfl rfl)
theorem dX3_rounds_71 : decode cX3_rounds 71 = .ok (.bipush 10, 2) := dk_16 10 (dk_at dksX3_rounds_3 4 rfl rfl)
theorem dX3_rounds_73 : decode cX3_rounds 73 = .ok (.isub, 1) := dk_100 (dk_at dksX3_rounds_3 6 rfl rfl)
theorem dX3_rounds_74 : decode cX3_rounds 74 = .ok (.iaload, 1) := dk_46 (dk_at dksX3_rounds_3 7 rfl rfl)
theorem dX3_rounds_75 : decode cX3_rounds 75 = .ok (.goto 4, 3) := dk_167 0 4 (dk_at dksX3_rounds_3 8 rfl rfl)
theorem dX3_rounds_78 : decode cX3_rounds 78 = .ok (.iconst (-1), 1) := dk_2 (dk_at dksX3_rounds_3 11 rfl rfl)
theorem dX3_rounds_79 : decode cX3_rounds 79 = .ok (.ireturn, 1) := dk_172 (dk_at dksX3_rounds_3 12 rfl rfl)
abbrev cX3_findRounds : ByteArray := prog_11_method_51_code
def yX3_findRounds : MethodName := ⟨RX3, "findRounds", "(I)V"⟩
def dkwX3_findRounds_12 : List UInt8 := [180, 1, 36, 4, 96, 181, 1, 36, 28, 29, 2, 130, 126, 61, 167, 255, 171, 177]
abbrev dktX3_findRounds_12 : List UInt8 := dkwX3_findRounds_12 ++ []
def dkwX3_findRounds_11 : List UInt8 := [28, 46, 159, 0, 9, 132, 3, 1, 167, 255, 206, 42, 180, 0, 84, 42, 180, 1, 36, 29, 79, 42, 89]
abbrev dktX3_findRounds_11 : List UInt8 := dkwX3_findRounds_11 ++ dktX3_findRounds_12
def dkwX3_findRounds_10 : List UInt8 := [180, 0, 80, 29, 51, 153, 0, 24, 42, 180, 0, 77, 28, 29, 2, 130, 126, 46, 4, 96, 42, 180, 0, 77]
abbrev dktX3_findRounds_10 : List UInt8 := dkwX3_findRounds_10 ++ dktX3_findRounds_11
def dkwX3_findRounds_9 : List UInt8 := [28, 153, 0, 87, 4, 62, 29, 28, 2, 130, 126, 154, 0, 42, 29, 28, 28, 116, 126, 126, 153, 0, 33, 42]
abbrev dktX3_findRounds_9 : List UInt8 := dkwX3_findRounds_9 ++ dktX3_findRounds_10
def dkwX3_findRounds_8 : List UInt8 := [16, 252, 167, 0, 4, 3, 181, 1, 36, 42, 180, 1, 36, 16, 252, 160, 0, 7, 3, 167, 0, 4, 27, 61]
abbrev dktX3_findRounds_8 : List UInt8 := dkwX3_findRounds_8 ++ dktX3_findRounds_9
def dkwX3_findRounds_7 : List UInt8 := [132, 4, 1, 167, 255, 159, 132, 2, 1, 167, 255, 130, 42, 42, 180, 0, 77, 27, 46, 16, 99, 161, 0, 8]
abbrev dktX3_findRounds_7 : List UInt8 := dkwX3_findRounds_7 ++ dktX3_findRounds_8
def dkwX3_findRounds_6 : List UInt8 := [180, 0, 77, 28, 21, 4, 2, 130, 126, 46, 4, 96, 167, 0, 9, 42, 180, 0, 77, 28, 46, 79]
abbrev dktX3_findRounds_6 : List UInt8 := dkwX3_findRounds_6 ++ dktX3_findRounds_7
def dkwX3_findRounds_5 : List UInt8 := [180, 0, 77, 28, 21, 4, 2, 130, 126, 46, 4, 96, 42, 180, 0, 77, 28, 46, 162, 0, 19, 42]
abbrev dktX3_findRounds_5 : List UInt8 := dkwX3_findRounds_5 ++ dktX3_findRounds_6
def dkwX3_findRounds_4 : List UInt8 := [21, 4, 51, 153, 0, 7, 4, 167, 0, 4, 3, 54, 5, 42, 180, 0, 77, 28, 21, 5, 153, 0, 41, 42]
abbrev dktX3_findRounds_4 : List UInt8 := dkwX3_findRounds_4 ++ dktX3_findRounds_5
def dkwX3_findRounds_3 : List UInt8 := [28, 163, 0, 97, 21, 4, 28, 2, 130, 126, 154, 0, 24, 21, 4, 29, 126, 153, 0, 17, 42, 180, 0, 80]
abbrev dktX3_findRounds_3 : List UInt8 := dkwX3_findRounds_3 ++ dktX3_findRounds_4
def dkwX3_findRounds_2 : List UInt8 := [17, 1, 0, 162, 0, 125, 42, 180, 0, 77, 28, 16, 99, 79, 28, 28, 116, 126, 62, 4, 54, 4, 21, 4]
abbrev dktX3_findRounds_2 : List UInt8 := dkwX3_findRounds_2 ++ dktX3_findRounds_3
def dkwX3_findRounds_1 : List UInt8 := [4, 167, 0, 4, 3, 84, 132, 2, 1, 167, 255, 225, 42, 180, 0, 77, 3, 3, 79, 4, 61, 28]
abbrev dktX3_findRounds_1 : List UInt8 := dkwX3_findRounds_1 ++ dktX3_findRounds_2
def dkwX3_findRounds_0 : List UInt8 := [3, 61, 28, 17, 1, 0, 162, 0, 30, 42, 180, 0, 80, 28, 42, 28, 182, 1, 33, 16, 252, 159, 0, 7]
abbrev dktX3_findRounds_0 : List UInt8 := dkwX3_findRounds_0 ++ dktX3_findRounds_1
theorem dksX3_findRounds_0 : cX3_findRounds.data.toList.drop 0 = dktX3_findRounds_0 := by decide +kernel
theorem dksX3_findRounds_1 : cX3_findRounds.data.toList.drop 24 = dktX3_findRounds_1 := dk_seg dksX3_findRounds_0 24 rfl rfl
theorem dksX3_findRounds_2 : cX3_findRounds.data.toList.drop 46 = dktX3_findRounds_2 := dk_seg dksX3_findRounds_1 22 rfl rfl
theorem dksX3_findRounds_3 : cX3_findRounds.data.toList.drop 70 = dktX3_findRounds_3 := dk_seg dksX3_findRounds_2 24 rfl rfl
theorem dksX3_findRounds_4 : cX3_findRounds.data.toList.drop 94 = dktX3_findRounds_4 := dk_seg dksX3_findRounds_3 24 rfl rfl
theorem dksX3_findRounds_5 : cX3_findRounds.data.toList.drop 118 = dktX3_findRounds_5 := dk_seg dksX3_findRounds_4 24 rfl rfl
theorem dksX3_findRounds_6 : cX3_findRounds.data.toList.drop 140 = dktX3_findRounds_6 := dk_seg dksX3_findRounds_5 22 rfl rfl
theorem dksX3_findRounds_7 : cX3_findRounds.data.toList.drop 162 = dktX3_findRounds_7 := dk_seg dksX3_findRounds_6 22 rfl rfl
theorem dksX3_findRounds_8 : cX3_findRounds.data.toList.drop 186 = dktX3_findRounds_8 := dk_seg dksX3_findRounds_7 24 rfl rfl
theorem dksX3_findRounds_9 : cX3_findRounds.data.toList.drop 210 = dktX3_findRounds_9 := dk_seg dksX3_findRounds_8 24 rfl rfl
theorem dksX3_findRounds_10 : cX3_findRounds.data.toList.drop 234 = dktX3_findRounds_10 := dk_seg dksX3_findRounds_9 24 rfl rfl
theorem dksX3_findRounds_11 : cX3_findRounds.data.toList.drop 258 = dktX3_findRounds_11 := dk_seg dksX3_findRounds_10 24 rfl rfl
theorem dksX3_findRounds_12 : cX3_findRounds.data.toList.drop 281 = dktX3_findRounds_12 := dk_seg dksX3_findRounds_11 23 rfl rfl
theorem dX3_findRounds_0 : decode cX3_findRounds 0 = .ok (.iconst 0, 1) := dk_3 (dk_at dksX3_findRounds_0 0 rfl rfl)
theorem dX3_findRounds_1 : decode cX3_findRounds 1 = .ok (.istore_n 2, 1) := dk_61 (dk_at dksX3_findRounds_0 1 rfl rfl)
theorem dX3_findRounds_2 : decode cX3_findRounds 2 = .ok (.iload_n 2, 1) := dk_28 (dk_at dksX3_findRounds_0 2 rfl rfl)
theorem dX3_findRounds_3 : decode cX3_findRounds 3 = .ok (.sipush 256, 3) := dk_17 1 0 (dk_at dksX3_findRounds_0 3 rfl rfl)
theorem dX3_findRounds_6 : decode cX3_findRounds 6 = .ok (.if_icmp .ge 30, 3) := dk_162 0 30 (dk_at dksX3_findRounds_0 6 rfl rfl)
theorem dX3_findRounds_9 : decode cX3_findRounds 9 = .ok (.aload_n 0, 1) := dk_42 (dk_at dksX3_findRounds_0 9 rfl rfl)
theorem dX3_findRounds_10 : decode cX3_findRounds 10 = .ok (.getfield 80, 3) := dk_180 0 80 (dk_at dksX3_findRounds_0 10 rfl rfl)
theorem dX3_findRounds_13 : decode cX3_findRounds 13 = .ok (.iload_n 2, 1) := dk_28 (dk_at dksX3_findRounds_0 13 rfl rfl)
theorem dX3_findRounds_14 : decode cX3_findRounds 14 = .ok (.aload_n 0, 1) := dk_42 (dk_at dksX3_findRounds_0 14 rfl rfl)
theorem dX3_findRounds_15 : decode cX3_findRounds 15 = .ok (.iload_n 2, 1) := dk_28 (dk_at dksX3_findRounds_0 15 rfl rfl)
theorem dX3_findRounds_16 : decode cX3_findRounds 16 = .ok (.invokevirtual 289, 3) := dk_182 1 33 (dk_at dksX3_findRounds_0 16 rfl rfl)
theorem dX3_findRounds_19 : decode cX3_findRounds 19 = .ok (.bipush (-4), 2) := dk_16 252 (dk_at dksX3_findRounds_0 19 rfl rfl)
theorem dX3_findRounds_21 : decode cX3_findRounds 21 = .ok (.if_icmp .eq 7, 3) := dk_159 0 7 (dk_at dksX3_findRounds_0 21 rfl rfl)
theorem dX3_findRounds_24 : decode cX3_findRounds 24 = .ok (.iconst 1, 1) := dk_4 (dk_at dksX3_findRounds_1 0 rfl rfl)
theorem dX3_findRounds_25 : decode cX3_findRounds 25 = .ok (.goto 4, 3) := dk_167 0 4 (dk_at dksX3_findRounds_1 1 rfl rfl)
theorem dX3_findRounds_28 : decode cX3_findRounds 28 = .ok (.iconst 0, 1) := dk_3 (dk_at dksX3_findRounds_1 4 rfl rfl)
theorem dX3_findRounds_29 : decode cX3_findRounds 29 = .ok (.bastore, 1) := dk_84 (dk_at dksX3_findRounds_1 5 rfl rfl)
theorem dX3_findRounds_30 : decode cX3_findRounds 30 = .ok (.iinc 2 1, 3) := dk_132 2 1 (dk_at dksX3_findRounds_1 6 rfl rfl)
theorem dX3_findRounds_33 : decode cX3_findRounds 33 = .ok (.goto (-31), 3) := dk_167 255 225 (dk_at dksX3_findRounds_1 9 rfl rfl)
theorem dX3_findRounds_36 : decode cX3_findRounds 36 = .ok (.aload_n 0, 1) := dk_42 (dk_at dksX3_findRounds_1 12 rfl rfl)
theorem dX3_findRounds_37 : decode cX3_findRounds 37 = .ok (.getfield 77, 3) := dk_180 0 77 (dk_at dksX3_findRounds_1 13 rfl rfl)
theorem dX3_findRounds_40 : decode cX3_findRounds 40 = .ok (.iconst 0, 1) := dk_3 (dk_at dksX3_findRounds_1 16 rfl rfl)
theorem dX3_findRounds_41 : decode cX3_findRounds 41 = .ok (.iconst 0, 1) := dk_3 (dk_at dksX3_findRounds_1 17 rfl rfl)
theorem dX3_findRounds_42 : decode cX3_findRounds 42 = .ok (.iastore, 1) := dk_79 (dk_at dksX3_findRounds_1 18 rfl rfl)
theorem dX3_findRounds_43 : decode cX3_findRounds 43 = .ok (.iconst 1, 1) := dk_4 (dk_at dksX3_findRounds_1 19 rfl rfl)
theorem dX3_findRounds_44 : decode cX3_findRounds 44 = .ok (.istore_n 2, 1) := dk_61 (dk_at dksX3_findRounds_1 20 rfl rfl)
theorem dX3_findRounds_45 : decode cX3_findRounds 45 = .ok (.iload_n 2, 1) := dk_28 (dk_at dksX3_findRounds_1 21 rfl rfl)
theorem dX3_findRounds_46 : decode cX3_findRounds 46 = .ok (.sipush 256, 3) := dk_17 1 0 (dk_at dksX3_findRounds_2 0 rfl rfl)
theorem dX3_findRounds_49 : decode cX3_findRounds 49 = .ok (.if_icmp .ge 125, 3) := dk_162 0 125 (dk_at dksX3_findRounds_2 3 rfl rfl)
theorem dX3_findRounds_52 : decode cX3_findRounds 52 = .ok (.aload_n 0, 1) := dk_42 (dk_at dksX3_findRounds_2 6 rfl rfl)
theorem dX3_findRounds_53 : decode cX3_findRounds 53 = .ok (.getfield 77, 3) := dk_180 0 77 (dk_at dksX3_findRounds_2 7 rfl rfl)
theorem dX3_findRounds_56 : decode cX3_findRounds 56 = .ok (.iload_n 2, 1) := dk_28 (dk_at dksX3_findRounds_2 10 rfl rfl)
theorem dX3_findRounds_57 : decode cX3_findRounds 57 = .ok (.bipush 99, 2) := dk_16 99 (dk_at dksX3_findRounds_2 11 rfl rfl)
theorem dX3_findRounds_59 : decode cX3_findRounds 59 = .ok (.iastore, 1) := dk_79 (dk_at dksX3_findRounds_2 13 rfl rfl)
theorem dX3_findRounds_60 : decode cX3_findRounds 60 = .ok (.iload_n 2, 1) := dk_28 (dk_at dksX3_findRounds_2 14 rfl rfl)
theorem dX3_findRounds_61 : decode cX3_findRounds 61 = .ok (.iload_n 2, 1) := dk_28 (dk_at dksX3_findRounds_2 15 rfl rfl)
theorem dX3_findRounds_62 : decode cX3_findRounds 62 = .ok (.ineg, 1) := dk_116 (dk_at dksX3_findRounds_2 16 rfl rfl)
theorem dX3_findRounds_63 : decode cX3_findRounds 63 = .ok (.iand, 1) := dk_126 (dk_at dksX3_findRounds_2 17 rfl rfl)
theorem dX3_findRounds_64 : decode cX3_findRounds 64 = .ok (.istore_n 3, 1) := dk_62 (dk_at dksX3_findRounds_2 18 rfl rfl)
theorem dX3_findRounds_65 : decode cX3_findRounds 65 = .ok (.iconst 1, 1) := dk_4 (dk_at dksX3_findRounds_2 19 rfl rfl)
theorem dX3_findRounds_66 : decode cX3_findRounds 66 = .ok (.istore 4, 2) := dk_54 4 (dk_at dksX3_findRounds_2 20 rfl rfl)
theorem dX3_findRounds_68 : decode cX3_findRounds 68 = .ok (.iload 4, 2) := dk_21 4 (dk_at dksX3_findRounds_2 22 rfl rfl)
theorem dX3_findRounds_70 : decode cX3_findRounds 70 = .ok (.iload_n 2, 1) := dk_28 (dk_at dksX3_findRounds_3 0 rfl rfl)
theorem dX3_findRounds_71 : decode cX3_findRounds 71 = .ok (.if_icmp .gt 97, 3) := dk_163 0 97 (dk_at dksX3_findRounds_3 1 rfl rfl)
theorem dX3_findRounds_74 : decode cX3_findRounds 74 = .ok (.iload 4, 2) := dk_21 4 (dk_at dksX3_findRounds_3 4 rfl rfl)
theorem dX3_findRounds_76 : decode cX3_findRounds 76 = .ok (.iload_n 2, 1) := dk_28 (dk_at dksX3_findRounds_3 6 rfl rfl)
theorem dX3_findRounds_77 : decode cX3_findRounds 77 = .ok (.iconst (-1), 1) := dk_2 (dk_at dksX3_findRounds_3 7 rfl rfl)
theorem dX3_findRounds_78 : decode cX3_findRounds 78 = .ok (.ixor, 1) := dk_130 (dk_at dksX3_findRounds_3 8 rfl rfl)
theorem dX3_findRounds_79 : decode cX3_findRounds 79 = .ok (.iand, 1) := dk_126 (dk_at dksX3_findRounds_3 9 rfl rfl)
theorem dX3_findRounds_80 : decode cX3_findRounds 80 = .ok (.ifCond .ne 24, 3) := dk_154 0 24 (dk_at dksX3_findRounds_3 10 rfl rfl)
theorem dX3_findRounds_83 : decode cX3_findRounds 83 = .ok (.iload 4, 2) := dk_21 4 (dk_at dksX3_findRounds_3 13 rfl rfl)
theorem dX3_findRounds_85 : decode cX3_findRounds 85 = .ok (.iload_n 3, 1) := dk_29 (dk_at dksX3_findRounds_3 15 rfl rfl)
theorem dX3_findRounds_86 : decode cX3_findRounds 86 = .ok (.iand, 1) := dk_126 (dk_at dksX3_findRounds_3 16 rfl rfl)
theorem dX3_findRounds_87 : decode cX3_findRounds 87 = .ok (.ifCond .eq 17, 3) := dk_153 0 17 (dk_at dksX3_findRounds_3 17 rfl rfl)
theorem dX3_findRounds_90 : decode cX3_findRounds 90 = .ok (.aload_n 0, 1) := dk_42 (dk_at dksX3_findRounds_3 20 rfl rfl)
theorem dX3_findRounds_91 : decode cX3_findRounds 91 = .ok (.getfield 80, 3) := dk_180 0 80 (dk_at dksX3_findRounds_3 21 rfl rfl)
theorem dX3_findRounds_94 : decode cX3_findRounds 94 = .ok (.iload 4, 2) := dk_21 4 (dk_at dksX3_findRounds_4 0 rfl rfl)
theorem dX3_findRounds_96 : decode cX3_findRounds 96 = .ok (.baload, 1) := dk_51 (dk_at dksX3_findRounds_4 2 rfl rfl)
theorem dX3_findRounds_97 : decode cX3_findRounds 97 = .ok (.ifCond .eq 7, 3) := dk_153 0 7 (dk_at dksX3_findRounds_4 3 rfl rfl)
theorem dX3_findRounds_100 : decode cX3_findRounds 100 = .ok (.iconst 1, 1) := dk_4 (dk_at dksX3_findRounds_4 6 rfl rfl)
theorem dX3_findRounds_101 : decode cX3_findRounds 101 = .ok (.goto 4, 3) := dk_167 0 4 (dk_at dksX3_findRounds_4 7 rfl rfl)
theorem dX3_findRounds_104 : decode cX3_findRounds 104 = .ok (.iconst 0, 1) := dk_3 (dk_at dksX3_findRounds_4 10 rfl rfl)
theorem dX3_findRounds_105 : decode cX3_findRounds 105 = .ok (.istore 5, 2) := dk_54 5 (dk_at dksX3_findRounds_4 11 rfl rfl)
theorem dX3_findRounds_107 : decode cX3_findRounds 107 = .ok (.aload_n 0, 1) := dk_42 (dk_at dksX3_findRounds_4 13 rfl rfl)
theorem dX3_findRounds_108 : decode cX3_findRounds 108 = .ok (.getfield 77, 3) := dk_180 0 77 (dk_at dksX3_findRounds_4 14 rfl rfl)
theorem dX3_findRounds_111 : decode cX3_findRounds 111 = .ok (.iload_n 2, 1) := dk_28 (dk_at dksX3_findRounds_4 17 rfl rfl)
theorem dX3_findRounds_112 : decode cX3_findRounds 112 = .ok (.iload 5, 2) := dk_21 5 (dk_at dksX3_findRounds_4 18 rfl rfl)
theorem dX3_findRounds_114 : decode cX3_findRounds 114 = .ok (.ifCond .eq 41, 3) := dk_153 0 41 (dk_at dksX3_findRounds_4 20 rfl rfl)
theorem dX3_findRounds_117 : decode cX3_findRounds 117 = .ok (.aload_n 0, 1) := dk_42 (dk_at dksX3_findRounds_4 23 rfl rfl)
theorem dX3_findRounds_118 : decode cX3_findRounds 118 = .ok (.getfield 77, 3) := dk_180 0 77 (dk_at dksX3_findRounds_5 0 rfl rfl)
theorem dX3_findRounds_121 : decode cX3_findRounds 121 = .ok (.iload_n 2, 1) := dk_28 (dk_at dksX3_findRounds_5 3 rfl rfl)
theorem dX3_findRounds_122 : decode cX3_findRounds 122 = .ok (.iload 4, 2) := dk_21 4 (dk_at dksX3_findRounds_5 4 rfl rfl)
theorem dX3_findRounds_124 : decode cX3_findRounds 124 = .ok (.iconst (-1), 1) := dk_2 (dk_at dksX3_findRounds_5 6 rfl rfl)
theorem dX3_findRounds_125 : decode cX3_findRounds 125 = .ok (.ixor, 1) := dk_130 (dk_at dksX3_findRounds_5 7 rfl rfl)
theorem dX3_findRounds_126 : decode cX3_findRounds 126 = .ok (.iand, 1) := dk_126 (dk_at dksX3_findRounds_5 8 rfl rfl)
theorem dX3_findRounds_127 : decode cX3_findRounds 127 = .ok (.iaload, 1) := dk_46 (dk_at dksX3_findRounds_5 9 rfl rfl)
theorem dX3_findRounds_128 : decode cX3_findRounds 128 = .ok (.iconst 1, 1) := dk_4 (dk_at dksX3_findRounds_5 10 rfl rfl)
theorem dX3_findRounds_129 : decode cX3_findRounds 129 = .ok (.iadd, 1) := dk_96 (dk_at dksX3_findRounds_5 11 rfl rfl)
theorem dX3_findRounds_130 : decode cX3_findRounds 130 = .ok (.aload_n 0, 1) := dk_42 (dk_at dksX3_findRounds_5 12 rfl rfl)
theorem dX3_findRounds_131 : decode cX3_findRounds 131 = .ok (.getfield 77, 3) := dk_180 0 77 (dk_at dksX3_findRounds_5 13 rfl rfl)
theorem dX3_findRounds_134 : decode cX3_findRounds 134 = .ok (.iload_n 2, 1) := dk_28 (dk_at dksX3_findRounds_5 16 rfl rfl)
theorem dX3_findRounds_135 : decode cX3_findRounds 135 = .ok (.iaload, 1) := dk_46 (dk_at dksX3_findRounds_5 17 rfl rfl)
theorem dX3_findRounds_136 : decode cX3_findRounds 136 = .ok (.if_icmp .ge 19, 3) := dk_162 0 19 (dk_at dksX3_findRounds_5 18 rfl rfl)
theorem dX3_findRounds_139 : decode cX3_findRounds 139 = .ok (.aload_n 0, 1) := dk_42 (dk_at dksX3_findRounds_5 21 rfl rfl)
theorem dX3_findRounds_140 : decode cX3_findRounds 140 = .ok (.getfield 77, 3) := dk_180 0 77 (dk_at dksX3_findRounds_6 0 rfl rfl)
theorem dX3_findRounds_143 : decode cX3_findRounds 143 = .ok (.iload_n 2, 1) := dk_28 (dk_at dksX3_findRounds_6 3 rfl rfl)
theorem dX3_findRounds_144 : decode cX3_findRounds 144 = .ok (.iload 4, 2) := dk_21 4 (dk_at dksX3_findRounds_6 4 rfl rfl)
theorem dX3_findRounds_146 : decode cX3_findRounds 146 = .ok (.iconst (-1), 1) := dk_2 (dk_at dksX3_findRounds_6 6 rfl rfl)
theorem dX3_findRounds_147 : decode cX3_findRounds 147 = .ok (.ixor, 1) := dk_130 (dk_at dksX3_findRounds_6 7 rfl rfl)
theorem dX3_findRounds_148 : decode cX3_findRounds 148 = .ok (.iand, 1) := dk_126 (dk_at dksX3_findRounds_6 8 rfl rfl)
theorem dX3_findRounds_149 : decode cX3_findRounds 149 = .ok (.iaload, 1) := dk_46 (dk_at dksX3_findRounds_6 9 rfl rfl)
theorem dX3_findRounds_150 : decode cX3_findRounds 150 = .ok (.iconst 1, 1) := dk_4 (dk_at dksX3_findRounds_6 10 rfl rfl)
theorem dX3_findRounds_151 : decode cX3_findRounds 151 = .ok (.iadd, 1) := dk_96 (dk_at dksX3_findRounds_6 11 rfl rfl)
theorem dX3_findRounds_152 : decode cX3_findRounds 152 = .ok (.goto 9, 3) := dk_167 0 9 (dk_at dksX3_findRounds_6 12 rfl rfl)
theorem dX3_findRounds_155 : decode cX3_findRounds 155 = .ok (.aload_n 0, 1) := dk_42 (dk_at dksX3_findRounds_6 15 rfl rfl)
theorem dX3_findRounds_156 : decode cX3_findRounds 156 = .ok (.getfield 77, 3) := dk_180 0 77 (dk_at dksX3_findRounds_6 16 rfl rfl)
theorem dX3_findRounds_159 : decode cX3_findRounds 159 = .ok (.iload_n 2, 1) := dk_28 (dk_at dksX3_findRounds_6 19 rfl rfl)
theorem dX3_findRounds_160 : decode cX3_findRounds 160 = .ok (.iaload, 1) := dk_46 (dk_at dksX3_findRounds_6 20 rfl rfl)
theorem dX3_findRounds_161 : decode cX3_findRounds 161 = .ok (.iastore, 1) := dk_79 (dk_at dksX3_findRounds_6 21 rfl rfl)
theorem dX3_findRounds_162 : decode cX3_findRounds 162 = .ok (.iinc 4 1, 3) := dk_132 4 1 (dk_at dksX3_findRounds_7 0 rfl rfl)
theorem dX3_findRounds_165 : decode cX3_findRounds 165 = .ok (.goto (-97), 3) := dk_167 255 159 (dk_at dksX3_findRounds_7 3 rfl rfl)
theorem dX3_findRounds_168 : decode cX3_findRounds 168 = .ok (.iinc 2 1, 3) := dk_132 2 1 (dk_at dksX3_findRounds_7 6 rfl rfl)
theorem dX3_findRounds_171 : decode cX3_findRounds 171 = .ok (.goto (-126), 3) := dk_167 255 130 (dk_at dksX3_findRounds_7 9 rfl rfl)
theorem dX3_findRounds_174 : decode cX3_findRounds 174 = .ok (.aload_n 0, 1) := dk_42 (dk_at dksX3_findRounds_7 12 rfl rfl)
theorem dX3_findRounds_175 : decode cX3_findRounds 175 = .ok (.aload_n 0, 1) := dk_42 (dk_at dksX3_findRounds_7 13 rfl rfl)
theorem dX3_findRounds_176 : decode cX3_findRounds 176 = .ok (.getfield 77, 3) := dk_180 0 77 (dk_at dksX3_findRounds_7 14 rfl rfl)
theorem dX3_findRounds_179 : decode cX3_findRounds 179 = .ok (.iload_n 1, 1) := dk_27 (dk_at dksX3_findRounds_7 17 rfl rfl)
theorem dX3_findRounds_180 : decode cX3_findRounds 180 = .ok (.iaload, 1) := dk_46 (dk_at dksX3_findRounds_7 18 rfl rfl)
theorem dX3_findRounds_181 : decode cX3_findRounds 181 = .ok (.bipush 99, 2) := dk_16 99 (dk_at dksX3_findRounds_7 19 rfl rfl)
theorem dX3_findRounds_183 : decode cX3_findRounds 183 = .ok (.if_icmp .lt 8, 3) := dk_161 0 8 (dk_at dksX3_findRounds_7 21 rfl rfl)
theorem dX3_findRounds_186 : decode cX3_findRounds 186 = .ok (.bipush (-4), 2) := dk_16 252 (dk_at dksX3_findRounds_8 0 rfl rfl)
theorem dX3_findRounds_188 : decode cX3_findRounds 188 = .ok (.goto 4, 3) := dk_167 0 4 (dk_at dksX3_findRounds_8 2 rfl rfl)
theorem dX3_findRounds_191 : decode cX3_findRounds 191 = .ok (.iconst 0, 1) := dk_3 (dk_at dksX3_findRounds_8 5 rfl rfl)
theorem dX3_findRounds_192 : decode cX3_findRounds 192 = .ok (.putfield 292, 3) := dk_181 1 36 (dk_at dksX3_findRounds_8 6 rfl rfl)
theorem dX3_findRounds_195 : decode cX3_findRounds 195 = .ok (.aload_n 0, 1) := dk_42 (dk_at dksX3_findRounds_8 9 rfl rfl)
theorem dX3_findRounds_196 : decode cX3_findRounds 196 = .ok (.getfield 292, 3) := dk_180 1 36 (dk_at dksX3_findRounds_8 10 rfl rfl)
theorem dX3_findRounds_199 : decode cX3_findRounds 199 = .ok (.bipush (-4), 2) := dk_16 252 (dk_at dksX3_findRounds_8 13 rfl rfl)
theorem dX3_findRounds_201 : decode cX3_findRounds 201 = .ok (.if_icmp .ne 7, 3) := dk_160 0 7 (dk_at dksX3_findRounds_8 15 rfl rfl)
theorem dX3_findRounds_204 : decode cX3_findRounds 204 = .ok (.iconst 0, 1) := dk_3 (dk_at dksX3_findRounds_8 18 rfl rfl)
theorem dX3_findRounds_205 : decode cX3_findRounds 205 = .ok (.goto 4, 3) := dk_167 0 4 (dk_at dksX3_findRounds_8 19 rfl rfl)
theorem dX3_findRounds_208 : decode cX3_findRounds 208 = .ok (.iload_n 1, 1) := dk_27 (dk_at dksX3_findRounds_8 22 rfl rfl)
theorem dX3_findRounds_209 : decode cX3_findRounds 209 = .ok (.istore_n 2, 1) := dk_61 (dk_at dksX3_findRounds_8 23 rfl rfl)
theorem dX3_findRounds_210 : decode cX3_findRounds 210 = .ok (.iload_n 2, 1) := dk_28 (dk_at dksX3_findRounds_9 0 rfl rfl)
theorem dX3_findRounds_211 : decode cX3_findRounds 211 = .ok (.ifCond .eq 87, 3) := dk_153 0 87 (dk_at dksX3_findRounds_9 1 rfl rfl)
theorem dX3_findRounds_214 : decode cX3_findRounds 214 = .ok (.iconst 1, 1) := dk_4 (dk_at dksX3_findRounds_9 4 rfl rfl)
theorem dX3_findRounds_215 : decode cX3_findRounds 215 = .ok (.istore_n 3, 1) := dk_62 (dk_at dksX3_findRounds_9 5 rfl rfl)
theorem dX3_findRounds_216 : decode cX3_findRounds 216 = .ok (.iload_n 3, 1) := dk_29 (dk_at dksX3_findRounds_9 6 rfl rfl)
theorem dX3_findRounds_217 : decode cX3_findRounds 217 = .ok (.iload_n 2, 1) := dk_28 (dk_at dksX3_findRounds_9 7 rfl rfl)
theorem dX3_findRounds_218 : decode cX3_findRounds 218 = .ok (.iconst (-1), 1) := dk_2 (dk_at dksX3_findRounds_9 8 rfl rfl)
theorem dX3_findRounds_219 : decode cX3_findRounds 219 = .ok (.ixor, 1) := dk_130 (dk_at dksX3_findRounds_9 9 rfl rfl)
theorem dX3_findRounds_220 : decode cX3_findRounds 220 = .ok (.iand, 1) := dk_126 (dk_at dksX3_findRounds_9 10 rfl rfl)
theorem dX3_findRounds_221 : decode cX3_findRounds 221 = .ok (.ifCond .ne 42, 3) := dk_154 0 42 (dk_at dksX3_findRounds_9 11 rfl rfl)
theorem dX3_findRounds_224 : decode cX3_findRounds 224 = .ok (.iload_n 3, 1) := dk_29 (dk_at dksX3_findRounds_9 14 rfl rfl)
theorem dX3_findRounds_225 : decode cX3_findRounds 225 = .ok (.iload_n 2, 1) := dk_28 (dk_at dksX3_findRounds_9 15 rfl rfl)
theorem dX3_findRounds_226 : decode cX3_findRounds 226 = .ok (.iload_n 2, 1) := dk_28 (dk_at dksX3_findRounds_9 16 rfl rfl)
theorem dX3_findRounds_227 : decode cX3_findRounds 227 = .ok (.ineg, 1) := dk_116 (dk_at dksX3_findRounds_9 17 rfl rfl)
theorem dX3_findRounds_228 : decode cX3_findRounds 228 = .ok (.iand, 1) := dk_126 (dk_at dksX3_findRounds_9 18 rfl rfl)
theorem dX3_findRounds_229 : decode cX3_findRounds 229 = .ok (.iand, 1) := dk_126 (dk_at dksX3_findRounds_9 19 rfl rfl)
theorem dX3_findRounds_230 : decode cX3_findRounds 230 = .ok (.ifCond .eq 33, 3) := dk_153 0 33 (dk_at dksX3_findRounds_9 20 rfl rfl)
theorem dX3_findRounds_233 : decode cX3_findRounds 233 = .ok (.aload_n 0, 1) := dk_42 (dk_at dksX3_findRounds_9 23 rfl rfl)
theorem dX3_findRounds_234 : decode cX3_findRounds 234 = .ok (.getfield 80, 3) := dk_180 0 80 (dk_at dksX3_findRounds_10 0 rfl rfl)
theorem dX3_findRounds_237 : decode cX3_findRounds 237 = .ok (.iload_n 3, 1) := dk_29 (dk_at dksX3_findRounds_10 3 rfl rfl)
theorem dX3_findRounds_238 : decode cX3_findRounds 238 = .ok (.baload, 1) := dk_51 (dk_at dksX3_findRounds_10 4 rfl rfl)
theorem dX3_findRounds_239 : decode cX3_findRounds 239 = .ok (.ifCond .eq 24, 3) := dk_153 0 24 (dk_at dksX3_findRounds_10 5 rfl rfl)
theorem dX3_findRounds_242 : decode cX3_findRounds 242 = .ok (.aload_n 0, 1) := dk_42 (dk_at dksX3_findRounds_10 8 rfl rfl)
theorem dX3_findRounds_243 : decode cX3_findRounds 243 = .ok (.getfield 77, 3) := dk_180 0 77 (dk_at dksX3_findRounds_10 9 rfl rfl)
theorem dX3_findRounds_246 : decode cX3_findRounds 246 = .ok (.iload_n 2, 1) := dk_28 (dk_at dksX3_findRounds_10 12 rfl rfl)
theorem dX3_findRounds_247 : decode cX3_findRounds 247 = .ok (.iload_n 3, 1) := dk_29 (dk_at dksX3_findRounds_10 13 rfl rfl)
theorem dX3_findRounds_248 : decode cX3_findRounds 248 = .ok (.iconst (-1), 1) := dk_2 (dk_at dksX3_findRounds_10 14 rfl rfl)
theorem dX3_findRounds_249 : decode cX3_findRounds 249 = .ok (.ixor, 1) := dk_130 (dk_at dksX3_findRounds_10 15 rfl rfl)
theorem dX3_findRounds_250 : decode cX3_findRounds 250 = .ok (.iand, 1) := dk_126 (dk_at dksX3_findRounds_10 16 rfl rfl)
theorem dX3_findRounds_251 : decode cX3_findRounds 251 = .ok (.iaload, 1) := dk_46 (dk_at dksX3_findRounds_10 17 rfl rfl)
theorem dX3_findRounds_252 : decode cX3_findRounds 252 = .ok (.iconst 1, 1) := dk_4 (dk_at dksX3_findRounds_10 18 rfl rfl)
theorem dX3_findRounds_253 : decode cX3_findRounds 253 = .ok (.iadd, 1) := dk_96 (dk_at dksX3_findRounds_10 19 rfl rfl)
theorem dX3_findRounds_254 : decode cX3_findRounds 254 = .ok (.aload_n 0, 1) := dk_42 (dk_at dksX3_findRounds_10 20 rfl rfl)
theorem dX3_findRounds_255 : decode cX3_findRounds 255 = .ok (.getfield 77, 3) := dk_180 0 77 (dk_at dksX3_findRounds_10 21 rfl rfl)
theorem dX3_findRounds_258 : decode cX3_findRounds 258 = .ok (.iload_n 2, 1) := dk_28 (dk_at dksX3_findRounds_11 0 rfl rfl)
theorem dX3_findRounds_259 : decode cX3_findRounds 259 = .ok (.iaload, 1) := dk_46 (dk_at dksX3_findRounds_11 1 rfl rfl)
theorem dX3_findRounds_260 : decode cX3_findRounds 260 = .ok (.if_icmp .eq 9, 3) := dk_159 0 9 (dk_at dksX3_findRounds_11 2 rfl rfl)
theorem dX3_findRounds_263 : decode cX3_findRounds 263 = .ok (.iinc 3 1, 3) := dk_132 3 1 (dk_at dksX3_findRounds_11 5 rfl rfl)
theorem dX3_findRounds_266 : decode cX3_findRounds 266 = .ok (.goto (-50), 3) := dk_167 255 206 (dk_at dksX3_findRounds_11 8 rfl rfl)
theorem dX3_findRounds_269 : decode cX3_findRounds 269 = .ok (.aload_n 0, 1) := dk_42 (dk_at dksX3_findRounds_11 11 rfl rfl)
theorem dX3_findRounds_270 : decode cX3_findRounds 270 = .ok (.getfield 84, 3) := dk_180 0 84 (dk_at dksX3_findRounds_11 12 rfl rfl)
theorem dX3_findRounds_273 : decode cX3_findRounds 273 = .ok (.aload_n 0, 1) := dk_42 (dk_at dksX3_findRounds_11 15 rfl rfl)
theorem dX3_findRounds_274 : decode cX3_findRounds 274 = .ok (.getfield 292, 3) := dk_180 1 36 (dk_at dksX3_findRounds_11 16 rfl rfl)
theorem dX3_findRounds_277 : decode cX3_findRounds 277 = .ok (.iload_n 3, 1) := dk_29 (dk_at dksX3_findRounds_11 19 rfl rfl)
theorem dX3_findRounds_278 : decode cX3_findRounds 278 = .ok (.iastore, 1) := dk_79 (dk_at dksX3_findRounds_11 20 rfl rfl)
theorem dX3_findRounds_279 : decode cX3_findRounds 279 = .ok (.aload_n 0, 1) := dk_42 (dk_at dksX3_findRounds_11 21 rfl rfl)
theorem dX3_findRounds_280 : decode cX3_findRounds 280 = .ok (.dup, 1) := dk_89 (dk_at dksX3_findRounds_11 22 rfl rfl)
theorem dX3_findRounds_281 : decode cX3_findRounds 281 = .ok (.getfield 292, 3) := dk_180 1 36 (dk_at dksX3_findRounds_12 0 rfl rfl)
theorem dX3_findRounds_284 : decode cX3_findRounds 284 = .ok (.iconst 1, 1) := dk_4 (dk_at dksX3_findRounds_12 3 rfl rfl)
theorem dX3_findRounds_285 : decode cX3_findRounds 285 = .ok (.iadd, 1) := dk_96 (dk_at dksX3_findRounds_12 4 rfl rfl)
theorem dX3_findRounds_286 : decode cX3_findRounds 286 = .ok (.putfield 292, 3) := dk_181 1 36 (dk_at dksX3_findRounds_12 5 rfl rfl)
theorem dX3_findRounds_289 : decode cX3_findRounds 289 = .ok (.iload_n 2, 1) := dk_28 (dk_at dksX3_findRounds_12 8 rfl rfl)
theorem dX3_findRounds_290 : decode cX3_findRounds 290 = .ok (.iload_n 3, 1) := dk_29 (dk_at dksX3_findRounds_12 9 rfl rfl)
theorem dX3_findRounds_291 : decode cX3_findRounds 291 = .ok (.iconst (-1), 1) := dk_2 (dk_at dksX3_findRounds_12 10 rfl rfl)
theorem dX3_findRounds_292 : decode cX3_findRounds 292 = .ok (.ixor, 1) := dk_130 (dk_at dksX3_findRounds_12 11 rfl rfl)
theorem dX3_findRounds_293 : decode cX3_findRounds 293 = .ok (.iand, 1) := dk_126 (dk_at dksX3_findRounds_12 12 rfl rfl)
theorem dX3_findRounds_294 : decode cX3_findRounds 294 = .ok (.istore_n 2, 1) := dk_61 (dk_at dksX3_findRounds_12 13 rfl rfl)
theorem dX3_findRounds_295 : decode cX3_findRounds 295 = .ok (.goto (-85), 3) := dk_167 255 171 (dk_at dksX3_findRounds_12 14 rfl rfl)
theorem dX3_findRounds_298 : decode cX3_findRounds 298 = .ok (.return_, 1) := dk_177 (dk_at dksX3_findRounds_12 17 rfl rfl)
abbrev cX3_sliced : ByteArray := prog_11_method_56_code
def yX3_sliced : MethodName := ⟨RX3, "sliced", "(IIII)I"⟩
def dkwX3_sliced_2 : List UInt8 := [21, 4, 154, 0, 10, 42, 180, 1, 47, 167, 0, 7, 42, 180, 1, 51, 136, 172]
abbrev dktX3_sliced_2 : List UInt8 := dkwX3_sliced_2 ++ []
def dkwX3_sliced_1 : List UInt8 := [10, 184, 0, 124, 154, 0, 5, 2, 172, 42, 27, 28, 29, 182, 1, 59, 154, 0, 8, 16, 252, 167, 0, 20]
abbrev dktX3_sliced_1 : List UInt8 := dkwX3_sliced_1 ++ dktX3_sliced_2
def dkwX3_sliced_0 : List UInt8 := [27, 29, 184, 1, 54, 153, 0, 26, 28, 133, 10, 20, 1, 57, 184, 0, 124, 153, 0, 14, 21, 4, 133, 9]
abbrev dktX3_sliced_0 : List UInt8 := dkwX3_sliced_0 ++ dktX3_sliced_1
theorem dksX3_sliced_0 : cX3_sliced.data.toList.drop 0 = dktX3_sliced_0 := by decide +kernel
theorem dksX3_sliced_1 : cX3_sliced.data.toList.drop 24 = dktX3_sliced_1 := dk_seg dksX3_sliced_0 24 rfl rfl
theorem dksX3_sliced_2 : cX3_sliced.data.toList.drop 48 = dktX3_sliced_2 := dk_seg dksX3_sliced_1 24 rfl rfl
theorem dX3_sliced_0 : decode cX3_sliced 0 = .ok (.iload_n 1, 1) := dk_27 (dk_at dksX3_sliced_0 0 rfl rfl)
theorem dX3_sliced_1 : decode cX3_sliced 1 = .ok (.iload_n 3, 1) := dk_29 (dk_at dksX3_sliced_0 1 rfl rfl)
theorem dX3_sliced_2 : decode cX3_sliced 2 = .ok (.invokestatic 310, 3) := dk_184 1 54 (dk_at dksX3_sliced_0 2 rfl rfl)
theorem dX3_sliced_5 : decode cX3_sliced 5 = .ok (.ifCond .eq 26, 3) := dk_153 0 26 (dk_at dksX3_sliced_0 5 rfl rfl)
theorem dX3_sliced_8 : decode cX3_sliced 8 = .ok (.iload_n 2, 1) := dk_28 (dk_at dksX3_sliced_0 8 rfl rfl)
theorem dX3_sliced_9 : decode cX3_sliced 9 = .ok (.i2l, 1) := dk_133 (dk_at dksX3_sliced_0 9 rfl rfl)
theorem dX3_sliced_10 : decode cX3_sliced 10 = .ok (.lconst 1, 1) := dk_10 (dk_at dksX3_sliced_0 10 rfl rfl)
theorem dX3_sliced_11 : decode cX3_sliced 11 = .ok (.ldc2_w 313, 3) := dk_20 1 57 (dk_at dksX3_sliced_0 11 rfl rfl)
theorem dX3_sliced_14 : decode cX3_sliced 14 = .ok (.invokestatic 124, 3) := dk_184 0 124 (dk_at dksX3_sliced_0 14 rfl rfl)
theorem dX3_sliced_17 : decode cX3_sliced 17 = .ok (.ifCond .eq 14, 3) := dk_153 0 14 (dk_at dksX3_sliced_0 17 rfl rfl)
theorem dX3_sliced_20 : decode cX3_sliced 20 = .ok (.iload 4, 2) := dk_21 4 (dk_at dksX3_sliced_0 20 rfl rfl)
theorem dX3_sliced_22 : decode cX3_sliced 22 = .ok (.i2l, 1) := dk_133 (dk_at dksX3_sliced_0 22 rfl rfl)
theorem dX3_sliced_23 : decode cX3_sliced 23 = .ok (.lconst 0, 1) := dk_9 (dk_at dksX3_sliced_0 23 rfl rfl)
theorem dX3_sliced_24 : decode cX3_sliced 24 = .ok (.lconst 1, 1) := dk_10 (dk_at dksX3_sliced_1 0 rfl rfl)
theorem dX3_sliced_25 : decode cX3_sliced 25 = .ok (.invokestatic 124, 3) := dk_184 0 124 (dk_at dksX3_sliced_1 1 rfl rfl)
theorem dX3_sliced_28 : decode cX3_sliced 28 = .ok (.ifCond .ne 5, 3) := dk_154 0 5 (dk_at dksX3_sliced_1 4 rfl rfl)
theorem dX3_sliced_31 : decode cX3_sliced 31 = .ok (.iconst (-1), 1) := dk_2 (dk_at dksX3_sliced_1 7 rfl rfl)
theorem dX3_sliced_32 : decode cX3_sliced 32 = .ok (.ireturn, 1) := dk_172 (dk_at dksX3_sliced_1 8 rfl rfl)
theorem dX3_sliced_33 : decode cX3_sliced 33 = .ok (.aload_n 0, 1) := dk_42 (dk_at dksX3_sliced_1 9 rfl rfl)
theorem dX3_sliced_34 : decode cX3_sliced 34 = .ok (.iload_n 1, 1) := dk_27 (dk_at dksX3_sliced_1 10 rfl rfl)
theorem dX3_sliced_35 : decode cX3_sliced 35 = .ok (.iload_n 2, 1) := dk_28 (dk_at dksX3_sliced_1 11 rfl rfl)
theorem dX3_sliced_36 : decode cX3_sliced 36 = .ok (.iload_n 3, 1) := dk_29 (dk_at dksX3_sliced_1 12 rfl rfl)
theorem dX3_sliced_37 : decode cX3_sliced 37 = .ok (.invokevirtual 315, 3) := dk_182 1 59 (dk_at dksX3_sliced_1 13 rfl rfl)
theorem dX3_sliced_40 : decode cX3_sliced 40 = .ok (.ifCond .ne 8, 3) := dk_154 0 8 (dk_at dksX3_sliced_1 16 rfl rfl)
theorem dX3_sliced_43 : decode cX3_sliced 43 = .ok (.bipush (-4), 2) := dk_16 252 (dk_at dksX3_sliced_1 19 rfl rfl)
theorem dX3_sliced_45 : decode cX3_sliced 45 = .ok (.goto 20, 3) := dk_167 0 20 (dk_at dksX3_sliced_1 21 rfl rfl)
theorem dX3_sliced_48 : decode cX3_sliced 48 = .ok (.iload 4, 2) := dk_21 4 (dk_at dksX3_sliced_2 0 rfl rfl)
theorem dX3_sliced_50 : decode cX3_sliced 50 = .ok (.ifCond .ne 10, 3) := dk_154 0 10 (dk_at dksX3_sliced_2 2 rfl rfl)
theorem dX3_sliced_53 : decode cX3_sliced 53 = .ok (.aload_n 0, 1) := dk_42 (dk_at dksX3_sliced_2 5 rfl rfl)
theorem dX3_sliced_54 : decode cX3_sliced 54 = .ok (.getfield 303, 3) := dk_180 1 47 (dk_at dksX3_sliced_2 6 rfl rfl)
theorem dX3_sliced_57 : decode cX3_sliced 57 = .ok (.goto 7, 3) := dk_167 0 7 (dk_at dksX3_sliced_2 9 rfl rfl)
theorem dX3_sliced_60 : decode cX3_sliced 60 = .ok (.aload_n 0, 1) := dk_42 (dk_at dksX3_sliced_2 12 rfl rfl)
theorem dX3_sliced_61 : decode cX3_sliced 61 = .ok (.getfield 307, 3) := dk_180 1 51 (dk_at dksX3_sliced_2 13 rfl rfl)
theorem dX3_sliced_64 : decode cX3_sliced 64 = .ok (.l2i, 1) := dk_136 (dk_at dksX3_sliced_2 16 rfl rfl)
theorem dX3_sliced_65 : decode cX3_sliced 65 = .ok (.ireturn, 1) := dk_172 (dk_at dksX3_sliced_2 17 rfl rfl)
abbrev cX3_isOf : ByteArray := prog_11_method_55_code
def yX3_isOf : MethodName := ⟨RX3, "isOf", "(II)Z"⟩
def dkwX3_isOf_1 : List UInt8 := [167, 0, 4, 3, 172]
abbrev dktX3_isOf_1 : List UInt8 := dkwX3_isOf_1 ++ []
def dkwX3_isOf_0 : List UInt8 := [26, 184, 1, 30, 153, 0, 23, 27, 184, 1, 4, 153, 0, 16, 26, 27, 122, 4, 126, 4, 160, 0, 7, 4]
abbrev dktX3_isOf_0 : List UInt8 := dkwX3_isOf_0 ++ dktX3_isOf_1
theorem dksX3_isOf_0 : cX3_isOf.data.toList.drop 0 = dktX3_isOf_0 := by decide +kernel
theorem dksX3_isOf_1 : cX3_isOf.data.toList.drop 24 = dktX3_isOf_1 := dk_seg dksX3_isOf_0 24 rfl rfl
theorem dX3_isOf_0 : decode cX3_isOf 0 = .ok (.iload_n 0, 1) := dk_26 (dk_at dksX3_isOf_0 0 rfl rfl)
theorem dX3_isOf_1 : decode cX3_isOf 1 = .ok (.invokestatic 286, 3) := dk_184 1 30 (dk_at dksX3_isOf_0 1 rfl rfl)
theorem dX3_isOf_4 : decode cX3_isOf 4 = .ok (.ifCond .eq 23, 3) := dk_153 0 23 (dk_at dksX3_isOf_0 4 rfl rfl)
theorem dX3_isOf_7 : decode cX3_isOf 7 = .ok (.iload_n 1, 1) := dk_27 (dk_at dksX3_isOf_0 7 rfl rfl)
theorem dX3_isOf_8 : decode cX3_isOf 8 = .ok (.invokestatic 260, 3) := dk_184 1 4 (dk_at dksX3_isOf_0 8 rfl rfl)
theorem dX3_isOf_11 : decode cX3_isOf 11 = .ok (.ifCond .eq 16, 3) := dk_153 0 16 (dk_at dksX3_isOf_0 11 rfl rfl)
theorem dX3_isOf_14 : decode cX3_isOf 14 = .ok (.iload_n 0, 1) := dk_26 (dk_at dksX3_isOf_0 14 rfl rfl)
theorem dX3_isOf_15 : decode cX3_isOf 15 = .ok (.iload_n 1, 1) := dk_27 (dk_at dksX3_isOf_0 15 rfl rfl)
theorem dX3_isOf_16 : decode cX3_isOf 16 = .ok (.ishr, 1) := dk_122 (dk_at dksX3_isOf_0 16 rfl rfl)
theorem dX3_isOf_17 : decode cX3_isOf 17 = .ok (.iconst 1, 1) := dk_4 (dk_at dksX3_isOf_0 17 rfl rfl)
theorem dX3_isOf_18 : decode cX3_isOf 18 = .ok (.iand, 1) := dk_126 (dk_at dksX3_isOf_0 18 rfl rfl)
theorem dX3_isOf_19 : decode cX3_isOf 19 = .ok (.iconst 1, 1) := dk_4 (dk_at dksX3_isOf_0 19 rfl rfl)
theorem dX3_isOf_20 : decode cX3_isOf 20 = .ok (.if_icmp .ne 7, 3) := dk_160 0 7 (dk_at dksX3_isOf_0 20 rfl rfl)
theorem dX3_isOf_23 : decode cX3_isOf 23 = .ok (.iconst 1, 1) := dk_4 (dk_at dksX3_isOf_0 23 rfl rfl)
theorem dX3_isOf_24 : decode cX3_isOf 24 = .ok (.goto 4, 3) := dk_167 0 4 (dk_at dksX3_isOf_1 0 rfl rfl)
theorem dX3_isOf_27 : decode cX3_isOf 27 = .ok (.iconst 0, 1) := dk_3 (dk_at dksX3_isOf_1 3 rfl rfl)
theorem dX3_isOf_28 : decode cX3_isOf 28 = .ok (.ireturn, 1) := dk_172 (dk_at dksX3_isOf_1 4 rfl rfl)
abbrev cX3_countsBy : ByteArray := prog_11_method_53_code
def yX3_countsBy : MethodName := ⟨RX3, "countsBy", "(III)Z"⟩
def dkwX3_countsBy_0 : List UInt8 := [42, 27, 182, 1, 39, 42, 180, 1, 36, 16, 252, 160, 0, 5, 3, 172, 42, 28, 29, 182, 1, 43, 4, 172]
abbrev dktX3_countsBy_0 : List UInt8 := dkwX3_countsBy_0 ++ []
theorem dksX3_countsBy_0 : cX3_countsBy.data.toList.drop 0 = dktX3_countsBy_0 := by decide +kernel
theorem dX3_countsBy_0 : decode cX3_countsBy 0 = .ok (.aload_n 0, 1) := dk_42 (dk_at dksX3_countsBy_0 0 rfl rfl)
theorem dX3_countsBy_1 : decode cX3_countsBy 1 = .ok (.iload_n 1, 1) := dk_27 (dk_at dksX3_countsBy_0 1 rfl rfl)
theorem dX3_countsBy_2 : decode cX3_countsBy 2 = .ok (.invokevirtual 295, 3) := dk_182 1 39 (dk_at dksX3_countsBy_0 2 rfl rfl)
theorem dX3_countsBy_5 : decode cX3_countsBy 5 = .ok (.aload_n 0, 1) := dk_42 (dk_at dksX3_countsBy_0 5 rfl rfl)
theorem dX3_countsBy_6 : decode cX3_countsBy 6 = .ok (.getfield 292, 3) := dk_180 1 36 (dk_at dksX3_countsBy_0 6 rfl rfl)
theorem dX3_countsBy_9 : decode cX3_countsBy 9 = .ok (.bipush (-4), 2) := dk_16 252 (dk_at dksX3_countsBy_0 9 rfl rfl)
theorem dX3_countsBy_11 : decode cX3_countsBy 11 = .ok (.if_icmp .ne 5, 3) := dk_160 0 5 (dk_at dksX3_countsBy_0 11 rfl rfl)
theorem dX3_countsBy_14 : decode cX3_countsBy 14 = .ok (.iconst 0, 1) := dk_3 (dk_at dksX3_countsBy_0 14 rfl rfl)
theorem dX3_countsBy_15 : decode cX3_countsBy 15 = .ok (.ireturn, 1) := dk_172 (dk_at dksX3_countsBy_0 15 rfl rfl)
theorem dX3_countsBy_16 : decode cX3_countsBy 16 = .ok (.aload_n 0, 1) := dk_42 (dk_at dksX3_countsBy_0 16 rfl rfl)
theorem dX3_countsBy_17 : decode cX3_countsBy 17 = .ok (.iload_n 2, 1) := dk_28 (dk_at dksX3_countsBy_0 17 rfl rfl)
theorem dX3_countsBy_18 : decode cX3_countsBy 18 = .ok (.iload_n 3, 1) := dk_29 (dk_at dksX3_countsBy_0 18 rfl rfl)
theorem dX3_countsBy_19 : decode cX3_countsBy 19 = .ok (.invokevirtual 299, 3) := dk_182 1 43 (dk_at dksX3_countsBy_0 19 rfl rfl)
theorem dX3_countsBy_22 : decode cX3_countsBy 22 = .ok (.iconst 1, 1) := dk_4 (dk_at dksX3_countsBy_0 22 rfl rfl)
theorem dX3_countsBy_23 : decode cX3_countsBy 23 = .ok (.ireturn, 1) := dk_172 (dk_at dksX3_countsBy_0 23 rfl rfl)
abbrev cX3_countsIn : ByteArray := prog_11_method_54_code
def yX3_countsIn : MethodName := ⟨RX3, "countsIn", "(II)V"⟩
def dkwX3_countsIn_5 : List UInt8 := [46, 46, 96, 54, 4, 132, 5, 1, 167, 255, 170, 177]
abbrev dktX3_countsIn_5 : List UInt8 := dkwX3_countsIn_5 ++ []
def dkwX3_countsIn_4 : List UInt8 := [180, 0, 25, 21, 5, 46, 46, 133, 97, 181, 1, 51, 21, 4, 42, 180, 0, 7, 42, 180, 0, 25, 21, 5]
abbrev dktX3_countsIn_4 : List UInt8 := dkwX3_countsIn_4 ++ dktX3_countsIn_5
def dkwX3_countsIn_3 : List UInt8 := [21, 5, 46, 28, 182, 0, 251, 133, 97, 181, 1, 47, 42, 89, 180, 1, 51, 42, 180, 0, 7, 42]
abbrev dktX3_countsIn_3 : List UInt8 := dkwX3_countsIn_3 ++ dktX3_countsIn_4
def dkwX3_countsIn_2 : List UInt8 := [21, 4, 27, 108, 42, 180, 1, 36, 112, 29, 160, 0, 47, 42, 89, 180, 1, 47, 42, 42, 180, 0, 25]
abbrev dktX3_countsIn_2 : List UInt8 := dkwX3_countsIn_2 ++ dktX3_countsIn_3
def dkwX3_countsIn_1 : List UInt8 := [181, 1, 47, 42, 9, 181, 1, 51, 3, 54, 4, 3, 54, 5, 21, 5, 42, 180, 0, 225, 162, 0, 83]
abbrev dktX3_countsIn_1 : List UInt8 := dkwX3_countsIn_1 ++ dktX3_countsIn_2
def dkwX3_countsIn_0 : List UInt8 := [3, 62, 42, 180, 0, 84, 29, 46, 28, 122, 4, 126, 154, 0, 9, 132, 3, 1, 167, 255, 240, 42, 9]
abbrev dktX3_countsIn_0 : List UInt8 := dkwX3_countsIn_0 ++ dktX3_countsIn_1
theorem dksX3_countsIn_0 : cX3_countsIn.data.toList.drop 0 = dktX3_countsIn_0 := by decide +kernel
theorem dksX3_countsIn_1 : cX3_countsIn.data.toList.drop 23 = dktX3_countsIn_1 := dk_seg dksX3_countsIn_0 23 rfl rfl
theorem dksX3_countsIn_2 : cX3_countsIn.data.toList.drop 46 = dktX3_countsIn_2 := dk_seg dksX3_countsIn_1 23 rfl rfl
theorem dksX3_countsIn_3 : cX3_countsIn.data.toList.drop 69 = dktX3_countsIn_3 := dk_seg dksX3_countsIn_2 23 rfl rfl
theorem dksX3_countsIn_4 : cX3_countsIn.data.toList.drop 91 = dktX3_countsIn_4 := dk_seg dksX3_countsIn_3 22 rfl rfl
theorem dksX3_countsIn_5 : cX3_countsIn.data.toList.drop 115 = dktX3_countsIn_5 := dk_seg dksX3_countsIn_4 24 rfl rfl
theorem dX3_countsIn_0 : decode cX3_countsIn 0 = .ok (.iconst 0, 1) := dk_3 (dk_at dksX3_countsIn_0 0 rfl rfl)
theorem dX3_countsIn_1 : decode cX3_countsIn 1 = .ok (.istore_n 3, 1) := dk_62 (dk_at dksX3_countsIn_0 1 rfl rfl)
theorem dX3_countsIn_2 : decode cX3_countsIn 2 = .ok (.aload_n 0, 1) := dk_42 (dk_at dksX3_countsIn_0 2 rfl rfl)
theorem dX3_countsIn_3 : decode cX3_countsIn 3 = .ok (.getfield 84, 3) := dk_180 0 84 (dk_at dksX3_countsIn_0 3 rfl rfl)
theorem dX3_countsIn_6 : decode cX3_countsIn 6 = .ok (.iload_n 3, 1) := dk_29 (dk_at dksX3_countsIn_0 6 rfl rfl)
theorem dX3_countsIn_7 : decode cX3_countsIn 7 = .ok (.iaload, 1) := dk_46 (dk_at dksX3_countsIn_0 7 rfl rfl)
theorem dX3_countsIn_8 : decode cX3_countsIn 8 = .ok (.iload_n 2, 1) := dk_28 (dk_at dksX3_countsIn_0 8 rfl rfl)
theorem dX3_countsIn_9 : decode cX3_countsIn 9 = .ok (.ishr, 1) := dk_122 (dk_at dksX3_countsIn_0 9 rfl rfl)
theorem dX3_countsIn_10 : decode cX3_countsIn 10 = .ok (.iconst 1, 1) := dk_4 (dk_at dksX3_countsIn_0 10 rfl rfl)
theorem dX3_countsIn_11 : decode cX3_countsIn 11 = .ok (.iand, 1) := dk_126 (dk_at dksX3_countsIn_0 11 rfl rfl)
theorem dX3_countsIn_12 : decode cX3_countsIn 12 = .ok (.ifCond .ne 9, 3) := dk_154 0 9 (dk_at dksX3_countsIn_0 12 rfl rfl)
theorem dX3_countsIn_15 : decode cX3_countsIn 15 = .ok (.iinc 3 1, 3) := dk_132 3 1 (dk_at dksX3_countsIn_0 15 rfl rfl)
theorem dX3_countsIn_18 : decode cX3_countsIn 18 = .ok (.goto (-16), 3) := dk_167 255 240 (dk_at dksX3_countsIn_0 18 rfl rfl)
theorem dX3_countsIn_21 : decode cX3_countsIn 21 = .ok (.aload_n 0, 1) := dk_42 (dk_at dksX3_countsIn_0 21 rfl rfl)
theorem dX3_countsIn_22 : decode cX3_countsIn 22 = .ok (.lconst 0, 1) := dk_9 (dk_at dksX3_countsIn_0 22 rfl rfl)
theorem dX3_countsIn_23 : decode cX3_countsIn 23 = .ok (.putfield 303, 3) := dk_181 1 47 (dk_at dksX3_countsIn_1 0 rfl rfl)
theorem dX3_countsIn_26 : decode cX3_countsIn 26 = .ok (.aload_n 0, 1) := dk_42 (dk_at dksX3_countsIn_1 3 rfl rfl)
theorem dX3_countsIn_27 : decode cX3_countsIn 27 = .ok (.lconst 0, 1) := dk_9 (dk_at dksX3_countsIn_1 4 rfl rfl)
theorem dX3_countsIn_28 : decode cX3_countsIn 28 = .ok (.putfield 307, 3) := dk_181 1 51 (dk_at dksX3_countsIn_1 5 rfl rfl)
theorem dX3_countsIn_31 : decode cX3_countsIn 31 = .ok (.iconst 0, 1) := dk_3 (dk_at dksX3_countsIn_1 8 rfl rfl)
theorem dX3_countsIn_32 : decode cX3_countsIn 32 = .ok (.istore 4, 2) := dk_54 4 (dk_at dksX3_countsIn_1 9 rfl rfl)
theorem dX3_countsIn_34 : decode cX3_countsIn 34 = .ok (.iconst 0, 1) := dk_3 (dk_at dksX3_countsIn_1 11 rfl rfl)
theorem dX3_countsIn_35 : decode cX3_countsIn 35 = .ok (.istore 5, 2) := dk_54 5 (dk_at dksX3_countsIn_1 12 rfl rfl)
theorem dX3_countsIn_37 : decode cX3_countsIn 37 = .ok (.iload 5, 2) := dk_21 5 (dk_at dksX3_countsIn_1 14 rfl rfl)
theorem dX3_countsIn_39 : decode cX3_countsIn 39 = .ok (.aload_n 0, 1) := dk_42 (dk_at dksX3_countsIn_1 16 rfl rfl)
theorem dX3_countsIn_40 : decode cX3_countsIn 40 = .ok (.getfield 225, 3) := dk_180 0 225 (dk_at dksX3_countsIn_1 17 rfl rfl)
theorem dX3_countsIn_43 : decode cX3_countsIn 43 = .ok (.if_icmp .ge 83, 3) := dk_162 0 83 (dk_at dksX3_countsIn_1 20 rfl rfl)
theorem dX3_countsIn_46 : decode cX3_countsIn 46 = .ok (.iload 4, 2) := dk_21 4 (dk_at dksX3_countsIn_2 0 rfl rfl)
theorem dX3_countsIn_48 : decode cX3_countsIn 48 = .ok (.iload_n 1, 1) := dk_27 (dk_at dksX3_countsIn_2 2 rfl rfl)
theorem dX3_countsIn_49 : decode cX3_countsIn 49 = .ok (.idiv, 1) := dk_108 (dk_at dksX3_countsIn_2 3 rfl rfl)
theorem dX3_countsIn_50 : decode cX3_countsIn 50 = .ok (.aload_n 0, 1) := dk_42 (dk_at dksX3_countsIn_2 4 rfl rfl)
theorem dX3_countsIn_51 : decode cX3_countsIn 51 = .ok (.getfield 292, 3) := dk_180 1 36 (dk_at dksX3_countsIn_2 5 rfl rfl)
theorem dX3_countsIn_54 : decode cX3_countsIn 54 = .ok (.irem, 1) := dk_112 (dk_at dksX3_countsIn_2 8 rfl rfl)
theorem dX3_countsIn_55 : decode cX3_countsIn 55 = .ok (.iload_n 3, 1) := dk_29 (dk_at dksX3_countsIn_2 9 rfl rfl)
theorem dX3_countsIn_56 : decode cX3_countsIn 56 = .ok (.if_icmp .ne 47, 3) := dk_160 0 47 (dk_at dksX3_countsIn_2 10 rfl rfl)
theorem dX3_countsIn_59 : decode cX3_countsIn 59 = .ok (.aload_n 0, 1) := dk_42 (dk_at dksX3_countsIn_2 13 rfl rfl)
theorem dX3_countsIn_60 : decode cX3_countsIn 60 = .ok (.dup, 1) := dk_89 (dk_at dksX3_countsIn_2 14 rfl rfl)
theorem dX3_countsIn_61 : decode cX3_countsIn 61 = .ok (.getfield 303, 3) := dk_180 1 47 (dk_at dksX3_countsIn_2 15 rfl rfl)
theorem dX3_countsIn_64 : decode cX3_countsIn 64 = .ok (.aload_n 0, 1) := dk_42 (dk_at dksX3_countsIn_2 18 rfl rfl)
theorem dX3_countsIn_65 : decode cX3_countsIn 65 = .ok (.aload_n 0, 1) := dk_42 (dk_at dksX3_countsIn_2 19 rfl rfl)
theorem dX3_countsIn_66 : decode cX3_countsIn 66 = .ok (.getfield 25, 3) := dk_180 0 25 (dk_at dksX3_countsIn_2 20 rfl rfl)
theorem dX3_countsIn_69 : decode cX3_countsIn 69 = .ok (.iload 5, 2) := dk_21 5 (dk_at dksX3_countsIn_3 0 rfl rfl)
theorem dX3_countsIn_71 : decode cX3_countsIn 71 = .ok (.iaload, 1) := dk_46 (dk_at dksX3_countsIn_3 2 rfl rfl)
theorem dX3_countsIn_72 : decode cX3_countsIn 72 = .ok (.iload_n 2, 1) := dk_28 (dk_at dksX3_countsIn_3 3 rfl rfl)
theorem dX3_countsIn_73 : decode cX3_countsIn 73 = .ok (.invokevirtual 251, 3) := dk_182 0 251 (dk_at dksX3_countsIn_3 4 rfl rfl)
theorem dX3_countsIn_76 : decode cX3_countsIn 76 = .ok (.i2l, 1) := dk_133 (dk_at dksX3_countsIn_3 7 rfl rfl)
theorem dX3_countsIn_77 : decode cX3_countsIn 77 = .ok (.ladd, 1) := dk_97 (dk_at dksX3_countsIn_3 8 rfl rfl)
theorem dX3_countsIn_78 : decode cX3_countsIn 78 = .ok (.putfield 303, 3) := dk_181 1 47 (dk_at dksX3_countsIn_3 9 rfl rfl)
theorem dX3_countsIn_81 : decode cX3_countsIn 81 = .ok (.aload_n 0, 1) := dk_42 (dk_at dksX3_countsIn_3 12 rfl rfl)
theorem dX3_countsIn_82 : decode cX3_countsIn 82 = .ok (.dup, 1) := dk_89 (dk_at dksX3_countsIn_3 13 rfl rfl)
theorem dX3_countsIn_83 : decode cX3_countsIn 83 = .ok (.getfield 307, 3) := dk_180 1 51 (dk_at dksX3_countsIn_3 14 rfl rfl)
theorem dX3_countsIn_86 : decode cX3_countsIn 86 = .ok (.aload_n 0, 1) := dk_42 (dk_at dksX3_countsIn_3 17 rfl rfl)
theorem dX3_countsIn_87 : decode cX3_countsIn 87 = .ok (.getfield 7, 3) := dk_180 0 7 (dk_at dksX3_countsIn_3 18 rfl rfl)
theorem dX3_countsIn_90 : decode cX3_countsIn 90 = .ok (.aload_n 0, 1) := dk_42 (dk_at dksX3_countsIn_3 21 rfl rfl)
theorem dX3_countsIn_91 : decode cX3_countsIn 91 = .ok (.getfield 25, 3) := dk_180 0 25 (dk_at dksX3_countsIn_4 0 rfl rfl)
theorem dX3_countsIn_94 : decode cX3_countsIn 94 = .ok (.iload 5, 2) := dk_21 5 (dk_at dksX3_countsIn_4 3 rfl rfl)
theorem dX3_countsIn_96 : decode cX3_countsIn 96 = .ok (.iaload, 1) := dk_46 (dk_at dksX3_countsIn_4 5 rfl rfl)
theorem dX3_countsIn_97 : decode cX3_countsIn 97 = .ok (.iaload, 1) := dk_46 (dk_at dksX3_countsIn_4 6 rfl rfl)
theorem dX3_countsIn_98 : decode cX3_countsIn 98 = .ok (.i2l, 1) := dk_133 (dk_at dksX3_countsIn_4 7 rfl rfl)
theorem dX3_countsIn_99 : decode cX3_countsIn 99 = .ok (.ladd, 1) := dk_97 (dk_at dksX3_countsIn_4 8 rfl rfl)
theorem dX3_countsIn_100 : decode cX3_countsIn 100 = .ok (.putfield 307, 3) := dk_181 1 51 (dk_at dksX3_countsIn_4 9 rfl rfl)
theorem dX3_countsIn_103 : decode cX3_countsIn 103 = .ok (.iload 4, 2) := dk_21 4 (dk_at dksX3_countsIn_4 12 rfl rfl)
theorem dX3_countsIn_105 : decode cX3_countsIn 105 = .ok (.aload_n 0, 1) := dk_42 (dk_at dksX3_countsIn_4 14 rfl rfl)
theorem dX3_countsIn_106 : decode cX3_countsIn 106 = .ok (.getfield 7, 3) := dk_180 0 7 (dk_at dksX3_countsIn_4 15 rfl rfl)
theorem dX3_countsIn_109 : decode cX3_countsIn 109 = .ok (.aload_n 0, 1) := dk_42 (dk_at dksX3_countsIn_4 18 rfl rfl)
theorem dX3_countsIn_110 : decode cX3_countsIn 110 = .ok (.getfield 25, 3) := dk_180 0 25 (dk_at dksX3_countsIn_4 19 rfl rfl)
theorem dX3_countsIn_113 : decode cX3_countsIn 113 = .ok (.iload 5, 2) := dk_21 5 (dk_at dksX3_countsIn_4 22 rfl rfl)
theorem dX3_countsIn_115 : decode cX3_countsIn 115 = .ok (.iaload, 1) := dk_46 (dk_at dksX3_countsIn_5 0 rfl rfl)
theorem dX3_countsIn_116 : decode cX3_countsIn 116 = .ok (.iaload, 1) := dk_46 (dk_at dksX3_countsIn_5 1 rfl rfl)
theorem dX3_countsIn_117 : decode cX3_countsIn 117 = .ok (.iadd, 1) := dk_96 (dk_at dksX3_countsIn_5 2 rfl rfl)
theorem dX3_countsIn_118 : decode cX3_countsIn 118 = .ok (.istore 4, 2) := dk_54 4 (dk_at dksX3_countsIn_5 3 rfl rfl)
theorem dX3_countsIn_120 : decode cX3_countsIn 120 = .ok (.iinc 5 1, 3) := dk_132 5 1 (dk_at dksX3_countsIn_5 5 rfl rfl)
theorem dX3_countsIn_123 : decode cX3_countsIn 123 = .ok (.goto (-86), 3) := dk_167 255 170 (dk_at dksX3_countsIn_5 8 rfl rfl)
theorem dX3_countsIn_126 : decode cX3_countsIn 126 = .ok (.return_, 1) := dk_177 (dk_at dksX3_countsIn_5 11 rfl rfl)
abbrev cX3_scaled : ByteArray := prog_11_method_57_code
def yX3_scaled : MethodName := ⟨RX3, "scaled", "(IIII)J"⟩
def dkwX3_scaled_4 : List UInt8 := [21, 4, 5, 112, 184, 1, 7, 173]
abbrev dktX3_scaled_4 : List UInt8 := dkwX3_scaled_4 ++ []
def dkwX3_scaled_3 : List UInt8 := [5, 162, 0, 7, 9, 167, 0, 14, 42, 29, 182, 1, 1, 133, 42, 180, 1, 51, 105, 101, 42, 180, 1, 51]
abbrev dktX3_scaled_3 : List UInt8 := dkwX3_scaled_3 ++ dktX3_scaled_4
def dkwX3_scaled_2 : List UInt8 := [180, 1, 51, 9, 148, 154, 0, 7, 20, 1, 67, 173, 42, 180, 1, 47, 42, 180, 0, 212, 133, 105, 21, 4]
abbrev dktX3_scaled_2 : List UInt8 := dkwX3_scaled_2 ++ dktX3_scaled_3
def dkwX3_scaled_1 : List UInt8 := [20, 1, 63, 184, 0, 124, 154, 0, 7, 20, 1, 65, 173, 42, 27, 28, 29, 182, 1, 59, 153, 0, 12, 42]
abbrev dktX3_scaled_1 : List UInt8 := dkwX3_scaled_1 ++ dktX3_scaled_2
def dkwX3_scaled_0 : List UInt8 := [27, 29, 184, 1, 54, 153, 0, 28, 28, 133, 10, 20, 1, 57, 184, 0, 124, 153, 0, 16, 21, 4, 133, 9]
abbrev dktX3_scaled_0 : List UInt8 := dkwX3_scaled_0 ++ dktX3_scaled_1
theorem dksX3_scaled_0 : cX3_scaled.data.toList.drop 0 = dktX3_scaled_0 := by decide +kernel
theorem dksX3_scaled_1 : cX3_scaled.data.toList.drop 24 = dktX3_scaled_1 := dk_seg dksX3_scaled_0 24 rfl rfl
theorem dksX3_scaled_2 : cX3_scaled.data.toList.drop 48 = dktX3_scaled_2 := dk_seg dksX3_scaled_1 24 rfl rfl
theorem dksX3_scaled_3 : cX3_scaled.data.toList.drop 72 = dktX3_scaled_3 := dk_seg dksX3_scaled_2 24 rfl rfl
theorem dksX3_scaled_4 : cX3_scaled.data.toList.drop 96 = dktX3_scaled_4 := dk_seg dksX3_scaled_3 24 rfl rfl
theorem dX3_scaled_0 : decode cX3_scaled 0 = .ok (.iload_n 1, 1) := dk_27 (dk_at dksX3_scaled_0 0 rfl rfl)
theorem dX3_scaled_1 : decode cX3_scaled 1 = .ok (.iload_n 3, 1) := dk_29 (dk_at dksX3_scaled_0 1 rfl rfl)
theorem dX3_scaled_2 : decode cX3_scaled 2 = .ok (.invokestatic 310, 3) := dk_184 1 54 (dk_at dksX3_scaled_0 2 rfl rfl)
theorem dX3_scaled_5 : decode cX3_scaled 5 = .ok (.ifCond .eq 28, 3) := dk_153 0 28 (dk_at dksX3_scaled_0 5 rfl rfl)
theorem dX3_scaled_8 : decode cX3_scaled 8 = .ok (.iload_n 2, 1) := dk_28 (dk_at dksX3_scaled_0 8 rfl rfl)
theorem dX3_scaled_9 : decode cX3_scaled 9 = .ok (.i2l, 1) := dk_133 (dk_at dksX3_scaled_0 9 rfl rfl)
theorem dX3_scaled_10 : decode cX3_scaled 10 = .ok (.lconst 1, 1) := dk_10 (dk_at dksX3_scaled_0 10 rfl rfl)
theorem dX3_scaled_11 : decode cX3_scaled 11 = .ok (.ldc2_w 313, 3) := dk_20 1 57 (dk_at dksX3_scaled_0 11 rfl rfl)
theorem dX3_scaled_14 : decode cX3_scaled 14 = .ok (.invokestatic 124, 3) := dk_184 0 124 (dk_at dksX3_scaled_0 14 rfl rfl)
theorem dX3_scaled_17 : decode cX3_scaled 17 = .ok (.ifCond .eq 16, 3) := dk_153 0 16 (dk_at dksX3_scaled_0 17 rfl rfl)
theorem dX3_scaled_20 : decode cX3_scaled 20 = .ok (.iload 4, 2) := dk_21 4 (dk_at dksX3_scaled_0 20 rfl rfl)
theorem dX3_scaled_22 : decode cX3_scaled 22 = .ok (.i2l, 1) := dk_133 (dk_at dksX3_scaled_0 22 rfl rfl)
theorem dX3_scaled_23 : decode cX3_scaled 23 = .ok (.lconst 0, 1) := dk_9 (dk_at dksX3_scaled_0 23 rfl rfl)
theorem dX3_scaled_24 : decode cX3_scaled 24 = .ok (.ldc2_w 319, 3) := dk_20 1 63 (dk_at dksX3_scaled_1 0 rfl rfl)
theorem dX3_scaled_27 : decode cX3_scaled 27 = .ok (.invokestatic 124, 3) := dk_184 0 124 (dk_at dksX3_scaled_1 3 rfl rfl)
theorem dX3_scaled_30 : decode cX3_scaled 30 = .ok (.ifCond .ne 7, 3) := dk_154 0 7 (dk_at dksX3_scaled_1 6 rfl rfl)
theorem dX3_scaled_33 : decode cX3_scaled 33 = .ok (.ldc2_w 321, 3) := dk_20 1 65 (dk_at dksX3_scaled_1 9 rfl rfl)
theorem dX3_scaled_36 : decode cX3_scaled 36 = .ok (.lreturn, 1) := dk_173 (dk_at dksX3_scaled_1 12 rfl rfl)
theorem dX3_scaled_37 : decode cX3_scaled 37 = .ok (.aload_n 0, 1) := dk_42 (dk_at dksX3_scaled_1 13 rfl rfl)
theorem dX3_scaled_38 : decode cX3_scaled 38 = .ok (.iload_n 1, 1) := dk_27 (dk_at dksX3_scaled_1 14 rfl rfl)
theorem dX3_scaled_39 : decode cX3_scaled 39 = .ok (.iload_n 2, 1) := dk_28 (dk_at dksX3_scaled_1 15 rfl rfl)
theorem dX3_scaled_40 : decode cX3_scaled 40 = .ok (.iload_n 3, 1) := dk_29 (dk_at dksX3_scaled_1 16 rfl rfl)
theorem dX3_scaled_41 : decode cX3_scaled 41 = .ok (.invokevirtual 315, 3) := dk_182 1 59 (dk_at dksX3_scaled_1 17 rfl rfl)
theorem dX3_scaled_44 : decode cX3_scaled 44 = .ok (.ifCond .eq 12, 3) := dk_153 0 12 (dk_at dksX3_scaled_1 20 rfl rfl)
theorem dX3_scaled_47 : decode cX3_scaled 47 = .ok (.aload_n 0, 1) := dk_42 (dk_at dksX3_scaled_1 23 rfl rfl)
theorem dX3_scaled_48 : decode cX3_scaled 48 = .ok (.getfield 307, 3) := dk_180 1 51 (dk_at dksX3_scaled_2 0 rfl rfl)
theorem dX3_scaled_51 : decode cX3_scaled 51 = .ok (.lconst 0, 1) := dk_9 (dk_at dksX3_scaled_2 3 rfl rfl)
theorem dX3_scaled_52 : decode cX3_scaled 52 = .ok (.lcmp, 1) := dk_148 (dk_at dksX3_scaled_2 4 rfl rfl)
theorem dX3_scaled_53 : decode cX3_scaled 53 = .ok (.ifCond .ne 7, 3) := dk_154 0 7 (dk_at dksX3_scaled_2 5 rfl rfl)
theorem dX3_scaled_56 : decode cX3_scaled 56 = .ok (.ldc2_w 323, 3) := dk_20 1 67 (dk_at dksX3_scaled_2 8 rfl rfl)
theorem dX3_scaled_59 : decode cX3_scaled 59 = .ok (.lreturn, 1) := dk_173 (dk_at dksX3_scaled_2 11 rfl rfl)
theorem dX3_scaled_60 : decode cX3_scaled 60 = .ok (.aload_n 0, 1) := dk_42 (dk_at dksX3_scaled_2 12 rfl rfl)
theorem dX3_scaled_61 : decode cX3_scaled 61 = .ok (.getfield 303, 3) := dk_180 1 47 (dk_at dksX3_scaled_2 13 rfl rfl)
theorem dX3_scaled_64 : decode cX3_scaled 64 = .ok (.aload_n 0, 1) := dk_42 (dk_at dksX3_scaled_2 16 rfl rfl)
theorem dX3_scaled_65 : decode cX3_scaled 65 = .ok (.getfield 212, 3) := dk_180 0 212 (dk_at dksX3_scaled_2 17 rfl rfl)
theorem dX3_scaled_68 : decode cX3_scaled 68 = .ok (.i2l, 1) := dk_133 (dk_at dksX3_scaled_2 20 rfl rfl)
theorem dX3_scaled_69 : decode cX3_scaled 69 = .ok (.lmul, 1) := dk_105 (dk_at dksX3_scaled_2 21 rfl rfl)
theorem dX3_scaled_70 : decode cX3_scaled 70 = .ok (.iload 4, 2) := dk_21 4 (dk_at dksX3_scaled_2 22 rfl rfl)
theorem dX3_scaled_72 : decode cX3_scaled 72 = .ok (.iconst 2, 1) := dk_5 (dk_at dksX3_scaled_3 0 rfl rfl)
theorem dX3_scaled_73 : decode cX3_scaled 73 = .ok (.if_icmp .ge 7, 3) := dk_162 0 7 (dk_at dksX3_scaled_3 1 rfl rfl)
theorem dX3_scaled_76 : decode cX3_scaled 76 = .ok (.lconst 0, 1) := dk_9 (dk_at dksX3_scaled_3 4 rfl rfl)
theorem dX3_scaled_77 : decode cX3_scaled 77 = .ok (.goto 14, 3) := dk_167 0 14 (dk_at dksX3_scaled_3 5 rfl rfl)
theorem dX3_scaled_80 : decode cX3_scaled 80 = .ok (.aload_n 0, 1) := dk_42 (dk_at dksX3_scaled_3 8 rfl rfl)
theorem dX3_scaled_81 : decode cX3_scaled 81 = .ok (.iload_n 3, 1) := dk_29 (dk_at dksX3_scaled_3 9 rfl rfl)
theorem dX3_scaled_82 : decode cX3_scaled 82 = .ok (.invokevirtual 257, 3) := dk_182 1 1 (dk_at dksX3_scaled_3 10 rfl rfl)
theorem dX3_scaled_85 : decode cX3_scaled 85 = .ok (.i2l, 1) := dk_133 (dk_at dksX3_scaled_3 13 rfl rfl)
theorem dX3_scaled_86 : decode cX3_scaled 86 = .ok (.aload_n 0, 1) := dk_42 (dk_at dksX3_scaled_3 14 rfl rfl)
theorem dX3_scaled_87 : decode cX3_scaled 87 = .ok (.getfield 307, 3) := dk_180 1 51 (dk_at dksX3_scaled_3 15 rfl rfl)
theorem dX3_scaled_90 : decode cX3_scaled 90 = .ok (.lmul, 1) := dk_105 (dk_at dksX3_scaled_3 18 rfl rfl)
theorem dX3_scaled_91 : decode cX3_scaled 91 = .ok (.lsub, 1) := dk_101 (dk_at dksX3_scaled_3 19 rfl rfl)
theorem dX3_scaled_92 : decode cX3_scaled 92 = .ok (.aload_n 0, 1) := dk_42 (dk_at dksX3_scaled_3 20 rfl rfl)
theorem dX3_scaled_93 : decode cX3_scaled 93 = .ok (.getfield 307, 3) := dk_180 1 51 (dk_at dksX3_scaled_3 21 rfl rfl)
theorem dX3_scaled_96 : decode cX3_scaled 96 = .ok (.iload 4, 2) := dk_21 4 (dk_at dksX3_scaled_4 0 rfl rfl)
theorem dX3_scaled_98 : decode cX3_scaled 98 = .ok (.iconst 2, 1) := dk_5 (dk_at dksX3_scaled_4 2 rfl rfl)
theorem dX3_scaled_99 : decode cX3_scaled 99 = .ok (.irem, 1) := dk_112 (dk_at dksX3_scaled_4 3 rfl rfl)
theorem dX3_scaled_100 : decode cX3_scaled 100 = .ok (.invokestatic 263, 3) := dk_184 1 7 (dk_at dksX3_scaled_4 4 rfl rfl)
theorem dX3_scaled_103 : decode cX3_scaled 103 = .ok (.lreturn, 1) := dk_173 (dk_at dksX3_scaled_4 7 rfl rfl)
abbrev cX3_finest : ByteArray := prog_11_method_58_code
def yX3_finest : MethodName := ⟨RX3, "finest", "(IIII)I"⟩
def dkwX3_finest_8 : List UInt8 := [180, 1, 51, 167, 0, 5, 22, 8, 55, 8, 132, 10, 1, 167, 255, 119, 21, 5, 172]
abbrev dktX3_finest_8 : List UInt8 := dkwX3_finest_8 ++ []
def dkwX3_finest_7 : List UInt8 := [54, 5, 21, 13, 153, 0, 8, 22, 11, 167, 0, 5, 22, 6, 55, 6, 21, 13, 153, 0, 10, 42]
abbrev dktX3_finest_7 : List UInt8 := dkwX3_finest_7 ++ dktX3_finest_8
def dkwX3_finest_6 : List UInt8 := [148, 156, 0, 7, 4, 167, 0, 4, 3, 54, 13, 21, 13, 153, 0, 8, 21, 10, 167, 0, 5, 21, 5]
abbrev dktX3_finest_6 : List UInt8 := dkwX3_finest_6 ++ dktX3_finest_7
def dkwX3_finest_5 : List UInt8 := [9, 148, 158, 0, 30, 21, 5, 16, 252, 159, 0, 19, 22, 11, 22, 8, 105, 22, 6, 42, 180, 1, 51, 105]
abbrev dktX3_finest_5 : List UInt8 := dkwX3_finest_5 ++ dktX3_finest_6
def dkwX3_finest_4 : List UInt8 := [133, 105, 42, 21, 4, 182, 1, 1, 133, 42, 180, 1, 51, 105, 101, 184, 0, 111, 55, 11, 42, 180, 1, 51]
abbrev dktX3_finest_4 : List UInt8 := dkwX3_finest_4 ++ dktX3_finest_5
def dkwX3_finest_3 : List UInt8 := [180, 1, 36, 16, 252, 159, 0, 128, 42, 21, 10, 21, 4, 182, 1, 43, 42, 180, 1, 47, 42, 180, 0, 212]
abbrev dktX3_finest_3 : List UInt8 := dkwX3_finest_3 ++ dktX3_finest_4
def dkwX3_finest_2 : List UInt8 := [54, 5, 9, 55, 6, 10, 55, 8, 42, 27, 182, 1, 39, 28, 54, 10, 21, 10, 29, 163, 0, 137, 42]
abbrev dktX3_finest_2 : List UInt8 := dkwX3_finest_2 ++ dktX3_finest_3
def dkwX3_finest_1 : List UInt8 := [133, 20, 1, 57, 184, 0, 124, 153, 0, 12, 29, 28, 100, 17, 0, 199, 164, 0, 5, 2, 172, 16, 252]
abbrev dktX3_finest_1 : List UInt8 := dkwX3_finest_1 ++ dktX3_finest_2
def dkwX3_finest_0 : List UInt8 := [27, 21, 4, 184, 1, 54, 153, 0, 37, 28, 133, 10, 20, 1, 57, 184, 0, 124, 153, 0, 25, 29, 133, 28]
abbrev dktX3_finest_0 : List UInt8 := dkwX3_finest_0 ++ dktX3_finest_1
theorem dksX3_finest_0 : cX3_finest.data.toList.drop 0 = dktX3_finest_0 := by decide +kernel
theorem dksX3_finest_1 : cX3_finest.data.toList.drop 24 = dktX3_finest_1 := dk_seg dksX3_finest_0 24 rfl rfl
theorem dksX3_finest_2 : cX3_finest.data.toList.drop 47 = dktX3_finest_2 := dk_seg dksX3_finest_1 23 rfl rfl
theorem dksX3_finest_3 : cX3_finest.data.toList.drop 70 = dktX3_finest_3 := dk_seg dksX3_finest_2 23 rfl rfl
theorem dksX3_finest_4 : cX3_finest.data.toList.drop 94 = dktX3_finest_4 := dk_seg dksX3_finest_3 24 rfl rfl
theorem dksX3_finest_5 : cX3_finest.data.toList.drop 118 = dktX3_finest_5 := dk_seg dksX3_finest_4 24 rfl rfl
theorem dksX3_finest_6 : cX3_finest.data.toList.drop 142 = dktX3_finest_6 := dk_seg dksX3_finest_5 24 rfl rfl
theorem dksX3_finest_7 : cX3_finest.data.toList.drop 165 = dktX3_finest_7 := dk_seg dksX3_finest_6 23 rfl rfl
theorem dksX3_finest_8 : cX3_finest.data.toList.drop 187 = dktX3_finest_8 := dk_seg dksX3_finest_7 22 rfl rfl
theorem dX3_finest_0 : decode cX3_finest 0 = .ok (.iload_n 1, 1) := dk_27 (dk_at dksX3_finest_0 0 rfl rfl)
theorem dX3_finest_1 : decode cX3_finest 1 = .ok (.iload 4, 2) := dk_21 4 (dk_at dksX3_finest_0 1 rfl rfl)
theorem dX3_finest_3 : decode cX3_finest 3 = .ok (.invokestatic 310, 3) := dk_184 1 54 (dk_at dksX3_finest_0 3 rfl rfl)
theorem dX3_finest_6 : decode cX3_finest 6 = .ok (.ifCond .eq 37, 3) := dk_153 0 37 (dk_at dksX3_finest_0 6 rfl rfl)
theorem dX3_finest_9 : decode cX3_finest 9 = .ok (.iload_n 2, 1) := dk_28 (dk_at dksX3_finest_0 9 rfl rfl)
theorem dX3_finest_10 : decode cX3_finest 10 = .ok (.i2l, 1) := dk_133 (dk_at dksX3_finest_0 10 rfl rfl)
theorem dX3_finest_11 : decode cX3_finest 11 = .ok (.lconst 1, 1) := dk_10 (dk_at dksX3_finest_0 11 rfl rfl)
theorem dX3_finest_12 : decode cX3_finest 12 = .ok (.ldc2_w 313, 3) := dk_20 1 57 (dk_at dksX3_finest_0 12 rfl rfl)
theorem dX3_finest_15 : decode cX3_finest 15 = .ok (.invokestatic 124, 3) := dk_184 0 124 (dk_at dksX3_finest_0 15 rfl rfl)
theorem dX3_finest_18 : decode cX3_finest 18 = .ok (.ifCond .eq 25, 3) := dk_153 0 25 (dk_at dksX3_finest_0 18 rfl rfl)
theorem dX3_finest_21 : decode cX3_finest 21 = .ok (.iload_n 3, 1) := dk_29 (dk_at dksX3_finest_0 21 rfl rfl)
theorem dX3_finest_22 : decode cX3_finest 22 = .ok (.i2l, 1) := dk_133 (dk_at dksX3_finest_0 22 rfl rfl)
theorem dX3_finest_23 : decode cX3_finest 23 = .ok (.iload_n 2, 1) := dk_28 (dk_at dksX3_finest_0 23 rfl rfl)
theorem dX3_finest_24 : decode cX3_finest 24 = .ok (.i2l, 1) := dk_133 (dk_at dksX3_finest_1 0 rfl rfl)
theorem dX3_finest_25 : decode cX3_finest 25 = .ok (.ldc2_w 313, 3) := dk_20 1 57 (dk_at dksX3_finest_1 1 rfl rfl)
theorem dX3_finest_28 : decode cX3_finest 28 = .ok (.invokestatic 124, 3) := dk_184 0 124 (dk_at dksX3_finest_1 4 rfl rfl)
theorem dX3_finest_31 : decode cX3_finest 31 = .ok (.ifCond .eq 12, 3) := dk_153 0 12 (dk_at dksX3_finest_1 7 rfl rfl)
theorem dX3_finest_34 : decode cX3_finest 34 = .ok (.iload_n 3, 1) := dk_29 (dk_at dksX3_finest_1 10 rfl rfl)
theorem dX3_finest_35 : decode cX3_finest 35 = .ok (.iload_n 2, 1) := dk_28 (dk_at dksX3_finest_1 11 rfl rfl)
theorem dX3_finest_36 : decode cX3_finest 36 = .ok (.isub, 1) := dk_100 (dk_at dksX3_finest_1 12 rfl rfl)
theorem dX3_finest_37 : decode cX3_finest 37 = .ok (.sipush 199, 3) := dk_17 0 199 (dk_at dksX3_finest_1 13 rfl rfl)
theorem dX3_finest_40 : decode cX3_finest 40 = .ok (.if_icmp .le 5, 3) := dk_164 0 5 (dk_at dksX3_finest_1 16 rfl rfl)
theorem dX3_finest_43 : decode cX3_finest 43 = .ok (.iconst (-1), 1) := dk_2 (dk_at dksX3_finest_1 19 rfl rfl)
theorem dX3_finest_44 : decode cX3_finest 44 = .ok (.ireturn, 1) := dk_172 (dk_at dksX3_finest_1 20 rfl rfl)
theorem dX3_finest_45 : decode cX3_finest 45 = .ok (.bipush (-4), 2) := dk_16 252 (dk_at dksX3_finest_1 21 rfl rfl)
theorem dX3_finest_47 : decode cX3_finest 47 = .ok (.istore 5, 2) := dk_54 5 (dk_at dksX3_finest_2 0 rfl rfl)
theorem dX3_finest_49 : decode cX3_finest 49 = .ok (.lconst 0, 1) := dk_9 (dk_at dksX3_finest_2 2 rfl rfl)
theorem dX3_finest_50 : decode cX3_finest 50 = .ok (.lstore 6, 2) := dk_55 6 (dk_at dksX3_finest_2 3 rfl rfl)
theorem dX3_finest_52 : decode cX3_finest 52 = .ok (.lconst 1, 1) := dk_10 (dk_at dksX3_finest_2 5 rfl rfl)
theorem dX3_finest_53 : decode cX3_finest 53 = .ok (.lstore 8, 2) := dk_55 8 (dk_at dksX3_finest_2 6 rfl rfl)
theorem dX3_finest_55 : decode cX3_finest 55 = .ok (.aload_n 0, 1) := dk_42 (dk_at dksX3_finest_2 8 rfl rfl)
theorem dX3_finest_56 : decode cX3_finest 56 = .ok (.iload_n 1, 1) := dk_27 (dk_at dksX3_finest_2 9 rfl rfl)
theorem dX3_finest_57 : decode cX3_finest 57 = .ok (.invokevirtual 295, 3) := dk_182 1 39 (dk_at dksX3_finest_2 10 rfl rfl)
theorem dX3_finest_60 : decode cX3_finest 60 = .ok (.iload_n 2, 1) := dk_28 (dk_at dksX3_finest_2 13 rfl rfl)
theorem dX3_finest_61 : decode cX3_finest 61 = .ok (.istore 10, 2) := dk_54 10 (dk_at dksX3_finest_2 14 rfl rfl)
theorem dX3_finest_63 : decode cX3_finest 63 = .ok (.iload 10, 2) := dk_21 10 (dk_at dksX3_finest_2 16 rfl rfl)
theorem dX3_finest_65 : decode cX3_finest 65 = .ok (.iload_n 3, 1) := dk_29 (dk_at dksX3_finest_2 18 rfl rfl)
theorem dX3_finest_66 : decode cX3_finest 66 = .ok (.if_icmp .gt 137, 3) := dk_163 0 137 (dk_at dksX3_finest_2 19 rfl rfl)
theorem dX3_finest_69 : decode cX3_finest 69 = .ok (.aload_n 0, 1) := dk_42 (dk_at dksX3_finest_2 22 rfl rfl)
theorem dX3_finest_70 : decode cX3_finest 70 = .ok (.getfield 292, 3) := dk_180 1 36 (dk_at dksX3_finest_3 0 rfl rfl)
theorem dX3_finest_73 : decode cX3_finest 73 = .ok (.bipush (-4), 2) := dk_16 252 (dk_at dksX3_finest_3 3 rfl rfl)
theorem dX3_finest_75 : decode cX3_finest 75 = .ok (.if_icmp .eq 128, 3) := dk_159 0 128 (dk_at dksX3_finest_3 5 rfl rfl)
theorem dX3_finest_78 : decode cX3_finest 78 = .ok (.aload_n 0, 1) := dk_42 (dk_at dksX3_finest_3 8 rfl rfl)
theorem dX3_finest_79 : decode cX3_finest 79 = .ok (.iload 10, 2) := dk_21 10 (dk_at dksX3_finest_3 9 rfl rfl)
theorem dX3_finest_81 : decode cX3_finest 81 = .ok (.iload 4, 2) := dk_21 4 (dk_at dksX3_finest_3 11 rfl rfl)
theorem dX3_finest_83 : decode cX3_finest 83 = .ok (.invokevirtual 299, 3) := dk_182 1 43 (dk_at dksX3_finest_3 13 rfl rfl)
theorem dX3_finest_86 : decode cX3_finest 86 = .ok (.aload_n 0, 1) := dk_42 (dk_at dksX3_finest_3 16 rfl rfl)
theorem dX3_finest_87 : decode cX3_finest 87 = .ok (.getfield 303, 3) := dk_180 1 47 (dk_at dksX3_finest_3 17 rfl rfl)
theorem dX3_finest_90 : decode cX3_finest 90 = .ok (.aload_n 0, 1) := dk_42 (dk_at dksX3_finest_3 20 rfl rfl)
theorem dX3_finest_91 : decode cX3_finest 91 = .ok (.getfield 212, 3) := dk_180 0 212 (dk_at dksX3_finest_3 21 rfl rfl)
theorem dX3_finest_94 : decode cX3_finest 94 = .ok (.i2l, 1) := dk_133 (dk_at dksX3_finest_4 0 rfl rfl)
theorem dX3_finest_95 : decode cX3_finest 95 = .ok (.lmul, 1) := dk_105 (dk_at dksX3_finest_4 1 rfl rfl)
theorem dX3_finest_96 : decode cX3_finest 96 = .ok (.aload_n 0, 1) := dk_42 (dk_at dksX3_finest_4 2 rfl rfl)
theorem dX3_finest_97 : decode cX3_finest 97 = .ok (.iload 4, 2) := dk_21 4 (dk_at dksX3_finest_4 3 rfl rfl)
theorem dX3_finest_99 : decode cX3_finest 99 = .ok (.invokevirtual 257, 3) := dk_182 1 1 (dk_at dksX3_finest_4 5 rfl rfl)
theorem dX3_finest_102 : decode cX3_finest 102 = .ok (.i2l, 1) := dk_133 (dk_at dksX3_finest_4 8 rfl rfl)
theorem dX3_finest_103 : decode cX3_finest 103 = .ok (.aload_n 0, 1) := dk_42 (dk_at dksX3_finest_4 9 rfl rfl)
theorem dX3_finest_104 : decode cX3_finest 104 = .ok (.getfield 307, 3) := dk_180 1 51 (dk_at dksX3_finest_4 10 rfl rfl)
theorem dX3_finest_107 : decode cX3_finest 107 = .ok (.lmul, 1) := dk_105 (dk_at dksX3_finest_4 13 rfl rfl)
theorem dX3_finest_108 : decode cX3_finest 108 = .ok (.lsub, 1) := dk_101 (dk_at dksX3_finest_4 14 rfl rfl)
theorem dX3_finest_109 : decode cX3_finest 109 = .ok (.invokestatic 111, 3) := dk_184 0 111 (dk_at dksX3_finest_4 15 rfl rfl)
theorem dX3_finest_112 : decode cX3_finest 112 = .ok (.lstore 11, 2) := dk_55 11 (dk_at dksX3_finest_4 18 rfl rfl)
theorem dX3_finest_114 : decode cX3_finest 114 = .ok (.aload_n 0, 1) := dk_42 (dk_at dksX3_finest_4 20 rfl rfl)
theorem dX3_finest_115 : decode cX3_finest 115 = .ok (.getfield 307, 3) := dk_180 1 51 (dk_at dksX3_finest_4 21 rfl rfl)
theorem dX3_finest_118 : decode cX3_finest 118 = .ok (.lconst 0, 1) := dk_9 (dk_at dksX3_finest_5 0 rfl rfl)
theorem dX3_finest_119 : decode cX3_finest 119 = .ok (.lcmp, 1) := dk_148 (dk_at dksX3_finest_5 1 rfl rfl)
theorem dX3_finest_120 : decode cX3_finest 120 = .ok (.ifCond .le 30, 3) := dk_158 0 30 (dk_at dksX3_finest_5 2 rfl rfl)
theorem dX3_finest_123 : decode cX3_finest 123 = .ok (.iload 5, 2) := dk_21 5 (dk_at dksX3_finest_5 5 rfl rfl)
theorem dX3_finest_125 : decode cX3_finest 125 = .ok (.bipush (-4), 2) := dk_16 252 (dk_at dksX3_finest_5 7 rfl rfl)
theorem dX3_finest_127 : decode cX3_finest 127 = .ok (.if_icmp .eq 19, 3) := dk_159 0 19 (dk_at dksX3_finest_5 9 rfl rfl)
theorem dX3_finest_130 : decode cX3_finest 130 = .ok (.lload 11, 2) := dk_22 11 (dk_at dksX3_finest_5 12 rfl rfl)
theorem dX3_finest_132 : decode cX3_finest 132 = .ok (.lload 8, 2) := dk_22 8 (dk_at dksX3_finest_5 14 rfl rfl)
theorem dX3_finest_134 : decode cX3_finest 134 = .ok (.lmul, 1) := dk_105 (dk_at dksX3_finest_5 16 rfl rfl)
theorem dX3_finest_135 : decode cX3_finest 135 = .ok (.lload 6, 2) := dk_22 6 (dk_at dksX3_finest_5 17 rfl rfl)
theorem dX3_finest_137 : decode cX3_finest 137 = .ok (.aload_n 0, 1) := dk_42 (dk_at dksX3_finest_5 19 rfl rfl)
theorem dX3_finest_138 : decode cX3_finest 138 = .ok (.getfield 307, 3) := dk_180 1 51 (dk_at dksX3_finest_5 20 rfl rfl)
theorem dX3_finest_141 : decode cX3_finest 141 = .ok (.lmul, 1) := dk_105 (dk_at dksX3_finest_5 23 rfl rfl)
theorem dX3_finest_142 : decode cX3_finest 142 = .ok (.lcmp, 1) := dk_148 (dk_at dksX3_finest_6 0 rfl rfl)
theorem dX3_finest_143 : decode cX3_finest 143 = .ok (.ifCond .ge 7, 3) := dk_156 0 7 (dk_at dksX3_finest_6 1 rfl rfl)
theorem dX3_finest_146 : decode cX3_finest 146 = .ok (.iconst 1, 1) := dk_4 (dk_at dksX3_finest_6 4 rfl rfl)
theorem dX3_finest_147 : decode cX3_finest 147 = .ok (.goto 4, 3) := dk_167 0 4 (dk_at dksX3_finest_6 5 rfl rfl)
theorem dX3_finest_150 : decode cX3_finest 150 = .ok (.iconst 0, 1) := dk_3 (dk_at dksX3_finest_6 8 rfl rfl)
theorem dX3_finest_151 : decode cX3_finest 151 = .ok (.istore 13, 2) := dk_54 13 (dk_at dksX3_finest_6 9 rfl rfl)
theorem dX3_finest_153 : decode cX3_finest 153 = .ok (.iload 13, 2) := dk_21 13 (dk_at dksX3_finest_6 11 rfl rfl)
theorem dX3_finest_155 : decode cX3_finest 155 = .ok (.ifCond .eq 8, 3) := dk_153 0 8 (dk_at dksX3_finest_6 13 rfl rfl)
theorem dX3_finest_158 : decode cX3_finest 158 = .ok (.iload 10, 2) := dk_21 10 (dk_at dksX3_finest_6 16 rfl rfl)
theorem dX3_finest_160 : decode cX3_finest 160 = .ok (.goto 5, 3) := dk_167 0 5 (dk_at dksX3_finest_6 18 rfl rfl)
theorem dX3_finest_163 : decode cX3_finest 163 = .ok (.iload 5, 2) := dk_21 5 (dk_at dksX3_finest_6 21 rfl rfl)
theorem dX3_finest_165 : decode cX3_finest 165 = .ok (.istore 5, 2) := dk_54 5 (dk_at dksX3_finest_7 0 rfl rfl)
theorem dX3_finest_167 : decode cX3_finest 167 = .ok (.iload 13, 2) := dk_21 13 (dk_at dksX3_finest_7 2 rfl rfl)
theorem dX3_finest_169 : decode cX3_finest 169 = .ok (.ifCond .eq 8, 3) := dk_153 0 8 (dk_at dksX3_finest_7 4 rfl rfl)
theorem dX3_finest_172 : decode cX3_finest 172 = .ok (.lload 11, 2) := dk_22 11 (dk_at dksX3_finest_7 7 rfl rfl)
theorem dX3_finest_174 : decode cX3_finest 174 = .ok (.goto 5, 3) := dk_167 0 5 (dk_at dksX3_finest_7 9 rfl rfl)
theorem dX3_finest_177 : decode cX3_finest 177 = .ok (.lload 6, 2) := dk_22 6 (dk_at dksX3_finest_7 12 rfl rfl)
theorem dX3_finest_179 : decode cX3_finest 179 = .ok (.lstore 6, 2) := dk_55 6 (dk_at dksX3_finest_7 14 rfl rfl)
theorem dX3_finest_181 : decode cX3_finest 181 = .ok (.iload 13, 2) := dk_21 13 (dk_at dksX3_finest_7 16 rfl rfl)
theorem dX3_finest_183 : decode cX3_finest 183 = .ok (.ifCond .eq 10, 3) := dk_153 0 10 (dk_at dksX3_finest_7 18 rfl rfl)
theorem dX3_finest_186 : decode cX3_finest 186 = .ok (.aload_n 0, 1) := dk_42 (dk_at dksX3_finest_7 21 rfl rfl)
theorem dX3_finest_187 : decode cX3_finest 187 = .ok (.getfield 307, 3) := dk_180 1 51 (dk_at dksX3_finest_8 0 rfl rfl)
theorem dX3_finest_190 : decode cX3_finest 190 = .ok (.goto 5, 3) := dk_167 0 5 (dk_at dksX3_finest_8 3 rfl rfl)
theorem dX3_finest_193 : decode cX3_finest 193 = .ok (.lload 8, 2) := dk_22 8 (dk_at dksX3_finest_8 6 rfl rfl)
theorem dX3_finest_195 : decode cX3_finest 195 = .ok (.lstore 8, 2) := dk_55 8 (dk_at dksX3_finest_8 8 rfl rfl)
theorem dX3_finest_197 : decode cX3_finest 197 = .ok (.iinc 10 1, 3) := dk_132 10 1 (dk_at dksX3_finest_8 10 rfl rfl)
theorem dX3_finest_200 : decode cX3_finest 200 = .ok (.goto (-137), 3) := dk_167 255 119 (dk_at dksX3_finest_8 13 rfl rfl)
theorem dX3_finest_203 : decode cX3_finest 203 = .ok (.iload 5, 2) := dk_21 5 (dk_at dksX3_finest_8 16 rfl rfl)
theorem dX3_finest_205 : decode cX3_finest 205 = .ok (.ireturn, 1) := dk_172 (dk_at dksX3_finest_8 18 rfl rfl)
abbrev cX3_shows : ByteArray := prog_11_method_61_code
def yX3_shows : MethodName := ⟨RX3, "shows", "(IIIII)I"⟩
def dkwX3_shows_1 : List UInt8 := [28, 29, 21, 4, 182, 1, 83, 42, 180, 0, 87, 21, 5, 46, 172]
abbrev dktX3_shows_1 : List UInt8 := dkwX3_shows_1 ++ []
def dkwX3_shows_0 : List UInt8 := [27, 28, 29, 21, 4, 184, 1, 79, 153, 0, 12, 42, 21, 5, 182, 0, 243, 154, 0, 5, 2, 172, 42, 27]
abbrev dktX3_shows_0 : List UInt8 := dkwX3_shows_0 ++ dktX3_shows_1
theorem dksX3_shows_0 : cX3_shows.data.toList.drop 0 = dktX3_shows_0 := by decide +kernel
theorem dksX3_shows_1 : cX3_shows.data.toList.drop 24 = dktX3_shows_1 := dk_seg dksX3_shows_0 24 rfl rfl
theorem dX3_shows_0 : decode cX3_shows 0 = .ok (.iload_n 1, 1) := dk_27 (dk_at dksX3_shows_0 0 rfl rfl)
theorem dX3_shows_1 : decode cX3_shows 1 = .ok (.iload_n 2, 1) := dk_28 (dk_at dksX3_shows_0 1 rfl rfl)
theorem dX3_shows_2 : decode cX3_shows 2 = .ok (.iload_n 3, 1) := dk_29 (dk_at dksX3_shows_0 2 rfl rfl)
theorem dX3_shows_3 : decode cX3_shows 3 = .ok (.iload 4, 2) := dk_21 4 (dk_at dksX3_shows_0 3 rfl rfl)
theorem dX3_shows_5 : decode cX3_shows 5 = .ok (.invokestatic 335, 3) := dk_184 1 79 (dk_at dksX3_shows_0 5 rfl rfl)
theorem dX3_shows_8 : decode cX3_shows 8 = .ok (.ifCond .eq 12, 3) := dk_153 0 12 (dk_at dksX3_shows_0 8 rfl rfl)
theorem dX3_shows_11 : decode cX3_shows 11 = .ok (.aload_n 0, 1) := dk_42 (dk_at dksX3_shows_0 11 rfl rfl)
theorem dX3_shows_12 : decode cX3_shows 12 = .ok (.iload 5, 2) := dk_21 5 (dk_at dksX3_shows_0 12 rfl rfl)
theorem dX3_shows_14 : decode cX3_shows 14 = .ok (.invokevirtual 243, 3) := dk_182 0 243 (dk_at dksX3_shows_0 14 rfl rfl)
theorem dX3_shows_17 : decode cX3_shows 17 = .ok (.ifCond .ne 5, 3) := dk_154 0 5 (dk_at dksX3_shows_0 17 rfl rfl)
theorem dX3_shows_20 : decode cX3_shows 20 = .ok (.iconst (-1), 1) := dk_2 (dk_at dksX3_shows_0 20 rfl rfl)
theorem dX3_shows_21 : decode cX3_shows 21 = .ok (.ireturn, 1) := dk_172 (dk_at dksX3_shows_0 21 rfl rfl)
theorem dX3_shows_22 : decode cX3_shows 22 = .ok (.aload_n 0, 1) := dk_42 (dk_at dksX3_shows_0 22 rfl rfl)
theorem dX3_shows_23 : decode cX3_shows 23 = .ok (.iload_n 1, 1) := dk_27 (dk_at dksX3_shows_0 23 rfl rfl)
theorem dX3_shows_24 : decode cX3_shows 24 = .ok (.iload_n 2, 1) := dk_28 (dk_at dksX3_shows_1 0 rfl rfl)
theorem dX3_shows_25 : decode cX3_shows 25 = .ok (.iload_n 3, 1) := dk_29 (dk_at dksX3_shows_1 1 rfl rfl)
theorem dX3_shows_26 : decode cX3_shows 26 = .ok (.iload 4, 2) := dk_21 4 (dk_at dksX3_shows_1 2 rfl rfl)
theorem dX3_shows_28 : decode cX3_shows 28 = .ok (.invokevirtual 339, 3) := dk_182 1 83 (dk_at dksX3_shows_1 4 rfl rfl)
theorem dX3_shows_31 : decode cX3_shows 31 = .ok (.aload_n 0, 1) := dk_42 (dk_at dksX3_shows_1 7 rfl rfl)
theorem dX3_shows_32 : decode cX3_shows 32 = .ok (.getfield 87, 3) := dk_180 0 87 (dk_at dksX3_shows_1 8 rfl rfl)
theorem dX3_shows_35 : decode cX3_shows 35 = .ok (.iload 5, 2) := dk_21 5 (dk_at dksX3_shows_1 11 rfl rfl)
theorem dX3_shows_37 : decode cX3_shows 37 = .ok (.iaload, 1) := dk_46 (dk_at dksX3_shows_1 13 rfl rfl)
theorem dX3_shows_38 : decode cX3_shows 38 = .ok (.ireturn, 1) := dk_172 (dk_at dksX3_shows_1 14 rfl rfl)
abbrev cX3_isSampling : ByteArray := prog_11_method_60_code
def yX3_isSampling : MethodName := ⟨RX3, "isSampling", "(IIII)Z"⟩
def dkwX3_isSampling_2 : List UInt8 := [3, 172]
abbrev dktX3_isSampling_2 : List UInt8 := dkwX3_isSampling_2 ++ []
def dkwX3_isSampling_1 : List UInt8 := [100, 133, 184, 0, 124, 153, 0, 19, 29, 133, 9, 20, 1, 77, 184, 0, 124, 153, 0, 7, 4, 167, 0, 4]
abbrev dktX3_isSampling_1 : List UInt8 := dkwX3_isSampling_1 ++ dktX3_isSampling_2
def dkwX3_isSampling_0 : List UInt8 := [26, 184, 1, 4, 153, 0, 44, 27, 133, 10, 20, 1, 75, 184, 0, 124, 153, 0, 32, 28, 133, 9, 27, 4]
abbrev dktX3_isSampling_0 : List UInt8 := dkwX3_isSampling_0 ++ dktX3_isSampling_1
theorem dksX3_isSampling_0 : cX3_isSampling.data.toList.drop 0 = dktX3_isSampling_0 := by decide +kernel
theorem dksX3_isSampling_1 : cX3_isSampling.data.toList.drop 24 = dktX3_isSampling_1 := dk_seg dksX3_isSampling_0 24 rfl rfl
theorem dksX3_isSampling_2 : cX3_isSampling.data.toList.drop 48 = dktX3_isSampling_2 := dk_seg dksX3_isSampling_1 24 rfl rfl
theorem dX3_isSampling_0 : decode cX3_isSampling 0 = .ok (.iload_n 0, 1) := dk_26 (dk_at dksX3_isSampling_0 0 rfl rfl)
theorem dX3_isSampling_1 : decode cX3_isSampling 1 = .ok (.invokestatic 260, 3) := dk_184 1 4 (dk_at dksX3_isSampling_0 1 rfl rfl)
theorem dX3_isSampling_4 : decode cX3_isSampling 4 = .ok (.ifCond .eq 44, 3) := dk_153 0 44 (dk_at dksX3_isSampling_0 4 rfl rfl)
theorem dX3_isSampling_7 : decode cX3_isSampling 7 = .ok (.iload_n 1, 1) := dk_27 (dk_at dksX3_isSampling_0 7 rfl rfl)
theorem dX3_isSampling_8 : decode cX3_isSampling 8 = .ok (.i2l, 1) := dk_133 (dk_at dksX3_isSampling_0 8 rfl rfl)
theorem dX3_isSampling_9 : decode cX3_isSampling 9 = .ok (.lconst 1, 1) := dk_10 (dk_at dksX3_isSampling_0 9 rfl rfl)
theorem dX3_isSampling_10 : decode cX3_isSampling 10 = .ok (.ldc2_w 331, 3) := dk_20 1 75 (dk_at dksX3_isSampling_0 10 rfl rfl)
theorem dX3_isSampling_13 : decode cX3_isSampling 13 = .ok (.invokestatic 124, 3) := dk_184 0 124 (dk_at dksX3_isSampling_0 13 rfl rfl)
theorem dX3_isSampling_16 : decode cX3_isSampling 16 = .ok (.ifCond .eq 32, 3) := dk_153 0 32 (dk_at dksX3_isSampling_0 16 rfl rfl)
theorem dX3_isSampling_19 : decode cX3_isSampling 19 = .ok (.iload_n 2, 1) := dk_28 (dk_at dksX3_isSampling_0 19 rfl rfl)
theorem dX3_isSampling_20 : decode cX3_isSampling 20 = .ok (.i2l, 1) := dk_133 (dk_at dksX3_isSampling_0 20 rfl rfl)
theorem dX3_isSampling_21 : decode cX3_isSampling 21 = .ok (.lconst 0, 1) := dk_9 (dk_at dksX3_isSampling_0 21 rfl rfl)
theorem dX3_isSampling_22 : decode cX3_isSampling 22 = .ok (.iload_n 1, 1) := dk_27 (dk_at dksX3_isSampling_0 22 rfl rfl)
theorem dX3_isSampling_23 : decode cX3_isSampling 23 = .ok (.iconst 1, 1) := dk_4 (dk_at dksX3_isSampling_0 23 rfl rfl)
theorem dX3_isSampling_24 : decode cX3_isSampling 24 = .ok (.isub, 1) := dk_100 (dk_at dksX3_isSampling_1 0 rfl rfl)
theorem dX3_isSampling_25 : decode cX3_isSampling 25 = .ok (.i2l, 1) := dk_133 (dk_at dksX3_isSampling_1 1 rfl rfl)
theorem dX3_isSampling_26 : decode cX3_isSampling 26 = .ok (.invokestatic 124, 3) := dk_184 0 124 (dk_at dksX3_isSampling_1 2 rfl rfl)
theorem dX3_isSampling_29 : decode cX3_isSampling 29 = .ok (.ifCond .eq 19, 3) := dk_153 0 19 (dk_at dksX3_isSampling_1 5 rfl rfl)
theorem dX3_isSampling_32 : decode cX3_isSampling 32 = .ok (.iload_n 3, 1) := dk_29 (dk_at dksX3_isSampling_1 8 rfl rfl)
theorem dX3_isSampling_33 : decode cX3_isSampling 33 = .ok (.i2l, 1) := dk_133 (dk_at dksX3_isSampling_1 9 rfl rfl)
theorem dX3_isSampling_34 : decode cX3_isSampling 34 = .ok (.lconst 0, 1) := dk_9 (dk_at dksX3_isSampling_1 10 rfl rfl)
theorem dX3_isSampling_35 : decode cX3_isSampling 35 = .ok (.ldc2_w 333, 3) := dk_20 1 77 (dk_at dksX3_isSampling_1 11 rfl rfl)
theorem dX3_isSampling_38 : decode cX3_isSampling 38 = .ok (.invokestatic 124, 3) := dk_184 0 124 (dk_at dksX3_isSampling_1 14 rfl rfl)
theorem dX3_isSampling_41 : decode cX3_isSampling 41 = .ok (.ifCond .eq 7, 3) := dk_153 0 7 (dk_at dksX3_isSampling_1 17 rfl rfl)
theorem dX3_isSampling_44 : decode cX3_isSampling 44 = .ok (.iconst 1, 1) := dk_4 (dk_at dksX3_isSampling_1 20 rfl rfl)
theorem dX3_isSampling_45 : decode cX3_isSampling 45 = .ok (.goto 4, 3) := dk_167 0 4 (dk_at dksX3_isSampling_1 21 rfl rfl)
theorem dX3_isSampling_48 : decode cX3_isSampling 48 = .ok (.iconst 0, 1) := dk_3 (dk_at dksX3_isSampling_2 0 rfl rfl)
theorem dX3_isSampling_49 : decode cX3_isSampling 49 = .ok (.ireturn, 1) := dk_172 (dk_at dksX3_isSampling_2 1 rfl rfl)
abbrev cX3_findSamples : ByteArray := prog_11_method_59_code
def yX3_findSamples : MethodName := ⟨RX3, "findSamples", "(IIII)V"⟩
def dkwX3_findSamples_6 : List UInt8 := [177]
abbrev dktX3_findSamples_6 : List UInt8 := dkwX3_findSamples_6 ++ []
def dkwX3_findSamples_5 : List UInt8 := [21, 7, 96, 79, 167, 0, 14, 42, 89, 180, 1, 72, 21, 7, 96, 181, 1, 72, 132, 6, 1, 167, 255, 158]
abbrev dktX3_findSamples_5 : List UInt8 := dkwX3_findSamples_5 ++ dktX3_findSamples_6
def dkwX3_findSamples_4 : List UInt8 := [42, 180, 0, 225, 162, 0, 26, 42, 180, 0, 87, 42, 180, 0, 25, 21, 6, 21, 4, 96, 46, 92, 46]
abbrev dktX3_findSamples_4 : List UInt8 := dkwX3_findSamples_4 ++ dktX3_findSamples_5
def dkwX3_findSamples_3 : List UInt8 := [54, 7, 21, 5, 28, 112, 54, 5, 42, 89, 180, 1, 69, 21, 7, 96, 181, 1, 69, 21, 6, 21, 4, 96]
abbrev dktX3_findSamples_3 : List UInt8 := dkwX3_findSamples_3 ++ dktX3_findSamples_4
def dkwX3_findSamples_2 : List UInt8 := [162, 0, 95, 21, 5, 42, 42, 180, 0, 25, 21, 6, 46, 27, 182, 0, 251, 96, 54, 5, 21, 5, 28, 108]
abbrev dktX3_findSamples_2 : List UInt8 := dkwX3_findSamples_2 ++ dktX3_findSamples_3
def dkwX3_findSamples_1 : List UInt8 := [21, 5, 3, 79, 132, 5, 1, 167, 255, 238, 29, 54, 5, 3, 54, 6, 21, 6, 42, 180, 0, 225]
abbrev dktX3_findSamples_1 : List UInt8 := dkwX3_findSamples_1 ++ dktX3_findSamples_2
def dkwX3_findSamples_0 : List UInt8 := [42, 3, 181, 1, 69, 42, 3, 181, 1, 72, 3, 54, 5, 21, 5, 16, 16, 162, 0, 17, 42, 180, 0, 87]
abbrev dktX3_findSamples_0 : List UInt8 := dkwX3_findSamples_0 ++ dktX3_findSamples_1
theorem dksX3_findSamples_0 : cX3_findSamples.data.toList.drop 0 = dktX3_findSamples_0 := by decide +kernel
theorem dksX3_findSamples_1 : cX3_findSamples.data.toList.drop 24 = dktX3_findSamples_1 := dk_seg dksX3_findSamples_0 24 rfl rfl
theorem dksX3_findSamples_2 : cX3_findSamples.data.toList.drop 46 = dktX3_findSamples_2 := dk_seg dksX3_findSamples_1 22 rfl rfl
theorem dksX3_findSamples_3 : cX3_findSamples.data.toList.drop 70 = dktX3_findSamples_3 := dk_seg dksX3_findSamples_2 24 rfl rfl
theorem dksX3_findSamples_4 : cX3_findSamples.data.toList.drop 94 = dktX3_findSamples_4 := dk_seg dksX3_findSamples_3 24 rfl rfl
theorem dksX3_findSamples_5 : cX3_findSamples.data.toList.drop 117 = dktX3_findSamples_5 := dk_seg dksX3_findSamples_4 23 rfl rfl
theorem dksX3_findSamples_6 : cX3_findSamples.data.toList.drop 141 = dktX3_findSamples_6 := dk_seg dksX3_findSamples_5 24 rfl rfl
theorem dX3_findSamples_0 : decode cX3_findSamples 0 = .ok (.aload_n 0, 1) := dk_42 (dk_at dksX3_findSamples_0 0 rfl rfl)
theorem dX3_findSamples_1 : decode cX3_findSamples 1 = .ok (.iconst 0, 1) := dk_3 (dk_at dksX3_findSamples_0 1 rfl rfl)
theorem dX3_findSamples_2 : decode cX3_findSamples 2 = .ok (.putfield 325, 3) := dk_181 1 69 (dk_at dksX3_findSamples_0 2 rfl rfl)
theorem dX3_findSamples_5 : decode cX3_findSamples 5 = .ok (.aload_n 0, 1) := dk_42 (dk_at dksX3_findSamples_0 5 rfl rfl)
theorem dX3_findSamples_6 : decode cX3_findSamples 6 = .ok (.iconst 0, 1) := dk_3 (dk_at dksX3_findSamples_0 6 rfl rfl)
theorem dX3_findSamples_7 : decode cX3_findSamples 7 = .ok (.putfield 328, 3) := dk_181 1 72 (dk_at dksX3_findSamples_0 7 rfl rfl)
theorem dX3_findSamples_10 : decode cX3_findSamples 10 = .ok (.iconst 0, 1) := dk_3 (dk_at dksX3_findSamples_0 10 rfl rfl)
theorem dX3_findSamples_11 : decode cX3_findSamples 11 = .ok (.istore 5, 2) := dk_54 5 (dk_at dksX3_findSamples_0 11 rfl rfl)
theorem dX3_findSamples_13 : decode cX3_findSamples 13 = .ok (.iload 5, 2) := dk_21 5 (dk_at dksX3_findSamples_0 13 rfl rfl)
theorem dX3_findSamples_15 : decode cX3_findSamples 15 = .ok (.bipush 16, 2) := dk_16 16 (dk_at dksX3_findSamples_0 15 rfl rfl)
theorem dX3_findSamples_17 : decode cX3_findSamples 17 = .ok (.if_icmp .ge 17, 3) := dk_162 0 17 (dk_at dksX3_findSamples_0 17 rfl rfl)
theorem dX3_findSamples_20 : decode cX3_findSamples 20 = .ok (.aload_n 0, 1) := dk_42 (dk_at dksX3_findSamples_0 20 rfl rfl)
theorem dX3_findSamples_21 : decode cX3_findSamples 21 = .ok (.getfield 87, 3) := dk_180 0 87 (dk_at dksX3_findSamples_0 21 rfl rfl)
theorem dX3_findSamples_24 : decode cX3_findSamples 24 = .ok (.iload 5, 2) := dk_21 5 (dk_at dksX3_findSamples_1 0 rfl rfl)
theorem dX3_findSamples_26 : decode cX3_findSamples 26 = .ok (.iconst 0, 1) := dk_3 (dk_at dksX3_findSamples_1 2 rfl rfl)
theorem dX3_findSamples_27 : decode cX3_findSamples 27 = .ok (.iastore, 1) := dk_79 (dk_at dksX3_findSamples_1 3 rfl rfl)
theorem dX3_findSamples_28 : decode cX3_findSamples 28 = .ok (.iinc 5 1, 3) := dk_132 5 1 (dk_at dksX3_findSamples_1 4 rfl rfl)
theorem dX3_findSamples_31 : decode cX3_findSamples 31 = .ok (.goto (-18), 3) := dk_167 255 238 (dk_at dksX3_findSamples_1 7 rfl rfl)
theorem dX3_findSamples_34 : decode cX3_findSamples 34 = .ok (.iload_n 3, 1) := dk_29 (dk_at dksX3_findSamples_1 10 rfl rfl)
theorem dX3_findSamples_35 : decode cX3_findSamples 35 = .ok (.istore 5, 2) := dk_54 5 (dk_at dksX3_findSamples_1 11 rfl rfl)
theorem dX3_findSamples_37 : decode cX3_findSamples 37 = .ok (.iconst 0, 1) := dk_3 (dk_at dksX3_findSamples_1 13 rfl rfl)
theorem dX3_findSamples_38 : decode cX3_findSamples 38 = .ok (.istore 6, 2) := dk_54 6 (dk_at dksX3_findSamples_1 14 rfl rfl)
theorem dX3_findSamples_40 : decode cX3_findSamples 40 = .ok (.iload 6, 2) := dk_21 6 (dk_at dksX3_findSamples_1 16 rfl rfl)
theorem dX3_findSamples_42 : decode cX3_findSamples 42 = .ok (.aload_n 0, 1) := dk_42 (dk_at dksX3_findSamples_1 18 rfl rfl)
theorem dX3_findSamples_43 : decode cX3_findSamples 43 = .ok (.getfield 225, 3) := dk_180 0 225 (dk_at dksX3_findSamples_1 19 rfl rfl)
theorem dX3_findSamples_46 : decode cX3_findSamples 46 = .ok (.if_icmp .ge 95, 3) := dk_162 0 95 (dk_at dksX3_findSamples_2 0 rfl rfl)
theorem dX3_findSamples_49 : decode cX3_findSamples 49 = .ok (.iload 5, 2) := dk_21 5 (dk_at dksX3_findSamples_2 3 rfl rfl)
theorem dX3_findSamples_51 : decode cX3_findSamples 51 = .ok (.aload_n 0, 1) := dk_42 (dk_at dksX3_findSamples_2 5 rfl rfl)
theorem dX3_findSamples_52 : decode cX3_findSamples 52 = .ok (.aload_n 0, 1) := dk_42 (dk_at dksX3_findSamples_2 6 rfl rfl)
theorem dX3_findSamples_53 : decode cX3_findSamples 53 = .ok (.getfield 25, 3) := dk_180 0 25 (dk_at dksX3_findSamples_2 7 rfl rfl)
theorem dX3_findSamples_56 : decode cX3_findSamples 56 = .ok (.iload 6, 2) := dk_21 6 (dk_at dksX3_findSamples_2 10 rfl rfl)
theorem dX3_findSamples_58 : decode cX3_findSamples 58 = .ok (.iaload, 1) := dk_46 (dk_at dksX3_findSamples_2 12 rfl rfl)
theorem dX3_findSamples_59 : decode cX3_findSamples 59 = .ok (.iload_n 1, 1) := dk_27 (dk_at dksX3_findSamples_2 13 rfl rfl)
theorem dX3_findSamples_60 : decode cX3_findSamples 60 = .ok (.invokevirtual 251, 3) := dk_182 0 251 (dk_at dksX3_findSamples_2 14 rfl rfl)
theorem dX3_findSamples_63 : decode cX3_findSamples 63 = .ok (.iadd, 1) := dk_96 (dk_at dksX3_findSamples_2 17 rfl rfl)
theorem dX3_findSamples_64 : decode cX3_findSamples 64 = .ok (.istore 5, 2) := dk_54 5 (dk_at dksX3_findSamples_2 18 rfl rfl)
theorem dX3_findSamples_66 : decode cX3_findSamples 66 = .ok (.iload 5, 2) := dk_21 5 (dk_at dksX3_findSamples_2 20 rfl rfl)
theorem dX3_findSamples_68 : decode cX3_findSamples 68 = .ok (.iload_n 2, 1) := dk_28 (dk_at dksX3_findSamples_2 22 rfl rfl)
theorem dX3_findSamples_69 : decode cX3_findSamples 69 = .ok (.idiv, 1) := dk_108 (dk_at dksX3_findSamples_2 23 rfl rfl)
theorem dX3_findSamples_70 : decode cX3_findSamples 70 = .ok (.istore 7, 2) := dk_54 7 (dk_at dksX3_findSamples_3 0 rfl rfl)
theorem dX3_findSamples_72 : decode cX3_findSamples 72 = .ok (.iload 5, 2) := dk_21 5 (dk_at dksX3_findSamples_3 2 rfl rfl)
theorem dX3_findSamples_74 : decode cX3_findSamples 74 = .ok (.iload_n 2, 1) := dk_28 (dk_at dksX3_findSamples_3 4 rfl rfl)
theorem dX3_findSamples_75 : decode cX3_findSamples 75 = .ok (.irem, 1) := dk_112 (dk_at dksX3_findSamples_3 5 rfl rfl)
theorem dX3_findSamples_76 : decode cX3_findSamples 76 = .ok (.istore 5, 2) := dk_54 5 (dk_at dksX3_findSamples_3 6 rfl rfl)
theorem dX3_findSamples_78 : decode cX3_findSamples 78 = .ok (.aload_n 0, 1) := dk_42 (dk_at dksX3_findSamples_3 8 rfl rfl)
theorem dX3_findSamples_79 : decode cX3_findSamples 79 = .ok (.dup, 1) := dk_89 (dk_at dksX3_findSamples_3 9 rfl rfl)
theorem dX3_findSamples_80 : decode cX3_findSamples 80 = .ok (.getfield 325, 3) := dk_180 1 69 (dk_at dksX3_findSamples_3 10 rfl rfl)
theorem dX3_findSamples_83 : decode cX3_findSamples 83 = .ok (.iload 7, 2) := dk_21 7 (dk_at dksX3_findSamples_3 13 rfl rfl)
theorem dX3_findSamples_85 : decode cX3_findSamples 85 = .ok (.iadd, 1) := dk_96 (dk_at dksX3_findSamples_3 15 rfl rfl)
theorem dX3_findSamples_86 : decode cX3_findSamples 86 = .ok (.putfield 325, 3) := dk_181 1 69 (dk_at dksX3_findSamples_3 16 rfl rfl)
theorem dX3_findSamples_89 : decode cX3_findSamples 89 = .ok (.iload 6, 2) := dk_21 6 (dk_at dksX3_findSamples_3 19 rfl rfl)
theorem dX3_findSamples_91 : decode cX3_findSamples 91 = .ok (.iload 4, 2) := dk_21 4 (dk_at dksX3_findSamples_3 21 rfl rfl)
theorem dX3_findSamples_93 : decode cX3_findSamples 93 = .ok (.iadd, 1) := dk_96 (dk_at dksX3_findSamples_3 23 rfl rfl)
theorem dX3_findSamples_94 : decode cX3_findSamples 94 = .ok (.aload_n 0, 1) := dk_42 (dk_at dksX3_findSamples_4 0 rfl rfl)
theorem dX3_findSamples_95 : decode cX3_findSamples 95 = .ok (.getfield 225, 3) := dk_180 0 225 (dk_at dksX3_findSamples_4 1 rfl rfl)
theorem dX3_findSamples_98 : decode cX3_findSamples 98 = .ok (.if_icmp .ge 26, 3) := dk_162 0 26 (dk_at dksX3_findSamples_4 4 rfl rfl)
theorem dX3_findSamples_101 : decode cX3_findSamples 101 = .ok (.aload_n 0, 1) := dk_42 (dk_at dksX3_findSamples_4 7 rfl rfl)
theorem dX3_findSamples_102 : decode cX3_findSamples 102 = .ok (.getfield 87, 3) := dk_180 0 87 (dk_at dksX3_findSamples_4 8 rfl rfl)
theorem dX3_findSamples_105 : decode cX3_findSamples 105 = .ok (.aload_n 0, 1) := dk_42 (dk_at dksX3_findSamples_4 11 rfl rfl)
theorem dX3_findSamples_106 : decode cX3_findSamples 106 = .ok (.getfield 25, 3) := dk_180 0 25 (dk_at dksX3_findSamples_4 12 rfl rfl)
theorem dX3_findSamples_109 : decode cX3_findSamples 109 = .ok (.iload 6, 2) := dk_21 6 (dk_at dksX3_findSamples_4 15 rfl rfl)
theorem dX3_findSamples_111 : decode cX3_findSamples 111 = .ok (.iload 4, 2) := dk_21 4 (dk_at dksX3_findSamples_4 17 rfl rfl)
theorem dX3_findSamples_113 : decode cX3_findSamples 113 = .ok (.iadd, 1) := dk_96 (dk_at dksX3_findSamples_4 19 rfl rfl)
theorem dX3_findSamples_114 : decode cX3_findSamples 114 = .ok (.iaload, 1) := dk_46 (dk_at dksX3_findSamples_4 20 rfl rfl)
theorem dX3_findSamples_115 : decode cX3_findSamples 115 = .ok (.dup2, 1) := dk_92 (dk_at dksX3_findSamples_4 21 rfl rfl)
theorem dX3_findSamples_116 : decode cX3_findSamples 116 = .ok (.iaload, 1) := dk_46 (dk_at dksX3_findSamples_4 22 rfl rfl)
theorem dX3_findSamples_117 : decode cX3_findSamples 117 = .ok (.iload 7, 2) := dk_21 7 (dk_at dksX3_findSamples_5 0 rfl rfl)
theorem dX3_findSamples_119 : decode cX3_findSamples 119 = .ok (.iadd, 1) := dk_96 (dk_at dksX3_findSamples_5 2 rfl rfl)
theorem dX3_findSamples_120 : decode cX3_findSamples 120 = .ok (.iastore, 1) := dk_79 (dk_at dksX3_findSamples_5 3 rfl rfl)
theorem dX3_findSamples_121 : decode cX3_findSamples 121 = .ok (.goto 14, 3) := dk_167 0 14 (dk_at dksX3_findSamples_5 4 rfl rfl)
theorem dX3_findSamples_124 : decode cX3_findSamples 124 = .ok (.aload_n 0, 1) := dk_42 (dk_at dksX3_findSamples_5 7 rfl rfl)
theorem dX3_findSamples_125 : decode cX3_findSamples 125 = .ok (.dup, 1) := dk_89 (dk_at dksX3_findSamples_5 8 rfl rfl)
theorem dX3_findSamples_126 : decode cX3_findSamples 126 = .ok (.getfield 328, 3) := dk_180 1 72 (dk_at dksX3_findSamples_5 9 rfl rfl)
theorem dX3_findSamples_129 : decode cX3_findSamples 129 = .ok (.iload 7, 2) := dk_21 7 (dk_at dksX3_findSamples_5 12 rfl rfl)
theorem dX3_findSamples_131 : decode cX3_findSamples 131 = .ok (.iadd, 1) := dk_96 (dk_at dksX3_findSamples_5 14 rfl rfl)
theorem dX3_findSamples_132 : decode cX3_findSamples 132 = .ok (.putfield 328, 3) := dk_181 1 72 (dk_at dksX3_findSamples_5 15 rfl rfl)
theorem dX3_findSamples_135 : decode cX3_findSamples 135 = .ok (.iinc 6 1, 3) := dk_132 6 1 (dk_at dksX3_findSamples_5 18 rfl rfl)
theorem dX3_findSamples_138 : decode cX3_findSamples 138 = .ok (.goto (-98), 3) := dk_167 255 158 (dk_at dksX3_findSamples_5 21 rfl rfl)
theorem dX3_findSamples_141 : decode cX3_findSamples 141 = .ok (.return_, 1) := dk_177 (dk_at dksX3_findSamples_6 0 rfl rfl)
abbrev cX3_samples : ByteArray := prog_11_method_62_code
def yX3_samples : MethodName := ⟨RX3, "samples", "(IIIII)I"⟩
def dkwX3_samples_10 : List UInt8 := [42, 180, 1, 69, 172, 42, 180, 1, 72, 172, 21, 6, 172, 21, 7, 172, 21, 8, 172, 21, 9, 172]
abbrev dktX3_samples_10 : List UInt8 := dkwX3_samples_10 ++ []
def dkwX3_samples_9 : List UInt8 := [170, 0, 0, 0, 0, 0, 0, 55, 0, 0, 0, 0, 0, 0, 0, 4, 0, 0, 0, 36, 0, 0, 0, 41, 0, 0, 0, 46, 0, 0, 0, 49, 0, 0, 0, 52]
abbrev dktX3_samples_9 : List UInt8 := dkwX3_samples_9 ++ dktX3_samples_10
def dkwX3_samples_8 : List UInt8 := [54, 9, 132, 10, 1, 167, 255, 112, 21, 5]
abbrev dktX3_samples_8 : List UInt8 := dkwX3_samples_8 ++ dktX3_samples_9
def dkwX3_samples_7 : List UInt8 := [42, 180, 0, 87, 21, 10, 46, 42, 180, 0, 87, 21, 9, 46, 164, 0, 8, 21, 10, 167, 0, 5, 21, 9]
abbrev dktX3_samples_7 : List UInt8 := dkwX3_samples_7 ++ dktX3_samples_8
def dkwX3_samples_6 : List UInt8 := [167, 0, 4, 3, 128, 54, 8, 42, 180, 0, 87, 21, 10, 46, 158, 0, 32, 21, 9, 16, 252, 159, 0, 20]
abbrev dktX3_samples_6 : List UInt8 := dkwX3_samples_6 ++ dktX3_samples_7
def dkwX3_samples_5 : List UInt8 := [180, 0, 87, 21, 10, 46, 158, 0, 20, 42, 21, 10, 27, 182, 0, 251, 154, 0, 10, 4, 21, 10, 120]
abbrev dktX3_samples_5 : List UInt8 := dkwX3_samples_5 ++ dktX3_samples_6
def dkwX3_samples_4 : List UInt8 := [21, 10, 27, 182, 0, 251, 158, 0, 10, 4, 21, 10, 120, 167, 0, 4, 3, 128, 54, 7, 21, 8, 42]
abbrev dktX3_samples_4 : List UInt8 := dkwX3_samples_4 ++ dktX3_samples_5
def dkwX3_samples_3 : List UInt8 := [4, 21, 10, 120, 167, 0, 4, 3, 128, 54, 6, 21, 7, 42, 180, 0, 87, 21, 10, 46, 154, 0, 20, 42]
abbrev dktX3_samples_3 : List UInt8 := dkwX3_samples_3 ++ dktX3_samples_4
def dkwX3_samples_2 : List UInt8 := [3, 54, 10, 21, 10, 42, 180, 0, 203, 162, 0, 141, 21, 6, 42, 180, 0, 87, 21, 10, 46, 158, 0, 10]
abbrev dktX3_samples_2 : List UInt8 := dkwX3_samples_2 ++ dktX3_samples_3
def dkwX3_samples_1 : List UInt8 := [2, 172, 42, 27, 28, 29, 21, 4, 182, 1, 83, 3, 54, 6, 3, 54, 7, 3, 54, 8, 16, 252, 54, 9]
abbrev dktX3_samples_1 : List UInt8 := dkwX3_samples_1 ++ dktX3_samples_2
def dkwX3_samples_0 : List UInt8 := [27, 28, 29, 21, 4, 184, 1, 79, 153, 0, 16, 21, 5, 133, 9, 20, 1, 87, 184, 0, 124, 154, 0, 5]
abbrev dktX3_samples_0 : List UInt8 := dkwX3_samples_0 ++ dktX3_samples_1
theorem dksX3_samples_0 : cX3_samples.data.toList.drop 0 = dktX3_samples_0 := by decide +kernel
theorem dksX3_samples_1 : cX3_samples.data.toList.drop 24 = dktX3_samples_1 := dk_seg dksX3_samples_0 24 rfl rfl
theorem dksX3_samples_2 : cX3_samples.data.toList.drop 48 = dktX3_samples_2 := dk_seg dksX3_samples_1 24 rfl rfl
theorem dksX3_samples_3 : cX3_samples.data.toList.drop 72 = dktX3_samples_3 := dk_seg dksX3_samples_2 24 rfl rfl
theorem dksX3_samples_4 : cX3_samples.data.toList.drop 96 = dktX3_samples_4 := dk_seg dksX3_samples_3 24 rfl rfl
theorem dksX3_samples_5 : cX3_samples.data.toList.drop 119 = dktX3_samples_5 := dk_seg dksX3_samples_4 23 rfl rfl
theorem dksX3_samples_6 : cX3_samples.data.toList.drop 142 = dktX3_samples_6 := dk_seg dksX3_samples_5 23 rfl rfl
theorem dksX3_samples_7 : cX3_samples.data.toList.drop 166 = dktX3_samples_7 := dk_seg dksX3_samples_6 24 rfl rfl
theorem dksX3_samples_8 : cX3_samples.data.toList.drop 190 = dktX3_samples_8 := dk_seg dksX3_samples_7 24 rfl rfl
theorem dksX3_samples_9 : cX3_samples.data.toList.drop 200 = dktX3_samples_9 := dk_seg dksX3_samples_8 10 rfl rfl
theorem dksX3_samples_10 : cX3_samples.data.toList.drop 236 = dktX3_samples_10 := dk_seg dksX3_samples_9 36 rfl rfl
theorem dX3_samples_0 : decode cX3_samples 0 = .ok (.iload_n 1, 1) := dk_27 (dk_at dksX3_samples_0 0 rfl rfl)
theorem dX3_samples_1 : decode cX3_samples 1 = .ok (.iload_n 2, 1) := dk_28 (dk_at dksX3_samples_0 1 rfl rfl)
theorem dX3_samples_2 : decode cX3_samples 2 = .ok (.iload_n 3, 1) := dk_29 (dk_at dksX3_samples_0 2 rfl rfl)
theorem dX3_samples_3 : decode cX3_samples 3 = .ok (.iload 4, 2) := dk_21 4 (dk_at dksX3_samples_0 3 rfl rfl)
theorem dX3_samples_5 : decode cX3_samples 5 = .ok (.invokestatic 335, 3) := dk_184 1 79 (dk_at dksX3_samples_0 5 rfl rfl)
theorem dX3_samples_8 : decode cX3_samples 8 = .ok (.ifCond .eq 16, 3) := dk_153 0 16 (dk_at dksX3_samples_0 8 rfl rfl)
theorem dX3_samples_11 : decode cX3_samples 11 = .ok (.iload 5, 2) := dk_21 5 (dk_at dksX3_samples_0 11 rfl rfl)
theorem dX3_samples_13 : decode cX3_samples 13 = .ok (.i2l, 1) := dk_133 (dk_at dksX3_samples_0 13 rfl rfl)
theorem dX3_samples_14 : decode cX3_samples 14 = .ok (.lconst 0, 1) := dk_9 (dk_at dksX3_samples_0 14 rfl rfl)
theorem dX3_samples_15 : decode cX3_samples 15 = .ok (.ldc2_w 343, 3) := dk_20 1 87 (dk_at dksX3_samples_0 15 rfl rfl)
theorem dX3_samples_18 : decode cX3_samples 18 = .ok (.invokestatic 124, 3) := dk_184 0 124 (dk_at dksX3_samples_0 18 rfl rfl)
theorem dX3_samples_21 : decode cX3_samples 21 = .ok (.ifCond .ne 5, 3) := dk_154 0 5 (dk_at dksX3_samples_0 21 rfl rfl)
theorem dX3_samples_24 : decode cX3_samples 24 = .ok (.iconst (-1), 1) := dk_2 (dk_at dksX3_samples_1 0 rfl rfl)
theorem dX3_samples_25 : decode cX3_samples 25 = .ok (.ireturn, 1) := dk_172 (dk_at dksX3_samples_1 1 rfl rfl)
theorem dX3_samples_26 : decode cX3_samples 26 = .ok (.aload_n 0, 1) := dk_42 (dk_at dksX3_samples_1 2 rfl rfl)
theorem dX3_samples_27 : decode cX3_samples 27 = .ok (.iload_n 1, 1) := dk_27 (dk_at dksX3_samples_1 3 rfl rfl)
theorem dX3_samples_28 : decode cX3_samples 28 = .ok (.iload_n 2, 1) := dk_28 (dk_at dksX3_samples_1 4 rfl rfl)
theorem dX3_samples_29 : decode cX3_samples 29 = .ok (.iload_n 3, 1) := dk_29 (dk_at dksX3_samples_1 5 rfl rfl)
theorem dX3_samples_30 : decode cX3_samples 30 = .ok (.iload 4, 2) := dk_21 4 (dk_at dksX3_samples_1 6 rfl rfl)
theorem dX3_samples_32 : decode cX3_samples 32 = .ok (.invokevirtual 339, 3) := dk_182 1 83 (dk_at dksX3_samples_1 8 rfl rfl)
theorem dX3_samples_35 : decode cX3_samples 35 = .ok (.iconst 0, 1) := dk_3 (dk_at dksX3_samples_1 11 rfl rfl)
theorem dX3_samples_36 : decode cX3_samples 36 = .ok (.istore 6, 2) := dk_54 6 (dk_at dksX3_samples_1 12 rfl rfl)
theorem dX3_samples_38 : decode cX3_samples 38 = .ok (.iconst 0, 1) := dk_3 (dk_at dksX3_samples_1 14 rfl rfl)
theorem dX3_samples_39 : decode cX3_samples 39 = .ok (.istore 7, 2) := dk_54 7 (dk_at dksX3_samples_1 15 rfl rfl)
theorem dX3_samples_41 : decode cX3_samples 41 = .ok (.iconst 0, 1) := dk_3 (dk_at dksX3_samples_1 17 rfl rfl)
theorem dX3_samples_42 : decode cX3_samples 42 = .ok (.istore 8, 2) := dk_54 8 (dk_at dksX3_samples_1 18 rfl rfl)
theorem dX3_samples_44 : decode cX3_samples 44 = .ok (.bipush (-4), 2) := dk_16 252 (dk_at dksX3_samples_1 20 rfl rfl)
theorem dX3_samples_46 : decode cX3_samples 46 = .ok (.istore 9, 2) := dk_54 9 (dk_at dksX3_samples_1 22 rfl rfl)
theorem dX3_samples_48 : decode cX3_samples 48 = .ok (.iconst 0, 1) := dk_3 (dk_at dksX3_samples_2 0 rfl rfl)
theorem dX3_samples_49 : decode cX3_samples 49 = .ok (.istore 10, 2) := dk_54 10 (dk_at dksX3_samples_2 1 rfl rfl)
theorem dX3_samples_51 : decode cX3_samples 51 = .ok (.iload 10, 2) := dk_21 10 (dk_at dksX3_samples_2 3 rfl rfl)
theorem dX3_samples_53 : decode cX3_samples 53 = .ok (.aload_n 0, 1) := dk_42 (dk_at dksX3_samples_2 5 rfl rfl)
theorem dX3_samples_54 : decode cX3_samples 54 = .ok (.getfield 203, 3) := dk_180 0 203 (dk_at dksX3_samples_2 6 rfl rfl)
theorem dX3_samples_57 : decode cX3_samples 57 = .ok (.if_icmp .ge 141, 3) := dk_162 0 141 (dk_at dksX3_samples_2 9 rfl rfl)
theorem dX3_samples_60 : decode cX3_samples 60 = .ok (.iload 6, 2) := dk_21 6 (dk_at dksX3_samples_2 12 rfl rfl)
theorem dX3_samples_62 : decode cX3_samples 62 = .ok (.aload_n 0, 1) := dk_42 (dk_at dksX3_samples_2 14 rfl rfl)
theorem dX3_samples_63 : decode cX3_samples 63 = .ok (.getfield 87, 3) := dk_180 0 87 (dk_at dksX3_samples_2 15 rfl rfl)
theorem dX3_samples_66 : decode cX3_samples 66 = .ok (.iload 10, 2) := dk_21 10 (dk_at dksX3_samples_2 18 rfl rfl)
theorem dX3_samples_68 : decode cX3_samples 68 = .ok (.iaload, 1) := dk_46 (dk_at dksX3_samples_2 20 rfl rfl)
theorem dX3_samples_69 : decode cX3_samples 69 = .ok (.ifCond .le 10, 3) := dk_158 0 10 (dk_at dksX3_samples_2 21 rfl rfl)
theorem dX3_samples_72 : decode cX3_samples 72 = .ok (.iconst 1, 1) := dk_4 (dk_at dksX3_samples_3 0 rfl rfl)
theorem dX3_samples_73 : decode cX3_samples 73 = .ok (.iload 10, 2) := dk_21 10 (dk_at dksX3_samples_3 1 rfl rfl)
theorem dX3_samples_75 : decode cX3_samples 75 = .ok (.ishl, 1) := dk_120 (dk_at dksX3_samples_3 3 rfl rfl)
theorem dX3_samples_76 : decode cX3_samples 76 = .ok (.goto 4, 3) := dk_167 0 4 (dk_at dksX3_samples_3 4 rfl rfl)
theorem dX3_samples_79 : decode cX3_samples 79 = .ok (.iconst 0, 1) := dk_3 (dk_at dksX3_samples_3 7 rfl rfl)
theorem dX3_samples_80 : decode cX3_samples 80 = .ok (.ior, 1) := dk_128 (dk_at dksX3_samples_3 8 rfl rfl)
theorem dX3_samples_81 : decode cX3_samples 81 = .ok (.istore 6, 2) := dk_54 6 (dk_at dksX3_samples_3 9 rfl rfl)
theorem dX3_samples_83 : decode cX3_samples 83 = .ok (.iload 7, 2) := dk_21 7 (dk_at dksX3_samples_3 11 rfl rfl)
theorem dX3_samples_85 : decode cX3_samples 85 = .ok (.aload_n 0, 1) := dk_42 (dk_at dksX3_samples_3 13 rfl rfl)
theorem dX3_samples_86 : decode cX3_samples 86 = .ok (.getfield 87, 3) := dk_180 0 87 (dk_at dksX3_samples_3 14 rfl rfl)
theorem dX3_samples_89 : decode cX3_samples 89 = .ok (.iload 10, 2) := dk_21 10 (dk_at dksX3_samples_3 17 rfl rfl)
theorem dX3_samples_91 : decode cX3_samples 91 = .ok (.iaload, 1) := dk_46 (dk_at dksX3_samples_3 19 rfl rfl)
theorem dX3_samples_92 : decode cX3_samples 92 = .ok (.ifCond .ne 20, 3) := dk_154 0 20 (dk_at dksX3_samples_3 20 rfl rfl)
theorem dX3_samples_95 : decode cX3_samples 95 = .ok (.aload_n 0, 1) := dk_42 (dk_at dksX3_samples_3 23 rfl rfl)
theorem dX3_samples_96 : decode cX3_samples 96 = .ok (.iload 10, 2) := dk_21 10 (dk_at dksX3_samples_4 0 rfl rfl)
theorem dX3_samples_98 : decode cX3_samples 98 = .ok (.iload_n 1, 1) := dk_27 (dk_at dksX3_samples_4 2 rfl rfl)
theorem dX3_samples_99 : decode cX3_samples 99 = .ok (.invokevirtual 251, 3) := dk_182 0 251 (dk_at dksX3_samples_4 3 rfl rfl)
theorem dX3_samples_102 : decode cX3_samples 102 = .ok (.ifCond .le 10, 3) := dk_158 0 10 (dk_at dksX3_samples_4 6 rfl rfl)
theorem dX3_samples_105 : decode cX3_samples 105 = .ok (.iconst 1, 1) := dk_4 (dk_at dksX3_samples_4 9 rfl rfl)
theorem dX3_samples_106 : decode cX3_samples 106 = .ok (.iload 10, 2) := dk_21 10 (dk_at dksX3_samples_4 10 rfl rfl)
theorem dX3_samples_108 : decode cX3_samples 108 = .ok (.ishl, 1) := dk_120 (dk_at dksX3_samples_4 12 rfl rfl)
theorem dX3_samples_109 : decode cX3_samples 109 = .ok (.goto 4, 3) := dk_167 0 4 (dk_at dksX3_samples_4 13 rfl rfl)
theorem dX3_samples_112 : decode cX3_samples 112 = .ok (.iconst 0, 1) := dk_3 (dk_at dksX3_samples_4 16 rfl rfl)
theorem dX3_samples_113 : decode cX3_samples 113 = .ok (.ior, 1) := dk_128 (dk_at dksX3_samples_4 17 rfl rfl)
theorem dX3_samples_114 : decode cX3_samples 114 = .ok (.istore 7, 2) := dk_54 7 (dk_at dksX3_samples_4 18 rfl rfl)
theorem dX3_samples_116 : decode cX3_samples 116 = .ok (.iload 8, 2) := dk_21 8 (dk_at dksX3_samples_4 20 rfl rfl)
theorem dX3_samples_118 : decode cX3_samples 118 = .ok (.aload_n 0, 1) := dk_42 (dk_at dksX3_samples_4 22 rfl rfl)
theorem dX3_samples_119 : decode cX3_samples 119 = .ok (.getfield 87, 3) := dk_180 0 87 (dk_at dksX3_samples_5 0 rfl rfl)
theorem dX3_samples_122 : decode cX3_samples 122 = .ok (.iload 10, 2) := dk_21 10 (dk_at dksX3_samples_5 3 rfl rfl)
theorem dX3_samples_124 : decode cX3_samples 124 = .ok (.iaload, 1) := dk_46 (dk_at dksX3_samples_5 5 rfl rfl)
theorem dX3_samples_125 : decode cX3_samples 125 = .ok (.ifCond .le 20, 3) := dk_158 0 20 (dk_at dksX3_samples_5 6 rfl rfl)
theorem dX3_samples_128 : decode cX3_samples 128 = .ok (.aload_n 0, 1) := dk_42 (dk_at dksX3_samples_5 9 rfl rfl)
theorem dX3_samples_129 : decode cX3_samples 129 = .ok (.iload 10, 2) := dk_21 10 (dk_at dksX3_samples_5 10 rfl rfl)
theorem dX3_samples_131 : decode cX3_samples 131 = .ok (.iload_n 1, 1) := dk_27 (dk_at dksX3_samples_5 12 rfl rfl)
theorem dX3_samples_132 : decode cX3_samples 132 = .ok (.invokevirtual 251, 3) := dk_182 0 251 (dk_at dksX3_samples_5 13 rfl rfl)
theorem dX3_samples_135 : decode cX3_samples 135 = .ok (.ifCond .ne 10, 3) := dk_154 0 10 (dk_at dksX3_samples_5 16 rfl rfl)
theorem dX3_samples_138 : decode cX3_samples 138 = .ok (.iconst 1, 1) := dk_4 (dk_at dksX3_samples_5 19 rfl rfl)
theorem dX3_samples_139 : decode cX3_samples 139 = .ok (.iload 10, 2) := dk_21 10 (dk_at dksX3_samples_5 20 rfl rfl)
theorem dX3_samples_141 : decode cX3_samples 141 = .ok (.ishl, 1) := dk_120 (dk_at dksX3_samples_5 22 rfl rfl)
theorem dX3_samples_142 : decode cX3_samples 142 = .ok (.goto 4, 3) := dk_167 0 4 (dk_at dksX3_samples_6 0 rfl rfl)
theorem dX3_samples_145 : decode cX3_samples 145 = .ok (.iconst 0, 1) := dk_3 (dk_at dksX3_samples_6 3 rfl rfl)
theorem dX3_samples_146 : decode cX3_samples 146 = .ok (.ior, 1) := dk_128 (dk_at dksX3_samples_6 4 rfl rfl)
theorem dX3_samples_147 : decode cX3_samples 147 = .ok (.istore 8, 2) := dk_54 8 (dk_at dksX3_samples_6 5 rfl rfl)
theorem dX3_samples_149 : decode cX3_samples 149 = .ok (.aload_n 0, 1) := dk_42 (dk_at dksX3_samples_6 7 rfl rfl)
theorem dX3_samples_150 : decode cX3_samples 150 = .ok (.getfield 87, 3) := dk_180 0 87 (dk_at dksX3_samples_6 8 rfl rfl)
theorem dX3_samples_153 : decode cX3_samples 153 = .ok (.iload 10, 2) := dk_21 10 (dk_at dksX3_samples_6 11 rfl rfl)
theorem dX3_samples_155 : decode cX3_samples 155 = .ok (.iaload, 1) := dk_46 (dk_at dksX3_samples_6 13 rfl rfl)
theorem dX3_samples_156 : decode cX3_samples 156 = .ok (.ifCond .le 32, 3) := dk_158 0 32 (dk_at dksX3_samples_6 14 rfl rfl)
theorem dX3_samples_159 : decode cX3_samples 159 = .ok (.iload 9, 2) := dk_21 9 (dk_at dksX3_samples_6 17 rfl rfl)
theorem dX3_samples_161 : decode cX3_samples 161 = .ok (.bipush (-4), 2) := dk_16 252 (dk_at dksX3_samples_6 19 rfl rfl)
theorem dX3_samples_163 : decode cX3_samples 163 = .ok (.if_icmp .eq 20, 3) := dk_159 0 20 (dk_at dksX3_samples_6 21 rfl rfl)
theorem dX3_samples_166 : decode cX3_samples 166 = .ok (.aload_n 0, 1) := dk_42 (dk_at dksX3_samples_7 0 rfl rfl)
theorem dX3_samples_167 : decode cX3_samples 167 = .ok (.getfield 87, 3) := dk_180 0 87 (dk_at dksX3_samples_7 1 rfl rfl)
theorem dX3_samples_170 : decode cX3_samples 170 = .ok (.iload 10, 2) := dk_21 10 (dk_at dksX3_samples_7 4 rfl rfl)
theorem dX3_samples_172 : decode cX3_samples 172 = .ok (.iaload, 1) := dk_46 (dk_at dksX3_samples_7 6 rfl rfl)
theorem dX3_samples_173 : decode cX3_samples 173 = .ok (.aload_n 0, 1) := dk_42 (dk_at dksX3_samples_7 7 rfl rfl)
theorem dX3_samples_174 : decode cX3_samples 174 = .ok (.getfield 87, 3) := dk_180 0 87 (dk_at dksX3_samples_7 8 rfl rfl)
theorem dX3_samples_177 : decode cX3_samples 177 = .ok (.iload 9, 2) := dk_21 9 (dk_at dksX3_samples_7 11 rfl rfl)
theorem dX3_samples_179 : decode cX3_samples 179 = .ok (.iaload, 1) := dk_46 (dk_at dksX3_samples_7 13 rfl rfl)
theorem dX3_samples_180 : decode cX3_samples 180 = .ok (.if_icmp .le 8, 3) := dk_164 0 8 (dk_at dksX3_samples_7 14 rfl rfl)
theorem dX3_samples_183 : decode cX3_samples 183 = .ok (.iload 10, 2) := dk_21 10 (dk_at dksX3_samples_7 17 rfl rfl)
theorem dX3_samples_185 : decode cX3_samples 185 = .ok (.goto 5, 3) := dk_167 0 5 (dk_at dksX3_samples_7 19 rfl rfl)
theorem dX3_samples_188 : decode cX3_samples 188 = .ok (.iload 9, 2) := dk_21 9 (dk_at dksX3_samples_7 22 rfl rfl)
theorem dX3_samples_190 : decode cX3_samples 190 = .ok (.istore 9, 2) := dk_54 9 (dk_at dksX3_samples_8 0 rfl rfl)
theorem dX3_samples_192 : decode cX3_samples 192 = .ok (.iinc 10 1, 3) := dk_132 10 1 (dk_at dksX3_samples_8 2 rfl rfl)
theorem dX3_samples_195 : decode cX3_samples 195 = .ok (.goto (-144), 3) := dk_167 255 112 (dk_at dksX3_samples_8 5 rfl rfl)
theorem dX3_samples_198 : decode cX3_samples 198 = .ok (.iload 5, 2) := dk_21 5 (dk_at dksX3_samples_8 8 rfl rfl)
theorem dX3_samples_200 : decode cX3_samples 200 = .ok (.tableswitch 55 0 4 #[36, 41, 46, 49, 52], 36) := by decide +kernel
theorem dX3_samples_236 : decode cX3_samples 236 = .ok (.aload_n 0, 1) := dk_42 (dk_at dksX3_samples_10 0 rfl rfl)
theorem dX3_samples_237 : decode cX3_samples 237 = .ok (.getfield 325, 3) := dk_180 1 69 (dk_at dksX3_samples_10 1 rfl rfl)
theorem dX3_samples_240 : decode cX3_samples 240 = .ok (.ireturn, 1) := dk_172 (dk_at dksX3_samples_10 4 rfl rfl)
theorem dX3_samples_241 : decode cX3_samples 241 = .ok (.aload_n 0, 1) := dk_42 (dk_at dksX3_samples_10 5 rfl rfl)
theorem dX3_samples_242 : decode cX3_samples 242 = .ok (.getfield 328, 3) := dk_180 1 72 (dk_at dksX3_samples_10 6 rfl rfl)
theorem dX3_samples_245 : decode cX3_samples 245 = .ok (.ireturn, 1) := dk_172 (dk_at dksX3_samples_10 9 rfl rfl)
theorem dX3_samples_246 : decode cX3_samples 246 = .ok (.iload 6, 2) := dk_21 6 (dk_at dksX3_samples_10 10 rfl rfl)
theorem dX3_samples_248 : decode cX3_samples 248 = .ok (.ireturn, 1) := dk_172 (dk_at dksX3_samples_10 12 rfl rfl)
theorem dX3_samples_249 : decode cX3_samples 249 = .ok (.iload 7, 2) := dk_21 7 (dk_at dksX3_samples_10 13 rfl rfl)
theorem dX3_samples_251 : decode cX3_samples 251 = .ok (.ireturn, 1) := dk_172 (dk_at dksX3_samples_10 15 rfl rfl)
theorem dX3_samples_252 : decode cX3_samples 252 = .ok (.iload 8, 2) := dk_21 8 (dk_at dksX3_samples_10 16 rfl rfl)
theorem dX3_samples_254 : decode cX3_samples 254 = .ok (.ireturn, 1) := dk_172 (dk_at dksX3_samples_10 18 rfl rfl)
theorem dX3_samples_255 : decode cX3_samples 255 = .ok (.iload 9, 2) := dk_21 9 (dk_at dksX3_samples_10 19 rfl rfl)
theorem dX3_samples_257 : decode cX3_samples 257 = .ok (.ireturn, 1) := dk_172 (dk_at dksX3_samples_10 21 rfl rfl)
abbrev cX3_far : ByteArray := prog_11_method_64_code
def yX3_far : MethodName := ⟨RX3, "far", "(IIIII)J"⟩
def dkwX3_far_3 : List UInt8 := [182, 1, 1, 133, 105, 21, 5, 184, 1, 7, 173]
abbrev dktX3_far_3 : List UInt8 := dkwX3_far_3 ++ []
def dkwX3_far_2 : List UInt8 := [20, 1, 91, 167, 0, 30, 42, 27, 182, 1, 93, 42, 180, 1, 69, 42, 180, 1, 72, 100, 133, 42, 27]
abbrev dktX3_far_2 : List UInt8 := dkwX3_far_2 ++ dktX3_far_3
def dkwX3_far_1 : List UInt8 := [20, 1, 89, 173, 42, 27, 28, 29, 21, 4, 182, 1, 83, 42, 180, 1, 69, 42, 180, 1, 72, 160, 0, 9]
abbrev dktX3_far_1 : List UInt8 := dkwX3_far_1 ++ dktX3_far_2
def dkwX3_far_0 : List UInt8 := [27, 28, 29, 21, 4, 184, 1, 79, 153, 0, 14, 21, 5, 133, 9, 10, 184, 0, 124, 154, 0, 7]
abbrev dktX3_far_0 : List UInt8 := dkwX3_far_0 ++ dktX3_far_1
theorem dksX3_far_0 : cX3_far.data.toList.drop 0 = dktX3_far_0 := by decide +kernel
theorem dksX3_far_1 : cX3_far.data.toList.drop 22 = dktX3_far_1 := dk_seg dksX3_far_0 22 rfl rfl
theorem dksX3_far_2 : cX3_far.data.toList.drop 46 = dktX3_far_2 := dk_seg dksX3_far_1 24 rfl rfl
theorem dksX3_far_3 : cX3_far.data.toList.drop 69 = dktX3_far_3 := dk_seg dksX3_far_2 23 rfl rfl
theorem dX3_far_0 : decode cX3_far 0 = .ok (.iload_n 1, 1) := dk_27 (dk_at dksX3_far_0 0 rfl rfl)
theorem dX3_far_1 : decode cX3_far 1 = .ok (.iload_n 2, 1) := dk_28 (dk_at dksX3_far_0 1 rfl rfl)
theorem dX3_far_2 : decode cX3_far 2 = .ok (.iload_n 3, 1) := dk_29 (dk_at dksX3_far_0 2 rfl rfl)
theorem dX3_far_3 : decode cX3_far 3 = .ok (.iload 4, 2) := dk_21 4 (dk_at dksX3_far_0 3 rfl rfl)
theorem dX3_far_5 : decode cX3_far 5 = .ok (.invokestatic 335, 3) := dk_184 1 79 (dk_at dksX3_far_0 5 rfl rfl)
theorem dX3_far_8 : decode cX3_far 8 = .ok (.ifCond .eq 14, 3) := dk_153 0 14 (dk_at dksX3_far_0 8 rfl rfl)
theorem dX3_far_11 : decode cX3_far 11 = .ok (.iload 5, 2) := dk_21 5 (dk_at dksX3_far_0 11 rfl rfl)
theorem dX3_far_13 : decode cX3_far 13 = .ok (.i2l, 1) := dk_133 (dk_at dksX3_far_0 13 rfl rfl)
theorem dX3_far_14 : decode cX3_far 14 = .ok (.lconst 0, 1) := dk_9 (dk_at dksX3_far_0 14 rfl rfl)
theorem dX3_far_15 : decode cX3_far 15 = .ok (.lconst 1, 1) := dk_10 (dk_at dksX3_far_0 15 rfl rfl)
theorem dX3_far_16 : decode cX3_far 16 = .ok (.invokestatic 124, 3) := dk_184 0 124 (dk_at dksX3_far_0 16 rfl rfl)
theorem dX3_far_19 : decode cX3_far 19 = .ok (.ifCond .ne 7, 3) := dk_154 0 7 (dk_at dksX3_far_0 19 rfl rfl)
theorem dX3_far_22 : decode cX3_far 22 = .ok (.ldc2_w 345, 3) := dk_20 1 89 (dk_at dksX3_far_1 0 rfl rfl)
theorem dX3_far_25 : decode cX3_far 25 = .ok (.lreturn, 1) := dk_173 (dk_at dksX3_far_1 3 rfl rfl)
theorem dX3_far_26 : decode cX3_far 26 = .ok (.aload_n 0, 1) := dk_42 (dk_at dksX3_far_1 4 rfl rfl)
theorem dX3_far_27 : decode cX3_far 27 = .ok (.iload_n 1, 1) := dk_27 (dk_at dksX3_far_1 5 rfl rfl)
theorem dX3_far_28 : decode cX3_far 28 = .ok (.iload_n 2, 1) := dk_28 (dk_at dksX3_far_1 6 rfl rfl)
theorem dX3_far_29 : decode cX3_far 29 = .ok (.iload_n 3, 1) := dk_29 (dk_at dksX3_far_1 7 rfl rfl)
theorem dX3_far_30 : decode cX3_far 30 = .ok (.iload 4, 2) := dk_21 4 (dk_at dksX3_far_1 8 rfl rfl)
theorem dX3_far_32 : decode cX3_far 32 = .ok (.invokevirtual 339, 3) := dk_182 1 83 (dk_at dksX3_far_1 10 rfl rfl)
theorem dX3_far_35 : decode cX3_far 35 = .ok (.aload_n 0, 1) := dk_42 (dk_at dksX3_far_1 13 rfl rfl)
theorem dX3_far_36 : decode cX3_far 36 = .ok (.getfield 325, 3) := dk_180 1 69 (dk_at dksX3_far_1 14 rfl rfl)
theorem dX3_far_39 : decode cX3_far 39 = .ok (.aload_n 0, 1) := dk_42 (dk_at dksX3_far_1 17 rfl rfl)
theorem dX3_far_40 : decode cX3_far 40 = .ok (.getfield 328, 3) := dk_180 1 72 (dk_at dksX3_far_1 18 rfl rfl)
theorem dX3_far_43 : decode cX3_far 43 = .ok (.if_icmp .ne 9, 3) := dk_160 0 9 (dk_at dksX3_far_1 21 rfl rfl)
theorem dX3_far_46 : decode cX3_far 46 = .ok (.ldc2_w 347, 3) := dk_20 1 91 (dk_at dksX3_far_2 0 rfl rfl)
theorem dX3_far_49 : decode cX3_far 49 = .ok (.goto 30, 3) := dk_167 0 30 (dk_at dksX3_far_2 3 rfl rfl)
theorem dX3_far_52 : decode cX3_far 52 = .ok (.aload_n 0, 1) := dk_42 (dk_at dksX3_far_2 6 rfl rfl)
theorem dX3_far_53 : decode cX3_far 53 = .ok (.iload_n 1, 1) := dk_27 (dk_at dksX3_far_2 7 rfl rfl)
theorem dX3_far_54 : decode cX3_far 54 = .ok (.invokevirtual 349, 3) := dk_182 1 93 (dk_at dksX3_far_2 8 rfl rfl)
theorem dX3_far_57 : decode cX3_far 57 = .ok (.aload_n 0, 1) := dk_42 (dk_at dksX3_far_2 11 rfl rfl)
theorem dX3_far_58 : decode cX3_far 58 = .ok (.getfield 325, 3) := dk_180 1 69 (dk_at dksX3_far_2 12 rfl rfl)
theorem dX3_far_61 : decode cX3_far 61 = .ok (.aload_n 0, 1) := dk_42 (dk_at dksX3_far_2 15 rfl rfl)
theorem dX3_far_62 : decode cX3_far 62 = .ok (.getfield 328, 3) := dk_180 1 72 (dk_at dksX3_far_2 16 rfl rfl)
theorem dX3_far_65 : decode cX3_far 65 = .ok (.isub, 1) := dk_100 (dk_at dksX3_far_2 19 rfl rfl)
theorem dX3_far_66 : decode cX3_far 66 = .ok (.i2l, 1) := dk_133 (dk_at dksX3_far_2 20 rfl rfl)
theorem dX3_far_67 : decode cX3_far 67 = .ok (.aload_n 0, 1) := dk_42 (dk_at dksX3_far_2 21 rfl rfl)
theorem dX3_far_68 : decode cX3_far 68 = .ok (.iload_n 1, 1) := dk_27 (dk_at dksX3_far_2 22 rfl rfl)
theorem dX3_far_69 : decode cX3_far 69 = .ok (.invokevirtual 257, 3) := dk_182 1 1 (dk_at dksX3_far_3 0 rfl rfl)
theorem dX3_far_72 : decode cX3_far 72 = .ok (.i2l, 1) := dk_133 (dk_at dksX3_far_3 3 rfl rfl)
theorem dX3_far_73 : decode cX3_far 73 = .ok (.lmul, 1) := dk_105 (dk_at dksX3_far_3 4 rfl rfl)
theorem dX3_far_74 : decode cX3_far 74 = .ok (.iload 5, 2) := dk_21 5 (dk_at dksX3_far_3 5 rfl rfl)
theorem dX3_far_76 : decode cX3_far 76 = .ok (.invokestatic 263, 3) := dk_184 1 7 (dk_at dksX3_far_3 7 rfl rfl)
theorem dX3_far_79 : decode cX3_far 79 = .ok (.lreturn, 1) := dk_173 (dk_at dksX3_far_3 10 rfl rfl)
abbrev cX3_farNow : ByteArray := prog_11_method_63_code
def yX3_farNow : MethodName := ⟨RX3, "farNow", "(I)J"⟩
def dkwX3_farNow_3 : List UInt8 := [132, 6, 1, 167, 255, 197, 22, 4, 173]
abbrev dktX3_farNow_3 : List UInt8 := dkwX3_farNow_3 ++ []
def dkwX3_farNow_2 : List UInt8 := [182, 0, 251, 133, 105, 42, 180, 1, 69, 42, 180, 1, 72, 100, 133, 105, 101, 184, 0, 111, 97, 55, 4]
abbrev dktX3_farNow_2 : List UInt8 := dkwX3_farNow_2 ++ dktX3_farNow_3
def dkwX3_farNow_1 : List UInt8 := [42, 180, 0, 87, 21, 6, 46, 133, 32, 105, 42, 180, 0, 28, 21, 6, 46, 133, 42, 21, 6, 27]
abbrev dktX3_farNow_1 : List UInt8 := dkwX3_farNow_1 ++ dktX3_farNow_2
def dkwX3_farNow_0 : List UInt8 := [42, 27, 182, 1, 1, 133, 65, 9, 55, 4, 3, 54, 6, 21, 6, 42, 180, 0, 203, 162, 0, 56, 22, 4]
abbrev dktX3_farNow_0 : List UInt8 := dkwX3_farNow_0 ++ dktX3_farNow_1
theorem dksX3_farNow_0 : cX3_farNow.data.toList.drop 0 = dktX3_farNow_0 := by decide +kernel
theorem dksX3_farNow_1 : cX3_farNow.data.toList.drop 24 = dktX3_farNow_1 := dk_seg dksX3_farNow_0 24 rfl rfl
theorem dksX3_farNow_2 : cX3_farNow.data.toList.drop 46 = dktX3_farNow_2 := dk_seg dksX3_farNow_1 22 rfl rfl
theorem dksX3_farNow_3 : cX3_farNow.data.toList.drop 69 = dktX3_farNow_3 := dk_seg dksX3_farNow_2 23 rfl rfl
theorem dX3_farNow_0 : decode cX3_farNow 0 = .ok (.aload_n 0, 1) := dk_42 (dk_at dksX3_farNow_0 0 rfl rfl)
theorem dX3_farNow_1 : decode cX3_farNow 1 = .ok (.iload_n 1, 1) := dk_27 (dk_at dksX3_farNow_0 1 rfl rfl)
theorem dX3_farNow_2 : decode cX3_farNow 2 = .ok (.invokevirtual 257, 3) := dk_182 1 1 (dk_at dksX3_farNow_0 2 rfl rfl)
theorem dX3_farNow_5 : decode cX3_farNow 5 = .ok (.i2l, 1) := dk_133 (dk_at dksX3_farNow_0 5 rfl rfl)
theorem dX3_farNow_6 : decode cX3_farNow 6 = .ok (.lstore_n 2, 1) := dk_65 (dk_at dksX3_farNow_0 6 rfl rfl)
theorem dX3_farNow_7 : decode cX3_farNow 7 = .ok (.lconst 0, 1) := dk_9 (dk_at dksX3_farNow_0 7 rfl rfl)
theorem dX3_farNow_8 : decode cX3_farNow 8 = .ok (.lstore 4, 2) := dk_55 4 (dk_at dksX3_farNow_0 8 rfl rfl)
theorem dX3_farNow_10 : decode cX3_farNow 10 = .ok (.iconst 0, 1) := dk_3 (dk_at dksX3_farNow_0 10 rfl rfl)
theorem dX3_farNow_11 : decode cX3_farNow 11 = .ok (.istore 6, 2) := dk_54 6 (dk_at dksX3_farNow_0 11 rfl rfl)
theorem dX3_farNow_13 : decode cX3_farNow 13 = .ok (.iload 6, 2) := dk_21 6 (dk_at dksX3_farNow_0 13 rfl rfl)
theorem dX3_farNow_15 : decode cX3_farNow 15 = .ok (.aload_n 0, 1) := dk_42 (dk_at dksX3_farNow_0 15 rfl rfl)
theorem dX3_farNow_16 : decode cX3_farNow 16 = .ok (.getfield 203, 3) := dk_180 0 203 (dk_at dksX3_farNow_0 16 rfl rfl)
theorem dX3_farNow_19 : decode cX3_farNow 19 = .ok (.if_icmp .ge 56, 3) := dk_162 0 56 (dk_at dksX3_farNow_0 19 rfl rfl)
theorem dX3_farNow_22 : decode cX3_farNow 22 = .ok (.lload 4, 2) := dk_22 4 (dk_at dksX3_farNow_0 22 rfl rfl)
theorem dX3_farNow_24 : decode cX3_farNow 24 = .ok (.aload_n 0, 1) := dk_42 (dk_at dksX3_farNow_1 0 rfl rfl)
theorem dX3_farNow_25 : decode cX3_farNow 25 = .ok (.getfield 87, 3) := dk_180 0 87 (dk_at dksX3_farNow_1 1 rfl rfl)
theorem dX3_farNow_28 : decode cX3_farNow 28 = .ok (.iload 6, 2) := dk_21 6 (dk_at dksX3_farNow_1 4 rfl rfl)
theorem dX3_farNow_30 : decode cX3_farNow 30 = .ok (.iaload, 1) := dk_46 (dk_at dksX3_farNow_1 6 rfl rfl)
theorem dX3_farNow_31 : decode cX3_farNow 31 = .ok (.i2l, 1) := dk_133 (dk_at dksX3_farNow_1 7 rfl rfl)
theorem dX3_farNow_32 : decode cX3_farNow 32 = .ok (.lload_n 2, 1) := dk_32 (dk_at dksX3_farNow_1 8 rfl rfl)
theorem dX3_farNow_33 : decode cX3_farNow 33 = .ok (.lmul, 1) := dk_105 (dk_at dksX3_farNow_1 9 rfl rfl)
theorem dX3_farNow_34 : decode cX3_farNow 34 = .ok (.aload_n 0, 1) := dk_42 (dk_at dksX3_farNow_1 10 rfl rfl)
theorem dX3_farNow_35 : decode cX3_farNow 35 = .ok (.getfield 28, 3) := dk_180 0 28 (dk_at dksX3_farNow_1 11 rfl rfl)
theorem dX3_farNow_38 : decode cX3_farNow 38 = .ok (.iload 6, 2) := dk_21 6 (dk_at dksX3_farNow_1 14 rfl rfl)
theorem dX3_farNow_40 : decode cX3_farNow 40 = .ok (.iaload, 1) := dk_46 (dk_at dksX3_farNow_1 16 rfl rfl)
theorem dX3_farNow_41 : decode cX3_farNow 41 = .ok (.i2l, 1) := dk_133 (dk_at dksX3_farNow_1 17 rfl rfl)
theorem dX3_farNow_42 : decode cX3_farNow 42 = .ok (.aload_n 0, 1) := dk_42 (dk_at dksX3_farNow_1 18 rfl rfl)
theorem dX3_farNow_43 : decode cX3_farNow 43 = .ok (.iload 6, 2) := dk_21 6 (dk_at dksX3_farNow_1 19 rfl rfl)
theorem dX3_farNow_45 : decode cX3_farNow 45 = .ok (.iload_n 1, 1) := dk_27 (dk_at dksX3_farNow_1 21 rfl rfl)
theorem dX3_farNow_46 : decode cX3_farNow 46 = .ok (.invokevirtual 251, 3) := dk_182 0 251 (dk_at dksX3_farNow_2 0 rfl rfl)
theorem dX3_farNow_49 : decode cX3_farNow 49 = .ok (.i2l, 1) := dk_133 (dk_at dksX3_farNow_2 3 rfl rfl)
theorem dX3_farNow_50 : decode cX3_farNow 50 = .ok (.lmul, 1) := dk_105 (dk_at dksX3_farNow_2 4 rfl rfl)
theorem dX3_farNow_51 : decode cX3_farNow 51 = .ok (.aload_n 0, 1) := dk_42 (dk_at dksX3_farNow_2 5 rfl rfl)
theorem dX3_farNow_52 : decode cX3_farNow 52 = .ok (.getfield 325, 3) := dk_180 1 69 (dk_at dksX3_farNow_2 6 rfl rfl)
theorem dX3_farNow_55 : decode cX3_farNow 55 = .ok (.aload_n 0, 1) := dk_42 (dk_at dksX3_farNow_2 9 rfl rfl)
theorem dX3_farNow_56 : decode cX3_farNow 56 = .ok (.getfield 328, 3) := dk_180 1 72 (dk_at dksX3_farNow_2 10 rfl rfl)
theorem dX3_farNow_59 : decode cX3_farNow 59 = .ok (.isub, 1) := dk_100 (dk_at dksX3_farNow_2 13 rfl rfl)
theorem dX3_farNow_60 : decode cX3_farNow 60 = .ok (.i2l, 1) := dk_133 (dk_at dksX3_farNow_2 14 rfl rfl)
theorem dX3_farNow_61 : decode cX3_farNow 61 = .ok (.lmul, 1) := dk_105 (dk_at dksX3_farNow_2 15 rfl rfl)
theorem dX3_farNow_62 : decode cX3_farNow 62 = .ok (.lsub, 1) := dk_101 (dk_at dksX3_farNow_2 16 rfl rfl)
theorem dX3_farNow_63 : decode cX3_farNow 63 = .ok (.invokestatic 111, 3) := dk_184 0 111 (dk_at dksX3_farNow_2 17 rfl rfl)
theorem dX3_farNow_66 : decode cX3_farNow 66 = .ok (.ladd, 1) := dk_97 (dk_at dksX3_farNow_2 20 rfl rfl)
theorem dX3_farNow_67 : decode cX3_farNow 67 = .ok (.lstore 4, 2) := dk_55 4 (dk_at dksX3_farNow_2 21 rfl rfl)
theorem dX3_farNow_69 : decode cX3_farNow 69 = .ok (.iinc 6 1, 3) := dk_132 6 1 (dk_at dksX3_farNow_3 0 rfl rfl)
theorem dX3_farNow_72 : decode cX3_farNow 72 = .ok (.goto (-59), 3) := dk_167 255 197 (dk_at dksX3_farNow_3 3 rfl rfl)
theorem dX3_farNow_75 : decode cX3_farNow 75 = .ok (.lload 4, 2) := dk_22 4 (dk_at dksX3_farNow_3 6 rfl rfl)
theorem dX3_farNow_77 : decode cX3_farNow 77 = .ok (.lreturn, 1) := dk_173 (dk_at dksX3_farNow_3 8 rfl rfl)
abbrev cX3_truest : ByteArray := prog_11_method_65_code
def yX3_truest : MethodName := ⟨RX3, "truest", "(IIII)I"⟩
def dkwX3_truest_7 : List UInt8 := [132, 10, 1, 167, 255, 133, 21, 5, 172]
abbrev dktX3_truest_7 : List UInt8 := dkwX3_truest_7 ++ []
def dkwX3_truest_6 : List UInt8 := [55, 6, 21, 13, 153, 0, 16, 42, 180, 1, 69, 42, 180, 1, 72, 100, 133, 167, 0, 5, 22, 8, 55, 8]
abbrev dktX3_truest_6 : List UInt8 := dkwX3_truest_6 ++ dktX3_truest_7
def dkwX3_truest_5 : List UInt8 := [153, 0, 8, 21, 10, 167, 0, 5, 21, 5, 54, 5, 21, 13, 153, 0, 8, 22, 11, 167, 0, 5, 22, 6]
abbrev dktX3_truest_5 : List UInt8 := dkwX3_truest_5 ++ dktX3_truest_6
def dkwX3_truest_4 : List UInt8 := [42, 180, 1, 69, 42, 180, 1, 72, 100, 133, 105, 148, 156, 0, 7, 4, 167, 0, 4, 3, 54, 13, 21, 13]
abbrev dktX3_truest_4 : List UInt8 := dkwX3_truest_4 ++ dktX3_truest_5
def dkwX3_truest_3 : List UInt8 := [180, 1, 69, 42, 180, 1, 72, 164, 0, 36, 21, 5, 16, 252, 159, 0, 25, 22, 11, 22, 8, 105, 22, 6]
abbrev dktX3_truest_3 : List UInt8 := dkwX3_truest_3 ++ dktX3_truest_4
def dkwX3_truest_2 : List UInt8 := [21, 10, 29, 163, 0, 123, 42, 27, 21, 10, 3, 21, 4, 182, 1, 83, 42, 27, 182, 1, 93, 55, 11, 42]
abbrev dktX3_truest_2 : List UInt8 := dkwX3_truest_2 ++ dktX3_truest_3
def dkwX3_truest_1 : List UInt8 := [29, 28, 100, 17, 0, 199, 164, 0, 5, 2, 172, 16, 252, 54, 5, 9, 55, 6, 10, 55, 8, 28, 54, 10]
abbrev dktX3_truest_1 : List UInt8 := dkwX3_truest_1 ++ dktX3_truest_2
def dkwX3_truest_0 : List UInt8 := [27, 28, 3, 21, 4, 184, 1, 79, 153, 0, 25, 29, 133, 28, 133, 20, 1, 75, 184, 0, 124, 153, 0, 12]
abbrev dktX3_truest_0 : List UInt8 := dkwX3_truest_0 ++ dktX3_truest_1
theorem dksX3_truest_0 : cX3_truest.data.toList.drop 0 = dktX3_truest_0 := by decide +kernel
theorem dksX3_truest_1 : cX3_truest.data.toList.drop 24 = dktX3_truest_1 := dk_seg dksX3_truest_0 24 rfl rfl
theorem dksX3_truest_2 : cX3_truest.data.toList.drop 48 = dktX3_truest_2 := dk_seg dksX3_truest_1 24 rfl rfl
theorem dksX3_truest_3 : cX3_truest.data.toList.drop 72 = dktX3_truest_3 := dk_seg dksX3_truest_2 24 rfl rfl
theorem dksX3_truest_4 : cX3_truest.data.toList.drop 96 = dktX3_truest_4 := dk_seg dksX3_truest_3 24 rfl rfl
theorem dksX3_truest_5 : cX3_truest.data.toList.drop 120 = dktX3_truest_5 := dk_seg dksX3_truest_4 24 rfl rfl
theorem dksX3_truest_6 : cX3_truest.data.toList.drop 144 = dktX3_truest_6 := dk_seg dksX3_truest_5 24 rfl rfl
theorem dksX3_truest_7 : cX3_truest.data.toList.drop 168 = dktX3_truest_7 := dk_seg dksX3_truest_6 24 rfl rfl
theorem dX3_truest_0 : decode cX3_truest 0 = .ok (.iload_n 1, 1) := dk_27 (dk_at dksX3_truest_0 0 rfl rfl)
theorem dX3_truest_1 : decode cX3_truest 1 = .ok (.iload_n 2, 1) := dk_28 (dk_at dksX3_truest_0 1 rfl rfl)
theorem dX3_truest_2 : decode cX3_truest 2 = .ok (.iconst 0, 1) := dk_3 (dk_at dksX3_truest_0 2 rfl rfl)
theorem dX3_truest_3 : decode cX3_truest 3 = .ok (.iload 4, 2) := dk_21 4 (dk_at dksX3_truest_0 3 rfl rfl)
theorem dX3_truest_5 : decode cX3_truest 5 = .ok (.invokestatic 335, 3) := dk_184 1 79 (dk_at dksX3_truest_0 5 rfl rfl)
theorem dX3_truest_8 : decode cX3_truest 8 = .ok (.ifCond .eq 25, 3) := dk_153 0 25 (dk_at dksX3_truest_0 8 rfl rfl)
theorem dX3_truest_11 : decode cX3_truest 11 = .ok (.iload_n 3, 1) := dk_29 (dk_at dksX3_truest_0 11 rfl rfl)
theorem dX3_truest_12 : decode cX3_truest 12 = .ok (.i2l, 1) := dk_133 (dk_at dksX3_truest_0 12 rfl rfl)
theorem dX3_truest_13 : decode cX3_truest 13 = .ok (.iload_n 2, 1) := dk_28 (dk_at dksX3_truest_0 13 rfl rfl)
theorem dX3_truest_14 : decode cX3_truest 14 = .ok (.i2l, 1) := dk_133 (dk_at dksX3_truest_0 14 rfl rfl)
theorem dX3_truest_15 : decode cX3_truest 15 = .ok (.ldc2_w 331, 3) := dk_20 1 75 (dk_at dksX3_truest_0 15 rfl rfl)
theorem dX3_truest_18 : decode cX3_truest 18 = .ok (.invokestatic 124, 3) := dk_184 0 124 (dk_at dksX3_truest_0 18 rfl rfl)
theorem dX3_truest_21 : decode cX3_truest 21 = .ok (.ifCond .eq 12, 3) := dk_153 0 12 (dk_at dksX3_truest_0 21 rfl rfl)
theorem dX3_truest_24 : decode cX3_truest 24 = .ok (.iload_n 3, 1) := dk_29 (dk_at dksX3_truest_1 0 rfl rfl)
theorem dX3_truest_25 : decode cX3_truest 25 = .ok (.iload_n 2, 1) := dk_28 (dk_at dksX3_truest_1 1 rfl rfl)
theorem dX3_truest_26 : decode cX3_truest 26 = .ok (.isub, 1) := dk_100 (dk_at dksX3_truest_1 2 rfl rfl)
theorem dX3_truest_27 : decode cX3_truest 27 = .ok (.sipush 199, 3) := dk_17 0 199 (dk_at dksX3_truest_1 3 rfl rfl)
theorem dX3_truest_30 : decode cX3_truest 30 = .ok (.if_icmp .le 5, 3) := dk_164 0 5 (dk_at dksX3_truest_1 6 rfl rfl)
theorem dX3_truest_33 : decode cX3_truest 33 = .ok (.iconst (-1), 1) := dk_2 (dk_at dksX3_truest_1 9 rfl rfl)
theorem dX3_truest_34 : decode cX3_truest 34 = .ok (.ireturn, 1) := dk_172 (dk_at dksX3_truest_1 10 rfl rfl)
theorem dX3_truest_35 : decode cX3_truest 35 = .ok (.bipush (-4), 2) := dk_16 252 (dk_at dksX3_truest_1 11 rfl rfl)
theorem dX3_truest_37 : decode cX3_truest 37 = .ok (.istore 5, 2) := dk_54 5 (dk_at dksX3_truest_1 13 rfl rfl)
theorem dX3_truest_39 : decode cX3_truest 39 = .ok (.lconst 0, 1) := dk_9 (dk_at dksX3_truest_1 15 rfl rfl)
theorem dX3_truest_40 : decode cX3_truest 40 = .ok (.lstore 6, 2) := dk_55 6 (dk_at dksX3_truest_1 16 rfl rfl)
theorem dX3_truest_42 : decode cX3_truest 42 = .ok (.lconst 1, 1) := dk_10 (dk_at dksX3_truest_1 18 rfl rfl)
theorem dX3_truest_43 : decode cX3_truest 43 = .ok (.lstore 8, 2) := dk_55 8 (dk_at dksX3_truest_1 19 rfl rfl)
theorem dX3_truest_45 : decode cX3_truest 45 = .ok (.iload_n 2, 1) := dk_28 (dk_at dksX3_truest_1 21 rfl rfl)
theorem dX3_truest_46 : decode cX3_truest 46 = .ok (.istore 10, 2) := dk_54 10 (dk_at dksX3_truest_1 22 rfl rfl)
theorem dX3_truest_48 : decode cX3_truest 48 = .ok (.iload 10, 2) := dk_21 10 (dk_at dksX3_truest_2 0 rfl rfl)
theorem dX3_truest_50 : decode cX3_truest 50 = .ok (.iload_n 3, 1) := dk_29 (dk_at dksX3_truest_2 2 rfl rfl)
theorem dX3_truest_51 : decode cX3_truest 51 = .ok (.if_icmp .gt 123, 3) := dk_163 0 123 (dk_at dksX3_truest_2 3 rfl rfl)
theorem dX3_truest_54 : decode cX3_truest 54 = .ok (.aload_n 0, 1) := dk_42 (dk_at dksX3_truest_2 6 rfl rfl)
theorem dX3_truest_55 : decode cX3_truest 55 = .ok (.iload_n 1, 1) := dk_27 (dk_at dksX3_truest_2 7 rfl rfl)
theorem dX3_truest_56 : decode cX3_truest 56 = .ok (.iload 10, 2) := dk_21 10 (dk_at dksX3_truest_2 8 rfl rfl)
theorem dX3_truest_58 : decode cX3_truest 58 = .ok (.iconst 0, 1) := dk_3 (dk_at dksX3_truest_2 10 rfl rfl)
theorem dX3_truest_59 : decode cX3_truest 59 = .ok (.iload 4, 2) := dk_21 4 (dk_at dksX3_truest_2 11 rfl rfl)
theorem dX3_truest_61 : decode cX3_truest 61 = .ok (.invokevirtual 339, 3) := dk_182 1 83 (dk_at dksX3_truest_2 13 rfl rfl)
theorem dX3_truest_64 : decode cX3_truest 64 = .ok (.aload_n 0, 1) := dk_42 (dk_at dksX3_truest_2 16 rfl rfl)
theorem dX3_truest_65 : decode cX3_truest 65 = .ok (.iload_n 1, 1) := dk_27 (dk_at dksX3_truest_2 17 rfl rfl)
theorem dX3_truest_66 : decode cX3_truest 66 = .ok (.invokevirtual 349, 3) := dk_182 1 93 (dk_at dksX3_truest_2 18 rfl rfl)
theorem dX3_truest_69 : decode cX3_truest 69 = .ok (.lstore 11, 2) := dk_55 11 (dk_at dksX3_truest_2 21 rfl rfl)
theorem dX3_truest_71 : decode cX3_truest 71 = .ok (.aload_n 0, 1) := dk_42 (dk_at dksX3_truest_2 23 rfl rfl)
theorem dX3_truest_72 : decode cX3_truest 72 = .ok (.getfield 325, 3) := dk_180 1 69 (dk_at dksX3_truest_3 0 rfl rfl)
theorem dX3_truest_75 : decode cX3_truest 75 = .ok (.aload_n 0, 1) := dk_42 (dk_at dksX3_truest_3 3 rfl rfl)
theorem dX3_truest_76 : decode cX3_truest 76 = .ok (.getfield 328, 3) := dk_180 1 72 (dk_at dksX3_truest_3 4 rfl rfl)
theorem dX3_truest_79 : decode cX3_truest 79 = .ok (.if_icmp .le 36, 3) := dk_164 0 36 (dk_at dksX3_truest_3 7 rfl rfl)
theorem dX3_truest_82 : decode cX3_truest 82 = .ok (.iload 5, 2) := dk_21 5 (dk_at dksX3_truest_3 10 rfl rfl)
theorem dX3_truest_84 : decode cX3_truest 84 = .ok (.bipush (-4), 2) := dk_16 252 (dk_at dksX3_truest_3 12 rfl rfl)
theorem dX3_truest_86 : decode cX3_truest 86 = .ok (.if_icmp .eq 25, 3) := dk_159 0 25 (dk_at dksX3_truest_3 14 rfl rfl)
theorem dX3_truest_89 : decode cX3_truest 89 = .ok (.lload 11, 2) := dk_22 11 (dk_at dksX3_truest_3 17 rfl rfl)
theorem dX3_truest_91 : decode cX3_truest 91 = .ok (.lload 8, 2) := dk_22 8 (dk_at dksX3_truest_3 19 rfl rfl)
theorem dX3_truest_93 : decode cX3_truest 93 = .ok (.lmul, 1) := dk_105 (dk_at dksX3_truest_3 21 rfl rfl)
theorem dX3_truest_94 : decode cX3_truest 94 = .ok (.lload 6, 2) := dk_22 6 (dk_at dksX3_truest_3 22 rfl rfl)
theorem dX3_truest_96 : decode cX3_truest 96 = .ok (.aload_n 0, 1) := dk_42 (dk_at dksX3_truest_4 0 rfl rfl)
theorem dX3_truest_97 : decode cX3_truest 97 = .ok (.getfield 325, 3) := dk_180 1 69 (dk_at dksX3_truest_4 1 rfl rfl)
theorem dX3_truest_100 : decode cX3_truest 100 = .ok (.aload_n 0, 1) := dk_42 (dk_at dksX3_truest_4 4 rfl rfl)
theorem dX3_truest_101 : decode cX3_truest 101 = .ok (.getfield 328, 3) := dk_180 1 72 (dk_at dksX3_truest_4 5 rfl rfl)
theorem dX3_truest_104 : decode cX3_truest 104 = .ok (.isub, 1) := dk_100 (dk_at dksX3_truest_4 8 rfl rfl)
theorem dX3_truest_105 : decode cX3_truest 105 = .ok (.i2l, 1) := dk_133 (dk_at dksX3_truest_4 9 rfl rfl)
theorem dX3_truest_106 : decode cX3_truest 106 = .ok (.lmul, 1) := dk_105 (dk_at dksX3_truest_4 10 rfl rfl)
theorem dX3_truest_107 : decode cX3_truest 107 = .ok (.lcmp, 1) := dk_148 (dk_at dksX3_truest_4 11 rfl rfl)
theorem dX3_truest_108 : decode cX3_truest 108 = .ok (.ifCond .ge 7, 3) := dk_156 0 7 (dk_at dksX3_truest_4 12 rfl rfl)
theorem dX3_truest_111 : decode cX3_truest 111 = .ok (.iconst 1, 1) := dk_4 (dk_at dksX3_truest_4 15 rfl rfl)
theorem dX3_truest_112 : decode cX3_truest 112 = .ok (.goto 4, 3) := dk_167 0 4 (dk_at dksX3_truest_4 16 rfl rfl)
theorem dX3_truest_115 : decode cX3_truest 115 = .ok (.iconst 0, 1) := dk_3 (dk_at dksX3_truest_4 19 rfl rfl)
theorem dX3_truest_116 : decode cX3_truest 116 = .ok (.istore 13, 2) := dk_54 13 (dk_at dksX3_truest_4 20 rfl rfl)
theorem dX3_truest_118 : decode cX3_truest 118 = .ok (.iload 13, 2) := dk_21 13 (dk_at dksX3_truest_4 22 rfl rfl)
theorem dX3_truest_120 : decode cX3_truest 120 = .ok (.ifCond .eq 8, 3) := dk_153 0 8 (dk_at dksX3_truest_5 0 rfl rfl)
theorem dX3_truest_123 : decode cX3_truest 123 = .ok (.iload 10, 2) := dk_21 10 (dk_at dksX3_truest_5 3 rfl rfl)
theorem dX3_truest_125 : decode cX3_truest 125 = .ok (.goto 5, 3) := dk_167 0 5 (dk_at dksX3_truest_5 5 rfl rfl)
theorem dX3_truest_128 : decode cX3_truest 128 = .ok (.iload 5, 2) := dk_21 5 (dk_at dksX3_truest_5 8 rfl rfl)
theorem dX3_truest_130 : decode cX3_truest 130 = .ok (.istore 5, 2) := dk_54 5 (dk_at dksX3_truest_5 10 rfl rfl)
theorem dX3_truest_132 : decode cX3_truest 132 = .ok (.iload 13, 2) := dk_21 13 (dk_at dksX3_truest_5 12 rfl rfl)
theorem dX3_truest_134 : decode cX3_truest 134 = .ok (.ifCond .eq 8, 3) := dk_153 0 8 (dk_at dksX3_truest_5 14 rfl rfl)
theorem dX3_truest_137 : decode cX3_truest 137 = .ok (.lload 11, 2) := dk_22 11 (dk_at dksX3_truest_5 17 rfl rfl)
theorem dX3_truest_139 : decode cX3_truest 139 = .ok (.goto 5, 3) := dk_167 0 5 (dk_at dksX3_truest_5 19 rfl rfl)
theorem dX3_truest_142 : decode cX3_truest 142 = .ok (.lload 6, 2) := dk_22 6 (dk_at dksX3_truest_5 22 rfl rfl)
theorem dX3_truest_144 : decode cX3_truest 144 = .ok (.lstore 6, 2) := dk_55 6 (dk_at dksX3_truest_6 0 rfl rfl)
theorem dX3_truest_146 : decode cX3_truest 146 = .ok (.iload 13, 2) := dk_21 13 (dk_at dksX3_truest_6 2 rfl rfl)
theorem dX3_truest_148 : decode cX3_truest 148 = .ok (.ifCond .eq 16, 3) := dk_153 0 16 (dk_at dksX3_truest_6 4 rfl rfl)
theorem dX3_truest_151 : decode cX3_truest 151 = .ok (.aload_n 0, 1) := dk_42 (dk_at dksX3_truest_6 7 rfl rfl)
theorem dX3_truest_152 : decode cX3_truest 152 = .ok (.getfield 325, 3) := dk_180 1 69 (dk_at dksX3_truest_6 8 rfl rfl)
theorem dX3_truest_155 : decode cX3_truest 155 = .ok (.aload_n 0, 1) := dk_42 (dk_at dksX3_truest_6 11 rfl rfl)
theorem dX3_truest_156 : decode cX3_truest 156 = .ok (.getfield 328, 3) := dk_180 1 72 (dk_at dksX3_truest_6 12 rfl rfl)
theorem dX3_truest_159 : decode cX3_truest 159 = .ok (.isub, 1) := dk_100 (dk_at dksX3_truest_6 15 rfl rfl)
theorem dX3_truest_160 : decode cX3_truest 160 = .ok (.i2l, 1) := dk_133 (dk_at dksX3_truest_6 16 rfl rfl)
theorem dX3_truest_161 : decode cX3_truest 161 = .ok (.goto 5, 3) := dk_167 0 5 (dk_at dksX3_truest_6 17 rfl rfl)
theorem dX3_truest_164 : decode cX3_truest 164 = .ok (.lload 8, 2) := dk_22 8 (dk_at dksX3_truest_6 20 rfl rfl)
theorem dX3_truest_166 : decode cX3_truest 166 = .ok (.lstore 8, 2) := dk_55 8 (dk_at dksX3_truest_6 22 rfl rfl)
theorem dX3_truest_168 : decode cX3_truest 168 = .ok (.iinc 10 1, 3) := dk_132 10 1 (dk_at dksX3_truest_7 0 rfl rfl)
theorem dX3_truest_171 : decode cX3_truest 171 = .ok (.goto (-123), 3) := dk_167 255 133 (dk_at dksX3_truest_7 3 rfl rfl)
theorem dX3_truest_174 : decode cX3_truest 174 = .ok (.iload 5, 2) := dk_21 5 (dk_at dksX3_truest_7 6 rfl rfl)
theorem dX3_truest_176 : decode cX3_truest 176 = .ok (.ireturn, 1) := dk_172 (dk_at dksX3_truest_7 8 rfl rfl)
abbrev cX3_beats : ByteArray := prog_11_method_66_code
def yX3_beats : MethodName := ⟨RX3, "beats", "(IIII)I"⟩
def dkwX3_beats_8 : List UInt8 := [28, 21, 6, 108, 172]
abbrev dktX3_beats_8 : List UInt8 := dkwX3_beats_8 ++ []
def dkwX3_beats_7 : List UInt8 := [154, 0, 8, 21, 7, 167, 0, 23, 21, 4, 4, 160, 0, 13, 21, 8, 21, 7, 2, 130, 126, 167, 0, 7]
abbrev dktX3_beats_7 : List UInt8 := dkwX3_beats_7 ++ dktX3_beats_8
def dkwX3_beats_6 : List UInt8 := [54, 7, 21, 9, 42, 21, 11, 27, 182, 0, 251, 96, 54, 9, 132, 10, 1, 167, 255, 159, 21, 4]
abbrev dktX3_beats_6 : List UInt8 := dkwX3_beats_6 ++ dktX3_beats_7
def dkwX3_beats_5 : List UInt8 := [182, 0, 251, 21, 6, 21, 9, 21, 6, 112, 100, 161, 0, 10, 4, 21, 11, 120, 167, 0, 4, 3, 128]
abbrev dktX3_beats_5 : List UInt8 := dkwX3_beats_5 ++ dktX3_beats_6
def dkwX3_beats_4 : List UInt8 := [167, 0, 4, 3, 128, 54, 8, 21, 7, 42, 21, 11, 27, 182, 0, 251, 158, 0, 28, 42, 21, 11, 27]
abbrev dktX3_beats_4 : List UInt8 := dkwX3_beats_4 ++ dktX3_beats_5
def dkwX3_beats_3 : List UInt8 := [180, 0, 25, 21, 10, 46, 54, 11, 21, 8, 42, 21, 11, 27, 182, 0, 251, 158, 0, 10, 4, 21, 11, 120]
abbrev dktX3_beats_3 : List UInt8 := dkwX3_beats_3 ++ dktX3_beats_4
def dkwX3_beats_2 : List UInt8 := [54, 6, 3, 54, 7, 3, 54, 8, 29, 54, 9, 3, 54, 10, 21, 10, 42, 180, 0, 225, 162, 0, 94, 42]
abbrev dktX3_beats_2 : List UInt8 := dkwX3_beats_2 ++ dktX3_beats_3
def dkwX3_beats_1 : List UInt8 := [172, 42, 27, 182, 1, 1, 54, 5, 21, 5, 154, 0, 5, 3, 172, 28, 133, 21, 5, 133, 184, 0, 115, 136]
abbrev dktX3_beats_1 : List UInt8 := dkwX3_beats_1 ++ dktX3_beats_2
def dkwX3_beats_0 : List UInt8 := [27, 28, 29, 3, 184, 1, 79, 153, 0, 16, 21, 4, 133, 9, 20, 1, 26, 184, 0, 124, 154, 0, 5, 2]
abbrev dktX3_beats_0 : List UInt8 := dkwX3_beats_0 ++ dktX3_beats_1
theorem dksX3_beats_0 : cX3_beats.data.toList.drop 0 = dktX3_beats_0 := by decide +kernel
theorem dksX3_beats_1 : cX3_beats.data.toList.drop 24 = dktX3_beats_1 := dk_seg dksX3_beats_0 24 rfl rfl
theorem dksX3_beats_2 : cX3_beats.data.toList.drop 48 = dktX3_beats_2 := dk_seg dksX3_beats_1 24 rfl rfl
theorem dksX3_beats_3 : cX3_beats.data.toList.drop 72 = dktX3_beats_3 := dk_seg dksX3_beats_2 24 rfl rfl
theorem dksX3_beats_4 : cX3_beats.data.toList.drop 96 = dktX3_beats_4 := dk_seg dksX3_beats_3 24 rfl rfl
theorem dksX3_beats_5 : cX3_beats.data.toList.drop 119 = dktX3_beats_5 := dk_seg dksX3_beats_4 23 rfl rfl
theorem dksX3_beats_6 : cX3_beats.data.toList.drop 142 = dktX3_beats_6 := dk_seg dksX3_beats_5 23 rfl rfl
theorem dksX3_beats_7 : cX3_beats.data.toList.drop 164 = dktX3_beats_7 := dk_seg dksX3_beats_6 22 rfl rfl
theorem dksX3_beats_8 : cX3_beats.data.toList.drop 188 = dktX3_beats_8 := dk_seg dksX3_beats_7 24 rfl rfl
theorem dX3_beats_0 : decode cX3_beats 0 = .ok (.iload_n 1, 1) := dk_27 (dk_at dksX3_beats_0 0 rfl rfl)
theorem dX3_beats_1 : decode cX3_beats 1 = .ok (.iload_n 2, 1) := dk_28 (dk_at dksX3_beats_0 1 rfl rfl)
theorem dX3_beats_2 : decode cX3_beats 2 = .ok (.iload_n 3, 1) := dk_29 (dk_at dksX3_beats_0 2 rfl rfl)
theorem dX3_beats_3 : decode cX3_beats 3 = .ok (.iconst 0, 1) := dk_3 (dk_at dksX3_beats_0 3 rfl rfl)
theorem dX3_beats_4 : decode cX3_beats 4 = .ok (.invokestatic 335, 3) := dk_184 1 79 (dk_at dksX3_beats_0 4 rfl rfl)
theorem dX3_beats_7 : decode cX3_beats 7 = .ok (.ifCond .eq 16, 3) := dk_153 0 16 (dk_at dksX3_beats_0 7 rfl rfl)
theorem dX3_beats_10 : decode cX3_beats 10 = .ok (.iload 4, 2) := dk_21 4 (dk_at dksX3_beats_0 10 rfl rfl)
theorem dX3_beats_12 : decode cX3_beats 12 = .ok (.i2l, 1) := dk_133 (dk_at dksX3_beats_0 12 rfl rfl)
theorem dX3_beats_13 : decode cX3_beats 13 = .ok (.lconst 0, 1) := dk_9 (dk_at dksX3_beats_0 13 rfl rfl)
theorem dX3_beats_14 : decode cX3_beats 14 = .ok (.ldc2_w 282, 3) := dk_20 1 26 (dk_at dksX3_beats_0 14 rfl rfl)
theorem dX3_beats_17 : decode cX3_beats 17 = .ok (.invokestatic 124, 3) := dk_184 0 124 (dk_at dksX3_beats_0 17 rfl rfl)
theorem dX3_beats_20 : decode cX3_beats 20 = .ok (.ifCond .ne 5, 3) := dk_154 0 5 (dk_at dksX3_beats_0 20 rfl rfl)
theorem dX3_beats_23 : decode cX3_beats 23 = .ok (.iconst (-1), 1) := dk_2 (dk_at dksX3_beats_0 23 rfl rfl)
theorem dX3_beats_24 : decode cX3_beats 24 = .ok (.ireturn, 1) := dk_172 (dk_at dksX3_beats_1 0 rfl rfl)
theorem dX3_beats_25 : decode cX3_beats 25 = .ok (.aload_n 0, 1) := dk_42 (dk_at dksX3_beats_1 1 rfl rfl)
theorem dX3_beats_26 : decode cX3_beats 26 = .ok (.iload_n 1, 1) := dk_27 (dk_at dksX3_beats_1 2 rfl rfl)
theorem dX3_beats_27 : decode cX3_beats 27 = .ok (.invokevirtual 257, 3) := dk_182 1 1 (dk_at dksX3_beats_1 3 rfl rfl)
theorem dX3_beats_30 : decode cX3_beats 30 = .ok (.istore 5, 2) := dk_54 5 (dk_at dksX3_beats_1 6 rfl rfl)
theorem dX3_beats_32 : decode cX3_beats 32 = .ok (.iload 5, 2) := dk_21 5 (dk_at dksX3_beats_1 8 rfl rfl)
theorem dX3_beats_34 : decode cX3_beats 34 = .ok (.ifCond .ne 5, 3) := dk_154 0 5 (dk_at dksX3_beats_1 10 rfl rfl)
theorem dX3_beats_37 : decode cX3_beats 37 = .ok (.iconst 0, 1) := dk_3 (dk_at dksX3_beats_1 13 rfl rfl)
theorem dX3_beats_38 : decode cX3_beats 38 = .ok (.ireturn, 1) := dk_172 (dk_at dksX3_beats_1 14 rfl rfl)
theorem dX3_beats_39 : decode cX3_beats 39 = .ok (.iload_n 2, 1) := dk_28 (dk_at dksX3_beats_1 15 rfl rfl)
theorem dX3_beats_40 : decode cX3_beats 40 = .ok (.i2l, 1) := dk_133 (dk_at dksX3_beats_1 16 rfl rfl)
theorem dX3_beats_41 : decode cX3_beats 41 = .ok (.iload 5, 2) := dk_21 5 (dk_at dksX3_beats_1 17 rfl rfl)
theorem dX3_beats_43 : decode cX3_beats 43 = .ok (.i2l, 1) := dk_133 (dk_at dksX3_beats_1 19 rfl rfl)
theorem dX3_beats_44 : decode cX3_beats 44 = .ok (.invokestatic 115, 3) := dk_184 0 115 (dk_at dksX3_beats_1 20 rfl rfl)
theorem dX3_beats_47 : decode cX3_beats 47 = .ok (.l2i, 1) := dk_136 (dk_at dksX3_beats_1 23 rfl rfl)
theorem dX3_beats_48 : decode cX3_beats 48 = .ok (.istore 6, 2) := dk_54 6 (dk_at dksX3_beats_2 0 rfl rfl)
theorem dX3_beats_50 : decode cX3_beats 50 = .ok (.iconst 0, 1) := dk_3 (dk_at dksX3_beats_2 2 rfl rfl)
theorem dX3_beats_51 : decode cX3_beats 51 = .ok (.istore 7, 2) := dk_54 7 (dk_at dksX3_beats_2 3 rfl rfl)
theorem dX3_beats_53 : decode cX3_beats 53 = .ok (.iconst 0, 1) := dk_3 (dk_at dksX3_beats_2 5 rfl rfl)
theorem dX3_beats_54 : decode cX3_beats 54 = .ok (.istore 8, 2) := dk_54 8 (dk_at dksX3_beats_2 6 rfl rfl)
theorem dX3_beats_56 : decode cX3_beats 56 = .ok (.iload_n 3, 1) := dk_29 (dk_at dksX3_beats_2 8 rfl rfl)
theorem dX3_beats_57 : decode cX3_beats 57 = .ok (.istore 9, 2) := dk_54 9 (dk_at dksX3_beats_2 9 rfl rfl)
theorem dX3_beats_59 : decode cX3_beats 59 = .ok (.iconst 0, 1) := dk_3 (dk_at dksX3_beats_2 11 rfl rfl)
theorem dX3_beats_60 : decode cX3_beats 60 = .ok (.istore 10, 2) := dk_54 10 (dk_at dksX3_beats_2 12 rfl rfl)
theorem dX3_beats_62 : decode cX3_beats 62 = .ok (.iload 10, 2) := dk_21 10 (dk_at dksX3_beats_2 14 rfl rfl)
theorem dX3_beats_64 : decode cX3_beats 64 = .ok (.aload_n 0, 1) := dk_42 (dk_at dksX3_beats_2 16 rfl rfl)
theorem dX3_beats_65 : decode cX3_beats 65 = .ok (.getfield 225, 3) := dk_180 0 225 (dk_at dksX3_beats_2 17 rfl rfl)
theorem dX3_beats_68 : decode cX3_beats 68 = .ok (.if_icmp .ge 94, 3) := dk_162 0 94 (dk_at dksX3_beats_2 20 rfl rfl)
theorem dX3_beats_71 : decode cX3_beats 71 = .ok (.aload_n 0, 1) := dk_42 (dk_at dksX3_beats_2 23 rfl rfl)
theorem dX3_beats_72 : decode cX3_beats 72 = .ok (.getfield 25, 3) := dk_180 0 25 (dk_at dksX3_beats_3 0 rfl rfl)
theorem dX3_beats_75 : decode cX3_beats 75 = .ok (.iload 10, 2) := dk_21 10 (dk_at dksX3_beats_3 3 rfl rfl)
theorem dX3_beats_77 : decode cX3_beats 77 = .ok (.iaload, 1) := dk_46 (dk_at dksX3_beats_3 5 rfl rfl)
theorem dX3_beats_78 : decode cX3_beats 78 = .ok (.istore 11, 2) := dk_54 11 (dk_at dksX3_beats_3 6 rfl rfl)
theorem dX3_beats_80 : decode cX3_beats 80 = .ok (.iload 8, 2) := dk_21 8 (dk_at dksX3_beats_3 8 rfl rfl)
theorem dX3_beats_82 : decode cX3_beats 82 = .ok (.aload_n 0, 1) := dk_42 (dk_at dksX3_beats_3 10 rfl rfl)
theorem dX3_beats_83 : decode cX3_beats 83 = .ok (.iload 11, 2) := dk_21 11 (dk_at dksX3_beats_3 11 rfl rfl)
theorem dX3_beats_85 : decode cX3_beats 85 = .ok (.iload_n 1, 1) := dk_27 (dk_at dksX3_beats_3 13 rfl rfl)
theorem dX3_beats_86 : decode cX3_beats 86 = .ok (.invokevirtual 251, 3) := dk_182 0 251 (dk_at dksX3_beats_3 14 rfl rfl)
theorem dX3_beats_89 : decode cX3_beats 89 = .ok (.ifCond .le 10, 3) := dk_158 0 10 (dk_at dksX3_beats_3 17 rfl rfl)
theorem dX3_beats_92 : decode cX3_beats 92 = .ok (.iconst 1, 1) := dk_4 (dk_at dksX3_beats_3 20 rfl rfl)
theorem dX3_beats_93 : decode cX3_beats 93 = .ok (.iload 11, 2) := dk_21 11 (dk_at dksX3_beats_3 21 rfl rfl)
theorem dX3_beats_95 : decode cX3_beats 95 = .ok (.ishl, 1) := dk_120 (dk_at dksX3_beats_3 23 rfl rfl)
theorem dX3_beats_96 : decode cX3_beats 96 = .ok (.goto 4, 3) := dk_167 0 4 (dk_at dksX3_beats_4 0 rfl rfl)
theorem dX3_beats_99 : decode cX3_beats 99 = .ok (.iconst 0, 1) := dk_3 (dk_at dksX3_beats_4 3 rfl rfl)
theorem dX3_beats_100 : decode cX3_beats 100 = .ok (.ior, 1) := dk_128 (dk_at dksX3_beats_4 4 rfl rfl)
theorem dX3_beats_101 : decode cX3_beats 101 = .ok (.istore 8, 2) := dk_54 8 (dk_at dksX3_beats_4 5 rfl rfl)
theorem dX3_beats_103 : decode cX3_beats 103 = .ok (.iload 7, 2) := dk_21 7 (dk_at dksX3_beats_4 7 rfl rfl)
theorem dX3_beats_105 : decode cX3_beats 105 = .ok (.aload_n 0, 1) := dk_42 (dk_at dksX3_beats_4 9 rfl rfl)
theorem dX3_beats_106 : decode cX3_beats 106 = .ok (.iload 11, 2) := dk_21 11 (dk_at dksX3_beats_4 10 rfl rfl)
theorem dX3_beats_108 : decode cX3_beats 108 = .ok (.iload_n 1, 1) := dk_27 (dk_at dksX3_beats_4 12 rfl rfl)
theorem dX3_beats_109 : decode cX3_beats 109 = .ok (.invokevirtual 251, 3) := dk_182 0 251 (dk_at dksX3_beats_4 13 rfl rfl)
theorem dX3_beats_112 : decode cX3_beats 112 = .ok (.ifCond .le 28, 3) := dk_158 0 28 (dk_at dksX3_beats_4 16 rfl rfl)
theorem dX3_beats_115 : decode cX3_beats 115 = .ok (.aload_n 0, 1) := dk_42 (dk_at dksX3_beats_4 19 rfl rfl)
theorem dX3_beats_116 : decode cX3_beats 116 = .ok (.iload 11, 2) := dk_21 11 (dk_at dksX3_beats_4 20 rfl rfl)
theorem dX3_beats_118 : decode cX3_beats 118 = .ok (.iload_n 1, 1) := dk_27 (dk_at dksX3_beats_4 22 rfl rfl)
theorem dX3_beats_119 : decode cX3_beats 119 = .ok (.invokevirtual 251, 3) := dk_182 0 251 (dk_at dksX3_beats_5 0 rfl rfl)
theorem dX3_beats_122 : decode cX3_beats 122 = .ok (.iload 6, 2) := dk_21 6 (dk_at dksX3_beats_5 3 rfl rfl)
theorem dX3_beats_124 : decode cX3_beats 124 = .ok (.iload 9, 2) := dk_21 9 (dk_at dksX3_beats_5 5 rfl rfl)
theorem dX3_beats_126 : decode cX3_beats 126 = .ok (.iload 6, 2) := dk_21 6 (dk_at dksX3_beats_5 7 rfl rfl)
theorem dX3_beats_128 : decode cX3_beats 128 = .ok (.irem, 1) := dk_112 (dk_at dksX3_beats_5 9 rfl rfl)
theorem dX3_beats_129 : decode cX3_beats 129 = .ok (.isub, 1) := dk_100 (dk_at dksX3_beats_5 10 rfl rfl)
theorem dX3_beats_130 : decode cX3_beats 130 = .ok (.if_icmp .lt 10, 3) := dk_161 0 10 (dk_at dksX3_beats_5 11 rfl rfl)
theorem dX3_beats_133 : decode cX3_beats 133 = .ok (.iconst 1, 1) := dk_4 (dk_at dksX3_beats_5 14 rfl rfl)
theorem dX3_beats_134 : decode cX3_beats 134 = .ok (.iload 11, 2) := dk_21 11 (dk_at dksX3_beats_5 15 rfl rfl)
theorem dX3_beats_136 : decode cX3_beats 136 = .ok (.ishl, 1) := dk_120 (dk_at dksX3_beats_5 17 rfl rfl)
theorem dX3_beats_137 : decode cX3_beats 137 = .ok (.goto 4, 3) := dk_167 0 4 (dk_at dksX3_beats_5 18 rfl rfl)
theorem dX3_beats_140 : decode cX3_beats 140 = .ok (.iconst 0, 1) := dk_3 (dk_at dksX3_beats_5 21 rfl rfl)
theorem dX3_beats_141 : decode cX3_beats 141 = .ok (.ior, 1) := dk_128 (dk_at dksX3_beats_5 22 rfl rfl)
theorem dX3_beats_142 : decode cX3_beats 142 = .ok (.istore 7, 2) := dk_54 7 (dk_at dksX3_beats_6 0 rfl rfl)
theorem dX3_beats_144 : decode cX3_beats 144 = .ok (.iload 9, 2) := dk_21 9 (dk_at dksX3_beats_6 2 rfl rfl)
theorem dX3_beats_146 : decode cX3_beats 146 = .ok (.aload_n 0, 1) := dk_42 (dk_at dksX3_beats_6 4 rfl rfl)
theorem dX3_beats_147 : decode cX3_beats 147 = .ok (.iload 11, 2) := dk_21 11 (dk_at dksX3_beats_6 5 rfl rfl)
theorem dX3_beats_149 : decode cX3_beats 149 = .ok (.iload_n 1, 1) := dk_27 (dk_at dksX3_beats_6 7 rfl rfl)
theorem dX3_beats_150 : decode cX3_beats 150 = .ok (.invokevirtual 251, 3) := dk_182 0 251 (dk_at dksX3_beats_6 8 rfl rfl)
theorem dX3_beats_153 : decode cX3_beats 153 = .ok (.iadd, 1) := dk_96 (dk_at dksX3_beats_6 11 rfl rfl)
theorem dX3_beats_154 : decode cX3_beats 154 = .ok (.istore 9, 2) := dk_54 9 (dk_at dksX3_beats_6 12 rfl rfl)
theorem dX3_beats_156 : decode cX3_beats 156 = .ok (.iinc 10 1, 3) := dk_132 10 1 (dk_at dksX3_beats_6 14 rfl rfl)
theorem dX3_beats_159 : decode cX3_beats 159 = .ok (.goto (-97), 3) := dk_167 255 159 (dk_at dksX3_beats_6 17 rfl rfl)
theorem dX3_beats_162 : decode cX3_beats 162 = .ok (.iload 4, 2) := dk_21 4 (dk_at dksX3_beats_6 20 rfl rfl)
theorem dX3_beats_164 : decode cX3_beats 164 = .ok (.ifCond .ne 8, 3) := dk_154 0 8 (dk_at dksX3_beats_7 0 rfl rfl)
theorem dX3_beats_167 : decode cX3_beats 167 = .ok (.iload 7, 2) := dk_21 7 (dk_at dksX3_beats_7 3 rfl rfl)
theorem dX3_beats_169 : decode cX3_beats 169 = .ok (.goto 23, 3) := dk_167 0 23 (dk_at dksX3_beats_7 5 rfl rfl)
theorem dX3_beats_172 : decode cX3_beats 172 = .ok (.iload 4, 2) := dk_21 4 (dk_at dksX3_beats_7 8 rfl rfl)
theorem dX3_beats_174 : decode cX3_beats 174 = .ok (.iconst 1, 1) := dk_4 (dk_at dksX3_beats_7 10 rfl rfl)
theorem dX3_beats_175 : decode cX3_beats 175 = .ok (.if_icmp .ne 13, 3) := dk_160 0 13 (dk_at dksX3_beats_7 11 rfl rfl)
theorem dX3_beats_178 : decode cX3_beats 178 = .ok (.iload 8, 2) := dk_21 8 (dk_at dksX3_beats_7 14 rfl rfl)
theorem dX3_beats_180 : decode cX3_beats 180 = .ok (.iload 7, 2) := dk_21 7 (dk_at dksX3_beats_7 16 rfl rfl)
theorem dX3_beats_182 : decode cX3_beats 182 = .ok (.iconst (-1), 1) := dk_2 (dk_at dksX3_beats_7 18 rfl rfl)
theorem dX3_beats_183 : decode cX3_beats 183 = .ok (.ixor, 1) := dk_130 (dk_at dksX3_beats_7 19 rfl rfl)
theorem dX3_beats_184 : decode cX3_beats 184 = .ok (.iand, 1) := dk_126 (dk_at dksX3_beats_7 20 rfl rfl)
theorem dX3_beats_185 : decode cX3_beats 185 = .ok (.goto 7, 3) := dk_167 0 7 (dk_at dksX3_beats_7 21 rfl rfl)
theorem dX3_beats_188 : decode cX3_beats 188 = .ok (.iload_n 2, 1) := dk_28 (dk_at dksX3_beats_8 0 rfl rfl)
theorem dX3_beats_189 : decode cX3_beats 189 = .ok (.iload 6, 2) := dk_21 6 (dk_at dksX3_beats_8 1 rfl rfl)
theorem dX3_beats_191 : decode cX3_beats 191 = .ok (.idiv, 1) := dk_108 (dk_at dksX3_beats_8 3 rfl rfl)
theorem dX3_beats_192 : decode cX3_beats 192 = .ok (.ireturn, 1) := dk_172 (dk_at dksX3_beats_8 4 rfl rfl)
abbrev cX3_over : ByteArray := prog_11_method_68_code
def yX3_over : MethodName := ⟨RX3, "over", "(IIII)I"⟩
def dkwX3_over_3 : List UInt8 := [167, 0, 12, 21, 5, 42, 180, 0, 74, 27, 46, 122, 172]
abbrev dktX3_over_3 : List UInt8 := dkwX3_over_3 ++ []
def dkwX3_over_2 : List UInt8 := [182, 1, 1, 96, 54, 5, 21, 4, 154, 0, 19, 21, 5, 4, 42, 180, 0, 74, 27, 46, 120, 4, 100, 126]
abbrev dktX3_over_2 : List UInt8 := dkwX3_over_2 ++ dktX3_over_3
def dkwX3_over_1 : List UInt8 := [184, 0, 124, 153, 0, 14, 21, 4, 133, 9, 10, 184, 0, 124, 154, 0, 5, 2, 172, 29, 42, 28]
abbrev dktX3_over_1 : List UInt8 := dkwX3_over_1 ++ dktX3_over_2
def dkwX3_over_0 : List UInt8 := [42, 27, 28, 182, 1, 96, 153, 0, 34, 29, 133, 9, 4, 42, 180, 0, 74, 27, 46, 120, 4, 100, 133]
abbrev dktX3_over_0 : List UInt8 := dkwX3_over_0 ++ dktX3_over_1
theorem dksX3_over_0 : cX3_over.data.toList.drop 0 = dktX3_over_0 := by decide +kernel
theorem dksX3_over_1 : cX3_over.data.toList.drop 23 = dktX3_over_1 := dk_seg dksX3_over_0 23 rfl rfl
theorem dksX3_over_2 : cX3_over.data.toList.drop 45 = dktX3_over_2 := dk_seg dksX3_over_1 22 rfl rfl
theorem dksX3_over_3 : cX3_over.data.toList.drop 69 = dktX3_over_3 := dk_seg dksX3_over_2 24 rfl rfl
theorem dX3_over_0 : decode cX3_over 0 = .ok (.aload_n 0, 1) := dk_42 (dk_at dksX3_over_0 0 rfl rfl)
theorem dX3_over_1 : decode cX3_over 1 = .ok (.iload_n 1, 1) := dk_27 (dk_at dksX3_over_0 1 rfl rfl)
theorem dX3_over_2 : decode cX3_over 2 = .ok (.iload_n 2, 1) := dk_28 (dk_at dksX3_over_0 2 rfl rfl)
theorem dX3_over_3 : decode cX3_over 3 = .ok (.invokevirtual 352, 3) := dk_182 1 96 (dk_at dksX3_over_0 3 rfl rfl)
theorem dX3_over_6 : decode cX3_over 6 = .ok (.ifCond .eq 34, 3) := dk_153 0 34 (dk_at dksX3_over_0 6 rfl rfl)
theorem dX3_over_9 : decode cX3_over 9 = .ok (.iload_n 3, 1) := dk_29 (dk_at dksX3_over_0 9 rfl rfl)
theorem dX3_over_10 : decode cX3_over 10 = .ok (.i2l, 1) := dk_133 (dk_at dksX3_over_0 10 rfl rfl)
theorem dX3_over_11 : decode cX3_over 11 = .ok (.lconst 0, 1) := dk_9 (dk_at dksX3_over_0 11 rfl rfl)
theorem dX3_over_12 : decode cX3_over 12 = .ok (.iconst 1, 1) := dk_4 (dk_at dksX3_over_0 12 rfl rfl)
theorem dX3_over_13 : decode cX3_over 13 = .ok (.aload_n 0, 1) := dk_42 (dk_at dksX3_over_0 13 rfl rfl)
theorem dX3_over_14 : decode cX3_over 14 = .ok (.getfield 74, 3) := dk_180 0 74 (dk_at dksX3_over_0 14 rfl rfl)
theorem dX3_over_17 : decode cX3_over 17 = .ok (.iload_n 1, 1) := dk_27 (dk_at dksX3_over_0 17 rfl rfl)
theorem dX3_over_18 : decode cX3_over 18 = .ok (.iaload, 1) := dk_46 (dk_at dksX3_over_0 18 rfl rfl)
theorem dX3_over_19 : decode cX3_over 19 = .ok (.ishl, 1) := dk_120 (dk_at dksX3_over_0 19 rfl rfl)
theorem dX3_over_20 : decode cX3_over 20 = .ok (.iconst 1, 1) := dk_4 (dk_at dksX3_over_0 20 rfl rfl)
theorem dX3_over_21 : decode cX3_over 21 = .ok (.isub, 1) := dk_100 (dk_at dksX3_over_0 21 rfl rfl)
theorem dX3_over_22 : decode cX3_over 22 = .ok (.i2l, 1) := dk_133 (dk_at dksX3_over_0 22 rfl rfl)
theorem dX3_over_23 : decode cX3_over 23 = .ok (.invokestatic 124, 3) := dk_184 0 124 (dk_at dksX3_over_1 0 rfl rfl)
theorem dX3_over_26 : decode cX3_over 26 = .ok (.ifCond .eq 14, 3) := dk_153 0 14 (dk_at dksX3_over_1 3 rfl rfl)
theorem dX3_over_29 : decode cX3_over 29 = .ok (.iload 4, 2) := dk_21 4 (dk_at dksX3_over_1 6 rfl rfl)
theorem dX3_over_31 : decode cX3_over 31 = .ok (.i2l, 1) := dk_133 (dk_at dksX3_over_1 8 rfl rfl)
theorem dX3_over_32 : decode cX3_over 32 = .ok (.lconst 0, 1) := dk_9 (dk_at dksX3_over_1 9 rfl rfl)
theorem dX3_over_33 : decode cX3_over 33 = .ok (.lconst 1, 1) := dk_10 (dk_at dksX3_over_1 10 rfl rfl)
theorem dX3_over_34 : decode cX3_over 34 = .ok (.invokestatic 124, 3) := dk_184 0 124 (dk_at dksX3_over_1 11 rfl rfl)
theorem dX3_over_37 : decode cX3_over 37 = .ok (.ifCond .ne 5, 3) := dk_154 0 5 (dk_at dksX3_over_1 14 rfl rfl)
theorem dX3_over_40 : decode cX3_over 40 = .ok (.iconst (-1), 1) := dk_2 (dk_at dksX3_over_1 17 rfl rfl)
theorem dX3_over_41 : decode cX3_over 41 = .ok (.ireturn, 1) := dk_172 (dk_at dksX3_over_1 18 rfl rfl)
theorem dX3_over_42 : decode cX3_over 42 = .ok (.iload_n 3, 1) := dk_29 (dk_at dksX3_over_1 19 rfl rfl)
theorem dX3_over_43 : decode cX3_over 43 = .ok (.aload_n 0, 1) := dk_42 (dk_at dksX3_over_1 20 rfl rfl)
theorem dX3_over_44 : decode cX3_over 44 = .ok (.iload_n 2, 1) := dk_28 (dk_at dksX3_over_1 21 rfl rfl)
theorem dX3_over_45 : decode cX3_over 45 = .ok (.invokevirtual 257, 3) := dk_182 1 1 (dk_at dksX3_over_2 0 rfl rfl)
theorem dX3_over_48 : decode cX3_over 48 = .ok (.iadd, 1) := dk_96 (dk_at dksX3_over_2 3 rfl rfl)
theorem dX3_over_49 : decode cX3_over 49 = .ok (.istore 5, 2) := dk_54 5 (dk_at dksX3_over_2 4 rfl rfl)
theorem dX3_over_51 : decode cX3_over 51 = .ok (.iload 4, 2) := dk_21 4 (dk_at dksX3_over_2 6 rfl rfl)
theorem dX3_over_53 : decode cX3_over 53 = .ok (.ifCond .ne 19, 3) := dk_154 0 19 (dk_at dksX3_over_2 8 rfl rfl)
theorem dX3_over_56 : decode cX3_over 56 = .ok (.iload 5, 2) := dk_21 5 (dk_at dksX3_over_2 11 rfl rfl)
theorem dX3_over_58 : decode cX3_over 58 = .ok (.iconst 1, 1) := dk_4 (dk_at dksX3_over_2 13 rfl rfl)
theorem dX3_over_59 : decode cX3_over 59 = .ok (.aload_n 0, 1) := dk_42 (dk_at dksX3_over_2 14 rfl rfl)
theorem dX3_over_60 : decode cX3_over 60 = .ok (.getfield 74, 3) := dk_180 0 74 (dk_at dksX3_over_2 15 rfl rfl)
theorem dX3_over_63 : decode cX3_over 63 = .ok (.iload_n 1, 1) := dk_27 (dk_at dksX3_over_2 18 rfl rfl)
theorem dX3_over_64 : decode cX3_over 64 = .ok (.iaload, 1) := dk_46 (dk_at dksX3_over_2 19 rfl rfl)
theorem dX3_over_65 : decode cX3_over 65 = .ok (.ishl, 1) := dk_120 (dk_at dksX3_over_2 20 rfl rfl)
theorem dX3_over_66 : decode cX3_over 66 = .ok (.iconst 1, 1) := dk_4 (dk_at dksX3_over_2 21 rfl rfl)
theorem dX3_over_67 : decode cX3_over 67 = .ok (.isub, 1) := dk_100 (dk_at dksX3_over_2 22 rfl rfl)
theorem dX3_over_68 : decode cX3_over 68 = .ok (.iand, 1) := dk_126 (dk_at dksX3_over_2 23 rfl rfl)
theorem dX3_over_69 : decode cX3_over 69 = .ok (.goto 12, 3) := dk_167 0 12 (dk_at dksX3_over_3 0 rfl rfl)
theorem dX3_over_72 : decode cX3_over 72 = .ok (.iload 5, 2) := dk_21 5 (dk_at dksX3_over_3 3 rfl rfl)
theorem dX3_over_74 : decode cX3_over 74 = .ok (.aload_n 0, 1) := dk_42 (dk_at dksX3_over_3 5 rfl rfl)
theorem dX3_over_75 : decode cX3_over 75 = .ok (.getfield 74, 3) := dk_180 0 74 (dk_at dksX3_over_3 6 rfl rfl)
theorem dX3_over_78 : decode cX3_over 78 = .ok (.iload_n 1, 1) := dk_27 (dk_at dksX3_over_3 9 rfl rfl)
theorem dX3_over_79 : decode cX3_over 79 = .ok (.iaload, 1) := dk_46 (dk_at dksX3_over_3 10 rfl rfl)
theorem dX3_over_80 : decode cX3_over 80 = .ok (.ishr, 1) := dk_122 (dk_at dksX3_over_3 11 rfl rfl)
theorem dX3_over_81 : decode cX3_over 81 = .ok (.ireturn, 1) := dk_172 (dk_at dksX3_over_3 12 rfl rfl)
abbrev cX3_canCount : ByteArray := prog_11_method_67_code
def yX3_canCount : MethodName := ⟨RX3, "canCount", "(II)Z"⟩
def dkwX3_canCount_1 : List UInt8 := [126, 4, 160, 0, 7, 4, 167, 0, 4, 3, 172]
abbrev dktX3_canCount_1 : List UInt8 := dkwX3_canCount_1 ++ []
def dkwX3_canCount_0 : List UInt8 := [42, 27, 182, 1, 23, 153, 0, 28, 28, 184, 1, 4, 153, 0, 21, 42, 180, 0, 71, 27, 46, 28, 122, 4]
abbrev dktX3_canCount_0 : List UInt8 := dkwX3_canCount_0 ++ dktX3_canCount_1
theorem dksX3_canCount_0 : cX3_canCount.data.toList.drop 0 = dktX3_canCount_0 := by decide +kernel
theorem dksX3_canCount_1 : cX3_canCount.data.toList.drop 24 = dktX3_canCount_1 := dk_seg dksX3_canCount_0 24 rfl rfl
theorem dX3_canCount_0 : decode cX3_canCount 0 = .ok (.aload_n 0, 1) := dk_42 (dk_at dksX3_canCount_0 0 rfl rfl)
theorem dX3_canCount_1 : decode cX3_canCount 1 = .ok (.iload_n 1, 1) := dk_27 (dk_at dksX3_canCount_0 1 rfl rfl)
theorem dX3_canCount_2 : decode cX3_canCount 2 = .ok (.invokevirtual 279, 3) := dk_182 1 23 (dk_at dksX3_canCount_0 2 rfl rfl)
theorem dX3_canCount_5 : decode cX3_canCount 5 = .ok (.ifCond .eq 28, 3) := dk_153 0 28 (dk_at dksX3_canCount_0 5 rfl rfl)
theorem dX3_canCount_8 : decode cX3_canCount 8 = .ok (.iload_n 2, 1) := dk_28 (dk_at dksX3_canCount_0 8 rfl rfl)
theorem dX3_canCount_9 : decode cX3_canCount 9 = .ok (.invokestatic 260, 3) := dk_184 1 4 (dk_at dksX3_canCount_0 9 rfl rfl)
theorem dX3_canCount_12 : decode cX3_canCount 12 = .ok (.ifCond .eq 21, 3) := dk_153 0 21 (dk_at dksX3_canCount_0 12 rfl rfl)
theorem dX3_canCount_15 : decode cX3_canCount 15 = .ok (.aload_n 0, 1) := dk_42 (dk_at dksX3_canCount_0 15 rfl rfl)
theorem dX3_canCount_16 : decode cX3_canCount 16 = .ok (.getfield 71, 3) := dk_180 0 71 (dk_at dksX3_canCount_0 16 rfl rfl)
theorem dX3_canCount_19 : decode cX3_canCount 19 = .ok (.iload_n 1, 1) := dk_27 (dk_at dksX3_canCount_0 19 rfl rfl)
theorem dX3_canCount_20 : decode cX3_canCount 20 = .ok (.iaload, 1) := dk_46 (dk_at dksX3_canCount_0 20 rfl rfl)
theorem dX3_canCount_21 : decode cX3_canCount 21 = .ok (.iload_n 2, 1) := dk_28 (dk_at dksX3_canCount_0 21 rfl rfl)
theorem dX3_canCount_22 : decode cX3_canCount 22 = .ok (.ishr, 1) := dk_122 (dk_at dksX3_canCount_0 22 rfl rfl)
theorem dX3_canCount_23 : decode cX3_canCount 23 = .ok (.iconst 1, 1) := dk_4 (dk_at dksX3_canCount_0 23 rfl rfl)
theorem dX3_canCount_24 : decode cX3_canCount 24 = .ok (.iand, 1) := dk_126 (dk_at dksX3_canCount_1 0 rfl rfl)
theorem dX3_canCount_25 : decode cX3_canCount 25 = .ok (.iconst 1, 1) := dk_4 (dk_at dksX3_canCount_1 1 rfl rfl)
theorem dX3_canCount_26 : decode cX3_canCount 26 = .ok (.if_icmp .ne 7, 3) := dk_160 0 7 (dk_at dksX3_canCount_1 2 rfl rfl)
theorem dX3_canCount_29 : decode cX3_canCount 29 = .ok (.iconst 1, 1) := dk_4 (dk_at dksX3_canCount_1 5 rfl rfl)
theorem dX3_canCount_30 : decode cX3_canCount 30 = .ok (.goto 4, 3) := dk_167 0 4 (dk_at dksX3_canCount_1 6 rfl rfl)
theorem dX3_canCount_33 : decode cX3_canCount 33 = .ok (.iconst 0, 1) := dk_3 (dk_at dksX3_canCount_1 9 rfl rfl)
theorem dX3_canCount_34 : decode cX3_canCount 34 = .ok (.ireturn, 1) := dk_172 (dk_at dksX3_canCount_1 10 rfl rfl)
abbrev cX3_looked : ByteArray := prog_11_method_70_code
def yX3_looked : MethodName := ⟨RX3, "looked", "(IIII)I"⟩
def dkwX3_looked_3 : List UInt8 := [167, 0, 7, 42, 180, 1, 99, 172]
abbrev dktX3_looked_3 : List UInt8 := dkwX3_looked_3 ++ []
def dkwX3_looked_2 : List UInt8 := [154, 0, 8, 21, 5, 167, 0, 24, 21, 4, 4, 160, 0, 14, 42, 28, 182, 1, 1, 21, 5, 100]
abbrev dktX3_looked_2 : List UInt8 := dkwX3_looked_2 ++ dktX3_looked_3
def dkwX3_looked_1 : List UInt8 := [9, 20, 1, 26, 184, 0, 124, 154, 0, 5, 2, 172, 42, 27, 28, 29, 182, 1, 102, 54, 5, 21, 4]
abbrev dktX3_looked_1 : List UInt8 := dkwX3_looked_1 ++ dktX3_looked_2
def dkwX3_looked_0 : List UInt8 := [42, 27, 28, 182, 1, 96, 153, 0, 28, 29, 133, 10, 20, 1, 57, 184, 0, 124, 153, 0, 16, 21, 4, 133]
abbrev dktX3_looked_0 : List UInt8 := dkwX3_looked_0 ++ dktX3_looked_1
theorem dksX3_looked_0 : cX3_looked.data.toList.drop 0 = dktX3_looked_0 := by decide +kernel
theorem dksX3_looked_1 : cX3_looked.data.toList.drop 24 = dktX3_looked_1 := dk_seg dksX3_looked_0 24 rfl rfl
theorem dksX3_looked_2 : cX3_looked.data.toList.drop 47 = dktX3_looked_2 := dk_seg dksX3_looked_1 23 rfl rfl
theorem dksX3_looked_3 : cX3_looked.data.toList.drop 69 = dktX3_looked_3 := dk_seg dksX3_looked_2 22 rfl rfl
theorem dX3_looked_0 : decode cX3_looked 0 = .ok (.aload_n 0, 1) := dk_42 (dk_at dksX3_looked_0 0 rfl rfl)
theorem dX3_looked_1 : decode cX3_looked 1 = .ok (.iload_n 1, 1) := dk_27 (dk_at dksX3_looked_0 1 rfl rfl)
theorem dX3_looked_2 : decode cX3_looked 2 = .ok (.iload_n 2, 1) := dk_28 (dk_at dksX3_looked_0 2 rfl rfl)
theorem dX3_looked_3 : decode cX3_looked 3 = .ok (.invokevirtual 352, 3) := dk_182 1 96 (dk_at dksX3_looked_0 3 rfl rfl)
theorem dX3_looked_6 : decode cX3_looked 6 = .ok (.ifCond .eq 28, 3) := dk_153 0 28 (dk_at dksX3_looked_0 6 rfl rfl)
theorem dX3_looked_9 : decode cX3_looked 9 = .ok (.iload_n 3, 1) := dk_29 (dk_at dksX3_looked_0 9 rfl rfl)
theorem dX3_looked_10 : decode cX3_looked 10 = .ok (.i2l, 1) := dk_133 (dk_at dksX3_looked_0 10 rfl rfl)
theorem dX3_looked_11 : decode cX3_looked 11 = .ok (.lconst 1, 1) := dk_10 (dk_at dksX3_looked_0 11 rfl rfl)
theorem dX3_looked_12 : decode cX3_looked 12 = .ok (.ldc2_w 313, 3) := dk_20 1 57 (dk_at dksX3_looked_0 12 rfl rfl)
theorem dX3_looked_15 : decode cX3_looked 15 = .ok (.invokestatic 124, 3) := dk_184 0 124 (dk_at dksX3_looked_0 15 rfl rfl)
theorem dX3_looked_18 : decode cX3_looked 18 = .ok (.ifCond .eq 16, 3) := dk_153 0 16 (dk_at dksX3_looked_0 18 rfl rfl)
theorem dX3_looked_21 : decode cX3_looked 21 = .ok (.iload 4, 2) := dk_21 4 (dk_at dksX3_looked_0 21 rfl rfl)
theorem dX3_looked_23 : decode cX3_looked 23 = .ok (.i2l, 1) := dk_133 (dk_at dksX3_looked_0 23 rfl rfl)
theorem dX3_looked_24 : decode cX3_looked 24 = .ok (.lconst 0, 1) := dk_9 (dk_at dksX3_looked_1 0 rfl rfl)
theorem dX3_looked_25 : decode cX3_looked 25 = .ok (.ldc2_w 282, 3) := dk_20 1 26 (dk_at dksX3_looked_1 1 rfl rfl)
theorem dX3_looked_28 : decode cX3_looked 28 = .ok (.invokestatic 124, 3) := dk_184 0 124 (dk_at dksX3_looked_1 4 rfl rfl)
theorem dX3_looked_31 : decode cX3_looked 31 = .ok (.ifCond .ne 5, 3) := dk_154 0 5 (dk_at dksX3_looked_1 7 rfl rfl)
theorem dX3_looked_34 : decode cX3_looked 34 = .ok (.iconst (-1), 1) := dk_2 (dk_at dksX3_looked_1 10 rfl rfl)
theorem dX3_looked_35 : decode cX3_looked 35 = .ok (.ireturn, 1) := dk_172 (dk_at dksX3_looked_1 11 rfl rfl)
theorem dX3_looked_36 : decode cX3_looked 36 = .ok (.aload_n 0, 1) := dk_42 (dk_at dksX3_looked_1 12 rfl rfl)
theorem dX3_looked_37 : decode cX3_looked 37 = .ok (.iload_n 1, 1) := dk_27 (dk_at dksX3_looked_1 13 rfl rfl)
theorem dX3_looked_38 : decode cX3_looked 38 = .ok (.iload_n 2, 1) := dk_28 (dk_at dksX3_looked_1 14 rfl rfl)
theorem dX3_looked_39 : decode cX3_looked 39 = .ok (.iload_n 3, 1) := dk_29 (dk_at dksX3_looked_1 15 rfl rfl)
theorem dX3_looked_40 : decode cX3_looked 40 = .ok (.invokevirtual 358, 3) := dk_182 1 102 (dk_at dksX3_looked_1 16 rfl rfl)
theorem dX3_looked_43 : decode cX3_looked 43 = .ok (.istore 5, 2) := dk_54 5 (dk_at dksX3_looked_1 19 rfl rfl)
theorem dX3_looked_45 : decode cX3_looked 45 = .ok (.iload 4, 2) := dk_21 4 (dk_at dksX3_looked_1 21 rfl rfl)
theorem dX3_looked_47 : decode cX3_looked 47 = .ok (.ifCond .ne 8, 3) := dk_154 0 8 (dk_at dksX3_looked_2 0 rfl rfl)
theorem dX3_looked_50 : decode cX3_looked 50 = .ok (.iload 5, 2) := dk_21 5 (dk_at dksX3_looked_2 3 rfl rfl)
theorem dX3_looked_52 : decode cX3_looked 52 = .ok (.goto 24, 3) := dk_167 0 24 (dk_at dksX3_looked_2 5 rfl rfl)
theorem dX3_looked_55 : decode cX3_looked 55 = .ok (.iload 4, 2) := dk_21 4 (dk_at dksX3_looked_2 8 rfl rfl)
theorem dX3_looked_57 : decode cX3_looked 57 = .ok (.iconst 1, 1) := dk_4 (dk_at dksX3_looked_2 10 rfl rfl)
theorem dX3_looked_58 : decode cX3_looked 58 = .ok (.if_icmp .ne 14, 3) := dk_160 0 14 (dk_at dksX3_looked_2 11 rfl rfl)
theorem dX3_looked_61 : decode cX3_looked 61 = .ok (.aload_n 0, 1) := dk_42 (dk_at dksX3_looked_2 14 rfl rfl)
theorem dX3_looked_62 : decode cX3_looked 62 = .ok (.iload_n 2, 1) := dk_28 (dk_at dksX3_looked_2 15 rfl rfl)
theorem dX3_looked_63 : decode cX3_looked 63 = .ok (.invokevirtual 257, 3) := dk_182 1 1 (dk_at dksX3_looked_2 16 rfl rfl)
theorem dX3_looked_66 : decode cX3_looked 66 = .ok (.iload 5, 2) := dk_21 5 (dk_at dksX3_looked_2 19 rfl rfl)
theorem dX3_looked_68 : decode cX3_looked 68 = .ok (.isub, 1) := dk_100 (dk_at dksX3_looked_2 21 rfl rfl)
theorem dX3_looked_69 : decode cX3_looked 69 = .ok (.goto 7, 3) := dk_167 0 7 (dk_at dksX3_looked_3 0 rfl rfl)
theorem dX3_looked_72 : decode cX3_looked 72 = .ok (.aload_n 0, 1) := dk_42 (dk_at dksX3_looked_3 3 rfl rfl)
theorem dX3_looked_73 : decode cX3_looked 73 = .ok (.getfield 355, 3) := dk_180 1 99 (dk_at dksX3_looked_3 4 rfl rfl)
theorem dX3_looked_76 : decode cX3_looked 76 = .ok (.ireturn, 1) := dk_172 (dk_at dksX3_looked_3 7 rfl rfl)
abbrev cX3_toldBy : ByteArray := prog_11_method_69_code
def yX3_toldBy : MethodName := ⟨RX3, "toldBy", "(III)I"⟩
def dkwX3_toldBy_5 : List UInt8 := [167, 255, 167, 21, 8, 21, 7, 21, 4, 112, 96, 172]
abbrev dktX3_toldBy_5 : List UInt8 := dkwX3_toldBy_5 ++ []
def dkwX3_toldBy_4 : List UInt8 := [96, 54, 7, 21, 5, 42, 180, 0, 7, 42, 180, 0, 25, 21, 9, 46, 46, 96, 54, 5, 132, 9, 1]
abbrev dktX3_toldBy_4 : List UInt8 := dkwX3_toldBy_4 ++ dktX3_toldBy_5
def dkwX3_toldBy_3 : List UInt8 := [96, 54, 8, 3, 54, 7, 21, 5, 54, 6, 21, 7, 42, 42, 180, 0, 25, 21, 9, 46, 28, 182, 0, 251]
abbrev dktX3_toldBy_3 : List UInt8 := dkwX3_toldBy_3 ++ dktX3_toldBy_4
def dkwX3_toldBy_2 : List UInt8 := [21, 6, 29, 108, 159, 0, 26, 42, 89, 180, 1, 99, 4, 96, 181, 1, 99, 21, 8, 21, 7, 21, 4, 112]
abbrev dktX3_toldBy_2 : List UInt8 := dkwX3_toldBy_2 ++ dktX3_toldBy_3
def dkwX3_toldBy_1 : List UInt8 := [181, 1, 99, 3, 54, 9, 21, 9, 42, 180, 0, 225, 162, 0, 86, 21, 9, 158, 0, 37, 21, 5, 29, 108]
abbrev dktX3_toldBy_1 : List UInt8 := dkwX3_toldBy_1 ++ dktX3_toldBy_2
def dkwX3_toldBy_0 : List UInt8 := [4, 42, 180, 0, 74, 27, 46, 120, 54, 4, 3, 54, 5, 3, 54, 6, 3, 54, 7, 3, 54, 8, 42, 4]
abbrev dktX3_toldBy_0 : List UInt8 := dkwX3_toldBy_0 ++ dktX3_toldBy_1
theorem dksX3_toldBy_0 : cX3_toldBy.data.toList.drop 0 = dktX3_toldBy_0 := by decide +kernel
theorem dksX3_toldBy_1 : cX3_toldBy.data.toList.drop 24 = dktX3_toldBy_1 := dk_seg dksX3_toldBy_0 24 rfl rfl
theorem dksX3_toldBy_2 : cX3_toldBy.data.toList.drop 48 = dktX3_toldBy_2 := dk_seg dksX3_toldBy_1 24 rfl rfl
theorem dksX3_toldBy_3 : cX3_toldBy.data.toList.drop 72 = dktX3_toldBy_3 := dk_seg dksX3_toldBy_2 24 rfl rfl
theorem dksX3_toldBy_4 : cX3_toldBy.data.toList.drop 96 = dktX3_toldBy_4 := dk_seg dksX3_toldBy_3 24 rfl rfl
theorem dksX3_toldBy_5 : cX3_toldBy.data.toList.drop 119 = dktX3_toldBy_5 := dk_seg dksX3_toldBy_4 23 rfl rfl
theorem dX3_toldBy_0 : decode cX3_toldBy 0 = .ok (.iconst 1, 1) := dk_4 (dk_at dksX3_toldBy_0 0 rfl rfl)
theorem dX3_toldBy_1 : decode cX3_toldBy 1 = .ok (.aload_n 0, 1) := dk_42 (dk_at dksX3_toldBy_0 1 rfl rfl)
theorem dX3_toldBy_2 : decode cX3_toldBy 2 = .ok (.getfield 74, 3) := dk_180 0 74 (dk_at dksX3_toldBy_0 2 rfl rfl)
theorem dX3_toldBy_5 : decode cX3_toldBy 5 = .ok (.iload_n 1, 1) := dk_27 (dk_at dksX3_toldBy_0 5 rfl rfl)
theorem dX3_toldBy_6 : decode cX3_toldBy 6 = .ok (.iaload, 1) := dk_46 (dk_at dksX3_toldBy_0 6 rfl rfl)
theorem dX3_toldBy_7 : decode cX3_toldBy 7 = .ok (.ishl, 1) := dk_120 (dk_at dksX3_toldBy_0 7 rfl rfl)
theorem dX3_toldBy_8 : decode cX3_toldBy 8 = .ok (.istore 4, 2) := dk_54 4 (dk_at dksX3_toldBy_0 8 rfl rfl)
theorem dX3_toldBy_10 : decode cX3_toldBy 10 = .ok (.iconst 0, 1) := dk_3 (dk_at dksX3_toldBy_0 10 rfl rfl)
theorem dX3_toldBy_11 : decode cX3_toldBy 11 = .ok (.istore 5, 2) := dk_54 5 (dk_at dksX3_toldBy_0 11 rfl rfl)
theorem dX3_toldBy_13 : decode cX3_toldBy 13 = .ok (.iconst 0, 1) := dk_3 (dk_at dksX3_toldBy_0 13 rfl rfl)
theorem dX3_toldBy_14 : decode cX3_toldBy 14 = .ok (.istore 6, 2) := dk_54 6 (dk_at dksX3_toldBy_0 14 rfl rfl)
theorem dX3_toldBy_16 : decode cX3_toldBy 16 = .ok (.iconst 0, 1) := dk_3 (dk_at dksX3_toldBy_0 16 rfl rfl)
theorem dX3_toldBy_17 : decode cX3_toldBy 17 = .ok (.istore 7, 2) := dk_54 7 (dk_at dksX3_toldBy_0 17 rfl rfl)
theorem dX3_toldBy_19 : decode cX3_toldBy 19 = .ok (.iconst 0, 1) := dk_3 (dk_at dksX3_toldBy_0 19 rfl rfl)
theorem dX3_toldBy_20 : decode cX3_toldBy 20 = .ok (.istore 8, 2) := dk_54 8 (dk_at dksX3_toldBy_0 20 rfl rfl)
theorem dX3_toldBy_22 : decode cX3_toldBy 22 = .ok (.aload_n 0, 1) := dk_42 (dk_at dksX3_toldBy_0 22 rfl rfl)
theorem dX3_toldBy_23 : decode cX3_toldBy 23 = .ok (.iconst 1, 1) := dk_4 (dk_at dksX3_toldBy_0 23 rfl rfl)
theorem dX3_toldBy_24 : decode cX3_toldBy 24 = .ok (.putfield 355, 3) := dk_181 1 99 (dk_at dksX3_toldBy_1 0 rfl rfl)
theorem dX3_toldBy_27 : decode cX3_toldBy 27 = .ok (.iconst 0, 1) := dk_3 (dk_at dksX3_toldBy_1 3 rfl rfl)
theorem dX3_toldBy_28 : decode cX3_toldBy 28 = .ok (.istore 9, 2) := dk_54 9 (dk_at dksX3_toldBy_1 4 rfl rfl)
theorem dX3_toldBy_30 : decode cX3_toldBy 30 = .ok (.iload 9, 2) := dk_21 9 (dk_at dksX3_toldBy_1 6 rfl rfl)
theorem dX3_toldBy_32 : decode cX3_toldBy 32 = .ok (.aload_n 0, 1) := dk_42 (dk_at dksX3_toldBy_1 8 rfl rfl)
theorem dX3_toldBy_33 : decode cX3_toldBy 33 = .ok (.getfield 225, 3) := dk_180 0 225 (dk_at dksX3_toldBy_1 9 rfl rfl)
theorem dX3_toldBy_36 : decode cX3_toldBy 36 = .ok (.if_icmp .ge 86, 3) := dk_162 0 86 (dk_at dksX3_toldBy_1 12 rfl rfl)
theorem dX3_toldBy_39 : decode cX3_toldBy 39 = .ok (.iload 9, 2) := dk_21 9 (dk_at dksX3_toldBy_1 15 rfl rfl)
theorem dX3_toldBy_41 : decode cX3_toldBy 41 = .ok (.ifCond .le 37, 3) := dk_158 0 37 (dk_at dksX3_toldBy_1 17 rfl rfl)
theorem dX3_toldBy_44 : decode cX3_toldBy 44 = .ok (.iload 5, 2) := dk_21 5 (dk_at dksX3_toldBy_1 20 rfl rfl)
theorem dX3_toldBy_46 : decode cX3_toldBy 46 = .ok (.iload_n 3, 1) := dk_29 (dk_at dksX3_toldBy_1 22 rfl rfl)
theorem dX3_toldBy_47 : decode cX3_toldBy 47 = .ok (.idiv, 1) := dk_108 (dk_at dksX3_toldBy_1 23 rfl rfl)
theorem dX3_toldBy_48 : decode cX3_toldBy 48 = .ok (.iload 6, 2) := dk_21 6 (dk_at dksX3_toldBy_2 0 rfl rfl)
theorem dX3_toldBy_50 : decode cX3_toldBy 50 = .ok (.iload_n 3, 1) := dk_29 (dk_at dksX3_toldBy_2 2 rfl rfl)
theorem dX3_toldBy_51 : decode cX3_toldBy 51 = .ok (.idiv, 1) := dk_108 (dk_at dksX3_toldBy_2 3 rfl rfl)
theorem dX3_toldBy_52 : decode cX3_toldBy 52 = .ok (.if_icmp .eq 26, 3) := dk_159 0 26 (dk_at dksX3_toldBy_2 4 rfl rfl)
theorem dX3_toldBy_55 : decode cX3_toldBy 55 = .ok (.aload_n 0, 1) := dk_42 (dk_at dksX3_toldBy_2 7 rfl rfl)
theorem dX3_toldBy_56 : decode cX3_toldBy 56 = .ok (.dup, 1) := dk_89 (dk_at dksX3_toldBy_2 8 rfl rfl)
theorem dX3_toldBy_57 : decode cX3_toldBy 57 = .ok (.getfield 355, 3) := dk_180 1 99 (dk_at dksX3_toldBy_2 9 rfl rfl)
theorem dX3_toldBy_60 : decode cX3_toldBy 60 = .ok (.iconst 1, 1) := dk_4 (dk_at dksX3_toldBy_2 12 rfl rfl)
theorem dX3_toldBy_61 : decode cX3_toldBy 61 = .ok (.iadd, 1) := dk_96 (dk_at dksX3_toldBy_2 13 rfl rfl)
theorem dX3_toldBy_62 : decode cX3_toldBy 62 = .ok (.putfield 355, 3) := dk_181 1 99 (dk_at dksX3_toldBy_2 14 rfl rfl)
theorem dX3_toldBy_65 : decode cX3_toldBy 65 = .ok (.iload 8, 2) := dk_21 8 (dk_at dksX3_toldBy_2 17 rfl rfl)
theorem dX3_toldBy_67 : decode cX3_toldBy 67 = .ok (.iload 7, 2) := dk_21 7 (dk_at dksX3_toldBy_2 19 rfl rfl)
theorem dX3_toldBy_69 : decode cX3_toldBy 69 = .ok (.iload 4, 2) := dk_21 4 (dk_at dksX3_toldBy_2 21 rfl rfl)
theorem dX3_toldBy_71 : decode cX3_toldBy 71 = .ok (.irem, 1) := dk_112 (dk_at dksX3_toldBy_2 23 rfl rfl)
theorem dX3_toldBy_72 : decode cX3_toldBy 72 = .ok (.iadd, 1) := dk_96 (dk_at dksX3_toldBy_3 0 rfl rfl)
theorem dX3_toldBy_73 : decode cX3_toldBy 73 = .ok (.istore 8, 2) := dk_54 8 (dk_at dksX3_toldBy_3 1 rfl rfl)
theorem dX3_toldBy_75 : decode cX3_toldBy 75 = .ok (.iconst 0, 1) := dk_3 (dk_at dksX3_toldBy_3 3 rfl rfl)
theorem dX3_toldBy_76 : decode cX3_toldBy 76 = .ok (.istore 7, 2) := dk_54 7 (dk_at dksX3_toldBy_3 4 rfl rfl)
theorem dX3_toldBy_78 : decode cX3_toldBy 78 = .ok (.iload 5, 2) := dk_21 5 (dk_at dksX3_toldBy_3 6 rfl rfl)
theorem dX3_toldBy_80 : decode cX3_toldBy 80 = .ok (.istore 6, 2) := dk_54 6 (dk_at dksX3_toldBy_3 8 rfl rfl)
theorem dX3_toldBy_82 : decode cX3_toldBy 82 = .ok (.iload 7, 2) := dk_21 7 (dk_at dksX3_toldBy_3 10 rfl rfl)
theorem dX3_toldBy_84 : decode cX3_toldBy 84 = .ok (.aload_n 0, 1) := dk_42 (dk_at dksX3_toldBy_3 12 rfl rfl)
theorem dX3_toldBy_85 : decode cX3_toldBy 85 = .ok (.aload_n 0, 1) := dk_42 (dk_at dksX3_toldBy_3 13 rfl rfl)
theorem dX3_toldBy_86 : decode cX3_toldBy 86 = .ok (.getfield 25, 3) := dk_180 0 25 (dk_at dksX3_toldBy_3 14 rfl rfl)
theorem dX3_toldBy_89 : decode cX3_toldBy 89 = .ok (.iload 9, 2) := dk_21 9 (dk_at dksX3_toldBy_3 17 rfl rfl)
theorem dX3_toldBy_91 : decode cX3_toldBy 91 = .ok (.iaload, 1) := dk_46 (dk_at dksX3_toldBy_3 19 rfl rfl)
theorem dX3_toldBy_92 : decode cX3_toldBy 92 = .ok (.iload_n 2, 1) := dk_28 (dk_at dksX3_toldBy_3 20 rfl rfl)
theorem dX3_toldBy_93 : decode cX3_toldBy 93 = .ok (.invokevirtual 251, 3) := dk_182 0 251 (dk_at dksX3_toldBy_3 21 rfl rfl)
theorem dX3_toldBy_96 : decode cX3_toldBy 96 = .ok (.iadd, 1) := dk_96 (dk_at dksX3_toldBy_4 0 rfl rfl)
theorem dX3_toldBy_97 : decode cX3_toldBy 97 = .ok (.istore 7, 2) := dk_54 7 (dk_at dksX3_toldBy_4 1 rfl rfl)
theorem dX3_toldBy_99 : decode cX3_toldBy 99 = .ok (.iload 5, 2) := dk_21 5 (dk_at dksX3_toldBy_4 3 rfl rfl)
theorem dX3_toldBy_101 : decode cX3_toldBy 101 = .ok (.aload_n 0, 1) := dk_42 (dk_at dksX3_toldBy_4 5 rfl rfl)
theorem dX3_toldBy_102 : decode cX3_toldBy 102 = .ok (.getfield 7, 3) := dk_180 0 7 (dk_at dksX3_toldBy_4 6 rfl rfl)
theorem dX3_toldBy_105 : decode cX3_toldBy 105 = .ok (.aload_n 0, 1) := dk_42 (dk_at dksX3_toldBy_4 9 rfl rfl)
theorem dX3_toldBy_106 : decode cX3_toldBy 106 = .ok (.getfield 25, 3) := dk_180 0 25 (dk_at dksX3_toldBy_4 10 rfl rfl)
theorem dX3_toldBy_109 : decode cX3_toldBy 109 = .ok (.iload 9, 2) := dk_21 9 (dk_at dksX3_toldBy_4 13 rfl rfl)
theorem dX3_toldBy_111 : decode cX3_toldBy 111 = .ok (.iaload, 1) := dk_46 (dk_at dksX3_toldBy_4 15 rfl rfl)
theorem dX3_toldBy_112 : decode cX3_toldBy 112 = .ok (.iaload, 1) := dk_46 (dk_at dksX3_toldBy_4 16 rfl rfl)
theorem dX3_toldBy_113 : decode cX3_toldBy 113 = .ok (.iadd, 1) := dk_96 (dk_at dksX3_toldBy_4 17 rfl rfl)
theorem dX3_toldBy_114 : decode cX3_toldBy 114 = .ok (.istore 5, 2) := dk_54 5 (dk_at dksX3_toldBy_4 18 rfl rfl)
theorem dX3_toldBy_116 : decode cX3_toldBy 116 = .ok (.iinc 9 1, 3) := dk_132 9 1 (dk_at dksX3_toldBy_4 20 rfl rfl)
theorem dX3_toldBy_119 : decode cX3_toldBy 119 = .ok (.goto (-89), 3) := dk_167 255 167 (dk_at dksX3_toldBy_5 0 rfl rfl)
theorem dX3_toldBy_122 : decode cX3_toldBy 122 = .ok (.iload 8, 2) := dk_21 8 (dk_at dksX3_toldBy_5 3 rfl rfl)
theorem dX3_toldBy_124 : decode cX3_toldBy 124 = .ok (.iload 7, 2) := dk_21 7 (dk_at dksX3_toldBy_5 5 rfl rfl)
theorem dX3_toldBy_126 : decode cX3_toldBy 126 = .ok (.iload 4, 2) := dk_21 4 (dk_at dksX3_toldBy_5 7 rfl rfl)
theorem dX3_toldBy_128 : decode cX3_toldBy 128 = .ok (.irem, 1) := dk_112 (dk_at dksX3_toldBy_5 9 rfl rfl)
theorem dX3_toldBy_129 : decode cX3_toldBy 129 = .ok (.iadd, 1) := dk_96 (dk_at dksX3_toldBy_5 10 rfl rfl)
theorem dX3_toldBy_130 : decode cX3_toldBy 130 = .ok (.ireturn, 1) := dk_172 (dk_at dksX3_toldBy_5 11 rfl rfl)
abbrev cX3_seldom : ByteArray := prog_11_method_71_code
def yX3_seldom : MethodName := ⟨RX3, "seldom", "(II)I"⟩
def dkwX3_seldom_2 : List UInt8 := [16, 252, 172]
abbrev dktX3_seldom_2 : List UInt8 := dkwX3_seldom_2 ++ []
def dkwX3_seldom_1 : List UInt8 := [158, 0, 24, 42, 27, 28, 21, 4, 182, 1, 102, 29, 160, 0, 6, 21, 4, 172, 132, 4, 255, 167, 255, 233]
abbrev dktX3_seldom_1 : List UInt8 := dkwX3_seldom_1 ++ dktX3_seldom_2
def dkwX3_seldom_0 : List UInt8 := [42, 27, 28, 182, 1, 96, 154, 0, 5, 2, 172, 42, 28, 182, 1, 1, 62, 17, 3, 231, 54, 4, 21, 4]
abbrev dktX3_seldom_0 : List UInt8 := dkwX3_seldom_0 ++ dktX3_seldom_1
theorem dksX3_seldom_0 : cX3_seldom.data.toList.drop 0 = dktX3_seldom_0 := by decide +kernel
theorem dksX3_seldom_1 : cX3_seldom.data.toList.drop 24 = dktX3_seldom_1 := dk_seg dksX3_seldom_0 24 rfl rfl
theorem dksX3_seldom_2 : cX3_seldom.data.toList.drop 48 = dktX3_seldom_2 := dk_seg dksX3_seldom_1 24 rfl rfl
theorem dX3_seldom_0 : decode cX3_seldom 0 = .ok (.aload_n 0, 1) := dk_42 (dk_at dksX3_seldom_0 0 rfl rfl)
theorem dX3_seldom_1 : decode cX3_seldom 1 = .ok (.iload_n 1, 1) := dk_27 (dk_at dksX3_seldom_0 1 rfl rfl)
theorem dX3_seldom_2 : decode cX3_seldom 2 = .ok (.iload_n 2, 1) := dk_28 (dk_at dksX3_seldom_0 2 rfl rfl)
theorem dX3_seldom_3 : decode cX3_seldom 3 = .ok (.invokevirtual 352, 3) := dk_182 1 96 (dk_at dksX3_seldom_0 3 rfl rfl)
theorem dX3_seldom_6 : decode cX3_seldom 6 = .ok (.ifCond .ne 5, 3) := dk_154 0 5 (dk_at dksX3_seldom_0 6 rfl rfl)
theorem dX3_seldom_9 : decode cX3_seldom 9 = .ok (.iconst (-1), 1) := dk_2 (dk_at dksX3_seldom_0 9 rfl rfl)
theorem dX3_seldom_10 : decode cX3_seldom 10 = .ok (.ireturn, 1) := dk_172 (dk_at dksX3_seldom_0 10 rfl rfl)
theorem dX3_seldom_11 : decode cX3_seldom 11 = .ok (.aload_n 0, 1) := dk_42 (dk_at dksX3_seldom_0 11 rfl rfl)
theorem dX3_seldom_12 : decode cX3_seldom 12 = .ok (.iload_n 2, 1) := dk_28 (dk_at dksX3_seldom_0 12 rfl rfl)
theorem dX3_seldom_13 : decode cX3_seldom 13 = .ok (.invokevirtual 257, 3) := dk_182 1 1 (dk_at dksX3_seldom_0 13 rfl rfl)
theorem dX3_seldom_16 : decode cX3_seldom 16 = .ok (.istore_n 3, 1) := dk_62 (dk_at dksX3_seldom_0 16 rfl rfl)
theorem dX3_seldom_17 : decode cX3_seldom 17 = .ok (.sipush 999, 3) := dk_17 3 231 (dk_at dksX3_seldom_0 17 rfl rfl)
theorem dX3_seldom_20 : decode cX3_seldom 20 = .ok (.istore 4, 2) := dk_54 4 (dk_at dksX3_seldom_0 20 rfl rfl)
theorem dX3_seldom_22 : decode cX3_seldom 22 = .ok (.iload 4, 2) := dk_21 4 (dk_at dksX3_seldom_0 22 rfl rfl)
theorem dX3_seldom_24 : decode cX3_seldom 24 = .ok (.ifCond .le 24, 3) := dk_158 0 24 (dk_at dksX3_seldom_1 0 rfl rfl)
theorem dX3_seldom_27 : decode cX3_seldom 27 = .ok (.aload_n 0, 1) := dk_42 (dk_at dksX3_seldom_1 3 rfl rfl)
theorem dX3_seldom_28 : decode cX3_seldom 28 = .ok (.iload_n 1, 1) := dk_27 (dk_at dksX3_seldom_1 4 rfl rfl)
theorem dX3_seldom_29 : decode cX3_seldom 29 = .ok (.iload_n 2, 1) := dk_28 (dk_at dksX3_seldom_1 5 rfl rfl)
theorem dX3_seldom_30 : decode cX3_seldom 30 = .ok (.iload 4, 2) := dk_21 4 (dk_at dksX3_seldom_1 6 rfl rfl)
theorem dX3_seldom_32 : decode cX3_seldom 32 = .ok (.invokevirtual 358, 3) := dk_182 1 102 (dk_at dksX3_seldom_1 8 rfl rfl)
theorem dX3_seldom_35 : decode cX3_seldom 35 = .ok (.iload_n 3, 1) := dk_29 (dk_at dksX3_seldom_1 11 rfl rfl)
theorem dX3_seldom_36 : decode cX3_seldom 36 = .ok (.if_icmp .ne 6, 3) := dk_160 0 6 (dk_at dksX3_seldom_1 12 rfl rfl)
theorem dX3_seldom_39 : decode cX3_seldom 39 = .ok (.iload 4, 2) := dk_21 4 (dk_at dksX3_seldom_1 15 rfl rfl)
theorem dX3_seldom_41 : decode cX3_seldom 41 = .ok (.ireturn, 1) := dk_172 (dk_at dksX3_seldom_1 17 rfl rfl)
theorem dX3_seldom_42 : decode cX3_seldom 42 = .ok (.iinc 4 (-1), 3) := dk_132 4 255 (dk_at dksX3_seldom_1 18 rfl rfl)
theorem dX3_seldom_45 : decode cX3_seldom 45 = .ok (.goto (-23), 3) := dk_167 255 233 (dk_at dksX3_seldom_1 21 rfl rfl)
theorem dX3_seldom_48 : decode cX3_seldom 48 = .ok (.bipush (-4), 2) := dk_16 252 (dk_at dksX3_seldom_2 0 rfl rfl)
theorem dX3_seldom_50 : decode cX3_seldom 50 = .ok (.ireturn, 1) := dk_172 (dk_at dksX3_seldom_2 2 rfl rfl)
abbrev cX3_run : ByteArray := prog_11_method_72_code
def yX3_run : MethodName := ⟨RX3, "run", "(III)I"⟩
def dkwX3_run_3 : List UInt8 := [79, 42, 89, 180, 0, 222, 4, 96, 181, 0, 222, 42, 180, 0, 222, 172]
abbrev dktX3_run_3 : List UInt8 := dkwX3_run_3 ++ []
def dkwX3_run_2 : List UInt8 := [180, 0, 222, 27, 79, 42, 180, 0, 93, 42, 180, 0, 222, 28, 79, 42, 180, 0, 96, 42, 180, 0, 222, 29]
abbrev dktX3_run_2 : List UInt8 := dkwX3_run_2 ++ dktX3_run_3
def dkwX3_run_1 : List UInt8 := [154, 0, 5, 2, 172, 42, 180, 0, 222, 16, 12, 160, 0, 6, 16, 253, 172, 42, 180, 0, 90, 42]
abbrev dktX3_run_1 : List UInt8 := dkwX3_run_1 ++ dktX3_run_2
def dkwX3_run_0 : List UInt8 := [42, 27, 182, 1, 23, 153, 0, 22, 28, 184, 1, 4, 153, 0, 15, 29, 133, 9, 20, 1, 13, 184, 0, 124]
abbrev dktX3_run_0 : List UInt8 := dkwX3_run_0 ++ dktX3_run_1
theorem dksX3_run_0 : cX3_run.data.toList.drop 0 = dktX3_run_0 := by decide +kernel
theorem dksX3_run_1 : cX3_run.data.toList.drop 24 = dktX3_run_1 := dk_seg dksX3_run_0 24 rfl rfl
theorem dksX3_run_2 : cX3_run.data.toList.drop 46 = dktX3_run_2 := dk_seg dksX3_run_1 22 rfl rfl
theorem dksX3_run_3 : cX3_run.data.toList.drop 70 = dktX3_run_3 := dk_seg dksX3_run_2 24 rfl rfl
theorem dX3_run_0 : decode cX3_run 0 = .ok (.aload_n 0, 1) := dk_42 (dk_at dksX3_run_0 0 rfl rfl)
theorem dX3_run_1 : decode cX3_run 1 = .ok (.iload_n 1, 1) := dk_27 (dk_at dksX3_run_0 1 rfl rfl)
theorem dX3_run_2 : decode cX3_run 2 = .ok (.invokevirtual 279, 3) := dk_182 1 23 (dk_at dksX3_run_0 2 rfl rfl)
theorem dX3_run_5 : decode cX3_run 5 = .ok (.ifCond .eq 22, 3) := dk_153 0 22 (dk_at dksX3_run_0 5 rfl rfl)
theorem dX3_run_8 : decode cX3_run 8 = .ok (.iload_n 2, 1) := dk_28 (dk_at dksX3_run_0 8 rfl rfl)
theorem dX3_run_9 : decode cX3_run 9 = .ok (.invokestatic 260, 3) := dk_184 1 4 (dk_at dksX3_run_0 9 rfl rfl)
theorem dX3_run_12 : decode cX3_run 12 = .ok (.ifCond .eq 15, 3) := dk_153 0 15 (dk_at dksX3_run_0 12 rfl rfl)
theorem dX3_run_15 : decode cX3_run 15 = .ok (.iload_n 3, 1) := dk_29 (dk_at dksX3_run_0 15 rfl rfl)
theorem dX3_run_16 : decode cX3_run 16 = .ok (.i2l, 1) := dk_133 (dk_at dksX3_run_0 16 rfl rfl)
theorem dX3_run_17 : decode cX3_run 17 = .ok (.lconst 0, 1) := dk_9 (dk_at dksX3_run_0 17 rfl rfl)
theorem dX3_run_18 : decode cX3_run 18 = .ok (.ldc2_w 269, 3) := dk_20 1 13 (dk_at dksX3_run_0 18 rfl rfl)
theorem dX3_run_21 : decode cX3_run 21 = .ok (.invokestatic 124, 3) := dk_184 0 124 (dk_at dksX3_run_0 21 rfl rfl)
theorem dX3_run_24 : decode cX3_run 24 = .ok (.ifCond .ne 5, 3) := dk_154 0 5 (dk_at dksX3_run_1 0 rfl rfl)
theorem dX3_run_27 : decode cX3_run 27 = .ok (.iconst (-1), 1) := dk_2 (dk_at dksX3_run_1 3 rfl rfl)
theorem dX3_run_28 : decode cX3_run 28 = .ok (.ireturn, 1) := dk_172 (dk_at dksX3_run_1 4 rfl rfl)
theorem dX3_run_29 : decode cX3_run 29 = .ok (.aload_n 0, 1) := dk_42 (dk_at dksX3_run_1 5 rfl rfl)
theorem dX3_run_30 : decode cX3_run 30 = .ok (.getfield 222, 3) := dk_180 0 222 (dk_at dksX3_run_1 6 rfl rfl)
theorem dX3_run_33 : decode cX3_run 33 = .ok (.bipush 12, 2) := dk_16 12 (dk_at dksX3_run_1 9 rfl rfl)
theorem dX3_run_35 : decode cX3_run 35 = .ok (.if_icmp .ne 6, 3) := dk_160 0 6 (dk_at dksX3_run_1 11 rfl rfl)
theorem dX3_run_38 : decode cX3_run 38 = .ok (.bipush (-3), 2) := dk_16 253 (dk_at dksX3_run_1 14 rfl rfl)
theorem dX3_run_40 : decode cX3_run 40 = .ok (.ireturn, 1) := dk_172 (dk_at dksX3_run_1 16 rfl rfl)
theorem dX3_run_41 : decode cX3_run 41 = .ok (.aload_n 0, 1) := dk_42 (dk_at dksX3_run_1 17 rfl rfl)
theorem dX3_run_42 : decode cX3_run 42 = .ok (.getfield 90, 3) := dk_180 0 90 (dk_at dksX3_run_1 18 rfl rfl)
theorem dX3_run_45 : decode cX3_run 45 = .ok (.aload_n 0, 1) := dk_42 (dk_at dksX3_run_1 21 rfl rfl)
theorem dX3_run_46 : decode cX3_run 46 = .ok (.getfield 222, 3) := dk_180 0 222 (dk_at dksX3_run_2 0 rfl rfl)
theorem dX3_run_49 : decode cX3_run 49 = .ok (.iload_n 1, 1) := dk_27 (dk_at dksX3_run_2 3 rfl rfl)
theorem dX3_run_50 : decode cX3_run 50 = .ok (.iastore, 1) := dk_79 (dk_at dksX3_run_2 4 rfl rfl)
theorem dX3_run_51 : decode cX3_run 51 = .ok (.aload_n 0, 1) := dk_42 (dk_at dksX3_run_2 5 rfl rfl)
theorem dX3_run_52 : decode cX3_run 52 = .ok (.getfield 93, 3) := dk_180 0 93 (dk_at dksX3_run_2 6 rfl rfl)
theorem dX3_run_55 : decode cX3_run 55 = .ok (.aload_n 0, 1) := dk_42 (dk_at dksX3_run_2 9 rfl rfl)
theorem dX3_run_56 : decode cX3_run 56 = .ok (.getfield 222, 3) := dk_180 0 222 (dk_at dksX3_run_2 10 rfl rfl)
theorem dX3_run_59 : decode cX3_run 59 = .ok (.iload_n 2, 1) := dk_28 (dk_at dksX3_run_2 13 rfl rfl)
theorem dX3_run_60 : decode cX3_run 60 = .ok (.iastore, 1) := dk_79 (dk_at dksX3_run_2 14 rfl rfl)
theorem dX3_run_61 : decode cX3_run 61 = .ok (.aload_n 0, 1) := dk_42 (dk_at dksX3_run_2 15 rfl rfl)
theorem dX3_run_62 : decode cX3_run 62 = .ok (.getfield 96, 3) := dk_180 0 96 (dk_at dksX3_run_2 16 rfl rfl)
theorem dX3_run_65 : decode cX3_run 65 = .ok (.aload_n 0, 1) := dk_42 (dk_at dksX3_run_2 19 rfl rfl)
theorem dX3_run_66 : decode cX3_run 66 = .ok (.getfield 222, 3) := dk_180 0 222 (dk_at dksX3_run_2 20 rfl rfl)
theorem dX3_run_69 : decode cX3_run 69 = .ok (.iload_n 3, 1) := dk_29 (dk_at dksX3_run_2 23 rfl rfl)
theorem dX3_run_70 : decode cX3_run 70 = .ok (.iastore, 1) := dk_79 (dk_at dksX3_run_3 0 rfl rfl)
theorem dX3_run_71 : decode cX3_run 71 = .ok (.aload_n 0, 1) := dk_42 (dk_at dksX3_run_3 1 rfl rfl)
theorem dX3_run_72 : decode cX3_run 72 = .ok (.dup, 1) := dk_89 (dk_at dksX3_run_3 2 rfl rfl)
theorem dX3_run_73 : decode cX3_run 73 = .ok (.getfield 222, 3) := dk_180 0 222 (dk_at dksX3_run_3 3 rfl rfl)
theorem dX3_run_76 : decode cX3_run 76 = .ok (.iconst 1, 1) := dk_4 (dk_at dksX3_run_3 6 rfl rfl)
theorem dX3_run_77 : decode cX3_run 77 = .ok (.iadd, 1) := dk_96 (dk_at dksX3_run_3 7 rfl rfl)
theorem dX3_run_78 : decode cX3_run 78 = .ok (.putfield 222, 3) := dk_181 0 222 (dk_at dksX3_run_3 8 rfl rfl)
theorem dX3_run_81 : decode cX3_run 81 = .ok (.aload_n 0, 1) := dk_42 (dk_at dksX3_run_3 11 rfl rfl)
theorem dX3_run_82 : decode cX3_run 82 = .ok (.getfield 222, 3) := dk_180 0 222 (dk_at dksX3_run_3 12 rfl rfl)
theorem dX3_run_85 : decode cX3_run 85 = .ok (.ireturn, 1) := dk_172 (dk_at dksX3_run_3 15 rfl rfl)
abbrev cX3_forget : ByteArray := prog_11_method_73_code
def yX3_forget : MethodName := ⟨RX3, "forget", "()I"⟩
def dkwX3_forget_0 : List UInt8 := [42, 180, 0, 222, 60, 42, 3, 181, 0, 222, 27, 172]
abbrev dktX3_forget_0 : List UInt8 := dkwX3_forget_0 ++ []
theorem dksX3_forget_0 : cX3_forget.data.toList.drop 0 = dktX3_forget_0 := by decide +kernel
theorem dX3_forget_0 : decode cX3_forget 0 = .ok (.aload_n 0, 1) := dk_42 (dk_at dksX3_forget_0 0 rfl rfl)
theorem dX3_forget_1 : decode cX3_forget 1 = .ok (.getfield 222, 3) := dk_180 0 222 (dk_at dksX3_forget_0 1 rfl rfl)
theorem dX3_forget_4 : decode cX3_forget 4 = .ok (.istore_n 1, 1) := dk_60 (dk_at dksX3_forget_0 4 rfl rfl)
theorem dX3_forget_5 : decode cX3_forget 5 = .ok (.aload_n 0, 1) := dk_42 (dk_at dksX3_forget_0 5 rfl rfl)
theorem dX3_forget_6 : decode cX3_forget 6 = .ok (.iconst 0, 1) := dk_3 (dk_at dksX3_forget_0 6 rfl rfl)
theorem dX3_forget_7 : decode cX3_forget 7 = .ok (.putfield 222, 3) := dk_181 0 222 (dk_at dksX3_forget_0 7 rfl rfl)
theorem dX3_forget_10 : decode cX3_forget 10 = .ok (.iload_n 1, 1) := dk_27 (dk_at dksX3_forget_0 10 rfl rfl)
theorem dX3_forget_11 : decode cX3_forget 11 = .ok (.ireturn, 1) := dk_172 (dk_at dksX3_forget_0 11 rfl rfl)
abbrev cX3_wired : ByteArray := prog_11_method_76_code
def yX3_wired : MethodName := ⟨RX3, "wired", "(III)I"⟩
def dkwX3_wired_5 : List UInt8 := [29, 154, 0, 8, 21, 4, 167, 0, 4, 2, 172]
abbrev dktX3_wired_5 : List UInt8 := dkwX3_wired_5 ++ []
def dkwX3_wired_4 : List UInt8 := [21, 4, 96, 160, 0, 6, 21, 6, 172, 132, 4, 1, 132, 6, 1, 167, 255, 209, 132, 5, 1, 167, 255, 194]
abbrev dktX3_wired_4 : List UInt8 := dkwX3_wired_4 ++ dktX3_wired_5
def dkwX3_wired_3 : List UInt8 := [21, 6, 184, 1, 17, 21, 5, 160, 0, 29, 42, 27, 28, 21, 6, 182, 1, 109, 153, 0, 18, 29, 16, 10]
abbrev dktX3_wired_3 : List UInt8 := dkwX3_wired_3 ++ dktX3_wired_4
def dkwX3_wired_2 : List UInt8 := [172, 3, 54, 4, 4, 54, 5, 21, 5, 6, 162, 0, 62, 4, 54, 6, 21, 6, 17, 1, 0, 162, 0, 45]
abbrev dktX3_wired_2 : List UInt8 := dkwX3_wired_2 ++ dktX3_wired_3
def dkwX3_wired_1 : List UInt8 := [162, 0, 5, 2, 172, 42, 27, 28, 182, 1, 106, 154, 0, 14, 29, 154, 0, 8, 16, 252, 167, 0, 4, 2]
abbrev dktX3_wired_1 : List UInt8 := dkwX3_wired_1 ++ dktX3_wired_2
def dkwX3_wired_0 : List UInt8 := [42, 27, 182, 1, 23, 153, 0, 20, 28, 184, 1, 4, 153, 0, 13, 29, 153, 0, 11, 29, 16, 10]
abbrev dktX3_wired_0 : List UInt8 := dkwX3_wired_0 ++ dktX3_wired_1
theorem dksX3_wired_0 : cX3_wired.data.toList.drop 0 = dktX3_wired_0 := by decide +kernel
theorem dksX3_wired_1 : cX3_wired.data.toList.drop 22 = dktX3_wired_1 := dk_seg dksX3_wired_0 22 rfl rfl
theorem dksX3_wired_2 : cX3_wired.data.toList.drop 46 = dktX3_wired_2 := dk_seg dksX3_wired_1 24 rfl rfl
theorem dksX3_wired_3 : cX3_wired.data.toList.drop 70 = dktX3_wired_3 := dk_seg dksX3_wired_2 24 rfl rfl
theorem dksX3_wired_4 : cX3_wired.data.toList.drop 94 = dktX3_wired_4 := dk_seg dksX3_wired_3 24 rfl rfl
theorem dksX3_wired_5 : cX3_wired.data.toList.drop 118 = dktX3_wired_5 := dk_seg dksX3_wired_4 24 rfl rfl
theorem dX3_wired_0 : decode cX3_wired 0 = .ok (.aload_n 0, 1) := dk_42 (dk_at dksX3_wired_0 0 rfl rfl)
theorem dX3_wired_1 : decode cX3_wired 1 = .ok (.iload_n 1, 1) := dk_27 (dk_at dksX3_wired_0 1 rfl rfl)
theorem dX3_wired_2 : decode cX3_wired 2 = .ok (.invokevirtual 279, 3) := dk_182 1 23 (dk_at dksX3_wired_0 2 rfl rfl)
theorem dX3_wired_5 : decode cX3_wired 5 = .ok (.ifCond .eq 20, 3) := dk_153 0 20 (dk_at dksX3_wired_0 5 rfl rfl)
theorem dX3_wired_8 : decode cX3_wired 8 = .ok (.iload_n 2, 1) := dk_28 (dk_at dksX3_wired_0 8 rfl rfl)
theorem dX3_wired_9 : decode cX3_wired 9 = .ok (.invokestatic 260, 3) := dk_184 1 4 (dk_at dksX3_wired_0 9 rfl rfl)
theorem dX3_wired_12 : decode cX3_wired 12 = .ok (.ifCond .eq 13, 3) := dk_153 0 13 (dk_at dksX3_wired_0 12 rfl rfl)
theorem dX3_wired_15 : decode cX3_wired 15 = .ok (.iload_n 3, 1) := dk_29 (dk_at dksX3_wired_0 15 rfl rfl)
theorem dX3_wired_16 : decode cX3_wired 16 = .ok (.ifCond .eq 11, 3) := dk_153 0 11 (dk_at dksX3_wired_0 16 rfl rfl)
theorem dX3_wired_19 : decode cX3_wired 19 = .ok (.iload_n 3, 1) := dk_29 (dk_at dksX3_wired_0 19 rfl rfl)
theorem dX3_wired_20 : decode cX3_wired 20 = .ok (.bipush 10, 2) := dk_16 10 (dk_at dksX3_wired_0 20 rfl rfl)
theorem dX3_wired_22 : decode cX3_wired 22 = .ok (.if_icmp .ge 5, 3) := dk_162 0 5 (dk_at dksX3_wired_1 0 rfl rfl)
theorem dX3_wired_25 : decode cX3_wired 25 = .ok (.iconst (-1), 1) := dk_2 (dk_at dksX3_wired_1 3 rfl rfl)
theorem dX3_wired_26 : decode cX3_wired 26 = .ok (.ireturn, 1) := dk_172 (dk_at dksX3_wired_1 4 rfl rfl)
theorem dX3_wired_27 : decode cX3_wired 27 = .ok (.aload_n 0, 1) := dk_42 (dk_at dksX3_wired_1 5 rfl rfl)
theorem dX3_wired_28 : decode cX3_wired 28 = .ok (.iload_n 1, 1) := dk_27 (dk_at dksX3_wired_1 6 rfl rfl)
theorem dX3_wired_29 : decode cX3_wired 29 = .ok (.iload_n 2, 1) := dk_28 (dk_at dksX3_wired_1 7 rfl rfl)
theorem dX3_wired_30 : decode cX3_wired 30 = .ok (.invokevirtual 362, 3) := dk_182 1 106 (dk_at dksX3_wired_1 8 rfl rfl)
theorem dX3_wired_33 : decode cX3_wired 33 = .ok (.ifCond .ne 14, 3) := dk_154 0 14 (dk_at dksX3_wired_1 11 rfl rfl)
theorem dX3_wired_36 : decode cX3_wired 36 = .ok (.iload_n 3, 1) := dk_29 (dk_at dksX3_wired_1 14 rfl rfl)
theorem dX3_wired_37 : decode cX3_wired 37 = .ok (.ifCond .ne 8, 3) := dk_154 0 8 (dk_at dksX3_wired_1 15 rfl rfl)
theorem dX3_wired_40 : decode cX3_wired 40 = .ok (.bipush (-4), 2) := dk_16 252 (dk_at dksX3_wired_1 18 rfl rfl)
theorem dX3_wired_42 : decode cX3_wired 42 = .ok (.goto 4, 3) := dk_167 0 4 (dk_at dksX3_wired_1 20 rfl rfl)
theorem dX3_wired_45 : decode cX3_wired 45 = .ok (.iconst (-1), 1) := dk_2 (dk_at dksX3_wired_1 23 rfl rfl)
theorem dX3_wired_46 : decode cX3_wired 46 = .ok (.ireturn, 1) := dk_172 (dk_at dksX3_wired_2 0 rfl rfl)
theorem dX3_wired_47 : decode cX3_wired 47 = .ok (.iconst 0, 1) := dk_3 (dk_at dksX3_wired_2 1 rfl rfl)
theorem dX3_wired_48 : decode cX3_wired 48 = .ok (.istore 4, 2) := dk_54 4 (dk_at dksX3_wired_2 2 rfl rfl)
theorem dX3_wired_50 : decode cX3_wired 50 = .ok (.iconst 1, 1) := dk_4 (dk_at dksX3_wired_2 4 rfl rfl)
theorem dX3_wired_51 : decode cX3_wired 51 = .ok (.istore 5, 2) := dk_54 5 (dk_at dksX3_wired_2 5 rfl rfl)
theorem dX3_wired_53 : decode cX3_wired 53 = .ok (.iload 5, 2) := dk_21 5 (dk_at dksX3_wired_2 7 rfl rfl)
theorem dX3_wired_55 : decode cX3_wired 55 = .ok (.iconst 3, 1) := dk_6 (dk_at dksX3_wired_2 9 rfl rfl)
theorem dX3_wired_56 : decode cX3_wired 56 = .ok (.if_icmp .ge 62, 3) := dk_162 0 62 (dk_at dksX3_wired_2 10 rfl rfl)
theorem dX3_wired_59 : decode cX3_wired 59 = .ok (.iconst 1, 1) := dk_4 (dk_at dksX3_wired_2 13 rfl rfl)
theorem dX3_wired_60 : decode cX3_wired 60 = .ok (.istore 6, 2) := dk_54 6 (dk_at dksX3_wired_2 14 rfl rfl)
theorem dX3_wired_62 : decode cX3_wired 62 = .ok (.iload 6, 2) := dk_21 6 (dk_at dksX3_wired_2 16 rfl rfl)
theorem dX3_wired_64 : decode cX3_wired 64 = .ok (.sipush 256, 3) := dk_17 1 0 (dk_at dksX3_wired_2 18 rfl rfl)
theorem dX3_wired_67 : decode cX3_wired 67 = .ok (.if_icmp .ge 45, 3) := dk_162 0 45 (dk_at dksX3_wired_2 21 rfl rfl)
theorem dX3_wired_70 : decode cX3_wired 70 = .ok (.iload 6, 2) := dk_21 6 (dk_at dksX3_wired_3 0 rfl rfl)
theorem dX3_wired_72 : decode cX3_wired 72 = .ok (.invokestatic 273, 3) := dk_184 1 17 (dk_at dksX3_wired_3 2 rfl rfl)
theorem dX3_wired_75 : decode cX3_wired 75 = .ok (.iload 5, 2) := dk_21 5 (dk_at dksX3_wired_3 5 rfl rfl)
theorem dX3_wired_77 : decode cX3_wired 77 = .ok (.if_icmp .ne 29, 3) := dk_160 0 29 (dk_at dksX3_wired_3 7 rfl rfl)
theorem dX3_wired_80 : decode cX3_wired 80 = .ok (.aload_n 0, 1) := dk_42 (dk_at dksX3_wired_3 10 rfl rfl)
theorem dX3_wired_81 : decode cX3_wired 81 = .ok (.iload_n 1, 1) := dk_27 (dk_at dksX3_wired_3 11 rfl rfl)
theorem dX3_wired_82 : decode cX3_wired 82 = .ok (.iload_n 2, 1) := dk_28 (dk_at dksX3_wired_3 12 rfl rfl)
theorem dX3_wired_83 : decode cX3_wired 83 = .ok (.iload 6, 2) := dk_21 6 (dk_at dksX3_wired_3 13 rfl rfl)
theorem dX3_wired_85 : decode cX3_wired 85 = .ok (.invokevirtual 365, 3) := dk_182 1 109 (dk_at dksX3_wired_3 15 rfl rfl)
theorem dX3_wired_88 : decode cX3_wired 88 = .ok (.ifCond .eq 18, 3) := dk_153 0 18 (dk_at dksX3_wired_3 18 rfl rfl)
theorem dX3_wired_91 : decode cX3_wired 91 = .ok (.iload_n 3, 1) := dk_29 (dk_at dksX3_wired_3 21 rfl rfl)
theorem dX3_wired_92 : decode cX3_wired 92 = .ok (.bipush 10, 2) := dk_16 10 (dk_at dksX3_wired_3 22 rfl rfl)
theorem dX3_wired_94 : decode cX3_wired 94 = .ok (.iload 4, 2) := dk_21 4 (dk_at dksX3_wired_4 0 rfl rfl)
theorem dX3_wired_96 : decode cX3_wired 96 = .ok (.iadd, 1) := dk_96 (dk_at dksX3_wired_4 2 rfl rfl)
theorem dX3_wired_97 : decode cX3_wired 97 = .ok (.if_icmp .ne 6, 3) := dk_160 0 6 (dk_at dksX3_wired_4 3 rfl rfl)
theorem dX3_wired_100 : decode cX3_wired 100 = .ok (.iload 6, 2) := dk_21 6 (dk_at dksX3_wired_4 6 rfl rfl)
theorem dX3_wired_102 : decode cX3_wired 102 = .ok (.ireturn, 1) := dk_172 (dk_at dksX3_wired_4 8 rfl rfl)
theorem dX3_wired_103 : decode cX3_wired 103 = .ok (.iinc 4 1, 3) := dk_132 4 1 (dk_at dksX3_wired_4 9 rfl rfl)
theorem dX3_wired_106 : decode cX3_wired 106 = .ok (.iinc 6 1, 3) := dk_132 6 1 (dk_at dksX3_wired_4 12 rfl rfl)
theorem dX3_wired_109 : decode cX3_wired 109 = .ok (.goto (-47), 3) := dk_167 255 209 (dk_at dksX3_wired_4 15 rfl rfl)
theorem dX3_wired_112 : decode cX3_wired 112 = .ok (.iinc 5 1, 3) := dk_132 5 1 (dk_at dksX3_wired_4 18 rfl rfl)
theorem dX3_wired_115 : decode cX3_wired 115 = .ok (.goto (-62), 3) := dk_167 255 194 (dk_at dksX3_wired_4 21 rfl rfl)
theorem dX3_wired_118 : decode cX3_wired 118 = .ok (.iload_n 3, 1) := dk_29 (dk_at dksX3_wired_5 0 rfl rfl)
theorem dX3_wired_119 : decode cX3_wired 119 = .ok (.ifCond .ne 8, 3) := dk_154 0 8 (dk_at dksX3_wired_5 1 rfl rfl)
theorem dX3_wired_122 : decode cX3_wired 122 = .ok (.iload 4, 2) := dk_21 4 (dk_at dksX3_wired_5 4 rfl rfl)
theorem dX3_wired_124 : decode cX3_wired 124 = .ok (.goto 4, 3) := dk_167 0 4 (dk_at dksX3_wired_5 6 rfl rfl)
theorem dX3_wired_127 : decode cX3_wired 127 = .ok (.iconst (-1), 1) := dk_2 (dk_at dksX3_wired_5 9 rfl rfl)
theorem dX3_wired_128 : decode cX3_wired 128 = .ok (.ireturn, 1) := dk_172 (dk_at dksX3_wired_5 10 rfl rfl)
abbrev cX3_hasRun : ByteArray := prog_11_method_75_code
def yX3_hasRun : MethodName := ⟨RX3, "hasRun", "(II)Z"⟩
def dkwX3_hasRun_2 : List UInt8 := [132, 4, 1, 167, 255, 212, 29, 172]
abbrev dktX3_hasRun_2 : List UInt8 := dkwX3_hasRun_2 ++ []
def dkwX3_hasRun_1 : List UInt8 := [46, 27, 160, 0, 18, 42, 180, 0, 93, 21, 4, 46, 28, 160, 0, 7, 4, 167, 0, 4, 3, 62]
abbrev dktX3_hasRun_1 : List UInt8 := dkwX3_hasRun_1 ++ dktX3_hasRun_2
def dkwX3_hasRun_0 : List UInt8 := [3, 62, 3, 54, 4, 21, 4, 42, 180, 0, 222, 162, 0, 41, 29, 154, 0, 25, 42, 180, 0, 90, 21, 4]
abbrev dktX3_hasRun_0 : List UInt8 := dkwX3_hasRun_0 ++ dktX3_hasRun_1
theorem dksX3_hasRun_0 : cX3_hasRun.data.toList.drop 0 = dktX3_hasRun_0 := by decide +kernel
theorem dksX3_hasRun_1 : cX3_hasRun.data.toList.drop 24 = dktX3_hasRun_1 := dk_seg dksX3_hasRun_0 24 rfl rfl
theorem dksX3_hasRun_2 : cX3_hasRun.data.toList.drop 46 = dktX3_hasRun_2 := dk_seg dksX3_hasRun_1 22 rfl rfl
theorem dX3_hasRun_0 : decode cX3_hasRun 0 = .ok (.iconst 0, 1) := dk_3 (dk_at dksX3_hasRun_0 0 rfl rfl)
theorem dX3_hasRun_1 : decode cX3_hasRun 1 = .ok (.istore_n 3, 1) := dk_62 (dk_at dksX3_hasRun_0 1 rfl rfl)
theorem dX3_hasRun_2 : decode cX3_hasRun 2 = .ok (.iconst 0, 1) := dk_3 (dk_at dksX3_hasRun_0 2 rfl rfl)
theorem dX3_hasRun_3 : decode cX3_hasRun 3 = .ok (.istore 4, 2) := dk_54 4 (dk_at dksX3_hasRun_0 3 rfl rfl)
theorem dX3_hasRun_5 : decode cX3_hasRun 5 = .ok (.iload 4, 2) := dk_21 4 (dk_at dksX3_hasRun_0 5 rfl rfl)
theorem dX3_hasRun_7 : decode cX3_hasRun 7 = .ok (.aload_n 0, 1) := dk_42 (dk_at dksX3_hasRun_0 7 rfl rfl)
theorem dX3_hasRun_8 : decode cX3_hasRun 8 = .ok (.getfield 222, 3) := dk_180 0 222 (dk_at dksX3_hasRun_0 8 rfl rfl)
theorem dX3_hasRun_11 : decode cX3_hasRun 11 = .ok (.if_icmp .ge 41, 3) := dk_162 0 41 (dk_at dksX3_hasRun_0 11 rfl rfl)
theorem dX3_hasRun_14 : decode cX3_hasRun 14 = .ok (.iload_n 3, 1) := dk_29 (dk_at dksX3_hasRun_0 14 rfl rfl)
theorem dX3_hasRun_15 : decode cX3_hasRun 15 = .ok (.ifCond .ne 25, 3) := dk_154 0 25 (dk_at dksX3_hasRun_0 15 rfl rfl)
theorem dX3_hasRun_18 : decode cX3_hasRun 18 = .ok (.aload_n 0, 1) := dk_42 (dk_at dksX3_hasRun_0 18 rfl rfl)
theorem dX3_hasRun_19 : decode cX3_hasRun 19 = .ok (.getfield 90, 3) := dk_180 0 90 (dk_at dksX3_hasRun_0 19 rfl rfl)
theorem dX3_hasRun_22 : decode cX3_hasRun 22 = .ok (.iload 4, 2) := dk_21 4 (dk_at dksX3_hasRun_0 22 rfl rfl)
theorem dX3_hasRun_24 : decode cX3_hasRun 24 = .ok (.iaload, 1) := dk_46 (dk_at dksX3_hasRun_1 0 rfl rfl)
theorem dX3_hasRun_25 : decode cX3_hasRun 25 = .ok (.iload_n 1, 1) := dk_27 (dk_at dksX3_hasRun_1 1 rfl rfl)
theorem dX3_hasRun_26 : decode cX3_hasRun 26 = .ok (.if_icmp .ne 18, 3) := dk_160 0 18 (dk_at dksX3_hasRun_1 2 rfl rfl)
theorem dX3_hasRun_29 : decode cX3_hasRun 29 = .ok (.aload_n 0, 1) := dk_42 (dk_at dksX3_hasRun_1 5 rfl rfl)
theorem dX3_hasRun_30 : decode cX3_hasRun 30 = .ok (.getfield 93, 3) := dk_180 0 93 (dk_at dksX3_hasRun_1 6 rfl rfl)
theorem dX3_hasRun_33 : decode cX3_hasRun 33 = .ok (.iload 4, 2) := dk_21 4 (dk_at dksX3_hasRun_1 9 rfl rfl)
theorem dX3_hasRun_35 : decode cX3_hasRun 35 = .ok (.iaload, 1) := dk_46 (dk_at dksX3_hasRun_1 11 rfl rfl)
theorem dX3_hasRun_36 : decode cX3_hasRun 36 = .ok (.iload_n 2, 1) := dk_28 (dk_at dksX3_hasRun_1 12 rfl rfl)
theorem dX3_hasRun_37 : decode cX3_hasRun 37 = .ok (.if_icmp .ne 7, 3) := dk_160 0 7 (dk_at dksX3_hasRun_1 13 rfl rfl)
theorem dX3_hasRun_40 : decode cX3_hasRun 40 = .ok (.iconst 1, 1) := dk_4 (dk_at dksX3_hasRun_1 16 rfl rfl)
theorem dX3_hasRun_41 : decode cX3_hasRun 41 = .ok (.goto 4, 3) := dk_167 0 4 (dk_at dksX3_hasRun_1 17 rfl rfl)
theorem dX3_hasRun_44 : decode cX3_hasRun 44 = .ok (.iconst 0, 1) := dk_3 (dk_at dksX3_hasRun_1 20 rfl rfl)
theorem dX3_hasRun_45 : decode cX3_hasRun 45 = .ok (.istore_n 3, 1) := dk_62 (dk_at dksX3_hasRun_1 21 rfl rfl)
theorem dX3_hasRun_46 : decode cX3_hasRun 46 = .ok (.iinc 4 1, 3) := dk_132 4 1 (dk_at dksX3_hasRun_2 0 rfl rfl)
theorem dX3_hasRun_49 : decode cX3_hasRun 49 = .ok (.goto (-44), 3) := dk_167 255 212 (dk_at dksX3_hasRun_2 3 rfl rfl)
theorem dX3_hasRun_52 : decode cX3_hasRun 52 = .ok (.iload_n 3, 1) := dk_29 (dk_at dksX3_hasRun_2 6 rfl rfl)
theorem dX3_hasRun_53 : decode cX3_hasRun 53 = .ok (.ireturn, 1) := dk_172 (dk_at dksX3_hasRun_2 7 rfl rfl)
abbrev cX3_fits : ByteArray := prog_11_method_74_code
def yX3_fits : MethodName := ⟨RX3, "fits", "(III)Z"⟩
def dkwX3_fits_4 : List UInt8 := [46, 21, 4, 160, 0, 7, 4, 167, 0, 4, 3, 54, 5, 132, 6, 1, 167, 255, 198, 21, 5, 172]
abbrev dktX3_fits_4 : List UInt8 := dkwX3_fits_4 ++ []
def dkwX3_fits_3 : List UInt8 := [21, 6, 46, 27, 160, 0, 26, 42, 180, 0, 93, 21, 6, 46, 28, 160, 0, 15, 42, 180, 0, 96, 21, 6]
abbrev dktX3_fits_3 : List UInt8 := dkwX3_fits_3 ++ dktX3_fits_4
def dkwX3_fits_2 : List UInt8 := [54, 5, 3, 54, 6, 21, 6, 42, 180, 0, 222, 162, 0, 55, 21, 5, 153, 0, 41, 42, 180, 0, 90]
abbrev dktX3_fits_2 : List UInt8 := dkwX3_fits_2 ++ dktX3_fits_3
def dkwX3_fits_1 : List UInt8 := [160, 0, 12, 42, 21, 5, 182, 1, 1, 167, 0, 4, 3, 96, 54, 4, 132, 5, 1, 167, 255, 221, 4]
abbrev dktX3_fits_1 : List UInt8 := dkwX3_fits_1 ++ dktX3_fits_2
def dkwX3_fits_0 : List UInt8 := [3, 54, 4, 3, 54, 5, 21, 5, 16, 8, 162, 0, 34, 21, 4, 29, 21, 5, 122, 4, 126, 4]
abbrev dktX3_fits_0 : List UInt8 := dkwX3_fits_0 ++ dktX3_fits_1
theorem dksX3_fits_0 : cX3_fits.data.toList.drop 0 = dktX3_fits_0 := by decide +kernel
theorem dksX3_fits_1 : cX3_fits.data.toList.drop 22 = dktX3_fits_1 := dk_seg dksX3_fits_0 22 rfl rfl
theorem dksX3_fits_2 : cX3_fits.data.toList.drop 45 = dktX3_fits_2 := dk_seg dksX3_fits_1 23 rfl rfl
theorem dksX3_fits_3 : cX3_fits.data.toList.drop 68 = dktX3_fits_3 := dk_seg dksX3_fits_2 23 rfl rfl
theorem dksX3_fits_4 : cX3_fits.data.toList.drop 92 = dktX3_fits_4 := dk_seg dksX3_fits_3 24 rfl rfl
theorem dX3_fits_0 : decode cX3_fits 0 = .ok (.iconst 0, 1) := dk_3 (dk_at dksX3_fits_0 0 rfl rfl)
theorem dX3_fits_1 : decode cX3_fits 1 = .ok (.istore 4, 2) := dk_54 4 (dk_at dksX3_fits_0 1 rfl rfl)
theorem dX3_fits_3 : decode cX3_fits 3 = .ok (.iconst 0, 1) := dk_3 (dk_at dksX3_fits_0 3 rfl rfl)
theorem dX3_fits_4 : decode cX3_fits 4 = .ok (.istore 5, 2) := dk_54 5 (dk_at dksX3_fits_0 4 rfl rfl)
theorem dX3_fits_6 : decode cX3_fits 6 = .ok (.iload 5, 2) := dk_21 5 (dk_at dksX3_fits_0 6 rfl rfl)
theorem dX3_fits_8 : decode cX3_fits 8 = .ok (.bipush 8, 2) := dk_16 8 (dk_at dksX3_fits_0 8 rfl rfl)
theorem dX3_fits_10 : decode cX3_fits 10 = .ok (.if_icmp .ge 34, 3) := dk_162 0 34 (dk_at dksX3_fits_0 10 rfl rfl)
theorem dX3_fits_13 : decode cX3_fits 13 = .ok (.iload 4, 2) := dk_21 4 (dk_at dksX3_fits_0 13 rfl rfl)
theorem dX3_fits_15 : decode cX3_fits 15 = .ok (.iload_n 3, 1) := dk_29 (dk_at dksX3_fits_0 15 rfl rfl)
theorem dX3_fits_16 : decode cX3_fits 16 = .ok (.iload 5, 2) := dk_21 5 (dk_at dksX3_fits_0 16 rfl rfl)
theorem dX3_fits_18 : decode cX3_fits 18 = .ok (.ishr, 1) := dk_122 (dk_at dksX3_fits_0 18 rfl rfl)
theorem dX3_fits_19 : decode cX3_fits 19 = .ok (.iconst 1, 1) := dk_4 (dk_at dksX3_fits_0 19 rfl rfl)
theorem dX3_fits_20 : decode cX3_fits 20 = .ok (.iand, 1) := dk_126 (dk_at dksX3_fits_0 20 rfl rfl)
theorem dX3_fits_21 : decode cX3_fits 21 = .ok (.iconst 1, 1) := dk_4 (dk_at dksX3_fits_0 21 rfl rfl)
theorem dX3_fits_22 : decode cX3_fits 22 = .ok (.if_icmp .ne 12, 3) := dk_160 0 12 (dk_at dksX3_fits_1 0 rfl rfl)
theorem dX3_fits_25 : decode cX3_fits 25 = .ok (.aload_n 0, 1) := dk_42 (dk_at dksX3_fits_1 3 rfl rfl)
theorem dX3_fits_26 : decode cX3_fits 26 = .ok (.iload 5, 2) := dk_21 5 (dk_at dksX3_fits_1 4 rfl rfl)
theorem dX3_fits_28 : decode cX3_fits 28 = .ok (.invokevirtual 257, 3) := dk_182 1 1 (dk_at dksX3_fits_1 6 rfl rfl)
theorem dX3_fits_31 : decode cX3_fits 31 = .ok (.goto 4, 3) := dk_167 0 4 (dk_at dksX3_fits_1 9 rfl rfl)
theorem dX3_fits_34 : decode cX3_fits 34 = .ok (.iconst 0, 1) := dk_3 (dk_at dksX3_fits_1 12 rfl rfl)
theorem dX3_fits_35 : decode cX3_fits 35 = .ok (.iadd, 1) := dk_96 (dk_at dksX3_fits_1 13 rfl rfl)
theorem dX3_fits_36 : decode cX3_fits 36 = .ok (.istore 4, 2) := dk_54 4 (dk_at dksX3_fits_1 14 rfl rfl)
theorem dX3_fits_38 : decode cX3_fits 38 = .ok (.iinc 5 1, 3) := dk_132 5 1 (dk_at dksX3_fits_1 16 rfl rfl)
theorem dX3_fits_41 : decode cX3_fits 41 = .ok (.goto (-35), 3) := dk_167 255 221 (dk_at dksX3_fits_1 19 rfl rfl)
theorem dX3_fits_44 : decode cX3_fits 44 = .ok (.iconst 1, 1) := dk_4 (dk_at dksX3_fits_1 22 rfl rfl)
theorem dX3_fits_45 : decode cX3_fits 45 = .ok (.istore 5, 2) := dk_54 5 (dk_at dksX3_fits_2 0 rfl rfl)
theorem dX3_fits_47 : decode cX3_fits 47 = .ok (.iconst 0, 1) := dk_3 (dk_at dksX3_fits_2 2 rfl rfl)
theorem dX3_fits_48 : decode cX3_fits 48 = .ok (.istore 6, 2) := dk_54 6 (dk_at dksX3_fits_2 3 rfl rfl)
theorem dX3_fits_50 : decode cX3_fits 50 = .ok (.iload 6, 2) := dk_21 6 (dk_at dksX3_fits_2 5 rfl rfl)
theorem dX3_fits_52 : decode cX3_fits 52 = .ok (.aload_n 0, 1) := dk_42 (dk_at dksX3_fits_2 7 rfl rfl)
theorem dX3_fits_53 : decode cX3_fits 53 = .ok (.getfield 222, 3) := dk_180 0 222 (dk_at dksX3_fits_2 8 rfl rfl)
theorem dX3_fits_56 : decode cX3_fits 56 = .ok (.if_icmp .ge 55, 3) := dk_162 0 55 (dk_at dksX3_fits_2 11 rfl rfl)
theorem dX3_fits_59 : decode cX3_fits 59 = .ok (.iload 5, 2) := dk_21 5 (dk_at dksX3_fits_2 14 rfl rfl)
theorem dX3_fits_61 : decode cX3_fits 61 = .ok (.ifCond .eq 41, 3) := dk_153 0 41 (dk_at dksX3_fits_2 16 rfl rfl)
theorem dX3_fits_64 : decode cX3_fits 64 = .ok (.aload_n 0, 1) := dk_42 (dk_at dksX3_fits_2 19 rfl rfl)
theorem dX3_fits_65 : decode cX3_fits 65 = .ok (.getfield 90, 3) := dk_180 0 90 (dk_at dksX3_fits_2 20 rfl rfl)
theorem dX3_fits_68 : decode cX3_fits 68 = .ok (.iload 6, 2) := dk_21 6 (dk_at dksX3_fits_3 0 rfl rfl)
theorem dX3_fits_70 : decode cX3_fits 70 = .ok (.iaload, 1) := dk_46 (dk_at dksX3_fits_3 2 rfl rfl)
theorem dX3_fits_71 : decode cX3_fits 71 = .ok (.iload_n 1, 1) := dk_27 (dk_at dksX3_fits_3 3 rfl rfl)
theorem dX3_fits_72 : decode cX3_fits 72 = .ok (.if_icmp .ne 26, 3) := dk_160 0 26 (dk_at dksX3_fits_3 4 rfl rfl)
theorem dX3_fits_75 : decode cX3_fits 75 = .ok (.aload_n 0, 1) := dk_42 (dk_at dksX3_fits_3 7 rfl rfl)
theorem dX3_fits_76 : decode cX3_fits 76 = .ok (.getfield 93, 3) := dk_180 0 93 (dk_at dksX3_fits_3 8 rfl rfl)
theorem dX3_fits_79 : decode cX3_fits 79 = .ok (.iload 6, 2) := dk_21 6 (dk_at dksX3_fits_3 11 rfl rfl)
theorem dX3_fits_81 : decode cX3_fits 81 = .ok (.iaload, 1) := dk_46 (dk_at dksX3_fits_3 13 rfl rfl)
theorem dX3_fits_82 : decode cX3_fits 82 = .ok (.iload_n 2, 1) := dk_28 (dk_at dksX3_fits_3 14 rfl rfl)
theorem dX3_fits_83 : decode cX3_fits 83 = .ok (.if_icmp .ne 15, 3) := dk_160 0 15 (dk_at dksX3_fits_3 15 rfl rfl)
theorem dX3_fits_86 : decode cX3_fits 86 = .ok (.aload_n 0, 1) := dk_42 (dk_at dksX3_fits_3 18 rfl rfl)
theorem dX3_fits_87 : decode cX3_fits 87 = .ok (.getfield 96, 3) := dk_180 0 96 (dk_at dksX3_fits_3 19 rfl rfl)
theorem dX3_fits_90 : decode cX3_fits 90 = .ok (.iload 6, 2) := dk_21 6 (dk_at dksX3_fits_3 22 rfl rfl)
theorem dX3_fits_92 : decode cX3_fits 92 = .ok (.iaload, 1) := dk_46 (dk_at dksX3_fits_4 0 rfl rfl)
theorem dX3_fits_93 : decode cX3_fits 93 = .ok (.iload 4, 2) := dk_21 4 (dk_at dksX3_fits_4 1 rfl rfl)
theorem dX3_fits_95 : decode cX3_fits 95 = .ok (.if_icmp .ne 7, 3) := dk_160 0 7 (dk_at dksX3_fits_4 3 rfl rfl)
theorem dX3_fits_98 : decode cX3_fits 98 = .ok (.iconst 1, 1) := dk_4 (dk_at dksX3_fits_4 6 rfl rfl)
theorem dX3_fits_99 : decode cX3_fits 99 = .ok (.goto 4, 3) := dk_167 0 4 (dk_at dksX3_fits_4 7 rfl rfl)
theorem dX3_fits_102 : decode cX3_fits 102 = .ok (.iconst 0, 1) := dk_3 (dk_at dksX3_fits_4 10 rfl rfl)
theorem dX3_fits_103 : decode cX3_fits 103 = .ok (.istore 5, 2) := dk_54 5 (dk_at dksX3_fits_4 11 rfl rfl)
theorem dX3_fits_105 : decode cX3_fits 105 = .ok (.iinc 6 1, 3) := dk_132 6 1 (dk_at dksX3_fits_4 13 rfl rfl)
theorem dX3_fits_108 : decode cX3_fits 108 = .ok (.goto (-58), 3) := dk_167 255 198 (dk_at dksX3_fits_4 16 rfl rfl)
theorem dX3_fits_111 : decode cX3_fits 111 = .ok (.iload 5, 2) := dk_21 5 (dk_at dksX3_fits_4 19 rfl rfl)
theorem dX3_fits_113 : decode cX3_fits 113 = .ok (.ireturn, 1) := dk_172 (dk_at dksX3_fits_4 21 rfl rfl)
abbrev cX3_sheet : ByteArray := prog_11_method_78_code
def yX3_sheet : MethodName := ⟨RX3, "sheet", "(III)I"⟩
def dkwX3_sheet_2 : List UInt8 := [180, 0, 105, 16, 40, 27, 104, 21, 4, 96, 3, 79, 132, 4, 1, 167, 255, 233, 4, 172]
abbrev dktX3_sheet_2 : List UInt8 := dkwX3_sheet_2 ++ []
def dkwX3_sheet_1 : List UInt8 := [180, 0, 99, 27, 28, 79, 42, 180, 0, 102, 27, 29, 79, 3, 54, 4, 21, 4, 16, 40, 162, 0, 22, 42]
abbrev dktX3_sheet_1 : List UInt8 := dkwX3_sheet_1 ++ dktX3_sheet_2
def dkwX3_sheet_0 : List UInt8 := [27, 28, 184, 1, 112, 153, 0, 9, 29, 16, 40, 164, 0, 5, 2, 172, 29, 156, 0, 6, 16, 242, 172, 42]
abbrev dktX3_sheet_0 : List UInt8 := dkwX3_sheet_0 ++ dktX3_sheet_1
theorem dksX3_sheet_0 : cX3_sheet.data.toList.drop 0 = dktX3_sheet_0 := by decide +kernel
theorem dksX3_sheet_1 : cX3_sheet.data.toList.drop 24 = dktX3_sheet_1 := dk_seg dksX3_sheet_0 24 rfl rfl
theorem dksX3_sheet_2 : cX3_sheet.data.toList.drop 48 = dktX3_sheet_2 := dk_seg dksX3_sheet_1 24 rfl rfl
theorem dX3_sheet_0 : decode cX3_sheet 0 = .ok (.iload_n 1, 1) := dk_27 (dk_at dksX3_sheet_0 0 rfl rfl)
theorem dX3_sheet_1 : decode cX3_sheet 1 = .ok (.iload_n 2, 1) := dk_28 (dk_at dksX3_sheet_0 1 rfl rfl)
theorem dX3_sheet_2 : decode cX3_sheet 2 = .ok (.invokestatic 368, 3) := dk_184 1 112 (dk_at dksX3_sheet_0 2 rfl rfl)
theorem dX3_sheet_5 : decode cX3_sheet 5 = .ok (.ifCond .eq 9, 3) := dk_153 0 9 (dk_at dksX3_sheet_0 5 rfl rfl)
theorem dX3_sheet_8 : decode cX3_sheet 8 = .ok (.iload_n 3, 1) := dk_29 (dk_at dksX3_sheet_0 8 rfl rfl)
theorem dX3_sheet_9 : decode cX3_sheet 9 = .ok (.bipush 40, 2) := dk_16 40 (dk_at dksX3_sheet_0 9 rfl rfl)
theorem dX3_sheet_11 : decode cX3_sheet 11 = .ok (.if_icmp .le 5, 3) := dk_164 0 5 (dk_at dksX3_sheet_0 11 rfl rfl)
theorem dX3_sheet_14 : decode cX3_sheet 14 = .ok (.iconst (-1), 1) := dk_2 (dk_at dksX3_sheet_0 14 rfl rfl)
theorem dX3_sheet_15 : decode cX3_sheet 15 = .ok (.ireturn, 1) := dk_172 (dk_at dksX3_sheet_0 15 rfl rfl)
theorem dX3_sheet_16 : decode cX3_sheet 16 = .ok (.iload_n 3, 1) := dk_29 (dk_at dksX3_sheet_0 16 rfl rfl)
theorem dX3_sheet_17 : decode cX3_sheet 17 = .ok (.ifCond .ge 6, 3) := dk_156 0 6 (dk_at dksX3_sheet_0 17 rfl rfl)
theorem dX3_sheet_20 : decode cX3_sheet 20 = .ok (.bipush (-14), 2) := dk_16 242 (dk_at dksX3_sheet_0 20 rfl rfl)
theorem dX3_sheet_22 : decode cX3_sheet 22 = .ok (.ireturn, 1) := dk_172 (dk_at dksX3_sheet_0 22 rfl rfl)
theorem dX3_sheet_23 : decode cX3_sheet 23 = .ok (.aload_n 0, 1) := dk_42 (dk_at dksX3_sheet_0 23 rfl rfl)
theorem dX3_sheet_24 : decode cX3_sheet 24 = .ok (.getfield 99, 3) := dk_180 0 99 (dk_at dksX3_sheet_1 0 rfl rfl)
theorem dX3_sheet_27 : decode cX3_sheet 27 = .ok (.iload_n 1, 1) := dk_27 (dk_at dksX3_sheet_1 3 rfl rfl)
theorem dX3_sheet_28 : decode cX3_sheet 28 = .ok (.iload_n 2, 1) := dk_28 (dk_at dksX3_sheet_1 4 rfl rfl)
theorem dX3_sheet_29 : decode cX3_sheet 29 = .ok (.iastore, 1) := dk_79 (dk_at dksX3_sheet_1 5 rfl rfl)
theorem dX3_sheet_30 : decode cX3_sheet 30 = .ok (.aload_n 0, 1) := dk_42 (dk_at dksX3_sheet_1 6 rfl rfl)
theorem dX3_sheet_31 : decode cX3_sheet 31 = .ok (.getfield 102, 3) := dk_180 0 102 (dk_at dksX3_sheet_1 7 rfl rfl)
theorem dX3_sheet_34 : decode cX3_sheet 34 = .ok (.iload_n 1, 1) := dk_27 (dk_at dksX3_sheet_1 10 rfl rfl)
theorem dX3_sheet_35 : decode cX3_sheet 35 = .ok (.iload_n 3, 1) := dk_29 (dk_at dksX3_sheet_1 11 rfl rfl)
theorem dX3_sheet_36 : decode cX3_sheet 36 = .ok (.iastore, 1) := dk_79 (dk_at dksX3_sheet_1 12 rfl rfl)
theorem dX3_sheet_37 : decode cX3_sheet 37 = .ok (.iconst 0, 1) := dk_3 (dk_at dksX3_sheet_1 13 rfl rfl)
theorem dX3_sheet_38 : decode cX3_sheet 38 = .ok (.istore 4, 2) := dk_54 4 (dk_at dksX3_sheet_1 14 rfl rfl)
theorem dX3_sheet_40 : decode cX3_sheet 40 = .ok (.iload 4, 2) := dk_21 4 (dk_at dksX3_sheet_1 16 rfl rfl)
theorem dX3_sheet_42 : decode cX3_sheet 42 = .ok (.bipush 40, 2) := dk_16 40 (dk_at dksX3_sheet_1 18 rfl rfl)
theorem dX3_sheet_44 : decode cX3_sheet 44 = .ok (.if_icmp .ge 22, 3) := dk_162 0 22 (dk_at dksX3_sheet_1 20 rfl rfl)
theorem dX3_sheet_47 : decode cX3_sheet 47 = .ok (.aload_n 0, 1) := dk_42 (dk_at dksX3_sheet_1 23 rfl rfl)
theorem dX3_sheet_48 : decode cX3_sheet 48 = .ok (.getfield 105, 3) := dk_180 0 105 (dk_at dksX3_sheet_2 0 rfl rfl)
theorem dX3_sheet_51 : decode cX3_sheet 51 = .ok (.bipush 40, 2) := dk_16 40 (dk_at dksX3_sheet_2 3 rfl rfl)
theorem dX3_sheet_53 : decode cX3_sheet 53 = .ok (.iload_n 1, 1) := dk_27 (dk_at dksX3_sheet_2 5 rfl rfl)
theorem dX3_sheet_54 : decode cX3_sheet 54 = .ok (.imul, 1) := dk_104 (dk_at dksX3_sheet_2 6 rfl rfl)
theorem dX3_sheet_55 : decode cX3_sheet 55 = .ok (.iload 4, 2) := dk_21 4 (dk_at dksX3_sheet_2 7 rfl rfl)
theorem dX3_sheet_57 : decode cX3_sheet 57 = .ok (.iadd, 1) := dk_96 (dk_at dksX3_sheet_2 9 rfl rfl)
theorem dX3_sheet_58 : decode cX3_sheet 58 = .ok (.iconst 0, 1) := dk_3 (dk_at dksX3_sheet_2 10 rfl rfl)
theorem dX3_sheet_59 : decode cX3_sheet 59 = .ok (.iastore, 1) := dk_79 (dk_at dksX3_sheet_2 11 rfl rfl)
theorem dX3_sheet_60 : decode cX3_sheet 60 = .ok (.iinc 4 1, 3) := dk_132 4 1 (dk_at dksX3_sheet_2 12 rfl rfl)
theorem dX3_sheet_63 : decode cX3_sheet 63 = .ok (.goto (-23), 3) := dk_167 255 233 (dk_at dksX3_sheet_2 15 rfl rfl)
theorem dX3_sheet_66 : decode cX3_sheet 66 = .ok (.iconst 1, 1) := dk_4 (dk_at dksX3_sheet_2 18 rfl rfl)
theorem dX3_sheet_67 : decode cX3_sheet 67 = .ok (.ireturn, 1) := dk_172 (dk_at dksX3_sheet_2 19 rfl rfl)
abbrev cX3_isSheet : ByteArray := prog_11_method_77_code
def yX3_isSheet : MethodName := ⟨RX3, "isSheet", "(II)Z"⟩
def dkwX3_isSheet_1 : List UInt8 := [4, 167, 0, 4, 3, 172]
abbrev dktX3_isSheet_1 : List UInt8 := dkwX3_isSheet_1 ++ []
def dkwX3_isSheet_0 : List UInt8 := [26, 133, 9, 20, 1, 63, 184, 0, 124, 153, 0, 19, 27, 133, 9, 20, 1, 26, 184, 0, 124, 153, 0, 7]
abbrev dktX3_isSheet_0 : List UInt8 := dkwX3_isSheet_0 ++ dktX3_isSheet_1
theorem dksX3_isSheet_0 : cX3_isSheet.data.toList.drop 0 = dktX3_isSheet_0 := by decide +kernel
theorem dksX3_isSheet_1 : cX3_isSheet.data.toList.drop 24 = dktX3_isSheet_1 := dk_seg dksX3_isSheet_0 24 rfl rfl
theorem dX3_isSheet_0 : decode cX3_isSheet 0 = .ok (.iload_n 0, 1) := dk_26 (dk_at dksX3_isSheet_0 0 rfl rfl)
theorem dX3_isSheet_1 : decode cX3_isSheet 1 = .ok (.i2l, 1) := dk_133 (dk_at dksX3_isSheet_0 1 rfl rfl)
theorem dX3_isSheet_2 : decode cX3_isSheet 2 = .ok (.lconst 0, 1) := dk_9 (dk_at dksX3_isSheet_0 2 rfl rfl)
theorem dX3_isSheet_3 : decode cX3_isSheet 3 = .ok (.ldc2_w 319, 3) := dk_20 1 63 (dk_at dksX3_isSheet_0 3 rfl rfl)
theorem dX3_isSheet_6 : decode cX3_isSheet 6 = .ok (.invokestatic 124, 3) := dk_184 0 124 (dk_at dksX3_isSheet_0 6 rfl rfl)
theorem dX3_isSheet_9 : decode cX3_isSheet 9 = .ok (.ifCond .eq 19, 3) := dk_153 0 19 (dk_at dksX3_isSheet_0 9 rfl rfl)
theorem dX3_isSheet_12 : decode cX3_isSheet 12 = .ok (.iload_n 1, 1) := dk_27 (dk_at dksX3_isSheet_0 12 rfl rfl)
theorem dX3_isSheet_13 : decode cX3_isSheet 13 = .ok (.i2l, 1) := dk_133 (dk_at dksX3_isSheet_0 13 rfl rfl)
theorem dX3_isSheet_14 : decode cX3_isSheet 14 = .ok (.lconst 0, 1) := dk_9 (dk_at dksX3_isSheet_0 14 rfl rfl)
theorem dX3_isSheet_15 : decode cX3_isSheet 15 = .ok (.ldc2_w 282, 3) := dk_20 1 26 (dk_at dksX3_isSheet_0 15 rfl rfl)
theorem dX3_isSheet_18 : decode cX3_isSheet 18 = .ok (.invokestatic 124, 3) := dk_184 0 124 (dk_at dksX3_isSheet_0 18 rfl rfl)
theorem dX3_isSheet_21 : decode cX3_isSheet 21 = .ok (.ifCond .eq 7, 3) := dk_153 0 7 (dk_at dksX3_isSheet_0 21 rfl rfl)
theorem dX3_isSheet_24 : decode cX3_isSheet 24 = .ok (.iconst 1, 1) := dk_4 (dk_at dksX3_isSheet_1 0 rfl rfl)
theorem dX3_isSheet_25 : decode cX3_isSheet 25 = .ok (.goto 4, 3) := dk_167 0 4 (dk_at dksX3_isSheet_1 1 rfl rfl)
theorem dX3_isSheet_28 : decode cX3_isSheet 28 = .ok (.iconst 0, 1) := dk_3 (dk_at dksX3_isSheet_1 4 rfl rfl)
theorem dX3_isSheet_29 : decode cX3_isSheet 29 = .ok (.ireturn, 1) := dk_172 (dk_at dksX3_isSheet_1 5 rfl rfl)
abbrev cX3_lay : ByteArray := prog_11_method_79_code
def yX3_lay : MethodName := ⟨RX3, "lay", "(III)I"⟩
def dkwX3_lay_3 : List UInt8 := [180, 0, 99, 27, 46, 4, 160, 0, 8, 29, 147, 167, 0, 4, 29, 79, 4, 172]
abbrev dktX3_lay_3 : List UInt8 := dkwX3_lay_3 ++ []
def dkwX3_lay_2 : List UInt8 := [180, 0, 105, 16, 40, 27, 104, 28, 96, 42, 180, 0, 99, 27, 46, 154, 0, 8, 29, 145, 167, 0, 19, 42]
abbrev dktX3_lay_2 : List UInt8 := dkwX3_lay_2 ++ dktX3_lay_3
def dkwX3_lay_1 : List UInt8 := [28, 133, 9, 42, 180, 0, 102, 27, 46, 4, 100, 133, 184, 0, 124, 154, 0, 6, 16, 244, 172, 42]
abbrev dktX3_lay_1 : List UInt8 := dkwX3_lay_1 ++ dktX3_lay_2
def dkwX3_lay_0 : List UInt8 := [27, 3, 184, 1, 112, 154, 0, 5, 2, 172, 42, 180, 0, 99, 27, 46, 16, 252, 160, 0, 6, 16, 245, 172]
abbrev dktX3_lay_0 : List UInt8 := dkwX3_lay_0 ++ dktX3_lay_1
theorem dksX3_lay_0 : cX3_lay.data.toList.drop 0 = dktX3_lay_0 := by decide +kernel
theorem dksX3_lay_1 : cX3_lay.data.toList.drop 24 = dktX3_lay_1 := dk_seg dksX3_lay_0 24 rfl rfl
theorem dksX3_lay_2 : cX3_lay.data.toList.drop 46 = dktX3_lay_2 := dk_seg dksX3_lay_1 22 rfl rfl
theorem dksX3_lay_3 : cX3_lay.data.toList.drop 70 = dktX3_lay_3 := dk_seg dksX3_lay_2 24 rfl rfl
theorem dX3_lay_0 : decode cX3_lay 0 = .ok (.iload_n 1, 1) := dk_27 (dk_at dksX3_lay_0 0 rfl rfl)
theorem dX3_lay_1 : decode cX3_lay 1 = .ok (.iconst 0, 1) := dk_3 (dk_at dksX3_lay_0 1 rfl rfl)
theorem dX3_lay_2 : decode cX3_lay 2 = .ok (.invokestatic 368, 3) := dk_184 1 112 (dk_at dksX3_lay_0 2 rfl rfl)
theorem dX3_lay_5 : decode cX3_lay 5 = .ok (.ifCond .ne 5, 3) := dk_154 0 5 (dk_at dksX3_lay_0 5 rfl rfl)
theorem dX3_lay_8 : decode cX3_lay 8 = .ok (.iconst (-1), 1) := dk_2 (dk_at dksX3_lay_0 8 rfl rfl)
theorem dX3_lay_9 : decode cX3_lay 9 = .ok (.ireturn, 1) := dk_172 (dk_at dksX3_lay_0 9 rfl rfl)
theorem dX3_lay_10 : decode cX3_lay 10 = .ok (.aload_n 0, 1) := dk_42 (dk_at dksX3_lay_0 10 rfl rfl)
theorem dX3_lay_11 : decode cX3_lay 11 = .ok (.getfield 99, 3) := dk_180 0 99 (dk_at dksX3_lay_0 11 rfl rfl)
theorem dX3_lay_14 : decode cX3_lay 14 = .ok (.iload_n 1, 1) := dk_27 (dk_at dksX3_lay_0 14 rfl rfl)
theorem dX3_lay_15 : decode cX3_lay 15 = .ok (.iaload, 1) := dk_46 (dk_at dksX3_lay_0 15 rfl rfl)
theorem dX3_lay_16 : decode cX3_lay 16 = .ok (.bipush (-4), 2) := dk_16 252 (dk_at dksX3_lay_0 16 rfl rfl)
theorem dX3_lay_18 : decode cX3_lay 18 = .ok (.if_icmp .ne 6, 3) := dk_160 0 6 (dk_at dksX3_lay_0 18 rfl rfl)
theorem dX3_lay_21 : decode cX3_lay 21 = .ok (.bipush (-11), 2) := dk_16 245 (dk_at dksX3_lay_0 21 rfl rfl)
theorem dX3_lay_23 : decode cX3_lay 23 = .ok (.ireturn, 1) := dk_172 (dk_at dksX3_lay_0 23 rfl rfl)
theorem dX3_lay_24 : decode cX3_lay 24 = .ok (.iload_n 2, 1) := dk_28 (dk_at dksX3_lay_1 0 rfl rfl)
theorem dX3_lay_25 : decode cX3_lay 25 = .ok (.i2l, 1) := dk_133 (dk_at dksX3_lay_1 1 rfl rfl)
theorem dX3_lay_26 : decode cX3_lay 26 = .ok (.lconst 0, 1) := dk_9 (dk_at dksX3_lay_1 2 rfl rfl)
theorem dX3_lay_27 : decode cX3_lay 27 = .ok (.aload_n 0, 1) := dk_42 (dk_at dksX3_lay_1 3 rfl rfl)
theorem dX3_lay_28 : decode cX3_lay 28 = .ok (.getfield 102, 3) := dk_180 0 102 (dk_at dksX3_lay_1 4 rfl rfl)
theorem dX3_lay_31 : decode cX3_lay 31 = .ok (.iload_n 1, 1) := dk_27 (dk_at dksX3_lay_1 7 rfl rfl)
theorem dX3_lay_32 : decode cX3_lay 32 = .ok (.iaload, 1) := dk_46 (dk_at dksX3_lay_1 8 rfl rfl)
theorem dX3_lay_33 : decode cX3_lay 33 = .ok (.iconst 1, 1) := dk_4 (dk_at dksX3_lay_1 9 rfl rfl)
theorem dX3_lay_34 : decode cX3_lay 34 = .ok (.isub, 1) := dk_100 (dk_at dksX3_lay_1 10 rfl rfl)
theorem dX3_lay_35 : decode cX3_lay 35 = .ok (.i2l, 1) := dk_133 (dk_at dksX3_lay_1 11 rfl rfl)
theorem dX3_lay_36 : decode cX3_lay 36 = .ok (.invokestatic 124, 3) := dk_184 0 124 (dk_at dksX3_lay_1 12 rfl rfl)
theorem dX3_lay_39 : decode cX3_lay 39 = .ok (.ifCond .ne 6, 3) := dk_154 0 6 (dk_at dksX3_lay_1 15 rfl rfl)
theorem dX3_lay_42 : decode cX3_lay 42 = .ok (.bipush (-12), 2) := dk_16 244 (dk_at dksX3_lay_1 18 rfl rfl)
theorem dX3_lay_44 : decode cX3_lay 44 = .ok (.ireturn, 1) := dk_172 (dk_at dksX3_lay_1 20 rfl rfl)
theorem dX3_lay_45 : decode cX3_lay 45 = .ok (.aload_n 0, 1) := dk_42 (dk_at dksX3_lay_1 21 rfl rfl)
theorem dX3_lay_46 : decode cX3_lay 46 = .ok (.getfield 105, 3) := dk_180 0 105 (dk_at dksX3_lay_2 0 rfl rfl)
theorem dX3_lay_49 : decode cX3_lay 49 = .ok (.bipush 40, 2) := dk_16 40 (dk_at dksX3_lay_2 3 rfl rfl)
theorem dX3_lay_51 : decode cX3_lay 51 = .ok (.iload_n 1, 1) := dk_27 (dk_at dksX3_lay_2 5 rfl rfl)
theorem dX3_lay_52 : decode cX3_lay 52 = .ok (.imul, 1) := dk_104 (dk_at dksX3_lay_2 6 rfl rfl)
theorem dX3_lay_53 : decode cX3_lay 53 = .ok (.iload_n 2, 1) := dk_28 (dk_at dksX3_lay_2 7 rfl rfl)
theorem dX3_lay_54 : decode cX3_lay 54 = .ok (.iadd, 1) := dk_96 (dk_at dksX3_lay_2 8 rfl rfl)
theorem dX3_lay_55 : decode cX3_lay 55 = .ok (.aload_n 0, 1) := dk_42 (dk_at dksX3_lay_2 9 rfl rfl)
theorem dX3_lay_56 : decode cX3_lay 56 = .ok (.getfield 99, 3) := dk_180 0 99 (dk_at dksX3_lay_2 10 rfl rfl)
theorem dX3_lay_59 : decode cX3_lay 59 = .ok (.iload_n 1, 1) := dk_27 (dk_at dksX3_lay_2 13 rfl rfl)
theorem dX3_lay_60 : decode cX3_lay 60 = .ok (.iaload, 1) := dk_46 (dk_at dksX3_lay_2 14 rfl rfl)
theorem dX3_lay_61 : decode cX3_lay 61 = .ok (.ifCond .ne 8, 3) := dk_154 0 8 (dk_at dksX3_lay_2 15 rfl rfl)
theorem dX3_lay_64 : decode cX3_lay 64 = .ok (.iload_n 3, 1) := dk_29 (dk_at dksX3_lay_2 18 rfl rfl)
theorem dX3_lay_65 : decode cX3_lay 65 = .ok (.i2b, 1) := dk_145 (dk_at dksX3_lay_2 19 rfl rfl)
theorem dX3_lay_66 : decode cX3_lay 66 = .ok (.goto 19, 3) := dk_167 0 19 (dk_at dksX3_lay_2 20 rfl rfl)
theorem dX3_lay_69 : decode cX3_lay 69 = .ok (.aload_n 0, 1) := dk_42 (dk_at dksX3_lay_2 23 rfl rfl)
theorem dX3_lay_70 : decode cX3_lay 70 = .ok (.getfield 99, 3) := dk_180 0 99 (dk_at dksX3_lay_3 0 rfl rfl)
theorem dX3_lay_73 : decode cX3_lay 73 = .ok (.iload_n 1, 1) := dk_27 (dk_at dksX3_lay_3 3 rfl rfl)
theorem dX3_lay_74 : decode cX3_lay 74 = .ok (.iaload, 1) := dk_46 (dk_at dksX3_lay_3 4 rfl rfl)
theorem dX3_lay_75 : decode cX3_lay 75 = .ok (.iconst 1, 1) := dk_4 (dk_at dksX3_lay_3 5 rfl rfl)
theorem dX3_lay_76 : decode cX3_lay 76 = .ok (.if_icmp .ne 8, 3) := dk_160 0 8 (dk_at dksX3_lay_3 6 rfl rfl)
theorem dX3_lay_79 : decode cX3_lay 79 = .ok (.iload_n 3, 1) := dk_29 (dk_at dksX3_lay_3 9 rfl rfl)
theorem dX3_lay_80 : decode cX3_lay 80 = .ok (.i2s, 1) := dk_147 (dk_at dksX3_lay_3 10 rfl rfl)
theorem dX3_lay_81 : decode cX3_lay 81 = .ok (.goto 4, 3) := dk_167 0 4 (dk_at dksX3_lay_3 11 rfl rfl)
theorem dX3_lay_84 : decode cX3_lay 84 = .ok (.iload_n 3, 1) := dk_29 (dk_at dksX3_lay_3 14 rfl rfl)
theorem dX3_lay_85 : decode cX3_lay 85 = .ok (.iastore, 1) := dk_79 (dk_at dksX3_lay_3 15 rfl rfl)
theorem dX3_lay_86 : decode cX3_lay 86 = .ok (.iconst 1, 1) := dk_4 (dk_at dksX3_lay_3 16 rfl rfl)
theorem dX3_lay_87 : decode cX3_lay 87 = .ok (.ireturn, 1) := dk_172 (dk_at dksX3_lay_3 17 rfl rfl)
abbrev cX3_said : ByteArray := prog_11_method_80_code
def yX3_said : MethodName := ⟨RX3, "said", "(IIIII)I"⟩
def dkwX3_said_12 : List UInt8 := [172]
abbrev dktX3_said_12 : List UInt8 := dkwX3_said_12 ++ []
def dkwX3_said_11 : List UInt8 := [21, 5, 4, 160, 0, 8, 21, 7, 167, 0, 16, 21, 5, 5, 160, 0, 8, 21, 8, 167, 0, 5, 21, 9]
abbrev dktX3_said_11 : List UInt8 := dkwX3_said_11 ++ dktX3_said_12
def dkwX3_said_10 : List UInt8 := [167, 0, 4, 3, 96, 54, 9, 132, 10, 1, 167, 255, 89, 21, 5, 154, 0, 8, 21, 6, 167, 0, 27]
abbrev dktX3_said_10 : List UInt8 := dkwX3_said_10 ++ dktX3_said_11
def dkwX3_said_9 : List UInt8 := [158, 0, 8, 21, 14, 167, 0, 4, 3, 96, 54, 8, 21, 9, 21, 14, 156, 0, 9, 21, 14, 116]
abbrev dktX3_said_9 : List UInt8 := dkwX3_said_9 ++ dktX3_said_10
def dkwX3_said_8 : List UInt8 := [153, 0, 15, 21, 7, 16, 252, 160, 0, 8, 21, 10, 167, 0, 5, 21, 7, 54, 7, 21, 8, 21, 14]
abbrev dktX3_said_8 : List UInt8 := dkwX3_said_8 ++ dktX3_said_9
def dkwX3_said_7 : List UInt8 := [182, 0, 251, 104, 100, 54, 14, 21, 6, 21, 14, 154, 0, 7, 4, 167, 0, 4, 3, 96, 54, 6, 21, 14]
abbrev dktX3_said_7 : List UInt8 := dkwX3_said_7 ++ dktX3_said_8
def dkwX3_said_6 : List UInt8 := [154, 0, 9, 16, 236, 21, 10, 100, 172, 21, 13, 42, 180, 0, 28, 21, 10, 46, 42, 21, 10, 21, 4]
abbrev dktX3_said_6 : List UInt8 := dkwX3_said_6 ++ dktX3_said_7
def dkwX3_said_5 : List UInt8 := [180, 0, 105, 16, 40, 27, 104, 22, 11, 136, 96, 46, 54, 13, 21, 13, 133, 9, 20, 1, 13, 184, 0, 124]
abbrev dktX3_said_5 : List UInt8 := dkwX3_said_5 ++ dktX3_said_6
def dkwX3_said_4 : List UInt8 := [9, 148, 155, 0, 16, 22, 11, 42, 180, 0, 102, 27, 46, 133, 148, 155, 0, 6, 16, 244, 172, 42]
abbrev dktX3_said_4 : List UInt8 := dkwX3_said_4 ++ dktX3_said_5
def dkwX3_said_3 : List UInt8 := [54, 9, 3, 54, 10, 21, 10, 42, 180, 0, 203, 162, 0, 164, 29, 133, 21, 10, 133, 97, 55, 11, 22, 11]
abbrev dktX3_said_3 : List UInt8 := dkwX3_said_3 ++ dktX3_said_4
def dkwX3_said_2 : List UInt8 := [16, 252, 160, 0, 8, 16, 245, 167, 0, 5, 16, 243, 172, 3, 54, 6, 16, 252, 54, 7, 3, 54, 8, 3]
abbrev dktX3_said_2 : List UInt8 := dkwX3_said_2 ++ dktX3_said_3
def dkwX3_said_1 : List UInt8 := [184, 0, 124, 154, 0, 5, 2, 172, 42, 180, 0, 99, 27, 46, 28, 159, 0, 22, 42, 180, 0, 99, 27, 46]
abbrev dktX3_said_1 : List UInt8 := dkwX3_said_1 ++ dktX3_said_2
def dkwX3_said_0 : List UInt8 := [27, 28, 184, 1, 112, 153, 0, 24, 21, 4, 184, 1, 4, 153, 0, 16, 21, 5, 133, 9, 20, 1, 63]
abbrev dktX3_said_0 : List UInt8 := dkwX3_said_0 ++ dktX3_said_1
theorem dksX3_said_0 : cX3_said.data.toList.drop 0 = dktX3_said_0 := by decide +kernel
theorem dksX3_said_1 : cX3_said.data.toList.drop 23 = dktX3_said_1 := dk_seg dksX3_said_0 23 rfl rfl
theorem dksX3_said_2 : cX3_said.data.toList.drop 47 = dktX3_said_2 := dk_seg dksX3_said_1 24 rfl rfl
theorem dksX3_said_3 : cX3_said.data.toList.drop 71 = dktX3_said_3 := dk_seg dksX3_said_2 24 rfl rfl
theorem dksX3_said_4 : cX3_said.data.toList.drop 95 = dktX3_said_4 := dk_seg dksX3_said_3 24 rfl rfl
theorem dksX3_said_5 : cX3_said.data.toList.drop 117 = dktX3_said_5 := dk_seg dksX3_said_4 22 rfl rfl
theorem dksX3_said_6 : cX3_said.data.toList.drop 141 = dktX3_said_6 := dk_seg dksX3_said_5 24 rfl rfl
theorem dksX3_said_7 : cX3_said.data.toList.drop 164 = dktX3_said_7 := dk_seg dksX3_said_6 23 rfl rfl
theorem dksX3_said_8 : cX3_said.data.toList.drop 188 = dktX3_said_8 := dk_seg dksX3_said_7 24 rfl rfl
theorem dksX3_said_9 : cX3_said.data.toList.drop 211 = dktX3_said_9 := dk_seg dksX3_said_8 23 rfl rfl
theorem dksX3_said_10 : cX3_said.data.toList.drop 233 = dktX3_said_10 := dk_seg dksX3_said_9 22 rfl rfl
theorem dksX3_said_11 : cX3_said.data.toList.drop 256 = dktX3_said_11 := dk_seg dksX3_said_10 23 rfl rfl
theorem dksX3_said_12 : cX3_said.data.toList.drop 280 = dktX3_said_12 := dk_seg dksX3_said_11 24 rfl rfl
theorem dX3_said_0 : decode cX3_said 0 = .ok (.iload_n 1, 1) := dk_27 (dk_at dksX3_said_0 0 rfl rfl)
theorem dX3_said_1 : decode cX3_said 1 = .ok (.iload_n 2, 1) := dk_28 (dk_at dksX3_said_0 1 rfl rfl)
theorem dX3_said_2 : decode cX3_said 2 = .ok (.invokestatic 368, 3) := dk_184 1 112 (dk_at dksX3_said_0 2 rfl rfl)
theorem dX3_said_5 : decode cX3_said 5 = .ok (.ifCond .eq 24, 3) := dk_153 0 24 (dk_at dksX3_said_0 5 rfl rfl)
theorem dX3_said_8 : decode cX3_said 8 = .ok (.iload 4, 2) := dk_21 4 (dk_at dksX3_said_0 8 rfl rfl)
theorem dX3_said_10 : decode cX3_said 10 = .ok (.invokestatic 260, 3) := dk_184 1 4 (dk_at dksX3_said_0 10 rfl rfl)
theorem dX3_said_13 : decode cX3_said 13 = .ok (.ifCond .eq 16, 3) := dk_153 0 16 (dk_at dksX3_said_0 13 rfl rfl)
theorem dX3_said_16 : decode cX3_said 16 = .ok (.iload 5, 2) := dk_21 5 (dk_at dksX3_said_0 16 rfl rfl)
theorem dX3_said_18 : decode cX3_said 18 = .ok (.i2l, 1) := dk_133 (dk_at dksX3_said_0 18 rfl rfl)
theorem dX3_said_19 : decode cX3_said 19 = .ok (.lconst 0, 1) := dk_9 (dk_at dksX3_said_0 19 rfl rfl)
theorem dX3_said_20 : decode cX3_said 20 = .ok (.ldc2_w 319, 3) := dk_20 1 63 (dk_at dksX3_said_0 20 rfl rfl)
theorem dX3_said_23 : decode cX3_said 23 = .ok (.invokestatic 124, 3) := dk_184 0 124 (dk_at dksX3_said_1 0 rfl rfl)
theorem dX3_said_26 : decode cX3_said 26 = .ok (.ifCond .ne 5, 3) := dk_154 0 5 (dk_at dksX3_said_1 3 rfl rfl)
theorem dX3_said_29 : decode cX3_said 29 = .ok (.iconst (-1), 1) := dk_2 (dk_at dksX3_said_1 6 rfl rfl)
theorem dX3_said_30 : decode cX3_said 30 = .ok (.ireturn, 1) := dk_172 (dk_at dksX3_said_1 7 rfl rfl)
theorem dX3_said_31 : decode cX3_said 31 = .ok (.aload_n 0, 1) := dk_42 (dk_at dksX3_said_1 8 rfl rfl)
theorem dX3_said_32 : decode cX3_said 32 = .ok (.getfield 99, 3) := dk_180 0 99 (dk_at dksX3_said_1 9 rfl rfl)
theorem dX3_said_35 : decode cX3_said 35 = .ok (.iload_n 1, 1) := dk_27 (dk_at dksX3_said_1 12 rfl rfl)
theorem dX3_said_36 : decode cX3_said 36 = .ok (.iaload, 1) := dk_46 (dk_at dksX3_said_1 13 rfl rfl)
theorem dX3_said_37 : decode cX3_said 37 = .ok (.iload_n 2, 1) := dk_28 (dk_at dksX3_said_1 14 rfl rfl)
theorem dX3_said_38 : decode cX3_said 38 = .ok (.if_icmp .eq 22, 3) := dk_159 0 22 (dk_at dksX3_said_1 15 rfl rfl)
theorem dX3_said_41 : decode cX3_said 41 = .ok (.aload_n 0, 1) := dk_42 (dk_at dksX3_said_1 18 rfl rfl)
theorem dX3_said_42 : decode cX3_said 42 = .ok (.getfield 99, 3) := dk_180 0 99 (dk_at dksX3_said_1 19 rfl rfl)
theorem dX3_said_45 : decode cX3_said 45 = .ok (.iload_n 1, 1) := dk_27 (dk_at dksX3_said_1 22 rfl rfl)
theorem dX3_said_46 : decode cX3_said 46 = .ok (.iaload, 1) := dk_46 (dk_at dksX3_said_1 23 rfl rfl)
theorem dX3_said_47 : decode cX3_said 47 = .ok (.bipush (-4), 2) := dk_16 252 (dk_at dksX3_said_2 0 rfl rfl)
theorem dX3_said_49 : decode cX3_said 49 = .ok (.if_icmp .ne 8, 3) := dk_160 0 8 (dk_at dksX3_said_2 2 rfl rfl)
theorem dX3_said_52 : decode cX3_said 52 = .ok (.bipush (-11), 2) := dk_16 245 (dk_at dksX3_said_2 5 rfl rfl)
theorem dX3_said_54 : decode cX3_said 54 = .ok (.goto 5, 3) := dk_167 0 5 (dk_at dksX3_said_2 7 rfl rfl)
theorem dX3_said_57 : decode cX3_said 57 = .ok (.bipush (-13), 2) := dk_16 243 (dk_at dksX3_said_2 10 rfl rfl)
theorem dX3_said_59 : decode cX3_said 59 = .ok (.ireturn, 1) := dk_172 (dk_at dksX3_said_2 12 rfl rfl)
theorem dX3_said_60 : decode cX3_said 60 = .ok (.iconst 0, 1) := dk_3 (dk_at dksX3_said_2 13 rfl rfl)
theorem dX3_said_61 : decode cX3_said 61 = .ok (.istore 6, 2) := dk_54 6 (dk_at dksX3_said_2 14 rfl rfl)
theorem dX3_said_63 : decode cX3_said 63 = .ok (.bipush (-4), 2) := dk_16 252 (dk_at dksX3_said_2 16 rfl rfl)
theorem dX3_said_65 : decode cX3_said 65 = .ok (.istore 7, 2) := dk_54 7 (dk_at dksX3_said_2 18 rfl rfl)
theorem dX3_said_67 : decode cX3_said 67 = .ok (.iconst 0, 1) := dk_3 (dk_at dksX3_said_2 20 rfl rfl)
theorem dX3_said_68 : decode cX3_said 68 = .ok (.istore 8, 2) := dk_54 8 (dk_at dksX3_said_2 21 rfl rfl)
theorem dX3_said_70 : decode cX3_said 70 = .ok (.iconst 0, 1) := dk_3 (dk_at dksX3_said_2 23 rfl rfl)
theorem dX3_said_71 : decode cX3_said 71 = .ok (.istore 9, 2) := dk_54 9 (dk_at dksX3_said_3 0 rfl rfl)
theorem dX3_said_73 : decode cX3_said 73 = .ok (.iconst 0, 1) := dk_3 (dk_at dksX3_said_3 2 rfl rfl)
theorem dX3_said_74 : decode cX3_said 74 = .ok (.istore 10, 2) := dk_54 10 (dk_at dksX3_said_3 3 rfl rfl)
theorem dX3_said_76 : decode cX3_said 76 = .ok (.iload 10, 2) := dk_21 10 (dk_at dksX3_said_3 5 rfl rfl)
theorem dX3_said_78 : decode cX3_said 78 = .ok (.aload_n 0, 1) := dk_42 (dk_at dksX3_said_3 7 rfl rfl)
theorem dX3_said_79 : decode cX3_said 79 = .ok (.getfield 203, 3) := dk_180 0 203 (dk_at dksX3_said_3 8 rfl rfl)
theorem dX3_said_82 : decode cX3_said 82 = .ok (.if_icmp .ge 164, 3) := dk_162 0 164 (dk_at dksX3_said_3 11 rfl rfl)
theorem dX3_said_85 : decode cX3_said 85 = .ok (.iload_n 3, 1) := dk_29 (dk_at dksX3_said_3 14 rfl rfl)
theorem dX3_said_86 : decode cX3_said 86 = .ok (.i2l, 1) := dk_133 (dk_at dksX3_said_3 15 rfl rfl)
theorem dX3_said_87 : decode cX3_said 87 = .ok (.iload 10, 2) := dk_21 10 (dk_at dksX3_said_3 16 rfl rfl)
theorem dX3_said_89 : decode cX3_said 89 = .ok (.i2l, 1) := dk_133 (dk_at dksX3_said_3 18 rfl rfl)
theorem dX3_said_90 : decode cX3_said 90 = .ok (.ladd, 1) := dk_97 (dk_at dksX3_said_3 19 rfl rfl)
theorem dX3_said_91 : decode cX3_said 91 = .ok (.lstore 11, 2) := dk_55 11 (dk_at dksX3_said_3 20 rfl rfl)
theorem dX3_said_93 : decode cX3_said 93 = .ok (.lload 11, 2) := dk_22 11 (dk_at dksX3_said_3 22 rfl rfl)
theorem dX3_said_95 : decode cX3_said 95 = .ok (.lconst 0, 1) := dk_9 (dk_at dksX3_said_4 0 rfl rfl)
theorem dX3_said_96 : decode cX3_said 96 = .ok (.lcmp, 1) := dk_148 (dk_at dksX3_said_4 1 rfl rfl)
theorem dX3_said_97 : decode cX3_said 97 = .ok (.ifCond .lt 16, 3) := dk_155 0 16 (dk_at dksX3_said_4 2 rfl rfl)
theorem dX3_said_100 : decode cX3_said 100 = .ok (.lload 11, 2) := dk_22 11 (dk_at dksX3_said_4 5 rfl rfl)
theorem dX3_said_102 : decode cX3_said 102 = .ok (.aload_n 0, 1) := dk_42 (dk_at dksX3_said_4 7 rfl rfl)
theorem dX3_said_103 : decode cX3_said 103 = .ok (.getfield 102, 3) := dk_180 0 102 (dk_at dksX3_said_4 8 rfl rfl)
theorem dX3_said_106 : decode cX3_said 106 = .ok (.iload_n 1, 1) := dk_27 (dk_at dksX3_said_4 11 rfl rfl)
theorem dX3_said_107 : decode cX3_said 107 = .ok (.iaload, 1) := dk_46 (dk_at dksX3_said_4 12 rfl rfl)
theorem dX3_said_108 : decode cX3_said 108 = .ok (.i2l, 1) := dk_133 (dk_at dksX3_said_4 13 rfl rfl)
theorem dX3_said_109 : decode cX3_said 109 = .ok (.lcmp, 1) := dk_148 (dk_at dksX3_said_4 14 rfl rfl)
theorem dX3_said_110 : decode cX3_said 110 = .ok (.ifCond .lt 6, 3) := dk_155 0 6 (dk_at dksX3_said_4 15 rfl rfl)
theorem dX3_said_113 : decode cX3_said 113 = .ok (.bipush (-12), 2) := dk_16 244 (dk_at dksX3_said_4 18 rfl rfl)
theorem dX3_said_115 : decode cX3_said 115 = .ok (.ireturn, 1) := dk_172 (dk_at dksX3_said_4 20 rfl rfl)
theorem dX3_said_116 : decode cX3_said 116 = .ok (.aload_n 0, 1) := dk_42 (dk_at dksX3_said_4 21 rfl rfl)
theorem dX3_said_117 : decode cX3_said 117 = .ok (.getfield 105, 3) := dk_180 0 105 (dk_at dksX3_said_5 0 rfl rfl)
theorem dX3_said_120 : decode cX3_said 120 = .ok (.bipush 40, 2) := dk_16 40 (dk_at dksX3_said_5 3 rfl rfl)
theorem dX3_said_122 : decode cX3_said 122 = .ok (.iload_n 1, 1) := dk_27 (dk_at dksX3_said_5 5 rfl rfl)
theorem dX3_said_123 : decode cX3_said 123 = .ok (.imul, 1) := dk_104 (dk_at dksX3_said_5 6 rfl rfl)
theorem dX3_said_124 : decode cX3_said 124 = .ok (.lload 11, 2) := dk_22 11 (dk_at dksX3_said_5 7 rfl rfl)
theorem dX3_said_126 : decode cX3_said 126 = .ok (.l2i, 1) := dk_136 (dk_at dksX3_said_5 9 rfl rfl)
theorem dX3_said_127 : decode cX3_said 127 = .ok (.iadd, 1) := dk_96 (dk_at dksX3_said_5 10 rfl rfl)
theorem dX3_said_128 : decode cX3_said 128 = .ok (.iaload, 1) := dk_46 (dk_at dksX3_said_5 11 rfl rfl)
theorem dX3_said_129 : decode cX3_said 129 = .ok (.istore 13, 2) := dk_54 13 (dk_at dksX3_said_5 12 rfl rfl)
theorem dX3_said_131 : decode cX3_said 131 = .ok (.iload 13, 2) := dk_21 13 (dk_at dksX3_said_5 14 rfl rfl)
theorem dX3_said_133 : decode cX3_said 133 = .ok (.i2l, 1) := dk_133 (dk_at dksX3_said_5 16 rfl rfl)
theorem dX3_said_134 : decode cX3_said 134 = .ok (.lconst 0, 1) := dk_9 (dk_at dksX3_said_5 17 rfl rfl)
theorem dX3_said_135 : decode cX3_said 135 = .ok (.ldc2_w 269, 3) := dk_20 1 13 (dk_at dksX3_said_5 18 rfl rfl)
theorem dX3_said_138 : decode cX3_said 138 = .ok (.invokestatic 124, 3) := dk_184 0 124 (dk_at dksX3_said_5 21 rfl rfl)
theorem dX3_said_141 : decode cX3_said 141 = .ok (.ifCond .ne 9, 3) := dk_154 0 9 (dk_at dksX3_said_6 0 rfl rfl)
theorem dX3_said_144 : decode cX3_said 144 = .ok (.bipush (-20), 2) := dk_16 236 (dk_at dksX3_said_6 3 rfl rfl)
theorem dX3_said_146 : decode cX3_said 146 = .ok (.iload 10, 2) := dk_21 10 (dk_at dksX3_said_6 5 rfl rfl)
theorem dX3_said_148 : decode cX3_said 148 = .ok (.isub, 1) := dk_100 (dk_at dksX3_said_6 7 rfl rfl)
theorem dX3_said_149 : decode cX3_said 149 = .ok (.ireturn, 1) := dk_172 (dk_at dksX3_said_6 8 rfl rfl)
theorem dX3_said_150 : decode cX3_said 150 = .ok (.iload 13, 2) := dk_21 13 (dk_at dksX3_said_6 9 rfl rfl)
theorem dX3_said_152 : decode cX3_said 152 = .ok (.aload_n 0, 1) := dk_42 (dk_at dksX3_said_6 11 rfl rfl)
theorem dX3_said_153 : decode cX3_said 153 = .ok (.getfield 28, 3) := dk_180 0 28 (dk_at dksX3_said_6 12 rfl rfl)
theorem dX3_said_156 : decode cX3_said 156 = .ok (.iload 10, 2) := dk_21 10 (dk_at dksX3_said_6 15 rfl rfl)
theorem dX3_said_158 : decode cX3_said 158 = .ok (.iaload, 1) := dk_46 (dk_at dksX3_said_6 17 rfl rfl)
theorem dX3_said_159 : decode cX3_said 159 = .ok (.aload_n 0, 1) := dk_42 (dk_at dksX3_said_6 18 rfl rfl)
theorem dX3_said_160 : decode cX3_said 160 = .ok (.iload 10, 2) := dk_21 10 (dk_at dksX3_said_6 19 rfl rfl)
theorem dX3_said_162 : decode cX3_said 162 = .ok (.iload 4, 2) := dk_21 4 (dk_at dksX3_said_6 21 rfl rfl)
theorem dX3_said_164 : decode cX3_said 164 = .ok (.invokevirtual 251, 3) := dk_182 0 251 (dk_at dksX3_said_7 0 rfl rfl)
theorem dX3_said_167 : decode cX3_said 167 = .ok (.imul, 1) := dk_104 (dk_at dksX3_said_7 3 rfl rfl)
theorem dX3_said_168 : decode cX3_said 168 = .ok (.isub, 1) := dk_100 (dk_at dksX3_said_7 4 rfl rfl)
theorem dX3_said_169 : decode cX3_said 169 = .ok (.istore 14, 2) := dk_54 14 (dk_at dksX3_said_7 5 rfl rfl)
theorem dX3_said_171 : decode cX3_said 171 = .ok (.iload 6, 2) := dk_21 6 (dk_at dksX3_said_7 7 rfl rfl)
theorem dX3_said_173 : decode cX3_said 173 = .ok (.iload 14, 2) := dk_21 14 (dk_at dksX3_said_7 9 rfl rfl)
theorem dX3_said_175 : decode cX3_said 175 = .ok (.ifCond .ne 7, 3) := dk_154 0 7 (dk_at dksX3_said_7 11 rfl rfl)
theorem dX3_said_178 : decode cX3_said 178 = .ok (.iconst 1, 1) := dk_4 (dk_at dksX3_said_7 14 rfl rfl)
theorem dX3_said_179 : decode cX3_said 179 = .ok (.goto 4, 3) := dk_167 0 4 (dk_at dksX3_said_7 15 rfl rfl)
theorem dX3_said_182 : decode cX3_said 182 = .ok (.iconst 0, 1) := dk_3 (dk_at dksX3_said_7 18 rfl rfl)
theorem dX3_said_183 : decode cX3_said 183 = .ok (.iadd, 1) := dk_96 (dk_at dksX3_said_7 19 rfl rfl)
theorem dX3_said_184 : decode cX3_said 184 = .ok (.istore 6, 2) := dk_54 6 (dk_at dksX3_said_7 20 rfl rfl)
theorem dX3_said_186 : decode cX3_said 186 = .ok (.iload 14, 2) := dk_21 14 (dk_at dksX3_said_7 22 rfl rfl)
theorem dX3_said_188 : decode cX3_said 188 = .ok (.ifCond .eq 15, 3) := dk_153 0 15 (dk_at dksX3_said_8 0 rfl rfl)
theorem dX3_said_191 : decode cX3_said 191 = .ok (.iload 7, 2) := dk_21 7 (dk_at dksX3_said_8 3 rfl rfl)
theorem dX3_said_193 : decode cX3_said 193 = .ok (.bipush (-4), 2) := dk_16 252 (dk_at dksX3_said_8 5 rfl rfl)
theorem dX3_said_195 : decode cX3_said 195 = .ok (.if_icmp .ne 8, 3) := dk_160 0 8 (dk_at dksX3_said_8 7 rfl rfl)
theorem dX3_said_198 : decode cX3_said 198 = .ok (.iload 10, 2) := dk_21 10 (dk_at dksX3_said_8 10 rfl rfl)
theorem dX3_said_200 : decode cX3_said 200 = .ok (.goto 5, 3) := dk_167 0 5 (dk_at dksX3_said_8 12 rfl rfl)
theorem dX3_said_203 : decode cX3_said 203 = .ok (.iload 7, 2) := dk_21 7 (dk_at dksX3_said_8 15 rfl rfl)
theorem dX3_said_205 : decode cX3_said 205 = .ok (.istore 7, 2) := dk_54 7 (dk_at dksX3_said_8 17 rfl rfl)
theorem dX3_said_207 : decode cX3_said 207 = .ok (.iload 8, 2) := dk_21 8 (dk_at dksX3_said_8 19 rfl rfl)
theorem dX3_said_209 : decode cX3_said 209 = .ok (.iload 14, 2) := dk_21 14 (dk_at dksX3_said_8 21 rfl rfl)
theorem dX3_said_211 : decode cX3_said 211 = .ok (.ifCond .le 8, 3) := dk_158 0 8 (dk_at dksX3_said_9 0 rfl rfl)
theorem dX3_said_214 : decode cX3_said 214 = .ok (.iload 14, 2) := dk_21 14 (dk_at dksX3_said_9 3 rfl rfl)
theorem dX3_said_216 : decode cX3_said 216 = .ok (.goto 4, 3) := dk_167 0 4 (dk_at dksX3_said_9 5 rfl rfl)
theorem dX3_said_219 : decode cX3_said 219 = .ok (.iconst 0, 1) := dk_3 (dk_at dksX3_said_9 8 rfl rfl)
theorem dX3_said_220 : decode cX3_said 220 = .ok (.iadd, 1) := dk_96 (dk_at dksX3_said_9 9 rfl rfl)
theorem dX3_said_221 : decode cX3_said 221 = .ok (.istore 8, 2) := dk_54 8 (dk_at dksX3_said_9 10 rfl rfl)
theorem dX3_said_223 : decode cX3_said 223 = .ok (.iload 9, 2) := dk_21 9 (dk_at dksX3_said_9 12 rfl rfl)
theorem dX3_said_225 : decode cX3_said 225 = .ok (.iload 14, 2) := dk_21 14 (dk_at dksX3_said_9 14 rfl rfl)
theorem dX3_said_227 : decode cX3_said 227 = .ok (.ifCond .ge 9, 3) := dk_156 0 9 (dk_at dksX3_said_9 16 rfl rfl)
theorem dX3_said_230 : decode cX3_said 230 = .ok (.iload 14, 2) := dk_21 14 (dk_at dksX3_said_9 19 rfl rfl)
theorem dX3_said_232 : decode cX3_said 232 = .ok (.ineg, 1) := dk_116 (dk_at dksX3_said_9 21 rfl rfl)
theorem dX3_said_233 : decode cX3_said 233 = .ok (.goto 4, 3) := dk_167 0 4 (dk_at dksX3_said_10 0 rfl rfl)
theorem dX3_said_236 : decode cX3_said 236 = .ok (.iconst 0, 1) := dk_3 (dk_at dksX3_said_10 3 rfl rfl)
theorem dX3_said_237 : decode cX3_said 237 = .ok (.iadd, 1) := dk_96 (dk_at dksX3_said_10 4 rfl rfl)
theorem dX3_said_238 : decode cX3_said 238 = .ok (.istore 9, 2) := dk_54 9 (dk_at dksX3_said_10 5 rfl rfl)
theorem dX3_said_240 : decode cX3_said 240 = .ok (.iinc 10 1, 3) := dk_132 10 1 (dk_at dksX3_said_10 7 rfl rfl)
theorem dX3_said_243 : decode cX3_said 243 = .ok (.goto (-167), 3) := dk_167 255 89 (dk_at dksX3_said_10 10 rfl rfl)
theorem dX3_said_246 : decode cX3_said 246 = .ok (.iload 5, 2) := dk_21 5 (dk_at dksX3_said_10 13 rfl rfl)
theorem dX3_said_248 : decode cX3_said 248 = .ok (.ifCond .ne 8, 3) := dk_154 0 8 (dk_at dksX3_said_10 15 rfl rfl)
theorem dX3_said_251 : decode cX3_said 251 = .ok (.iload 6, 2) := dk_21 6 (dk_at dksX3_said_10 18 rfl rfl)
theorem dX3_said_253 : decode cX3_said 253 = .ok (.goto 27, 3) := dk_167 0 27 (dk_at dksX3_said_10 20 rfl rfl)
theorem dX3_said_256 : decode cX3_said 256 = .ok (.iload 5, 2) := dk_21 5 (dk_at dksX3_said_11 0 rfl rfl)
theorem dX3_said_258 : decode cX3_said 258 = .ok (.iconst 1, 1) := dk_4 (dk_at dksX3_said_11 2 rfl rfl)
theorem dX3_said_259 : decode cX3_said 259 = .ok (.if_icmp .ne 8, 3) := dk_160 0 8 (dk_at dksX3_said_11 3 rfl rfl)
theorem dX3_said_262 : decode cX3_said 262 = .ok (.iload 7, 2) := dk_21 7 (dk_at dksX3_said_11 6 rfl rfl)
theorem dX3_said_264 : decode cX3_said 264 = .ok (.goto 16, 3) := dk_167 0 16 (dk_at dksX3_said_11 8 rfl rfl)
theorem dX3_said_267 : decode cX3_said 267 = .ok (.iload 5, 2) := dk_21 5 (dk_at dksX3_said_11 11 rfl rfl)
theorem dX3_said_269 : decode cX3_said 269 = .ok (.iconst 2, 1) := dk_5 (dk_at dksX3_said_11 13 rfl rfl)
theorem dX3_said_270 : decode cX3_said 270 = .ok (.if_icmp .ne 8, 3) := dk_160 0 8 (dk_at dksX3_said_11 14 rfl rfl)
theorem dX3_said_273 : decode cX3_said 273 = .ok (.iload 8, 2) := dk_21 8 (dk_at dksX3_said_11 17 rfl rfl)
theorem dX3_said_275 : decode cX3_said 275 = .ok (.goto 5, 3) := dk_167 0 5 (dk_at dksX3_said_11 19 rfl rfl)
theorem dX3_said_278 : decode cX3_said 278 = .ok (.iload 9, 2) := dk_21 9 (dk_at dksX3_said_11 22 rfl rfl)
theorem dX3_said_280 : decode cX3_said 280 = .ok (.ireturn, 1) := dk_172 (dk_at dksX3_said_12 0 rfl rfl)
abbrev cX3_count : ByteArray := prog_11_method_81_code
def yX3_count : MethodName := ⟨RX3, "count", "(I)I"⟩
def dkwX3_count_6 : List UInt8 := [2, 172]
abbrev dktX3_count_6 : List UInt8 := dkwX3_count_6 ++ []
def dkwX3_count_5 : List UInt8 := [3, 46, 16, 252, 160, 0, 8, 16, 252, 167, 0, 9, 42, 180, 0, 102, 3, 46, 172, 42, 180, 0, 206, 172]
abbrev dktX3_count_5 : List UInt8 := dkwX3_count_5 ++ dktX3_count_6
def dkwX3_count_4 : List UInt8 := [42, 180, 0, 203, 172, 42, 180, 0, 67, 172, 42, 180, 0, 222, 172, 42, 180, 0, 119, 172, 42, 180, 0, 99]
abbrev dktX3_count_4 : List UInt8 := dkwX3_count_4 ++ dktX3_count_5
def dkwX3_count_3 : List UInt8 := [170, 0, 0, 0, 85, 0, 0, 0, 0, 0, 0, 0, 5, 0, 0, 0, 37, 0, 0, 0, 42, 0, 0, 0, 47, 0, 0, 0, 52, 0, 0, 0, 57, 0, 0, 0, 80]
abbrev dktX3_count_3 : List UInt8 := dkwX3_count_3 ++ dktX3_count_4
def dkwX3_count_2 : List UInt8 := [42, 180, 0, 74, 27, 16, 20, 100, 46, 172, 27]
abbrev dktX3_count_2 : List UInt8 := dkwX3_count_2 ++ dktX3_count_3
def dkwX3_count_1 : List UInt8 := [16, 10, 100, 46, 172, 27, 133, 20, 1, 115, 16, 19, 42, 180, 0, 67, 96, 133, 184, 0, 124, 153, 0, 13]
abbrev dktX3_count_1 : List UInt8 := dkwX3_count_1 ++ dktX3_count_2
def dkwX3_count_0 : List UInt8 := [27, 133, 20, 0, 247, 16, 9, 42, 180, 0, 67, 96, 133, 184, 0, 124, 153, 0, 13, 42, 180, 0, 71, 27]
abbrev dktX3_count_0 : List UInt8 := dkwX3_count_0 ++ dktX3_count_1
theorem dksX3_count_0 : cX3_count.data.toList.drop 0 = dktX3_count_0 := by decide +kernel
theorem dksX3_count_1 : cX3_count.data.toList.drop 24 = dktX3_count_1 := dk_seg dksX3_count_0 24 rfl rfl
theorem dksX3_count_2 : cX3_count.data.toList.drop 48 = dktX3_count_2 := dk_seg dksX3_count_1 24 rfl rfl
theorem dksX3_count_3 : cX3_count.data.toList.drop 59 = dktX3_count_3 := dk_seg dksX3_count_2 11 rfl rfl
theorem dksX3_count_4 : cX3_count.data.toList.drop 96 = dktX3_count_4 := dk_seg dksX3_count_3 37 rfl rfl
theorem dksX3_count_5 : cX3_count.data.toList.drop 120 = dktX3_count_5 := dk_seg dksX3_count_4 24 rfl rfl
theorem dksX3_count_6 : cX3_count.data.toList.drop 144 = dktX3_count_6 := dk_seg dksX3_count_5 24 rfl rfl
theorem dX3_count_0 : decode cX3_count 0 = .ok (.iload_n 1, 1) := dk_27 (dk_at dksX3_count_0 0 rfl rfl)
theorem dX3_count_1 : decode cX3_count 1 = .ok (.i2l, 1) := dk_133 (dk_at dksX3_count_0 1 rfl rfl)
theorem dX3_count_2 : decode cX3_count 2 = .ok (.ldc2_w 247, 3) := dk_20 0 247 (dk_at dksX3_count_0 2 rfl rfl)
theorem dX3_count_5 : decode cX3_count 5 = .ok (.bipush 9, 2) := dk_16 9 (dk_at dksX3_count_0 5 rfl rfl)
theorem dX3_count_7 : decode cX3_count 7 = .ok (.aload_n 0, 1) := dk_42 (dk_at dksX3_count_0 7 rfl rfl)
theorem dX3_count_8 : decode cX3_count 8 = .ok (.getfield 67, 3) := dk_180 0 67 (dk_at dksX3_count_0 8 rfl rfl)
theorem dX3_count_11 : decode cX3_count 11 = .ok (.iadd, 1) := dk_96 (dk_at dksX3_count_0 11 rfl rfl)
theorem dX3_count_12 : decode cX3_count 12 = .ok (.i2l, 1) := dk_133 (dk_at dksX3_count_0 12 rfl rfl)
theorem dX3_count_13 : decode cX3_count 13 = .ok (.invokestatic 124, 3) := dk_184 0 124 (dk_at dksX3_count_0 13 rfl rfl)
theorem dX3_count_16 : decode cX3_count 16 = .ok (.ifCond .eq 13, 3) := dk_153 0 13 (dk_at dksX3_count_0 16 rfl rfl)
theorem dX3_count_19 : decode cX3_count 19 = .ok (.aload_n 0, 1) := dk_42 (dk_at dksX3_count_0 19 rfl rfl)
theorem dX3_count_20 : decode cX3_count 20 = .ok (.getfield 71, 3) := dk_180 0 71 (dk_at dksX3_count_0 20 rfl rfl)
theorem dX3_count_23 : decode cX3_count 23 = .ok (.iload_n 1, 1) := dk_27 (dk_at dksX3_count_0 23 rfl rfl)
theorem dX3_count_24 : decode cX3_count 24 = .ok (.bipush 10, 2) := dk_16 10 (dk_at dksX3_count_1 0 rfl rfl)
theorem dX3_count_26 : decode cX3_count 26 = .ok (.isub, 1) := dk_100 (dk_at dksX3_count_1 2 rfl rfl)
theorem dX3_count_27 : decode cX3_count 27 = .ok (.iaload, 1) := dk_46 (dk_at dksX3_count_1 3 rfl rfl)
theorem dX3_count_28 : decode cX3_count 28 = .ok (.ireturn, 1) := dk_172 (dk_at dksX3_count_1 4 rfl rfl)
theorem dX3_count_29 : decode cX3_count 29 = .ok (.iload_n 1, 1) := dk_27 (dk_at dksX3_count_1 5 rfl rfl)
theorem dX3_count_30 : decode cX3_count 30 = .ok (.i2l, 1) := dk_133 (dk_at dksX3_count_1 6 rfl rfl)
theorem dX3_count_31 : decode cX3_count 31 = .ok (.ldc2_w 371, 3) := dk_20 1 115 (dk_at dksX3_count_1 7 rfl rfl)
theorem dX3_count_34 : decode cX3_count 34 = .ok (.bipush 19, 2) := dk_16 19 (dk_at dksX3_count_1 10 rfl rfl)
theorem dX3_count_36 : decode cX3_count 36 = .ok (.aload_n 0, 1) := dk_42 (dk_at dksX3_count_1 12 rfl rfl)
theorem dX3_count_37 : decode cX3_count 37 = .ok (.getfield 67, 3) := dk_180 0 67 (dk_at dksX3_count_1 13 rfl rfl)
theorem dX3_count_40 : decode cX3_count 40 = .ok (.iadd, 1) := dk_96 (dk_at dksX3_count_1 16 rfl rfl)
theorem dX3_count_41 : decode cX3_count 41 = .ok (.i2l, 1) := dk_133 (dk_at dksX3_count_1 17 rfl rfl)
theorem dX3_count_42 : decode cX3_count 42 = .ok (.invokestatic 124, 3) := dk_184 0 124 (dk_at dksX3_count_1 18 rfl rfl)
theorem dX3_count_45 : decode cX3_count 45 = .ok (.ifCond .eq 13, 3) := dk_153 0 13 (dk_at dksX3_count_1 21 rfl rfl)
theorem dX3_count_48 : decode cX3_count 48 = .ok (.aload_n 0, 1) := dk_42 (dk_at dksX3_count_2 0 rfl rfl)
theorem dX3_count_49 : decode cX3_count 49 = .ok (.getfield 74, 3) := dk_180 0 74 (dk_at dksX3_count_2 1 rfl rfl)
theorem dX3_count_52 : decode cX3_count 52 = .ok (.iload_n 1, 1) := dk_27 (dk_at dksX3_count_2 4 rfl rfl)
theorem dX3_count_53 : decode cX3_count 53 = .ok (.bipush 20, 2) := dk_16 20 (dk_at dksX3_count_2 5 rfl rfl)
theorem dX3_count_55 : decode cX3_count 55 = .ok (.isub, 1) := dk_100 (dk_at dksX3_count_2 7 rfl rfl)
theorem dX3_count_56 : decode cX3_count 56 = .ok (.iaload, 1) := dk_46 (dk_at dksX3_count_2 8 rfl rfl)
theorem dX3_count_57 : decode cX3_count 57 = .ok (.ireturn, 1) := dk_172 (dk_at dksX3_count_2 9 rfl rfl)
theorem dX3_count_58 : decode cX3_count 58 = .ok (.iload_n 1, 1) := dk_27 (dk_at dksX3_count_2 10 rfl rfl)
theorem dX3_count_59 : decode cX3_count 59 = .ok (.tableswitch 85 0 5 #[37, 42, 47, 52, 57, 80], 37) := by decide +kernel
theorem dX3_count_96 : decode cX3_count 96 = .ok (.aload_n 0, 1) := dk_42 (dk_at dksX3_count_4 0 rfl rfl)
theorem dX3_count_97 : decode cX3_count 97 = .ok (.getfield 203, 3) := dk_180 0 203 (dk_at dksX3_count_4 1 rfl rfl)
theorem dX3_count_100 : decode cX3_count 100 = .ok (.ireturn, 1) := dk_172 (dk_at dksX3_count_4 4 rfl rfl)
theorem dX3_count_101 : decode cX3_count 101 = .ok (.aload_n 0, 1) := dk_42 (dk_at dksX3_count_4 5 rfl rfl)
theorem dX3_count_102 : decode cX3_count 102 = .ok (.getfield 67, 3) := dk_180 0 67 (dk_at dksX3_count_4 6 rfl rfl)
theorem dX3_count_105 : decode cX3_count 105 = .ok (.ireturn, 1) := dk_172 (dk_at dksX3_count_4 9 rfl rfl)
theorem dX3_count_106 : decode cX3_count 106 = .ok (.aload_n 0, 1) := dk_42 (dk_at dksX3_count_4 10 rfl rfl)
theorem dX3_count_107 : decode cX3_count 107 = .ok (.getfield 222, 3) := dk_180 0 222 (dk_at dksX3_count_4 11 rfl rfl)
theorem dX3_count_110 : decode cX3_count 110 = .ok (.ireturn, 1) := dk_172 (dk_at dksX3_count_4 14 rfl rfl)
theorem dX3_count_111 : decode cX3_count 111 = .ok (.aload_n 0, 1) := dk_42 (dk_at dksX3_count_4 15 rfl rfl)
theorem dX3_count_112 : decode cX3_count 112 = .ok (.getfield 119, 3) := dk_180 0 119 (dk_at dksX3_count_4 16 rfl rfl)
theorem dX3_count_115 : decode cX3_count 115 = .ok (.ireturn, 1) := dk_172 (dk_at dksX3_count_4 19 rfl rfl)
theorem dX3_count_116 : decode cX3_count 116 = .ok (.aload_n 0, 1) := dk_42 (dk_at dksX3_count_4 20 rfl rfl)
theorem dX3_count_117 : decode cX3_count 117 = .ok (.getfield 99, 3) := dk_180 0 99 (dk_at dksX3_count_4 21 rfl rfl)
theorem dX3_count_120 : decode cX3_count 120 = .ok (.iconst 0, 1) := dk_3 (dk_at dksX3_count_5 0 rfl rfl)
theorem dX3_count_121 : decode cX3_count 121 = .ok (.iaload, 1) := dk_46 (dk_at dksX3_count_5 1 rfl rfl)
theorem dX3_count_122 : decode cX3_count 122 = .ok (.bipush (-4), 2) := dk_16 252 (dk_at dksX3_count_5 2 rfl rfl)
theorem dX3_count_124 : decode cX3_count 124 = .ok (.if_icmp .ne 8, 3) := dk_160 0 8 (dk_at dksX3_count_5 4 rfl rfl)
theorem dX3_count_127 : decode cX3_count 127 = .ok (.bipush (-4), 2) := dk_16 252 (dk_at dksX3_count_5 7 rfl rfl)
theorem dX3_count_129 : decode cX3_count 129 = .ok (.goto 9, 3) := dk_167 0 9 (dk_at dksX3_count_5 9 rfl rfl)
theorem dX3_count_132 : decode cX3_count 132 = .ok (.aload_n 0, 1) := dk_42 (dk_at dksX3_count_5 12 rfl rfl)
theorem dX3_count_133 : decode cX3_count 133 = .ok (.getfield 102, 3) := dk_180 0 102 (dk_at dksX3_count_5 13 rfl rfl)
theorem dX3_count_136 : decode cX3_count 136 = .ok (.iconst 0, 1) := dk_3 (dk_at dksX3_count_5 16 rfl rfl)
theorem dX3_count_137 : decode cX3_count 137 = .ok (.iaload, 1) := dk_46 (dk_at dksX3_count_5 17 rfl rfl)
theorem dX3_count_138 : decode cX3_count 138 = .ok (.ireturn, 1) := dk_172 (dk_at dksX3_count_5 18 rfl rfl)
theorem dX3_count_139 : decode cX3_count 139 = .ok (.aload_n 0, 1) := dk_42 (dk_at dksX3_count_5 19 rfl rfl)
theorem dX3_count_140 : decode cX3_count 140 = .ok (.getfield 206, 3) := dk_180 0 206 (dk_at dksX3_count_5 20 rfl rfl)
theorem dX3_count_143 : decode cX3_count 143 = .ok (.ireturn, 1) := dk_172 (dk_at dksX3_count_5 23 rfl rfl)
theorem dX3_count_144 : decode cX3_count 144 = .ok (.iconst (-1), 1) := dk_2 (dk_at dksX3_count_6 0 rfl rfl)
theorem dX3_count_145 : decode cX3_count 145 = .ok (.ireturn, 1) := dk_172 (dk_at dksX3_count_6 1 rfl rfl)
theorem q63 : (Jvm.Cond.initialized "EventCountersModel") ∈ lw_all := lw_g (lw_at lw_m1 4 rfl) rfl
theorem q965 : (Jvm.Cond.instantiable "EventCountersModel" (56 : Nat)) ∈ lw_all := lw_g (lw_at lw_m4 186 rfl) rfl
theorem q967 : (Jvm.Cond.instanceMethod ({ cls := "EventCountersModel", name := "<init>", desc := "()V" } : Jvm.MethodName)) ∈ lw_all := lw_g (lw_at lw_m4 188 rfl) rfl
theorem q968 : (Jvm.Cond.code ({ cls := "EventCountersModel", name := "<init>", desc := "()V" } : Jvm.MethodName) prog_11_method_1_code (2 : Nat) (Option.none : Option Jvm.ClassFile.FieldType)) ∈ lw_all := lw_g (lw_at lw_m4 189 rfl) rfl
theorem q969 : (Jvm.Cond.methodLink "EventCountersModel" (1 : Nat) ({ cls := "java/lang/Object", name := "<init>", desc := "()V" } : Jvm.MethodName)) ∈ lw_all := lw_g (lw_at lw_m4 190 rfl) rfl
theorem q970 : (Jvm.Cond.methodLink "EventCountersModel" (108 : Nat) ({ cls := "EventCountersModel", name := "freshCounters", desc := "()V" } : Jvm.MethodName)) ∈ lw_all := lw_g (lw_at lw_m4 191 rfl) rfl
theorem q971 : (Jvm.Cond.privateMethod ({ cls := "EventCountersModel", name := "freshCounters", desc := "()V" } : Jvm.MethodName)) ∈ lw_tbl := lw_at lw_m4 192 rfl
theorem q972 : (Jvm.Cond.instanceMethod ({ cls := "EventCountersModel", name := "freshCounters", desc := "()V" } : Jvm.MethodName)) ∈ lw_all := lw_g (lw_at lw_m4 193 rfl) rfl
theorem q973 : (Jvm.Cond.code ({ cls := "EventCountersModel", name := "freshCounters", desc := "()V" } : Jvm.MethodName) prog_11_method_42_code (2 : Nat) (Option.none : Option Jvm.ClassFile.FieldType)) ∈ lw_all := lw_g (lw_at lw_m4 194 rfl) rfl
theorem q974 : (Jvm.Cond.fieldLink "EventCountersModel" (203 : Nat) "EventCountersModel" "lines" "I") ∈ lw_all := lw_g (lw_at lw_m4 195 rfl) rfl
theorem q975 : (Jvm.Cond.fieldLink "EventCountersModel" (7 : Nat) "EventCountersModel" "ticks" "[I") ∈ lw_all := lw_g (lw_at lw_m4 196 rfl) rfl
theorem q976 : (Jvm.Cond.fieldLink "EventCountersModel" (13 : Nat) "EventCountersModel" "makes" "[I") ∈ lw_all := lw_g (lw_at lw_m4 197 rfl) rfl
theorem q977 : (Jvm.Cond.fieldLink "EventCountersModel" (16 : Nat) "EventCountersModel" "around" "[I") ∈ lw_all := lw_g (lw_at lw_m4 198 rfl) rfl
theorem q978 : (Jvm.Cond.fieldLink "EventCountersModel" (206 : Nat) "EventCountersModel" "loops" "I") ∈ lw_all := lw_g (lw_at lw_m4 199 rfl) rfl
theorem q979 : (Jvm.Cond.fieldLink "EventCountersModel" (19 : Nat) "EventCountersModel" "often" "[I") ∈ lw_all := lw_g (lw_at lw_m4 200 rfl) rfl
theorem q980 : (Jvm.Cond.fieldLink "EventCountersModel" (22 : Nat) "EventCountersModel" "outer" "[I") ∈ lw_all := lw_g (lw_at lw_m4 201 rfl) rfl
theorem q981 : (Jvm.Cond.fieldLink "EventCountersModel" (225 : Nat) "EventCountersModel" "steps" "I") ∈ lw_all := lw_g (lw_at lw_m4 202 rfl) rfl
theorem q982 : (Jvm.Cond.fieldLink "EventCountersModel" (25 : Nat) "EventCountersModel" "lineOf" "[I") ∈ lw_all := lw_g (lw_at lw_m4 203 rfl) rfl
theorem q983 : (Jvm.Cond.fieldLink "EventCountersModel" (28 : Nat) "EventCountersModel" "times" "[I") ∈ lw_all := lw_g (lw_at lw_m4 204 rfl) rfl
theorem q984 : (Jvm.Cond.fieldLink "EventCountersModel" (212 : Nat) "EventCountersModel" "allTicks" "I") ∈ lw_all := lw_g (lw_at lw_m4 205 rfl) rfl
theorem q985 : (Jvm.Cond.fieldLink "EventCountersModel" (175 : Nat) "EventCountersModel" "dLines" "I") ∈ lw_all := lw_g (lw_at lw_m4 206 rfl) rfl
theorem q986 : (Jvm.Cond.fieldLink "EventCountersModel" (31 : Nat) "EventCountersModel" "dTicks" "[I") ∈ lw_all := lw_g (lw_at lw_m4 207 rfl) rfl
theorem q987 : (Jvm.Cond.fieldLink "EventCountersModel" (34 : Nat) "EventCountersModel" "dMakes" "[I") ∈ lw_all := lw_g (lw_at lw_m4 208 rfl) rfl
theorem q988 : (Jvm.Cond.fieldLink "EventCountersModel" (37 : Nat) "EventCountersModel" "dAround" "[I") ∈ lw_all := lw_g (lw_at lw_m4 209 rfl) rfl
theorem q989 : (Jvm.Cond.fieldLink "EventCountersModel" (187 : Nat) "EventCountersModel" "dLoops" "I") ∈ lw_all := lw_g (lw_at lw_m4 210 rfl) rfl
theorem q990 : (Jvm.Cond.fieldLink "EventCountersModel" (40 : Nat) "EventCountersModel" "dOften" "[I") ∈ lw_all := lw_g (lw_at lw_m4 211 rfl) rfl
theorem q991 : (Jvm.Cond.fieldLink "EventCountersModel" (43 : Nat) "EventCountersModel" "dOuter" "[I") ∈ lw_all := lw_g (lw_at lw_m4 212 rfl) rfl
theorem q992 : (Jvm.Cond.fieldLink "EventCountersModel" (46 : Nat) "EventCountersModel" "open" "[I") ∈ lw_all := lw_g (lw_at lw_m4 213 rfl) rfl
theorem q993 : (Jvm.Cond.fieldLink "EventCountersModel" (181 : Nat) "EventCountersModel" "depth" "I") ∈ lw_all := lw_g (lw_at lw_m4 214 rfl) rfl
theorem q994 : (Jvm.Cond.fieldLink "EventCountersModel" (49 : Nat) "EventCountersModel" "row" "[I") ∈ lw_all := lw_g (lw_at lw_m4 215 rfl) rfl
theorem q995 : (Jvm.Cond.fieldLink "EventCountersModel" (52 : Nat) "EventCountersModel" "dRow" "[I") ∈ lw_all := lw_g (lw_at lw_m4 216 rfl) rfl
theorem q996 : (Jvm.Cond.fieldLink "EventCountersModel" (209 : Nat) "EventCountersModel" "rowLong" "I") ∈ lw_all := lw_g (lw_at lw_m4 217 rfl) rfl
theorem q997 : (Jvm.Cond.fieldLink "EventCountersModel" (184 : Nat) "EventCountersModel" "dRowLong" "I") ∈ lw_all := lw_g (lw_at lw_m4 218 rfl) rfl
theorem q998 : (Jvm.Cond.fieldLink "EventCountersModel" (55 : Nat) "EventCountersModel" "tape" "[I") ∈ lw_all := lw_g (lw_at lw_m4 219 rfl) rfl
theorem q999 : (Jvm.Cond.fieldLink "EventCountersModel" (119 : Nat) "EventCountersModel" "taped" "I") ∈ lw_all := lw_g (lw_at lw_m4 220 rfl) rfl
theorem q1000 : (Jvm.Cond.fieldLink "EventCountersModel" (137 : Nat) "EventCountersModel" "pos" "I") ∈ lw_all := lw_g (lw_at lw_m4 221 rfl) rfl
theorem q1001 : (Jvm.Cond.fieldLink "EventCountersModel" (131 : Nat) "EventCountersModel" "from" "I") ∈ lw_all := lw_g (lw_at lw_m4 222 rfl) rfl
theorem q1002 : (Jvm.Cond.fieldLink "EventCountersModel" (148 : Nat) "EventCountersModel" "sort" "I") ∈ lw_all := lw_g (lw_at lw_m4 223 rfl) rfl
theorem q1003 : (Jvm.Cond.fieldLink "EventCountersModel" (159 : Nat) "EventCountersModel" "value" "I") ∈ lw_all := lw_g (lw_at lw_m4 224 rfl) rfl
theorem q1004 : (Jvm.Cond.fieldLink "EventCountersModel" (128 : Nat) "EventCountersModel" "fault" "I") ∈ lw_all := lw_g (lw_at lw_m4 225 rfl) rfl
theorem q1005 : (Jvm.Cond.fieldLink "EventCountersModel" (134 : Nat) "EventCountersModel" "wrongAt" "I") ∈ lw_all := lw_g (lw_at lw_m4 226 rfl) rfl
theorem q1006 : (Jvm.Cond.fieldLink "EventCountersModel" (58 : Nat) "EventCountersModel" "left" "[I") ∈ lw_all := lw_g (lw_at lw_m4 227 rfl) rfl
theorem q1007 : (Jvm.Cond.fieldLink "EventCountersModel" (61 : Nat) "EventCountersModel" "began" "[I") ∈ lw_all := lw_g (lw_at lw_m4 228 rfl) rfl
theorem q1008 : (Jvm.Cond.fieldLink "EventCountersModel" (276 : Nat) "EventCountersModel" "keptLines" "I") ∈ lw_all := lw_g (lw_at lw_m4 229 rfl) rfl
theorem q1009 : (Jvm.Cond.fieldLink "EventCountersModel" (64 : Nat) "EventCountersModel" "kept" "[I") ∈ lw_all := lw_g (lw_at lw_m4 230 rfl) rfl
theorem q1010 : (Jvm.Cond.fieldLink "EventCountersModel" (67 : Nat) "EventCountersModel" "counters" "I") ∈ lw_all := lw_g (lw_at lw_m4 231 rfl) rfl
theorem q1011 : (Jvm.Cond.fieldLink "EventCountersModel" (71 : Nat) "EventCountersModel" "masks" "[I") ∈ lw_all := lw_g (lw_at lw_m4 232 rfl) rfl
theorem q1012 : (Jvm.Cond.fieldLink "EventCountersModel" (74 : Nat) "EventCountersModel" "widths" "[I") ∈ lw_all := lw_g (lw_at lw_m4 233 rfl) rfl
theorem q1013 : (Jvm.Cond.fieldLink "EventCountersModel" (77 : Nat) "EventCountersModel" "fewest" "[I") ∈ lw_all := lw_g (lw_at lw_m4 234 rfl) rfl
theorem q1014 : (Jvm.Cond.fieldLink "EventCountersModel" (80 : Nat) "EventCountersModel" "goTogether" "[Z") ∈ lw_all := lw_g (lw_at lw_m4 235 rfl) rfl
theorem q1015 : (Jvm.Cond.fieldLink "EventCountersModel" (292 : Nat) "EventCountersModel" "roundMany" "I") ∈ lw_all := lw_g (lw_at lw_m4 236 rfl) rfl
theorem q1016 : (Jvm.Cond.fieldLink "EventCountersModel" (84 : Nat) "EventCountersModel" "rounds" "[I") ∈ lw_all := lw_g (lw_at lw_m4 237 rfl) rfl
theorem q1017 : (Jvm.Cond.fieldLink "EventCountersModel" (303 : Nat) "EventCountersModel" "counted" "J") ∈ lw_all := lw_g (lw_at lw_m4 238 rfl) rfl
theorem q1018 : (Jvm.Cond.fieldLink "EventCountersModel" (307 : Nat) "EventCountersModel" "countedTicks" "J") ∈ lw_all := lw_g (lw_at lw_m4 239 rfl) rfl
theorem q1019 : (Jvm.Cond.fieldLink "EventCountersModel" (325 : Nat) "EventCountersModel" "samples" "I") ∈ lw_all := lw_g (lw_at lw_m5 0 rfl) rfl
theorem q1020 : (Jvm.Cond.fieldLink "EventCountersModel" (328 : Nat) "EventCountersModel" "lost" "I") ∈ lw_all := lw_g (lw_at lw_m5 1 rfl) rfl
theorem q1021 : (Jvm.Cond.fieldLink "EventCountersModel" (87 : Nat) "EventCountersModel" "shown" "[I") ∈ lw_all := lw_g (lw_at lw_m5 2 rfl) rfl
theorem q1022 : (Jvm.Cond.fieldLink "EventCountersModel" (355 : Nat) "EventCountersModel" "looks" "I") ∈ lw_all := lw_g (lw_at lw_m5 3 rfl) rfl
theorem q1023 : (Jvm.Cond.fieldLink "EventCountersModel" (222 : Nat) "EventCountersModel" "runs" "I") ∈ lw_all := lw_g (lw_at lw_m5 4 rfl) rfl
theorem q1024 : (Jvm.Cond.fieldLink "EventCountersModel" (90 : Nat) "EventCountersModel" "runCounter" "[I") ∈ lw_all := lw_g (lw_at lw_m5 5 rfl) rfl
theorem q1025 : (Jvm.Cond.fieldLink "EventCountersModel" (93 : Nat) "EventCountersModel" "runEvent" "[I") ∈ lw_all := lw_g (lw_at lw_m5 6 rfl) rfl
theorem q1026 : (Jvm.Cond.fieldLink "EventCountersModel" (96 : Nat) "EventCountersModel" "runShown" "[I") ∈ lw_all := lw_g (lw_at lw_m5 7 rfl) rfl
theorem q1027 : (Jvm.Cond.fieldLink "EventCountersModel" (99 : Nat) "EventCountersModel" "lanes" "[I") ∈ lw_all := lw_g (lw_at lw_m5 8 rfl) rfl
theorem q1028 : (Jvm.Cond.fieldLink "EventCountersModel" (102 : Nat) "EventCountersModel" "sizes" "[I") ∈ lw_all := lw_g (lw_at lw_m5 9 rfl) rfl
theorem q1029 : (Jvm.Cond.fieldLink "EventCountersModel" (105 : Nat) "EventCountersModel" "cells" "[I") ∈ lw_all := lw_g (lw_at lw_m5 10 rfl) rfl
theorem q1030 : (Jvm.Cond.lays "EventCountersModel" "EventCountersModel" "lines" "I") ∈ lw_all := lw_g (lw_at lw_m5 11 rfl) rfl
theorem q1031 : (Jvm.Cond.soleField "EventCountersModel" "lines") ∈ lw_all := lw_g (lw_at lw_m5 12 rfl) rfl
theorem q1032 : (Jvm.Cond.laysFinal "EventCountersModel" "EventCountersModel" "ticks" "[I") ∈ lw_all := lw_g (lw_at lw_m5 13 rfl) rfl
theorem q1033 : (Jvm.Cond.soleField "EventCountersModel" "ticks") ∈ lw_all := lw_g (lw_at lw_m5 14 rfl) rfl
theorem q1034 : (Jvm.Cond.laysFinal "EventCountersModel" "EventCountersModel" "makes" "[I") ∈ lw_all := lw_g (lw_at lw_m5 15 rfl) rfl
theorem q1035 : (Jvm.Cond.soleField "EventCountersModel" "makes") ∈ lw_all := lw_g (lw_at lw_m5 16 rfl) rfl
theorem q1036 : (Jvm.Cond.laysFinal "EventCountersModel" "EventCountersModel" "around" "[I") ∈ lw_all := lw_g (lw_at lw_m5 17 rfl) rfl
theorem q1037 : (Jvm.Cond.soleField "EventCountersModel" "around") ∈ lw_all := lw_g (lw_at lw_m5 18 rfl) rfl
theorem q1038 : (Jvm.Cond.lays "EventCountersModel" "EventCountersModel" "loops" "I") ∈ lw_all := lw_g (lw_at lw_m5 19 rfl) rfl
theorem q1039 : (Jvm.Cond.soleField "EventCountersModel" "loops") ∈ lw_all := lw_g (lw_at lw_m5 20 rfl) rfl
theorem q1040 : (Jvm.Cond.laysFinal "EventCountersModel" "EventCountersModel" "often" "[I") ∈ lw_all := lw_g (lw_at lw_m5 21 rfl) rfl
theorem q1041 : (Jvm.Cond.soleField "EventCountersModel" "often") ∈ lw_all := lw_g (lw_at lw_m5 22 rfl) rfl
theorem q1042 : (Jvm.Cond.laysFinal "EventCountersModel" "EventCountersModel" "outer" "[I") ∈ lw_all := lw_g (lw_at lw_m5 23 rfl) rfl
theorem q1043 : (Jvm.Cond.soleField "EventCountersModel" "outer") ∈ lw_all := lw_g (lw_at lw_m5 24 rfl) rfl
theorem q1044 : (Jvm.Cond.lays "EventCountersModel" "EventCountersModel" "steps" "I") ∈ lw_all := lw_g (lw_at lw_m5 25 rfl) rfl
theorem q1045 : (Jvm.Cond.soleField "EventCountersModel" "steps") ∈ lw_all := lw_g (lw_at lw_m5 26 rfl) rfl
theorem q1046 : (Jvm.Cond.laysFinal "EventCountersModel" "EventCountersModel" "lineOf" "[I") ∈ lw_all := lw_g (lw_at lw_m5 27 rfl) rfl
theorem q1047 : (Jvm.Cond.soleField "EventCountersModel" "lineOf") ∈ lw_all := lw_g (lw_at lw_m5 28 rfl) rfl
theorem q1048 : (Jvm.Cond.laysFinal "EventCountersModel" "EventCountersModel" "times" "[I") ∈ lw_all := lw_g (lw_at lw_m5 29 rfl) rfl
theorem q1049 : (Jvm.Cond.soleField "EventCountersModel" "times") ∈ lw_all := lw_g (lw_at lw_m5 30 rfl) rfl
theorem q1050 : (Jvm.Cond.lays "EventCountersModel" "EventCountersModel" "allTicks" "I") ∈ lw_all := lw_g (lw_at lw_m5 31 rfl) rfl
theorem q1051 : (Jvm.Cond.soleField "EventCountersModel" "allTicks") ∈ lw_all := lw_g (lw_at lw_m5 32 rfl) rfl
theorem q1052 : (Jvm.Cond.lays "EventCountersModel" "EventCountersModel" "dLines" "I") ∈ lw_all := lw_g (lw_at lw_m5 33 rfl) rfl
theorem q1053 : (Jvm.Cond.soleField "EventCountersModel" "dLines") ∈ lw_all := lw_g (lw_at lw_m5 34 rfl) rfl
theorem q1054 : (Jvm.Cond.laysFinal "EventCountersModel" "EventCountersModel" "dTicks" "[I") ∈ lw_all := lw_g (lw_at lw_m5 35 rfl) rfl
theorem q1055 : (Jvm.Cond.soleField "EventCountersModel" "dTicks") ∈ lw_all := lw_g (lw_at lw_m5 36 rfl) rfl
theorem q1056 : (Jvm.Cond.laysFinal "EventCountersModel" "EventCountersModel" "dMakes" "[I") ∈ lw_all := lw_g (lw_at lw_m5 37 rfl) rfl
theorem q1057 : (Jvm.Cond.soleField "EventCountersModel" "dMakes") ∈ lw_all := lw_g (lw_at lw_m5 38 rfl) rfl
theorem q1058 : (Jvm.Cond.laysFinal "EventCountersModel" "EventCountersModel" "dAround" "[I") ∈ lw_all := lw_g (lw_at lw_m5 39 rfl) rfl
theorem q1059 : (Jvm.Cond.soleField "EventCountersModel" "dAround") ∈ lw_all := lw_g (lw_at lw_m5 40 rfl) rfl
theorem q1060 : (Jvm.Cond.lays "EventCountersModel" "EventCountersModel" "dLoops" "I") ∈ lw_all := lw_g (lw_at lw_m5 41 rfl) rfl
theorem q1061 : (Jvm.Cond.soleField "EventCountersModel" "dLoops") ∈ lw_all := lw_g (lw_at lw_m5 42 rfl) rfl
theorem q1062 : (Jvm.Cond.laysFinal "EventCountersModel" "EventCountersModel" "dOften" "[I") ∈ lw_all := lw_g (lw_at lw_m5 43 rfl) rfl
theorem q1063 : (Jvm.Cond.soleField "EventCountersModel" "dOften") ∈ lw_all := lw_g (lw_at lw_m5 44 rfl) rfl
theorem q1064 : (Jvm.Cond.laysFinal "EventCountersModel" "EventCountersModel" "dOuter" "[I") ∈ lw_all := lw_g (lw_at lw_m5 45 rfl) rfl
theorem q1065 : (Jvm.Cond.soleField "EventCountersModel" "dOuter") ∈ lw_all := lw_g (lw_at lw_m5 46 rfl) rfl
theorem q1066 : (Jvm.Cond.laysFinal "EventCountersModel" "EventCountersModel" "open" "[I") ∈ lw_all := lw_g (lw_at lw_m5 47 rfl) rfl
theorem q1067 : (Jvm.Cond.soleField "EventCountersModel" "open") ∈ lw_all := lw_g (lw_at lw_m5 48 rfl) rfl
theorem q1068 : (Jvm.Cond.lays "EventCountersModel" "EventCountersModel" "depth" "I") ∈ lw_all := lw_g (lw_at lw_m5 49 rfl) rfl
theorem q1069 : (Jvm.Cond.soleField "EventCountersModel" "depth") ∈ lw_all := lw_g (lw_at lw_m5 50 rfl) rfl
theorem q1070 : (Jvm.Cond.laysFinal "EventCountersModel" "EventCountersModel" "row" "[I") ∈ lw_all := lw_g (lw_at lw_m5 51 rfl) rfl
theorem q1071 : (Jvm.Cond.soleField "EventCountersModel" "row") ∈ lw_all := lw_g (lw_at lw_m5 52 rfl) rfl
theorem q1072 : (Jvm.Cond.laysFinal "EventCountersModel" "EventCountersModel" "dRow" "[I") ∈ lw_all := lw_g (lw_at lw_m5 53 rfl) rfl
theorem q1073 : (Jvm.Cond.soleField "EventCountersModel" "dRow") ∈ lw_all := lw_g (lw_at lw_m5 54 rfl) rfl
theorem q1074 : (Jvm.Cond.lays "EventCountersModel" "EventCountersModel" "rowLong" "I") ∈ lw_all := lw_g (lw_at lw_m5 55 rfl) rfl
theorem q1075 : (Jvm.Cond.soleField "EventCountersModel" "rowLong") ∈ lw_all := lw_g (lw_at lw_m5 56 rfl) rfl
theorem q1076 : (Jvm.Cond.lays "EventCountersModel" "EventCountersModel" "dRowLong" "I") ∈ lw_all := lw_g (lw_at lw_m5 57 rfl) rfl
theorem q1077 : (Jvm.Cond.soleField "EventCountersModel" "dRowLong") ∈ lw_all := lw_g (lw_at lw_m5 58 rfl) rfl
theorem q1078 : (Jvm.Cond.laysFinal "EventCountersModel" "EventCountersModel" "tape" "[I") ∈ lw_all := lw_g (lw_at lw_m5 59 rfl) rfl
theorem q1079 : (Jvm.Cond.soleField "EventCountersModel" "tape") ∈ lw_all := lw_g (lw_at lw_m5 60 rfl) rfl
theorem q1080 : (Jvm.Cond.lays "EventCountersModel" "EventCountersModel" "taped" "I") ∈ lw_all := lw_g (lw_at lw_m5 61 rfl) rfl
theorem q1081 : (Jvm.Cond.soleField "EventCountersModel" "taped") ∈ lw_all := lw_g (lw_at lw_m5 62 rfl) rfl
theorem q1082 : (Jvm.Cond.lays "EventCountersModel" "EventCountersModel" "pos" "I") ∈ lw_all := lw_g (lw_at lw_m5 63 rfl) rfl
theorem q1083 : (Jvm.Cond.soleField "EventCountersModel" "pos") ∈ lw_all := lw_g (lw_at lw_m5 64 rfl) rfl
theorem q1084 : (Jvm.Cond.lays "EventCountersModel" "EventCountersModel" "from" "I") ∈ lw_all := lw_g (lw_at lw_m5 65 rfl) rfl
theorem q1085 : (Jvm.Cond.soleField "EventCountersModel" "from") ∈ lw_all := lw_g (lw_at lw_m5 66 rfl) rfl
theorem q1086 : (Jvm.Cond.lays "EventCountersModel" "EventCountersModel" "sort" "I") ∈ lw_all := lw_g (lw_at lw_m5 67 rfl) rfl
theorem q1087 : (Jvm.Cond.soleField "EventCountersModel" "sort") ∈ lw_all := lw_g (lw_at lw_m5 68 rfl) rfl
theorem q1088 : (Jvm.Cond.lays "EventCountersModel" "EventCountersModel" "value" "I") ∈ lw_all := lw_g (lw_at lw_m5 69 rfl) rfl
theorem q1089 : (Jvm.Cond.soleField "EventCountersModel" "value") ∈ lw_all := lw_g (lw_at lw_m5 70 rfl) rfl
theorem q1090 : (Jvm.Cond.lays "EventCountersModel" "EventCountersModel" "fault" "I") ∈ lw_all := lw_g (lw_at lw_m5 71 rfl) rfl
theorem q1091 : (Jvm.Cond.soleField "EventCountersModel" "fault") ∈ lw_all := lw_g (lw_at lw_m5 72 rfl) rfl
theorem q1092 : (Jvm.Cond.lays "EventCountersModel" "EventCountersModel" "wrongAt" "I") ∈ lw_all := lw_g (lw_at lw_m5 73 rfl) rfl
theorem q1093 : (Jvm.Cond.soleField "EventCountersModel" "wrongAt") ∈ lw_all := lw_g (lw_at lw_m5 74 rfl) rfl
theorem q1094 : (Jvm.Cond.laysFinal "EventCountersModel" "EventCountersModel" "left" "[I") ∈ lw_all := lw_g (lw_at lw_m5 75 rfl) rfl
theorem q1095 : (Jvm.Cond.soleField "EventCountersModel" "left") ∈ lw_all := lw_g (lw_at lw_m5 76 rfl) rfl
theorem q1096 : (Jvm.Cond.laysFinal "EventCountersModel" "EventCountersModel" "began" "[I") ∈ lw_all := lw_g (lw_at lw_m5 77 rfl) rfl
theorem q1097 : (Jvm.Cond.soleField "EventCountersModel" "began") ∈ lw_all := lw_g (lw_at lw_m5 78 rfl) rfl
theorem q1098 : (Jvm.Cond.lays "EventCountersModel" "EventCountersModel" "keptLines" "I") ∈ lw_all := lw_g (lw_at lw_m5 79 rfl) rfl
theorem q1099 : (Jvm.Cond.soleField "EventCountersModel" "keptLines") ∈ lw_all := lw_g (lw_at lw_m5 80 rfl) rfl
theorem q1100 : (Jvm.Cond.laysFinal "EventCountersModel" "EventCountersModel" "kept" "[I") ∈ lw_all := lw_g (lw_at lw_m5 81 rfl) rfl
theorem q1101 : (Jvm.Cond.soleField "EventCountersModel" "kept") ∈ lw_all := lw_g (lw_at lw_m5 82 rfl) rfl
theorem q1102 : (Jvm.Cond.lays "EventCountersModel" "EventCountersModel" "counters" "I") ∈ lw_all := lw_g (lw_at lw_m5 83 rfl) rfl
theorem q1103 : (Jvm.Cond.soleField "EventCountersModel" "counters") ∈ lw_all := lw_g (lw_at lw_m5 84 rfl) rfl
theorem q1104 : (Jvm.Cond.laysFinal "EventCountersModel" "EventCountersModel" "masks" "[I") ∈ lw_all := lw_g (lw_at lw_m5 85 rfl) rfl
theorem q1105 : (Jvm.Cond.soleField "EventCountersModel" "masks") ∈ lw_all := lw_g (lw_at lw_m5 86 rfl) rfl
theorem q1106 : (Jvm.Cond.laysFinal "EventCountersModel" "EventCountersModel" "widths" "[I") ∈ lw_all := lw_g (lw_at lw_m5 87 rfl) rfl
theorem q1107 : (Jvm.Cond.soleField "EventCountersModel" "widths") ∈ lw_all := lw_g (lw_at lw_m5 88 rfl) rfl
theorem q1108 : (Jvm.Cond.laysFinal "EventCountersModel" "EventCountersModel" "fewest" "[I") ∈ lw_all := lw_g (lw_at lw_m5 89 rfl) rfl
theorem q1109 : (Jvm.Cond.soleField "EventCountersModel" "fewest") ∈ lw_all := lw_g (lw_at lw_m5 90 rfl) rfl
theorem q1110 : (Jvm.Cond.laysFinal "EventCountersModel" "EventCountersModel" "goTogether" "[Z") ∈ lw_all := lw_g (lw_at lw_m5 91 rfl) rfl
theorem q1111 : (Jvm.Cond.soleField "EventCountersModel" "goTogether") ∈ lw_all := lw_g (lw_at lw_m5 92 rfl) rfl
theorem q1112 : (Jvm.Cond.lays "EventCountersModel" "EventCountersModel" "roundMany" "I") ∈ lw_all := lw_g (lw_at lw_m5 93 rfl) rfl
theorem q1113 : (Jvm.Cond.soleField "EventCountersModel" "roundMany") ∈ lw_all := lw_g (lw_at lw_m5 94 rfl) rfl
theorem q1114 : (Jvm.Cond.laysFinal "EventCountersModel" "EventCountersModel" "rounds" "[I") ∈ lw_all := lw_g (lw_at lw_m5 95 rfl) rfl
theorem q1115 : (Jvm.Cond.soleField "EventCountersModel" "rounds") ∈ lw_all := lw_g (lw_at lw_m5 96 rfl) rfl
theorem q1116 : (Jvm.Cond.lays "EventCountersModel" "EventCountersModel" "counted" "J") ∈ lw_all := lw_g (lw_at lw_m5 97 rfl) rfl
theorem q1117 : (Jvm.Cond.soleField "EventCountersModel" "counted") ∈ lw_all := lw_g (lw_at lw_m5 98 rfl) rfl
theorem q1118 : (Jvm.Cond.lays "EventCountersModel" "EventCountersModel" "countedTicks" "J") ∈ lw_all := lw_g (lw_at lw_m5 99 rfl) rfl
theorem q1119 : (Jvm.Cond.soleField "EventCountersModel" "countedTicks") ∈ lw_all := lw_g (lw_at lw_m5 100 rfl) rfl
theorem q1120 : (Jvm.Cond.lays "EventCountersModel" "EventCountersModel" "samples" "I") ∈ lw_all := lw_g (lw_at lw_m5 101 rfl) rfl
theorem q1121 : (Jvm.Cond.soleField "EventCountersModel" "samples") ∈ lw_all := lw_g (lw_at lw_m5 102 rfl) rfl
theorem q1122 : (Jvm.Cond.lays "EventCountersModel" "EventCountersModel" "lost" "I") ∈ lw_all := lw_g (lw_at lw_m5 103 rfl) rfl
theorem q1123 : (Jvm.Cond.soleField "EventCountersModel" "lost") ∈ lw_all := lw_g (lw_at lw_m5 104 rfl) rfl
theorem q1124 : (Jvm.Cond.laysFinal "EventCountersModel" "EventCountersModel" "shown" "[I") ∈ lw_all := lw_g (lw_at lw_m5 105 rfl) rfl
theorem q1125 : (Jvm.Cond.soleField "EventCountersModel" "shown") ∈ lw_all := lw_g (lw_at lw_m5 106 rfl) rfl
theorem q1126 : (Jvm.Cond.lays "EventCountersModel" "EventCountersModel" "looks" "I") ∈ lw_all := lw_g (lw_at lw_m5 107 rfl) rfl
theorem q1127 : (Jvm.Cond.soleField "EventCountersModel" "looks") ∈ lw_all := lw_g (lw_at lw_m5 108 rfl) rfl
theorem q1128 : (Jvm.Cond.lays "EventCountersModel" "EventCountersModel" "runs" "I") ∈ lw_all := lw_g (lw_at lw_m5 109 rfl) rfl
theorem q1129 : (Jvm.Cond.soleField "EventCountersModel" "runs") ∈ lw_all := lw_g (lw_at lw_m5 110 rfl) rfl
theorem q1130 : (Jvm.Cond.laysFinal "EventCountersModel" "EventCountersModel" "runCounter" "[I") ∈ lw_all := lw_g (lw_at lw_m5 111 rfl) rfl
theorem q1131 : (Jvm.Cond.soleField "EventCountersModel" "runCounter") ∈ lw_all := lw_g (lw_at lw_m5 112 rfl) rfl
theorem q1132 : (Jvm.Cond.laysFinal "EventCountersModel" "EventCountersModel" "runEvent" "[I") ∈ lw_all := lw_g (lw_at lw_m5 113 rfl) rfl
theorem q1133 : (Jvm.Cond.soleField "EventCountersModel" "runEvent") ∈ lw_all := lw_g (lw_at lw_m5 114 rfl) rfl
theorem q1134 : (Jvm.Cond.laysFinal "EventCountersModel" "EventCountersModel" "runShown" "[I") ∈ lw_all := lw_g (lw_at lw_m5 115 rfl) rfl
theorem q1135 : (Jvm.Cond.soleField "EventCountersModel" "runShown") ∈ lw_all := lw_g (lw_at lw_m5 116 rfl) rfl
theorem q1136 : (Jvm.Cond.laysFinal "EventCountersModel" "EventCountersModel" "lanes" "[I") ∈ lw_all := lw_g (lw_at lw_m5 117 rfl) rfl
theorem q1137 : (Jvm.Cond.soleField "EventCountersModel" "lanes") ∈ lw_all := lw_g (lw_at lw_m5 118 rfl) rfl
theorem q1138 : (Jvm.Cond.laysFinal "EventCountersModel" "EventCountersModel" "sizes" "[I") ∈ lw_all := lw_g (lw_at lw_m5 119 rfl) rfl
theorem q1139 : (Jvm.Cond.soleField "EventCountersModel" "sizes") ∈ lw_all := lw_g (lw_at lw_m5 120 rfl) rfl
theorem q1140 : (Jvm.Cond.laysFinal "EventCountersModel" "EventCountersModel" "cells" "[I") ∈ lw_all := lw_g (lw_at lw_m5 121 rfl) rfl
theorem q1141 : (Jvm.Cond.soleField "EventCountersModel" "cells") ∈ lw_all := lw_g (lw_at lw_m5 122 rfl) rfl
theorem q1142 : (Jvm.Cond.superclass "EventCountersModel" "java/lang/Object") ∈ lw_all := lw_g (lw_at lw_m5 123 rfl) rfl
theorem q1144 : (Jvm.Cond.instanceMethod ({ cls := "EventCountersModel", name := "feed", desc := "(J)I" } : Jvm.MethodName)) ∈ lw_all := lw_g (lw_at lw_m5 125 rfl) rfl
theorem q1145 : (Jvm.Cond.selects "EventCountersModel" ({ cls := "EventCountersModel", name := "feed", desc := "(J)I" } : Jvm.MethodName) ({ cls := "EventCountersModel", name := "feed", desc := "(J)I" } : Jvm.MethodName)) ∈ lw_all := lw_g (lw_at lw_m5 126 rfl) rfl
theorem q1146 : (Jvm.Cond.code ({ cls := "EventCountersModel", name := "feed", desc := "(J)I" } : Jvm.MethodName) prog_11_method_8_code (4 : Nat) (Option.some Jvm.ClassFile.FieldType.int)) ∈ lw_all := lw_g (lw_at lw_m5 127 rfl) rfl
theorem q1147 : (Jvm.Cond.constantLong "EventCountersModel" (122 : Nat) (255 : Int64)) ∈ lw_all := lw_g (lw_at lw_m5 128 rfl) rfl
theorem q1149 : (Jvm.Cond.instanceMethod ({ cls := "EventCountersModel", name := "end", desc := "(I)I" } : Jvm.MethodName)) ∈ lw_all := lw_g (lw_at lw_m5 130 rfl) rfl
theorem q1150 : (Jvm.Cond.selects "EventCountersModel" ({ cls := "EventCountersModel", name := "end", desc := "(I)I" } : Jvm.MethodName) ({ cls := "EventCountersModel", name := "end", desc := "(I)I" } : Jvm.MethodName)) ∈ lw_all := lw_g (lw_at lw_m5 131 rfl) rfl
theorem q1151 : (Jvm.Cond.code ({ cls := "EventCountersModel", name := "end", desc := "(I)I" } : Jvm.MethodName) prog_11_method_9_code (3 : Nat) (Option.some Jvm.ClassFile.FieldType.int)) ∈ lw_all := lw_g (lw_at lw_m5 132 rfl) rfl
theorem q1152 : (Jvm.Cond.methodLink "EventCountersModel" (124 : Nat) ({ cls := "EventCountersModel", name := "in", desc := "(JJJ)Z" } : Jvm.MethodName)) ∈ lw_all := lw_g (lw_at lw_m5 133 rfl) rfl
theorem q1153 : (Jvm.Cond.static ({ cls := "EventCountersModel", name := "in", desc := "(JJJ)Z" } : Jvm.MethodName)) ∈ lw_all := lw_g (lw_at lw_m5 134 rfl) rfl
theorem q1154 : (Jvm.Cond.code ({ cls := "EventCountersModel", name := "in", desc := "(JJJ)Z" } : Jvm.MethodName) prog_11_method_3_code (6 : Nat) (Option.some Jvm.ClassFile.FieldType.boolean)) ∈ lw_all := lw_g (lw_at lw_m5 135 rfl) rfl
theorem q1156 : (Jvm.Cond.instanceMethod ({ cls := "EventCountersModel", name := "program", desc := "()I" } : Jvm.MethodName)) ∈ lw_all := lw_g (lw_at lw_m5 137 rfl) rfl
theorem q1157 : (Jvm.Cond.selects "EventCountersModel" ({ cls := "EventCountersModel", name := "program", desc := "()I" } : Jvm.MethodName) ({ cls := "EventCountersModel", name := "program", desc := "()I" } : Jvm.MethodName)) ∈ lw_all := lw_g (lw_at lw_m5 138 rfl) rfl
theorem q1158 : (Jvm.Cond.code ({ cls := "EventCountersModel", name := "program", desc := "()I" } : Jvm.MethodName) prog_11_method_26_code (4 : Nat) (Option.some Jvm.ClassFile.FieldType.int)) ∈ lw_all := lw_g (lw_at lw_m5 139 rfl) rfl
theorem q1159 : (Jvm.Cond.methodLink "EventCountersModel" (166 : Nat) ({ cls := "EventCountersModel", name := "next", desc := "()V" } : Jvm.MethodName)) ∈ lw_all := lw_g (lw_at lw_m5 140 rfl) rfl
theorem q1160 : (Jvm.Cond.privateMethod ({ cls := "EventCountersModel", name := "next", desc := "()V" } : Jvm.MethodName)) ∈ lw_tbl := lw_at lw_m5 141 rfl
theorem q1161 : (Jvm.Cond.instanceMethod ({ cls := "EventCountersModel", name := "next", desc := "()V" } : Jvm.MethodName)) ∈ lw_all := lw_g (lw_at lw_m5 142 rfl) rfl
theorem q1162 : (Jvm.Cond.code ({ cls := "EventCountersModel", name := "next", desc := "()V" } : Jvm.MethodName) prog_11_method_14_code (2 : Nat) (Option.none : Option Jvm.ClassFile.FieldType)) ∈ lw_all := lw_g (lw_at lw_m5 143 rfl) rfl
theorem q1163 : (Jvm.Cond.methodLink "EventCountersModel" (140 : Nat) ({ cls := "EventCountersModel", name := "look", desc := "(I)I" } : Jvm.MethodName)) ∈ lw_all := lw_g (lw_at lw_m5 144 rfl) rfl
theorem q1164 : (Jvm.Cond.privateMethod ({ cls := "EventCountersModel", name := "look", desc := "(I)I" } : Jvm.MethodName)) ∈ lw_tbl := lw_at lw_m5 145 rfl
theorem q1165 : (Jvm.Cond.instanceMethod ({ cls := "EventCountersModel", name := "look", desc := "(I)I" } : Jvm.MethodName)) ∈ lw_all := lw_g (lw_at lw_m5 146 rfl) rfl
theorem q1166 : (Jvm.Cond.code ({ cls := "EventCountersModel", name := "look", desc := "(I)I" } : Jvm.MethodName) prog_11_method_11_code (2 : Nat) (Option.some Jvm.ClassFile.FieldType.int)) ∈ lw_all := lw_g (lw_at lw_m5 147 rfl) rfl
theorem q1167 : (Jvm.Cond.constantLong "EventCountersModel" (151 : Nat) (97 : Int64)) ∈ lw_all := lw_g (lw_at lw_m5 148 rfl) rfl
theorem q1168 : (Jvm.Cond.constantLong "EventCountersModel" (153 : Nat) (122 : Int64)) ∈ lw_all := lw_g (lw_at lw_m5 149 rfl) rfl
theorem q1169 : (Jvm.Cond.constantLong "EventCountersModel" (155 : Nat) (48 : Int64)) ∈ lw_all := lw_g (lw_at lw_m5 150 rfl) rfl
theorem q1170 : (Jvm.Cond.constantLong "EventCountersModel" (157 : Nat) (57 : Int64)) ∈ lw_all := lw_g (lw_at lw_m5 151 rfl) rfl
theorem q1171 : (Jvm.Cond.methodLink "EventCountersModel" (162 : Nat) ({ cls := "EventCountersModel", name := "wants", desc := "(ZI)V" } : Jvm.MethodName)) ∈ lw_all := lw_g (lw_at lw_m5 152 rfl) rfl
theorem q1172 : (Jvm.Cond.privateMethod ({ cls := "EventCountersModel", name := "wants", desc := "(ZI)V" } : Jvm.MethodName)) ∈ lw_tbl := lw_at lw_m5 153 rfl
theorem q1173 : (Jvm.Cond.instanceMethod ({ cls := "EventCountersModel", name := "wants", desc := "(ZI)V" } : Jvm.MethodName)) ∈ lw_all := lw_g (lw_at lw_m5 154 rfl) rfl
theorem q1174 : (Jvm.Cond.code ({ cls := "EventCountersModel", name := "wants", desc := "(ZI)V" } : Jvm.MethodName) prog_11_method_10_code (3 : Nat) (Option.none : Option Jvm.ClassFile.FieldType)) ∈ lw_all := lw_g (lw_at lw_m5 155 rfl) rfl
theorem q1175 : (Jvm.Cond.methodLink "EventCountersModel" (235 : Nat) ({ cls := "EventCountersModel", name := "readItem", desc := "()V" } : Jvm.MethodName)) ∈ lw_all := lw_g (lw_at lw_m5 156 rfl) rfl
theorem q1176 : (Jvm.Cond.privateMethod ({ cls := "EventCountersModel", name := "readItem", desc := "()V" } : Jvm.MethodName)) ∈ lw_tbl := lw_at lw_m5 157 rfl
theorem q1177 : (Jvm.Cond.instanceMethod ({ cls := "EventCountersModel", name := "readItem", desc := "()V" } : Jvm.MethodName)) ∈ lw_all := lw_g (lw_at lw_m5 158 rfl) rfl
theorem q1178 : (Jvm.Cond.code ({ cls := "EventCountersModel", name := "readItem", desc := "()V" } : Jvm.MethodName) prog_11_method_20_code (2 : Nat) (Option.none : Option Jvm.ClassFile.FieldType)) ∈ lw_all := lw_g (lw_at lw_m5 159 rfl) rfl
theorem q1179 : (Jvm.Cond.methodLink "EventCountersModel" (190 : Nat) ({ cls := "EventCountersModel", name := "nameNow", desc := "()I" } : Jvm.MethodName)) ∈ lw_all := lw_g (lw_at lw_m5 160 rfl) rfl
theorem q1180 : (Jvm.Cond.privateMethod ({ cls := "EventCountersModel", name := "nameNow", desc := "()I" } : Jvm.MethodName)) ∈ lw_tbl := lw_at lw_m5 161 rfl
theorem q1181 : (Jvm.Cond.instanceMethod ({ cls := "EventCountersModel", name := "nameNow", desc := "()I" } : Jvm.MethodName)) ∈ lw_all := lw_g (lw_at lw_m5 162 rfl) rfl
theorem q1182 : (Jvm.Cond.code ({ cls := "EventCountersModel", name := "nameNow", desc := "()I" } : Jvm.MethodName) prog_11_method_13_code (1 : Nat) (Option.some Jvm.ClassFile.FieldType.int)) ∈ lw_all := lw_g (lw_at lw_m5 163 rfl) rfl
theorem q1183 : (Jvm.Cond.methodLink "EventCountersModel" (144 : Nat) ({ cls := "EventCountersModel", name := "is", desc := "(IIIII)Z" } : Jvm.MethodName)) ∈ lw_all := lw_g (lw_at lw_m5 164 rfl) rfl
theorem q1184 : (Jvm.Cond.privateMethod ({ cls := "EventCountersModel", name := "is", desc := "(IIIII)Z" } : Jvm.MethodName)) ∈ lw_tbl := lw_at lw_m5 165 rfl
theorem q1185 : (Jvm.Cond.instanceMethod ({ cls := "EventCountersModel", name := "is", desc := "(IIIII)Z" } : Jvm.MethodName)) ∈ lw_all := lw_g (lw_at lw_m5 166 rfl) rfl
theorem q1186 : (Jvm.Cond.code ({ cls := "EventCountersModel", name := "is", desc := "(IIIII)Z" } : Jvm.MethodName) prog_11_method_12_code (6 : Nat) (Option.some Jvm.ClassFile.FieldType.boolean)) ∈ lw_all := lw_g (lw_at lw_m5 167 rfl) rfl
theorem q1187 : (Jvm.Cond.methodLink "EventCountersModel" (194 : Nat) ({ cls := "EventCountersModel", name := "readLine", desc := "()V" } : Jvm.MethodName)) ∈ lw_all := lw_g (lw_at lw_m5 168 rfl) rfl
theorem q1188 : (Jvm.Cond.privateMethod ({ cls := "EventCountersModel", name := "readLine", desc := "()V" } : Jvm.MethodName)) ∈ lw_tbl := lw_at lw_m5 169 rfl
theorem q1189 : (Jvm.Cond.instanceMethod ({ cls := "EventCountersModel", name := "readLine", desc := "()V" } : Jvm.MethodName)) ∈ lw_all := lw_g (lw_at lw_m5 170 rfl) rfl
theorem q1190 : (Jvm.Cond.code ({ cls := "EventCountersModel", name := "readLine", desc := "()V" } : Jvm.MethodName) prog_11_method_17_code (3 : Nat) (Option.none : Option Jvm.ClassFile.FieldType)) ∈ lw_all := lw_g (lw_at lw_m5 171 rfl) rfl
theorem q1191 : (Jvm.Cond.methodLink "EventCountersModel" (171 : Nat) ({ cls := "EventCountersModel", name := "readNumber", desc := "(II)I" } : Jvm.MethodName)) ∈ lw_all := lw_g (lw_at lw_m5 172 rfl) rfl
theorem q1192 : (Jvm.Cond.privateMethod ({ cls := "EventCountersModel", name := "readNumber", desc := "(II)I" } : Jvm.MethodName)) ∈ lw_tbl := lw_at lw_m5 173 rfl
theorem q1193 : (Jvm.Cond.instanceMethod ({ cls := "EventCountersModel", name := "readNumber", desc := "(II)I" } : Jvm.MethodName)) ∈ lw_all := lw_g (lw_at lw_m5 174 rfl) rfl
theorem q1194 : (Jvm.Cond.code ({ cls := "EventCountersModel", name := "readNumber", desc := "(II)I" } : Jvm.MethodName) prog_11_method_15_code (4 : Nat) (Option.some Jvm.ClassFile.FieldType.int)) ∈ lw_all := lw_g (lw_at lw_m5 175 rfl) rfl
theorem q1195 : (Jvm.Cond.methodLink "EventCountersModel" (178 : Nat) ({ cls := "EventCountersModel", name := "readEvents", desc := "()V" } : Jvm.MethodName)) ∈ lw_all := lw_g (lw_at lw_m5 176 rfl) rfl
theorem q1196 : (Jvm.Cond.privateMethod ({ cls := "EventCountersModel", name := "readEvents", desc := "()V" } : Jvm.MethodName)) ∈ lw_tbl := lw_at lw_m5 177 rfl
theorem q1197 : (Jvm.Cond.instanceMethod ({ cls := "EventCountersModel", name := "readEvents", desc := "()V" } : Jvm.MethodName)) ∈ lw_all := lw_g (lw_at lw_m5 178 rfl) rfl
theorem q1198 : (Jvm.Cond.code ({ cls := "EventCountersModel", name := "readEvents", desc := "()V" } : Jvm.MethodName) prog_11_method_16_code (4 : Nat) (Option.none : Option Jvm.ClassFile.FieldType)) ∈ lw_all := lw_g (lw_at lw_m5 179 rfl) rfl
theorem q1199 : (Jvm.Cond.constantLong "EventCountersModel" (169 : Nat) (7 : Int64)) ∈ lw_all := lw_g (lw_at lw_m5 180 rfl) rfl
theorem q1200 : (Jvm.Cond.methodLink "EventCountersModel" (197 : Nat) ({ cls := "EventCountersModel", name := "readLoop", desc := "()V" } : Jvm.MethodName)) ∈ lw_all := lw_g (lw_at lw_m5 181 rfl) rfl
theorem q1201 : (Jvm.Cond.privateMethod ({ cls := "EventCountersModel", name := "readLoop", desc := "()V" } : Jvm.MethodName)) ∈ lw_tbl := lw_at lw_m5 182 rfl
theorem q1202 : (Jvm.Cond.instanceMethod ({ cls := "EventCountersModel", name := "readLoop", desc := "()V" } : Jvm.MethodName)) ∈ lw_all := lw_g (lw_at lw_m5 183 rfl) rfl
theorem q1203 : (Jvm.Cond.code ({ cls := "EventCountersModel", name := "readLoop", desc := "()V" } : Jvm.MethodName) prog_11_method_18_code (2 : Nat) (Option.none : Option Jvm.ClassFile.FieldType)) ∈ lw_all := lw_g (lw_at lw_m5 184 rfl) rfl
theorem q1204 : (Jvm.Cond.methodLink "EventCountersModel" (200 : Nat) ({ cls := "EventCountersModel", name := "readEnd", desc := "()V" } : Jvm.MethodName)) ∈ lw_all := lw_g (lw_at lw_m5 185 rfl) rfl
theorem q1205 : (Jvm.Cond.privateMethod ({ cls := "EventCountersModel", name := "readEnd", desc := "()V" } : Jvm.MethodName)) ∈ lw_tbl := lw_at lw_m5 186 rfl
theorem q1206 : (Jvm.Cond.instanceMethod ({ cls := "EventCountersModel", name := "readEnd", desc := "()V" } : Jvm.MethodName)) ∈ lw_all := lw_g (lw_at lw_m5 187 rfl) rfl
theorem q1207 : (Jvm.Cond.code ({ cls := "EventCountersModel", name := "readEnd", desc := "()V" } : Jvm.MethodName) prog_11_method_19_code (1 : Nat) (Option.none : Option Jvm.ClassFile.FieldType)) ∈ lw_all := lw_g (lw_at lw_m5 188 rfl) rfl
theorem q1208 : (Jvm.Cond.methodLink "EventCountersModel" (215 : Nat) ({ cls := "EventCountersModel", name := "dTimes", desc := "(I)J" } : Jvm.MethodName)) ∈ lw_all := lw_g (lw_at lw_m5 189 rfl) rfl
theorem q1209 : (Jvm.Cond.privateMethod ({ cls := "EventCountersModel", name := "dTimes", desc := "(I)J" } : Jvm.MethodName)) ∈ lw_tbl := lw_at lw_m5 190 rfl
theorem q1210 : (Jvm.Cond.instanceMethod ({ cls := "EventCountersModel", name := "dTimes", desc := "(I)J" } : Jvm.MethodName)) ∈ lw_all := lw_g (lw_at lw_m5 191 rfl) rfl
theorem q1211 : (Jvm.Cond.code ({ cls := "EventCountersModel", name := "dTimes", desc := "(I)J" } : Jvm.MethodName) prog_11_method_21_code (5 : Nat) (Option.some Jvm.ClassFile.FieldType.long)) ∈ lw_all := lw_g (lw_at lw_m5 192 rfl) rfl
theorem q1212 : (Jvm.Cond.constantLong "EventCountersModel" (238 : Nat) (6000 : Int64)) ∈ lw_all := lw_g (lw_at lw_m5 193 rfl) rfl
theorem q1213 : (Jvm.Cond.methodLink "EventCountersModel" (240 : Nat) ({ cls := "EventCountersModel", name := "keepProgram", desc := "()V" } : Jvm.MethodName)) ∈ lw_all := lw_g (lw_at lw_m5 194 rfl) rfl
theorem q1214 : (Jvm.Cond.privateMethod ({ cls := "EventCountersModel", name := "keepProgram", desc := "()V" } : Jvm.MethodName)) ∈ lw_tbl := lw_at lw_m5 195 rfl
theorem q1215 : (Jvm.Cond.instanceMethod ({ cls := "EventCountersModel", name := "keepProgram", desc := "()V" } : Jvm.MethodName)) ∈ lw_all := lw_g (lw_at lw_m5 196 rfl) rfl
theorem q1216 : (Jvm.Cond.code ({ cls := "EventCountersModel", name := "keepProgram", desc := "()V" } : Jvm.MethodName) prog_11_method_22_code (2 : Nat) (Option.none : Option Jvm.ClassFile.FieldType)) ∈ lw_all := lw_g (lw_at lw_m5 197 rfl) rfl
theorem q1217 : (Jvm.Cond.methodLink "EventCountersModel" (219 : Nat) ({ cls := "EventCountersModel", name := "walk", desc := "()V" } : Jvm.MethodName)) ∈ lw_all := lw_g (lw_at lw_m5 198 rfl) rfl
theorem q1218 : (Jvm.Cond.privateMethod ({ cls := "EventCountersModel", name := "walk", desc := "()V" } : Jvm.MethodName)) ∈ lw_tbl := lw_at lw_m5 199 rfl
theorem q1219 : (Jvm.Cond.instanceMethod ({ cls := "EventCountersModel", name := "walk", desc := "()V" } : Jvm.MethodName)) ∈ lw_all := lw_g (lw_at lw_m5 200 rfl) rfl
theorem q1220 : (Jvm.Cond.code ({ cls := "EventCountersModel", name := "walk", desc := "()V" } : Jvm.MethodName) prog_11_method_23_code (3 : Nat) (Option.none : Option Jvm.ClassFile.FieldType)) ∈ lw_all := lw_g (lw_at lw_m5 201 rfl) rfl
theorem q1221 : (Jvm.Cond.methodLink "EventCountersModel" (228 : Nat) ({ cls := "EventCountersModel", name := "linesIn", desc := "(I)I" } : Jvm.MethodName)) ∈ lw_all := lw_g (lw_at lw_m5 202 rfl) rfl
theorem q1222 : (Jvm.Cond.privateMethod ({ cls := "EventCountersModel", name := "linesIn", desc := "(I)I" } : Jvm.MethodName)) ∈ lw_tbl := lw_at lw_m5 203 rfl
theorem q1223 : (Jvm.Cond.instanceMethod ({ cls := "EventCountersModel", name := "linesIn", desc := "(I)I" } : Jvm.MethodName)) ∈ lw_all := lw_g (lw_at lw_m5 204 rfl) rfl
theorem q1224 : (Jvm.Cond.code ({ cls := "EventCountersModel", name := "linesIn", desc := "(I)I" } : Jvm.MethodName) prog_11_method_25_code (4 : Nat) (Option.some Jvm.ClassFile.FieldType.int)) ∈ lw_all := lw_g (lw_at lw_m5 205 rfl) rfl
theorem q1225 : (Jvm.Cond.methodLink "EventCountersModel" (231 : Nat) ({ cls := "EventCountersModel", name := "isWithin", desc := "(II)Z" } : Jvm.MethodName)) ∈ lw_all := lw_g (lw_at lw_m5 206 rfl) rfl
theorem q1226 : (Jvm.Cond.privateMethod ({ cls := "EventCountersModel", name := "isWithin", desc := "(II)Z" } : Jvm.MethodName)) ∈ lw_tbl := lw_at lw_m5 207 rfl
theorem q1227 : (Jvm.Cond.instanceMethod ({ cls := "EventCountersModel", name := "isWithin", desc := "(II)Z" } : Jvm.MethodName)) ∈ lw_all := lw_g (lw_at lw_m5 208 rfl) rfl
theorem q1228 : (Jvm.Cond.code ({ cls := "EventCountersModel", name := "isWithin", desc := "(II)Z" } : Jvm.MethodName) prog_11_method_24_code (5 : Nat) (Option.some Jvm.ClassFile.FieldType.boolean)) ∈ lw_all := lw_g (lw_at lw_m5 209 rfl) rfl
theorem q1230 : (Jvm.Cond.instanceMethod ({ cls := "EventCountersModel", name := "fault", desc := "()I" } : Jvm.MethodName)) ∈ lw_all := lw_g (lw_at lw_m5 211 rfl) rfl
theorem q1231 : (Jvm.Cond.selects "EventCountersModel" ({ cls := "EventCountersModel", name := "fault", desc := "()I" } : Jvm.MethodName) ({ cls := "EventCountersModel", name := "fault", desc := "()I" } : Jvm.MethodName)) ∈ lw_all := lw_g (lw_at lw_m5 212 rfl) rfl
theorem q1232 : (Jvm.Cond.code ({ cls := "EventCountersModel", name := "fault", desc := "()I" } : Jvm.MethodName) prog_11_method_27_code (1 : Nat) (Option.some Jvm.ClassFile.FieldType.int)) ∈ lw_all := lw_g (lw_at lw_m5 213 rfl) rfl
theorem q1234 : (Jvm.Cond.instanceMethod ({ cls := "EventCountersModel", name := "line", desc := "(II)I" } : Jvm.MethodName)) ∈ lw_all := lw_g (lw_at lw_m5 215 rfl) rfl
theorem q1235 : (Jvm.Cond.selects "EventCountersModel" ({ cls := "EventCountersModel", name := "line", desc := "(II)I" } : Jvm.MethodName) ({ cls := "EventCountersModel", name := "line", desc := "(II)I" } : Jvm.MethodName)) ∈ lw_all := lw_g (lw_at lw_m5 216 rfl) rfl
theorem q1236 : (Jvm.Cond.code ({ cls := "EventCountersModel", name := "line", desc := "(II)I" } : Jvm.MethodName) prog_11_method_32_code (3 : Nat) (Option.some Jvm.ClassFile.FieldType.int)) ∈ lw_all := lw_g (lw_at lw_m5 217 rfl) rfl
theorem q1237 : (Jvm.Cond.methodLink "EventCountersModel" (243 : Nat) ({ cls := "EventCountersModel", name := "isLine", desc := "(I)Z" } : Jvm.MethodName)) ∈ lw_all := lw_g (lw_at lw_m5 218 rfl) rfl
theorem q1238 : (Jvm.Cond.privateMethod ({ cls := "EventCountersModel", name := "isLine", desc := "(I)Z" } : Jvm.MethodName)) ∈ lw_tbl := lw_at lw_m5 219 rfl
theorem q1239 : (Jvm.Cond.instanceMethod ({ cls := "EventCountersModel", name := "isLine", desc := "(I)Z" } : Jvm.MethodName)) ∈ lw_all := lw_g (lw_at lw_m5 220 rfl) rfl
theorem q1240 : (Jvm.Cond.code ({ cls := "EventCountersModel", name := "isLine", desc := "(I)Z" } : Jvm.MethodName) prog_11_method_28_code (2 : Nat) (Option.some Jvm.ClassFile.FieldType.boolean)) ∈ lw_all := lw_g (lw_at lw_m5 221 rfl) rfl
theorem q1241 : (Jvm.Cond.constantLong "EventCountersModel" (247 : Nat) (10 : Int64)) ∈ lw_all := lw_g (lw_at lw_m5 222 rfl) rfl
theorem q1242 : (Jvm.Cond.constantLong "EventCountersModel" (249 : Nat) (17 : Int64)) ∈ lw_all := lw_g (lw_at lw_m5 223 rfl) rfl
theorem q1243 : (Jvm.Cond.methodLink "EventCountersModel" (251 : Nat) ({ cls := "EventCountersModel", name := "made", desc := "(II)I" } : Jvm.MethodName)) ∈ lw_all := lw_g (lw_at lw_m5 224 rfl) rfl
theorem q1244 : (Jvm.Cond.privateMethod ({ cls := "EventCountersModel", name := "made", desc := "(II)I" } : Jvm.MethodName)) ∈ lw_tbl := lw_at lw_m5 225 rfl
theorem q1245 : (Jvm.Cond.instanceMethod ({ cls := "EventCountersModel", name := "made", desc := "(II)I" } : Jvm.MethodName)) ∈ lw_all := lw_g (lw_at lw_m5 226 rfl) rfl
theorem q1246 : (Jvm.Cond.code ({ cls := "EventCountersModel", name := "made", desc := "(II)I" } : Jvm.MethodName) prog_11_method_30_code (3 : Nat) (Option.some Jvm.ClassFile.FieldType.int)) ∈ lw_all := lw_g (lw_at lw_m5 227 rfl) rfl
theorem q1247 : (Jvm.Cond.methodLink "EventCountersModel" (254 : Nat) ({ cls := "EventCountersModel", name := "depthOf", desc := "(I)I" } : Jvm.MethodName)) ∈ lw_all := lw_g (lw_at lw_m5 228 rfl) rfl
theorem q1248 : (Jvm.Cond.privateMethod ({ cls := "EventCountersModel", name := "depthOf", desc := "(I)I" } : Jvm.MethodName)) ∈ lw_tbl := lw_at lw_m5 229 rfl
theorem q1249 : (Jvm.Cond.instanceMethod ({ cls := "EventCountersModel", name := "depthOf", desc := "(I)I" } : Jvm.MethodName)) ∈ lw_all := lw_g (lw_at lw_m5 230 rfl) rfl
theorem q1250 : (Jvm.Cond.code ({ cls := "EventCountersModel", name := "depthOf", desc := "(I)I" } : Jvm.MethodName) prog_11_method_31_code (4 : Nat) (Option.some Jvm.ClassFile.FieldType.int)) ∈ lw_all := lw_g (lw_at lw_m5 231 rfl) rfl
theorem q1252 : (Jvm.Cond.instanceMethod ({ cls := "EventCountersModel", name := "step", desc := "(I)I" } : Jvm.MethodName)) ∈ lw_all := lw_g (lw_at lw_m5 233 rfl) rfl
theorem q1253 : (Jvm.Cond.selects "EventCountersModel" ({ cls := "EventCountersModel", name := "step", desc := "(I)I" } : Jvm.MethodName) ({ cls := "EventCountersModel", name := "step", desc := "(I)I" } : Jvm.MethodName)) ∈ lw_all := lw_g (lw_at lw_m5 234 rfl) rfl
theorem q1254 : (Jvm.Cond.code ({ cls := "EventCountersModel", name := "step", desc := "(I)I" } : Jvm.MethodName) prog_11_method_33_code (2 : Nat) (Option.some Jvm.ClassFile.FieldType.int)) ∈ lw_all := lw_g (lw_at lw_m5 235 rfl) rfl
theorem q1256 : (Jvm.Cond.instanceMethod ({ cls := "EventCountersModel", name := "whole", desc := "(I)I" } : Jvm.MethodName)) ∈ lw_all := lw_g (lw_at lw_m5 237 rfl) rfl
theorem q1257 : (Jvm.Cond.selects "EventCountersModel" ({ cls := "EventCountersModel", name := "whole", desc := "(I)I" } : Jvm.MethodName) ({ cls := "EventCountersModel", name := "whole", desc := "(I)I" } : Jvm.MethodName)) ∈ lw_all := lw_g (lw_at lw_m5 238 rfl) rfl
theorem q1258 : (Jvm.Cond.code ({ cls := "EventCountersModel", name := "whole", desc := "(I)I" } : Jvm.MethodName) prog_11_method_35_code (2 : Nat) (Option.some Jvm.ClassFile.FieldType.int)) ∈ lw_all := lw_g (lw_at lw_m5 239 rfl) rfl
theorem q1259 : (Jvm.Cond.methodLink "EventCountersModel" (257 : Nat) ({ cls := "EventCountersModel", name := "total", desc := "(I)I" } : Jvm.MethodName)) ∈ lw_all := lw_g (lw_at lw_m6 0 rfl) rfl
theorem q1260 : (Jvm.Cond.privateMethod ({ cls := "EventCountersModel", name := "total", desc := "(I)I" } : Jvm.MethodName)) ∈ lw_tbl := lw_at lw_m6 1 rfl
theorem q1261 : (Jvm.Cond.instanceMethod ({ cls := "EventCountersModel", name := "total", desc := "(I)I" } : Jvm.MethodName)) ∈ lw_all := lw_g (lw_at lw_m6 2 rfl) rfl
theorem q1262 : (Jvm.Cond.code ({ cls := "EventCountersModel", name := "total", desc := "(I)I" } : Jvm.MethodName) prog_11_method_34_code (4 : Nat) (Option.some Jvm.ClassFile.FieldType.int)) ∈ lw_all := lw_g (lw_at lw_m6 3 rfl) rfl
theorem q1264 : (Jvm.Cond.instanceMethod ({ cls := "EventCountersModel", name := "ratio", desc := "(IIII)I" } : Jvm.MethodName)) ∈ lw_all := lw_g (lw_at lw_m6 5 rfl) rfl
theorem q1265 : (Jvm.Cond.selects "EventCountersModel" ({ cls := "EventCountersModel", name := "ratio", desc := "(IIII)I" } : Jvm.MethodName) ({ cls := "EventCountersModel", name := "ratio", desc := "(IIII)I" } : Jvm.MethodName)) ∈ lw_all := lw_g (lw_at lw_m6 6 rfl) rfl
theorem q1266 : (Jvm.Cond.code ({ cls := "EventCountersModel", name := "ratio", desc := "(IIII)I" } : Jvm.MethodName) prog_11_method_36_code (7 : Nat) (Option.some Jvm.ClassFile.FieldType.int)) ∈ lw_all := lw_g (lw_at lw_m6 7 rfl) rfl
theorem q1267 : (Jvm.Cond.methodLink "EventCountersModel" (260 : Nat) ({ cls := "EventCountersModel", name := "isEvent", desc := "(I)Z" } : Jvm.MethodName)) ∈ lw_all := lw_g (lw_at lw_m6 8 rfl) rfl
theorem q1268 : (Jvm.Cond.static ({ cls := "EventCountersModel", name := "isEvent", desc := "(I)Z" } : Jvm.MethodName)) ∈ lw_all := lw_g (lw_at lw_m6 9 rfl) rfl
theorem q1269 : (Jvm.Cond.code ({ cls := "EventCountersModel", name := "isEvent", desc := "(I)Z" } : Jvm.MethodName) prog_11_method_29_code (1 : Nat) (Option.some Jvm.ClassFile.FieldType.boolean)) ∈ lw_all := lw_g (lw_at lw_m6 10 rfl) rfl
theorem q1270 : (Jvm.Cond.methodLink "EventCountersModel" (263 : Nat) ({ cls := "EventCountersModel", name := "told", desc := "(JJI)J" } : Jvm.MethodName)) ∈ lw_all := lw_g (lw_at lw_m6 11 rfl) rfl
theorem q1271 : (Jvm.Cond.static ({ cls := "EventCountersModel", name := "told", desc := "(JJI)J" } : Jvm.MethodName)) ∈ lw_all := lw_g (lw_at lw_m6 12 rfl) rfl
theorem q1272 : (Jvm.Cond.code ({ cls := "EventCountersModel", name := "told", desc := "(JJI)J" } : Jvm.MethodName) prog_11_method_7_code (7 : Nat) (Option.some Jvm.ClassFile.FieldType.long)) ∈ lw_all := lw_g (lw_at lw_m6 13 rfl) rfl
theorem q1273 : (Jvm.Cond.methodLink "EventCountersModel" (111 : Nat) ({ cls := "EventCountersModel", name := "size", desc := "(J)J" } : Jvm.MethodName)) ∈ lw_all := lw_g (lw_at lw_m6 14 rfl) rfl
theorem q1274 : (Jvm.Cond.static ({ cls := "EventCountersModel", name := "size", desc := "(J)J" } : Jvm.MethodName)) ∈ lw_all := lw_g (lw_at lw_m6 15 rfl) rfl
theorem q1275 : (Jvm.Cond.code ({ cls := "EventCountersModel", name := "size", desc := "(J)J" } : Jvm.MethodName) prog_11_method_5_code (2 : Nat) (Option.some Jvm.ClassFile.FieldType.long)) ∈ lw_all := lw_g (lw_at lw_m6 16 rfl) rfl
theorem q1276 : (Jvm.Cond.methodLink "EventCountersModel" (115 : Nat) ({ cls := "EventCountersModel", name := "common", desc := "(JJ)J" } : Jvm.MethodName)) ∈ lw_all := lw_g (lw_at lw_m6 17 rfl) rfl
theorem q1277 : (Jvm.Cond.static ({ cls := "EventCountersModel", name := "common", desc := "(JJ)J" } : Jvm.MethodName)) ∈ lw_all := lw_g (lw_at lw_m6 18 rfl) rfl
theorem q1278 : (Jvm.Cond.code ({ cls := "EventCountersModel", name := "common", desc := "(JJ)J" } : Jvm.MethodName) prog_11_method_6_code (10 : Nat) (Option.some Jvm.ClassFile.FieldType.long)) ∈ lw_all := lw_g (lw_at lw_m6 19 rfl) rfl
theorem q1280 : (Jvm.Cond.instanceMethod ({ cls := "EventCountersModel", name := "loop", desc := "(II)I" } : Jvm.MethodName)) ∈ lw_all := lw_g (lw_at lw_m6 21 rfl) rfl
theorem q1281 : (Jvm.Cond.selects "EventCountersModel" ({ cls := "EventCountersModel", name := "loop", desc := "(II)I" } : Jvm.MethodName) ({ cls := "EventCountersModel", name := "loop", desc := "(II)I" } : Jvm.MethodName)) ∈ lw_all := lw_g (lw_at lw_m6 22 rfl) rfl
theorem q1282 : (Jvm.Cond.code ({ cls := "EventCountersModel", name := "loop", desc := "(II)I" } : Jvm.MethodName) prog_11_method_37_code (7 : Nat) (Option.some Jvm.ClassFile.FieldType.int)) ∈ lw_all := lw_g (lw_at lw_m6 23 rfl) rfl
theorem q1283 : (Jvm.Cond.constantLong "EventCountersModel" (267 : Nat) (4 : Int64)) ∈ lw_all := lw_g (lw_at lw_m6 24 rfl) rfl
theorem q1285 : (Jvm.Cond.instanceMethod ({ cls := "EventCountersModel", name := "went", desc := "(III)I" } : Jvm.MethodName)) ∈ lw_all := lw_g (lw_at lw_m6 26 rfl) rfl
theorem q1286 : (Jvm.Cond.selects "EventCountersModel" ({ cls := "EventCountersModel", name := "went", desc := "(III)I" } : Jvm.MethodName) ({ cls := "EventCountersModel", name := "went", desc := "(III)I" } : Jvm.MethodName)) ∈ lw_all := lw_g (lw_at lw_m6 27 rfl) rfl
theorem q1287 : (Jvm.Cond.code ({ cls := "EventCountersModel", name := "went", desc := "(III)I" } : Jvm.MethodName) prog_11_method_38_code (9 : Nat) (Option.some Jvm.ClassFile.FieldType.int)) ∈ lw_all := lw_g (lw_at lw_m6 28 rfl) rfl
theorem q1288 : (Jvm.Cond.constantLong "EventCountersModel" (269 : Nat) (999999 : Int64)) ∈ lw_all := lw_g (lw_at lw_m6 29 rfl) rfl
theorem q1290 : (Jvm.Cond.instanceMethod ({ cls := "EventCountersModel", name := "hot", desc := "(III)I" } : Jvm.MethodName)) ∈ lw_all := lw_g (lw_at lw_m6 31 rfl) rfl
theorem q1291 : (Jvm.Cond.selects "EventCountersModel" ({ cls := "EventCountersModel", name := "hot", desc := "(III)I" } : Jvm.MethodName) ({ cls := "EventCountersModel", name := "hot", desc := "(III)I" } : Jvm.MethodName)) ∈ lw_all := lw_g (lw_at lw_m6 32 rfl) rfl
theorem q1292 : (Jvm.Cond.code ({ cls := "EventCountersModel", name := "hot", desc := "(III)I" } : Jvm.MethodName) prog_11_method_39_code (9 : Nat) (Option.some Jvm.ClassFile.FieldType.int)) ∈ lw_all := lw_g (lw_at lw_m6 33 rfl) rfl
theorem q1293 : (Jvm.Cond.constantLong "EventCountersModel" (271 : Nat) (100 : Int64)) ∈ lw_all := lw_g (lw_at lw_m6 34 rfl) rfl
theorem q1294 : (Jvm.Cond.methodLink "EventCountersModel" (273 : Nat) ({ cls := "EventCountersModel", name := "countOf", desc := "(I)I" } : Jvm.MethodName)) ∈ lw_all := lw_g (lw_at lw_m6 35 rfl) rfl
theorem q1295 : (Jvm.Cond.static ({ cls := "EventCountersModel", name := "countOf", desc := "(I)I" } : Jvm.MethodName)) ∈ lw_all := lw_g (lw_at lw_m6 36 rfl) rfl
theorem q1296 : (Jvm.Cond.code ({ cls := "EventCountersModel", name := "countOf", desc := "(I)I" } : Jvm.MethodName) prog_11_method_4_code (3 : Nat) (Option.some Jvm.ClassFile.FieldType.int)) ∈ lw_all := lw_g (lw_at lw_m6 37 rfl) rfl
theorem q1298 : (Jvm.Cond.instanceMethod ({ cls := "EventCountersModel", name := "keep", desc := "()I" } : Jvm.MethodName)) ∈ lw_all := lw_g (lw_at lw_m6 39 rfl) rfl
theorem q1299 : (Jvm.Cond.selects "EventCountersModel" ({ cls := "EventCountersModel", name := "keep", desc := "()I" } : Jvm.MethodName) ({ cls := "EventCountersModel", name := "keep", desc := "()I" } : Jvm.MethodName)) ∈ lw_all := lw_g (lw_at lw_m6 40 rfl) rfl
theorem q1300 : (Jvm.Cond.code ({ cls := "EventCountersModel", name := "keep", desc := "()I" } : Jvm.MethodName) prog_11_method_40_code (3 : Nat) (Option.some Jvm.ClassFile.FieldType.int)) ∈ lw_all := lw_g (lw_at lw_m6 41 rfl) rfl
theorem q1302 : (Jvm.Cond.instanceMethod ({ cls := "EventCountersModel", name := "beside", desc := "(II)I" } : Jvm.MethodName)) ∈ lw_all := lw_g (lw_at lw_m6 43 rfl) rfl
theorem q1303 : (Jvm.Cond.selects "EventCountersModel" ({ cls := "EventCountersModel", name := "beside", desc := "(II)I" } : Jvm.MethodName) ({ cls := "EventCountersModel", name := "beside", desc := "(II)I" } : Jvm.MethodName)) ∈ lw_all := lw_g (lw_at lw_m6 44 rfl) rfl
theorem q1304 : (Jvm.Cond.code ({ cls := "EventCountersModel", name := "beside", desc := "(II)I" } : Jvm.MethodName) prog_11_method_41_code (10 : Nat) (Option.some Jvm.ClassFile.FieldType.int)) ∈ lw_all := lw_g (lw_at lw_m6 45 rfl) rfl
theorem q1306 : (Jvm.Cond.instanceMethod ({ cls := "EventCountersModel", name := "counters", desc := "(I)I" } : Jvm.MethodName)) ∈ lw_all := lw_g (lw_at lw_m6 47 rfl) rfl
theorem q1307 : (Jvm.Cond.selects "EventCountersModel" ({ cls := "EventCountersModel", name := "counters", desc := "(I)I" } : Jvm.MethodName) ({ cls := "EventCountersModel", name := "counters", desc := "(I)I" } : Jvm.MethodName)) ∈ lw_all := lw_g (lw_at lw_m6 48 rfl) rfl
theorem q1308 : (Jvm.Cond.code ({ cls := "EventCountersModel", name := "counters", desc := "(I)I" } : Jvm.MethodName) prog_11_method_44_code (3 : Nat) (Option.some Jvm.ClassFile.FieldType.int)) ∈ lw_all := lw_g (lw_at lw_m6 49 rfl) rfl
theorem q1310 : (Jvm.Cond.instanceMethod ({ cls := "EventCountersModel", name := "mask", desc := "(II)I" } : Jvm.MethodName)) ∈ lw_all := lw_g (lw_at lw_m6 51 rfl) rfl
theorem q1311 : (Jvm.Cond.selects "EventCountersModel" ({ cls := "EventCountersModel", name := "mask", desc := "(II)I" } : Jvm.MethodName) ({ cls := "EventCountersModel", name := "mask", desc := "(II)I" } : Jvm.MethodName)) ∈ lw_all := lw_g (lw_at lw_m6 52 rfl) rfl
theorem q1312 : (Jvm.Cond.code ({ cls := "EventCountersModel", name := "mask", desc := "(II)I" } : Jvm.MethodName) prog_11_method_45_code (4 : Nat) (Option.some Jvm.ClassFile.FieldType.int)) ∈ lw_all := lw_g (lw_at lw_m6 53 rfl) rfl
theorem q1313 : (Jvm.Cond.methodLink "EventCountersModel" (279 : Nat) ({ cls := "EventCountersModel", name := "isCounter", desc := "(I)Z" } : Jvm.MethodName)) ∈ lw_all := lw_g (lw_at lw_m6 54 rfl) rfl
theorem q1314 : (Jvm.Cond.privateMethod ({ cls := "EventCountersModel", name := "isCounter", desc := "(I)Z" } : Jvm.MethodName)) ∈ lw_tbl := lw_at lw_m6 55 rfl
theorem q1315 : (Jvm.Cond.instanceMethod ({ cls := "EventCountersModel", name := "isCounter", desc := "(I)Z" } : Jvm.MethodName)) ∈ lw_all := lw_g (lw_at lw_m6 56 rfl) rfl
theorem q1316 : (Jvm.Cond.code ({ cls := "EventCountersModel", name := "isCounter", desc := "(I)Z" } : Jvm.MethodName) prog_11_method_43_code (2 : Nat) (Option.some Jvm.ClassFile.FieldType.boolean)) ∈ lw_all := lw_g (lw_at lw_m6 57 rfl) rfl
theorem q1318 : (Jvm.Cond.instanceMethod ({ cls := "EventCountersModel", name := "width", desc := "(II)I" } : Jvm.MethodName)) ∈ lw_all := lw_g (lw_at lw_m6 59 rfl) rfl
theorem q1319 : (Jvm.Cond.selects "EventCountersModel" ({ cls := "EventCountersModel", name := "width", desc := "(II)I" } : Jvm.MethodName) ({ cls := "EventCountersModel", name := "width", desc := "(II)I" } : Jvm.MethodName)) ∈ lw_all := lw_g (lw_at lw_m6 60 rfl) rfl
theorem q1320 : (Jvm.Cond.code ({ cls := "EventCountersModel", name := "width", desc := "(II)I" } : Jvm.MethodName) prog_11_method_46_code (4 : Nat) (Option.some Jvm.ClassFile.FieldType.int)) ∈ lw_all := lw_g (lw_at lw_m6 61 rfl) rfl
theorem q1321 : (Jvm.Cond.constantLong "EventCountersModel" (282 : Nat) (2 : Int64)) ∈ lw_all := lw_g (lw_at lw_m6 62 rfl) rfl
theorem q1322 : (Jvm.Cond.constantLong "EventCountersModel" (284 : Nat) (16 : Int64)) ∈ lw_all := lw_g (lw_at lw_m6 63 rfl) rfl
theorem q1324 : (Jvm.Cond.instanceMethod ({ cls := "EventCountersModel", name := "together", desc := "(I)I" } : Jvm.MethodName)) ∈ lw_all := lw_g (lw_at lw_m6 65 rfl) rfl
theorem q1325 : (Jvm.Cond.selects "EventCountersModel" ({ cls := "EventCountersModel", name := "together", desc := "(I)I" } : Jvm.MethodName) ({ cls := "EventCountersModel", name := "together", desc := "(I)I" } : Jvm.MethodName)) ∈ lw_all := lw_g (lw_at lw_m6 66 rfl) rfl
theorem q1326 : (Jvm.Cond.code ({ cls := "EventCountersModel", name := "together", desc := "(I)I" } : Jvm.MethodName) prog_11_method_49_code (2 : Nat) (Option.some Jvm.ClassFile.FieldType.int)) ∈ lw_all := lw_g (lw_at lw_m6 67 rfl) rfl
theorem q1327 : (Jvm.Cond.methodLink "EventCountersModel" (286 : Nat) ({ cls := "EventCountersModel", name := "areEvents", desc := "(I)Z" } : Jvm.MethodName)) ∈ lw_all := lw_g (lw_at lw_m6 68 rfl) rfl
theorem q1328 : (Jvm.Cond.static ({ cls := "EventCountersModel", name := "areEvents", desc := "(I)Z" } : Jvm.MethodName)) ∈ lw_all := lw_g (lw_at lw_m6 69 rfl) rfl
theorem q1329 : (Jvm.Cond.code ({ cls := "EventCountersModel", name := "areEvents", desc := "(I)Z" } : Jvm.MethodName) prog_11_method_48_code (1 : Nat) (Option.some Jvm.ClassFile.FieldType.boolean)) ∈ lw_all := lw_g (lw_at lw_m6 70 rfl) rfl
theorem q1330 : (Jvm.Cond.methodLink "EventCountersModel" (289 : Nat) ({ cls := "EventCountersModel", name := "wayOf", desc := "(I)I" } : Jvm.MethodName)) ∈ lw_all := lw_g (lw_at lw_m6 71 rfl) rfl
theorem q1331 : (Jvm.Cond.privateMethod ({ cls := "EventCountersModel", name := "wayOf", desc := "(I)I" } : Jvm.MethodName)) ∈ lw_tbl := lw_at lw_m6 72 rfl
theorem q1332 : (Jvm.Cond.instanceMethod ({ cls := "EventCountersModel", name := "wayOf", desc := "(I)I" } : Jvm.MethodName)) ∈ lw_all := lw_g (lw_at lw_m6 73 rfl) rfl
theorem q1333 : (Jvm.Cond.code ({ cls := "EventCountersModel", name := "wayOf", desc := "(I)I" } : Jvm.MethodName) prog_11_method_47_code (9 : Nat) (Option.some Jvm.ClassFile.FieldType.int)) ∈ lw_all := lw_g (lw_at lw_m6 74 rfl) rfl
theorem q1335 : (Jvm.Cond.instanceMethod ({ cls := "EventCountersModel", name := "goes", desc := "(II)I" } : Jvm.MethodName)) ∈ lw_all := lw_g (lw_at lw_m6 76 rfl) rfl
theorem q1336 : (Jvm.Cond.selects "EventCountersModel" ({ cls := "EventCountersModel", name := "goes", desc := "(II)I" } : Jvm.MethodName) ({ cls := "EventCountersModel", name := "goes", desc := "(II)I" } : Jvm.MethodName)) ∈ lw_all := lw_g (lw_at lw_m6 77 rfl) rfl
theorem q1337 : (Jvm.Cond.code ({ cls := "EventCountersModel", name := "goes", desc := "(II)I" } : Jvm.MethodName) prog_11_method_50_code (4 : Nat) (Option.some Jvm.ClassFile.FieldType.int)) ∈ lw_all := lw_g (lw_at lw_m6 78 rfl) rfl
theorem q1339 : (Jvm.Cond.instanceMethod ({ cls := "EventCountersModel", name := "rounds", desc := "(II)I" } : Jvm.MethodName)) ∈ lw_all := lw_g (lw_at lw_m6 80 rfl) rfl
theorem q1340 : (Jvm.Cond.selects "EventCountersModel" ({ cls := "EventCountersModel", name := "rounds", desc := "(II)I" } : Jvm.MethodName) ({ cls := "EventCountersModel", name := "rounds", desc := "(II)I" } : Jvm.MethodName)) ∈ lw_all := lw_g (lw_at lw_m6 81 rfl) rfl
theorem q1341 : (Jvm.Cond.code ({ cls := "EventCountersModel", name := "rounds", desc := "(II)I" } : Jvm.MethodName) prog_11_method_52_code (3 : Nat) (Option.some Jvm.ClassFile.FieldType.int)) ∈ lw_all := lw_g (lw_at lw_m6 82 rfl) rfl
theorem q1342 : (Jvm.Cond.methodLink "EventCountersModel" (295 : Nat) ({ cls := "EventCountersModel", name := "findRounds", desc := "(I)V" } : Jvm.MethodName)) ∈ lw_all := lw_g (lw_at lw_m6 83 rfl) rfl
theorem q1343 : (Jvm.Cond.privateMethod ({ cls := "EventCountersModel", name := "findRounds", desc := "(I)V" } : Jvm.MethodName)) ∈ lw_tbl := lw_at lw_m6 84 rfl
theorem q1344 : (Jvm.Cond.instanceMethod ({ cls := "EventCountersModel", name := "findRounds", desc := "(I)V" } : Jvm.MethodName)) ∈ lw_all := lw_g (lw_at lw_m6 85 rfl) rfl
theorem q1345 : (Jvm.Cond.code ({ cls := "EventCountersModel", name := "findRounds", desc := "(I)V" } : Jvm.MethodName) prog_11_method_51_code (6 : Nat) (Option.none : Option Jvm.ClassFile.FieldType)) ∈ lw_all := lw_g (lw_at lw_m6 86 rfl) rfl
theorem q1347 : (Jvm.Cond.instanceMethod ({ cls := "EventCountersModel", name := "sliced", desc := "(IIII)I" } : Jvm.MethodName)) ∈ lw_all := lw_g (lw_at lw_m6 88 rfl) rfl
theorem q1348 : (Jvm.Cond.selects "EventCountersModel" ({ cls := "EventCountersModel", name := "sliced", desc := "(IIII)I" } : Jvm.MethodName) ({ cls := "EventCountersModel", name := "sliced", desc := "(IIII)I" } : Jvm.MethodName)) ∈ lw_all := lw_g (lw_at lw_m6 89 rfl) rfl
theorem q1349 : (Jvm.Cond.code ({ cls := "EventCountersModel", name := "sliced", desc := "(IIII)I" } : Jvm.MethodName) prog_11_method_56_code (5 : Nat) (Option.some Jvm.ClassFile.FieldType.int)) ∈ lw_all := lw_g (lw_at lw_m6 90 rfl) rfl
theorem q1350 : (Jvm.Cond.methodLink "EventCountersModel" (310 : Nat) ({ cls := "EventCountersModel", name := "isOf", desc := "(II)Z" } : Jvm.MethodName)) ∈ lw_all := lw_g (lw_at lw_m6 91 rfl) rfl
theorem q1351 : (Jvm.Cond.static ({ cls := "EventCountersModel", name := "isOf", desc := "(II)Z" } : Jvm.MethodName)) ∈ lw_all := lw_g (lw_at lw_m6 92 rfl) rfl
theorem q1352 : (Jvm.Cond.code ({ cls := "EventCountersModel", name := "isOf", desc := "(II)Z" } : Jvm.MethodName) prog_11_method_55_code (2 : Nat) (Option.some Jvm.ClassFile.FieldType.boolean)) ∈ lw_all := lw_g (lw_at lw_m6 93 rfl) rfl
theorem q1353 : (Jvm.Cond.constantLong "EventCountersModel" (313 : Nat) (999 : Int64)) ∈ lw_all := lw_g (lw_at lw_m6 94 rfl) rfl
theorem q1354 : (Jvm.Cond.methodLink "EventCountersModel" (315 : Nat) ({ cls := "EventCountersModel", name := "countsBy", desc := "(III)Z" } : Jvm.MethodName)) ∈ lw_all := lw_g (lw_at lw_m6 95 rfl) rfl
theorem q1355 : (Jvm.Cond.privateMethod ({ cls := "EventCountersModel", name := "countsBy", desc := "(III)Z" } : Jvm.MethodName)) ∈ lw_tbl := lw_at lw_m6 96 rfl
theorem q1356 : (Jvm.Cond.instanceMethod ({ cls := "EventCountersModel", name := "countsBy", desc := "(III)Z" } : Jvm.MethodName)) ∈ lw_all := lw_g (lw_at lw_m6 97 rfl) rfl
theorem q1357 : (Jvm.Cond.code ({ cls := "EventCountersModel", name := "countsBy", desc := "(III)Z" } : Jvm.MethodName) prog_11_method_53_code (4 : Nat) (Option.some Jvm.ClassFile.FieldType.boolean)) ∈ lw_all := lw_g (lw_at lw_m6 98 rfl) rfl
theorem q1358 : (Jvm.Cond.methodLink "EventCountersModel" (299 : Nat) ({ cls := "EventCountersModel", name := "countsIn", desc := "(II)V" } : Jvm.MethodName)) ∈ lw_all := lw_g (lw_at lw_m6 99 rfl) rfl
theorem q1359 : (Jvm.Cond.privateMethod ({ cls := "EventCountersModel", name := "countsIn", desc := "(II)V" } : Jvm.MethodName)) ∈ lw_tbl := lw_at lw_m6 100 rfl
theorem q1360 : (Jvm.Cond.instanceMethod ({ cls := "EventCountersModel", name := "countsIn", desc := "(II)V" } : Jvm.MethodName)) ∈ lw_all := lw_g (lw_at lw_m6 101 rfl) rfl
theorem q1361 : (Jvm.Cond.code ({ cls := "EventCountersModel", name := "countsIn", desc := "(II)V" } : Jvm.MethodName) prog_11_method_54_code (6 : Nat) (Option.none : Option Jvm.ClassFile.FieldType)) ∈ lw_all := lw_g (lw_at lw_m6 102 rfl) rfl
theorem q1363 : (Jvm.Cond.instanceMethod ({ cls := "EventCountersModel", name := "scaled", desc := "(IIII)J" } : Jvm.MethodName)) ∈ lw_all := lw_g (lw_at lw_m6 104 rfl) rfl
theorem q1364 : (Jvm.Cond.selects "EventCountersModel" ({ cls := "EventCountersModel", name := "scaled", desc := "(IIII)J" } : Jvm.MethodName) ({ cls := "EventCountersModel", name := "scaled", desc := "(IIII)J" } : Jvm.MethodName)) ∈ lw_all := lw_g (lw_at lw_m6 105 rfl) rfl
theorem q1365 : (Jvm.Cond.code ({ cls := "EventCountersModel", name := "scaled", desc := "(IIII)J" } : Jvm.MethodName) prog_11_method_57_code (5 : Nat) (Option.some Jvm.ClassFile.FieldType.long)) ∈ lw_all := lw_g (lw_at lw_m6 106 rfl) rfl
theorem q1366 : (Jvm.Cond.constantLong "EventCountersModel" (319 : Nat) (3 : Int64)) ∈ lw_all := lw_g (lw_at lw_m6 107 rfl) rfl
theorem q1367 : (Jvm.Cond.constantLong "EventCountersModel" (321 : Nat) (-1000000000000 : Int64)) ∈ lw_all := lw_g (lw_at lw_m6 108 rfl) rfl
theorem q1368 : (Jvm.Cond.constantLong "EventCountersModel" (323 : Nat) (-1000000000004 : Int64)) ∈ lw_all := lw_g (lw_at lw_m6 109 rfl) rfl
theorem q1370 : (Jvm.Cond.instanceMethod ({ cls := "EventCountersModel", name := "finest", desc := "(IIII)I" } : Jvm.MethodName)) ∈ lw_all := lw_g (lw_at lw_m6 111 rfl) rfl
theorem q1371 : (Jvm.Cond.selects "EventCountersModel" ({ cls := "EventCountersModel", name := "finest", desc := "(IIII)I" } : Jvm.MethodName) ({ cls := "EventCountersModel", name := "finest", desc := "(IIII)I" } : Jvm.MethodName)) ∈ lw_all := lw_g (lw_at lw_m6 112 rfl) rfl
theorem q1372 : (Jvm.Cond.code ({ cls := "EventCountersModel", name := "finest", desc := "(IIII)I" } : Jvm.MethodName) prog_11_method_58_code (14 : Nat) (Option.some Jvm.ClassFile.FieldType.int)) ∈ lw_all := lw_g (lw_at lw_m6 113 rfl) rfl
theorem q1374 : (Jvm.Cond.instanceMethod ({ cls := "EventCountersModel", name := "shows", desc := "(IIIII)I" } : Jvm.MethodName)) ∈ lw_all := lw_g (lw_at lw_m6 115 rfl) rfl
theorem q1375 : (Jvm.Cond.selects "EventCountersModel" ({ cls := "EventCountersModel", name := "shows", desc := "(IIIII)I" } : Jvm.MethodName) ({ cls := "EventCountersModel", name := "shows", desc := "(IIIII)I" } : Jvm.MethodName)) ∈ lw_all := lw_g (lw_at lw_m6 116 rfl) rfl
theorem q1376 : (Jvm.Cond.code ({ cls := "EventCountersModel", name := "shows", desc := "(IIIII)I" } : Jvm.MethodName) prog_11_method_61_code (6 : Nat) (Option.some Jvm.ClassFile.FieldType.int)) ∈ lw_all := lw_g (lw_at lw_m6 117 rfl) rfl
theorem q1377 : (Jvm.Cond.methodLink "EventCountersModel" (335 : Nat) ({ cls := "EventCountersModel", name := "isSampling", desc := "(IIII)Z" } : Jvm.MethodName)) ∈ lw_all := lw_g (lw_at lw_m6 118 rfl) rfl
theorem q1378 : (Jvm.Cond.static ({ cls := "EventCountersModel", name := "isSampling", desc := "(IIII)Z" } : Jvm.MethodName)) ∈ lw_all := lw_g (lw_at lw_m6 119 rfl) rfl
theorem q1379 : (Jvm.Cond.code ({ cls := "EventCountersModel", name := "isSampling", desc := "(IIII)Z" } : Jvm.MethodName) prog_11_method_60_code (4 : Nat) (Option.some Jvm.ClassFile.FieldType.boolean)) ∈ lw_all := lw_g (lw_at lw_m6 120 rfl) rfl
theorem q1380 : (Jvm.Cond.constantLong "EventCountersModel" (331 : Nat) (9999 : Int64)) ∈ lw_all := lw_g (lw_at lw_m6 121 rfl) rfl
theorem q1381 : (Jvm.Cond.constantLong "EventCountersModel" (333 : Nat) (9 : Int64)) ∈ lw_all := lw_g (lw_at lw_m6 122 rfl) rfl
theorem q1382 : (Jvm.Cond.methodLink "EventCountersModel" (339 : Nat) ({ cls := "EventCountersModel", name := "findSamples", desc := "(IIII)V" } : Jvm.MethodName)) ∈ lw_all := lw_g (lw_at lw_m6 123 rfl) rfl
theorem q1383 : (Jvm.Cond.privateMethod ({ cls := "EventCountersModel", name := "findSamples", desc := "(IIII)V" } : Jvm.MethodName)) ∈ lw_tbl := lw_at lw_m6 124 rfl
theorem q1384 : (Jvm.Cond.instanceMethod ({ cls := "EventCountersModel", name := "findSamples", desc := "(IIII)V" } : Jvm.MethodName)) ∈ lw_all := lw_g (lw_at lw_m6 125 rfl) rfl
theorem q1385 : (Jvm.Cond.code ({ cls := "EventCountersModel", name := "findSamples", desc := "(IIII)V" } : Jvm.MethodName) prog_11_method_59_code (8 : Nat) (Option.none : Option Jvm.ClassFile.FieldType)) ∈ lw_all := lw_g (lw_at lw_m6 126 rfl) rfl
theorem q1387 : (Jvm.Cond.instanceMethod ({ cls := "EventCountersModel", name := "samples", desc := "(IIIII)I" } : Jvm.MethodName)) ∈ lw_all := lw_g (lw_at lw_m6 128 rfl) rfl
theorem q1388 : (Jvm.Cond.selects "EventCountersModel" ({ cls := "EventCountersModel", name := "samples", desc := "(IIIII)I" } : Jvm.MethodName) ({ cls := "EventCountersModel", name := "samples", desc := "(IIIII)I" } : Jvm.MethodName)) ∈ lw_all := lw_g (lw_at lw_m6 129 rfl) rfl
theorem q1389 : (Jvm.Cond.code ({ cls := "EventCountersModel", name := "samples", desc := "(IIIII)I" } : Jvm.MethodName) prog_11_method_62_code (11 : Nat) (Option.some Jvm.ClassFile.FieldType.int)) ∈ lw_all := lw_g (lw_at lw_m6 130 rfl) rfl
theorem q1390 : (Jvm.Cond.constantLong "EventCountersModel" (343 : Nat) (5 : Int64)) ∈ lw_all := lw_g (lw_at lw_m6 131 rfl) rfl
theorem q1392 : (Jvm.Cond.instanceMethod ({ cls := "EventCountersModel", name := "far", desc := "(IIIII)J" } : Jvm.MethodName)) ∈ lw_all := lw_g (lw_at lw_m6 133 rfl) rfl
theorem q1393 : (Jvm.Cond.selects "EventCountersModel" ({ cls := "EventCountersModel", name := "far", desc := "(IIIII)J" } : Jvm.MethodName) ({ cls := "EventCountersModel", name := "far", desc := "(IIIII)J" } : Jvm.MethodName)) ∈ lw_all := lw_g (lw_at lw_m6 134 rfl) rfl
theorem q1394 : (Jvm.Cond.code ({ cls := "EventCountersModel", name := "far", desc := "(IIIII)J" } : Jvm.MethodName) prog_11_method_64_code (6 : Nat) (Option.some Jvm.ClassFile.FieldType.long)) ∈ lw_all := lw_g (lw_at lw_m6 135 rfl) rfl
theorem q1395 : (Jvm.Cond.constantLong "EventCountersModel" (345 : Nat) (-1 : Int64)) ∈ lw_all := lw_g (lw_at lw_m6 136 rfl) rfl
theorem q1396 : (Jvm.Cond.constantLong "EventCountersModel" (347 : Nat) (-4 : Int64)) ∈ lw_all := lw_g (lw_at lw_m6 137 rfl) rfl
theorem q1397 : (Jvm.Cond.methodLink "EventCountersModel" (349 : Nat) ({ cls := "EventCountersModel", name := "farNow", desc := "(I)J" } : Jvm.MethodName)) ∈ lw_all := lw_g (lw_at lw_m6 138 rfl) rfl
theorem q1398 : (Jvm.Cond.privateMethod ({ cls := "EventCountersModel", name := "farNow", desc := "(I)J" } : Jvm.MethodName)) ∈ lw_tbl := lw_at lw_m6 139 rfl
theorem q1399 : (Jvm.Cond.instanceMethod ({ cls := "EventCountersModel", name := "farNow", desc := "(I)J" } : Jvm.MethodName)) ∈ lw_all := lw_g (lw_at lw_m6 140 rfl) rfl
theorem q1400 : (Jvm.Cond.code ({ cls := "EventCountersModel", name := "farNow", desc := "(I)J" } : Jvm.MethodName) prog_11_method_63_code (7 : Nat) (Option.some Jvm.ClassFile.FieldType.long)) ∈ lw_all := lw_g (lw_at lw_m6 141 rfl) rfl
theorem q1402 : (Jvm.Cond.instanceMethod ({ cls := "EventCountersModel", name := "truest", desc := "(IIII)I" } : Jvm.MethodName)) ∈ lw_all := lw_g (lw_at lw_m6 143 rfl) rfl
theorem q1403 : (Jvm.Cond.selects "EventCountersModel" ({ cls := "EventCountersModel", name := "truest", desc := "(IIII)I" } : Jvm.MethodName) ({ cls := "EventCountersModel", name := "truest", desc := "(IIII)I" } : Jvm.MethodName)) ∈ lw_all := lw_g (lw_at lw_m6 144 rfl) rfl
theorem q1404 : (Jvm.Cond.code ({ cls := "EventCountersModel", name := "truest", desc := "(IIII)I" } : Jvm.MethodName) prog_11_method_65_code (14 : Nat) (Option.some Jvm.ClassFile.FieldType.int)) ∈ lw_all := lw_g (lw_at lw_m6 145 rfl) rfl
theorem q1406 : (Jvm.Cond.instanceMethod ({ cls := "EventCountersModel", name := "beats", desc := "(IIII)I" } : Jvm.MethodName)) ∈ lw_all := lw_g (lw_at lw_m6 147 rfl) rfl
theorem q1407 : (Jvm.Cond.selects "EventCountersModel" ({ cls := "EventCountersModel", name := "beats", desc := "(IIII)I" } : Jvm.MethodName) ({ cls := "EventCountersModel", name := "beats", desc := "(IIII)I" } : Jvm.MethodName)) ∈ lw_all := lw_g (lw_at lw_m6 148 rfl) rfl
theorem q1408 : (Jvm.Cond.code ({ cls := "EventCountersModel", name := "beats", desc := "(IIII)I" } : Jvm.MethodName) prog_11_method_66_code (12 : Nat) (Option.some Jvm.ClassFile.FieldType.int)) ∈ lw_all := lw_g (lw_at lw_m6 149 rfl) rfl
theorem q1410 : (Jvm.Cond.instanceMethod ({ cls := "EventCountersModel", name := "over", desc := "(IIII)I" } : Jvm.MethodName)) ∈ lw_all := lw_g (lw_at lw_m6 151 rfl) rfl
theorem q1411 : (Jvm.Cond.selects "EventCountersModel" ({ cls := "EventCountersModel", name := "over", desc := "(IIII)I" } : Jvm.MethodName) ({ cls := "EventCountersModel", name := "over", desc := "(IIII)I" } : Jvm.MethodName)) ∈ lw_all := lw_g (lw_at lw_m6 152 rfl) rfl
theorem q1412 : (Jvm.Cond.code ({ cls := "EventCountersModel", name := "over", desc := "(IIII)I" } : Jvm.MethodName) prog_11_method_68_code (6 : Nat) (Option.some Jvm.ClassFile.FieldType.int)) ∈ lw_all := lw_g (lw_at lw_m6 153 rfl) rfl
theorem q1413 : (Jvm.Cond.methodLink "EventCountersModel" (352 : Nat) ({ cls := "EventCountersModel", name := "canCount", desc := "(II)Z" } : Jvm.MethodName)) ∈ lw_all := lw_g (lw_at lw_m6 154 rfl) rfl
theorem q1414 : (Jvm.Cond.privateMethod ({ cls := "EventCountersModel", name := "canCount", desc := "(II)Z" } : Jvm.MethodName)) ∈ lw_tbl := lw_at lw_m6 155 rfl
theorem q1415 : (Jvm.Cond.instanceMethod ({ cls := "EventCountersModel", name := "canCount", desc := "(II)Z" } : Jvm.MethodName)) ∈ lw_all := lw_g (lw_at lw_m6 156 rfl) rfl
theorem q1416 : (Jvm.Cond.code ({ cls := "EventCountersModel", name := "canCount", desc := "(II)Z" } : Jvm.MethodName) prog_11_method_67_code (3 : Nat) (Option.some Jvm.ClassFile.FieldType.boolean)) ∈ lw_all := lw_g (lw_at lw_m6 157 rfl) rfl
theorem q1418 : (Jvm.Cond.instanceMethod ({ cls := "EventCountersModel", name := "looked", desc := "(IIII)I" } : Jvm.MethodName)) ∈ lw_all := lw_g (lw_at lw_m6 159 rfl) rfl
theorem q1419 : (Jvm.Cond.selects "EventCountersModel" ({ cls := "EventCountersModel", name := "looked", desc := "(IIII)I" } : Jvm.MethodName) ({ cls := "EventCountersModel", name := "looked", desc := "(IIII)I" } : Jvm.MethodName)) ∈ lw_all := lw_g (lw_at lw_m6 160 rfl) rfl
theorem q1420 : (Jvm.Cond.code ({ cls := "EventCountersModel", name := "looked", desc := "(IIII)I" } : Jvm.MethodName) prog_11_method_70_code (6 : Nat) (Option.some Jvm.ClassFile.FieldType.int)) ∈ lw_all := lw_g (lw_at lw_m6 161 rfl) rfl
theorem q1421 : (Jvm.Cond.methodLink "EventCountersModel" (358 : Nat) ({ cls := "EventCountersModel", name := "toldBy", desc := "(III)I" } : Jvm.MethodName)) ∈ lw_all := lw_g (lw_at lw_m6 162 rfl) rfl
theorem q1422 : (Jvm.Cond.privateMethod ({ cls := "EventCountersModel", name := "toldBy", desc := "(III)I" } : Jvm.MethodName)) ∈ lw_tbl := lw_at lw_m6 163 rfl
theorem q1423 : (Jvm.Cond.instanceMethod ({ cls := "EventCountersModel", name := "toldBy", desc := "(III)I" } : Jvm.MethodName)) ∈ lw_all := lw_g (lw_at lw_m6 164 rfl) rfl
theorem q1424 : (Jvm.Cond.code ({ cls := "EventCountersModel", name := "toldBy", desc := "(III)I" } : Jvm.MethodName) prog_11_method_69_code (10 : Nat) (Option.some Jvm.ClassFile.FieldType.int)) ∈ lw_all := lw_g (lw_at lw_m6 165 rfl) rfl
theorem q1426 : (Jvm.Cond.instanceMethod ({ cls := "EventCountersModel", name := "seldom", desc := "(II)I" } : Jvm.MethodName)) ∈ lw_all := lw_g (lw_at lw_m6 167 rfl) rfl
theorem q1427 : (Jvm.Cond.selects "EventCountersModel" ({ cls := "EventCountersModel", name := "seldom", desc := "(II)I" } : Jvm.MethodName) ({ cls := "EventCountersModel", name := "seldom", desc := "(II)I" } : Jvm.MethodName)) ∈ lw_all := lw_g (lw_at lw_m6 168 rfl) rfl
theorem q1428 : (Jvm.Cond.code ({ cls := "EventCountersModel", name := "seldom", desc := "(II)I" } : Jvm.MethodName) prog_11_method_71_code (5 : Nat) (Option.some Jvm.ClassFile.FieldType.int)) ∈ lw_all := lw_g (lw_at lw_m6 169 rfl) rfl
theorem q1430 : (Jvm.Cond.instanceMethod ({ cls := "EventCountersModel", name := "run", desc := "(III)I" } : Jvm.MethodName)) ∈ lw_all := lw_g (lw_at lw_m6 171 rfl) rfl
theorem q1431 : (Jvm.Cond.selects "EventCountersModel" ({ cls := "EventCountersModel", name := "run", desc := "(III)I" } : Jvm.MethodName) ({ cls := "EventCountersModel", name := "run", desc := "(III)I" } : Jvm.MethodName)) ∈ lw_all := lw_g (lw_at lw_m6 172 rfl) rfl
theorem q1432 : (Jvm.Cond.code ({ cls := "EventCountersModel", name := "run", desc := "(III)I" } : Jvm.MethodName) prog_11_method_72_code (4 : Nat) (Option.some Jvm.ClassFile.FieldType.int)) ∈ lw_all := lw_g (lw_at lw_m6 173 rfl) rfl
theorem q1434 : (Jvm.Cond.instanceMethod ({ cls := "EventCountersModel", name := "forget", desc := "()I" } : Jvm.MethodName)) ∈ lw_all := lw_g (lw_at lw_m6 175 rfl) rfl
theorem q1435 : (Jvm.Cond.selects "EventCountersModel" ({ cls := "EventCountersModel", name := "forget", desc := "()I" } : Jvm.MethodName) ({ cls := "EventCountersModel", name := "forget", desc := "()I" } : Jvm.MethodName)) ∈ lw_all := lw_g (lw_at lw_m6 176 rfl) rfl
theorem q1436 : (Jvm.Cond.code ({ cls := "EventCountersModel", name := "forget", desc := "()I" } : Jvm.MethodName) prog_11_method_73_code (2 : Nat) (Option.some Jvm.ClassFile.FieldType.int)) ∈ lw_all := lw_g (lw_at lw_m6 177 rfl) rfl
theorem q1438 : (Jvm.Cond.instanceMethod ({ cls := "EventCountersModel", name := "wired", desc := "(III)I" } : Jvm.MethodName)) ∈ lw_all := lw_g (lw_at lw_m6 179 rfl) rfl
theorem q1439 : (Jvm.Cond.selects "EventCountersModel" ({ cls := "EventCountersModel", name := "wired", desc := "(III)I" } : Jvm.MethodName) ({ cls := "EventCountersModel", name := "wired", desc := "(III)I" } : Jvm.MethodName)) ∈ lw_all := lw_g (lw_at lw_m6 180 rfl) rfl
theorem q1440 : (Jvm.Cond.code ({ cls := "EventCountersModel", name := "wired", desc := "(III)I" } : Jvm.MethodName) prog_11_method_76_code (7 : Nat) (Option.some Jvm.ClassFile.FieldType.int)) ∈ lw_all := lw_g (lw_at lw_m6 181 rfl) rfl
theorem q1441 : (Jvm.Cond.methodLink "EventCountersModel" (362 : Nat) ({ cls := "EventCountersModel", name := "hasRun", desc := "(II)Z" } : Jvm.MethodName)) ∈ lw_all := lw_g (lw_at lw_m6 182 rfl) rfl
theorem q1442 : (Jvm.Cond.privateMethod ({ cls := "EventCountersModel", name := "hasRun", desc := "(II)Z" } : Jvm.MethodName)) ∈ lw_tbl := lw_at lw_m6 183 rfl
theorem q1443 : (Jvm.Cond.instanceMethod ({ cls := "EventCountersModel", name := "hasRun", desc := "(II)Z" } : Jvm.MethodName)) ∈ lw_all := lw_g (lw_at lw_m6 184 rfl) rfl
theorem q1444 : (Jvm.Cond.code ({ cls := "EventCountersModel", name := "hasRun", desc := "(II)Z" } : Jvm.MethodName) prog_11_method_75_code (5 : Nat) (Option.some Jvm.ClassFile.FieldType.boolean)) ∈ lw_all := lw_g (lw_at lw_m6 185 rfl) rfl
theorem q1445 : (Jvm.Cond.methodLink "EventCountersModel" (365 : Nat) ({ cls := "EventCountersModel", name := "fits", desc := "(III)Z" } : Jvm.MethodName)) ∈ lw_all := lw_g (lw_at lw_m6 186 rfl) rfl
theorem q1446 : (Jvm.Cond.privateMethod ({ cls := "EventCountersModel", name := "fits", desc := "(III)Z" } : Jvm.MethodName)) ∈ lw_tbl := lw_at lw_m6 187 rfl
theorem q1447 : (Jvm.Cond.instanceMethod ({ cls := "EventCountersModel", name := "fits", desc := "(III)Z" } : Jvm.MethodName)) ∈ lw_all := lw_g (lw_at lw_m6 188 rfl) rfl
theorem q1448 : (Jvm.Cond.code ({ cls := "EventCountersModel", name := "fits", desc := "(III)Z" } : Jvm.MethodName) prog_11_method_74_code (7 : Nat) (Option.some Jvm.ClassFile.FieldType.boolean)) ∈ lw_all := lw_g (lw_at lw_m6 189 rfl) rfl
theorem q1450 : (Jvm.Cond.instanceMethod ({ cls := "EventCountersModel", name := "sheet", desc := "(III)I" } : Jvm.MethodName)) ∈ lw_all := lw_g (lw_at lw_m6 191 rfl) rfl
theorem q1451 : (Jvm.Cond.selects "EventCountersModel" ({ cls := "EventCountersModel", name := "sheet", desc := "(III)I" } : Jvm.MethodName) ({ cls := "EventCountersModel", name := "sheet", desc := "(III)I" } : Jvm.MethodName)) ∈ lw_all := lw_g (lw_at lw_m6 192 rfl) rfl
theorem q1452 : (Jvm.Cond.code ({ cls := "EventCountersModel", name := "sheet", desc := "(III)I" } : Jvm.MethodName) prog_11_method_78_code (5 : Nat) (Option.some Jvm.ClassFile.FieldType.int)) ∈ lw_all := lw_g (lw_at lw_m6 193 rfl) rfl
theorem q1453 : (Jvm.Cond.methodLink "EventCountersModel" (368 : Nat) ({ cls := "EventCountersModel", name := "isSheet", desc := "(II)Z" } : Jvm.MethodName)) ∈ lw_all := lw_g (lw_at lw_m6 194 rfl) rfl
theorem q1454 : (Jvm.Cond.static ({ cls := "EventCountersModel", name := "isSheet", desc := "(II)Z" } : Jvm.MethodName)) ∈ lw_all := lw_g (lw_at lw_m6 195 rfl) rfl
theorem q1455 : (Jvm.Cond.code ({ cls := "EventCountersModel", name := "isSheet", desc := "(II)Z" } : Jvm.MethodName) prog_11_method_77_code (2 : Nat) (Option.some Jvm.ClassFile.FieldType.boolean)) ∈ lw_all := lw_g (lw_at lw_m6 196 rfl) rfl
theorem q1457 : (Jvm.Cond.instanceMethod ({ cls := "EventCountersModel", name := "lay", desc := "(III)I" } : Jvm.MethodName)) ∈ lw_all := lw_g (lw_at lw_m6 198 rfl) rfl
theorem q1458 : (Jvm.Cond.selects "EventCountersModel" ({ cls := "EventCountersModel", name := "lay", desc := "(III)I" } : Jvm.MethodName) ({ cls := "EventCountersModel", name := "lay", desc := "(III)I" } : Jvm.MethodName)) ∈ lw_all := lw_g (lw_at lw_m6 199 rfl) rfl
theorem q1459 : (Jvm.Cond.code ({ cls := "EventCountersModel", name := "lay", desc := "(III)I" } : Jvm.MethodName) prog_11_method_79_code (4 : Nat) (Option.some Jvm.ClassFile.FieldType.int)) ∈ lw_all := lw_g (lw_at lw_m6 200 rfl) rfl
theorem q1461 : (Jvm.Cond.instanceMethod ({ cls := "EventCountersModel", name := "said", desc := "(IIIII)I" } : Jvm.MethodName)) ∈ lw_all := lw_g (lw_at lw_m6 202 rfl) rfl
theorem q1462 : (Jvm.Cond.selects "EventCountersModel" ({ cls := "EventCountersModel", name := "said", desc := "(IIIII)I" } : Jvm.MethodName) ({ cls := "EventCountersModel", name := "said", desc := "(IIIII)I" } : Jvm.MethodName)) ∈ lw_all := lw_g (lw_at lw_m6 203 rfl) rfl
theorem q1463 : (Jvm.Cond.code ({ cls := "EventCountersModel", name := "said", desc := "(IIIII)I" } : Jvm.MethodName) prog_11_method_80_code (15 : Nat) (Option.some Jvm.ClassFile.FieldType.int)) ∈ lw_all := lw_g (lw_at lw_m6 204 rfl) rfl
theorem q1465 : (Jvm.Cond.instanceMethod ({ cls := "EventCountersModel", name := "count", desc := "(I)I" } : Jvm.MethodName)) ∈ lw_all := lw_g (lw_at lw_m6 206 rfl) rfl
theorem q1466 : (Jvm.Cond.selects "EventCountersModel" ({ cls := "EventCountersModel", name := "count", desc := "(I)I" } : Jvm.MethodName) ({ cls := "EventCountersModel", name := "count", desc := "(I)I" } : Jvm.MethodName)) ∈ lw_all := lw_g (lw_at lw_m6 207 rfl) rfl
theorem q1467 : (Jvm.Cond.code ({ cls := "EventCountersModel", name := "count", desc := "(I)I" } : Jvm.MethodName) prog_11_method_81_code (2 : Nat) (Option.some Jvm.ClassFile.FieldType.int)) ∈ lw_all := lw_g (lw_at lw_m6 208 rfl) rfl
theorem q1468 : (Jvm.Cond.constantLong "EventCountersModel" (371 : Nat) (20 : Int64)) ∈ lw_all := lw_g (lw_at lw_m6 209 rfl) rfl
theorem in_X3 : ∀ w ∈ wsX30, w ∈ lw_all := lw_in wsX30 [1030, 1032, 1034, 1036, 1038, 1040, 1042, 1044, 1046, 1048, 1050, 1052, 1054, 1056, 1058, 1060, 1062, 1064, 1066, 1068, 1070, 1072, 1074, 1076, 1078, 1080, 1082, 1084, 1086, 1088, 1090, 1092, 1094, 1096, 1098, 1100, 1102, 1104, 1106, 1108, 1110, 1112, 1114, 1116, 1118, 1120, 1122, 1124, 1126, 1128, 1130, 1132, 1134, 1136, 1138, 1140] (by decide +kernel) (by decide +kernel)
