/-! java/lang/Throwable -/
set_option maxRecDepth 100000
def RJ0 : String := "java/lang/Throwable"
def TJ0 : u_T := fun k => match k with
  | 0 => ("java/lang/Throwable", "cause", "Ljava/lang/Throwable;", false)
  | 1 => ("java/lang/Throwable", "stackTrace", "[Ljava/lang/StackTraceElement;", false)
  | 2 => ("java/lang/Throwable", "suppressedExceptions", "Ljava/util/List;", false)
  | 3 => ("java/lang/Throwable", "detailMessage", "Ljava/lang/String;", false)
  | _ => ("java/lang/Throwable", "backtrace", "Ljava/lang/Object;", false)
def tyJ0 : Nat → FieldType := fun k => match k with
  | 0 => .object "java/lang/Throwable"
  | 1 => .array (.object "java/lang/StackTraceElement")
  | 2 => .object "java/util/List"
  | 3 => .object "java/lang/String"
  | _ => .object "java/lang/Object"
abbrev wsJ00 : List Cond := u_ws RJ0 TJ0 5
theorem nmJ0 : ∀ a, a < 5 → ∀ b, b < 5 → a ≠ b → (TJ0 a).2.1 ≠ (TJ0 b).2.1 := by decide +kernel
theorem tyJ0_ok : ∀ k, k < 5 → parseFieldDescriptor (TJ0 k).2.2.1 = some (tyJ0 k) := by decide +kernel
abbrev cJ0_init : ByteArray := prog_25_method_1_code
def yJ0_init : MethodName := ⟨RJ0, "<init>", "()V"⟩
def dkwJ0_init_1 : List UInt8 := [182, 0, 27, 87, 177]
abbrev dktJ0_init_1 : List UInt8 := dkwJ0_init_1 ++ []
def dkwJ0_init_0 : List UInt8 := [42, 183, 0, 1, 42, 42, 181, 0, 7, 42, 178, 0, 13, 181, 0, 17, 42, 178, 0, 20, 181, 0, 24, 42]
abbrev dktJ0_init_0 : List UInt8 := dkwJ0_init_0 ++ dktJ0_init_1
theorem dksJ0_init_0 : cJ0_init.data.toList.drop 0 = dktJ0_init_0 := by decide +kernel
theorem dksJ0_init_1 : cJ0_init.data.toList.drop 24 = dktJ0_init_1 := dk_seg dksJ0_init_0 24 rfl rfl
theorem dJ0_init_0 : decode cJ0_init 0 = .ok (.aload_n 0, 1) := dk_42 (dk_at dksJ0_init_0 0 rfl rfl)
theorem dJ0_init_1 : decode cJ0_init 1 = .ok (.invokespecial 1, 3) := dk_183 0 1 (dk_at dksJ0_init_0 1 rfl rfl)
theorem dJ0_init_4 : decode cJ0_init 4 = .ok (.aload_n 0, 1) := dk_42 (dk_at dksJ0_init_0 4 rfl rfl)
theorem dJ0_init_5 : decode cJ0_init 5 = .ok (.aload_n 0, 1) := dk_42 (dk_at dksJ0_init_0 5 rfl rfl)
theorem dJ0_init_6 : decode cJ0_init 6 = .ok (.putfield 7, 3) := dk_181 0 7 (dk_at dksJ0_init_0 6 rfl rfl)
theorem dJ0_init_9 : decode cJ0_init 9 = .ok (.aload_n 0, 1) := dk_42 (dk_at dksJ0_init_0 9 rfl rfl)
theorem dJ0_init_10 : decode cJ0_init 10 = .ok (.getstatic 13, 3) := dk_178 0 13 (dk_at dksJ0_init_0 10 rfl rfl)
theorem dJ0_init_13 : decode cJ0_init 13 = .ok (.putfield 17, 3) := dk_181 0 17 (dk_at dksJ0_init_0 13 rfl rfl)
theorem dJ0_init_16 : decode cJ0_init 16 = .ok (.aload_n 0, 1) := dk_42 (dk_at dksJ0_init_0 16 rfl rfl)
theorem dJ0_init_17 : decode cJ0_init 17 = .ok (.getstatic 20, 3) := dk_178 0 20 (dk_at dksJ0_init_0 17 rfl rfl)
theorem dJ0_init_20 : decode cJ0_init 20 = .ok (.putfield 24, 3) := dk_181 0 24 (dk_at dksJ0_init_0 20 rfl rfl)
theorem dJ0_init_23 : decode cJ0_init 23 = .ok (.aload_n 0, 1) := dk_42 (dk_at dksJ0_init_0 23 rfl rfl)
theorem dJ0_init_24 : decode cJ0_init 24 = .ok (.invokevirtual 27, 3) := dk_182 0 27 (dk_at dksJ0_init_1 0 rfl rfl)
theorem dJ0_init_27 : decode cJ0_init 27 = .ok (.pop, 1) := dk_87 (dk_at dksJ0_init_1 3 rfl rfl)
theorem dJ0_init_28 : decode cJ0_init 28 = .ok (.return_, 1) := dk_177 (dk_at dksJ0_init_1 4 rfl rfl)
abbrev cJ0_init_2 : ByteArray := prog_25_method_5_code
def yJ0_init_2 : MethodName := ⟨RJ0, "<init>", "(Ljava/lang/String;Ljava/lang/Throwable;ZZ)V"⟩
def dkwJ0_init_2_2 : List UInt8 := [44, 181, 0, 7, 29, 154, 0, 8, 42, 1, 181, 0, 24, 177]
abbrev dktJ0_init_2_2 : List UInt8 := dkwJ0_init_2_2 ++ []
def dkwJ0_init_2_1 : List UInt8 := [21, 4, 153, 0, 11, 42, 182, 0, 27, 87, 167, 0, 8, 42, 1, 181, 0, 17, 42, 43, 181, 0, 31, 42]
abbrev dktJ0_init_2_1 : List UInt8 := dkwJ0_init_2_1 ++ dktJ0_init_2_2
def dkwJ0_init_2_0 : List UInt8 := [42, 183, 0, 1, 42, 42, 181, 0, 7, 42, 178, 0, 13, 181, 0, 17, 42, 178, 0, 20, 181, 0, 24]
abbrev dktJ0_init_2_0 : List UInt8 := dkwJ0_init_2_0 ++ dktJ0_init_2_1
theorem dksJ0_init_2_0 : cJ0_init_2.data.toList.drop 0 = dktJ0_init_2_0 := by decide +kernel
theorem dksJ0_init_2_1 : cJ0_init_2.data.toList.drop 23 = dktJ0_init_2_1 := dk_seg dksJ0_init_2_0 23 rfl rfl
theorem dksJ0_init_2_2 : cJ0_init_2.data.toList.drop 47 = dktJ0_init_2_2 := dk_seg dksJ0_init_2_1 24 rfl rfl
theorem dJ0_init_2_0 : decode cJ0_init_2 0 = .ok (.aload_n 0, 1) := dk_42 (dk_at dksJ0_init_2_0 0 rfl rfl)
theorem dJ0_init_2_1 : decode cJ0_init_2 1 = .ok (.invokespecial 1, 3) := dk_183 0 1 (dk_at dksJ0_init_2_0 1 rfl rfl)
theorem dJ0_init_2_4 : decode cJ0_init_2 4 = .ok (.aload_n 0, 1) := dk_42 (dk_at dksJ0_init_2_0 4 rfl rfl)
theorem dJ0_init_2_5 : decode cJ0_init_2 5 = .ok (.aload_n 0, 1) := dk_42 (dk_at dksJ0_init_2_0 5 rfl rfl)
theorem dJ0_init_2_6 : decode cJ0_init_2 6 = .ok (.putfield 7, 3) := dk_181 0 7 (dk_at dksJ0_init_2_0 6 rfl rfl)
theorem dJ0_init_2_9 : decode cJ0_init_2 9 = .ok (.aload_n 0, 1) := dk_42 (dk_at dksJ0_init_2_0 9 rfl rfl)
theorem dJ0_init_2_10 : decode cJ0_init_2 10 = .ok (.getstatic 13, 3) := dk_178 0 13 (dk_at dksJ0_init_2_0 10 rfl rfl)
theorem dJ0_init_2_13 : decode cJ0_init_2 13 = .ok (.putfield 17, 3) := dk_181 0 17 (dk_at dksJ0_init_2_0 13 rfl rfl)
theorem dJ0_init_2_16 : decode cJ0_init_2 16 = .ok (.aload_n 0, 1) := dk_42 (dk_at dksJ0_init_2_0 16 rfl rfl)
theorem dJ0_init_2_17 : decode cJ0_init_2 17 = .ok (.getstatic 20, 3) := dk_178 0 20 (dk_at dksJ0_init_2_0 17 rfl rfl)
theorem dJ0_init_2_20 : decode cJ0_init_2 20 = .ok (.putfield 24, 3) := dk_181 0 24 (dk_at dksJ0_init_2_0 20 rfl rfl)
theorem dJ0_init_2_23 : decode cJ0_init_2 23 = .ok (.iload 4, 2) := dk_21 4 (dk_at dksJ0_init_2_1 0 rfl rfl)
theorem dJ0_init_2_25 : decode cJ0_init_2 25 = .ok (.ifCond .eq 11, 3) := dk_153 0 11 (dk_at dksJ0_init_2_1 2 rfl rfl)
theorem dJ0_init_2_28 : decode cJ0_init_2 28 = .ok (.aload_n 0, 1) := dk_42 (dk_at dksJ0_init_2_1 5 rfl rfl)
theorem dJ0_init_2_29 : decode cJ0_init_2 29 = .ok (.invokevirtual 27, 3) := dk_182 0 27 (dk_at dksJ0_init_2_1 6 rfl rfl)
theorem dJ0_init_2_32 : decode cJ0_init_2 32 = .ok (.pop, 1) := dk_87 (dk_at dksJ0_init_2_1 9 rfl rfl)
theorem dJ0_init_2_33 : decode cJ0_init_2 33 = .ok (.goto 8, 3) := dk_167 0 8 (dk_at dksJ0_init_2_1 10 rfl rfl)
theorem dJ0_init_2_36 : decode cJ0_init_2 36 = .ok (.aload_n 0, 1) := dk_42 (dk_at dksJ0_init_2_1 13 rfl rfl)
theorem dJ0_init_2_37 : decode cJ0_init_2 37 = .ok (.aconst_null, 1) := dk_1 (dk_at dksJ0_init_2_1 14 rfl rfl)
theorem dJ0_init_2_38 : decode cJ0_init_2 38 = .ok (.putfield 17, 3) := dk_181 0 17 (dk_at dksJ0_init_2_1 15 rfl rfl)
theorem dJ0_init_2_41 : decode cJ0_init_2 41 = .ok (.aload_n 0, 1) := dk_42 (dk_at dksJ0_init_2_1 18 rfl rfl)
theorem dJ0_init_2_42 : decode cJ0_init_2 42 = .ok (.aload_n 1, 1) := dk_43 (dk_at dksJ0_init_2_1 19 rfl rfl)
theorem dJ0_init_2_43 : decode cJ0_init_2 43 = .ok (.putfield 31, 3) := dk_181 0 31 (dk_at dksJ0_init_2_1 20 rfl rfl)
theorem dJ0_init_2_46 : decode cJ0_init_2 46 = .ok (.aload_n 0, 1) := dk_42 (dk_at dksJ0_init_2_1 23 rfl rfl)
theorem dJ0_init_2_47 : decode cJ0_init_2 47 = .ok (.aload_n 2, 1) := dk_44 (dk_at dksJ0_init_2_2 0 rfl rfl)
theorem dJ0_init_2_48 : decode cJ0_init_2 48 = .ok (.putfield 7, 3) := dk_181 0 7 (dk_at dksJ0_init_2_2 1 rfl rfl)
theorem dJ0_init_2_51 : decode cJ0_init_2 51 = .ok (.iload_n 3, 1) := dk_29 (dk_at dksJ0_init_2_2 4 rfl rfl)
theorem dJ0_init_2_52 : decode cJ0_init_2 52 = .ok (.ifCond .ne 8, 3) := dk_154 0 8 (dk_at dksJ0_init_2_2 5 rfl rfl)
theorem dJ0_init_2_55 : decode cJ0_init_2 55 = .ok (.aload_n 0, 1) := dk_42 (dk_at dksJ0_init_2_2 8 rfl rfl)
theorem dJ0_init_2_56 : decode cJ0_init_2 56 = .ok (.aconst_null, 1) := dk_1 (dk_at dksJ0_init_2_2 9 rfl rfl)
theorem dJ0_init_2_57 : decode cJ0_init_2 57 = .ok (.putfield 24, 3) := dk_181 0 24 (dk_at dksJ0_init_2_2 10 rfl rfl)
theorem dJ0_init_2_60 : decode cJ0_init_2 60 = .ok (.return_, 1) := dk_177 (dk_at dksJ0_init_2_2 13 rfl rfl)
abbrev cJ0_init_3 : ByteArray := prog_25_method_2_code
def yJ0_init_3 : MethodName := ⟨RJ0, "<init>", "(Ljava/lang/String;)V"⟩
def dkwJ0_init_3_1 : List UInt8 := [182, 0, 27, 87, 42, 43, 181, 0, 31, 177]
abbrev dktJ0_init_3_1 : List UInt8 := dkwJ0_init_3_1 ++ []
def dkwJ0_init_3_0 : List UInt8 := [42, 183, 0, 1, 42, 42, 181, 0, 7, 42, 178, 0, 13, 181, 0, 17, 42, 178, 0, 20, 181, 0, 24, 42]
abbrev dktJ0_init_3_0 : List UInt8 := dkwJ0_init_3_0 ++ dktJ0_init_3_1
theorem dksJ0_init_3_0 : cJ0_init_3.data.toList.drop 0 = dktJ0_init_3_0 := by decide +kernel
theorem dksJ0_init_3_1 : cJ0_init_3.data.toList.drop 24 = dktJ0_init_3_1 := dk_seg dksJ0_init_3_0 24 rfl rfl
theorem dJ0_init_3_0 : decode cJ0_init_3 0 = .ok (.aload_n 0, 1) := dk_42 (dk_at dksJ0_init_3_0 0 rfl rfl)
theorem dJ0_init_3_1 : decode cJ0_init_3 1 = .ok (.invokespecial 1, 3) := dk_183 0 1 (dk_at dksJ0_init_3_0 1 rfl rfl)
theorem dJ0_init_3_4 : decode cJ0_init_3 4 = .ok (.aload_n 0, 1) := dk_42 (dk_at dksJ0_init_3_0 4 rfl rfl)
theorem dJ0_init_3_5 : decode cJ0_init_3 5 = .ok (.aload_n 0, 1) := dk_42 (dk_at dksJ0_init_3_0 5 rfl rfl)
theorem dJ0_init_3_6 : decode cJ0_init_3 6 = .ok (.putfield 7, 3) := dk_181 0 7 (dk_at dksJ0_init_3_0 6 rfl rfl)
theorem dJ0_init_3_9 : decode cJ0_init_3 9 = .ok (.aload_n 0, 1) := dk_42 (dk_at dksJ0_init_3_0 9 rfl rfl)
theorem dJ0_init_3_10 : decode cJ0_init_3 10 = .ok (.getstatic 13, 3) := dk_178 0 13 (dk_at dksJ0_init_3_0 10 rfl rfl)
theorem dJ0_init_3_13 : decode cJ0_init_3 13 = .ok (.putfield 17, 3) := dk_181 0 17 (dk_at dksJ0_init_3_0 13 rfl rfl)
theorem dJ0_init_3_16 : decode cJ0_init_3 16 = .ok (.aload_n 0, 1) := dk_42 (dk_at dksJ0_init_3_0 16 rfl rfl)
theorem dJ0_init_3_17 : decode cJ0_init_3 17 = .ok (.getstatic 20, 3) := dk_178 0 20 (dk_at dksJ0_init_3_0 17 rfl rfl)
theorem dJ0_init_3_20 : decode cJ0_init_3 20 = .ok (.putfield 24, 3) := dk_181 0 24 (dk_at dksJ0_init_3_0 20 rfl rfl)
theorem dJ0_init_3_23 : decode cJ0_init_3 23 = .ok (.aload_n 0, 1) := dk_42 (dk_at dksJ0_init_3_0 23 rfl rfl)
theorem dJ0_init_3_24 : decode cJ0_init_3 24 = .ok (.invokevirtual 27, 3) := dk_182 0 27 (dk_at dksJ0_init_3_1 0 rfl rfl)
theorem dJ0_init_3_27 : decode cJ0_init_3 27 = .ok (.pop, 1) := dk_87 (dk_at dksJ0_init_3_1 3 rfl rfl)
theorem dJ0_init_3_28 : decode cJ0_init_3 28 = .ok (.aload_n 0, 1) := dk_42 (dk_at dksJ0_init_3_1 4 rfl rfl)
theorem dJ0_init_3_29 : decode cJ0_init_3 29 = .ok (.aload_n 1, 1) := dk_43 (dk_at dksJ0_init_3_1 5 rfl rfl)
theorem dJ0_init_3_30 : decode cJ0_init_3 30 = .ok (.putfield 31, 3) := dk_181 0 31 (dk_at dksJ0_init_3_1 6 rfl rfl)
theorem dJ0_init_3_33 : decode cJ0_init_3 33 = .ok (.return_, 1) := dk_177 (dk_at dksJ0_init_3_1 9 rfl rfl)
theorem q66 : (Jvm.Cond.initialized "java/lang/Throwable") ∈ lw_all := lw_g (lw_at lw_m1 7 rfl) rfl
theorem q141 : (Jvm.Cond.declares ({ cls := "java/lang/Throwable", name := "<init>", desc := "()V" } : Jvm.MethodName)) ∈ lw_tbl := lw_at lw_m1 82 rfl
theorem q142 : (Jvm.Cond.declares ({ cls := "java/lang/Throwable", name := "<init>", desc := "(Ljava/lang/String;)V" } : Jvm.MethodName)) ∈ lw_tbl := lw_at lw_m1 83 rfl
theorem q146 : (Jvm.Cond.lays "java/lang/Throwable" "java/lang/Throwable" "cause" "Ljava/lang/Throwable;") ∈ lw_all := lw_g (lw_at lw_m1 87 rfl) rfl
theorem q148 : (Jvm.Cond.lays "java/lang/Throwable" "java/lang/Throwable" "stackTrace" "[Ljava/lang/StackTraceElement;") ∈ lw_all := lw_g (lw_at lw_m1 89 rfl) rfl
theorem q150 : (Jvm.Cond.lays "java/lang/Throwable" "java/lang/Throwable" "suppressedExceptions" "Ljava/util/List;") ∈ lw_all := lw_g (lw_at lw_m1 91 rfl) rfl
theorem q152 : (Jvm.Cond.lays "java/lang/Throwable" "java/lang/Throwable" "detailMessage" "Ljava/lang/String;") ∈ lw_all := lw_g (lw_at lw_m1 93 rfl) rfl
theorem q154 : (Jvm.Cond.lays "java/lang/Throwable" "java/lang/Throwable" "backtrace" "Ljava/lang/Object;") ∈ lw_all := lw_g (lw_at lw_m1 95 rfl) rfl
theorem q155 : (Jvm.Cond.fieldLink "java/lang/Throwable" (198 : Nat) "java/lang/Throwable" "backtrace" "Ljava/lang/Object;") ∈ lw_all := lw_g (lw_at lw_m1 96 rfl) rfl
theorem q156 : (Jvm.Cond.superclass "java/lang/Throwable" "java/lang/Object") ∈ lw_all := lw_g (lw_at lw_m1 97 rfl) rfl
theorem q157 : (Jvm.Cond.instanceMethod ({ cls := "java/lang/Throwable", name := "<init>", desc := "()V" } : Jvm.MethodName)) ∈ lw_all := lw_g (lw_at lw_m1 98 rfl) rfl
theorem q158 : (Jvm.Cond.code ({ cls := "java/lang/Throwable", name := "<init>", desc := "()V" } : Jvm.MethodName) prog_25_method_1_code (1 : Nat) (Option.none : Option Jvm.ClassFile.FieldType)) ∈ lw_all := lw_g (lw_at lw_m1 99 rfl) rfl
theorem q159 : (Jvm.Cond.methodLink "java/lang/Throwable" (1 : Nat) ({ cls := "java/lang/Object", name := "<init>", desc := "()V" } : Jvm.MethodName)) ∈ lw_all := lw_g (lw_at lw_m1 100 rfl) rfl
theorem q160 : (Jvm.Cond.fieldLink "java/lang/Throwable" (13 : Nat) "java/lang/Throwable" "UNASSIGNED_STACK" "[Ljava/lang/StackTraceElement;") ∈ lw_all := lw_g (lw_at lw_m1 101 rfl) rfl
theorem q161 : (Jvm.Cond.laysStatic "java/lang/Throwable" "UNASSIGNED_STACK" "[Ljava/lang/StackTraceElement;") ∈ lw_tbl := lw_at lw_m1 102 rfl
theorem q162 : (Jvm.Cond.fieldLink "java/lang/Throwable" (20 : Nat) "java/lang/Throwable" "SUPPRESSED_SENTINEL" "Ljava/util/List;") ∈ lw_all := lw_g (lw_at lw_m1 103 rfl) rfl
theorem q163 : (Jvm.Cond.laysStatic "java/lang/Throwable" "SUPPRESSED_SENTINEL" "Ljava/util/List;") ∈ lw_tbl := lw_at lw_m1 104 rfl
theorem q164 : (Jvm.Cond.methodLink "java/lang/Throwable" (27 : Nat) ({ cls := "java/lang/Throwable", name := "fillInStackTrace", desc := "()Ljava/lang/Throwable;" } : Jvm.MethodName)) ∈ lw_all := lw_g (lw_at lw_m1 105 rfl) rfl
theorem q165 : (Jvm.Cond.instanceMethod ({ cls := "java/lang/Throwable", name := "fillInStackTrace", desc := "()Ljava/lang/Throwable;" } : Jvm.MethodName)) ∈ lw_all := lw_g (lw_at lw_m1 106 rfl) rfl
theorem q166 : (Jvm.Cond.sameMethod "java/lang/Throwable" "java/lang/Throwable" "fillInStackTrace" "()Ljava/lang/Throwable;") ∈ lw_all := lw_g (lw_at lw_m1 107 rfl) rfl
theorem q180 : (Jvm.Cond.declares ({ cls := "java/lang/Throwable", name := "fillInStackTrace", desc := "()Ljava/lang/Throwable;" } : Jvm.MethodName)) ∈ lw_tbl := lw_at lw_m1 121 rfl
theorem q184 : (Jvm.Cond.codeSync ({ cls := "java/lang/Throwable", name := "fillInStackTrace", desc := "()Ljava/lang/Throwable;" } : Jvm.MethodName) prog_25_method_18_code (1 : Nat) (Option.some (Jvm.ClassFile.FieldType.object "java/lang/Throwable"))) ∈ lw_all := lw_g (lw_at lw_m1 125 rfl) rfl
theorem q185 : (Jvm.Cond.methodLink "java/lang/Throwable" (202 : Nat) ({ cls := "java/lang/Throwable", name := "fillInStackTrace", desc := "(I)Ljava/lang/Throwable;" } : Jvm.MethodName)) ∈ lw_all := lw_g (lw_at lw_m1 126 rfl) rfl
theorem q186 : (Jvm.Cond.privateMethod ({ cls := "java/lang/Throwable", name := "fillInStackTrace", desc := "(I)Ljava/lang/Throwable;" } : Jvm.MethodName)) ∈ lw_tbl := lw_at lw_m1 127 rfl
theorem q187 : (Jvm.Cond.instanceMethod ({ cls := "java/lang/Throwable", name := "fillInStackTrace", desc := "(I)Ljava/lang/Throwable;" } : Jvm.MethodName)) ∈ lw_all := lw_g (lw_at lw_m1 128 rfl) rfl
theorem q188 : (Jvm.Cond.instantiable "java/lang/Throwable" (6 : Nat)) ∈ lw_all := lw_g (lw_at lw_m1 129 rfl) rfl
theorem q189 : (Jvm.Cond.native ({ cls := "java/lang/Throwable", name := "fillInStackTrace", desc := "(I)Ljava/lang/Throwable;" } : Jvm.MethodName)) ∈ lw_all := lw_g (lw_at lw_m1 130 rfl) rfl
theorem q200 : (Jvm.Cond.instanceMethod ({ cls := "java/lang/Throwable", name := "<init>", desc := "(Ljava/lang/String;Ljava/lang/Throwable;ZZ)V" } : Jvm.MethodName)) ∈ lw_all := lw_g (lw_at lw_m1 141 rfl) rfl
theorem q201 : (Jvm.Cond.code ({ cls := "java/lang/Throwable", name := "<init>", desc := "(Ljava/lang/String;Ljava/lang/Throwable;ZZ)V" } : Jvm.MethodName) prog_25_method_5_code (5 : Nat) (Option.none : Option Jvm.ClassFile.FieldType)) ∈ lw_all := lw_g (lw_at lw_m1 142 rfl) rfl
theorem q206 : (Jvm.Cond.fieldLink "java/lang/Throwable" (198 : Nat) "java/lang/Throwable" "backtrace" "Ljava/lang/Object;") ∈ lw_all := lw_g (lw_at lw_m1 147 rfl) rfl
theorem q207 : (Jvm.Cond.fieldLink "java/lang/Throwable" (31 : Nat) "java/lang/Throwable" "detailMessage" "Ljava/lang/String;") ∈ lw_all := lw_g (lw_at lw_m1 148 rfl) rfl
theorem q208 : (Jvm.Cond.fieldLink "java/lang/Throwable" (7 : Nat) "java/lang/Throwable" "cause" "Ljava/lang/Throwable;") ∈ lw_all := lw_g (lw_at lw_m1 149 rfl) rfl
theorem q209 : (Jvm.Cond.fieldLink "java/lang/Throwable" (17 : Nat) "java/lang/Throwable" "stackTrace" "[Ljava/lang/StackTraceElement;") ∈ lw_all := lw_g (lw_at lw_m1 150 rfl) rfl
theorem q210 : (Jvm.Cond.fieldLink "java/lang/Throwable" (24 : Nat) "java/lang/Throwable" "suppressedExceptions" "Ljava/util/List;") ∈ lw_all := lw_g (lw_at lw_m1 151 rfl) rfl
theorem q215 : (Jvm.Cond.soleField "java/lang/Throwable" "backtrace") ∈ lw_all := lw_g (lw_at lw_m1 156 rfl) rfl
theorem q216 : (Jvm.Cond.soleField "java/lang/Throwable" "detailMessage") ∈ lw_all := lw_g (lw_at lw_m1 157 rfl) rfl
theorem q217 : (Jvm.Cond.soleField "java/lang/Throwable" "cause") ∈ lw_all := lw_g (lw_at lw_m1 158 rfl) rfl
theorem q218 : (Jvm.Cond.soleField "java/lang/Throwable" "stackTrace") ∈ lw_all := lw_g (lw_at lw_m1 159 rfl) rfl
theorem q220 : (Jvm.Cond.soleField "java/lang/Throwable" "depth") ∈ lw_all := lw_g (lw_at lw_m1 161 rfl) rfl
theorem q221 : (Jvm.Cond.soleField "java/lang/Throwable" "suppressedExceptions") ∈ lw_all := lw_g (lw_at lw_m1 162 rfl) rfl
theorem q868 : (Jvm.Cond.instanceMethod ({ cls := "java/lang/Throwable", name := "<init>", desc := "(Ljava/lang/String;)V" } : Jvm.MethodName)) ∈ lw_all := lw_g (lw_at lw_m4 89 rfl) rfl
theorem q869 : (Jvm.Cond.code ({ cls := "java/lang/Throwable", name := "<init>", desc := "(Ljava/lang/String;)V" } : Jvm.MethodName) prog_25_method_2_code (2 : Nat) (Option.none : Option Jvm.ClassFile.FieldType)) ∈ lw_all := lw_g (lw_at lw_m4 90 rfl) rfl
theorem q1470 : (Jvm.Cond.sameMethod "java/lang/Throwable" "java/lang/Throwable" "fillInStackTrace" "(I)Ljava/lang/Throwable;") ∈ lw_all := lw_g (lw_at lw_m6 211 rfl) rfl
theorem in_J0 : ∀ w ∈ wsJ00, w ∈ lw_all := lw_in wsJ00 [146, 148, 150, 152, 154] (by decide +kernel) (by decide +kernel)

/-! java/lang/Exception -/
set_option maxRecDepth 100000
def RJ1 : String := "java/lang/Exception"
abbrev cJ1_init : ByteArray := prog_14_method_5_code
def yJ1_init : MethodName := ⟨RJ1, "<init>", "(Ljava/lang/String;Ljava/lang/Throwable;ZZ)V"⟩
def dkwJ1_init_0 : List UInt8 := [42, 43, 44, 29, 21, 4, 183, 0, 16, 177]
abbrev dktJ1_init_0 : List UInt8 := dkwJ1_init_0 ++ []
theorem dksJ1_init_0 : cJ1_init.data.toList.drop 0 = dktJ1_init_0 := by decide +kernel
theorem dJ1_init_0 : decode cJ1_init 0 = .ok (.aload_n 0, 1) := dk_42 (dk_at dksJ1_init_0 0 rfl rfl)
theorem dJ1_init_1 : decode cJ1_init 1 = .ok (.aload_n 1, 1) := dk_43 (dk_at dksJ1_init_0 1 rfl rfl)
theorem dJ1_init_2 : decode cJ1_init 2 = .ok (.aload_n 2, 1) := dk_44 (dk_at dksJ1_init_0 2 rfl rfl)
theorem dJ1_init_3 : decode cJ1_init 3 = .ok (.iload_n 3, 1) := dk_29 (dk_at dksJ1_init_0 3 rfl rfl)
theorem dJ1_init_4 : decode cJ1_init 4 = .ok (.iload 4, 2) := dk_21 4 (dk_at dksJ1_init_0 4 rfl rfl)
theorem dJ1_init_6 : decode cJ1_init 6 = .ok (.invokespecial 16, 3) := dk_183 0 16 (dk_at dksJ1_init_0 6 rfl rfl)
theorem dJ1_init_9 : decode cJ1_init 9 = .ok (.return_, 1) := dk_177 (dk_at dksJ1_init_0 9 rfl rfl)
abbrev cJ1_init_2 : ByteArray := prog_14_method_2_code
def yJ1_init_2 : MethodName := ⟨RJ1, "<init>", "(Ljava/lang/String;)V"⟩
def dkwJ1_init_2_0 : List UInt8 := [42, 43, 183, 0, 7, 177]
abbrev dktJ1_init_2_0 : List UInt8 := dkwJ1_init_2_0 ++ []
theorem dksJ1_init_2_0 : cJ1_init_2.data.toList.drop 0 = dktJ1_init_2_0 := by decide +kernel
theorem dJ1_init_2_0 : decode cJ1_init_2 0 = .ok (.aload_n 0, 1) := dk_42 (dk_at dksJ1_init_2_0 0 rfl rfl)
theorem dJ1_init_2_1 : decode cJ1_init_2 1 = .ok (.aload_n 1, 1) := dk_43 (dk_at dksJ1_init_2_0 1 rfl rfl)
theorem dJ1_init_2_2 : decode cJ1_init_2 2 = .ok (.invokespecial 7, 3) := dk_183 0 7 (dk_at dksJ1_init_2_0 2 rfl rfl)
theorem dJ1_init_2_5 : decode cJ1_init_2 5 = .ok (.return_, 1) := dk_177 (dk_at dksJ1_init_2_0 5 rfl rfl)
abbrev cJ1_init_3 : ByteArray := prog_14_method_1_code
def yJ1_init_3 : MethodName := ⟨RJ1, "<init>", "()V"⟩
theorem dJ1_init_3_0 : decode cJ1_init_3 0 = .ok (.aload_n 0, 1) := by decide +kernel
theorem dJ1_init_3_1 : decode cJ1_init_3 1 = .ok (.invokespecial 1, 3) := by decide +kernel
theorem dJ1_init_3_4 : decode cJ1_init_3 4 = .ok (.return_, 1) := by decide +kernel
theorem q67 : (Jvm.Cond.initialized "java/lang/Exception") ∈ lw_all := lw_g (lw_at lw_m1 8 rfl) rfl
theorem q139 : (Jvm.Cond.declares ({ cls := "java/lang/Exception", name := "<init>", desc := "()V" } : Jvm.MethodName)) ∈ lw_tbl := lw_at lw_m1 80 rfl
theorem q140 : (Jvm.Cond.declares ({ cls := "java/lang/Exception", name := "<init>", desc := "(Ljava/lang/String;)V" } : Jvm.MethodName)) ∈ lw_tbl := lw_at lw_m1 81 rfl
theorem q183 : (Jvm.Cond.superclass "java/lang/Exception" "java/lang/Throwable") ∈ lw_all := lw_g (lw_at lw_m1 124 rfl) rfl
theorem q197 : (Jvm.Cond.instanceMethod ({ cls := "java/lang/Exception", name := "<init>", desc := "(Ljava/lang/String;Ljava/lang/Throwable;ZZ)V" } : Jvm.MethodName)) ∈ lw_all := lw_g (lw_at lw_m1 138 rfl) rfl
theorem q198 : (Jvm.Cond.code ({ cls := "java/lang/Exception", name := "<init>", desc := "(Ljava/lang/String;Ljava/lang/Throwable;ZZ)V" } : Jvm.MethodName) prog_14_method_5_code (5 : Nat) (Option.none : Option Jvm.ClassFile.FieldType)) ∈ lw_all := lw_g (lw_at lw_m1 139 rfl) rfl
theorem q199 : (Jvm.Cond.methodLink "java/lang/Exception" (16 : Nat) ({ cls := "java/lang/Throwable", name := "<init>", desc := "(Ljava/lang/String;Ljava/lang/Throwable;ZZ)V" } : Jvm.MethodName)) ∈ lw_all := lw_g (lw_at lw_m1 140 rfl) rfl
theorem q865 : (Jvm.Cond.instanceMethod ({ cls := "java/lang/Exception", name := "<init>", desc := "(Ljava/lang/String;)V" } : Jvm.MethodName)) ∈ lw_all := lw_g (lw_at lw_m4 86 rfl) rfl
theorem q866 : (Jvm.Cond.code ({ cls := "java/lang/Exception", name := "<init>", desc := "(Ljava/lang/String;)V" } : Jvm.MethodName) prog_14_method_2_code (2 : Nat) (Option.none : Option Jvm.ClassFile.FieldType)) ∈ lw_all := lw_g (lw_at lw_m4 87 rfl) rfl
theorem q867 : (Jvm.Cond.methodLink "java/lang/Exception" (7 : Nat) ({ cls := "java/lang/Throwable", name := "<init>", desc := "(Ljava/lang/String;)V" } : Jvm.MethodName)) ∈ lw_all := lw_g (lw_at lw_m4 88 rfl) rfl
theorem q899 : (Jvm.Cond.instanceMethod ({ cls := "java/lang/Exception", name := "<init>", desc := "()V" } : Jvm.MethodName)) ∈ lw_all := lw_g (lw_at lw_m4 120 rfl) rfl
theorem q900 : (Jvm.Cond.code ({ cls := "java/lang/Exception", name := "<init>", desc := "()V" } : Jvm.MethodName) prog_14_method_1_code (1 : Nat) (Option.none : Option Jvm.ClassFile.FieldType)) ∈ lw_all := lw_g (lw_at lw_m4 121 rfl) rfl
theorem q901 : (Jvm.Cond.methodLink "java/lang/Exception" (1 : Nat) ({ cls := "java/lang/Throwable", name := "<init>", desc := "()V" } : Jvm.MethodName)) ∈ lw_all := lw_g (lw_at lw_m4 122 rfl) rfl

/-! java/lang/NegativeArraySizeException -/
set_option maxRecDepth 100000
def RJ10 : String := "java/lang/NegativeArraySizeException"
def TJ10 : u_T := fun k => match k with
  | 0 => ("java/lang/Throwable", "backtrace", "Ljava/lang/Object;", false)
  | 1 => ("java/lang/Throwable", "detailMessage", "Ljava/lang/String;", false)
  | 2 => ("java/lang/Throwable", "cause", "Ljava/lang/Throwable;", false)
  | 3 => ("java/lang/Throwable", "stackTrace", "[Ljava/lang/StackTraceElement;", false)
  | 4 => ("java/lang/Throwable", "depth", "I", false)
  | _ => ("java/lang/Throwable", "suppressedExceptions", "Ljava/util/List;", false)
def tyJ10 : Nat → FieldType := fun k => match k with
  | 0 => .object "java/lang/Object"
  | 1 => .object "java/lang/String"
  | 2 => .object "java/lang/Throwable"
  | 3 => .array (.object "java/lang/StackTraceElement")
  | 4 => .int
  | _ => .object "java/util/List"
abbrev wsJ100 : List Cond := u_ws RJ10 TJ10 6
theorem nmJ10 : ∀ a, a < 6 → ∀ b, b < 6 → a ≠ b → (TJ10 a).2.1 ≠ (TJ10 b).2.1 := by decide +kernel
theorem tyJ10_ok : ∀ k, k < 6 → parseFieldDescriptor (TJ10 k).2.2.1 = some (tyJ10 k) := by decide +kernel
abbrev cJ10_init : ByteArray := prog_18_method_2_code
def yJ10_init : MethodName := ⟨RJ10, "<init>", "(Ljava/lang/String;)V"⟩
def dkwJ10_init_0 : List UInt8 := [42, 43, 183, 0, 7, 177]
abbrev dktJ10_init_0 : List UInt8 := dkwJ10_init_0 ++ []
theorem dksJ10_init_0 : cJ10_init.data.toList.drop 0 = dktJ10_init_0 := by decide +kernel
theorem dJ10_init_0 : decode cJ10_init 0 = .ok (.aload_n 0, 1) := dk_42 (dk_at dksJ10_init_0 0 rfl rfl)
theorem dJ10_init_1 : decode cJ10_init 1 = .ok (.aload_n 1, 1) := dk_43 (dk_at dksJ10_init_0 1 rfl rfl)
theorem dJ10_init_2 : decode cJ10_init 2 = .ok (.invokespecial 7, 3) := dk_183 0 7 (dk_at dksJ10_init_0 2 rfl rfl)
theorem dJ10_init_5 : decode cJ10_init 5 = .ok (.return_, 1) := dk_177 (dk_at dksJ10_init_0 5 rfl rfl)
theorem q81 : (Jvm.Cond.initialized "java/lang/NegativeArraySizeException") ∈ lw_all := lw_g (lw_at lw_m1 22 rfl) rfl
theorem q169 : (Jvm.Cond.selects "java/lang/NegativeArraySizeException" ({ cls := "java/lang/Throwable", name := "fillInStackTrace", desc := "()Ljava/lang/Throwable;" } : Jvm.MethodName) ({ cls := "java/lang/Throwable", name := "fillInStackTrace", desc := "()Ljava/lang/Throwable;" } : Jvm.MethodName)) ∈ lw_all := lw_g (lw_at lw_m1 110 rfl) rfl
theorem q858 : (Jvm.Cond.instantiable "java/lang/NegativeArraySizeException" (6 : Nat)) ∈ lw_all := lw_g (lw_at lw_m4 79 rfl) rfl
theorem q859 : (Jvm.Cond.instanceMethod ({ cls := "java/lang/NegativeArraySizeException", name := "<init>", desc := "(Ljava/lang/String;)V" } : Jvm.MethodName)) ∈ lw_all := lw_g (lw_at lw_m4 80 rfl) rfl
theorem q860 : (Jvm.Cond.code ({ cls := "java/lang/NegativeArraySizeException", name := "<init>", desc := "(Ljava/lang/String;)V" } : Jvm.MethodName) prog_18_method_2_code (2 : Nat) (Option.none : Option Jvm.ClassFile.FieldType)) ∈ lw_all := lw_g (lw_at lw_m4 81 rfl) rfl
theorem q861 : (Jvm.Cond.methodLink "java/lang/NegativeArraySizeException" (7 : Nat) ({ cls := "java/lang/RuntimeException", name := "<init>", desc := "(Ljava/lang/String;)V" } : Jvm.MethodName)) ∈ lw_all := lw_g (lw_at lw_m4 82 rfl) rfl
theorem q870 : (Jvm.Cond.lays "java/lang/NegativeArraySizeException" "java/lang/Throwable" "backtrace" "Ljava/lang/Object;") ∈ lw_all := lw_g (lw_at lw_m4 91 rfl) rfl
theorem q871 : (Jvm.Cond.lays "java/lang/NegativeArraySizeException" "java/lang/Throwable" "detailMessage" "Ljava/lang/String;") ∈ lw_all := lw_g (lw_at lw_m4 92 rfl) rfl
theorem q872 : (Jvm.Cond.lays "java/lang/NegativeArraySizeException" "java/lang/Throwable" "cause" "Ljava/lang/Throwable;") ∈ lw_all := lw_g (lw_at lw_m4 93 rfl) rfl
theorem q873 : (Jvm.Cond.lays "java/lang/NegativeArraySizeException" "java/lang/Throwable" "stackTrace" "[Ljava/lang/StackTraceElement;") ∈ lw_all := lw_g (lw_at lw_m4 94 rfl) rfl
theorem q874 : (Jvm.Cond.lays "java/lang/NegativeArraySizeException" "java/lang/Throwable" "depth" "I") ∈ lw_all := lw_g (lw_at lw_m4 95 rfl) rfl
theorem q875 : (Jvm.Cond.lays "java/lang/NegativeArraySizeException" "java/lang/Throwable" "suppressedExceptions" "Ljava/util/List;") ∈ lw_all := lw_g (lw_at lw_m4 96 rfl) rfl
theorem q876 : (Jvm.Cond.superclass "java/lang/NegativeArraySizeException" "java/lang/RuntimeException") ∈ lw_all := lw_g (lw_at lw_m4 97 rfl) rfl
theorem q877 : (Jvm.Cond.castable "java/lang/NegativeArraySizeException" "java/lang/NegativeArraySizeException") ∈ lw_tbl := lw_at lw_m4 98 rfl
theorem q878 : (Jvm.Cond.selects "java/lang/NegativeArraySizeException" ({ cls := "java/lang/Throwable", name := "fillInStackTrace", desc := "(I)Ljava/lang/Throwable;" } : Jvm.MethodName) ({ cls := "java/lang/Throwable", name := "fillInStackTrace", desc := "(I)Ljava/lang/Throwable;" } : Jvm.MethodName)) ∈ lw_all := lw_g (lw_at lw_m4 99 rfl) rfl
theorem in_J10 : ∀ w ∈ wsJ100, w ∈ lw_all := lw_in wsJ100 [870, 871, 872, 873, 874, 875] (by decide +kernel) (by decide +kernel)

/-! java/lang/NullPointerException -/
set_option maxRecDepth 100000
def RJ11 : String := "java/lang/NullPointerException"
def TJ11 : u_T := fun k => match k with
  | 0 => ("java/lang/Throwable", "backtrace", "Ljava/lang/Object;", false)
  | 1 => ("java/lang/Throwable", "detailMessage", "Ljava/lang/String;", false)
  | 2 => ("java/lang/Throwable", "cause", "Ljava/lang/Throwable;", false)
  | 3 => ("java/lang/Throwable", "stackTrace", "[Ljava/lang/StackTraceElement;", false)
  | 4 => ("java/lang/Throwable", "depth", "I", false)
  | 5 => ("java/lang/Throwable", "suppressedExceptions", "Ljava/util/List;", false)
  | 6 => ("java/lang/NullPointerException", "extendedMessageState", "I", false)
  | _ => ("java/lang/NullPointerException", "extendedMessage", "Ljava/lang/String;", false)
def tyJ11 : Nat → FieldType := fun k => match k with
  | 0 => .object "java/lang/Object"
  | 1 => .object "java/lang/String"
  | 2 => .object "java/lang/Throwable"
  | 3 => .array (.object "java/lang/StackTraceElement")
  | 4 => .int
  | 5 => .object "java/util/List"
  | 6 => .int
  | _ => .object "java/lang/String"
abbrev wsJ110 : List Cond := u_ws RJ11 TJ11 8
theorem nmJ11 : ∀ a, a < 8 → ∀ b, b < 8 → a ≠ b → (TJ11 a).2.1 ≠ (TJ11 b).2.1 := by decide +kernel
theorem tyJ11_ok : ∀ k, k < 8 → parseFieldDescriptor (TJ11 k).2.2.1 = some (tyJ11 k) := by decide +kernel
abbrev cJ11_init : ByteArray := prog_19_method_1_code
def yJ11_init : MethodName := ⟨RJ11, "<init>", "()V"⟩
theorem dJ11_init_0 : decode cJ11_init 0 = .ok (.aload_n 0, 1) := by decide +kernel
theorem dJ11_init_1 : decode cJ11_init 1 = .ok (.invokespecial 1, 3) := by decide +kernel
theorem dJ11_init_4 : decode cJ11_init 4 = .ok (.return_, 1) := by decide +kernel
theorem q82 : (Jvm.Cond.initialized "java/lang/NullPointerException") ∈ lw_all := lw_g (lw_at lw_m1 23 rfl) rfl
theorem q170 : (Jvm.Cond.selects "java/lang/NullPointerException" ({ cls := "java/lang/Throwable", name := "fillInStackTrace", desc := "()Ljava/lang/Throwable;" } : Jvm.MethodName) ({ cls := "java/lang/NullPointerException", name := "fillInStackTrace", desc := "()Ljava/lang/Throwable;" } : Jvm.MethodName)) ∈ lw_all := lw_g (lw_at lw_m1 111 rfl) rfl
theorem q171 : (Jvm.Cond.instanceMethod ({ cls := "java/lang/NullPointerException", name := "fillInStackTrace", desc := "()Ljava/lang/Throwable;" } : Jvm.MethodName)) ∈ lw_all := lw_g (lw_at lw_m1 112 rfl) rfl
theorem q172 : (Jvm.Cond.codeSync ({ cls := "java/lang/NullPointerException", name := "fillInStackTrace", desc := "()Ljava/lang/Throwable;" } : Jvm.MethodName) prog_19_method_3_code (1 : Nat) (Option.some (Jvm.ClassFile.FieldType.object "java/lang/Throwable"))) ∈ lw_all := lw_g (lw_at lw_m1 113 rfl) rfl
theorem q173 : (Jvm.Cond.methodLink "java/lang/NullPointerException" (16 : Nat) ({ cls := "java/lang/NullPointerException", name := "getExtendedNPEMessage", desc := "()Ljava/lang/String;" } : Jvm.MethodName)) ∈ lw_all := lw_g (lw_at lw_m1 114 rfl) rfl
theorem q174 : (Jvm.Cond.privateMethod ({ cls := "java/lang/NullPointerException", name := "getExtendedNPEMessage", desc := "()Ljava/lang/String;" } : Jvm.MethodName)) ∈ lw_tbl := lw_at lw_m1 115 rfl
theorem q175 : (Jvm.Cond.instanceMethod ({ cls := "java/lang/NullPointerException", name := "getExtendedNPEMessage", desc := "()Ljava/lang/String;" } : Jvm.MethodName)) ∈ lw_all := lw_g (lw_at lw_m1 116 rfl) rfl
theorem q176 : (Jvm.Cond.instantiable "java/lang/NullPointerException" (8 : Nat)) ∈ lw_all := lw_g (lw_at lw_m1 117 rfl) rfl
theorem q177 : (Jvm.Cond.native ({ cls := "java/lang/NullPointerException", name := "getExtendedNPEMessage", desc := "()Ljava/lang/String;" } : Jvm.MethodName)) ∈ lw_all := lw_g (lw_at lw_m1 118 rfl) rfl
theorem q178 : (Jvm.Cond.methodLink "java/lang/NullPointerException" (24 : Nat) ({ cls := "java/lang/RuntimeException", name := "fillInStackTrace", desc := "()Ljava/lang/Throwable;" } : Jvm.MethodName)) ∈ lw_all := lw_g (lw_at lw_m1 119 rfl) rfl
theorem q181 : (Jvm.Cond.superclass "java/lang/NullPointerException" "java/lang/RuntimeException") ∈ lw_all := lw_g (lw_at lw_m1 122 rfl) rfl
theorem q893 : (Jvm.Cond.instanceMethod ({ cls := "java/lang/NullPointerException", name := "<init>", desc := "()V" } : Jvm.MethodName)) ∈ lw_all := lw_g (lw_at lw_m4 114 rfl) rfl
theorem q894 : (Jvm.Cond.code ({ cls := "java/lang/NullPointerException", name := "<init>", desc := "()V" } : Jvm.MethodName) prog_19_method_1_code (1 : Nat) (Option.none : Option Jvm.ClassFile.FieldType)) ∈ lw_all := lw_g (lw_at lw_m4 115 rfl) rfl
theorem q895 : (Jvm.Cond.methodLink "java/lang/NullPointerException" (1 : Nat) ({ cls := "java/lang/RuntimeException", name := "<init>", desc := "()V" } : Jvm.MethodName)) ∈ lw_all := lw_g (lw_at lw_m4 116 rfl) rfl
theorem q902 : (Jvm.Cond.fieldLink "java/lang/NullPointerException" (10 : Nat) "java/lang/NullPointerException" "extendedMessageState" "I") ∈ lw_all := lw_g (lw_at lw_m4 123 rfl) rfl
theorem q903 : (Jvm.Cond.fieldLink "java/lang/NullPointerException" (20 : Nat) "java/lang/NullPointerException" "extendedMessage" "Ljava/lang/String;") ∈ lw_all := lw_g (lw_at lw_m4 124 rfl) rfl
theorem q904 : (Jvm.Cond.lays "java/lang/NullPointerException" "java/lang/NullPointerException" "extendedMessageState" "I") ∈ lw_all := lw_g (lw_at lw_m4 125 rfl) rfl
theorem q905 : (Jvm.Cond.soleField "java/lang/NullPointerException" "extendedMessageState") ∈ lw_all := lw_g (lw_at lw_m4 126 rfl) rfl
theorem q906 : (Jvm.Cond.lays "java/lang/NullPointerException" "java/lang/NullPointerException" "extendedMessage" "Ljava/lang/String;") ∈ lw_all := lw_g (lw_at lw_m4 127 rfl) rfl
theorem q907 : (Jvm.Cond.soleField "java/lang/NullPointerException" "extendedMessage") ∈ lw_all := lw_g (lw_at lw_m4 128 rfl) rfl
theorem q908 : (Jvm.Cond.lays "java/lang/NullPointerException" "java/lang/Throwable" "backtrace" "Ljava/lang/Object;") ∈ lw_all := lw_g (lw_at lw_m4 129 rfl) rfl
theorem q909 : (Jvm.Cond.lays "java/lang/NullPointerException" "java/lang/Throwable" "detailMessage" "Ljava/lang/String;") ∈ lw_all := lw_g (lw_at lw_m4 130 rfl) rfl
theorem q910 : (Jvm.Cond.lays "java/lang/NullPointerException" "java/lang/Throwable" "cause" "Ljava/lang/Throwable;") ∈ lw_all := lw_g (lw_at lw_m4 131 rfl) rfl
theorem q911 : (Jvm.Cond.lays "java/lang/NullPointerException" "java/lang/Throwable" "stackTrace" "[Ljava/lang/StackTraceElement;") ∈ lw_all := lw_g (lw_at lw_m4 132 rfl) rfl
theorem q912 : (Jvm.Cond.lays "java/lang/NullPointerException" "java/lang/Throwable" "depth" "I") ∈ lw_all := lw_g (lw_at lw_m4 133 rfl) rfl
theorem q913 : (Jvm.Cond.lays "java/lang/NullPointerException" "java/lang/Throwable" "suppressedExceptions" "Ljava/util/List;") ∈ lw_all := lw_g (lw_at lw_m4 134 rfl) rfl
theorem q914 : (Jvm.Cond.castable "java/lang/NullPointerException" "java/lang/NullPointerException") ∈ lw_tbl := lw_at lw_m4 135 rfl
theorem q915 : (Jvm.Cond.selects "java/lang/NullPointerException" ({ cls := "java/lang/Throwable", name := "fillInStackTrace", desc := "(I)Ljava/lang/Throwable;" } : Jvm.MethodName) ({ cls := "java/lang/Throwable", name := "fillInStackTrace", desc := "(I)Ljava/lang/Throwable;" } : Jvm.MethodName)) ∈ lw_all := lw_g (lw_at lw_m4 136 rfl) rfl
theorem in_J11 : ∀ w ∈ wsJ110, w ∈ lw_all := lw_in wsJ110 [908, 909, 910, 911, 912, 913, 904, 906] (by decide +kernel) (by decide +kernel)

/-! java/lang/IndexOutOfBoundsException -/
set_option maxRecDepth 100000
def RJ12 : String := "java/lang/IndexOutOfBoundsException"
abbrev cJ12_init : ByteArray := prog_15_method_2_code
def yJ12_init : MethodName := ⟨RJ12, "<init>", "(Ljava/lang/String;)V"⟩
def dkwJ12_init_0 : List UInt8 := [42, 43, 183, 0, 7, 177]
abbrev dktJ12_init_0 : List UInt8 := dkwJ12_init_0 ++ []
theorem dksJ12_init_0 : cJ12_init.data.toList.drop 0 = dktJ12_init_0 := by decide +kernel
theorem dJ12_init_0 : decode cJ12_init 0 = .ok (.aload_n 0, 1) := dk_42 (dk_at dksJ12_init_0 0 rfl rfl)
theorem dJ12_init_1 : decode cJ12_init 1 = .ok (.aload_n 1, 1) := dk_43 (dk_at dksJ12_init_0 1 rfl rfl)
theorem dJ12_init_2 : decode cJ12_init 2 = .ok (.invokespecial 7, 3) := dk_183 0 7 (dk_at dksJ12_init_0 2 rfl rfl)
theorem dJ12_init_5 : decode cJ12_init 5 = .ok (.return_, 1) := dk_177 (dk_at dksJ12_init_0 5 rfl rfl)
theorem q83 : (Jvm.Cond.initialized "java/lang/IndexOutOfBoundsException") ∈ lw_all := lw_g (lw_at lw_m1 24 rfl) rfl
theorem q922 : (Jvm.Cond.instanceMethod ({ cls := "java/lang/IndexOutOfBoundsException", name := "<init>", desc := "(Ljava/lang/String;)V" } : Jvm.MethodName)) ∈ lw_all := lw_g (lw_at lw_m4 143 rfl) rfl
theorem q923 : (Jvm.Cond.code ({ cls := "java/lang/IndexOutOfBoundsException", name := "<init>", desc := "(Ljava/lang/String;)V" } : Jvm.MethodName) prog_15_method_2_code (2 : Nat) (Option.none : Option Jvm.ClassFile.FieldType)) ∈ lw_all := lw_g (lw_at lw_m4 144 rfl) rfl
theorem q924 : (Jvm.Cond.methodLink "java/lang/IndexOutOfBoundsException" (7 : Nat) ({ cls := "java/lang/RuntimeException", name := "<init>", desc := "(Ljava/lang/String;)V" } : Jvm.MethodName)) ∈ lw_all := lw_g (lw_at lw_m4 145 rfl) rfl
theorem q933 : (Jvm.Cond.declares ({ cls := "java/lang/IndexOutOfBoundsException", name := "<init>", desc := "()V" } : Jvm.MethodName)) ∈ lw_tbl := lw_at lw_m4 154 rfl
theorem q934 : (Jvm.Cond.declares ({ cls := "java/lang/IndexOutOfBoundsException", name := "<init>", desc := "(Ljava/lang/String;)V" } : Jvm.MethodName)) ∈ lw_tbl := lw_at lw_m4 155 rfl

/-! java/lang/ArrayIndexOutOfBoundsException -/
set_option maxRecDepth 100000
def RJ13 : String := "java/lang/ArrayIndexOutOfBoundsException"
def TJ13 : u_T := fun k => match k with
  | 0 => ("java/lang/Throwable", "backtrace", "Ljava/lang/Object;", false)
  | 1 => ("java/lang/Throwable", "detailMessage", "Ljava/lang/String;", false)
  | 2 => ("java/lang/Throwable", "cause", "Ljava/lang/Throwable;", false)
  | 3 => ("java/lang/Throwable", "stackTrace", "[Ljava/lang/StackTraceElement;", false)
  | 4 => ("java/lang/Throwable", "depth", "I", false)
  | _ => ("java/lang/Throwable", "suppressedExceptions", "Ljava/util/List;", false)
def tyJ13 : Nat → FieldType := fun k => match k with
  | 0 => .object "java/lang/Object"
  | 1 => .object "java/lang/String"
  | 2 => .object "java/lang/Throwable"
  | 3 => .array (.object "java/lang/StackTraceElement")
  | 4 => .int
  | _ => .object "java/util/List"
abbrev wsJ130 : List Cond := u_ws RJ13 TJ13 6
theorem nmJ13 : ∀ a, a < 6 → ∀ b, b < 6 → a ≠ b → (TJ13 a).2.1 ≠ (TJ13 b).2.1 := by decide +kernel
theorem tyJ13_ok : ∀ k, k < 6 → parseFieldDescriptor (TJ13 k).2.2.1 = some (tyJ13 k) := by decide +kernel
abbrev cJ13_init : ByteArray := prog_12_method_2_code
def yJ13_init : MethodName := ⟨RJ13, "<init>", "(Ljava/lang/String;)V"⟩
def dkwJ13_init_0 : List UInt8 := [42, 43, 183, 0, 7, 177]
abbrev dktJ13_init_0 : List UInt8 := dkwJ13_init_0 ++ []
theorem dksJ13_init_0 : cJ13_init.data.toList.drop 0 = dktJ13_init_0 := by decide +kernel
theorem dJ13_init_0 : decode cJ13_init 0 = .ok (.aload_n 0, 1) := dk_42 (dk_at dksJ13_init_0 0 rfl rfl)
theorem dJ13_init_1 : decode cJ13_init 1 = .ok (.aload_n 1, 1) := dk_43 (dk_at dksJ13_init_0 1 rfl rfl)
theorem dJ13_init_2 : decode cJ13_init 2 = .ok (.invokespecial 7, 3) := dk_183 0 7 (dk_at dksJ13_init_0 2 rfl rfl)
theorem dJ13_init_5 : decode cJ13_init 5 = .ok (.return_, 1) := dk_177 (dk_at dksJ13_init_0 5 rfl rfl)
theorem q84 : (Jvm.Cond.initialized "java/lang/ArrayIndexOutOfBoundsException") ∈ lw_all := lw_g (lw_at lw_m1 25 rfl) rfl
theorem q167 : (Jvm.Cond.selects "java/lang/ArrayIndexOutOfBoundsException" ({ cls := "java/lang/Throwable", name := "fillInStackTrace", desc := "()Ljava/lang/Throwable;" } : Jvm.MethodName) ({ cls := "java/lang/Throwable", name := "fillInStackTrace", desc := "()Ljava/lang/Throwable;" } : Jvm.MethodName)) ∈ lw_all := lw_g (lw_at lw_m1 108 rfl) rfl
theorem q918 : (Jvm.Cond.instantiable "java/lang/ArrayIndexOutOfBoundsException" (6 : Nat)) ∈ lw_all := lw_g (lw_at lw_m4 139 rfl) rfl
theorem q919 : (Jvm.Cond.instanceMethod ({ cls := "java/lang/ArrayIndexOutOfBoundsException", name := "<init>", desc := "(Ljava/lang/String;)V" } : Jvm.MethodName)) ∈ lw_all := lw_g (lw_at lw_m4 140 rfl) rfl
theorem q920 : (Jvm.Cond.code ({ cls := "java/lang/ArrayIndexOutOfBoundsException", name := "<init>", desc := "(Ljava/lang/String;)V" } : Jvm.MethodName) prog_12_method_2_code (2 : Nat) (Option.none : Option Jvm.ClassFile.FieldType)) ∈ lw_all := lw_g (lw_at lw_m4 141 rfl) rfl
theorem q921 : (Jvm.Cond.methodLink "java/lang/ArrayIndexOutOfBoundsException" (7 : Nat) ({ cls := "java/lang/IndexOutOfBoundsException", name := "<init>", desc := "(Ljava/lang/String;)V" } : Jvm.MethodName)) ∈ lw_all := lw_g (lw_at lw_m4 142 rfl) rfl
theorem q925 : (Jvm.Cond.lays "java/lang/ArrayIndexOutOfBoundsException" "java/lang/Throwable" "backtrace" "Ljava/lang/Object;") ∈ lw_all := lw_g (lw_at lw_m4 146 rfl) rfl
theorem q926 : (Jvm.Cond.lays "java/lang/ArrayIndexOutOfBoundsException" "java/lang/Throwable" "detailMessage" "Ljava/lang/String;") ∈ lw_all := lw_g (lw_at lw_m4 147 rfl) rfl
theorem q927 : (Jvm.Cond.lays "java/lang/ArrayIndexOutOfBoundsException" "java/lang/Throwable" "cause" "Ljava/lang/Throwable;") ∈ lw_all := lw_g (lw_at lw_m4 148 rfl) rfl
theorem q928 : (Jvm.Cond.lays "java/lang/ArrayIndexOutOfBoundsException" "java/lang/Throwable" "stackTrace" "[Ljava/lang/StackTraceElement;") ∈ lw_all := lw_g (lw_at lw_m4 149 rfl) rfl
theorem q929 : (Jvm.Cond.lays "java/lang/ArrayIndexOutOfBoundsException" "java/lang/Throwable" "depth" "I") ∈ lw_all := lw_g (lw_at lw_m4 150 rfl) rfl
theorem q930 : (Jvm.Cond.lays "java/lang/ArrayIndexOutOfBoundsException" "java/lang/Throwable" "suppressedExceptions" "Ljava/util/List;") ∈ lw_all := lw_g (lw_at lw_m4 151 rfl) rfl
theorem q931 : (Jvm.Cond.superclass "java/lang/ArrayIndexOutOfBoundsException" "java/lang/IndexOutOfBoundsException") ∈ lw_all := lw_g (lw_at lw_m4 152 rfl) rfl
theorem q932 : (Jvm.Cond.castable "java/lang/ArrayIndexOutOfBoundsException" "java/lang/ArrayIndexOutOfBoundsException") ∈ lw_tbl := lw_at lw_m4 153 rfl
theorem q935 : (Jvm.Cond.selects "java/lang/ArrayIndexOutOfBoundsException" ({ cls := "java/lang/Throwable", name := "fillInStackTrace", desc := "(I)Ljava/lang/Throwable;" } : Jvm.MethodName) ({ cls := "java/lang/Throwable", name := "fillInStackTrace", desc := "(I)Ljava/lang/Throwable;" } : Jvm.MethodName)) ∈ lw_all := lw_g (lw_at lw_m4 156 rfl) rfl
theorem in_J13 : ∀ w ∈ wsJ130, w ∈ lw_all := lw_in wsJ130 [925, 926, 927, 928, 929, 930] (by decide +kernel) (by decide +kernel)

/-! java/lang/ClassCastException -/
set_option maxRecDepth 100000
def RJ14 : String := "java/lang/ClassCastException"
def TJ14 : u_T := fun k => match k with
  | 0 => ("java/lang/Throwable", "backtrace", "Ljava/lang/Object;", false)
  | 1 => ("java/lang/Throwable", "detailMessage", "Ljava/lang/String;", false)
  | 2 => ("java/lang/Throwable", "cause", "Ljava/lang/Throwable;", false)
  | 3 => ("java/lang/Throwable", "stackTrace", "[Ljava/lang/StackTraceElement;", false)
  | 4 => ("java/lang/Throwable", "depth", "I", false)
  | _ => ("java/lang/Throwable", "suppressedExceptions", "Ljava/util/List;", false)
def tyJ14 : Nat → FieldType := fun k => match k with
  | 0 => .object "java/lang/Object"
  | 1 => .object "java/lang/String"
  | 2 => .object "java/lang/Throwable"
  | 3 => .array (.object "java/lang/StackTraceElement")
  | 4 => .int
  | _ => .object "java/util/List"
abbrev wsJ140 : List Cond := u_ws RJ14 TJ14 6
theorem nmJ14 : ∀ a, a < 6 → ∀ b, b < 6 → a ≠ b → (TJ14 a).2.1 ≠ (TJ14 b).2.1 := by decide +kernel
theorem tyJ14_ok : ∀ k, k < 6 → parseFieldDescriptor (TJ14 k).2.2.1 = some (tyJ14 k) := by decide +kernel
abbrev cJ14_init : ByteArray := prog_13_method_2_code
def yJ14_init : MethodName := ⟨RJ14, "<init>", "(Ljava/lang/String;)V"⟩
def dkwJ14_init_0 : List UInt8 := [42, 43, 183, 0, 7, 177]
abbrev dktJ14_init_0 : List UInt8 := dkwJ14_init_0 ++ []
theorem dksJ14_init_0 : cJ14_init.data.toList.drop 0 = dktJ14_init_0 := by decide +kernel
theorem dJ14_init_0 : decode cJ14_init 0 = .ok (.aload_n 0, 1) := dk_42 (dk_at dksJ14_init_0 0 rfl rfl)
theorem dJ14_init_1 : decode cJ14_init 1 = .ok (.aload_n 1, 1) := dk_43 (dk_at dksJ14_init_0 1 rfl rfl)
theorem dJ14_init_2 : decode cJ14_init 2 = .ok (.invokespecial 7, 3) := dk_183 0 7 (dk_at dksJ14_init_0 2 rfl rfl)
theorem dJ14_init_5 : decode cJ14_init 5 = .ok (.return_, 1) := dk_177 (dk_at dksJ14_init_0 5 rfl rfl)
theorem q85 : (Jvm.Cond.initialized "java/lang/ClassCastException") ∈ lw_all := lw_g (lw_at lw_m1 26 rfl) rfl
theorem q168 : (Jvm.Cond.selects "java/lang/ClassCastException" ({ cls := "java/lang/Throwable", name := "fillInStackTrace", desc := "()Ljava/lang/Throwable;" } : Jvm.MethodName) ({ cls := "java/lang/Throwable", name := "fillInStackTrace", desc := "()Ljava/lang/Throwable;" } : Jvm.MethodName)) ∈ lw_all := lw_g (lw_at lw_m1 109 rfl) rfl
theorem q944 : (Jvm.Cond.instantiable "java/lang/ClassCastException" (6 : Nat)) ∈ lw_all := lw_g (lw_at lw_m4 165 rfl) rfl
theorem q945 : (Jvm.Cond.instanceMethod ({ cls := "java/lang/ClassCastException", name := "<init>", desc := "(Ljava/lang/String;)V" } : Jvm.MethodName)) ∈ lw_all := lw_g (lw_at lw_m4 166 rfl) rfl
theorem q946 : (Jvm.Cond.code ({ cls := "java/lang/ClassCastException", name := "<init>", desc := "(Ljava/lang/String;)V" } : Jvm.MethodName) prog_13_method_2_code (2 : Nat) (Option.none : Option Jvm.ClassFile.FieldType)) ∈ lw_all := lw_g (lw_at lw_m4 167 rfl) rfl
theorem q947 : (Jvm.Cond.methodLink "java/lang/ClassCastException" (7 : Nat) ({ cls := "java/lang/RuntimeException", name := "<init>", desc := "(Ljava/lang/String;)V" } : Jvm.MethodName)) ∈ lw_all := lw_g (lw_at lw_m4 168 rfl) rfl
theorem q948 : (Jvm.Cond.lays "java/lang/ClassCastException" "java/lang/Throwable" "backtrace" "Ljava/lang/Object;") ∈ lw_all := lw_g (lw_at lw_m4 169 rfl) rfl
theorem q949 : (Jvm.Cond.lays "java/lang/ClassCastException" "java/lang/Throwable" "detailMessage" "Ljava/lang/String;") ∈ lw_all := lw_g (lw_at lw_m4 170 rfl) rfl
theorem q950 : (Jvm.Cond.lays "java/lang/ClassCastException" "java/lang/Throwable" "cause" "Ljava/lang/Throwable;") ∈ lw_all := lw_g (lw_at lw_m4 171 rfl) rfl
theorem q951 : (Jvm.Cond.lays "java/lang/ClassCastException" "java/lang/Throwable" "stackTrace" "[Ljava/lang/StackTraceElement;") ∈ lw_all := lw_g (lw_at lw_m4 172 rfl) rfl
theorem q952 : (Jvm.Cond.lays "java/lang/ClassCastException" "java/lang/Throwable" "depth" "I") ∈ lw_all := lw_g (lw_at lw_m4 173 rfl) rfl
theorem q953 : (Jvm.Cond.lays "java/lang/ClassCastException" "java/lang/Throwable" "suppressedExceptions" "Ljava/util/List;") ∈ lw_all := lw_g (lw_at lw_m4 174 rfl) rfl
theorem q954 : (Jvm.Cond.superclass "java/lang/ClassCastException" "java/lang/RuntimeException") ∈ lw_all := lw_g (lw_at lw_m4 175 rfl) rfl
theorem q955 : (Jvm.Cond.castable "java/lang/ClassCastException" "java/lang/ClassCastException") ∈ lw_tbl := lw_at lw_m4 176 rfl
theorem q956 : (Jvm.Cond.selects "java/lang/ClassCastException" ({ cls := "java/lang/Throwable", name := "fillInStackTrace", desc := "(I)Ljava/lang/Throwable;" } : Jvm.MethodName) ({ cls := "java/lang/Throwable", name := "fillInStackTrace", desc := "(I)Ljava/lang/Throwable;" } : Jvm.MethodName)) ∈ lw_all := lw_g (lw_at lw_m4 177 rfl) rfl
theorem in_J14 : ∀ w ∈ wsJ140, w ∈ lw_all := lw_in wsJ140 [948, 949, 950, 951, 952, 953] (by decide +kernel) (by decide +kernel)

/-! java/lang/Object -/
set_option maxRecDepth 100000
def RJ15 : String := "java/lang/Object"
abbrev cJ15_init : ByteArray := object_method_1_code
def yJ15_init : MethodName := ⟨RJ15, "<init>", "()V"⟩
theorem dJ15_init_0 : decode cJ15_init 0 = .ok (.return_, 1) := by decide +kernel
theorem q111 : (Jvm.Cond.instanceMethod ({ cls := "java/lang/Object", name := "<init>", desc := "()V" } : Jvm.MethodName)) ∈ lw_all := lw_g (lw_at lw_m1 52 rfl) rfl
theorem q112 : (Jvm.Cond.code ({ cls := "java/lang/Object", name := "<init>", desc := "()V" } : Jvm.MethodName) object_method_1_code (1 : Nat) (Option.none : Option Jvm.ClassFile.FieldType)) ∈ lw_all := lw_g (lw_at lw_m1 53 rfl) rfl

/-! java/lang/RuntimeException -/
set_option maxRecDepth 100000
def RJ2 : String := "java/lang/RuntimeException"
abbrev cJ2_init : ByteArray := prog_20_method_5_code
def yJ2_init : MethodName := ⟨RJ2, "<init>", "(Ljava/lang/String;Ljava/lang/Throwable;ZZ)V"⟩
def dkwJ2_init_0 : List UInt8 := [42, 43, 44, 29, 21, 4, 183, 0, 16, 177]
abbrev dktJ2_init_0 : List UInt8 := dkwJ2_init_0 ++ []
theorem dksJ2_init_0 : cJ2_init.data.toList.drop 0 = dktJ2_init_0 := by decide +kernel
theorem dJ2_init_0 : decode cJ2_init 0 = .ok (.aload_n 0, 1) := dk_42 (dk_at dksJ2_init_0 0 rfl rfl)
theorem dJ2_init_1 : decode cJ2_init 1 = .ok (.aload_n 1, 1) := dk_43 (dk_at dksJ2_init_0 1 rfl rfl)
theorem dJ2_init_2 : decode cJ2_init 2 = .ok (.aload_n 2, 1) := dk_44 (dk_at dksJ2_init_0 2 rfl rfl)
theorem dJ2_init_3 : decode cJ2_init 3 = .ok (.iload_n 3, 1) := dk_29 (dk_at dksJ2_init_0 3 rfl rfl)
theorem dJ2_init_4 : decode cJ2_init 4 = .ok (.iload 4, 2) := dk_21 4 (dk_at dksJ2_init_0 4 rfl rfl)
theorem dJ2_init_6 : decode cJ2_init 6 = .ok (.invokespecial 16, 3) := dk_183 0 16 (dk_at dksJ2_init_0 6 rfl rfl)
theorem dJ2_init_9 : decode cJ2_init 9 = .ok (.return_, 1) := dk_177 (dk_at dksJ2_init_0 9 rfl rfl)
abbrev cJ2_init_2 : ByteArray := prog_20_method_2_code
def yJ2_init_2 : MethodName := ⟨RJ2, "<init>", "(Ljava/lang/String;)V"⟩
def dkwJ2_init_2_0 : List UInt8 := [42, 43, 183, 0, 7, 177]
abbrev dktJ2_init_2_0 : List UInt8 := dkwJ2_init_2_0 ++ []
theorem dksJ2_init_2_0 : cJ2_init_2.data.toList.drop 0 = dktJ2_init_2_0 := by decide +kernel
theorem dJ2_init_2_0 : decode cJ2_init_2 0 = .ok (.aload_n 0, 1) := dk_42 (dk_at dksJ2_init_2_0 0 rfl rfl)
theorem dJ2_init_2_1 : decode cJ2_init_2 1 = .ok (.aload_n 1, 1) := dk_43 (dk_at dksJ2_init_2_0 1 rfl rfl)
theorem dJ2_init_2_2 : decode cJ2_init_2 2 = .ok (.invokespecial 7, 3) := dk_183 0 7 (dk_at dksJ2_init_2_0 2 rfl rfl)
theorem dJ2_init_2_5 : decode cJ2_init_2 5 = .ok (.return_, 1) := dk_177 (dk_at dksJ2_init_2_0 5 rfl rfl)
abbrev cJ2_init_3 : ByteArray := prog_20_method_1_code
def yJ2_init_3 : MethodName := ⟨RJ2, "<init>", "()V"⟩
theorem dJ2_init_3_0 : decode cJ2_init_3 0 = .ok (.aload_n 0, 1) := by decide +kernel
theorem dJ2_init_3_1 : decode cJ2_init_3 1 = .ok (.invokespecial 1, 3) := by decide +kernel
theorem dJ2_init_3_4 : decode cJ2_init_3 4 = .ok (.return_, 1) := by decide +kernel
theorem q68 : (Jvm.Cond.initialized "java/lang/RuntimeException") ∈ lw_all := lw_g (lw_at lw_m1 9 rfl) rfl
theorem q137 : (Jvm.Cond.declares ({ cls := "java/lang/RuntimeException", name := "<init>", desc := "()V" } : Jvm.MethodName)) ∈ lw_tbl := lw_at lw_m1 78 rfl
theorem q138 : (Jvm.Cond.declares ({ cls := "java/lang/RuntimeException", name := "<init>", desc := "(Ljava/lang/String;)V" } : Jvm.MethodName)) ∈ lw_tbl := lw_at lw_m1 79 rfl
theorem q179 : (Jvm.Cond.sameMethod "java/lang/RuntimeException" "java/lang/Throwable" "fillInStackTrace" "()Ljava/lang/Throwable;") ∈ lw_all := lw_g (lw_at lw_m1 120 rfl) rfl
theorem q182 : (Jvm.Cond.superclass "java/lang/RuntimeException" "java/lang/Exception") ∈ lw_all := lw_g (lw_at lw_m1 123 rfl) rfl
theorem q194 : (Jvm.Cond.instanceMethod ({ cls := "java/lang/RuntimeException", name := "<init>", desc := "(Ljava/lang/String;Ljava/lang/Throwable;ZZ)V" } : Jvm.MethodName)) ∈ lw_all := lw_g (lw_at lw_m1 135 rfl) rfl
theorem q195 : (Jvm.Cond.code ({ cls := "java/lang/RuntimeException", name := "<init>", desc := "(Ljava/lang/String;Ljava/lang/Throwable;ZZ)V" } : Jvm.MethodName) prog_20_method_5_code (5 : Nat) (Option.none : Option Jvm.ClassFile.FieldType)) ∈ lw_all := lw_g (lw_at lw_m1 136 rfl) rfl
theorem q196 : (Jvm.Cond.methodLink "java/lang/RuntimeException" (16 : Nat) ({ cls := "java/lang/Exception", name := "<init>", desc := "(Ljava/lang/String;Ljava/lang/Throwable;ZZ)V" } : Jvm.MethodName)) ∈ lw_all := lw_g (lw_at lw_m1 137 rfl) rfl
theorem q862 : (Jvm.Cond.instanceMethod ({ cls := "java/lang/RuntimeException", name := "<init>", desc := "(Ljava/lang/String;)V" } : Jvm.MethodName)) ∈ lw_all := lw_g (lw_at lw_m4 83 rfl) rfl
theorem q863 : (Jvm.Cond.code ({ cls := "java/lang/RuntimeException", name := "<init>", desc := "(Ljava/lang/String;)V" } : Jvm.MethodName) prog_20_method_2_code (2 : Nat) (Option.none : Option Jvm.ClassFile.FieldType)) ∈ lw_all := lw_g (lw_at lw_m4 84 rfl) rfl
theorem q864 : (Jvm.Cond.methodLink "java/lang/RuntimeException" (7 : Nat) ({ cls := "java/lang/Exception", name := "<init>", desc := "(Ljava/lang/String;)V" } : Jvm.MethodName)) ∈ lw_all := lw_g (lw_at lw_m4 85 rfl) rfl
theorem q896 : (Jvm.Cond.instanceMethod ({ cls := "java/lang/RuntimeException", name := "<init>", desc := "()V" } : Jvm.MethodName)) ∈ lw_all := lw_g (lw_at lw_m4 117 rfl) rfl
theorem q897 : (Jvm.Cond.code ({ cls := "java/lang/RuntimeException", name := "<init>", desc := "()V" } : Jvm.MethodName) prog_20_method_1_code (1 : Nat) (Option.none : Option Jvm.ClassFile.FieldType)) ∈ lw_all := lw_g (lw_at lw_m4 118 rfl) rfl
theorem q898 : (Jvm.Cond.methodLink "java/lang/RuntimeException" (1 : Nat) ({ cls := "java/lang/Exception", name := "<init>", desc := "()V" } : Jvm.MethodName)) ∈ lw_all := lw_g (lw_at lw_m4 119 rfl) rfl
theorem q916 : (Jvm.Cond.castable "java/lang/RuntimeException" "java/lang/Throwable") ∈ lw_tbl := lw_at lw_m4 137 rfl

/-! java/lang/String -/
set_option maxRecDepth 100000
def RJ3 : String := "java/lang/String"
def TJ3 : u_T := fun k => match k with
  | 0 => ("java/lang/String", "value", "[B", true)
  | _ => ("java/lang/String", "coder", "B", true)
def tyJ3 : Nat → FieldType := fun k => match k with
  | 0 => .array .byte
  | _ => .byte
abbrev wsJ30 : List Cond := u_ws RJ3 TJ3 2
theorem nmJ3 : ∀ a, a < 2 → ∀ b, b < 2 → a ≠ b → (TJ3 a).2.1 ≠ (TJ3 b).2.1 := by decide +kernel
theorem tyJ3_ok : ∀ k, k < 2 → parseFieldDescriptor (TJ3 k).2.2.1 = some (tyJ3 k) := by decide +kernel
abbrev cJ3_length : ByteArray := prog_21_method_54_code
def yJ3_length : MethodName := ⟨RJ3, "length", "()I"⟩
def dkwJ3_length_0 : List UInt8 := [42, 180, 0, 9, 190, 42, 182, 1, 79, 122, 172]
abbrev dktJ3_length_0 : List UInt8 := dkwJ3_length_0 ++ []
theorem dksJ3_length_0 : cJ3_length.data.toList.drop 0 = dktJ3_length_0 := by decide +kernel
theorem dJ3_length_0 : decode cJ3_length 0 = .ok (.aload_n 0, 1) := dk_42 (dk_at dksJ3_length_0 0 rfl rfl)
theorem dJ3_length_1 : decode cJ3_length 1 = .ok (.getfield 9, 3) := dk_180 0 9 (dk_at dksJ3_length_0 1 rfl rfl)
theorem dJ3_length_4 : decode cJ3_length 4 = .ok (.arraylength, 1) := dk_190 (dk_at dksJ3_length_0 4 rfl rfl)
theorem dJ3_length_5 : decode cJ3_length 5 = .ok (.aload_n 0, 1) := dk_42 (dk_at dksJ3_length_0 5 rfl rfl)
theorem dJ3_length_6 : decode cJ3_length 6 = .ok (.invokevirtual 335, 3) := dk_182 1 79 (dk_at dksJ3_length_0 6 rfl rfl)
theorem dJ3_length_9 : decode cJ3_length 9 = .ok (.ishr, 1) := dk_122 (dk_at dksJ3_length_0 9 rfl rfl)
theorem dJ3_length_10 : decode cJ3_length 10 = .ok (.ireturn, 1) := dk_172 (dk_at dksJ3_length_0 10 rfl rfl)
abbrev cJ3_coder : ByteArray := prog_21_method_152_code
def yJ3_coder : MethodName := ⟨RJ3, "coder", "()B"⟩
def dkwJ3_coder_0 : List UInt8 := [178, 0, 38, 153, 0, 10, 42, 180, 0, 15, 167, 0, 4, 4, 172]
abbrev dktJ3_coder_0 : List UInt8 := dkwJ3_coder_0 ++ []
theorem dksJ3_coder_0 : cJ3_coder.data.toList.drop 0 = dktJ3_coder_0 := by decide +kernel
theorem dJ3_coder_0 : decode cJ3_coder 0 = .ok (.getstatic 38, 3) := dk_178 0 38 (dk_at dksJ3_coder_0 0 rfl rfl)
theorem dJ3_coder_3 : decode cJ3_coder 3 = .ok (.ifCond .eq 10, 3) := dk_153 0 10 (dk_at dksJ3_coder_0 3 rfl rfl)
theorem dJ3_coder_6 : decode cJ3_coder 6 = .ok (.aload_n 0, 1) := dk_42 (dk_at dksJ3_coder_0 6 rfl rfl)
theorem dJ3_coder_7 : decode cJ3_coder 7 = .ok (.getfield 15, 3) := dk_180 0 15 (dk_at dksJ3_coder_0 7 rfl rfl)
theorem dJ3_coder_10 : decode cJ3_coder 10 = .ok (.goto 4, 3) := dk_167 0 4 (dk_at dksJ3_coder_0 10 rfl rfl)
theorem dJ3_coder_13 : decode cJ3_coder 13 = .ok (.iconst 1, 1) := dk_4 (dk_at dksJ3_coder_0 13 rfl rfl)
theorem dJ3_coder_14 : decode cJ3_coder 14 = .ok (.ireturn, 1) := dk_172 (dk_at dksJ3_coder_0 14 rfl rfl)
abbrev cJ3_charAt : ByteArray := prog_21_method_56_code
def yJ3_charAt : MethodName := ⟨RJ3, "charAt", "(I)C"⟩
def dkwJ3_charAt_1 : List UInt8 := [172]
abbrev dktJ3_charAt_1 : List UInt8 := dkwJ3_charAt_1 ++ []
def dkwJ3_charAt_0 : List UInt8 := [42, 182, 1, 236, 153, 0, 12, 42, 180, 0, 9, 27, 184, 1, 239, 172, 42, 180, 0, 9, 27, 184, 1, 242]
abbrev dktJ3_charAt_0 : List UInt8 := dkwJ3_charAt_0 ++ dktJ3_charAt_1
theorem dksJ3_charAt_0 : cJ3_charAt.data.toList.drop 0 = dktJ3_charAt_0 := by decide +kernel
theorem dksJ3_charAt_1 : cJ3_charAt.data.toList.drop 24 = dktJ3_charAt_1 := dk_seg dksJ3_charAt_0 24 rfl rfl
theorem dJ3_charAt_0 : decode cJ3_charAt 0 = .ok (.aload_n 0, 1) := dk_42 (dk_at dksJ3_charAt_0 0 rfl rfl)
theorem dJ3_charAt_1 : decode cJ3_charAt 1 = .ok (.invokevirtual 492, 3) := dk_182 1 236 (dk_at dksJ3_charAt_0 1 rfl rfl)
theorem dJ3_charAt_4 : decode cJ3_charAt 4 = .ok (.ifCond .eq 12, 3) := dk_153 0 12 (dk_at dksJ3_charAt_0 4 rfl rfl)
theorem dJ3_charAt_7 : decode cJ3_charAt 7 = .ok (.aload_n 0, 1) := dk_42 (dk_at dksJ3_charAt_0 7 rfl rfl)
theorem dJ3_charAt_8 : decode cJ3_charAt 8 = .ok (.getfield 9, 3) := dk_180 0 9 (dk_at dksJ3_charAt_0 8 rfl rfl)
theorem dJ3_charAt_11 : decode cJ3_charAt 11 = .ok (.iload_n 1, 1) := dk_27 (dk_at dksJ3_charAt_0 11 rfl rfl)
theorem dJ3_charAt_12 : decode cJ3_charAt 12 = .ok (.invokestatic 495, 3) := dk_184 1 239 (dk_at dksJ3_charAt_0 12 rfl rfl)
theorem dJ3_charAt_15 : decode cJ3_charAt 15 = .ok (.ireturn, 1) := dk_172 (dk_at dksJ3_charAt_0 15 rfl rfl)
theorem dJ3_charAt_16 : decode cJ3_charAt 16 = .ok (.aload_n 0, 1) := dk_42 (dk_at dksJ3_charAt_0 16 rfl rfl)
theorem dJ3_charAt_17 : decode cJ3_charAt 17 = .ok (.getfield 9, 3) := dk_180 0 9 (dk_at dksJ3_charAt_0 17 rfl rfl)
theorem dJ3_charAt_20 : decode cJ3_charAt 20 = .ok (.iload_n 1, 1) := dk_27 (dk_at dksJ3_charAt_0 20 rfl rfl)
theorem dJ3_charAt_21 : decode cJ3_charAt 21 = .ok (.invokestatic 498, 3) := dk_184 1 242 (dk_at dksJ3_charAt_0 21 rfl rfl)
theorem dJ3_charAt_24 : decode cJ3_charAt 24 = .ok (.ireturn, 1) := dk_172 (dk_at dksJ3_charAt_1 0 rfl rfl)
abbrev cJ3_isLatin1 : ByteArray := prog_21_method_154_code
def yJ3_isLatin1 : MethodName := ⟨RJ3, "isLatin1", "()Z"⟩
def dkwJ3_isLatin1_0 : List UInt8 := [178, 0, 38, 153, 0, 14, 42, 180, 0, 15, 154, 0, 7, 4, 167, 0, 4, 3, 172]
abbrev dktJ3_isLatin1_0 : List UInt8 := dkwJ3_isLatin1_0 ++ []
theorem dksJ3_isLatin1_0 : cJ3_isLatin1.data.toList.drop 0 = dktJ3_isLatin1_0 := by decide +kernel
theorem dJ3_isLatin1_0 : decode cJ3_isLatin1 0 = .ok (.getstatic 38, 3) := dk_178 0 38 (dk_at dksJ3_isLatin1_0 0 rfl rfl)
theorem dJ3_isLatin1_3 : decode cJ3_isLatin1 3 = .ok (.ifCond .eq 14, 3) := dk_153 0 14 (dk_at dksJ3_isLatin1_0 3 rfl rfl)
theorem dJ3_isLatin1_6 : decode cJ3_isLatin1 6 = .ok (.aload_n 0, 1) := dk_42 (dk_at dksJ3_isLatin1_0 6 rfl rfl)
theorem dJ3_isLatin1_7 : decode cJ3_isLatin1 7 = .ok (.getfield 15, 3) := dk_180 0 15 (dk_at dksJ3_isLatin1_0 7 rfl rfl)
theorem dJ3_isLatin1_10 : decode cJ3_isLatin1 10 = .ok (.ifCond .ne 7, 3) := dk_154 0 7 (dk_at dksJ3_isLatin1_0 10 rfl rfl)
theorem dJ3_isLatin1_13 : decode cJ3_isLatin1 13 = .ok (.iconst 1, 1) := dk_4 (dk_at dksJ3_isLatin1_0 13 rfl rfl)
theorem dJ3_isLatin1_14 : decode cJ3_isLatin1 14 = .ok (.goto 4, 3) := dk_167 0 4 (dk_at dksJ3_isLatin1_0 14 rfl rfl)
theorem dJ3_isLatin1_17 : decode cJ3_isLatin1 17 = .ok (.iconst 0, 1) := dk_3 (dk_at dksJ3_isLatin1_0 17 rfl rfl)
theorem dJ3_isLatin1_18 : decode cJ3_isLatin1 18 = .ok (.ireturn, 1) := dk_172 (dk_at dksJ3_isLatin1_0 18 rfl rfl)
abbrev cJ3_checkIndex : ByteArray := prog_21_method_155_code
def yJ3_checkIndex : MethodName := ⟨RJ3, "checkIndex", "(II)V"⟩
def dkwJ3_checkIndex_0 : List UInt8 := [26, 27, 178, 4, 29, 184, 4, 35, 87, 177]
abbrev dktJ3_checkIndex_0 : List UInt8 := dkwJ3_checkIndex_0 ++ []
theorem dksJ3_checkIndex_0 : cJ3_checkIndex.data.toList.drop 0 = dktJ3_checkIndex_0 := by decide +kernel
theorem dJ3_checkIndex_0 : decode cJ3_checkIndex 0 = .ok (.iload_n 0, 1) := dk_26 (dk_at dksJ3_checkIndex_0 0 rfl rfl)
theorem dJ3_checkIndex_1 : decode cJ3_checkIndex 1 = .ok (.iload_n 1, 1) := dk_27 (dk_at dksJ3_checkIndex_0 1 rfl rfl)
theorem dJ3_checkIndex_2 : decode cJ3_checkIndex 2 = .ok (.getstatic 1053, 3) := dk_178 4 29 (dk_at dksJ3_checkIndex_0 2 rfl rfl)
theorem dJ3_checkIndex_5 : decode cJ3_checkIndex 5 = .ok (.invokestatic 1059, 3) := dk_184 4 35 (dk_at dksJ3_checkIndex_0 5 rfl rfl)
theorem dJ3_checkIndex_8 : decode cJ3_checkIndex 8 = .ok (.pop, 1) := dk_87 (dk_at dksJ3_checkIndex_0 8 rfl rfl)
theorem dJ3_checkIndex_9 : decode cJ3_checkIndex 9 = .ok (.return_, 1) := dk_177 (dk_at dksJ3_checkIndex_0 9 rfl rfl)
theorem q72 : (Jvm.Cond.initialized "java/lang/String") ∈ lw_all := lw_g (lw_at lw_m1 13 rfl) rfl
theorem q288 : (Jvm.Cond.instanceMethod ({ cls := "java/lang/String", name := "length", desc := "()I" } : Jvm.MethodName)) ∈ lw_all := lw_g (lw_at lw_m1 229 rfl) rfl
theorem q289 : (Jvm.Cond.selects "java/lang/String" ({ cls := "java/lang/String", name := "length", desc := "()I" } : Jvm.MethodName) ({ cls := "java/lang/String", name := "length", desc := "()I" } : Jvm.MethodName)) ∈ lw_all := lw_g (lw_at lw_m1 230 rfl) rfl
theorem q290 : (Jvm.Cond.code ({ cls := "java/lang/String", name := "length", desc := "()I" } : Jvm.MethodName) prog_21_method_54_code (1 : Nat) (Option.some Jvm.ClassFile.FieldType.int)) ∈ lw_all := lw_g (lw_at lw_m1 231 rfl) rfl
theorem q291 : (Jvm.Cond.methodLink "java/lang/String" (335 : Nat) ({ cls := "java/lang/String", name := "coder", desc := "()B" } : Jvm.MethodName)) ∈ lw_all := lw_g (lw_at lw_m1 232 rfl) rfl
theorem q292 : (Jvm.Cond.instanceMethod ({ cls := "java/lang/String", name := "coder", desc := "()B" } : Jvm.MethodName)) ∈ lw_all := lw_g (lw_at lw_m1 233 rfl) rfl
theorem q293 : (Jvm.Cond.selects "java/lang/String" ({ cls := "java/lang/String", name := "coder", desc := "()B" } : Jvm.MethodName) ({ cls := "java/lang/String", name := "coder", desc := "()B" } : Jvm.MethodName)) ∈ lw_all := lw_g (lw_at lw_m1 234 rfl) rfl
theorem q294 : (Jvm.Cond.code ({ cls := "java/lang/String", name := "coder", desc := "()B" } : Jvm.MethodName) prog_21_method_152_code (1 : Nat) (Option.some Jvm.ClassFile.FieldType.byte)) ∈ lw_all := lw_g (lw_at lw_m1 235 rfl) rfl
theorem q295 : (Jvm.Cond.fieldLink "java/lang/String" (38 : Nat) "java/lang/String" "COMPACT_STRINGS" "Z") ∈ lw_all := lw_g (lw_at lw_m1 236 rfl) rfl
theorem q296 : (Jvm.Cond.laysStatic "java/lang/String" "COMPACT_STRINGS" "Z") ∈ lw_tbl := lw_at lw_m1 237 rfl
theorem q298 : (Jvm.Cond.instanceMethod ({ cls := "java/lang/String", name := "charAt", desc := "(I)C" } : Jvm.MethodName)) ∈ lw_all := lw_g (lw_at lw_m1 239 rfl) rfl
theorem q299 : (Jvm.Cond.selects "java/lang/String" ({ cls := "java/lang/String", name := "charAt", desc := "(I)C" } : Jvm.MethodName) ({ cls := "java/lang/String", name := "charAt", desc := "(I)C" } : Jvm.MethodName)) ∈ lw_all := lw_g (lw_at lw_m2 0 rfl) rfl
theorem q300 : (Jvm.Cond.code ({ cls := "java/lang/String", name := "charAt", desc := "(I)C" } : Jvm.MethodName) prog_21_method_56_code (2 : Nat) (Option.some Jvm.ClassFile.FieldType.char)) ∈ lw_all := lw_g (lw_at lw_m2 1 rfl) rfl
theorem q301 : (Jvm.Cond.methodLink "java/lang/String" (492 : Nat) ({ cls := "java/lang/String", name := "isLatin1", desc := "()Z" } : Jvm.MethodName)) ∈ lw_all := lw_g (lw_at lw_m2 2 rfl) rfl
theorem q302 : (Jvm.Cond.instanceMethod ({ cls := "java/lang/String", name := "isLatin1", desc := "()Z" } : Jvm.MethodName)) ∈ lw_all := lw_g (lw_at lw_m2 3 rfl) rfl
theorem q303 : (Jvm.Cond.selects "java/lang/String" ({ cls := "java/lang/String", name := "isLatin1", desc := "()Z" } : Jvm.MethodName) ({ cls := "java/lang/String", name := "isLatin1", desc := "()Z" } : Jvm.MethodName)) ∈ lw_all := lw_g (lw_at lw_m2 4 rfl) rfl
theorem q304 : (Jvm.Cond.code ({ cls := "java/lang/String", name := "isLatin1", desc := "()Z" } : Jvm.MethodName) prog_21_method_154_code (1 : Nat) (Option.some Jvm.ClassFile.FieldType.boolean)) ∈ lw_all := lw_g (lw_at lw_m2 5 rfl) rfl
theorem q305 : (Jvm.Cond.methodLink "java/lang/String" (495 : Nat) ({ cls := "java/lang/StringLatin1", name := "charAt", desc := "([BI)C" } : Jvm.MethodName)) ∈ lw_all := lw_g (lw_at lw_m2 6 rfl) rfl
theorem q309 : (Jvm.Cond.static ({ cls := "java/lang/String", name := "checkIndex", desc := "(II)V" } : Jvm.MethodName)) ∈ lw_all := lw_g (lw_at lw_m2 10 rfl) rfl
theorem q310 : (Jvm.Cond.code ({ cls := "java/lang/String", name := "checkIndex", desc := "(II)V" } : Jvm.MethodName) prog_21_method_155_code (2 : Nat) (Option.none : Option Jvm.ClassFile.FieldType)) ∈ lw_all := lw_g (lw_at lw_m2 11 rfl) rfl
theorem q311 : (Jvm.Cond.fieldLink "java/lang/String" (1053 : Nat) "jdk/internal/util/Preconditions" "SIOOBE_FORMATTER" "Ljava/util/function/BiFunction;") ∈ lw_all := lw_g (lw_at lw_m2 12 rfl) rfl
theorem q313 : (Jvm.Cond.methodLink "java/lang/String" (1059 : Nat) ({ cls := "jdk/internal/util/Preconditions", name := "checkIndex", desc := "(IILjava/util/function/BiFunction;)I" } : Jvm.MethodName)) ∈ lw_all := lw_g (lw_at lw_m2 14 rfl) rfl
theorem q316 : (Jvm.Cond.methodLink "java/lang/String" (498 : Nat) ({ cls := "java/lang/StringUTF16", name := "charAt", desc := "([BI)C" } : Jvm.MethodName)) ∈ lw_all := lw_g (lw_at lw_m2 17 rfl) rfl
theorem q879 : (Jvm.Cond.instantiable "java/lang/String" (4 : Nat)) ∈ lw_all := lw_g (lw_at lw_m4 100 rfl) rfl
theorem q880 : (Jvm.Cond.laysFinal "java/lang/String" "java/lang/String" "value" "[B") ∈ lw_all := lw_g (lw_at lw_m4 101 rfl) rfl
theorem q881 : (Jvm.Cond.soleField "java/lang/String" "value") ∈ lw_all := lw_g (lw_at lw_m4 102 rfl) rfl
theorem q882 : (Jvm.Cond.laysFinal "java/lang/String" "java/lang/String" "coder" "B") ∈ lw_all := lw_g (lw_at lw_m4 103 rfl) rfl
theorem q883 : (Jvm.Cond.soleField "java/lang/String" "coder") ∈ lw_all := lw_g (lw_at lw_m4 104 rfl) rfl
theorem q1476 : (Jvm.Cond.fieldLink "java/lang/String" (9 : Nat) "java/lang/String" "value" "[B") ∈ lw_all := lw_g (lw_at lw_m6 217 rfl) rfl
theorem q1477 : (Jvm.Cond.fieldLink "java/lang/String" (15 : Nat) "java/lang/String" "coder" "B") ∈ lw_all := lw_g (lw_at lw_m6 218 rfl) rfl
theorem in_J3 : ∀ w ∈ wsJ30, w ∈ lw_all := lw_in wsJ30 [880, 882] (by decide +kernel) (by decide +kernel)

/-! java/lang/StringLatin1 -/
set_option maxRecDepth 100000
def RJ4 : String := "java/lang/StringLatin1"
abbrev cJ4_charAt : ByteArray := prog_22_method_2_code
def yJ4_charAt : MethodName := ⟨RJ4, "charAt", "([BI)C"⟩
def dkwJ4_charAt_0 : List UInt8 := [27, 42, 190, 184, 0, 9, 42, 27, 51, 17, 0, 255, 126, 146, 172]
abbrev dktJ4_charAt_0 : List UInt8 := dkwJ4_charAt_0 ++ []
theorem dksJ4_charAt_0 : cJ4_charAt.data.toList.drop 0 = dktJ4_charAt_0 := by decide +kernel
theorem dJ4_charAt_0 : decode cJ4_charAt 0 = .ok (.iload_n 1, 1) := dk_27 (dk_at dksJ4_charAt_0 0 rfl rfl)
theorem dJ4_charAt_1 : decode cJ4_charAt 1 = .ok (.aload_n 0, 1) := dk_42 (dk_at dksJ4_charAt_0 1 rfl rfl)
theorem dJ4_charAt_2 : decode cJ4_charAt 2 = .ok (.arraylength, 1) := dk_190 (dk_at dksJ4_charAt_0 2 rfl rfl)
theorem dJ4_charAt_3 : decode cJ4_charAt 3 = .ok (.invokestatic 9, 3) := dk_184 0 9 (dk_at dksJ4_charAt_0 3 rfl rfl)
theorem dJ4_charAt_6 : decode cJ4_charAt 6 = .ok (.aload_n 0, 1) := dk_42 (dk_at dksJ4_charAt_0 6 rfl rfl)
theorem dJ4_charAt_7 : decode cJ4_charAt 7 = .ok (.iload_n 1, 1) := dk_27 (dk_at dksJ4_charAt_0 7 rfl rfl)
theorem dJ4_charAt_8 : decode cJ4_charAt 8 = .ok (.baload, 1) := dk_51 (dk_at dksJ4_charAt_0 8 rfl rfl)
theorem dJ4_charAt_9 : decode cJ4_charAt 9 = .ok (.sipush 255, 3) := dk_17 0 255 (dk_at dksJ4_charAt_0 9 rfl rfl)
theorem dJ4_charAt_12 : decode cJ4_charAt 12 = .ok (.iand, 1) := dk_126 (dk_at dksJ4_charAt_0 12 rfl rfl)
theorem dJ4_charAt_13 : decode cJ4_charAt 13 = .ok (.i2c, 1) := dk_146 (dk_at dksJ4_charAt_0 13 rfl rfl)
theorem dJ4_charAt_14 : decode cJ4_charAt 14 = .ok (.ireturn, 1) := dk_172 (dk_at dksJ4_charAt_0 14 rfl rfl)
theorem q73 : (Jvm.Cond.initialized "java/lang/StringLatin1") ∈ lw_all := lw_g (lw_at lw_m1 14 rfl) rfl
theorem q306 : (Jvm.Cond.static ({ cls := "java/lang/StringLatin1", name := "charAt", desc := "([BI)C" } : Jvm.MethodName)) ∈ lw_all := lw_g (lw_at lw_m2 7 rfl) rfl
theorem q307 : (Jvm.Cond.code ({ cls := "java/lang/StringLatin1", name := "charAt", desc := "([BI)C" } : Jvm.MethodName) prog_22_method_2_code (2 : Nat) (Option.some Jvm.ClassFile.FieldType.char)) ∈ lw_all := lw_g (lw_at lw_m2 8 rfl) rfl
theorem q308 : (Jvm.Cond.methodLink "java/lang/StringLatin1" (9 : Nat) ({ cls := "java/lang/String", name := "checkIndex", desc := "(II)V" } : Jvm.MethodName)) ∈ lw_all := lw_g (lw_at lw_m2 9 rfl) rfl

/-! jdk/internal/util/Preconditions -/
set_option maxRecDepth 100000
def RJ5 : String := "jdk/internal/util/Preconditions"
abbrev cJ5_checkIndex : ByteArray := prog_27_method_11_code
def yJ5_checkIndex : MethodName := ⟨RJ5, "checkIndex", "(IILjava/util/function/BiFunction;)I"⟩
def dkwJ5_checkIndex_0 : List UInt8 := [26, 155, 0, 8, 26, 27, 161, 0, 10, 44, 26, 27, 184, 0, 95, 191, 26, 172]
abbrev dktJ5_checkIndex_0 : List UInt8 := dkwJ5_checkIndex_0 ++ []
theorem dksJ5_checkIndex_0 : cJ5_checkIndex.data.toList.drop 0 = dktJ5_checkIndex_0 := by decide +kernel
theorem dJ5_checkIndex_0 : decode cJ5_checkIndex 0 = .ok (.iload_n 0, 1) := dk_26 (dk_at dksJ5_checkIndex_0 0 rfl rfl)
theorem dJ5_checkIndex_1 : decode cJ5_checkIndex 1 = .ok (.ifCond .lt 8, 3) := dk_155 0 8 (dk_at dksJ5_checkIndex_0 1 rfl rfl)
theorem dJ5_checkIndex_4 : decode cJ5_checkIndex 4 = .ok (.iload_n 0, 1) := dk_26 (dk_at dksJ5_checkIndex_0 4 rfl rfl)
theorem dJ5_checkIndex_5 : decode cJ5_checkIndex 5 = .ok (.iload_n 1, 1) := dk_27 (dk_at dksJ5_checkIndex_0 5 rfl rfl)
theorem dJ5_checkIndex_6 : decode cJ5_checkIndex 6 = .ok (.if_icmp .lt 10, 3) := dk_161 0 10 (dk_at dksJ5_checkIndex_0 6 rfl rfl)
theorem dJ5_checkIndex_9 : decode cJ5_checkIndex 9 = .ok (.aload_n 2, 1) := dk_44 (dk_at dksJ5_checkIndex_0 9 rfl rfl)
theorem dJ5_checkIndex_10 : decode cJ5_checkIndex 10 = .ok (.iload_n 0, 1) := dk_26 (dk_at dksJ5_checkIndex_0 10 rfl rfl)
theorem dJ5_checkIndex_11 : decode cJ5_checkIndex 11 = .ok (.iload_n 1, 1) := dk_27 (dk_at dksJ5_checkIndex_0 11 rfl rfl)
theorem dJ5_checkIndex_12 : decode cJ5_checkIndex 12 = .ok (.invokestatic 95, 3) := dk_184 0 95 (dk_at dksJ5_checkIndex_0 12 rfl rfl)
theorem dJ5_checkIndex_15 : decode cJ5_checkIndex 15 = .ok (.athrow, 1) := dk_191 (dk_at dksJ5_checkIndex_0 15 rfl rfl)
theorem dJ5_checkIndex_16 : decode cJ5_checkIndex 16 = .ok (.iload_n 0, 1) := dk_26 (dk_at dksJ5_checkIndex_0 16 rfl rfl)
theorem dJ5_checkIndex_17 : decode cJ5_checkIndex 17 = .ok (.ireturn, 1) := dk_172 (dk_at dksJ5_checkIndex_0 17 rfl rfl)
theorem q74 : (Jvm.Cond.initialized "jdk/internal/util/Preconditions") ∈ lw_all := lw_g (lw_at lw_m1 15 rfl) rfl
theorem q312 : (Jvm.Cond.laysStatic "jdk/internal/util/Preconditions" "SIOOBE_FORMATTER" "Ljava/util/function/BiFunction;") ∈ lw_tbl := lw_at lw_m2 13 rfl
theorem q314 : (Jvm.Cond.static ({ cls := "jdk/internal/util/Preconditions", name := "checkIndex", desc := "(IILjava/util/function/BiFunction;)I" } : Jvm.MethodName)) ∈ lw_all := lw_g (lw_at lw_m2 15 rfl) rfl
theorem q315 : (Jvm.Cond.code ({ cls := "jdk/internal/util/Preconditions", name := "checkIndex", desc := "(IILjava/util/function/BiFunction;)I" } : Jvm.MethodName) prog_27_method_11_code (3 : Nat) (Option.some Jvm.ClassFile.FieldType.int)) ∈ lw_all := lw_g (lw_at lw_m2 16 rfl) rfl

/-! java/lang/StringUTF16 -/
set_option maxRecDepth 100000
def RJ6 : String := "java/lang/StringUTF16"
abbrev cJ6_charAt : ByteArray := prog_23_method_83_code
def yJ6_charAt : MethodName := ⟨RJ6, "charAt", "([BI)C"⟩
def dkwJ6_charAt_0 : List UInt8 := [27, 42, 184, 0, 67, 42, 27, 184, 0, 71, 172]
abbrev dktJ6_charAt_0 : List UInt8 := dkwJ6_charAt_0 ++ []
theorem dksJ6_charAt_0 : cJ6_charAt.data.toList.drop 0 = dktJ6_charAt_0 := by decide +kernel
theorem dJ6_charAt_0 : decode cJ6_charAt 0 = .ok (.iload_n 1, 1) := dk_27 (dk_at dksJ6_charAt_0 0 rfl rfl)
theorem dJ6_charAt_1 : decode cJ6_charAt 1 = .ok (.aload_n 0, 1) := dk_42 (dk_at dksJ6_charAt_0 1 rfl rfl)
theorem dJ6_charAt_2 : decode cJ6_charAt 2 = .ok (.invokestatic 67, 3) := dk_184 0 67 (dk_at dksJ6_charAt_0 2 rfl rfl)
theorem dJ6_charAt_5 : decode cJ6_charAt 5 = .ok (.aload_n 0, 1) := dk_42 (dk_at dksJ6_charAt_0 5 rfl rfl)
theorem dJ6_charAt_6 : decode cJ6_charAt 6 = .ok (.iload_n 1, 1) := dk_27 (dk_at dksJ6_charAt_0 6 rfl rfl)
theorem dJ6_charAt_7 : decode cJ6_charAt 7 = .ok (.invokestatic 71, 3) := dk_184 0 71 (dk_at dksJ6_charAt_0 7 rfl rfl)
theorem dJ6_charAt_10 : decode cJ6_charAt 10 = .ok (.ireturn, 1) := dk_172 (dk_at dksJ6_charAt_0 10 rfl rfl)
abbrev cJ6_checkIndex : ByteArray := prog_23_method_91_code
def yJ6_checkIndex : MethodName := ⟨RJ6, "checkIndex", "(I[B)V"⟩
def dkwJ6_checkIndex_0 : List UInt8 := [26, 43, 184, 0, 48, 184, 1, 158, 177]
abbrev dktJ6_checkIndex_0 : List UInt8 := dkwJ6_checkIndex_0 ++ []
theorem dksJ6_checkIndex_0 : cJ6_checkIndex.data.toList.drop 0 = dktJ6_checkIndex_0 := by decide +kernel
theorem dJ6_checkIndex_0 : decode cJ6_checkIndex 0 = .ok (.iload_n 0, 1) := dk_26 (dk_at dksJ6_checkIndex_0 0 rfl rfl)
theorem dJ6_checkIndex_1 : decode cJ6_checkIndex 1 = .ok (.aload_n 1, 1) := dk_43 (dk_at dksJ6_checkIndex_0 1 rfl rfl)
theorem dJ6_checkIndex_2 : decode cJ6_checkIndex 2 = .ok (.invokestatic 48, 3) := dk_184 0 48 (dk_at dksJ6_checkIndex_0 2 rfl rfl)
theorem dJ6_checkIndex_5 : decode cJ6_checkIndex 5 = .ok (.invokestatic 414, 3) := dk_184 1 158 (dk_at dksJ6_checkIndex_0 5 rfl rfl)
theorem dJ6_checkIndex_8 : decode cJ6_checkIndex 8 = .ok (.return_, 1) := dk_177 (dk_at dksJ6_checkIndex_0 8 rfl rfl)
abbrev cJ6_length : ByteArray := prog_23_method_6_code
def yJ6_length : MethodName := ⟨RJ6, "length", "([B)I"⟩
def dkwJ6_length_0 : List UInt8 := [42, 190, 4, 122, 172]
abbrev dktJ6_length_0 : List UInt8 := dkwJ6_length_0 ++ []
theorem dksJ6_length_0 : cJ6_length.data.toList.drop 0 = dktJ6_length_0 := by decide +kernel
theorem dJ6_length_0 : decode cJ6_length 0 = .ok (.aload_n 0, 1) := dk_42 (dk_at dksJ6_length_0 0 rfl rfl)
theorem dJ6_length_1 : decode cJ6_length 1 = .ok (.arraylength, 1) := dk_190 (dk_at dksJ6_length_0 1 rfl rfl)
theorem dJ6_length_2 : decode cJ6_length 2 = .ok (.iconst 1, 1) := dk_4 (dk_at dksJ6_length_0 2 rfl rfl)
theorem dJ6_length_3 : decode cJ6_length 3 = .ok (.ishr, 1) := dk_122 (dk_at dksJ6_length_0 3 rfl rfl)
theorem dJ6_length_4 : decode cJ6_length 4 = .ok (.ireturn, 1) := dk_172 (dk_at dksJ6_length_0 4 rfl rfl)
abbrev cJ6_getChar : ByteArray := prog_23_method_5_code
def yJ6_getChar : MethodName := ⟨RJ6, "getChar", "([BI)C"⟩
def dkwJ6_getChar_2 : List UInt8 := [51, 17, 0, 255, 126, 178, 0, 63, 120, 128, 146, 172]
abbrev dktJ6_getChar_2 : List UInt8 := dkwJ6_getChar_2 ++ []
def dkwJ6_getChar_1 : List UInt8 := [183, 0, 56, 191, 27, 4, 120, 60, 42, 27, 132, 1, 1, 51, 17, 0, 255, 126, 178, 0, 59, 120, 42, 27]
abbrev dktJ6_getChar_1 : List UInt8 := dkwJ6_getChar_1 ++ dktJ6_getChar_2
def dkwJ6_getChar_0 : List UInt8 := [178, 0, 44, 154, 0, 25, 27, 155, 0, 11, 27, 42, 184, 0, 48, 161, 0, 13, 187, 0, 52, 89, 18, 54]
abbrev dktJ6_getChar_0 : List UInt8 := dkwJ6_getChar_0 ++ dktJ6_getChar_1
theorem dksJ6_getChar_0 : cJ6_getChar.data.toList.drop 0 = dktJ6_getChar_0 := by decide +kernel
theorem dksJ6_getChar_1 : cJ6_getChar.data.toList.drop 24 = dktJ6_getChar_1 := dk_seg dksJ6_getChar_0 24 rfl rfl
theorem dksJ6_getChar_2 : cJ6_getChar.data.toList.drop 48 = dktJ6_getChar_2 := dk_seg dksJ6_getChar_1 24 rfl rfl
theorem dJ6_getChar_0 : decode cJ6_getChar 0 = .ok (.getstatic 44, 3) := dk_178 0 44 (dk_at dksJ6_getChar_0 0 rfl rfl)
theorem dJ6_getChar_3 : decode cJ6_getChar 3 = .ok (.ifCond .ne 25, 3) := dk_154 0 25 (dk_at dksJ6_getChar_0 3 rfl rfl)
theorem dJ6_getChar_6 : decode cJ6_getChar 6 = .ok (.iload_n 1, 1) := dk_27 (dk_at dksJ6_getChar_0 6 rfl rfl)
theorem dJ6_getChar_7 : decode cJ6_getChar 7 = .ok (.ifCond .lt 11, 3) := dk_155 0 11 (dk_at dksJ6_getChar_0 7 rfl rfl)
theorem dJ6_getChar_10 : decode cJ6_getChar 10 = .ok (.iload_n 1, 1) := dk_27 (dk_at dksJ6_getChar_0 10 rfl rfl)
theorem dJ6_getChar_11 : decode cJ6_getChar 11 = .ok (.aload_n 0, 1) := dk_42 (dk_at dksJ6_getChar_0 11 rfl rfl)
theorem dJ6_getChar_12 : decode cJ6_getChar 12 = .ok (.invokestatic 48, 3) := dk_184 0 48 (dk_at dksJ6_getChar_0 12 rfl rfl)
theorem dJ6_getChar_15 : decode cJ6_getChar 15 = .ok (.if_icmp .lt 13, 3) := dk_161 0 13 (dk_at dksJ6_getChar_0 15 rfl rfl)
theorem dJ6_getChar_18 : decode cJ6_getChar 18 = .ok (.new 52, 3) := dk_187 0 52 (dk_at dksJ6_getChar_0 18 rfl rfl)
theorem dJ6_getChar_21 : decode cJ6_getChar 21 = .ok (.dup, 1) := dk_89 (dk_at dksJ6_getChar_0 21 rfl rfl)
theorem dJ6_getChar_22 : decode cJ6_getChar 22 = .ok (.ldc 54, 2) := dk_18 54 (dk_at dksJ6_getChar_0 22 rfl rfl)
theorem dJ6_getChar_24 : decode cJ6_getChar 24 = .ok (.invokespecial 56, 3) := dk_183 0 56 (dk_at dksJ6_getChar_1 0 rfl rfl)
theorem dJ6_getChar_27 : decode cJ6_getChar 27 = .ok (.athrow, 1) := dk_191 (dk_at dksJ6_getChar_1 3 rfl rfl)
theorem dJ6_getChar_28 : decode cJ6_getChar 28 = .ok (.iload_n 1, 1) := dk_27 (dk_at dksJ6_getChar_1 4 rfl rfl)
theorem dJ6_getChar_29 : decode cJ6_getChar 29 = .ok (.iconst 1, 1) := dk_4 (dk_at dksJ6_getChar_1 5 rfl rfl)
theorem dJ6_getChar_30 : decode cJ6_getChar 30 = .ok (.ishl, 1) := dk_120 (dk_at dksJ6_getChar_1 6 rfl rfl)
theorem dJ6_getChar_31 : decode cJ6_getChar 31 = .ok (.istore_n 1, 1) := dk_60 (dk_at dksJ6_getChar_1 7 rfl rfl)
theorem dJ6_getChar_32 : decode cJ6_getChar 32 = .ok (.aload_n 0, 1) := dk_42 (dk_at dksJ6_getChar_1 8 rfl rfl)
theorem dJ6_getChar_33 : decode cJ6_getChar 33 = .ok (.iload_n 1, 1) := dk_27 (dk_at dksJ6_getChar_1 9 rfl rfl)
theorem dJ6_getChar_34 : decode cJ6_getChar 34 = .ok (.iinc 1 1, 3) := dk_132 1 1 (dk_at dksJ6_getChar_1 10 rfl rfl)
theorem dJ6_getChar_37 : decode cJ6_getChar 37 = .ok (.baload, 1) := dk_51 (dk_at dksJ6_getChar_1 13 rfl rfl)
theorem dJ6_getChar_38 : decode cJ6_getChar 38 = .ok (.sipush 255, 3) := dk_17 0 255 (dk_at dksJ6_getChar_1 14 rfl rfl)
theorem dJ6_getChar_41 : decode cJ6_getChar 41 = .ok (.iand, 1) := dk_126 (dk_at dksJ6_getChar_1 17 rfl rfl)
theorem dJ6_getChar_42 : decode cJ6_getChar 42 = .ok (.getstatic 59, 3) := dk_178 0 59 (dk_at dksJ6_getChar_1 18 rfl rfl)
theorem dJ6_getChar_45 : decode cJ6_getChar 45 = .ok (.ishl, 1) := dk_120 (dk_at dksJ6_getChar_1 21 rfl rfl)
theorem dJ6_getChar_46 : decode cJ6_getChar 46 = .ok (.aload_n 0, 1) := dk_42 (dk_at dksJ6_getChar_1 22 rfl rfl)
theorem dJ6_getChar_47 : decode cJ6_getChar 47 = .ok (.iload_n 1, 1) := dk_27 (dk_at dksJ6_getChar_1 23 rfl rfl)
theorem dJ6_getChar_48 : decode cJ6_getChar 48 = .ok (.baload, 1) := dk_51 (dk_at dksJ6_getChar_2 0 rfl rfl)
theorem dJ6_getChar_49 : decode cJ6_getChar 49 = .ok (.sipush 255, 3) := dk_17 0 255 (dk_at dksJ6_getChar_2 1 rfl rfl)
theorem dJ6_getChar_52 : decode cJ6_getChar 52 = .ok (.iand, 1) := dk_126 (dk_at dksJ6_getChar_2 4 rfl rfl)
theorem dJ6_getChar_53 : decode cJ6_getChar 53 = .ok (.getstatic 63, 3) := dk_178 0 63 (dk_at dksJ6_getChar_2 5 rfl rfl)
theorem dJ6_getChar_56 : decode cJ6_getChar 56 = .ok (.ishl, 1) := dk_120 (dk_at dksJ6_getChar_2 8 rfl rfl)
theorem dJ6_getChar_57 : decode cJ6_getChar 57 = .ok (.ior, 1) := dk_128 (dk_at dksJ6_getChar_2 9 rfl rfl)
theorem dJ6_getChar_58 : decode cJ6_getChar 58 = .ok (.i2c, 1) := dk_146 (dk_at dksJ6_getChar_2 10 rfl rfl)
theorem dJ6_getChar_59 : decode cJ6_getChar 59 = .ok (.ireturn, 1) := dk_172 (dk_at dksJ6_getChar_2 11 rfl rfl)
theorem q75 : (Jvm.Cond.initialized "java/lang/StringUTF16") ∈ lw_all := lw_g (lw_at lw_m1 16 rfl) rfl
theorem q317 : (Jvm.Cond.static ({ cls := "java/lang/StringUTF16", name := "charAt", desc := "([BI)C" } : Jvm.MethodName)) ∈ lw_all := lw_g (lw_at lw_m2 18 rfl) rfl
theorem q318 : (Jvm.Cond.code ({ cls := "java/lang/StringUTF16", name := "charAt", desc := "([BI)C" } : Jvm.MethodName) prog_23_method_83_code (2 : Nat) (Option.some Jvm.ClassFile.FieldType.char)) ∈ lw_all := lw_g (lw_at lw_m2 19 rfl) rfl
theorem q319 : (Jvm.Cond.methodLink "java/lang/StringUTF16" (67 : Nat) ({ cls := "java/lang/StringUTF16", name := "checkIndex", desc := "(I[B)V" } : Jvm.MethodName)) ∈ lw_all := lw_g (lw_at lw_m2 20 rfl) rfl
theorem q320 : (Jvm.Cond.static ({ cls := "java/lang/StringUTF16", name := "checkIndex", desc := "(I[B)V" } : Jvm.MethodName)) ∈ lw_all := lw_g (lw_at lw_m2 21 rfl) rfl
theorem q321 : (Jvm.Cond.code ({ cls := "java/lang/StringUTF16", name := "checkIndex", desc := "(I[B)V" } : Jvm.MethodName) prog_23_method_91_code (2 : Nat) (Option.none : Option Jvm.ClassFile.FieldType)) ∈ lw_all := lw_g (lw_at lw_m2 22 rfl) rfl
theorem q322 : (Jvm.Cond.methodLink "java/lang/StringUTF16" (48 : Nat) ({ cls := "java/lang/StringUTF16", name := "length", desc := "([B)I" } : Jvm.MethodName)) ∈ lw_all := lw_g (lw_at lw_m2 23 rfl) rfl
theorem q323 : (Jvm.Cond.static ({ cls := "java/lang/StringUTF16", name := "length", desc := "([B)I" } : Jvm.MethodName)) ∈ lw_all := lw_g (lw_at lw_m2 24 rfl) rfl
theorem q324 : (Jvm.Cond.code ({ cls := "java/lang/StringUTF16", name := "length", desc := "([B)I" } : Jvm.MethodName) prog_23_method_6_code (1 : Nat) (Option.some Jvm.ClassFile.FieldType.int)) ∈ lw_all := lw_g (lw_at lw_m2 25 rfl) rfl
theorem q325 : (Jvm.Cond.methodLink "java/lang/StringUTF16" (414 : Nat) ({ cls := "java/lang/String", name := "checkIndex", desc := "(II)V" } : Jvm.MethodName)) ∈ lw_all := lw_g (lw_at lw_m2 26 rfl) rfl
theorem q326 : (Jvm.Cond.methodLink "java/lang/StringUTF16" (71 : Nat) ({ cls := "java/lang/StringUTF16", name := "getChar", desc := "([BI)C" } : Jvm.MethodName)) ∈ lw_all := lw_g (lw_at lw_m2 27 rfl) rfl
theorem q327 : (Jvm.Cond.static ({ cls := "java/lang/StringUTF16", name := "getChar", desc := "([BI)C" } : Jvm.MethodName)) ∈ lw_all := lw_g (lw_at lw_m2 28 rfl) rfl
theorem q328 : (Jvm.Cond.code ({ cls := "java/lang/StringUTF16", name := "getChar", desc := "([BI)C" } : Jvm.MethodName) prog_23_method_5_code (2 : Nat) (Option.some Jvm.ClassFile.FieldType.char)) ∈ lw_all := lw_g (lw_at lw_m2 29 rfl) rfl
theorem q329 : (Jvm.Cond.fieldLink "java/lang/StringUTF16" (44 : Nat) "java/lang/StringUTF16" "$assertionsDisabled" "Z") ∈ lw_all := lw_g (lw_at lw_m2 30 rfl) rfl
theorem q330 : (Jvm.Cond.laysStatic "java/lang/StringUTF16" "$assertionsDisabled" "Z") ∈ lw_tbl := lw_at lw_m2 31 rfl
theorem q331 : (Jvm.Cond.fieldLink "java/lang/StringUTF16" (59 : Nat) "java/lang/StringUTF16" "HI_BYTE_SHIFT" "I") ∈ lw_all := lw_g (lw_at lw_m2 32 rfl) rfl
theorem q332 : (Jvm.Cond.laysStatic "java/lang/StringUTF16" "HI_BYTE_SHIFT" "I") ∈ lw_tbl := lw_at lw_m2 33 rfl
theorem q333 : (Jvm.Cond.fieldLink "java/lang/StringUTF16" (63 : Nat) "java/lang/StringUTF16" "LO_BYTE_SHIFT" "I") ∈ lw_all := lw_g (lw_at lw_m2 34 rfl) rfl
theorem q334 : (Jvm.Cond.laysStatic "java/lang/StringUTF16" "LO_BYTE_SHIFT" "I") ∈ lw_tbl := lw_at lw_m2 35 rfl

/-! java/util/Arrays -/
set_option maxRecDepth 100000
def RJ7 : String := "java/util/Arrays"
abbrev cJ7_fill : ByteArray := prog_26_method_103_code
def yJ7_fill : MethodName := ⟨RJ7, "fill", "([II)V"⟩
def dkwJ7_fill_0 : List UInt8 := [3, 61, 42, 190, 62, 28, 29, 162, 0, 13, 42, 28, 27, 79, 132, 2, 1, 167, 255, 244, 177]
abbrev dktJ7_fill_0 : List UInt8 := dkwJ7_fill_0 ++ []
theorem dksJ7_fill_0 : cJ7_fill.data.toList.drop 0 = dktJ7_fill_0 := by decide +kernel
theorem dJ7_fill_0 : decode cJ7_fill 0 = .ok (.iconst 0, 1) := dk_3 (dk_at dksJ7_fill_0 0 rfl rfl)
theorem dJ7_fill_1 : decode cJ7_fill 1 = .ok (.istore_n 2, 1) := dk_61 (dk_at dksJ7_fill_0 1 rfl rfl)
theorem dJ7_fill_2 : decode cJ7_fill 2 = .ok (.aload_n 0, 1) := dk_42 (dk_at dksJ7_fill_0 2 rfl rfl)
theorem dJ7_fill_3 : decode cJ7_fill 3 = .ok (.arraylength, 1) := dk_190 (dk_at dksJ7_fill_0 3 rfl rfl)
theorem dJ7_fill_4 : decode cJ7_fill 4 = .ok (.istore_n 3, 1) := dk_62 (dk_at dksJ7_fill_0 4 rfl rfl)
theorem dJ7_fill_5 : decode cJ7_fill 5 = .ok (.iload_n 2, 1) := dk_28 (dk_at dksJ7_fill_0 5 rfl rfl)
theorem dJ7_fill_6 : decode cJ7_fill 6 = .ok (.iload_n 3, 1) := dk_29 (dk_at dksJ7_fill_0 6 rfl rfl)
theorem dJ7_fill_7 : decode cJ7_fill 7 = .ok (.if_icmp .ge 13, 3) := dk_162 0 13 (dk_at dksJ7_fill_0 7 rfl rfl)
theorem dJ7_fill_10 : decode cJ7_fill 10 = .ok (.aload_n 0, 1) := dk_42 (dk_at dksJ7_fill_0 10 rfl rfl)
theorem dJ7_fill_11 : decode cJ7_fill 11 = .ok (.iload_n 2, 1) := dk_28 (dk_at dksJ7_fill_0 11 rfl rfl)
theorem dJ7_fill_12 : decode cJ7_fill 12 = .ok (.iload_n 1, 1) := dk_27 (dk_at dksJ7_fill_0 12 rfl rfl)
theorem dJ7_fill_13 : decode cJ7_fill 13 = .ok (.iastore, 1) := dk_79 (dk_at dksJ7_fill_0 13 rfl rfl)
theorem dJ7_fill_14 : decode cJ7_fill 14 = .ok (.iinc 2 1, 3) := dk_132 2 1 (dk_at dksJ7_fill_0 14 rfl rfl)
theorem dJ7_fill_17 : decode cJ7_fill 17 = .ok (.goto (-12), 3) := dk_167 255 244 (dk_at dksJ7_fill_0 17 rfl rfl)
theorem dJ7_fill_20 : decode cJ7_fill 20 = .ok (.return_, 1) := dk_177 (dk_at dksJ7_fill_0 20 rfl rfl)
theorem q78 : (Jvm.Cond.initialized "java/util/Arrays") ∈ lw_all := lw_g (lw_at lw_m1 19 rfl) rfl
theorem q455 : (Jvm.Cond.static ({ cls := "java/util/Arrays", name := "fill", desc := "([II)V" } : Jvm.MethodName)) ∈ lw_all := lw_g (lw_at lw_m2 156 rfl) rfl
theorem q456 : (Jvm.Cond.code ({ cls := "java/util/Arrays", name := "fill", desc := "([II)V" } : Jvm.MethodName) prog_26_method_103_code (4 : Nat) (Option.none : Option Jvm.ClassFile.FieldType)) ∈ lw_all := lw_g (lw_at lw_m2 157 rfl) rfl

/-! java/lang/Math -/
set_option maxRecDepth 100000
def RJ8 : String := "java/lang/Math"
abbrev cJ8_abs : ByteArray := prog_17_method_61_code
def yJ8_abs : MethodName := ⟨RJ8, "abs", "(J)J"⟩
def dkwJ8_abs_0 : List UInt8 := [30, 9, 148, 156, 0, 8, 30, 117, 167, 0, 4, 30, 173]
abbrev dktJ8_abs_0 : List UInt8 := dkwJ8_abs_0 ++ []
theorem dksJ8_abs_0 : cJ8_abs.data.toList.drop 0 = dktJ8_abs_0 := by decide +kernel
theorem dJ8_abs_0 : decode cJ8_abs 0 = .ok (.lload_n 0, 1) := dk_30 (dk_at dksJ8_abs_0 0 rfl rfl)
theorem dJ8_abs_1 : decode cJ8_abs 1 = .ok (.lconst 0, 1) := dk_9 (dk_at dksJ8_abs_0 1 rfl rfl)
theorem dJ8_abs_2 : decode cJ8_abs 2 = .ok (.lcmp, 1) := dk_148 (dk_at dksJ8_abs_0 2 rfl rfl)
theorem dJ8_abs_3 : decode cJ8_abs 3 = .ok (.ifCond .ge 8, 3) := dk_156 0 8 (dk_at dksJ8_abs_0 3 rfl rfl)
theorem dJ8_abs_6 : decode cJ8_abs 6 = .ok (.lload_n 0, 1) := dk_30 (dk_at dksJ8_abs_0 6 rfl rfl)
theorem dJ8_abs_7 : decode cJ8_abs 7 = .ok (.lneg, 1) := dk_117 (dk_at dksJ8_abs_0 7 rfl rfl)
theorem dJ8_abs_8 : decode cJ8_abs 8 = .ok (.goto 4, 3) := dk_167 0 4 (dk_at dksJ8_abs_0 8 rfl rfl)
theorem dJ8_abs_11 : decode cJ8_abs 11 = .ok (.lload_n 0, 1) := dk_30 (dk_at dksJ8_abs_0 11 rfl rfl)
theorem dJ8_abs_12 : decode cJ8_abs 12 = .ok (.lreturn, 1) := dk_173 (dk_at dksJ8_abs_0 12 rfl rfl)
abbrev cJ8_abs_2 : ByteArray := prog_17_method_59_code
def yJ8_abs_2 : MethodName := ⟨RJ8, "abs", "(I)I"⟩
def dkwJ8_abs_2_0 : List UInt8 := [26, 156, 0, 8, 26, 116, 167, 0, 4, 26, 172]
abbrev dktJ8_abs_2_0 : List UInt8 := dkwJ8_abs_2_0 ++ []
theorem dksJ8_abs_2_0 : cJ8_abs_2.data.toList.drop 0 = dktJ8_abs_2_0 := by decide +kernel
theorem dJ8_abs_2_0 : decode cJ8_abs_2 0 = .ok (.iload_n 0, 1) := dk_26 (dk_at dksJ8_abs_2_0 0 rfl rfl)
theorem dJ8_abs_2_1 : decode cJ8_abs_2 1 = .ok (.ifCond .ge 8, 3) := dk_156 0 8 (dk_at dksJ8_abs_2_0 1 rfl rfl)
theorem dJ8_abs_2_4 : decode cJ8_abs_2 4 = .ok (.iload_n 0, 1) := dk_26 (dk_at dksJ8_abs_2_0 4 rfl rfl)
theorem dJ8_abs_2_5 : decode cJ8_abs_2 5 = .ok (.ineg, 1) := dk_116 (dk_at dksJ8_abs_2_0 5 rfl rfl)
theorem dJ8_abs_2_6 : decode cJ8_abs_2 6 = .ok (.goto 4, 3) := dk_167 0 4 (dk_at dksJ8_abs_2_0 6 rfl rfl)
theorem dJ8_abs_2_9 : decode cJ8_abs_2 9 = .ok (.iload_n 0, 1) := dk_26 (dk_at dksJ8_abs_2_0 9 rfl rfl)
theorem dJ8_abs_2_10 : decode cJ8_abs_2 10 = .ok (.ireturn, 1) := dk_172 (dk_at dksJ8_abs_2_0 10 rfl rfl)
abbrev cJ8_max : ByteArray := prog_17_method_65_code
def yJ8_max : MethodName := ⟨RJ8, "max", "(II)I"⟩
def dkwJ8_max_0 : List UInt8 := [26, 27, 161, 0, 7, 26, 167, 0, 4, 27, 172]
abbrev dktJ8_max_0 : List UInt8 := dkwJ8_max_0 ++ []
theorem dksJ8_max_0 : cJ8_max.data.toList.drop 0 = dktJ8_max_0 := by decide +kernel
theorem dJ8_max_0 : decode cJ8_max 0 = .ok (.iload_n 0, 1) := dk_26 (dk_at dksJ8_max_0 0 rfl rfl)
theorem dJ8_max_1 : decode cJ8_max 1 = .ok (.iload_n 1, 1) := dk_27 (dk_at dksJ8_max_0 1 rfl rfl)
theorem dJ8_max_2 : decode cJ8_max 2 = .ok (.if_icmp .lt 7, 3) := dk_161 0 7 (dk_at dksJ8_max_0 2 rfl rfl)
theorem dJ8_max_5 : decode cJ8_max 5 = .ok (.iload_n 0, 1) := dk_26 (dk_at dksJ8_max_0 5 rfl rfl)
theorem dJ8_max_6 : decode cJ8_max 6 = .ok (.goto 4, 3) := dk_167 0 4 (dk_at dksJ8_max_0 6 rfl rfl)
theorem dJ8_max_9 : decode cJ8_max 9 = .ok (.iload_n 1, 1) := dk_27 (dk_at dksJ8_max_0 9 rfl rfl)
theorem dJ8_max_10 : decode cJ8_max 10 = .ok (.ireturn, 1) := dk_172 (dk_at dksJ8_max_0 10 rfl rfl)
abbrev cJ8_min : ByteArray := prog_17_method_69_code
def yJ8_min : MethodName := ⟨RJ8, "min", "(II)I"⟩
def dkwJ8_min_0 : List UInt8 := [26, 27, 163, 0, 7, 26, 167, 0, 4, 27, 172]
abbrev dktJ8_min_0 : List UInt8 := dkwJ8_min_0 ++ []
theorem dksJ8_min_0 : cJ8_min.data.toList.drop 0 = dktJ8_min_0 := by decide +kernel
theorem dJ8_min_0 : decode cJ8_min 0 = .ok (.iload_n 0, 1) := dk_26 (dk_at dksJ8_min_0 0 rfl rfl)
theorem dJ8_min_1 : decode cJ8_min 1 = .ok (.iload_n 1, 1) := dk_27 (dk_at dksJ8_min_0 1 rfl rfl)
theorem dJ8_min_2 : decode cJ8_min 2 = .ok (.if_icmp .gt 7, 3) := dk_163 0 7 (dk_at dksJ8_min_0 2 rfl rfl)
theorem dJ8_min_5 : decode cJ8_min 5 = .ok (.iload_n 0, 1) := dk_26 (dk_at dksJ8_min_0 5 rfl rfl)
theorem dJ8_min_6 : decode cJ8_min 6 = .ok (.goto 4, 3) := dk_167 0 4 (dk_at dksJ8_min_0 6 rfl rfl)
theorem dJ8_min_9 : decode cJ8_min 9 = .ok (.iload_n 1, 1) := dk_27 (dk_at dksJ8_min_0 9 rfl rfl)
theorem dJ8_min_10 : decode cJ8_min 10 = .ok (.ireturn, 1) := dk_172 (dk_at dksJ8_min_0 10 rfl rfl)
theorem q79 : (Jvm.Cond.initialized "java/lang/Math") ∈ lw_all := lw_g (lw_at lw_m1 20 rfl) rfl
theorem q494 : (Jvm.Cond.static ({ cls := "java/lang/Math", name := "abs", desc := "(J)J" } : Jvm.MethodName)) ∈ lw_all := lw_g (lw_at lw_m2 195 rfl) rfl
theorem q495 : (Jvm.Cond.code ({ cls := "java/lang/Math", name := "abs", desc := "(J)J" } : Jvm.MethodName) prog_17_method_61_code (2 : Nat) (Option.some Jvm.ClassFile.FieldType.long)) ∈ lw_all := lw_g (lw_at lw_m2 196 rfl) rfl
theorem q567 : (Jvm.Cond.static ({ cls := "java/lang/Math", name := "abs", desc := "(I)I" } : Jvm.MethodName)) ∈ lw_all := lw_g (lw_at lw_m3 28 rfl) rfl
theorem q568 : (Jvm.Cond.code ({ cls := "java/lang/Math", name := "abs", desc := "(I)I" } : Jvm.MethodName) prog_17_method_59_code (1 : Nat) (Option.some Jvm.ClassFile.FieldType.int)) ∈ lw_all := lw_g (lw_at lw_m3 29 rfl) rfl
theorem q570 : (Jvm.Cond.static ({ cls := "java/lang/Math", name := "max", desc := "(II)I" } : Jvm.MethodName)) ∈ lw_all := lw_g (lw_at lw_m3 31 rfl) rfl
theorem q571 : (Jvm.Cond.code ({ cls := "java/lang/Math", name := "max", desc := "(II)I" } : Jvm.MethodName) prog_17_method_65_code (2 : Nat) (Option.some Jvm.ClassFile.FieldType.int)) ∈ lw_all := lw_g (lw_at lw_m3 32 rfl) rfl
theorem q627 : (Jvm.Cond.static ({ cls := "java/lang/Math", name := "min", desc := "(II)I" } : Jvm.MethodName)) ∈ lw_all := lw_g (lw_at lw_m3 88 rfl) rfl
theorem q628 : (Jvm.Cond.code ({ cls := "java/lang/Math", name := "min", desc := "(II)I" } : Jvm.MethodName) prog_17_method_69_code (2 : Nat) (Option.some Jvm.ClassFile.FieldType.int)) ∈ lw_all := lw_g (lw_at lw_m3 89 rfl) rfl

/-! java/lang/Integer -/
set_option maxRecDepth 100000
def RJ9 : String := "java/lang/Integer"
abbrev cJ9_bitCount : ByteArray := prog_16_method_49_code
def yJ9_bitCount : MethodName := ⟨RJ9, "bitCount", "(I)I"⟩
def dkwJ9_bitCount_2 : List UInt8 := [26, 16, 63, 126, 172]
abbrev dktJ9_bitCount_2 : List UInt8 := dkwJ9_bitCount_2 ++ []
def dkwJ9_bitCount_1 : List UInt8 := [26, 26, 7, 124, 96, 19, 1, 11, 126, 59, 26, 26, 16, 8, 124, 96, 59, 26, 26, 16, 16, 124, 96, 59]
abbrev dktJ9_bitCount_1 : List UInt8 := dkwJ9_bitCount_1 ++ dktJ9_bitCount_2
def dkwJ9_bitCount_0 : List UInt8 := [26, 26, 4, 124, 19, 1, 9, 126, 100, 59, 26, 19, 1, 10, 126, 26, 5, 124, 19, 1, 10, 126, 96, 59]
abbrev dktJ9_bitCount_0 : List UInt8 := dkwJ9_bitCount_0 ++ dktJ9_bitCount_1
theorem dksJ9_bitCount_0 : cJ9_bitCount.data.toList.drop 0 = dktJ9_bitCount_0 := by decide +kernel
theorem dksJ9_bitCount_1 : cJ9_bitCount.data.toList.drop 24 = dktJ9_bitCount_1 := dk_seg dksJ9_bitCount_0 24 rfl rfl
theorem dksJ9_bitCount_2 : cJ9_bitCount.data.toList.drop 48 = dktJ9_bitCount_2 := dk_seg dksJ9_bitCount_1 24 rfl rfl
theorem dJ9_bitCount_0 : decode cJ9_bitCount 0 = .ok (.iload_n 0, 1) := dk_26 (dk_at dksJ9_bitCount_0 0 rfl rfl)
theorem dJ9_bitCount_1 : decode cJ9_bitCount 1 = .ok (.iload_n 0, 1) := dk_26 (dk_at dksJ9_bitCount_0 1 rfl rfl)
theorem dJ9_bitCount_2 : decode cJ9_bitCount 2 = .ok (.iconst 1, 1) := dk_4 (dk_at dksJ9_bitCount_0 2 rfl rfl)
theorem dJ9_bitCount_3 : decode cJ9_bitCount 3 = .ok (.iushr, 1) := dk_124 (dk_at dksJ9_bitCount_0 3 rfl rfl)
theorem dJ9_bitCount_4 : decode cJ9_bitCount 4 = .ok (.ldc_w 265, 3) := dk_19 1 9 (dk_at dksJ9_bitCount_0 4 rfl rfl)
theorem dJ9_bitCount_7 : decode cJ9_bitCount 7 = .ok (.iand, 1) := dk_126 (dk_at dksJ9_bitCount_0 7 rfl rfl)
theorem dJ9_bitCount_8 : decode cJ9_bitCount 8 = .ok (.isub, 1) := dk_100 (dk_at dksJ9_bitCount_0 8 rfl rfl)
theorem dJ9_bitCount_9 : decode cJ9_bitCount 9 = .ok (.istore_n 0, 1) := dk_59 (dk_at dksJ9_bitCount_0 9 rfl rfl)
theorem dJ9_bitCount_10 : decode cJ9_bitCount 10 = .ok (.iload_n 0, 1) := dk_26 (dk_at dksJ9_bitCount_0 10 rfl rfl)
theorem dJ9_bitCount_11 : decode cJ9_bitCount 11 = .ok (.ldc_w 266, 3) := dk_19 1 10 (dk_at dksJ9_bitCount_0 11 rfl rfl)
theorem dJ9_bitCount_14 : decode cJ9_bitCount 14 = .ok (.iand, 1) := dk_126 (dk_at dksJ9_bitCount_0 14 rfl rfl)
theorem dJ9_bitCount_15 : decode cJ9_bitCount 15 = .ok (.iload_n 0, 1) := dk_26 (dk_at dksJ9_bitCount_0 15 rfl rfl)
theorem dJ9_bitCount_16 : decode cJ9_bitCount 16 = .ok (.iconst 2, 1) := dk_5 (dk_at dksJ9_bitCount_0 16 rfl rfl)
theorem dJ9_bitCount_17 : decode cJ9_bitCount 17 = .ok (.iushr, 1) := dk_124 (dk_at dksJ9_bitCount_0 17 rfl rfl)
theorem dJ9_bitCount_18 : decode cJ9_bitCount 18 = .ok (.ldc_w 266, 3) := dk_19 1 10 (dk_at dksJ9_bitCount_0 18 rfl rfl)
theorem dJ9_bitCount_21 : decode cJ9_bitCount 21 = .ok (.iand, 1) := dk_126 (dk_at dksJ9_bitCount_0 21 rfl rfl)
theorem dJ9_bitCount_22 : decode cJ9_bitCount 22 = .ok (.iadd, 1) := dk_96 (dk_at dksJ9_bitCount_0 22 rfl rfl)
theorem dJ9_bitCount_23 : decode cJ9_bitCount 23 = .ok (.istore_n 0, 1) := dk_59 (dk_at dksJ9_bitCount_0 23 rfl rfl)
theorem dJ9_bitCount_24 : decode cJ9_bitCount 24 = .ok (.iload_n 0, 1) := dk_26 (dk_at dksJ9_bitCount_1 0 rfl rfl)
theorem dJ9_bitCount_25 : decode cJ9_bitCount 25 = .ok (.iload_n 0, 1) := dk_26 (dk_at dksJ9_bitCount_1 1 rfl rfl)
theorem dJ9_bitCount_26 : decode cJ9_bitCount 26 = .ok (.iconst 4, 1) := dk_7 (dk_at dksJ9_bitCount_1 2 rfl rfl)
theorem dJ9_bitCount_27 : decode cJ9_bitCount 27 = .ok (.iushr, 1) := dk_124 (dk_at dksJ9_bitCount_1 3 rfl rfl)
theorem dJ9_bitCount_28 : decode cJ9_bitCount 28 = .ok (.iadd, 1) := dk_96 (dk_at dksJ9_bitCount_1 4 rfl rfl)
theorem dJ9_bitCount_29 : decode cJ9_bitCount 29 = .ok (.ldc_w 267, 3) := dk_19 1 11 (dk_at dksJ9_bitCount_1 5 rfl rfl)
theorem dJ9_bitCount_32 : decode cJ9_bitCount 32 = .ok (.iand, 1) := dk_126 (dk_at dksJ9_bitCount_1 8 rfl rfl)
theorem dJ9_bitCount_33 : decode cJ9_bitCount 33 = .ok (.istore_n 0, 1) := dk_59 (dk_at dksJ9_bitCount_1 9 rfl rfl)
theorem dJ9_bitCount_34 : decode cJ9_bitCount 34 = .ok (.iload_n 0, 1) := dk_26 (dk_at dksJ9_bitCount_1 10 rfl rfl)
theorem dJ9_bitCount_35 : decode cJ9_bitCount 35 = .ok (.iload_n 0, 1) := dk_26 (dk_at dksJ9_bitCount_1 11 rfl rfl)
theorem dJ9_bitCount_36 : decode cJ9_bitCount 36 = .ok (.bipush 8, 2) := dk_16 8 (dk_at dksJ9_bitCount_1 12 rfl rfl)
theorem dJ9_bitCount_38 : decode cJ9_bitCount 38 = .ok (.iushr, 1) := dk_124 (dk_at dksJ9_bitCount_1 14 rfl rfl)
theorem dJ9_bitCount_39 : decode cJ9_bitCount 39 = .ok (.iadd, 1) := dk_96 (dk_at dksJ9_bitCount_1 15 rfl rfl)
theorem dJ9_bitCount_40 : decode cJ9_bitCount 40 = .ok (.istore_n 0, 1) := dk_59 (dk_at dksJ9_bitCount_1 16 rfl rfl)
theorem dJ9_bitCount_41 : decode cJ9_bitCount 41 = .ok (.iload_n 0, 1) := dk_26 (dk_at dksJ9_bitCount_1 17 rfl rfl)
theorem dJ9_bitCount_42 : decode cJ9_bitCount 42 = .ok (.iload_n 0, 1) := dk_26 (dk_at dksJ9_bitCount_1 18 rfl rfl)
theorem dJ9_bitCount_43 : decode cJ9_bitCount 43 = .ok (.bipush 16, 2) := dk_16 16 (dk_at dksJ9_bitCount_1 19 rfl rfl)
theorem dJ9_bitCount_45 : decode cJ9_bitCount 45 = .ok (.iushr, 1) := dk_124 (dk_at dksJ9_bitCount_1 21 rfl rfl)
theorem dJ9_bitCount_46 : decode cJ9_bitCount 46 = .ok (.iadd, 1) := dk_96 (dk_at dksJ9_bitCount_1 22 rfl rfl)
theorem dJ9_bitCount_47 : decode cJ9_bitCount 47 = .ok (.istore_n 0, 1) := dk_59 (dk_at dksJ9_bitCount_1 23 rfl rfl)
theorem dJ9_bitCount_48 : decode cJ9_bitCount 48 = .ok (.iload_n 0, 1) := dk_26 (dk_at dksJ9_bitCount_2 0 rfl rfl)
theorem dJ9_bitCount_49 : decode cJ9_bitCount 49 = .ok (.bipush 63, 2) := dk_16 63 (dk_at dksJ9_bitCount_2 1 rfl rfl)
theorem dJ9_bitCount_51 : decode cJ9_bitCount 51 = .ok (.iand, 1) := dk_126 (dk_at dksJ9_bitCount_2 3 rfl rfl)
theorem dJ9_bitCount_52 : decode cJ9_bitCount 52 = .ok (.ireturn, 1) := dk_172 (dk_at dksJ9_bitCount_2 4 rfl rfl)
abbrev cJ9_numberOfTrailingZeros : ByteArray := prog_16_method_48_code
def yJ9_numberOfTrailingZeros : MethodName := ⟨RJ9, "numberOfTrailingZeros", "(I)I"⟩
def dkwJ9_numberOfTrailingZeros_3 : List UInt8 := [5, 124, 59, 27, 26, 4, 124, 96, 172]
abbrev dktJ9_numberOfTrailingZeros_3 : List UInt8 := dkwJ9_numberOfTrailingZeros_3 ++ []
def dkwJ9_numberOfTrailingZeros_2 : List UInt8 := [124, 59, 26, 16, 16, 164, 0, 10, 132, 1, 4, 26, 7, 124, 59, 26, 7, 164, 0, 10, 132, 1, 2, 26]
abbrev dktJ9_numberOfTrailingZeros_2 : List UInt8 := dkwJ9_numberOfTrailingZeros_2 ++ dktJ9_numberOfTrailingZeros_3
def dkwJ9_numberOfTrailingZeros_1 : List UInt8 := [164, 0, 11, 132, 1, 16, 26, 16, 16, 124, 59, 26, 17, 1, 0, 164, 0, 11, 132, 1, 8, 26, 16, 8]
abbrev dktJ9_numberOfTrailingZeros_1 : List UInt8 := dkwJ9_numberOfTrailingZeros_1 ++ dktJ9_numberOfTrailingZeros_2
def dkwJ9_numberOfTrailingZeros_0 : List UInt8 := [26, 2, 130, 26, 4, 100, 126, 59, 26, 157, 0, 8, 26, 16, 32, 126, 172, 4, 60, 26, 19, 1, 8]
abbrev dktJ9_numberOfTrailingZeros_0 : List UInt8 := dkwJ9_numberOfTrailingZeros_0 ++ dktJ9_numberOfTrailingZeros_1
theorem dksJ9_numberOfTrailingZeros_0 : cJ9_numberOfTrailingZeros.data.toList.drop 0 = dktJ9_numberOfTrailingZeros_0 := by decide +kernel
theorem dksJ9_numberOfTrailingZeros_1 : cJ9_numberOfTrailingZeros.data.toList.drop 23 = dktJ9_numberOfTrailingZeros_1 := dk_seg dksJ9_numberOfTrailingZeros_0 23 rfl rfl
theorem dksJ9_numberOfTrailingZeros_2 : cJ9_numberOfTrailingZeros.data.toList.drop 47 = dktJ9_numberOfTrailingZeros_2 := dk_seg dksJ9_numberOfTrailingZeros_1 24 rfl rfl
theorem dksJ9_numberOfTrailingZeros_3 : cJ9_numberOfTrailingZeros.data.toList.drop 71 = dktJ9_numberOfTrailingZeros_3 := dk_seg dksJ9_numberOfTrailingZeros_2 24 rfl rfl
theorem dJ9_numberOfTrailingZeros_0 : decode cJ9_numberOfTrailingZeros 0 = .ok (.iload_n 0, 1) := dk_26 (dk_at dksJ9_numberOfTrailingZeros_0 0 rfl rfl)
theorem dJ9_numberOfTrailingZeros_1 : decode cJ9_numberOfTrailingZeros 1 = .ok (.iconst (-1), 1) := dk_2 (dk_at dksJ9_numberOfTrailingZeros_0 1 rfl rfl)
theorem dJ9_numberOfTrailingZeros_2 : decode cJ9_numberOfTrailingZeros 2 = .ok (.ixor, 1) := dk_130 (dk_at dksJ9_numberOfTrailingZeros_0 2 rfl rfl)
theorem dJ9_numberOfTrailingZeros_3 : decode cJ9_numberOfTrailingZeros 3 = .ok (.iload_n 0, 1) := dk_26 (dk_at dksJ9_numberOfTrailingZeros_0 3 rfl rfl)
theorem dJ9_numberOfTrailingZeros_4 : decode cJ9_numberOfTrailingZeros 4 = .ok (.iconst 1, 1) := dk_4 (dk_at dksJ9_numberOfTrailingZeros_0 4 rfl rfl)
theorem dJ9_numberOfTrailingZeros_5 : decode cJ9_numberOfTrailingZeros 5 = .ok (.isub, 1) := dk_100 (dk_at dksJ9_numberOfTrailingZeros_0 5 rfl rfl)
theorem dJ9_numberOfTrailingZeros_6 : decode cJ9_numberOfTrailingZeros 6 = .ok (.iand, 1) := dk_126 (dk_at dksJ9_numberOfTrailingZeros_0 6 rfl rfl)
theorem dJ9_numberOfTrailingZeros_7 : decode cJ9_numberOfTrailingZeros 7 = .ok (.istore_n 0, 1) := dk_59 (dk_at dksJ9_numberOfTrailingZeros_0 7 rfl rfl)
theorem dJ9_numberOfTrailingZeros_8 : decode cJ9_numberOfTrailingZeros 8 = .ok (.iload_n 0, 1) := dk_26 (dk_at dksJ9_numberOfTrailingZeros_0 8 rfl rfl)
theorem dJ9_numberOfTrailingZeros_9 : decode cJ9_numberOfTrailingZeros 9 = .ok (.ifCond .gt 8, 3) := dk_157 0 8 (dk_at dksJ9_numberOfTrailingZeros_0 9 rfl rfl)
theorem dJ9_numberOfTrailingZeros_12 : decode cJ9_numberOfTrailingZeros 12 = .ok (.iload_n 0, 1) := dk_26 (dk_at dksJ9_numberOfTrailingZeros_0 12 rfl rfl)
theorem dJ9_numberOfTrailingZeros_13 : decode cJ9_numberOfTrailingZeros 13 = .ok (.bipush 32, 2) := dk_16 32 (dk_at dksJ9_numberOfTrailingZeros_0 13 rfl rfl)
theorem dJ9_numberOfTrailingZeros_15 : decode cJ9_numberOfTrailingZeros 15 = .ok (.iand, 1) := dk_126 (dk_at dksJ9_numberOfTrailingZeros_0 15 rfl rfl)
theorem dJ9_numberOfTrailingZeros_16 : decode cJ9_numberOfTrailingZeros 16 = .ok (.ireturn, 1) := dk_172 (dk_at dksJ9_numberOfTrailingZeros_0 16 rfl rfl)
theorem dJ9_numberOfTrailingZeros_17 : decode cJ9_numberOfTrailingZeros 17 = .ok (.iconst 1, 1) := dk_4 (dk_at dksJ9_numberOfTrailingZeros_0 17 rfl rfl)
theorem dJ9_numberOfTrailingZeros_18 : decode cJ9_numberOfTrailingZeros 18 = .ok (.istore_n 1, 1) := dk_60 (dk_at dksJ9_numberOfTrailingZeros_0 18 rfl rfl)
theorem dJ9_numberOfTrailingZeros_19 : decode cJ9_numberOfTrailingZeros 19 = .ok (.iload_n 0, 1) := dk_26 (dk_at dksJ9_numberOfTrailingZeros_0 19 rfl rfl)
theorem dJ9_numberOfTrailingZeros_20 : decode cJ9_numberOfTrailingZeros 20 = .ok (.ldc_w 264, 3) := dk_19 1 8 (dk_at dksJ9_numberOfTrailingZeros_0 20 rfl rfl)
theorem dJ9_numberOfTrailingZeros_23 : decode cJ9_numberOfTrailingZeros 23 = .ok (.if_icmp .le 11, 3) := dk_164 0 11 (dk_at dksJ9_numberOfTrailingZeros_1 0 rfl rfl)
theorem dJ9_numberOfTrailingZeros_26 : decode cJ9_numberOfTrailingZeros 26 = .ok (.iinc 1 16, 3) := dk_132 1 16 (dk_at dksJ9_numberOfTrailingZeros_1 3 rfl rfl)
theorem dJ9_numberOfTrailingZeros_29 : decode cJ9_numberOfTrailingZeros 29 = .ok (.iload_n 0, 1) := dk_26 (dk_at dksJ9_numberOfTrailingZeros_1 6 rfl rfl)
theorem dJ9_numberOfTrailingZeros_30 : decode cJ9_numberOfTrailingZeros 30 = .ok (.bipush 16, 2) := dk_16 16 (dk_at dksJ9_numberOfTrailingZeros_1 7 rfl rfl)
theorem dJ9_numberOfTrailingZeros_32 : decode cJ9_numberOfTrailingZeros 32 = .ok (.iushr, 1) := dk_124 (dk_at dksJ9_numberOfTrailingZeros_1 9 rfl rfl)
theorem dJ9_numberOfTrailingZeros_33 : decode cJ9_numberOfTrailingZeros 33 = .ok (.istore_n 0, 1) := dk_59 (dk_at dksJ9_numberOfTrailingZeros_1 10 rfl rfl)
theorem dJ9_numberOfTrailingZeros_34 : decode cJ9_numberOfTrailingZeros 34 = .ok (.iload_n 0, 1) := dk_26 (dk_at dksJ9_numberOfTrailingZeros_1 11 rfl rfl)
theorem dJ9_numberOfTrailingZeros_35 : decode cJ9_numberOfTrailingZeros 35 = .ok (.sipush 256, 3) := dk_17 1 0 (dk_at dksJ9_numberOfTrailingZeros_1 12 rfl rfl)
theorem dJ9_numberOfTrailingZeros_38 : decode cJ9_numberOfTrailingZeros 38 = .ok (.if_icmp .le 11, 3) := dk_164 0 11 (dk_at dksJ9_numberOfTrailingZeros_1 15 rfl rfl)
theorem dJ9_numberOfTrailingZeros_41 : decode cJ9_numberOfTrailingZeros 41 = .ok (.iinc 1 8, 3) := dk_132 1 8 (dk_at dksJ9_numberOfTrailingZeros_1 18 rfl rfl)
theorem dJ9_numberOfTrailingZeros_44 : decode cJ9_numberOfTrailingZeros 44 = .ok (.iload_n 0, 1) := dk_26 (dk_at dksJ9_numberOfTrailingZeros_1 21 rfl rfl)
theorem dJ9_numberOfTrailingZeros_45 : decode cJ9_numberOfTrailingZeros 45 = .ok (.bipush 8, 2) := dk_16 8 (dk_at dksJ9_numberOfTrailingZeros_1 22 rfl rfl)
theorem dJ9_numberOfTrailingZeros_47 : decode cJ9_numberOfTrailingZeros 47 = .ok (.iushr, 1) := dk_124 (dk_at dksJ9_numberOfTrailingZeros_2 0 rfl rfl)
theorem dJ9_numberOfTrailingZeros_48 : decode cJ9_numberOfTrailingZeros 48 = .ok (.istore_n 0, 1) := dk_59 (dk_at dksJ9_numberOfTrailingZeros_2 1 rfl rfl)
theorem dJ9_numberOfTrailingZeros_49 : decode cJ9_numberOfTrailingZeros 49 = .ok (.iload_n 0, 1) := dk_26 (dk_at dksJ9_numberOfTrailingZeros_2 2 rfl rfl)
theorem dJ9_numberOfTrailingZeros_50 : decode cJ9_numberOfTrailingZeros 50 = .ok (.bipush 16, 2) := dk_16 16 (dk_at dksJ9_numberOfTrailingZeros_2 3 rfl rfl)
theorem dJ9_numberOfTrailingZeros_52 : decode cJ9_numberOfTrailingZeros 52 = .ok (.if_icmp .le 10, 3) := dk_164 0 10 (dk_at dksJ9_numberOfTrailingZeros_2 5 rfl rfl)
theorem dJ9_numberOfTrailingZeros_55 : decode cJ9_numberOfTrailingZeros 55 = .ok (.iinc 1 4, 3) := dk_132 1 4 (dk_at dksJ9_numberOfTrailingZeros_2 8 rfl rfl)
theorem dJ9_numberOfTrailingZeros_58 : decode cJ9_numberOfTrailingZeros 58 = .ok (.iload_n 0, 1) := dk_26 (dk_at dksJ9_numberOfTrailingZeros_2 11 rfl rfl)
theorem dJ9_numberOfTrailingZeros_59 : decode cJ9_numberOfTrailingZeros 59 = .ok (.iconst 4, 1) := dk_7 (dk_at dksJ9_numberOfTrailingZeros_2 12 rfl rfl)
theorem dJ9_numberOfTrailingZeros_60 : decode cJ9_numberOfTrailingZeros 60 = .ok (.iushr, 1) := dk_124 (dk_at dksJ9_numberOfTrailingZeros_2 13 rfl rfl)
theorem dJ9_numberOfTrailingZeros_61 : decode cJ9_numberOfTrailingZeros 61 = .ok (.istore_n 0, 1) := dk_59 (dk_at dksJ9_numberOfTrailingZeros_2 14 rfl rfl)
theorem dJ9_numberOfTrailingZeros_62 : decode cJ9_numberOfTrailingZeros 62 = .ok (.iload_n 0, 1) := dk_26 (dk_at dksJ9_numberOfTrailingZeros_2 15 rfl rfl)
theorem dJ9_numberOfTrailingZeros_63 : decode cJ9_numberOfTrailingZeros 63 = .ok (.iconst 4, 1) := dk_7 (dk_at dksJ9_numberOfTrailingZeros_2 16 rfl rfl)
theorem dJ9_numberOfTrailingZeros_64 : decode cJ9_numberOfTrailingZeros 64 = .ok (.if_icmp .le 10, 3) := dk_164 0 10 (dk_at dksJ9_numberOfTrailingZeros_2 17 rfl rfl)
theorem dJ9_numberOfTrailingZeros_67 : decode cJ9_numberOfTrailingZeros 67 = .ok (.iinc 1 2, 3) := dk_132 1 2 (dk_at dksJ9_numberOfTrailingZeros_2 20 rfl rfl)
theorem dJ9_numberOfTrailingZeros_70 : decode cJ9_numberOfTrailingZeros 70 = .ok (.iload_n 0, 1) := dk_26 (dk_at dksJ9_numberOfTrailingZeros_2 23 rfl rfl)
theorem dJ9_numberOfTrailingZeros_71 : decode cJ9_numberOfTrailingZeros 71 = .ok (.iconst 2, 1) := dk_5 (dk_at dksJ9_numberOfTrailingZeros_3 0 rfl rfl)
theorem dJ9_numberOfTrailingZeros_72 : decode cJ9_numberOfTrailingZeros 72 = .ok (.iushr, 1) := dk_124 (dk_at dksJ9_numberOfTrailingZeros_3 1 rfl rfl)
theorem dJ9_numberOfTrailingZeros_73 : decode cJ9_numberOfTrailingZeros 73 = .ok (.istore_n 0, 1) := dk_59 (dk_at dksJ9_numberOfTrailingZeros_3 2 rfl rfl)
theorem dJ9_numberOfTrailingZeros_74 : decode cJ9_numberOfTrailingZeros 74 = .ok (.iload_n 1, 1) := dk_27 (dk_at dksJ9_numberOfTrailingZeros_3 3 rfl rfl)
theorem dJ9_numberOfTrailingZeros_75 : decode cJ9_numberOfTrailingZeros 75 = .ok (.iload_n 0, 1) := dk_26 (dk_at dksJ9_numberOfTrailingZeros_3 4 rfl rfl)
theorem dJ9_numberOfTrailingZeros_76 : decode cJ9_numberOfTrailingZeros 76 = .ok (.iconst 1, 1) := dk_4 (dk_at dksJ9_numberOfTrailingZeros_3 5 rfl rfl)
theorem dJ9_numberOfTrailingZeros_77 : decode cJ9_numberOfTrailingZeros 77 = .ok (.iushr, 1) := dk_124 (dk_at dksJ9_numberOfTrailingZeros_3 6 rfl rfl)
theorem dJ9_numberOfTrailingZeros_78 : decode cJ9_numberOfTrailingZeros 78 = .ok (.iadd, 1) := dk_96 (dk_at dksJ9_numberOfTrailingZeros_3 7 rfl rfl)
theorem dJ9_numberOfTrailingZeros_79 : decode cJ9_numberOfTrailingZeros 79 = .ok (.ireturn, 1) := dk_172 (dk_at dksJ9_numberOfTrailingZeros_3 8 rfl rfl)
theorem q80 : (Jvm.Cond.initialized "java/lang/Integer") ∈ lw_all := lw_g (lw_at lw_m1 21 rfl) rfl
theorem q548 : (Jvm.Cond.static ({ cls := "java/lang/Integer", name := "bitCount", desc := "(I)I" } : Jvm.MethodName)) ∈ lw_all := lw_g (lw_at lw_m3 9 rfl) rfl
theorem q549 : (Jvm.Cond.code ({ cls := "java/lang/Integer", name := "bitCount", desc := "(I)I" } : Jvm.MethodName) prog_16_method_49_code (1 : Nat) (Option.some Jvm.ClassFile.FieldType.int)) ∈ lw_all := lw_g (lw_at lw_m3 10 rfl) rfl
theorem q550 : (Jvm.Cond.constant "java/lang/Integer" (265 : Nat) (1431655765 : Int32)) ∈ lw_all := lw_g (lw_at lw_m3 11 rfl) rfl
theorem q551 : (Jvm.Cond.constant "java/lang/Integer" (266 : Nat) (858993459 : Int32)) ∈ lw_all := lw_g (lw_at lw_m3 12 rfl) rfl
theorem q552 : (Jvm.Cond.constant "java/lang/Integer" (267 : Nat) (252645135 : Int32)) ∈ lw_all := lw_g (lw_at lw_m3 13 rfl) rfl
theorem q607 : (Jvm.Cond.static ({ cls := "java/lang/Integer", name := "numberOfTrailingZeros", desc := "(I)I" } : Jvm.MethodName)) ∈ lw_all := lw_g (lw_at lw_m3 68 rfl) rfl
theorem q608 : (Jvm.Cond.code ({ cls := "java/lang/Integer", name := "numberOfTrailingZeros", desc := "(I)I" } : Jvm.MethodName) prog_16_method_48_code (2 : Nat) (Option.some Jvm.ClassFile.FieldType.int)) ∈ lw_all := lw_g (lw_at lw_m3 69 rfl) rfl
theorem q609 : (Jvm.Cond.constant "java/lang/Integer" (264 : Nat) (65536 : Int32)) ∈ lw_all := lw_g (lw_at lw_m3 70 rfl) rfl

/-! EventCounters$Counter -/
set_option maxRecDepth 100000
def RX1 : String := "EventCounters$Counter"
def TX1 : u_T := fun k => match k with
  | 0 => ("EventCounters$Counter", "mask", "I", false)
  | _ => ("EventCounters$Counter", "width", "I", false)
def tyX1 : Nat → FieldType := fun k => match k with
  | 0 => .int
  | _ => .int
abbrev wsX10 : List Cond := u_ws RX1 TX1 2
theorem nmX1 : ∀ a, a < 2 → ∀ b, b < 2 → a ≠ b → (TX1 a).2.1 ≠ (TX1 b).2.1 := by decide +kernel
theorem tyX1_ok : ∀ k, k < 2 → parseFieldDescriptor (TX1 k).2.2.1 = some (tyX1 k) := by decide +kernel
abbrev cX1_canCount : ByteArray := prog_3_method_2_code
def yX1_canCount : MethodName := ⟨RX1, "canCount", "(I)Z"⟩
def dkwX1_canCount_0 : List UInt8 := [42, 180, 0, 9, 27, 122, 4, 126, 4, 160, 0, 7, 4, 167, 0, 4, 3, 172]
abbrev dktX1_canCount_0 : List UInt8 := dkwX1_canCount_0 ++ []
theorem dksX1_canCount_0 : cX1_canCount.data.toList.drop 0 = dktX1_canCount_0 := by decide +kernel
theorem dX1_canCount_0 : decode cX1_canCount 0 = .ok (.aload_n 0, 1) := dk_42 (dk_at dksX1_canCount_0 0 rfl rfl)
theorem dX1_canCount_1 : decode cX1_canCount 1 = .ok (.getfield 9, 3) := dk_180 0 9 (dk_at dksX1_canCount_0 1 rfl rfl)
theorem dX1_canCount_4 : decode cX1_canCount 4 = .ok (.iload_n 1, 1) := dk_27 (dk_at dksX1_canCount_0 4 rfl rfl)
theorem dX1_canCount_5 : decode cX1_canCount 5 = .ok (.ishr, 1) := dk_122 (dk_at dksX1_canCount_0 5 rfl rfl)
theorem dX1_canCount_6 : decode cX1_canCount 6 = .ok (.iconst 1, 1) := dk_4 (dk_at dksX1_canCount_0 6 rfl rfl)
theorem dX1_canCount_7 : decode cX1_canCount 7 = .ok (.iand, 1) := dk_126 (dk_at dksX1_canCount_0 7 rfl rfl)
theorem dX1_canCount_8 : decode cX1_canCount 8 = .ok (.iconst 1, 1) := dk_4 (dk_at dksX1_canCount_0 8 rfl rfl)
theorem dX1_canCount_9 : decode cX1_canCount 9 = .ok (.if_icmp .ne 7, 3) := dk_160 0 7 (dk_at dksX1_canCount_0 9 rfl rfl)
theorem dX1_canCount_12 : decode cX1_canCount 12 = .ok (.iconst 1, 1) := dk_4 (dk_at dksX1_canCount_0 12 rfl rfl)
theorem dX1_canCount_13 : decode cX1_canCount 13 = .ok (.goto 4, 3) := dk_167 0 4 (dk_at dksX1_canCount_0 13 rfl rfl)
theorem dX1_canCount_16 : decode cX1_canCount 16 = .ok (.iconst 0, 1) := dk_3 (dk_at dksX1_canCount_0 16 rfl rfl)
theorem dX1_canCount_17 : decode cX1_canCount 17 = .ok (.ireturn, 1) := dk_172 (dk_at dksX1_canCount_0 17 rfl rfl)
abbrev cX1_init : ByteArray := prog_3_method_1_code
def yX1_init : MethodName := ⟨RX1, "<init>", "()V"⟩
def dkwX1_init_0 : List UInt8 := [42, 183, 0, 3, 42, 17, 0, 255, 181, 0, 9, 42, 16, 8, 181, 0, 15, 177]
abbrev dktX1_init_0 : List UInt8 := dkwX1_init_0 ++ []
theorem dksX1_init_0 : cX1_init.data.toList.drop 0 = dktX1_init_0 := by decide +kernel
theorem dX1_init_0 : decode cX1_init 0 = .ok (.aload_n 0, 1) := dk_42 (dk_at dksX1_init_0 0 rfl rfl)
theorem dX1_init_1 : decode cX1_init 1 = .ok (.invokespecial 3, 3) := dk_183 0 3 (dk_at dksX1_init_0 1 rfl rfl)
theorem dX1_init_4 : decode cX1_init 4 = .ok (.aload_n 0, 1) := dk_42 (dk_at dksX1_init_0 4 rfl rfl)
theorem dX1_init_5 : decode cX1_init 5 = .ok (.sipush 255, 3) := dk_17 0 255 (dk_at dksX1_init_0 5 rfl rfl)
theorem dX1_init_8 : decode cX1_init 8 = .ok (.putfield 9, 3) := dk_181 0 9 (dk_at dksX1_init_0 8 rfl rfl)
theorem dX1_init_11 : decode cX1_init 11 = .ok (.aload_n 0, 1) := dk_42 (dk_at dksX1_init_0 11 rfl rfl)
theorem dX1_init_12 : decode cX1_init 12 = .ok (.bipush 8, 2) := dk_16 8 (dk_at dksX1_init_0 12 rfl rfl)
theorem dX1_init_14 : decode cX1_init 14 = .ok (.putfield 15, 3) := dk_181 0 15 (dk_at dksX1_init_0 14 rfl rfl)
theorem dX1_init_17 : decode cX1_init 17 = .ok (.return_, 1) := dk_177 (dk_at dksX1_init_0 17 rfl rfl)
theorem q61 : (Jvm.Cond.initialized "EventCounters$Counter") ∈ lw_all := lw_g (lw_at lw_m1 2 rfl) rfl
theorem q611 : (Jvm.Cond.instanceMethod ({ cls := "EventCounters$Counter", name := "canCount", desc := "(I)Z" } : Jvm.MethodName)) ∈ lw_all := lw_g (lw_at lw_m3 72 rfl) rfl
theorem q612 : (Jvm.Cond.selects "EventCounters$Counter" ({ cls := "EventCounters$Counter", name := "canCount", desc := "(I)Z" } : Jvm.MethodName) ({ cls := "EventCounters$Counter", name := "canCount", desc := "(I)Z" } : Jvm.MethodName)) ∈ lw_all := lw_g (lw_at lw_m3 73 rfl) rfl
theorem q613 : (Jvm.Cond.code ({ cls := "EventCounters$Counter", name := "canCount", desc := "(I)Z" } : Jvm.MethodName) prog_3_method_2_code (2 : Nat) (Option.some Jvm.ClassFile.FieldType.boolean)) ∈ lw_all := lw_g (lw_at lw_m3 74 rfl) rfl
theorem q739 : (Jvm.Cond.instantiable "EventCounters$Counter" (2 : Nat)) ∈ lw_all := lw_g (lw_at lw_m3 200 rfl) rfl
theorem q741 : (Jvm.Cond.instanceMethod ({ cls := "EventCounters$Counter", name := "<init>", desc := "()V" } : Jvm.MethodName)) ∈ lw_all := lw_g (lw_at lw_m3 202 rfl) rfl
theorem q742 : (Jvm.Cond.code ({ cls := "EventCounters$Counter", name := "<init>", desc := "()V" } : Jvm.MethodName) prog_3_method_1_code (1 : Nat) (Option.none : Option Jvm.ClassFile.FieldType)) ∈ lw_all := lw_g (lw_at lw_m3 203 rfl) rfl
theorem q743 : (Jvm.Cond.methodLink "EventCounters$Counter" (3 : Nat) ({ cls := "java/lang/Object", name := "<init>", desc := "()V" } : Jvm.MethodName)) ∈ lw_all := lw_g (lw_at lw_m3 204 rfl) rfl
theorem q744 : (Jvm.Cond.fieldLink "EventCounters$Counter" (9 : Nat) "EventCounters$Counter" "mask" "I") ∈ lw_all := lw_g (lw_at lw_m3 205 rfl) rfl
theorem q746 : (Jvm.Cond.fieldLink "EventCounters$Counter" (15 : Nat) "EventCounters$Counter" "width" "I") ∈ lw_all := lw_g (lw_at lw_m3 207 rfl) rfl
theorem q748 : (Jvm.Cond.lays "EventCounters$Counter" "EventCounters$Counter" "mask" "I") ∈ lw_all := lw_g (lw_at lw_m3 209 rfl) rfl
theorem q749 : (Jvm.Cond.soleField "EventCounters$Counter" "mask") ∈ lw_all := lw_g (lw_at lw_m3 210 rfl) rfl
theorem q750 : (Jvm.Cond.lays "EventCounters$Counter" "EventCounters$Counter" "width" "I") ∈ lw_all := lw_g (lw_at lw_m3 211 rfl) rfl
theorem q751 : (Jvm.Cond.soleField "EventCounters$Counter" "width") ∈ lw_all := lw_g (lw_at lw_m3 212 rfl) rfl
theorem q752 : (Jvm.Cond.superclass "EventCounters$Counter" "java/lang/Object") ∈ lw_all := lw_g (lw_at lw_m3 213 rfl) rfl
theorem in_X1 : ∀ w ∈ wsX10, w ∈ lw_all := lw_in wsX10 [748, 750] (by decide +kernel) (by decide +kernel)

/-! EventCounters$Sheet -/
set_option maxRecDepth 100000
def RX2 : String := "EventCounters$Sheet"
def TX2 : u_T := fun k => match k with
  | 0 => ("EventCounters$Sheet", "row", "Ljava/lang/Object;", false)
  | _ => ("EventCounters$Sheet", "size", "I", false)
def tyX2 : Nat → FieldType := fun k => match k with
  | 0 => .object "java/lang/Object"
  | _ => .int
abbrev wsX20 : List Cond := u_ws RX2 TX2 2
theorem nmX2 : ∀ a, a < 2 → ∀ b, b < 2 → a ≠ b → (TX2 a).2.1 ≠ (TX2 b).2.1 := by decide +kernel
theorem tyX2_ok : ∀ k, k < 2 → parseFieldDescriptor (TX2 k).2.2.1 = some (tyX2 k) := by decide +kernel
abbrev cX2_init : ByteArray := prog_9_method_1_code
def yX2_init : MethodName := ⟨RX2, "<init>", "()V"⟩
theorem dX2_init_0 : decode cX2_init 0 = .ok (.aload_n 0, 1) := by decide +kernel
theorem dX2_init_1 : decode cX2_init 1 = .ok (.invokespecial 1, 3) := by decide +kernel
theorem dX2_init_4 : decode cX2_init 4 = .ok (.return_, 1) := by decide +kernel
theorem q62 : (Jvm.Cond.initialized "EventCounters$Sheet") ∈ lw_all := lw_g (lw_at lw_m1 3 rfl) rfl
theorem q755 : (Jvm.Cond.instantiable "EventCounters$Sheet" (2 : Nat)) ∈ lw_all := lw_g (lw_at lw_m3 216 rfl) rfl
theorem q757 : (Jvm.Cond.instanceMethod ({ cls := "EventCounters$Sheet", name := "<init>", desc := "()V" } : Jvm.MethodName)) ∈ lw_all := lw_g (lw_at lw_m3 218 rfl) rfl
theorem q758 : (Jvm.Cond.code ({ cls := "EventCounters$Sheet", name := "<init>", desc := "()V" } : Jvm.MethodName) prog_9_method_1_code (1 : Nat) (Option.none : Option Jvm.ClassFile.FieldType)) ∈ lw_all := lw_g (lw_at lw_m3 219 rfl) rfl
theorem q759 : (Jvm.Cond.methodLink "EventCounters$Sheet" (1 : Nat) ({ cls := "java/lang/Object", name := "<init>", desc := "()V" } : Jvm.MethodName)) ∈ lw_all := lw_g (lw_at lw_m3 220 rfl) rfl
theorem q762 : (Jvm.Cond.lays "EventCounters$Sheet" "EventCounters$Sheet" "row" "Ljava/lang/Object;") ∈ lw_all := lw_g (lw_at lw_m3 223 rfl) rfl
theorem q763 : (Jvm.Cond.soleField "EventCounters$Sheet" "row") ∈ lw_all := lw_g (lw_at lw_m3 224 rfl) rfl
theorem q764 : (Jvm.Cond.lays "EventCounters$Sheet" "EventCounters$Sheet" "size" "I") ∈ lw_all := lw_g (lw_at lw_m3 225 rfl) rfl
theorem q765 : (Jvm.Cond.soleField "EventCounters$Sheet" "size") ∈ lw_all := lw_g (lw_at lw_m3 226 rfl) rfl
theorem q766 : (Jvm.Cond.superclass "EventCounters$Sheet" "java/lang/Object") ∈ lw_all := lw_g (lw_at lw_m3 227 rfl) rfl
theorem in_X2 : ∀ w ∈ wsX20, w ∈ lw_all := lw_in wsX20 [762, 764] (by decide +kernel) (by decide +kernel)

/-! EventCounters$Reader -/
set_option maxRecDepth 100000
def RX4 : String := "EventCounters$Reader"
def TX4 : u_T := fun k => match k with
  | 0 => ("EventCounters$Reader", "t", "[B", true)
  | 1 => ("EventCounters$Reader", "lines", "[LEventCounters$Line;", true)
  | 2 => ("EventCounters$Reader", "many", "I", false)
  | 3 => ("EventCounters$Reader", "loops", "[LEventCounters$Loop;", false)
  | 4 => ("EventCounters$Reader", "loopMany", "I", false)
  | 5 => ("EventCounters$Reader", "from", "I", false)
  | 6 => ("EventCounters$Reader", "to", "I", false)
  | 7 => ("EventCounters$Reader", "kind", "I", false)
  | _ => ("EventCounters$Reader", "value", "I", false)
def tyX4 : Nat → FieldType := fun k => match k with
  | 0 => .array .byte
  | 1 => .array (.object "EventCounters$Line")
  | 2 => .int
  | 3 => .array (.object "EventCounters$Loop")
  | 4 => .int
  | 5 => .int
  | 6 => .int
  | 7 => .int
  | _ => .int
abbrev wsX40 : List Cond := u_ws RX4 TX4 9
theorem nmX4 : ∀ a, a < 9 → ∀ b, b < 9 → a ≠ b → (TX4 a).2.1 ≠ (TX4 b).2.1 := by decide +kernel
theorem tyX4_ok : ∀ k, k < 9 → parseFieldDescriptor (TX4 k).2.2.1 = some (tyX4 k) := by decide +kernel
abbrev cX4_init : ByteArray := prog_8_method_1_code
def yX4_init : MethodName := ⟨RX4, "<init>", "([B)V"⟩
def dkwX4_init_1 : List UInt8 := [181, 0, 23, 42, 182, 0, 27, 177]
abbrev dktX4_init_1 : List UInt8 := dkwX4_init_1 ++ []
def dkwX4_init_0 : List UInt8 := [42, 183, 0, 3, 42, 16, 16, 189, 0, 9, 181, 0, 11, 42, 5, 189, 0, 17, 181, 0, 19, 42, 43]
abbrev dktX4_init_0 : List UInt8 := dkwX4_init_0 ++ dktX4_init_1
theorem dksX4_init_0 : cX4_init.data.toList.drop 0 = dktX4_init_0 := by decide +kernel
theorem dksX4_init_1 : cX4_init.data.toList.drop 23 = dktX4_init_1 := dk_seg dksX4_init_0 23 rfl rfl
theorem dX4_init_0 : decode cX4_init 0 = .ok (.aload_n 0, 1) := dk_42 (dk_at dksX4_init_0 0 rfl rfl)
theorem dX4_init_1 : decode cX4_init 1 = .ok (.invokespecial 3, 3) := dk_183 0 3 (dk_at dksX4_init_0 1 rfl rfl)
theorem dX4_init_4 : decode cX4_init 4 = .ok (.aload_n 0, 1) := dk_42 (dk_at dksX4_init_0 4 rfl rfl)
theorem dX4_init_5 : decode cX4_init 5 = .ok (.bipush 16, 2) := dk_16 16 (dk_at dksX4_init_0 5 rfl rfl)
theorem dX4_init_7 : decode cX4_init 7 = .ok (.anewarray 9, 3) := dk_189 0 9 (dk_at dksX4_init_0 7 rfl rfl)
theorem dX4_init_10 : decode cX4_init 10 = .ok (.putfield 11, 3) := dk_181 0 11 (dk_at dksX4_init_0 10 rfl rfl)
theorem dX4_init_13 : decode cX4_init 13 = .ok (.aload_n 0, 1) := dk_42 (dk_at dksX4_init_0 13 rfl rfl)
theorem dX4_init_14 : decode cX4_init 14 = .ok (.iconst 2, 1) := dk_5 (dk_at dksX4_init_0 14 rfl rfl)
theorem dX4_init_15 : decode cX4_init 15 = .ok (.anewarray 17, 3) := dk_189 0 17 (dk_at dksX4_init_0 15 rfl rfl)
theorem dX4_init_18 : decode cX4_init 18 = .ok (.putfield 19, 3) := dk_181 0 19 (dk_at dksX4_init_0 18 rfl rfl)
theorem dX4_init_21 : decode cX4_init 21 = .ok (.aload_n 0, 1) := dk_42 (dk_at dksX4_init_0 21 rfl rfl)
theorem dX4_init_22 : decode cX4_init 22 = .ok (.aload_n 1, 1) := dk_43 (dk_at dksX4_init_0 22 rfl rfl)
theorem dX4_init_23 : decode cX4_init 23 = .ok (.putfield 23, 3) := dk_181 0 23 (dk_at dksX4_init_1 0 rfl rfl)
theorem dX4_init_26 : decode cX4_init 26 = .ok (.aload_n 0, 1) := dk_42 (dk_at dksX4_init_1 3 rfl rfl)
theorem dX4_init_27 : decode cX4_init 27 = .ok (.invokevirtual 27, 3) := dk_182 0 27 (dk_at dksX4_init_1 4 rfl rfl)
theorem dX4_init_30 : decode cX4_init 30 = .ok (.return_, 1) := dk_177 (dk_at dksX4_init_1 7 rfl rfl)
abbrev cX4_next : ByteArray := prog_8_method_5_code
def yX4_next : MethodName := ⟨RX4, "next", "()V"⟩
def dkwX4_next_12 : List UInt8 := [160, 0, 7, 4, 167, 0, 4, 3, 4, 182, 0, 74, 42, 6, 181, 0, 39, 177]
abbrev dktX4_next_12 : List UInt8 := dkwX4_next_12 ++ []
def dkwX4_next_11 : List UInt8 := [163, 0, 7, 4, 167, 0, 4, 3, 4, 182, 0, 74, 42, 5, 181, 0, 39, 167, 0, 24, 42, 27, 16, 59]
abbrev dktX4_next_11 : List UInt8 := dkwX4_next_11 ++ dktX4_next_12
def dkwX4_next_10 : List UInt8 := [180, 0, 48, 4, 96, 181, 0, 48, 167, 255, 182, 42, 42, 180, 0, 48, 42, 180, 0, 32, 100, 5]
abbrev dktX4_next_10 : List UInt8 := dkwX4_next_10 ++ dktX4_next_11
def dkwX4_next_9 : List UInt8 := [180, 0, 48, 182, 0, 55, 96, 16, 48, 100, 167, 0, 7, 42, 180, 0, 59, 181, 0, 59, 42, 89]
abbrev dktX4_next_9 : List UInt8 := dkwX4_next_9 ++ dktX4_next_10
def dkwX4_next_8 : List UInt8 := [42, 42, 180, 0, 48, 42, 180, 0, 32, 100, 5, 162, 0, 25, 16, 10, 42, 180, 0, 59, 104, 42, 42]
abbrev dktX4_next_8 : List UInt8 := dkwX4_next_8 ++ dktX4_next_9
def dkwX4_next_7 : List UInt8 := [181, 0, 59, 42, 42, 180, 0, 48, 182, 0, 55, 133, 20, 0, 70, 20, 0, 72, 184, 0, 66, 153, 0, 59]
abbrev dktX4_next_7 : List UInt8 := dkwX4_next_7 ++ dktX4_next_8
def dkwX4_next_6 : List UInt8 := [20, 0, 70, 20, 0, 72, 184, 0, 66, 153, 0, 124, 42, 42, 180, 0, 32, 181, 0, 48, 42, 3]
abbrev dktX4_next_6 : List UInt8 := dkwX4_next_6 ++ dktX4_next_7
def dkwX4_next_5 : List UInt8 := [42, 89, 180, 0, 48, 4, 96, 181, 0, 48, 167, 255, 225, 42, 4, 181, 0, 39, 167, 0, 159, 27, 133]
abbrev dktX4_next_5 : List UInt8 := dkwX4_next_5 ++ dktX4_next_6
def dkwX4_next_4 : List UInt8 := [153, 0, 45, 42, 42, 180, 0, 48, 182, 0, 55, 133, 20, 0, 62, 20, 0, 64, 184, 0, 66, 153, 0, 16]
abbrev dktX4_next_4 : List UInt8 := dkwX4_next_4 ++ dktX4_next_5
def dkwX4_next_3 : List UInt8 := [181, 0, 48, 42, 3, 181, 0, 39, 167, 0, 215, 27, 133, 20, 0, 62, 20, 0, 64, 184, 0, 66]
abbrev dktX4_next_3 : List UInt8 := dkwX4_next_3 ++ dktX4_next_4
def dkwX4_next_2 : List UInt8 := [180, 0, 32, 4, 96, 181, 0, 48, 42, 27, 181, 0, 59, 27, 16, 252, 160, 0, 19, 42, 42, 180, 0, 32]
abbrev dktX4_next_2 : List UInt8 := dkwX4_next_2 ++ dktX4_next_3
def dkwX4_next_1 : List UInt8 := [180, 0, 32, 4, 96, 181, 0, 32, 167, 255, 233, 42, 42, 180, 0, 32, 182, 0, 55, 60, 42, 42]
abbrev dktX4_next_1 : List UInt8 := dkwX4_next_1 ++ dktX4_next_2
def dkwX4_next_0 : List UInt8 := [42, 42, 180, 0, 48, 181, 0, 32, 42, 42, 180, 0, 32, 182, 0, 55, 16, 32, 160, 0, 16, 42, 89]
abbrev dktX4_next_0 : List UInt8 := dkwX4_next_0 ++ dktX4_next_1
theorem dksX4_next_0 : cX4_next.data.toList.drop 0 = dktX4_next_0 := by decide +kernel
theorem dksX4_next_1 : cX4_next.data.toList.drop 23 = dktX4_next_1 := dk_seg dksX4_next_0 23 rfl rfl
theorem dksX4_next_2 : cX4_next.data.toList.drop 45 = dktX4_next_2 := dk_seg dksX4_next_1 22 rfl rfl
theorem dksX4_next_3 : cX4_next.data.toList.drop 69 = dktX4_next_3 := dk_seg dksX4_next_2 24 rfl rfl
theorem dksX4_next_4 : cX4_next.data.toList.drop 91 = dktX4_next_4 := dk_seg dksX4_next_3 22 rfl rfl
theorem dksX4_next_5 : cX4_next.data.toList.drop 115 = dktX4_next_5 := dk_seg dksX4_next_4 24 rfl rfl
theorem dksX4_next_6 : cX4_next.data.toList.drop 138 = dktX4_next_6 := dk_seg dksX4_next_5 23 rfl rfl
theorem dksX4_next_7 : cX4_next.data.toList.drop 160 = dktX4_next_7 := dk_seg dksX4_next_6 22 rfl rfl
theorem dksX4_next_8 : cX4_next.data.toList.drop 184 = dktX4_next_8 := dk_seg dksX4_next_7 24 rfl rfl
theorem dksX4_next_9 : cX4_next.data.toList.drop 207 = dktX4_next_9 := dk_seg dksX4_next_8 23 rfl rfl
theorem dksX4_next_10 : cX4_next.data.toList.drop 229 = dktX4_next_10 := dk_seg dksX4_next_9 22 rfl rfl
theorem dksX4_next_11 : cX4_next.data.toList.drop 251 = dktX4_next_11 := dk_seg dksX4_next_10 22 rfl rfl
theorem dksX4_next_12 : cX4_next.data.toList.drop 275 = dktX4_next_12 := dk_seg dksX4_next_11 24 rfl rfl
theorem dX4_next_0 : decode cX4_next 0 = .ok (.aload_n 0, 1) := dk_42 (dk_at dksX4_next_0 0 rfl rfl)
theorem dX4_next_1 : decode cX4_next 1 = .ok (.aload_n 0, 1) := dk_42 (dk_at dksX4_next_0 1 rfl rfl)
theorem dX4_next_2 : decode cX4_next 2 = .ok (.getfield 48, 3) := dk_180 0 48 (dk_at dksX4_next_0 2 rfl rfl)
theorem dX4_next_5 : decode cX4_next 5 = .ok (.putfield 32, 3) := dk_181 0 32 (dk_at dksX4_next_0 5 rfl rfl)
theorem dX4_next_8 : decode cX4_next 8 = .ok (.aload_n 0, 1) := dk_42 (dk_at dksX4_next_0 8 rfl rfl)
theorem dX4_next_9 : decode cX4_next 9 = .ok (.aload_n 0, 1) := dk_42 (dk_at dksX4_next_0 9 rfl rfl)
theorem dX4_next_10 : decode cX4_next 10 = .ok (.getfield 32, 3) := dk_180 0 32 (dk_at dksX4_next_0 10 rfl rfl)
theorem dX4_next_13 : decode cX4_next 13 = .ok (.invokevirtual 55, 3) := dk_182 0 55 (dk_at dksX4_next_0 13 rfl rfl)
theorem dX4_next_16 : decode cX4_next 16 = .ok (.bipush 32, 2) := dk_16 32 (dk_at dksX4_next_0 16 rfl rfl)
theorem dX4_next_18 : decode cX4_next 18 = .ok (.if_icmp .ne 16, 3) := dk_160 0 16 (dk_at dksX4_next_0 18 rfl rfl)
theorem dX4_next_21 : decode cX4_next 21 = .ok (.aload_n 0, 1) := dk_42 (dk_at dksX4_next_0 21 rfl rfl)
theorem dX4_next_22 : decode cX4_next 22 = .ok (.dup, 1) := dk_89 (dk_at dksX4_next_0 22 rfl rfl)
theorem dX4_next_23 : decode cX4_next 23 = .ok (.getfield 32, 3) := dk_180 0 32 (dk_at dksX4_next_1 0 rfl rfl)
theorem dX4_next_26 : decode cX4_next 26 = .ok (.iconst 1, 1) := dk_4 (dk_at dksX4_next_1 3 rfl rfl)
theorem dX4_next_27 : decode cX4_next 27 = .ok (.iadd, 1) := dk_96 (dk_at dksX4_next_1 4 rfl rfl)
theorem dX4_next_28 : decode cX4_next 28 = .ok (.putfield 32, 3) := dk_181 0 32 (dk_at dksX4_next_1 5 rfl rfl)
theorem dX4_next_31 : decode cX4_next 31 = .ok (.goto (-23), 3) := dk_167 255 233 (dk_at dksX4_next_1 8 rfl rfl)
theorem dX4_next_34 : decode cX4_next 34 = .ok (.aload_n 0, 1) := dk_42 (dk_at dksX4_next_1 11 rfl rfl)
theorem dX4_next_35 : decode cX4_next 35 = .ok (.aload_n 0, 1) := dk_42 (dk_at dksX4_next_1 12 rfl rfl)
theorem dX4_next_36 : decode cX4_next 36 = .ok (.getfield 32, 3) := dk_180 0 32 (dk_at dksX4_next_1 13 rfl rfl)
theorem dX4_next_39 : decode cX4_next 39 = .ok (.invokevirtual 55, 3) := dk_182 0 55 (dk_at dksX4_next_1 16 rfl rfl)
theorem dX4_next_42 : decode cX4_next 42 = .ok (.istore_n 1, 1) := dk_60 (dk_at dksX4_next_1 19 rfl rfl)
theorem dX4_next_43 : decode cX4_next 43 = .ok (.aload_n 0, 1) := dk_42 (dk_at dksX4_next_1 20 rfl rfl)
theorem dX4_next_44 : decode cX4_next 44 = .ok (.aload_n 0, 1) := dk_42 (dk_at dksX4_next_1 21 rfl rfl)
theorem dX4_next_45 : decode cX4_next 45 = .ok (.getfield 32, 3) := dk_180 0 32 (dk_at dksX4_next_2 0 rfl rfl)
theorem dX4_next_48 : decode cX4_next 48 = .ok (.iconst 1, 1) := dk_4 (dk_at dksX4_next_2 3 rfl rfl)
theorem dX4_next_49 : decode cX4_next 49 = .ok (.iadd, 1) := dk_96 (dk_at dksX4_next_2 4 rfl rfl)
theorem dX4_next_50 : decode cX4_next 50 = .ok (.putfield 48, 3) := dk_181 0 48 (dk_at dksX4_next_2 5 rfl rfl)
theorem dX4_next_53 : decode cX4_next 53 = .ok (.aload_n 0, 1) := dk_42 (dk_at dksX4_next_2 8 rfl rfl)
theorem dX4_next_54 : decode cX4_next 54 = .ok (.iload_n 1, 1) := dk_27 (dk_at dksX4_next_2 9 rfl rfl)
theorem dX4_next_55 : decode cX4_next 55 = .ok (.putfield 59, 3) := dk_181 0 59 (dk_at dksX4_next_2 10 rfl rfl)
theorem dX4_next_58 : decode cX4_next 58 = .ok (.iload_n 1, 1) := dk_27 (dk_at dksX4_next_2 13 rfl rfl)
theorem dX4_next_59 : decode cX4_next 59 = .ok (.bipush (-4), 2) := dk_16 252 (dk_at dksX4_next_2 14 rfl rfl)
theorem dX4_next_61 : decode cX4_next 61 = .ok (.if_icmp .ne 19, 3) := dk_160 0 19 (dk_at dksX4_next_2 16 rfl rfl)
theorem dX4_next_64 : decode cX4_next 64 = .ok (.aload_n 0, 1) := dk_42 (dk_at dksX4_next_2 19 rfl rfl)
theorem dX4_next_65 : decode cX4_next 65 = .ok (.aload_n 0, 1) := dk_42 (dk_at dksX4_next_2 20 rfl rfl)
theorem dX4_next_66 : decode cX4_next 66 = .ok (.getfield 32, 3) := dk_180 0 32 (dk_at dksX4_next_2 21 rfl rfl)
theorem dX4_next_69 : decode cX4_next 69 = .ok (.putfield 48, 3) := dk_181 0 48 (dk_at dksX4_next_3 0 rfl rfl)
theorem dX4_next_72 : decode cX4_next 72 = .ok (.aload_n 0, 1) := dk_42 (dk_at dksX4_next_3 3 rfl rfl)
theorem dX4_next_73 : decode cX4_next 73 = .ok (.iconst 0, 1) := dk_3 (dk_at dksX4_next_3 4 rfl rfl)
theorem dX4_next_74 : decode cX4_next 74 = .ok (.putfield 39, 3) := dk_181 0 39 (dk_at dksX4_next_3 5 rfl rfl)
theorem dX4_next_77 : decode cX4_next 77 = .ok (.goto 215, 3) := dk_167 0 215 (dk_at dksX4_next_3 8 rfl rfl)
theorem dX4_next_80 : decode cX4_next 80 = .ok (.iload_n 1, 1) := dk_27 (dk_at dksX4_next_3 11 rfl rfl)
theorem dX4_next_81 : decode cX4_next 81 = .ok (.i2l, 1) := dk_133 (dk_at dksX4_next_3 12 rfl rfl)
theorem dX4_next_82 : decode cX4_next 82 = .ok (.ldc2_w 62, 3) := dk_20 0 62 (dk_at dksX4_next_3 13 rfl rfl)
theorem dX4_next_85 : decode cX4_next 85 = .ok (.ldc2_w 64, 3) := dk_20 0 64 (dk_at dksX4_next_3 16 rfl rfl)
theorem dX4_next_88 : decode cX4_next 88 = .ok (.invokestatic 66, 3) := dk_184 0 66 (dk_at dksX4_next_3 19 rfl rfl)
theorem dX4_next_91 : decode cX4_next 91 = .ok (.ifCond .eq 45, 3) := dk_153 0 45 (dk_at dksX4_next_4 0 rfl rfl)
theorem dX4_next_94 : decode cX4_next 94 = .ok (.aload_n 0, 1) := dk_42 (dk_at dksX4_next_4 3 rfl rfl)
theorem dX4_next_95 : decode cX4_next 95 = .ok (.aload_n 0, 1) := dk_42 (dk_at dksX4_next_4 4 rfl rfl)
theorem dX4_next_96 : decode cX4_next 96 = .ok (.getfield 48, 3) := dk_180 0 48 (dk_at dksX4_next_4 5 rfl rfl)
theorem dX4_next_99 : decode cX4_next 99 = .ok (.invokevirtual 55, 3) := dk_182 0 55 (dk_at dksX4_next_4 8 rfl rfl)
theorem dX4_next_102 : decode cX4_next 102 = .ok (.i2l, 1) := dk_133 (dk_at dksX4_next_4 11 rfl rfl)
theorem dX4_next_103 : decode cX4_next 103 = .ok (.ldc2_w 62, 3) := dk_20 0 62 (dk_at dksX4_next_4 12 rfl rfl)
theorem dX4_next_106 : decode cX4_next 106 = .ok (.ldc2_w 64, 3) := dk_20 0 64 (dk_at dksX4_next_4 15 rfl rfl)
theorem dX4_next_109 : decode cX4_next 109 = .ok (.invokestatic 66, 3) := dk_184 0 66 (dk_at dksX4_next_4 18 rfl rfl)
theorem dX4_next_112 : decode cX4_next 112 = .ok (.ifCond .eq 16, 3) := dk_153 0 16 (dk_at dksX4_next_4 21 rfl rfl)
theorem dX4_next_115 : decode cX4_next 115 = .ok (.aload_n 0, 1) := dk_42 (dk_at dksX4_next_5 0 rfl rfl)
theorem dX4_next_116 : decode cX4_next 116 = .ok (.dup, 1) := dk_89 (dk_at dksX4_next_5 1 rfl rfl)
theorem dX4_next_117 : decode cX4_next 117 = .ok (.getfield 48, 3) := dk_180 0 48 (dk_at dksX4_next_5 2 rfl rfl)
theorem dX4_next_120 : decode cX4_next 120 = .ok (.iconst 1, 1) := dk_4 (dk_at dksX4_next_5 5 rfl rfl)
theorem dX4_next_121 : decode cX4_next 121 = .ok (.iadd, 1) := dk_96 (dk_at dksX4_next_5 6 rfl rfl)
theorem dX4_next_122 : decode cX4_next 122 = .ok (.putfield 48, 3) := dk_181 0 48 (dk_at dksX4_next_5 7 rfl rfl)
theorem dX4_next_125 : decode cX4_next 125 = .ok (.goto (-31), 3) := dk_167 255 225 (dk_at dksX4_next_5 10 rfl rfl)
theorem dX4_next_128 : decode cX4_next 128 = .ok (.aload_n 0, 1) := dk_42 (dk_at dksX4_next_5 13 rfl rfl)
theorem dX4_next_129 : decode cX4_next 129 = .ok (.iconst 1, 1) := dk_4 (dk_at dksX4_next_5 14 rfl rfl)
theorem dX4_next_130 : decode cX4_next 130 = .ok (.putfield 39, 3) := dk_181 0 39 (dk_at dksX4_next_5 15 rfl rfl)
theorem dX4_next_133 : decode cX4_next 133 = .ok (.goto 159, 3) := dk_167 0 159 (dk_at dksX4_next_5 18 rfl rfl)
theorem dX4_next_136 : decode cX4_next 136 = .ok (.iload_n 1, 1) := dk_27 (dk_at dksX4_next_5 21 rfl rfl)
theorem dX4_next_137 : decode cX4_next 137 = .ok (.i2l, 1) := dk_133 (dk_at dksX4_next_5 22 rfl rfl)
theorem dX4_next_138 : decode cX4_next 138 = .ok (.ldc2_w 70, 3) := dk_20 0 70 (dk_at dksX4_next_6 0 rfl rfl)
theorem dX4_next_141 : decode cX4_next 141 = .ok (.ldc2_w 72, 3) := dk_20 0 72 (dk_at dksX4_next_6 3 rfl rfl)
theorem dX4_next_144 : decode cX4_next 144 = .ok (.invokestatic 66, 3) := dk_184 0 66 (dk_at dksX4_next_6 6 rfl rfl)
theorem dX4_next_147 : decode cX4_next 147 = .ok (.ifCond .eq 124, 3) := dk_153 0 124 (dk_at dksX4_next_6 9 rfl rfl)
theorem dX4_next_150 : decode cX4_next 150 = .ok (.aload_n 0, 1) := dk_42 (dk_at dksX4_next_6 12 rfl rfl)
theorem dX4_next_151 : decode cX4_next 151 = .ok (.aload_n 0, 1) := dk_42 (dk_at dksX4_next_6 13 rfl rfl)
theorem dX4_next_152 : decode cX4_next 152 = .ok (.getfield 32, 3) := dk_180 0 32 (dk_at dksX4_next_6 14 rfl rfl)
theorem dX4_next_155 : decode cX4_next 155 = .ok (.putfield 48, 3) := dk_181 0 48 (dk_at dksX4_next_6 17 rfl rfl)
theorem dX4_next_158 : decode cX4_next 158 = .ok (.aload_n 0, 1) := dk_42 (dk_at dksX4_next_6 20 rfl rfl)
theorem dX4_next_159 : decode cX4_next 159 = .ok (.iconst 0, 1) := dk_3 (dk_at dksX4_next_6 21 rfl rfl)
theorem dX4_next_160 : decode cX4_next 160 = .ok (.putfield 59, 3) := dk_181 0 59 (dk_at dksX4_next_7 0 rfl rfl)
theorem dX4_next_163 : decode cX4_next 163 = .ok (.aload_n 0, 1) := dk_42 (dk_at dksX4_next_7 3 rfl rfl)
theorem dX4_next_164 : decode cX4_next 164 = .ok (.aload_n 0, 1) := dk_42 (dk_at dksX4_next_7 4 rfl rfl)
theorem dX4_next_165 : decode cX4_next 165 = .ok (.getfield 48, 3) := dk_180 0 48 (dk_at dksX4_next_7 5 rfl rfl)
theorem dX4_next_168 : decode cX4_next 168 = .ok (.invokevirtual 55, 3) := dk_182 0 55 (dk_at dksX4_next_7 8 rfl rfl)
theorem dX4_next_171 : decode cX4_next 171 = .ok (.i2l, 1) := dk_133 (dk_at dksX4_next_7 11 rfl rfl)
theorem dX4_next_172 : decode cX4_next 172 = .ok (.ldc2_w 70, 3) := dk_20 0 70 (dk_at dksX4_next_7 12 rfl rfl)
theorem dX4_next_175 : decode cX4_next 175 = .ok (.ldc2_w 72, 3) := dk_20 0 72 (dk_at dksX4_next_7 15 rfl rfl)
theorem dX4_next_178 : decode cX4_next 178 = .ok (.invokestatic 66, 3) := dk_184 0 66 (dk_at dksX4_next_7 18 rfl rfl)
theorem dX4_next_181 : decode cX4_next 181 = .ok (.ifCond .eq 59, 3) := dk_153 0 59 (dk_at dksX4_next_7 21 rfl rfl)
theorem dX4_next_184 : decode cX4_next 184 = .ok (.aload_n 0, 1) := dk_42 (dk_at dksX4_next_8 0 rfl rfl)
theorem dX4_next_185 : decode cX4_next 185 = .ok (.aload_n 0, 1) := dk_42 (dk_at dksX4_next_8 1 rfl rfl)
theorem dX4_next_186 : decode cX4_next 186 = .ok (.getfield 48, 3) := dk_180 0 48 (dk_at dksX4_next_8 2 rfl rfl)
theorem dX4_next_189 : decode cX4_next 189 = .ok (.aload_n 0, 1) := dk_42 (dk_at dksX4_next_8 5 rfl rfl)
theorem dX4_next_190 : decode cX4_next 190 = .ok (.getfield 32, 3) := dk_180 0 32 (dk_at dksX4_next_8 6 rfl rfl)
theorem dX4_next_193 : decode cX4_next 193 = .ok (.isub, 1) := dk_100 (dk_at dksX4_next_8 9 rfl rfl)
theorem dX4_next_194 : decode cX4_next 194 = .ok (.iconst 2, 1) := dk_5 (dk_at dksX4_next_8 10 rfl rfl)
theorem dX4_next_195 : decode cX4_next 195 = .ok (.if_icmp .ge 25, 3) := dk_162 0 25 (dk_at dksX4_next_8 11 rfl rfl)
theorem dX4_next_198 : decode cX4_next 198 = .ok (.bipush 10, 2) := dk_16 10 (dk_at dksX4_next_8 14 rfl rfl)
theorem dX4_next_200 : decode cX4_next 200 = .ok (.aload_n 0, 1) := dk_42 (dk_at dksX4_next_8 16 rfl rfl)
theorem dX4_next_201 : decode cX4_next 201 = .ok (.getfield 59, 3) := dk_180 0 59 (dk_at dksX4_next_8 17 rfl rfl)
theorem dX4_next_204 : decode cX4_next 204 = .ok (.imul, 1) := dk_104 (dk_at dksX4_next_8 20 rfl rfl)
theorem dX4_next_205 : decode cX4_next 205 = .ok (.aload_n 0, 1) := dk_42 (dk_at dksX4_next_8 21 rfl rfl)
theorem dX4_next_206 : decode cX4_next 206 = .ok (.aload_n 0, 1) := dk_42 (dk_at dksX4_next_8 22 rfl rfl)
theorem dX4_next_207 : decode cX4_next 207 = .ok (.getfield 48, 3) := dk_180 0 48 (dk_at dksX4_next_9 0 rfl rfl)
theorem dX4_next_210 : decode cX4_next 210 = .ok (.invokevirtual 55, 3) := dk_182 0 55 (dk_at dksX4_next_9 3 rfl rfl)
theorem dX4_next_213 : decode cX4_next 213 = .ok (.iadd, 1) := dk_96 (dk_at dksX4_next_9 6 rfl rfl)
theorem dX4_next_214 : decode cX4_next 214 = .ok (.bipush 48, 2) := dk_16 48 (dk_at dksX4_next_9 7 rfl rfl)
theorem dX4_next_216 : decode cX4_next 216 = .ok (.isub, 1) := dk_100 (dk_at dksX4_next_9 9 rfl rfl)
theorem dX4_next_217 : decode cX4_next 217 = .ok (.goto 7, 3) := dk_167 0 7 (dk_at dksX4_next_9 10 rfl rfl)
theorem dX4_next_220 : decode cX4_next 220 = .ok (.aload_n 0, 1) := dk_42 (dk_at dksX4_next_9 13 rfl rfl)
theorem dX4_next_221 : decode cX4_next 221 = .ok (.getfield 59, 3) := dk_180 0 59 (dk_at dksX4_next_9 14 rfl rfl)
theorem dX4_next_224 : decode cX4_next 224 = .ok (.putfield 59, 3) := dk_181 0 59 (dk_at dksX4_next_9 17 rfl rfl)
theorem dX4_next_227 : decode cX4_next 227 = .ok (.aload_n 0, 1) := dk_42 (dk_at dksX4_next_9 20 rfl rfl)
theorem dX4_next_228 : decode cX4_next 228 = .ok (.dup, 1) := dk_89 (dk_at dksX4_next_9 21 rfl rfl)
theorem dX4_next_229 : decode cX4_next 229 = .ok (.getfield 48, 3) := dk_180 0 48 (dk_at dksX4_next_10 0 rfl rfl)
theorem dX4_next_232 : decode cX4_next 232 = .ok (.iconst 1, 1) := dk_4 (dk_at dksX4_next_10 3 rfl rfl)
theorem dX4_next_233 : decode cX4_next 233 = .ok (.iadd, 1) := dk_96 (dk_at dksX4_next_10 4 rfl rfl)
theorem dX4_next_234 : decode cX4_next 234 = .ok (.putfield 48, 3) := dk_181 0 48 (dk_at dksX4_next_10 5 rfl rfl)
theorem dX4_next_237 : decode cX4_next 237 = .ok (.goto (-74), 3) := dk_167 255 182 (dk_at dksX4_next_10 8 rfl rfl)
theorem dX4_next_240 : decode cX4_next 240 = .ok (.aload_n 0, 1) := dk_42 (dk_at dksX4_next_10 11 rfl rfl)
theorem dX4_next_241 : decode cX4_next 241 = .ok (.aload_n 0, 1) := dk_42 (dk_at dksX4_next_10 12 rfl rfl)
theorem dX4_next_242 : decode cX4_next 242 = .ok (.getfield 48, 3) := dk_180 0 48 (dk_at dksX4_next_10 13 rfl rfl)
theorem dX4_next_245 : decode cX4_next 245 = .ok (.aload_n 0, 1) := dk_42 (dk_at dksX4_next_10 16 rfl rfl)
theorem dX4_next_246 : decode cX4_next 246 = .ok (.getfield 32, 3) := dk_180 0 32 (dk_at dksX4_next_10 17 rfl rfl)
theorem dX4_next_249 : decode cX4_next 249 = .ok (.isub, 1) := dk_100 (dk_at dksX4_next_10 20 rfl rfl)
theorem dX4_next_250 : decode cX4_next 250 = .ok (.iconst 2, 1) := dk_5 (dk_at dksX4_next_10 21 rfl rfl)
theorem dX4_next_251 : decode cX4_next 251 = .ok (.if_icmp .gt 7, 3) := dk_163 0 7 (dk_at dksX4_next_11 0 rfl rfl)
theorem dX4_next_254 : decode cX4_next 254 = .ok (.iconst 1, 1) := dk_4 (dk_at dksX4_next_11 3 rfl rfl)
theorem dX4_next_255 : decode cX4_next 255 = .ok (.goto 4, 3) := dk_167 0 4 (dk_at dksX4_next_11 4 rfl rfl)
theorem dX4_next_258 : decode cX4_next 258 = .ok (.iconst 0, 1) := dk_3 (dk_at dksX4_next_11 7 rfl rfl)
theorem dX4_next_259 : decode cX4_next 259 = .ok (.iconst 1, 1) := dk_4 (dk_at dksX4_next_11 8 rfl rfl)
theorem dX4_next_260 : decode cX4_next 260 = .ok (.invokevirtual 74, 3) := dk_182 0 74 (dk_at dksX4_next_11 9 rfl rfl)
theorem dX4_next_263 : decode cX4_next 263 = .ok (.aload_n 0, 1) := dk_42 (dk_at dksX4_next_11 12 rfl rfl)
theorem dX4_next_264 : decode cX4_next 264 = .ok (.iconst 2, 1) := dk_5 (dk_at dksX4_next_11 13 rfl rfl)
theorem dX4_next_265 : decode cX4_next 265 = .ok (.putfield 39, 3) := dk_181 0 39 (dk_at dksX4_next_11 14 rfl rfl)
theorem dX4_next_268 : decode cX4_next 268 = .ok (.goto 24, 3) := dk_167 0 24 (dk_at dksX4_next_11 17 rfl rfl)
theorem dX4_next_271 : decode cX4_next 271 = .ok (.aload_n 0, 1) := dk_42 (dk_at dksX4_next_11 20 rfl rfl)
theorem dX4_next_272 : decode cX4_next 272 = .ok (.iload_n 1, 1) := dk_27 (dk_at dksX4_next_11 21 rfl rfl)
theorem dX4_next_273 : decode cX4_next 273 = .ok (.bipush 59, 2) := dk_16 59 (dk_at dksX4_next_11 22 rfl rfl)
theorem dX4_next_275 : decode cX4_next 275 = .ok (.if_icmp .ne 7, 3) := dk_160 0 7 (dk_at dksX4_next_12 0 rfl rfl)
theorem dX4_next_278 : decode cX4_next 278 = .ok (.iconst 1, 1) := dk_4 (dk_at dksX4_next_12 3 rfl rfl)
theorem dX4_next_279 : decode cX4_next 279 = .ok (.goto 4, 3) := dk_167 0 4 (dk_at dksX4_next_12 4 rfl rfl)
theorem dX4_next_282 : decode cX4_next 282 = .ok (.iconst 0, 1) := dk_3 (dk_at dksX4_next_12 7 rfl rfl)
theorem dX4_next_283 : decode cX4_next 283 = .ok (.iconst 1, 1) := dk_4 (dk_at dksX4_next_12 8 rfl rfl)
theorem dX4_next_284 : decode cX4_next 284 = .ok (.invokevirtual 74, 3) := dk_182 0 74 (dk_at dksX4_next_12 9 rfl rfl)
theorem dX4_next_287 : decode cX4_next 287 = .ok (.aload_n 0, 1) := dk_42 (dk_at dksX4_next_12 12 rfl rfl)
theorem dX4_next_288 : decode cX4_next 288 = .ok (.iconst 3, 1) := dk_6 (dk_at dksX4_next_12 13 rfl rfl)
theorem dX4_next_289 : decode cX4_next 289 = .ok (.putfield 39, 3) := dk_181 0 39 (dk_at dksX4_next_12 14 rfl rfl)
theorem dX4_next_292 : decode cX4_next 292 = .ok (.return_, 1) := dk_177 (dk_at dksX4_next_12 17 rfl rfl)
abbrev cX4_at : ByteArray := prog_8_method_2_code
def yX4_at : MethodName := ⟨RX4, "at", "(I)I"⟩
def dkwX4_at_1 : List UInt8 := [172]
abbrev dktX4_at_1 : List UInt8 := dkwX4_at_1 ++ []
def dkwX4_at_0 : List UInt8 := [27, 42, 180, 0, 23, 190, 162, 0, 16, 42, 180, 0, 23, 27, 51, 17, 0, 255, 126, 167, 0, 5, 16, 252]
abbrev dktX4_at_0 : List UInt8 := dkwX4_at_0 ++ dktX4_at_1
theorem dksX4_at_0 : cX4_at.data.toList.drop 0 = dktX4_at_0 := by decide +kernel
theorem dksX4_at_1 : cX4_at.data.toList.drop 24 = dktX4_at_1 := dk_seg dksX4_at_0 24 rfl rfl
theorem dX4_at_0 : decode cX4_at 0 = .ok (.iload_n 1, 1) := dk_27 (dk_at dksX4_at_0 0 rfl rfl)
theorem dX4_at_1 : decode cX4_at 1 = .ok (.aload_n 0, 1) := dk_42 (dk_at dksX4_at_0 1 rfl rfl)
theorem dX4_at_2 : decode cX4_at 2 = .ok (.getfield 23, 3) := dk_180 0 23 (dk_at dksX4_at_0 2 rfl rfl)
theorem dX4_at_5 : decode cX4_at 5 = .ok (.arraylength, 1) := dk_190 (dk_at dksX4_at_0 5 rfl rfl)
theorem dX4_at_6 : decode cX4_at 6 = .ok (.if_icmp .ge 16, 3) := dk_162 0 16 (dk_at dksX4_at_0 6 rfl rfl)
theorem dX4_at_9 : decode cX4_at 9 = .ok (.aload_n 0, 1) := dk_42 (dk_at dksX4_at_0 9 rfl rfl)
theorem dX4_at_10 : decode cX4_at 10 = .ok (.getfield 23, 3) := dk_180 0 23 (dk_at dksX4_at_0 10 rfl rfl)
theorem dX4_at_13 : decode cX4_at 13 = .ok (.iload_n 1, 1) := dk_27 (dk_at dksX4_at_0 13 rfl rfl)
theorem dX4_at_14 : decode cX4_at 14 = .ok (.baload, 1) := dk_51 (dk_at dksX4_at_0 14 rfl rfl)
theorem dX4_at_15 : decode cX4_at 15 = .ok (.sipush 255, 3) := dk_17 0 255 (dk_at dksX4_at_0 15 rfl rfl)
theorem dX4_at_18 : decode cX4_at 18 = .ok (.iand, 1) := dk_126 (dk_at dksX4_at_0 18 rfl rfl)
theorem dX4_at_19 : decode cX4_at 19 = .ok (.goto 5, 3) := dk_167 0 5 (dk_at dksX4_at_0 19 rfl rfl)
theorem dX4_at_22 : decode cX4_at 22 = .ok (.bipush (-4), 2) := dk_16 252 (dk_at dksX4_at_0 22 rfl rfl)
theorem dX4_at_24 : decode cX4_at 24 = .ok (.ireturn, 1) := dk_172 (dk_at dksX4_at_1 0 rfl rfl)
abbrev cX4_must : ByteArray := prog_8_method_3_code
def yX4_must : MethodName := ⟨RX4, "must", "(ZI)V"⟩
def dkwX4_must_0 : List UInt8 := [27, 154, 0, 16, 187, 0, 30, 89, 28, 42, 180, 0, 32, 183, 0, 36, 191, 177]
abbrev dktX4_must_0 : List UInt8 := dkwX4_must_0 ++ []
theorem dksX4_must_0 : cX4_must.data.toList.drop 0 = dktX4_must_0 := by decide +kernel
theorem dX4_must_0 : decode cX4_must 0 = .ok (.iload_n 1, 1) := dk_27 (dk_at dksX4_must_0 0 rfl rfl)
theorem dX4_must_1 : decode cX4_must 1 = .ok (.ifCond .ne 16, 3) := dk_154 0 16 (dk_at dksX4_must_0 1 rfl rfl)
theorem dX4_must_4 : decode cX4_must 4 = .ok (.new 30, 3) := dk_187 0 30 (dk_at dksX4_must_0 4 rfl rfl)
theorem dX4_must_7 : decode cX4_must 7 = .ok (.dup, 1) := dk_89 (dk_at dksX4_must_0 7 rfl rfl)
theorem dX4_must_8 : decode cX4_must 8 = .ok (.iload_n 2, 1) := dk_28 (dk_at dksX4_must_0 8 rfl rfl)
theorem dX4_must_9 : decode cX4_must 9 = .ok (.aload_n 0, 1) := dk_42 (dk_at dksX4_must_0 9 rfl rfl)
theorem dX4_must_10 : decode cX4_must 10 = .ok (.getfield 32, 3) := dk_180 0 32 (dk_at dksX4_must_0 10 rfl rfl)
theorem dX4_must_13 : decode cX4_must 13 = .ok (.invokespecial 36, 3) := dk_183 0 36 (dk_at dksX4_must_0 13 rfl rfl)
theorem dX4_must_16 : decode cX4_must 16 = .ok (.athrow, 1) := dk_191 (dk_at dksX4_must_0 16 rfl rfl)
theorem dX4_must_17 : decode cX4_must 17 = .ok (.return_, 1) := dk_177 (dk_at dksX4_must_0 17 rfl rfl)
abbrev cX4_all : ByteArray := prog_8_method_12_code
def yX4_all : MethodName := ⟨RX4, "all", "()LEventCounters$Block;"⟩
def dkwX4_all_2 : List UInt8 := [3, 16, 6, 182, 0, 74, 43, 176]
abbrev dktX4_all_2 : List UInt8 := dkwX4_all_2 ++ []
def dkwX4_all_1 : List UInt8 := [167, 0, 4, 3, 5, 182, 0, 74, 42, 43, 182, 0, 140, 20, 0, 144, 148, 157, 0, 7, 4, 167, 0, 4]
abbrev dktX4_all_1 : List UInt8 := dkwX4_all_1 ++ dktX4_all_2
def dkwX4_all_0 : List UInt8 := [187, 0, 135, 89, 183, 0, 139, 76, 42, 43, 3, 4, 182, 0, 114, 42, 42, 180, 0, 39, 154, 0, 7, 4]
abbrev dktX4_all_0 : List UInt8 := dkwX4_all_0 ++ dktX4_all_1
theorem dksX4_all_0 : cX4_all.data.toList.drop 0 = dktX4_all_0 := by decide +kernel
theorem dksX4_all_1 : cX4_all.data.toList.drop 24 = dktX4_all_1 := dk_seg dksX4_all_0 24 rfl rfl
theorem dksX4_all_2 : cX4_all.data.toList.drop 48 = dktX4_all_2 := dk_seg dksX4_all_1 24 rfl rfl
theorem dX4_all_0 : decode cX4_all 0 = .ok (.new 135, 3) := dk_187 0 135 (dk_at dksX4_all_0 0 rfl rfl)
theorem dX4_all_3 : decode cX4_all 3 = .ok (.dup, 1) := dk_89 (dk_at dksX4_all_0 3 rfl rfl)
theorem dX4_all_4 : decode cX4_all 4 = .ok (.invokespecial 139, 3) := dk_183 0 139 (dk_at dksX4_all_0 4 rfl rfl)
theorem dX4_all_7 : decode cX4_all 7 = .ok (.astore_n 1, 1) := dk_76 (dk_at dksX4_all_0 7 rfl rfl)
theorem dX4_all_8 : decode cX4_all 8 = .ok (.aload_n 0, 1) := dk_42 (dk_at dksX4_all_0 8 rfl rfl)
theorem dX4_all_9 : decode cX4_all 9 = .ok (.aload_n 1, 1) := dk_43 (dk_at dksX4_all_0 9 rfl rfl)
theorem dX4_all_10 : decode cX4_all 10 = .ok (.iconst 0, 1) := dk_3 (dk_at dksX4_all_0 10 rfl rfl)
theorem dX4_all_11 : decode cX4_all 11 = .ok (.iconst 1, 1) := dk_4 (dk_at dksX4_all_0 11 rfl rfl)
theorem dX4_all_12 : decode cX4_all 12 = .ok (.invokevirtual 114, 3) := dk_182 0 114 (dk_at dksX4_all_0 12 rfl rfl)
theorem dX4_all_15 : decode cX4_all 15 = .ok (.aload_n 0, 1) := dk_42 (dk_at dksX4_all_0 15 rfl rfl)
theorem dX4_all_16 : decode cX4_all 16 = .ok (.aload_n 0, 1) := dk_42 (dk_at dksX4_all_0 16 rfl rfl)
theorem dX4_all_17 : decode cX4_all 17 = .ok (.getfield 39, 3) := dk_180 0 39 (dk_at dksX4_all_0 17 rfl rfl)
theorem dX4_all_20 : decode cX4_all 20 = .ok (.ifCond .ne 7, 3) := dk_154 0 7 (dk_at dksX4_all_0 20 rfl rfl)
theorem dX4_all_23 : decode cX4_all 23 = .ok (.iconst 1, 1) := dk_4 (dk_at dksX4_all_0 23 rfl rfl)
theorem dX4_all_24 : decode cX4_all 24 = .ok (.goto 4, 3) := dk_167 0 4 (dk_at dksX4_all_1 0 rfl rfl)
theorem dX4_all_27 : decode cX4_all 27 = .ok (.iconst 0, 1) := dk_3 (dk_at dksX4_all_1 3 rfl rfl)
theorem dX4_all_28 : decode cX4_all 28 = .ok (.iconst 2, 1) := dk_5 (dk_at dksX4_all_1 4 rfl rfl)
theorem dX4_all_29 : decode cX4_all 29 = .ok (.invokevirtual 74, 3) := dk_182 0 74 (dk_at dksX4_all_1 5 rfl rfl)
theorem dX4_all_32 : decode cX4_all 32 = .ok (.aload_n 0, 1) := dk_42 (dk_at dksX4_all_1 8 rfl rfl)
theorem dX4_all_33 : decode cX4_all 33 = .ok (.aload_n 1, 1) := dk_43 (dk_at dksX4_all_1 9 rfl rfl)
theorem dX4_all_34 : decode cX4_all 34 = .ok (.invokevirtual 140, 3) := dk_182 0 140 (dk_at dksX4_all_1 10 rfl rfl)
theorem dX4_all_37 : decode cX4_all 37 = .ok (.ldc2_w 144, 3) := dk_20 0 144 (dk_at dksX4_all_1 13 rfl rfl)
theorem dX4_all_40 : decode cX4_all 40 = .ok (.lcmp, 1) := dk_148 (dk_at dksX4_all_1 16 rfl rfl)
theorem dX4_all_41 : decode cX4_all 41 = .ok (.ifCond .gt 7, 3) := dk_157 0 7 (dk_at dksX4_all_1 17 rfl rfl)
theorem dX4_all_44 : decode cX4_all 44 = .ok (.iconst 1, 1) := dk_4 (dk_at dksX4_all_1 20 rfl rfl)
theorem dX4_all_45 : decode cX4_all 45 = .ok (.goto 4, 3) := dk_167 0 4 (dk_at dksX4_all_1 21 rfl rfl)
theorem dX4_all_48 : decode cX4_all 48 = .ok (.iconst 0, 1) := dk_3 (dk_at dksX4_all_2 0 rfl rfl)
theorem dX4_all_49 : decode cX4_all 49 = .ok (.bipush 6, 2) := dk_16 6 (dk_at dksX4_all_2 1 rfl rfl)
theorem dX4_all_51 : decode cX4_all 51 = .ok (.invokevirtual 74, 3) := dk_182 0 74 (dk_at dksX4_all_2 3 rfl rfl)
theorem dX4_all_54 : decode cX4_all 54 = .ok (.aload_n 1, 1) := dk_43 (dk_at dksX4_all_2 6 rfl rfl)
theorem dX4_all_55 : decode cX4_all 55 = .ok (.areturn, 1) := dk_176 (dk_at dksX4_all_2 7 rfl rfl)
abbrev cX4_items : ByteArray := prog_8_method_11_code
def yX4_items : MethodName := ⟨RX4, "items", "(LEventCounters$Block;II)V"⟩
def dkwX4_items_2 : List UInt8 := [167, 255, 211, 177]
abbrev dktX4_items_2 : List UInt8 := dkwX4_items_2 ++ []
def dkwX4_items_1 : List UInt8 := [182, 0, 120, 153, 0, 11, 42, 28, 182, 0, 128, 167, 0, 9, 42, 28, 29, 182, 0, 131, 182, 0, 134]
abbrev dktX4_items_1 : List UInt8 := dkwX4_items_1 ++ dktX4_items_2
def dkwX4_items_0 : List UInt8 := [42, 18, 124, 182, 0, 120, 154, 0, 12, 42, 18, 126, 182, 0, 120, 153, 0, 33, 43, 42, 18, 124]
abbrev dktX4_items_0 : List UInt8 := dkwX4_items_0 ++ dktX4_items_1
theorem dksX4_items_0 : cX4_items.data.toList.drop 0 = dktX4_items_0 := by decide +kernel
theorem dksX4_items_1 : cX4_items.data.toList.drop 22 = dktX4_items_1 := dk_seg dksX4_items_0 22 rfl rfl
theorem dksX4_items_2 : cX4_items.data.toList.drop 45 = dktX4_items_2 := dk_seg dksX4_items_1 23 rfl rfl
theorem dX4_items_0 : decode cX4_items 0 = .ok (.aload_n 0, 1) := dk_42 (dk_at dksX4_items_0 0 rfl rfl)
theorem dX4_items_1 : decode cX4_items 1 = .ok (.ldc 124, 2) := dk_18 124 (dk_at dksX4_items_0 1 rfl rfl)
theorem dX4_items_3 : decode cX4_items 3 = .ok (.invokevirtual 120, 3) := dk_182 0 120 (dk_at dksX4_items_0 3 rfl rfl)
theorem dX4_items_6 : decode cX4_items 6 = .ok (.ifCond .ne 12, 3) := dk_154 0 12 (dk_at dksX4_items_0 6 rfl rfl)
theorem dX4_items_9 : decode cX4_items 9 = .ok (.aload_n 0, 1) := dk_42 (dk_at dksX4_items_0 9 rfl rfl)
theorem dX4_items_10 : decode cX4_items 10 = .ok (.ldc 126, 2) := dk_18 126 (dk_at dksX4_items_0 10 rfl rfl)
theorem dX4_items_12 : decode cX4_items 12 = .ok (.invokevirtual 120, 3) := dk_182 0 120 (dk_at dksX4_items_0 12 rfl rfl)
theorem dX4_items_15 : decode cX4_items 15 = .ok (.ifCond .eq 33, 3) := dk_153 0 33 (dk_at dksX4_items_0 15 rfl rfl)
theorem dX4_items_18 : decode cX4_items 18 = .ok (.aload_n 1, 1) := dk_43 (dk_at dksX4_items_0 18 rfl rfl)
theorem dX4_items_19 : decode cX4_items 19 = .ok (.aload_n 0, 1) := dk_42 (dk_at dksX4_items_0 19 rfl rfl)
theorem dX4_items_20 : decode cX4_items 20 = .ok (.ldc 124, 2) := dk_18 124 (dk_at dksX4_items_0 20 rfl rfl)
theorem dX4_items_22 : decode cX4_items 22 = .ok (.invokevirtual 120, 3) := dk_182 0 120 (dk_at dksX4_items_1 0 rfl rfl)
theorem dX4_items_25 : decode cX4_items 25 = .ok (.ifCond .eq 11, 3) := dk_153 0 11 (dk_at dksX4_items_1 3 rfl rfl)
theorem dX4_items_28 : decode cX4_items 28 = .ok (.aload_n 0, 1) := dk_42 (dk_at dksX4_items_1 6 rfl rfl)
theorem dX4_items_29 : decode cX4_items 29 = .ok (.iload_n 2, 1) := dk_28 (dk_at dksX4_items_1 7 rfl rfl)
theorem dX4_items_30 : decode cX4_items 30 = .ok (.invokevirtual 128, 3) := dk_182 0 128 (dk_at dksX4_items_1 8 rfl rfl)
theorem dX4_items_33 : decode cX4_items 33 = .ok (.goto 9, 3) := dk_167 0 9 (dk_at dksX4_items_1 11 rfl rfl)
theorem dX4_items_36 : decode cX4_items 36 = .ok (.aload_n 0, 1) := dk_42 (dk_at dksX4_items_1 14 rfl rfl)
theorem dX4_items_37 : decode cX4_items 37 = .ok (.iload_n 2, 1) := dk_28 (dk_at dksX4_items_1 15 rfl rfl)
theorem dX4_items_38 : decode cX4_items 38 = .ok (.iload_n 3, 1) := dk_29 (dk_at dksX4_items_1 16 rfl rfl)
theorem dX4_items_39 : decode cX4_items 39 = .ok (.invokevirtual 131, 3) := dk_182 0 131 (dk_at dksX4_items_1 17 rfl rfl)
theorem dX4_items_42 : decode cX4_items 42 = .ok (.invokevirtual 134, 3) := dk_182 0 134 (dk_at dksX4_items_1 20 rfl rfl)
theorem dX4_items_45 : decode cX4_items 45 = .ok (.goto (-45), 3) := dk_167 255 211 (dk_at dksX4_items_2 0 rfl rfl)
theorem dX4_items_48 : decode cX4_items 48 = .ok (.return_, 1) := dk_177 (dk_at dksX4_items_2 3 rfl rfl)
abbrev cX4_isWord : ByteArray := prog_8_method_4_code
def yX4_isWord : MethodName := ⟨RX4, "isWord", "(Ljava/lang/String;)Z"⟩
def dkwX4_isWord_3 : List UInt8 := [132, 3, 1, 167, 255, 217, 28, 172]
abbrev dktX4_isWord_3 : List UInt8 := dkwX4_isWord_3 ++ []
def dkwX4_isWord_2 : List UInt8 := [182, 0, 51, 42, 42, 180, 0, 32, 29, 96, 182, 0, 55, 160, 0, 7, 4, 167, 0, 4, 3, 61]
abbrev dktX4_isWord_2 : List UInt8 := dkwX4_isWord_2 ++ dktX4_isWord_3
def dkwX4_isWord_1 : List UInt8 := [4, 167, 0, 4, 3, 61, 3, 62, 29, 43, 182, 0, 42, 162, 0, 37, 28, 153, 0, 33, 43, 29]
abbrev dktX4_isWord_1 : List UInt8 := dkwX4_isWord_1 ++ dktX4_isWord_2
def dkwX4_isWord_0 : List UInt8 := [42, 180, 0, 39, 4, 160, 0, 23, 43, 182, 0, 42, 42, 180, 0, 48, 42, 180, 0, 32, 100, 160, 0, 7]
abbrev dktX4_isWord_0 : List UInt8 := dkwX4_isWord_0 ++ dktX4_isWord_1
theorem dksX4_isWord_0 : cX4_isWord.data.toList.drop 0 = dktX4_isWord_0 := by decide +kernel
theorem dksX4_isWord_1 : cX4_isWord.data.toList.drop 24 = dktX4_isWord_1 := dk_seg dksX4_isWord_0 24 rfl rfl
theorem dksX4_isWord_2 : cX4_isWord.data.toList.drop 46 = dktX4_isWord_2 := dk_seg dksX4_isWord_1 22 rfl rfl
theorem dksX4_isWord_3 : cX4_isWord.data.toList.drop 68 = dktX4_isWord_3 := dk_seg dksX4_isWord_2 22 rfl rfl
theorem dX4_isWord_0 : decode cX4_isWord 0 = .ok (.aload_n 0, 1) := dk_42 (dk_at dksX4_isWord_0 0 rfl rfl)
theorem dX4_isWord_1 : decode cX4_isWord 1 = .ok (.getfield 39, 3) := dk_180 0 39 (dk_at dksX4_isWord_0 1 rfl rfl)
theorem dX4_isWord_4 : decode cX4_isWord 4 = .ok (.iconst 1, 1) := dk_4 (dk_at dksX4_isWord_0 4 rfl rfl)
theorem dX4_isWord_5 : decode cX4_isWord 5 = .ok (.if_icmp .ne 23, 3) := dk_160 0 23 (dk_at dksX4_isWord_0 5 rfl rfl)
theorem dX4_isWord_8 : decode cX4_isWord 8 = .ok (.aload_n 1, 1) := dk_43 (dk_at dksX4_isWord_0 8 rfl rfl)
theorem dX4_isWord_9 : decode cX4_isWord 9 = .ok (.invokevirtual 42, 3) := dk_182 0 42 (dk_at dksX4_isWord_0 9 rfl rfl)
theorem dX4_isWord_12 : decode cX4_isWord 12 = .ok (.aload_n 0, 1) := dk_42 (dk_at dksX4_isWord_0 12 rfl rfl)
theorem dX4_isWord_13 : decode cX4_isWord 13 = .ok (.getfield 48, 3) := dk_180 0 48 (dk_at dksX4_isWord_0 13 rfl rfl)
theorem dX4_isWord_16 : decode cX4_isWord 16 = .ok (.aload_n 0, 1) := dk_42 (dk_at dksX4_isWord_0 16 rfl rfl)
theorem dX4_isWord_17 : decode cX4_isWord 17 = .ok (.getfield 32, 3) := dk_180 0 32 (dk_at dksX4_isWord_0 17 rfl rfl)
theorem dX4_isWord_20 : decode cX4_isWord 20 = .ok (.isub, 1) := dk_100 (dk_at dksX4_isWord_0 20 rfl rfl)
theorem dX4_isWord_21 : decode cX4_isWord 21 = .ok (.if_icmp .ne 7, 3) := dk_160 0 7 (dk_at dksX4_isWord_0 21 rfl rfl)
theorem dX4_isWord_24 : decode cX4_isWord 24 = .ok (.iconst 1, 1) := dk_4 (dk_at dksX4_isWord_1 0 rfl rfl)
theorem dX4_isWord_25 : decode cX4_isWord 25 = .ok (.goto 4, 3) := dk_167 0 4 (dk_at dksX4_isWord_1 1 rfl rfl)
theorem dX4_isWord_28 : decode cX4_isWord 28 = .ok (.iconst 0, 1) := dk_3 (dk_at dksX4_isWord_1 4 rfl rfl)
theorem dX4_isWord_29 : decode cX4_isWord 29 = .ok (.istore_n 2, 1) := dk_61 (dk_at dksX4_isWord_1 5 rfl rfl)
theorem dX4_isWord_30 : decode cX4_isWord 30 = .ok (.iconst 0, 1) := dk_3 (dk_at dksX4_isWord_1 6 rfl rfl)
theorem dX4_isWord_31 : decode cX4_isWord 31 = .ok (.istore_n 3, 1) := dk_62 (dk_at dksX4_isWord_1 7 rfl rfl)
theorem dX4_isWord_32 : decode cX4_isWord 32 = .ok (.iload_n 3, 1) := dk_29 (dk_at dksX4_isWord_1 8 rfl rfl)
theorem dX4_isWord_33 : decode cX4_isWord 33 = .ok (.aload_n 1, 1) := dk_43 (dk_at dksX4_isWord_1 9 rfl rfl)
theorem dX4_isWord_34 : decode cX4_isWord 34 = .ok (.invokevirtual 42, 3) := dk_182 0 42 (dk_at dksX4_isWord_1 10 rfl rfl)
theorem dX4_isWord_37 : decode cX4_isWord 37 = .ok (.if_icmp .ge 37, 3) := dk_162 0 37 (dk_at dksX4_isWord_1 13 rfl rfl)
theorem dX4_isWord_40 : decode cX4_isWord 40 = .ok (.iload_n 2, 1) := dk_28 (dk_at dksX4_isWord_1 16 rfl rfl)
theorem dX4_isWord_41 : decode cX4_isWord 41 = .ok (.ifCond .eq 33, 3) := dk_153 0 33 (dk_at dksX4_isWord_1 17 rfl rfl)
theorem dX4_isWord_44 : decode cX4_isWord 44 = .ok (.aload_n 1, 1) := dk_43 (dk_at dksX4_isWord_1 20 rfl rfl)
theorem dX4_isWord_45 : decode cX4_isWord 45 = .ok (.iload_n 3, 1) := dk_29 (dk_at dksX4_isWord_1 21 rfl rfl)
theorem dX4_isWord_46 : decode cX4_isWord 46 = .ok (.invokevirtual 51, 3) := dk_182 0 51 (dk_at dksX4_isWord_2 0 rfl rfl)
theorem dX4_isWord_49 : decode cX4_isWord 49 = .ok (.aload_n 0, 1) := dk_42 (dk_at dksX4_isWord_2 3 rfl rfl)
theorem dX4_isWord_50 : decode cX4_isWord 50 = .ok (.aload_n 0, 1) := dk_42 (dk_at dksX4_isWord_2 4 rfl rfl)
theorem dX4_isWord_51 : decode cX4_isWord 51 = .ok (.getfield 32, 3) := dk_180 0 32 (dk_at dksX4_isWord_2 5 rfl rfl)
theorem dX4_isWord_54 : decode cX4_isWord 54 = .ok (.iload_n 3, 1) := dk_29 (dk_at dksX4_isWord_2 8 rfl rfl)
theorem dX4_isWord_55 : decode cX4_isWord 55 = .ok (.iadd, 1) := dk_96 (dk_at dksX4_isWord_2 9 rfl rfl)
theorem dX4_isWord_56 : decode cX4_isWord 56 = .ok (.invokevirtual 55, 3) := dk_182 0 55 (dk_at dksX4_isWord_2 10 rfl rfl)
theorem dX4_isWord_59 : decode cX4_isWord 59 = .ok (.if_icmp .ne 7, 3) := dk_160 0 7 (dk_at dksX4_isWord_2 13 rfl rfl)
theorem dX4_isWord_62 : decode cX4_isWord 62 = .ok (.iconst 1, 1) := dk_4 (dk_at dksX4_isWord_2 16 rfl rfl)
theorem dX4_isWord_63 : decode cX4_isWord 63 = .ok (.goto 4, 3) := dk_167 0 4 (dk_at dksX4_isWord_2 17 rfl rfl)
theorem dX4_isWord_66 : decode cX4_isWord 66 = .ok (.iconst 0, 1) := dk_3 (dk_at dksX4_isWord_2 20 rfl rfl)
theorem dX4_isWord_67 : decode cX4_isWord 67 = .ok (.istore_n 2, 1) := dk_61 (dk_at dksX4_isWord_2 21 rfl rfl)
theorem dX4_isWord_68 : decode cX4_isWord 68 = .ok (.iinc 3 1, 3) := dk_132 3 1 (dk_at dksX4_isWord_3 0 rfl rfl)
theorem dX4_isWord_71 : decode cX4_isWord 71 = .ok (.goto (-39), 3) := dk_167 255 217 (dk_at dksX4_isWord_3 3 rfl rfl)
theorem dX4_isWord_74 : decode cX4_isWord 74 = .ok (.iload_n 2, 1) := dk_28 (dk_at dksX4_isWord_3 6 rfl rfl)
theorem dX4_isWord_75 : decode cX4_isWord 75 = .ok (.ireturn, 1) := dk_172 (dk_at dksX4_isWord_3 7 rfl rfl)
abbrev cX4_line : ByteArray := prog_8_method_8_code
def yX4_line : MethodName := ⟨RX4, "line", "(I)LEventCounters$Item;"⟩
def dkwX4_line_7 : List UInt8 := [180, 0, 78, 4, 96, 181, 0, 78, 44, 176]
abbrev dktX4_line_7 : List UInt8 := dkwX4_line_7 ++ []
def dkwX4_line_6 : List UInt8 := [182, 0, 81, 79, 167, 255, 159, 42, 182, 0, 94, 42, 180, 0, 11, 42, 180, 0, 78, 44, 83, 42, 89]
abbrev dktX4_line_6 : List UInt8 := dkwX4_line_6 ++ dktX4_line_7
def dkwX4_line_5 : List UInt8 := [182, 0, 74, 29, 4, 21, 4, 120, 128, 62, 42, 182, 0, 27, 44, 180, 0, 90, 21, 4, 42, 3, 16, 99]
abbrev dktX4_line_5 : List UInt8 := dkwX4_line_5 ++ dktX4_line_6
def dkwX4_line_4 : List UInt8 := [167, 0, 4, 3, 6, 182, 0, 74, 42, 29, 21, 4, 122, 4, 126, 154, 0, 7, 4, 167, 0, 4, 3, 7]
abbrev dktX4_line_4 : List UInt8 := dkwX4_line_4 ++ dktX4_line_5
def dkwX4_line_3 : List UInt8 := [180, 0, 32, 100, 4, 160, 0, 20, 21, 4, 133, 9, 20, 0, 88, 184, 0, 66, 153, 0, 7, 4]
abbrev dktX4_line_3 : List UInt8 := dkwX4_line_3 ++ dktX4_line_4
def dkwX4_line_2 : List UInt8 := [180, 0, 39, 4, 160, 0, 95, 42, 180, 0, 59, 16, 97, 100, 54, 4, 42, 42, 180, 0, 48, 42]
abbrev dktX4_line_2 : List UInt8 := dkwX4_line_2 ++ dktX4_line_3
def dkwX4_line_1 : List UInt8 := [187, 0, 9, 89, 42, 180, 0, 78, 27, 42, 4, 16, 20, 182, 0, 81, 183, 0, 85, 77, 3, 62, 42]
abbrev dktX4_line_1 : List UInt8 := dkwX4_line_1 ++ dktX4_line_2
def dkwX4_line_0 : List UInt8 := [42, 42, 180, 0, 78, 16, 16, 162, 0, 7, 4, 167, 0, 4, 3, 8, 182, 0, 74, 42, 182, 0, 27]
abbrev dktX4_line_0 : List UInt8 := dkwX4_line_0 ++ dktX4_line_1
theorem dksX4_line_0 : cX4_line.data.toList.drop 0 = dktX4_line_0 := by decide +kernel
theorem dksX4_line_1 : cX4_line.data.toList.drop 23 = dktX4_line_1 := dk_seg dksX4_line_0 23 rfl rfl
theorem dksX4_line_2 : cX4_line.data.toList.drop 46 = dktX4_line_2 := dk_seg dksX4_line_1 23 rfl rfl
theorem dksX4_line_3 : cX4_line.data.toList.drop 68 = dktX4_line_3 := dk_seg dksX4_line_2 22 rfl rfl
theorem dksX4_line_4 : cX4_line.data.toList.drop 90 = dktX4_line_4 := dk_seg dksX4_line_3 22 rfl rfl
theorem dksX4_line_5 : cX4_line.data.toList.drop 114 = dktX4_line_5 := dk_seg dksX4_line_4 24 rfl rfl
theorem dksX4_line_6 : cX4_line.data.toList.drop 138 = dktX4_line_6 := dk_seg dksX4_line_5 24 rfl rfl
theorem dksX4_line_7 : cX4_line.data.toList.drop 161 = dktX4_line_7 := dk_seg dksX4_line_6 23 rfl rfl
theorem dX4_line_0 : decode cX4_line 0 = .ok (.aload_n 0, 1) := dk_42 (dk_at dksX4_line_0 0 rfl rfl)
theorem dX4_line_1 : decode cX4_line 1 = .ok (.aload_n 0, 1) := dk_42 (dk_at dksX4_line_0 1 rfl rfl)
theorem dX4_line_2 : decode cX4_line 2 = .ok (.getfield 78, 3) := dk_180 0 78 (dk_at dksX4_line_0 2 rfl rfl)
theorem dX4_line_5 : decode cX4_line 5 = .ok (.bipush 16, 2) := dk_16 16 (dk_at dksX4_line_0 5 rfl rfl)
theorem dX4_line_7 : decode cX4_line 7 = .ok (.if_icmp .ge 7, 3) := dk_162 0 7 (dk_at dksX4_line_0 7 rfl rfl)
theorem dX4_line_10 : decode cX4_line 10 = .ok (.iconst 1, 1) := dk_4 (dk_at dksX4_line_0 10 rfl rfl)
theorem dX4_line_11 : decode cX4_line 11 = .ok (.goto 4, 3) := dk_167 0 4 (dk_at dksX4_line_0 11 rfl rfl)
theorem dX4_line_14 : decode cX4_line 14 = .ok (.iconst 0, 1) := dk_3 (dk_at dksX4_line_0 14 rfl rfl)
theorem dX4_line_15 : decode cX4_line 15 = .ok (.iconst 5, 1) := dk_8 (dk_at dksX4_line_0 15 rfl rfl)
theorem dX4_line_16 : decode cX4_line 16 = .ok (.invokevirtual 74, 3) := dk_182 0 74 (dk_at dksX4_line_0 16 rfl rfl)
theorem dX4_line_19 : decode cX4_line 19 = .ok (.aload_n 0, 1) := dk_42 (dk_at dksX4_line_0 19 rfl rfl)
theorem dX4_line_20 : decode cX4_line 20 = .ok (.invokevirtual 27, 3) := dk_182 0 27 (dk_at dksX4_line_0 20 rfl rfl)
theorem dX4_line_23 : decode cX4_line 23 = .ok (.new 9, 3) := dk_187 0 9 (dk_at dksX4_line_1 0 rfl rfl)
theorem dX4_line_26 : decode cX4_line 26 = .ok (.dup, 1) := dk_89 (dk_at dksX4_line_1 3 rfl rfl)
theorem dX4_line_27 : decode cX4_line 27 = .ok (.aload_n 0, 1) := dk_42 (dk_at dksX4_line_1 4 rfl rfl)
theorem dX4_line_28 : decode cX4_line 28 = .ok (.getfield 78, 3) := dk_180 0 78 (dk_at dksX4_line_1 5 rfl rfl)
theorem dX4_line_31 : decode cX4_line 31 = .ok (.iload_n 1, 1) := dk_27 (dk_at dksX4_line_1 8 rfl rfl)
theorem dX4_line_32 : decode cX4_line 32 = .ok (.aload_n 0, 1) := dk_42 (dk_at dksX4_line_1 9 rfl rfl)
theorem dX4_line_33 : decode cX4_line 33 = .ok (.iconst 1, 1) := dk_4 (dk_at dksX4_line_1 10 rfl rfl)
theorem dX4_line_34 : decode cX4_line 34 = .ok (.bipush 20, 2) := dk_16 20 (dk_at dksX4_line_1 11 rfl rfl)
theorem dX4_line_36 : decode cX4_line 36 = .ok (.invokevirtual 81, 3) := dk_182 0 81 (dk_at dksX4_line_1 13 rfl rfl)
theorem dX4_line_39 : decode cX4_line 39 = .ok (.invokespecial 85, 3) := dk_183 0 85 (dk_at dksX4_line_1 16 rfl rfl)
theorem dX4_line_42 : decode cX4_line 42 = .ok (.astore_n 2, 1) := dk_77 (dk_at dksX4_line_1 19 rfl rfl)
theorem dX4_line_43 : decode cX4_line 43 = .ok (.iconst 0, 1) := dk_3 (dk_at dksX4_line_1 20 rfl rfl)
theorem dX4_line_44 : decode cX4_line 44 = .ok (.istore_n 3, 1) := dk_62 (dk_at dksX4_line_1 21 rfl rfl)
theorem dX4_line_45 : decode cX4_line 45 = .ok (.aload_n 0, 1) := dk_42 (dk_at dksX4_line_1 22 rfl rfl)
theorem dX4_line_46 : decode cX4_line 46 = .ok (.getfield 39, 3) := dk_180 0 39 (dk_at dksX4_line_2 0 rfl rfl)
theorem dX4_line_49 : decode cX4_line 49 = .ok (.iconst 1, 1) := dk_4 (dk_at dksX4_line_2 3 rfl rfl)
theorem dX4_line_50 : decode cX4_line 50 = .ok (.if_icmp .ne 95, 3) := dk_160 0 95 (dk_at dksX4_line_2 4 rfl rfl)
theorem dX4_line_53 : decode cX4_line 53 = .ok (.aload_n 0, 1) := dk_42 (dk_at dksX4_line_2 7 rfl rfl)
theorem dX4_line_54 : decode cX4_line 54 = .ok (.getfield 59, 3) := dk_180 0 59 (dk_at dksX4_line_2 8 rfl rfl)
theorem dX4_line_57 : decode cX4_line 57 = .ok (.bipush 97, 2) := dk_16 97 (dk_at dksX4_line_2 11 rfl rfl)
theorem dX4_line_59 : decode cX4_line 59 = .ok (.isub, 1) := dk_100 (dk_at dksX4_line_2 13 rfl rfl)
theorem dX4_line_60 : decode cX4_line 60 = .ok (.istore 4, 2) := dk_54 4 (dk_at dksX4_line_2 14 rfl rfl)
theorem dX4_line_62 : decode cX4_line 62 = .ok (.aload_n 0, 1) := dk_42 (dk_at dksX4_line_2 16 rfl rfl)
theorem dX4_line_63 : decode cX4_line 63 = .ok (.aload_n 0, 1) := dk_42 (dk_at dksX4_line_2 17 rfl rfl)
theorem dX4_line_64 : decode cX4_line 64 = .ok (.getfield 48, 3) := dk_180 0 48 (dk_at dksX4_line_2 18 rfl rfl)
theorem dX4_line_67 : decode cX4_line 67 = .ok (.aload_n 0, 1) := dk_42 (dk_at dksX4_line_2 21 rfl rfl)
theorem dX4_line_68 : decode cX4_line 68 = .ok (.getfield 32, 3) := dk_180 0 32 (dk_at dksX4_line_3 0 rfl rfl)
theorem dX4_line_71 : decode cX4_line 71 = .ok (.isub, 1) := dk_100 (dk_at dksX4_line_3 3 rfl rfl)
theorem dX4_line_72 : decode cX4_line 72 = .ok (.iconst 1, 1) := dk_4 (dk_at dksX4_line_3 4 rfl rfl)
theorem dX4_line_73 : decode cX4_line 73 = .ok (.if_icmp .ne 20, 3) := dk_160 0 20 (dk_at dksX4_line_3 5 rfl rfl)
theorem dX4_line_76 : decode cX4_line 76 = .ok (.iload 4, 2) := dk_21 4 (dk_at dksX4_line_3 8 rfl rfl)
theorem dX4_line_78 : decode cX4_line 78 = .ok (.i2l, 1) := dk_133 (dk_at dksX4_line_3 10 rfl rfl)
theorem dX4_line_79 : decode cX4_line 79 = .ok (.lconst 0, 1) := dk_9 (dk_at dksX4_line_3 11 rfl rfl)
theorem dX4_line_80 : decode cX4_line 80 = .ok (.ldc2_w 88, 3) := dk_20 0 88 (dk_at dksX4_line_3 12 rfl rfl)
theorem dX4_line_83 : decode cX4_line 83 = .ok (.invokestatic 66, 3) := dk_184 0 66 (dk_at dksX4_line_3 15 rfl rfl)
theorem dX4_line_86 : decode cX4_line 86 = .ok (.ifCond .eq 7, 3) := dk_153 0 7 (dk_at dksX4_line_3 18 rfl rfl)
theorem dX4_line_89 : decode cX4_line 89 = .ok (.iconst 1, 1) := dk_4 (dk_at dksX4_line_3 21 rfl rfl)
theorem dX4_line_90 : decode cX4_line 90 = .ok (.goto 4, 3) := dk_167 0 4 (dk_at dksX4_line_4 0 rfl rfl)
theorem dX4_line_93 : decode cX4_line 93 = .ok (.iconst 0, 1) := dk_3 (dk_at dksX4_line_4 3 rfl rfl)
theorem dX4_line_94 : decode cX4_line 94 = .ok (.iconst 3, 1) := dk_6 (dk_at dksX4_line_4 4 rfl rfl)
theorem dX4_line_95 : decode cX4_line 95 = .ok (.invokevirtual 74, 3) := dk_182 0 74 (dk_at dksX4_line_4 5 rfl rfl)
theorem dX4_line_98 : decode cX4_line 98 = .ok (.aload_n 0, 1) := dk_42 (dk_at dksX4_line_4 8 rfl rfl)
theorem dX4_line_99 : decode cX4_line 99 = .ok (.iload_n 3, 1) := dk_29 (dk_at dksX4_line_4 9 rfl rfl)
theorem dX4_line_100 : decode cX4_line 100 = .ok (.iload 4, 2) := dk_21 4 (dk_at dksX4_line_4 10 rfl rfl)
theorem dX4_line_102 : decode cX4_line 102 = .ok (.ishr, 1) := dk_122 (dk_at dksX4_line_4 12 rfl rfl)
theorem dX4_line_103 : decode cX4_line 103 = .ok (.iconst 1, 1) := dk_4 (dk_at dksX4_line_4 13 rfl rfl)
theorem dX4_line_104 : decode cX4_line 104 = .ok (.iand, 1) := dk_126 (dk_at dksX4_line_4 14 rfl rfl)
theorem dX4_line_105 : decode cX4_line 105 = .ok (.ifCond .ne 7, 3) := dk_154 0 7 (dk_at dksX4_line_4 15 rfl rfl)
theorem dX4_line_108 : decode cX4_line 108 = .ok (.iconst 1, 1) := dk_4 (dk_at dksX4_line_4 18 rfl rfl)
theorem dX4_line_109 : decode cX4_line 109 = .ok (.goto 4, 3) := dk_167 0 4 (dk_at dksX4_line_4 19 rfl rfl)
theorem dX4_line_112 : decode cX4_line 112 = .ok (.iconst 0, 1) := dk_3 (dk_at dksX4_line_4 22 rfl rfl)
theorem dX4_line_113 : decode cX4_line 113 = .ok (.iconst 4, 1) := dk_7 (dk_at dksX4_line_4 23 rfl rfl)
theorem dX4_line_114 : decode cX4_line 114 = .ok (.invokevirtual 74, 3) := dk_182 0 74 (dk_at dksX4_line_5 0 rfl rfl)
theorem dX4_line_117 : decode cX4_line 117 = .ok (.iload_n 3, 1) := dk_29 (dk_at dksX4_line_5 3 rfl rfl)
theorem dX4_line_118 : decode cX4_line 118 = .ok (.iconst 1, 1) := dk_4 (dk_at dksX4_line_5 4 rfl rfl)
theorem dX4_line_119 : decode cX4_line 119 = .ok (.iload 4, 2) := dk_21 4 (dk_at dksX4_line_5 5 rfl rfl)
theorem dX4_line_121 : decode cX4_line 121 = .ok (.ishl, 1) := dk_120 (dk_at dksX4_line_5 7 rfl rfl)
theorem dX4_line_122 : decode cX4_line 122 = .ok (.ior, 1) := dk_128 (dk_at dksX4_line_5 8 rfl rfl)
theorem dX4_line_123 : decode cX4_line 123 = .ok (.istore_n 3, 1) := dk_62 (dk_at dksX4_line_5 9 rfl rfl)
theorem dX4_line_124 : decode cX4_line 124 = .ok (.aload_n 0, 1) := dk_42 (dk_at dksX4_line_5 10 rfl rfl)
theorem dX4_line_125 : decode cX4_line 125 = .ok (.invokevirtual 27, 3) := dk_182 0 27 (dk_at dksX4_line_5 11 rfl rfl)
theorem dX4_line_128 : decode cX4_line 128 = .ok (.aload_n 2, 1) := dk_44 (dk_at dksX4_line_5 14 rfl rfl)
theorem dX4_line_129 : decode cX4_line 129 = .ok (.getfield 90, 3) := dk_180 0 90 (dk_at dksX4_line_5 15 rfl rfl)
theorem dX4_line_132 : decode cX4_line 132 = .ok (.iload 4, 2) := dk_21 4 (dk_at dksX4_line_5 18 rfl rfl)
theorem dX4_line_134 : decode cX4_line 134 = .ok (.aload_n 0, 1) := dk_42 (dk_at dksX4_line_5 20 rfl rfl)
theorem dX4_line_135 : decode cX4_line 135 = .ok (.iconst 0, 1) := dk_3 (dk_at dksX4_line_5 21 rfl rfl)
theorem dX4_line_136 : decode cX4_line 136 = .ok (.bipush 99, 2) := dk_16 99 (dk_at dksX4_line_5 22 rfl rfl)
theorem dX4_line_138 : decode cX4_line 138 = .ok (.invokevirtual 81, 3) := dk_182 0 81 (dk_at dksX4_line_6 0 rfl rfl)
theorem dX4_line_141 : decode cX4_line 141 = .ok (.iastore, 1) := dk_79 (dk_at dksX4_line_6 3 rfl rfl)
theorem dX4_line_142 : decode cX4_line 142 = .ok (.goto (-97), 3) := dk_167 255 159 (dk_at dksX4_line_6 4 rfl rfl)
theorem dX4_line_145 : decode cX4_line 145 = .ok (.aload_n 0, 1) := dk_42 (dk_at dksX4_line_6 7 rfl rfl)
theorem dX4_line_146 : decode cX4_line 146 = .ok (.invokevirtual 94, 3) := dk_182 0 94 (dk_at dksX4_line_6 8 rfl rfl)
theorem dX4_line_149 : decode cX4_line 149 = .ok (.aload_n 0, 1) := dk_42 (dk_at dksX4_line_6 11 rfl rfl)
theorem dX4_line_150 : decode cX4_line 150 = .ok (.getfield 11, 3) := dk_180 0 11 (dk_at dksX4_line_6 12 rfl rfl)
theorem dX4_line_153 : decode cX4_line 153 = .ok (.aload_n 0, 1) := dk_42 (dk_at dksX4_line_6 15 rfl rfl)
theorem dX4_line_154 : decode cX4_line 154 = .ok (.getfield 78, 3) := dk_180 0 78 (dk_at dksX4_line_6 16 rfl rfl)
theorem dX4_line_157 : decode cX4_line 157 = .ok (.aload_n 2, 1) := dk_44 (dk_at dksX4_line_6 19 rfl rfl)
theorem dX4_line_158 : decode cX4_line 158 = .ok (.aastore, 1) := dk_83 (dk_at dksX4_line_6 20 rfl rfl)
theorem dX4_line_159 : decode cX4_line 159 = .ok (.aload_n 0, 1) := dk_42 (dk_at dksX4_line_6 21 rfl rfl)
theorem dX4_line_160 : decode cX4_line 160 = .ok (.dup, 1) := dk_89 (dk_at dksX4_line_6 22 rfl rfl)
theorem dX4_line_161 : decode cX4_line 161 = .ok (.getfield 78, 3) := dk_180 0 78 (dk_at dksX4_line_7 0 rfl rfl)
theorem dX4_line_164 : decode cX4_line 164 = .ok (.iconst 1, 1) := dk_4 (dk_at dksX4_line_7 3 rfl rfl)
theorem dX4_line_165 : decode cX4_line 165 = .ok (.iadd, 1) := dk_96 (dk_at dksX4_line_7 4 rfl rfl)
theorem dX4_line_166 : decode cX4_line 166 = .ok (.putfield 78, 3) := dk_181 0 78 (dk_at dksX4_line_7 5 rfl rfl)
theorem dX4_line_169 : decode cX4_line 169 = .ok (.aload_n 2, 1) := dk_44 (dk_at dksX4_line_7 8 rfl rfl)
theorem dX4_line_170 : decode cX4_line 170 = .ok (.areturn, 1) := dk_176 (dk_at dksX4_line_7 9 rfl rfl)
abbrev cX4_number : ByteArray := prog_8_method_6_code
def yX4_number : MethodName := ⟨RX4, "number", "(II)I"⟩
def dkwX4_number_1 : List UInt8 := [27, 133, 28, 133, 184, 0, 66, 6, 182, 0, 74, 42, 180, 0, 59, 62, 42, 182, 0, 27, 29, 172]
abbrev dktX4_number_1 : List UInt8 := dkwX4_number_1 ++ []
def dkwX4_number_0 : List UInt8 := [42, 42, 180, 0, 39, 5, 160, 0, 7, 4, 167, 0, 4, 3, 5, 182, 0, 74, 42, 42, 180, 0, 59, 133]
abbrev dktX4_number_0 : List UInt8 := dkwX4_number_0 ++ dktX4_number_1
theorem dksX4_number_0 : cX4_number.data.toList.drop 0 = dktX4_number_0 := by decide +kernel
theorem dksX4_number_1 : cX4_number.data.toList.drop 24 = dktX4_number_1 := dk_seg dksX4_number_0 24 rfl rfl
theorem dX4_number_0 : decode cX4_number 0 = .ok (.aload_n 0, 1) := dk_42 (dk_at dksX4_number_0 0 rfl rfl)
theorem dX4_number_1 : decode cX4_number 1 = .ok (.aload_n 0, 1) := dk_42 (dk_at dksX4_number_0 1 rfl rfl)
theorem dX4_number_2 : decode cX4_number 2 = .ok (.getfield 39, 3) := dk_180 0 39 (dk_at dksX4_number_0 2 rfl rfl)
theorem dX4_number_5 : decode cX4_number 5 = .ok (.iconst 2, 1) := dk_5 (dk_at dksX4_number_0 5 rfl rfl)
theorem dX4_number_6 : decode cX4_number 6 = .ok (.if_icmp .ne 7, 3) := dk_160 0 7 (dk_at dksX4_number_0 6 rfl rfl)
theorem dX4_number_9 : decode cX4_number 9 = .ok (.iconst 1, 1) := dk_4 (dk_at dksX4_number_0 9 rfl rfl)
theorem dX4_number_10 : decode cX4_number 10 = .ok (.goto 4, 3) := dk_167 0 4 (dk_at dksX4_number_0 10 rfl rfl)
theorem dX4_number_13 : decode cX4_number 13 = .ok (.iconst 0, 1) := dk_3 (dk_at dksX4_number_0 13 rfl rfl)
theorem dX4_number_14 : decode cX4_number 14 = .ok (.iconst 2, 1) := dk_5 (dk_at dksX4_number_0 14 rfl rfl)
theorem dX4_number_15 : decode cX4_number 15 = .ok (.invokevirtual 74, 3) := dk_182 0 74 (dk_at dksX4_number_0 15 rfl rfl)
theorem dX4_number_18 : decode cX4_number 18 = .ok (.aload_n 0, 1) := dk_42 (dk_at dksX4_number_0 18 rfl rfl)
theorem dX4_number_19 : decode cX4_number 19 = .ok (.aload_n 0, 1) := dk_42 (dk_at dksX4_number_0 19 rfl rfl)
theorem dX4_number_20 : decode cX4_number 20 = .ok (.getfield 59, 3) := dk_180 0 59 (dk_at dksX4_number_0 20 rfl rfl)
theorem dX4_number_23 : decode cX4_number 23 = .ok (.i2l, 1) := dk_133 (dk_at dksX4_number_0 23 rfl rfl)
theorem dX4_number_24 : decode cX4_number 24 = .ok (.iload_n 1, 1) := dk_27 (dk_at dksX4_number_1 0 rfl rfl)
theorem dX4_number_25 : decode cX4_number 25 = .ok (.i2l, 1) := dk_133 (dk_at dksX4_number_1 1 rfl rfl)
theorem dX4_number_26 : decode cX4_number 26 = .ok (.iload_n 2, 1) := dk_28 (dk_at dksX4_number_1 2 rfl rfl)
theorem dX4_number_27 : decode cX4_number 27 = .ok (.i2l, 1) := dk_133 (dk_at dksX4_number_1 3 rfl rfl)
theorem dX4_number_28 : decode cX4_number 28 = .ok (.invokestatic 66, 3) := dk_184 0 66 (dk_at dksX4_number_1 4 rfl rfl)
theorem dX4_number_31 : decode cX4_number 31 = .ok (.iconst 3, 1) := dk_6 (dk_at dksX4_number_1 7 rfl rfl)
theorem dX4_number_32 : decode cX4_number 32 = .ok (.invokevirtual 74, 3) := dk_182 0 74 (dk_at dksX4_number_1 8 rfl rfl)
theorem dX4_number_35 : decode cX4_number 35 = .ok (.aload_n 0, 1) := dk_42 (dk_at dksX4_number_1 11 rfl rfl)
theorem dX4_number_36 : decode cX4_number 36 = .ok (.getfield 59, 3) := dk_180 0 59 (dk_at dksX4_number_1 12 rfl rfl)
theorem dX4_number_39 : decode cX4_number 39 = .ok (.istore_n 3, 1) := dk_62 (dk_at dksX4_number_1 15 rfl rfl)
theorem dX4_number_40 : decode cX4_number 40 = .ok (.aload_n 0, 1) := dk_42 (dk_at dksX4_number_1 16 rfl rfl)
theorem dX4_number_41 : decode cX4_number 41 = .ok (.invokevirtual 27, 3) := dk_182 0 27 (dk_at dksX4_number_1 17 rfl rfl)
theorem dX4_number_44 : decode cX4_number 44 = .ok (.iload_n 3, 1) := dk_29 (dk_at dksX4_number_1 20 rfl rfl)
theorem dX4_number_45 : decode cX4_number 45 = .ok (.ireturn, 1) := dk_172 (dk_at dksX4_number_1 21 rfl rfl)
abbrev cX4_sign : ByteArray := prog_8_method_7_code
def yX4_sign : MethodName := ⟨RX4, "sign", "()V"⟩
def dkwX4_sign_0 : List UInt8 := [42, 42, 180, 0, 39, 6, 160, 0, 7, 4, 167, 0, 4, 3, 5, 182, 0, 74, 42, 182, 0, 27, 177]
abbrev dktX4_sign_0 : List UInt8 := dkwX4_sign_0 ++ []
theorem dksX4_sign_0 : cX4_sign.data.toList.drop 0 = dktX4_sign_0 := by decide +kernel
theorem dX4_sign_0 : decode cX4_sign 0 = .ok (.aload_n 0, 1) := dk_42 (dk_at dksX4_sign_0 0 rfl rfl)
theorem dX4_sign_1 : decode cX4_sign 1 = .ok (.aload_n 0, 1) := dk_42 (dk_at dksX4_sign_0 1 rfl rfl)
theorem dX4_sign_2 : decode cX4_sign 2 = .ok (.getfield 39, 3) := dk_180 0 39 (dk_at dksX4_sign_0 2 rfl rfl)
theorem dX4_sign_5 : decode cX4_sign 5 = .ok (.iconst 3, 1) := dk_6 (dk_at dksX4_sign_0 5 rfl rfl)
theorem dX4_sign_6 : decode cX4_sign 6 = .ok (.if_icmp .ne 7, 3) := dk_160 0 7 (dk_at dksX4_sign_0 6 rfl rfl)
theorem dX4_sign_9 : decode cX4_sign 9 = .ok (.iconst 1, 1) := dk_4 (dk_at dksX4_sign_0 9 rfl rfl)
theorem dX4_sign_10 : decode cX4_sign 10 = .ok (.goto 4, 3) := dk_167 0 4 (dk_at dksX4_sign_0 10 rfl rfl)
theorem dX4_sign_13 : decode cX4_sign 13 = .ok (.iconst 0, 1) := dk_3 (dk_at dksX4_sign_0 13 rfl rfl)
theorem dX4_sign_14 : decode cX4_sign 14 = .ok (.iconst 2, 1) := dk_5 (dk_at dksX4_sign_0 14 rfl rfl)
theorem dX4_sign_15 : decode cX4_sign 15 = .ok (.invokevirtual 74, 3) := dk_182 0 74 (dk_at dksX4_sign_0 15 rfl rfl)
theorem dX4_sign_18 : decode cX4_sign 18 = .ok (.aload_n 0, 1) := dk_42 (dk_at dksX4_sign_0 18 rfl rfl)
theorem dX4_sign_19 : decode cX4_sign 19 = .ok (.invokevirtual 27, 3) := dk_182 0 27 (dk_at dksX4_sign_0 19 rfl rfl)
theorem dX4_sign_22 : decode cX4_sign 22 = .ok (.return_, 1) := dk_177 (dk_at dksX4_sign_0 22 rfl rfl)
abbrev cX4_loop : ByteArray := prog_8_method_10_code
def yX4_loop : MethodName := ⟨RX4, "loop", "(II)LEventCounters$Item;"⟩
def dkwX4_loop_3 : List UInt8 := [182, 0, 27, 42, 182, 0, 94, 45, 176]
abbrev dktX4_loop_3 : List UInt8 := dkwX4_loop_3 ++ []
def dkwX4_loop_2 : List UInt8 := [4, 96, 28, 45, 180, 0, 111, 104, 182, 0, 114, 42, 42, 18, 118, 182, 0, 120, 5, 182, 0, 74, 42]
abbrev dktX4_loop_2 : List UInt8 := dkwX4_loop_2 ++ dktX4_loop_3
def dkwX4_loop_1 : List UInt8 := [4, 16, 99, 182, 0, 81, 27, 28, 183, 0, 106, 78, 42, 45, 182, 0, 107, 42, 182, 0, 94, 42, 45, 27]
abbrev dktX4_loop_1 : List UInt8 := dkwX4_loop_1 ++ dktX4_loop_2
def dkwX4_loop_0 : List UInt8 := [42, 27, 7, 162, 0, 7, 4, 167, 0, 4, 3, 8, 182, 0, 74, 42, 182, 0, 27, 187, 0, 17, 89, 42]
abbrev dktX4_loop_0 : List UInt8 := dkwX4_loop_0 ++ dktX4_loop_1
theorem dksX4_loop_0 : cX4_loop.data.toList.drop 0 = dktX4_loop_0 := by decide +kernel
theorem dksX4_loop_1 : cX4_loop.data.toList.drop 24 = dktX4_loop_1 := dk_seg dksX4_loop_0 24 rfl rfl
theorem dksX4_loop_2 : cX4_loop.data.toList.drop 48 = dktX4_loop_2 := dk_seg dksX4_loop_1 24 rfl rfl
theorem dksX4_loop_3 : cX4_loop.data.toList.drop 71 = dktX4_loop_3 := dk_seg dksX4_loop_2 23 rfl rfl
theorem dX4_loop_0 : decode cX4_loop 0 = .ok (.aload_n 0, 1) := dk_42 (dk_at dksX4_loop_0 0 rfl rfl)
theorem dX4_loop_1 : decode cX4_loop 1 = .ok (.iload_n 1, 1) := dk_27 (dk_at dksX4_loop_0 1 rfl rfl)
theorem dX4_loop_2 : decode cX4_loop 2 = .ok (.iconst 4, 1) := dk_7 (dk_at dksX4_loop_0 2 rfl rfl)
theorem dX4_loop_3 : decode cX4_loop 3 = .ok (.if_icmp .ge 7, 3) := dk_162 0 7 (dk_at dksX4_loop_0 3 rfl rfl)
theorem dX4_loop_6 : decode cX4_loop 6 = .ok (.iconst 1, 1) := dk_4 (dk_at dksX4_loop_0 6 rfl rfl)
theorem dX4_loop_7 : decode cX4_loop 7 = .ok (.goto 4, 3) := dk_167 0 4 (dk_at dksX4_loop_0 7 rfl rfl)
theorem dX4_loop_10 : decode cX4_loop 10 = .ok (.iconst 0, 1) := dk_3 (dk_at dksX4_loop_0 10 rfl rfl)
theorem dX4_loop_11 : decode cX4_loop 11 = .ok (.iconst 5, 1) := dk_8 (dk_at dksX4_loop_0 11 rfl rfl)
theorem dX4_loop_12 : decode cX4_loop 12 = .ok (.invokevirtual 74, 3) := dk_182 0 74 (dk_at dksX4_loop_0 12 rfl rfl)
theorem dX4_loop_15 : decode cX4_loop 15 = .ok (.aload_n 0, 1) := dk_42 (dk_at dksX4_loop_0 15 rfl rfl)
theorem dX4_loop_16 : decode cX4_loop 16 = .ok (.invokevirtual 27, 3) := dk_182 0 27 (dk_at dksX4_loop_0 16 rfl rfl)
theorem dX4_loop_19 : decode cX4_loop 19 = .ok (.new 17, 3) := dk_187 0 17 (dk_at dksX4_loop_0 19 rfl rfl)
theorem dX4_loop_22 : decode cX4_loop 22 = .ok (.dup, 1) := dk_89 (dk_at dksX4_loop_0 22 rfl rfl)
theorem dX4_loop_23 : decode cX4_loop 23 = .ok (.aload_n 0, 1) := dk_42 (dk_at dksX4_loop_0 23 rfl rfl)
theorem dX4_loop_24 : decode cX4_loop 24 = .ok (.iconst 1, 1) := dk_4 (dk_at dksX4_loop_1 0 rfl rfl)
theorem dX4_loop_25 : decode cX4_loop 25 = .ok (.bipush 99, 2) := dk_16 99 (dk_at dksX4_loop_1 1 rfl rfl)
theorem dX4_loop_27 : decode cX4_loop 27 = .ok (.invokevirtual 81, 3) := dk_182 0 81 (dk_at dksX4_loop_1 3 rfl rfl)
theorem dX4_loop_30 : decode cX4_loop 30 = .ok (.iload_n 1, 1) := dk_27 (dk_at dksX4_loop_1 6 rfl rfl)
theorem dX4_loop_31 : decode cX4_loop 31 = .ok (.iload_n 2, 1) := dk_28 (dk_at dksX4_loop_1 7 rfl rfl)
theorem dX4_loop_32 : decode cX4_loop 32 = .ok (.invokespecial 106, 3) := dk_183 0 106 (dk_at dksX4_loop_1 8 rfl rfl)
theorem dX4_loop_35 : decode cX4_loop 35 = .ok (.astore_n 3, 1) := dk_78 (dk_at dksX4_loop_1 11 rfl rfl)
theorem dX4_loop_36 : decode cX4_loop 36 = .ok (.aload_n 0, 1) := dk_42 (dk_at dksX4_loop_1 12 rfl rfl)
theorem dX4_loop_37 : decode cX4_loop 37 = .ok (.aload_n 3, 1) := dk_45 (dk_at dksX4_loop_1 13 rfl rfl)
theorem dX4_loop_38 : decode cX4_loop 38 = .ok (.invokevirtual 107, 3) := dk_182 0 107 (dk_at dksX4_loop_1 14 rfl rfl)
theorem dX4_loop_41 : decode cX4_loop 41 = .ok (.aload_n 0, 1) := dk_42 (dk_at dksX4_loop_1 17 rfl rfl)
theorem dX4_loop_42 : decode cX4_loop 42 = .ok (.invokevirtual 94, 3) := dk_182 0 94 (dk_at dksX4_loop_1 18 rfl rfl)
theorem dX4_loop_45 : decode cX4_loop 45 = .ok (.aload_n 0, 1) := dk_42 (dk_at dksX4_loop_1 21 rfl rfl)
theorem dX4_loop_46 : decode cX4_loop 46 = .ok (.aload_n 3, 1) := dk_45 (dk_at dksX4_loop_1 22 rfl rfl)
theorem dX4_loop_47 : decode cX4_loop 47 = .ok (.iload_n 1, 1) := dk_27 (dk_at dksX4_loop_1 23 rfl rfl)
theorem dX4_loop_48 : decode cX4_loop 48 = .ok (.iconst 1, 1) := dk_4 (dk_at dksX4_loop_2 0 rfl rfl)
theorem dX4_loop_49 : decode cX4_loop 49 = .ok (.iadd, 1) := dk_96 (dk_at dksX4_loop_2 1 rfl rfl)
theorem dX4_loop_50 : decode cX4_loop 50 = .ok (.iload_n 2, 1) := dk_28 (dk_at dksX4_loop_2 2 rfl rfl)
theorem dX4_loop_51 : decode cX4_loop 51 = .ok (.aload_n 3, 1) := dk_45 (dk_at dksX4_loop_2 3 rfl rfl)
theorem dX4_loop_52 : decode cX4_loop 52 = .ok (.getfield 111, 3) := dk_180 0 111 (dk_at dksX4_loop_2 4 rfl rfl)
theorem dX4_loop_55 : decode cX4_loop 55 = .ok (.imul, 1) := dk_104 (dk_at dksX4_loop_2 7 rfl rfl)
theorem dX4_loop_56 : decode cX4_loop 56 = .ok (.invokevirtual 114, 3) := dk_182 0 114 (dk_at dksX4_loop_2 8 rfl rfl)
theorem dX4_loop_59 : decode cX4_loop 59 = .ok (.aload_n 0, 1) := dk_42 (dk_at dksX4_loop_2 11 rfl rfl)
theorem dX4_loop_60 : decode cX4_loop 60 = .ok (.aload_n 0, 1) := dk_42 (dk_at dksX4_loop_2 12 rfl rfl)
theorem dX4_loop_61 : decode cX4_loop 61 = .ok (.ldc 118, 2) := dk_18 118 (dk_at dksX4_loop_2 13 rfl rfl)
theorem dX4_loop_63 : decode cX4_loop 63 = .ok (.invokevirtual 120, 3) := dk_182 0 120 (dk_at dksX4_loop_2 15 rfl rfl)
theorem dX4_loop_66 : decode cX4_loop 66 = .ok (.iconst 2, 1) := dk_5 (dk_at dksX4_loop_2 18 rfl rfl)
theorem dX4_loop_67 : decode cX4_loop 67 = .ok (.invokevirtual 74, 3) := dk_182 0 74 (dk_at dksX4_loop_2 19 rfl rfl)
theorem dX4_loop_70 : decode cX4_loop 70 = .ok (.aload_n 0, 1) := dk_42 (dk_at dksX4_loop_2 22 rfl rfl)
theorem dX4_loop_71 : decode cX4_loop 71 = .ok (.invokevirtual 27, 3) := dk_182 0 27 (dk_at dksX4_loop_3 0 rfl rfl)
theorem dX4_loop_74 : decode cX4_loop 74 = .ok (.aload_n 0, 1) := dk_42 (dk_at dksX4_loop_3 3 rfl rfl)
theorem dX4_loop_75 : decode cX4_loop 75 = .ok (.invokevirtual 94, 3) := dk_182 0 94 (dk_at dksX4_loop_3 4 rfl rfl)
theorem dX4_loop_78 : decode cX4_loop 78 = .ok (.aload_n 3, 1) := dk_45 (dk_at dksX4_loop_3 7 rfl rfl)
theorem dX4_loop_79 : decode cX4_loop 79 = .ok (.areturn, 1) := dk_176 (dk_at dksX4_loop_3 8 rfl rfl)
abbrev cX4_adds : ByteArray := prog_8_method_9_code
def yX4_adds : MethodName := ⟨RX4, "adds", "(LEventCounters$Loop;)V"⟩
def dkwX4_adds_2 : List UInt8 := [180, 0, 97, 43, 83, 42, 89, 180, 0, 97, 4, 96, 181, 0, 97, 177]
abbrev dktX4_adds_2 : List UInt8 := dkwX4_adds_2 ++ []
def dkwX4_adds_1 : List UInt8 := [180, 0, 19, 3, 44, 3, 42, 180, 0, 97, 184, 0, 100, 42, 44, 181, 0, 19, 42, 180, 0, 19, 42]
abbrev dktX4_adds_1 : List UInt8 := dkwX4_adds_1 ++ dktX4_adds_2
def dkwX4_adds_0 : List UInt8 := [42, 180, 0, 97, 42, 180, 0, 19, 190, 160, 0, 32, 5, 42, 180, 0, 97, 104, 189, 0, 17, 77, 42]
abbrev dktX4_adds_0 : List UInt8 := dkwX4_adds_0 ++ dktX4_adds_1
theorem dksX4_adds_0 : cX4_adds.data.toList.drop 0 = dktX4_adds_0 := by decide +kernel
theorem dksX4_adds_1 : cX4_adds.data.toList.drop 23 = dktX4_adds_1 := dk_seg dksX4_adds_0 23 rfl rfl
theorem dksX4_adds_2 : cX4_adds.data.toList.drop 46 = dktX4_adds_2 := dk_seg dksX4_adds_1 23 rfl rfl
theorem dX4_adds_0 : decode cX4_adds 0 = .ok (.aload_n 0, 1) := dk_42 (dk_at dksX4_adds_0 0 rfl rfl)
theorem dX4_adds_1 : decode cX4_adds 1 = .ok (.getfield 97, 3) := dk_180 0 97 (dk_at dksX4_adds_0 1 rfl rfl)
theorem dX4_adds_4 : decode cX4_adds 4 = .ok (.aload_n 0, 1) := dk_42 (dk_at dksX4_adds_0 4 rfl rfl)
theorem dX4_adds_5 : decode cX4_adds 5 = .ok (.getfield 19, 3) := dk_180 0 19 (dk_at dksX4_adds_0 5 rfl rfl)
theorem dX4_adds_8 : decode cX4_adds 8 = .ok (.arraylength, 1) := dk_190 (dk_at dksX4_adds_0 8 rfl rfl)
theorem dX4_adds_9 : decode cX4_adds 9 = .ok (.if_icmp .ne 32, 3) := dk_160 0 32 (dk_at dksX4_adds_0 9 rfl rfl)
theorem dX4_adds_12 : decode cX4_adds 12 = .ok (.iconst 2, 1) := dk_5 (dk_at dksX4_adds_0 12 rfl rfl)
theorem dX4_adds_13 : decode cX4_adds 13 = .ok (.aload_n 0, 1) := dk_42 (dk_at dksX4_adds_0 13 rfl rfl)
theorem dX4_adds_14 : decode cX4_adds 14 = .ok (.getfield 97, 3) := dk_180 0 97 (dk_at dksX4_adds_0 14 rfl rfl)
theorem dX4_adds_17 : decode cX4_adds 17 = .ok (.imul, 1) := dk_104 (dk_at dksX4_adds_0 17 rfl rfl)
theorem dX4_adds_18 : decode cX4_adds 18 = .ok (.anewarray 17, 3) := dk_189 0 17 (dk_at dksX4_adds_0 18 rfl rfl)
theorem dX4_adds_21 : decode cX4_adds 21 = .ok (.astore_n 2, 1) := dk_77 (dk_at dksX4_adds_0 21 rfl rfl)
theorem dX4_adds_22 : decode cX4_adds 22 = .ok (.aload_n 0, 1) := dk_42 (dk_at dksX4_adds_0 22 rfl rfl)
theorem dX4_adds_23 : decode cX4_adds 23 = .ok (.getfield 19, 3) := dk_180 0 19 (dk_at dksX4_adds_1 0 rfl rfl)
theorem dX4_adds_26 : decode cX4_adds 26 = .ok (.iconst 0, 1) := dk_3 (dk_at dksX4_adds_1 3 rfl rfl)
theorem dX4_adds_27 : decode cX4_adds 27 = .ok (.aload_n 2, 1) := dk_44 (dk_at dksX4_adds_1 4 rfl rfl)
theorem dX4_adds_28 : decode cX4_adds 28 = .ok (.iconst 0, 1) := dk_3 (dk_at dksX4_adds_1 5 rfl rfl)
theorem dX4_adds_29 : decode cX4_adds 29 = .ok (.aload_n 0, 1) := dk_42 (dk_at dksX4_adds_1 6 rfl rfl)
theorem dX4_adds_30 : decode cX4_adds 30 = .ok (.getfield 97, 3) := dk_180 0 97 (dk_at dksX4_adds_1 7 rfl rfl)
theorem dX4_adds_33 : decode cX4_adds 33 = .ok (.invokestatic 100, 3) := dk_184 0 100 (dk_at dksX4_adds_1 10 rfl rfl)
theorem dX4_adds_36 : decode cX4_adds 36 = .ok (.aload_n 0, 1) := dk_42 (dk_at dksX4_adds_1 13 rfl rfl)
theorem dX4_adds_37 : decode cX4_adds 37 = .ok (.aload_n 2, 1) := dk_44 (dk_at dksX4_adds_1 14 rfl rfl)
theorem dX4_adds_38 : decode cX4_adds 38 = .ok (.putfield 19, 3) := dk_181 0 19 (dk_at dksX4_adds_1 15 rfl rfl)
theorem dX4_adds_41 : decode cX4_adds 41 = .ok (.aload_n 0, 1) := dk_42 (dk_at dksX4_adds_1 18 rfl rfl)
theorem dX4_adds_42 : decode cX4_adds 42 = .ok (.getfield 19, 3) := dk_180 0 19 (dk_at dksX4_adds_1 19 rfl rfl)
theorem dX4_adds_45 : decode cX4_adds 45 = .ok (.aload_n 0, 1) := dk_42 (dk_at dksX4_adds_1 22 rfl rfl)
theorem dX4_adds_46 : decode cX4_adds 46 = .ok (.getfield 97, 3) := dk_180 0 97 (dk_at dksX4_adds_2 0 rfl rfl)
theorem dX4_adds_49 : decode cX4_adds 49 = .ok (.aload_n 1, 1) := dk_43 (dk_at dksX4_adds_2 3 rfl rfl)
theorem dX4_adds_50 : decode cX4_adds 50 = .ok (.aastore, 1) := dk_83 (dk_at dksX4_adds_2 4 rfl rfl)
theorem dX4_adds_51 : decode cX4_adds 51 = .ok (.aload_n 0, 1) := dk_42 (dk_at dksX4_adds_2 5 rfl rfl)
theorem dX4_adds_52 : decode cX4_adds 52 = .ok (.dup, 1) := dk_89 (dk_at dksX4_adds_2 6 rfl rfl)
theorem dX4_adds_53 : decode cX4_adds 53 = .ok (.getfield 97, 3) := dk_180 0 97 (dk_at dksX4_adds_2 7 rfl rfl)
theorem dX4_adds_56 : decode cX4_adds 56 = .ok (.iconst 1, 1) := dk_4 (dk_at dksX4_adds_2 10 rfl rfl)
theorem dX4_adds_57 : decode cX4_adds 57 = .ok (.iadd, 1) := dk_96 (dk_at dksX4_adds_2 11 rfl rfl)
theorem dX4_adds_58 : decode cX4_adds 58 = .ok (.putfield 97, 3) := dk_181 0 97 (dk_at dksX4_adds_2 12 rfl rfl)
theorem dX4_adds_61 : decode cX4_adds 61 = .ok (.return_, 1) := dk_177 (dk_at dksX4_adds_2 15 rfl rfl)
theorem q65 : (Jvm.Cond.initialized "EventCounters$Reader") ∈ lw_all := lw_g (lw_at lw_m1 6 rfl) rfl
theorem q106 : (Jvm.Cond.instantiable "EventCounters$Reader" (9 : Nat)) ∈ lw_all := lw_g (lw_at lw_m1 47 rfl) rfl
theorem q108 : (Jvm.Cond.instanceMethod ({ cls := "EventCounters$Reader", name := "<init>", desc := "([B)V" } : Jvm.MethodName)) ∈ lw_all := lw_g (lw_at lw_m1 49 rfl) rfl
theorem q109 : (Jvm.Cond.code ({ cls := "EventCounters$Reader", name := "<init>", desc := "([B)V" } : Jvm.MethodName) prog_8_method_1_code (2 : Nat) (Option.none : Option Jvm.ClassFile.FieldType)) ∈ lw_all := lw_g (lw_at lw_m1 50 rfl) rfl
theorem q110 : (Jvm.Cond.methodLink "EventCounters$Reader" (3 : Nat) ({ cls := "java/lang/Object", name := "<init>", desc := "()V" } : Jvm.MethodName)) ∈ lw_all := lw_g (lw_at lw_m1 51 rfl) rfl
theorem q113 : (Jvm.Cond.classLink "EventCounters$Reader" (9 : Nat) "EventCounters$Line") ∈ lw_all := lw_g (lw_at lw_m1 54 rfl) rfl
theorem q115 : (Jvm.Cond.classLink "EventCounters$Reader" (17 : Nat) "EventCounters$Loop") ∈ lw_all := lw_g (lw_at lw_m1 56 rfl) rfl
theorem q117 : (Jvm.Cond.methodLink "EventCounters$Reader" (27 : Nat) ({ cls := "EventCounters$Reader", name := "next", desc := "()V" } : Jvm.MethodName)) ∈ lw_all := lw_g (lw_at lw_m1 58 rfl) rfl
theorem q118 : (Jvm.Cond.privateMethod ({ cls := "EventCounters$Reader", name := "next", desc := "()V" } : Jvm.MethodName)) ∈ lw_tbl := lw_at lw_m1 59 rfl
theorem q119 : (Jvm.Cond.instanceMethod ({ cls := "EventCounters$Reader", name := "next", desc := "()V" } : Jvm.MethodName)) ∈ lw_all := lw_g (lw_at lw_m1 60 rfl) rfl
theorem q120 : (Jvm.Cond.code ({ cls := "EventCounters$Reader", name := "next", desc := "()V" } : Jvm.MethodName) prog_8_method_5_code (2 : Nat) (Option.none : Option Jvm.ClassFile.FieldType)) ∈ lw_all := lw_g (lw_at lw_m1 61 rfl) rfl
theorem q121 : (Jvm.Cond.methodLink "EventCounters$Reader" (55 : Nat) ({ cls := "EventCounters$Reader", name := "at", desc := "(I)I" } : Jvm.MethodName)) ∈ lw_all := lw_g (lw_at lw_m1 62 rfl) rfl
theorem q122 : (Jvm.Cond.privateMethod ({ cls := "EventCounters$Reader", name := "at", desc := "(I)I" } : Jvm.MethodName)) ∈ lw_tbl := lw_at lw_m1 63 rfl
theorem q123 : (Jvm.Cond.instanceMethod ({ cls := "EventCounters$Reader", name := "at", desc := "(I)I" } : Jvm.MethodName)) ∈ lw_all := lw_g (lw_at lw_m1 64 rfl) rfl
theorem q124 : (Jvm.Cond.code ({ cls := "EventCounters$Reader", name := "at", desc := "(I)I" } : Jvm.MethodName) prog_8_method_2_code (2 : Nat) (Option.some Jvm.ClassFile.FieldType.int)) ∈ lw_all := lw_g (lw_at lw_m1 65 rfl) rfl
theorem q125 : (Jvm.Cond.constantLong "EventCounters$Reader" (62 : Nat) (97 : Int64)) ∈ lw_all := lw_g (lw_at lw_m1 66 rfl) rfl
theorem q126 : (Jvm.Cond.constantLong "EventCounters$Reader" (64 : Nat) (122 : Int64)) ∈ lw_all := lw_g (lw_at lw_m1 67 rfl) rfl
theorem q127 : (Jvm.Cond.methodLinkNest "EventCounters$Reader" (66 : Nat) ({ cls := "EventCounters", name := "isIn", desc := "(JJJ)Z" } : Jvm.MethodName) "EventCounters") ∈ lw_tbl := lw_at lw_m1 68 rfl
theorem q128 : (Jvm.Cond.constantLong "EventCounters$Reader" (70 : Nat) (48 : Int64)) ∈ lw_all := lw_g (lw_at lw_m1 69 rfl) rfl
theorem q129 : (Jvm.Cond.constantLong "EventCounters$Reader" (72 : Nat) (57 : Int64)) ∈ lw_all := lw_g (lw_at lw_m1 70 rfl) rfl
theorem q130 : (Jvm.Cond.methodLink "EventCounters$Reader" (74 : Nat) ({ cls := "EventCounters$Reader", name := "must", desc := "(ZI)V" } : Jvm.MethodName)) ∈ lw_all := lw_g (lw_at lw_m1 71 rfl) rfl
theorem q131 : (Jvm.Cond.privateMethod ({ cls := "EventCounters$Reader", name := "must", desc := "(ZI)V" } : Jvm.MethodName)) ∈ lw_tbl := lw_at lw_m1 72 rfl
theorem q132 : (Jvm.Cond.instanceMethod ({ cls := "EventCounters$Reader", name := "must", desc := "(ZI)V" } : Jvm.MethodName)) ∈ lw_all := lw_g (lw_at lw_m1 73 rfl) rfl
theorem q133 : (Jvm.Cond.code ({ cls := "EventCounters$Reader", name := "must", desc := "(ZI)V" } : Jvm.MethodName) prog_8_method_3_code (3 : Nat) (Option.none : Option Jvm.ClassFile.FieldType)) ∈ lw_all := lw_g (lw_at lw_m1 74 rfl) rfl
theorem q134 : (Jvm.Cond.classLink "EventCounters$Reader" (30 : Nat) "EventCounters$Fault") ∈ lw_all := lw_g (lw_at lw_m1 75 rfl) rfl
theorem q190 : (Jvm.Cond.methodLink "EventCounters$Reader" (36 : Nat) ({ cls := "EventCounters$Fault", name := "<init>", desc := "(II)V" } : Jvm.MethodName)) ∈ lw_all := lw_g (lw_at lw_m1 131 rfl) rfl
theorem q224 : (Jvm.Cond.fieldLink "EventCounters$Reader" (23 : Nat) "EventCounters$Reader" "t" "[B") ∈ lw_all := lw_g (lw_at lw_m1 165 rfl) rfl
theorem q225 : (Jvm.Cond.fieldLink "EventCounters$Reader" (11 : Nat) "EventCounters$Reader" "lines" "[LEventCounters$Line;") ∈ lw_all := lw_g (lw_at lw_m1 166 rfl) rfl
theorem q228 : (Jvm.Cond.fieldLink "EventCounters$Reader" (78 : Nat) "EventCounters$Reader" "many" "I") ∈ lw_all := lw_g (lw_at lw_m1 169 rfl) rfl
theorem q229 : (Jvm.Cond.fieldLink "EventCounters$Reader" (19 : Nat) "EventCounters$Reader" "loops" "[LEventCounters$Loop;") ∈ lw_all := lw_g (lw_at lw_m1 170 rfl) rfl
theorem q232 : (Jvm.Cond.fieldLink "EventCounters$Reader" (97 : Nat) "EventCounters$Reader" "loopMany" "I") ∈ lw_all := lw_g (lw_at lw_m1 173 rfl) rfl
theorem q233 : (Jvm.Cond.fieldLink "EventCounters$Reader" (32 : Nat) "EventCounters$Reader" "from" "I") ∈ lw_all := lw_g (lw_at lw_m1 174 rfl) rfl
theorem q234 : (Jvm.Cond.fieldLink "EventCounters$Reader" (48 : Nat) "EventCounters$Reader" "to" "I") ∈ lw_all := lw_g (lw_at lw_m1 175 rfl) rfl
theorem q235 : (Jvm.Cond.fieldLink "EventCounters$Reader" (39 : Nat) "EventCounters$Reader" "kind" "I") ∈ lw_all := lw_g (lw_at lw_m1 176 rfl) rfl
theorem q236 : (Jvm.Cond.fieldLink "EventCounters$Reader" (59 : Nat) "EventCounters$Reader" "value" "I") ∈ lw_all := lw_g (lw_at lw_m1 177 rfl) rfl
theorem q237 : (Jvm.Cond.laysFinal "EventCounters$Reader" "EventCounters$Reader" "t" "[B") ∈ lw_all := lw_g (lw_at lw_m1 178 rfl) rfl
theorem q238 : (Jvm.Cond.soleField "EventCounters$Reader" "t") ∈ lw_all := lw_g (lw_at lw_m1 179 rfl) rfl
theorem q239 : (Jvm.Cond.laysFinal "EventCounters$Reader" "EventCounters$Reader" "lines" "[LEventCounters$Line;") ∈ lw_all := lw_g (lw_at lw_m1 180 rfl) rfl
theorem q240 : (Jvm.Cond.soleField "EventCounters$Reader" "lines") ∈ lw_all := lw_g (lw_at lw_m1 181 rfl) rfl
theorem q241 : (Jvm.Cond.lays "EventCounters$Reader" "EventCounters$Reader" "many" "I") ∈ lw_all := lw_g (lw_at lw_m1 182 rfl) rfl
theorem q242 : (Jvm.Cond.soleField "EventCounters$Reader" "many") ∈ lw_all := lw_g (lw_at lw_m1 183 rfl) rfl
theorem q243 : (Jvm.Cond.lays "EventCounters$Reader" "EventCounters$Reader" "loops" "[LEventCounters$Loop;") ∈ lw_all := lw_g (lw_at lw_m1 184 rfl) rfl
theorem q244 : (Jvm.Cond.soleField "EventCounters$Reader" "loops") ∈ lw_all := lw_g (lw_at lw_m1 185 rfl) rfl
theorem q245 : (Jvm.Cond.lays "EventCounters$Reader" "EventCounters$Reader" "loopMany" "I") ∈ lw_all := lw_g (lw_at lw_m1 186 rfl) rfl
theorem q246 : (Jvm.Cond.soleField "EventCounters$Reader" "loopMany") ∈ lw_all := lw_g (lw_at lw_m1 187 rfl) rfl
theorem q247 : (Jvm.Cond.lays "EventCounters$Reader" "EventCounters$Reader" "from" "I") ∈ lw_all := lw_g (lw_at lw_m1 188 rfl) rfl
theorem q248 : (Jvm.Cond.soleField "EventCounters$Reader" "from") ∈ lw_all := lw_g (lw_at lw_m1 189 rfl) rfl
theorem q249 : (Jvm.Cond.lays "EventCounters$Reader" "EventCounters$Reader" "to" "I") ∈ lw_all := lw_g (lw_at lw_m1 190 rfl) rfl
theorem q250 : (Jvm.Cond.soleField "EventCounters$Reader" "to") ∈ lw_all := lw_g (lw_at lw_m1 191 rfl) rfl
theorem q251 : (Jvm.Cond.lays "EventCounters$Reader" "EventCounters$Reader" "kind" "I") ∈ lw_all := lw_g (lw_at lw_m1 192 rfl) rfl
theorem q252 : (Jvm.Cond.soleField "EventCounters$Reader" "kind") ∈ lw_all := lw_g (lw_at lw_m1 193 rfl) rfl
theorem q253 : (Jvm.Cond.lays "EventCounters$Reader" "EventCounters$Reader" "value" "I") ∈ lw_all := lw_g (lw_at lw_m1 194 rfl) rfl
theorem q254 : (Jvm.Cond.soleField "EventCounters$Reader" "value") ∈ lw_all := lw_g (lw_at lw_m1 195 rfl) rfl
theorem q255 : (Jvm.Cond.superclass "EventCounters$Reader" "java/lang/Object") ∈ lw_all := lw_g (lw_at lw_m1 196 rfl) rfl
theorem q257 : (Jvm.Cond.instanceMethod ({ cls := "EventCounters$Reader", name := "all", desc := "()LEventCounters$Block;" } : Jvm.MethodName)) ∈ lw_all := lw_g (lw_at lw_m1 198 rfl) rfl
theorem q258 : (Jvm.Cond.selects "EventCounters$Reader" ({ cls := "EventCounters$Reader", name := "all", desc := "()LEventCounters$Block;" } : Jvm.MethodName) ({ cls := "EventCounters$Reader", name := "all", desc := "()LEventCounters$Block;" } : Jvm.MethodName)) ∈ lw_all := lw_g (lw_at lw_m1 199 rfl) rfl
theorem q259 : (Jvm.Cond.code ({ cls := "EventCounters$Reader", name := "all", desc := "()LEventCounters$Block;" } : Jvm.MethodName) prog_8_method_12_code (2 : Nat) (Option.some (Jvm.ClassFile.FieldType.object "EventCounters$Block"))) ∈ lw_all := lw_g (lw_at lw_m1 200 rfl) rfl
theorem q260 : (Jvm.Cond.classLink "EventCounters$Reader" (135 : Nat) "EventCounters$Block") ∈ lw_all := lw_g (lw_at lw_m1 201 rfl) rfl
theorem q262 : (Jvm.Cond.methodLinkNest "EventCounters$Reader" (139 : Nat) ({ cls := "EventCounters$Block", name := "<init>", desc := "()V" } : Jvm.MethodName) "EventCounters") ∈ lw_tbl := lw_at lw_m1 203 rfl
theorem q278 : (Jvm.Cond.methodLink "EventCounters$Reader" (114 : Nat) ({ cls := "EventCounters$Reader", name := "items", desc := "(LEventCounters$Block;II)V" } : Jvm.MethodName)) ∈ lw_all := lw_g (lw_at lw_m1 219 rfl) rfl
theorem q279 : (Jvm.Cond.privateMethod ({ cls := "EventCounters$Reader", name := "items", desc := "(LEventCounters$Block;II)V" } : Jvm.MethodName)) ∈ lw_tbl := lw_at lw_m1 220 rfl
theorem q280 : (Jvm.Cond.instanceMethod ({ cls := "EventCounters$Reader", name := "items", desc := "(LEventCounters$Block;II)V" } : Jvm.MethodName)) ∈ lw_all := lw_g (lw_at lw_m1 221 rfl) rfl
theorem q281 : (Jvm.Cond.code ({ cls := "EventCounters$Reader", name := "items", desc := "(LEventCounters$Block;II)V" } : Jvm.MethodName) prog_8_method_11_code (4 : Nat) (Option.none : Option Jvm.ClassFile.FieldType)) ∈ lw_all := lw_g (lw_at lw_m1 222 rfl) rfl
theorem q282 : (Jvm.Cond.stringRef "EventCounters$Reader" (124 : Nat) "line") ∈ lw_tbl := lw_at lw_m1 223 rfl
theorem q283 : (Jvm.Cond.methodLink "EventCounters$Reader" (120 : Nat) ({ cls := "EventCounters$Reader", name := "isWord", desc := "(Ljava/lang/String;)Z" } : Jvm.MethodName)) ∈ lw_all := lw_g (lw_at lw_m1 224 rfl) rfl
theorem q284 : (Jvm.Cond.privateMethod ({ cls := "EventCounters$Reader", name := "isWord", desc := "(Ljava/lang/String;)Z" } : Jvm.MethodName)) ∈ lw_tbl := lw_at lw_m1 225 rfl
theorem q285 : (Jvm.Cond.instanceMethod ({ cls := "EventCounters$Reader", name := "isWord", desc := "(Ljava/lang/String;)Z" } : Jvm.MethodName)) ∈ lw_all := lw_g (lw_at lw_m1 226 rfl) rfl
theorem q286 : (Jvm.Cond.code ({ cls := "EventCounters$Reader", name := "isWord", desc := "(Ljava/lang/String;)Z" } : Jvm.MethodName) prog_8_method_4_code (4 : Nat) (Option.some Jvm.ClassFile.FieldType.boolean)) ∈ lw_all := lw_g (lw_at lw_m1 227 rfl) rfl
theorem q287 : (Jvm.Cond.methodLink "EventCounters$Reader" (42 : Nat) ({ cls := "java/lang/String", name := "length", desc := "()I" } : Jvm.MethodName)) ∈ lw_all := lw_g (lw_at lw_m1 228 rfl) rfl
theorem q297 : (Jvm.Cond.methodLink "EventCounters$Reader" (51 : Nat) ({ cls := "java/lang/String", name := "charAt", desc := "(I)C" } : Jvm.MethodName)) ∈ lw_all := lw_g (lw_at lw_m1 238 rfl) rfl
theorem q335 : (Jvm.Cond.stringRef "EventCounters$Reader" (126 : Nat) "loop") ∈ lw_tbl := lw_at lw_m2 36 rfl
theorem q336 : (Jvm.Cond.methodLink "EventCounters$Reader" (128 : Nat) ({ cls := "EventCounters$Reader", name := "line", desc := "(I)LEventCounters$Item;" } : Jvm.MethodName)) ∈ lw_all := lw_g (lw_at lw_m2 37 rfl) rfl
theorem q337 : (Jvm.Cond.privateMethod ({ cls := "EventCounters$Reader", name := "line", desc := "(I)LEventCounters$Item;" } : Jvm.MethodName)) ∈ lw_tbl := lw_at lw_m2 38 rfl
theorem q338 : (Jvm.Cond.instanceMethod ({ cls := "EventCounters$Reader", name := "line", desc := "(I)LEventCounters$Item;" } : Jvm.MethodName)) ∈ lw_all := lw_g (lw_at lw_m2 39 rfl) rfl
theorem q339 : (Jvm.Cond.code ({ cls := "EventCounters$Reader", name := "line", desc := "(I)LEventCounters$Item;" } : Jvm.MethodName) prog_8_method_8_code (5 : Nat) (Option.some (Jvm.ClassFile.FieldType.object "EventCounters$Item"))) ∈ lw_all := lw_g (lw_at lw_m2 40 rfl) rfl
theorem q341 : (Jvm.Cond.methodLink "EventCounters$Reader" (81 : Nat) ({ cls := "EventCounters$Reader", name := "number", desc := "(II)I" } : Jvm.MethodName)) ∈ lw_all := lw_g (lw_at lw_m2 42 rfl) rfl
theorem q342 : (Jvm.Cond.privateMethod ({ cls := "EventCounters$Reader", name := "number", desc := "(II)I" } : Jvm.MethodName)) ∈ lw_tbl := lw_at lw_m2 43 rfl
theorem q343 : (Jvm.Cond.instanceMethod ({ cls := "EventCounters$Reader", name := "number", desc := "(II)I" } : Jvm.MethodName)) ∈ lw_all := lw_g (lw_at lw_m2 44 rfl) rfl
theorem q344 : (Jvm.Cond.code ({ cls := "EventCounters$Reader", name := "number", desc := "(II)I" } : Jvm.MethodName) prog_8_method_6_code (4 : Nat) (Option.some Jvm.ClassFile.FieldType.int)) ∈ lw_all := lw_g (lw_at lw_m2 45 rfl) rfl
theorem q345 : (Jvm.Cond.methodLink "EventCounters$Reader" (85 : Nat) ({ cls := "EventCounters$Line", name := "<init>", desc := "(III)V" } : Jvm.MethodName)) ∈ lw_all := lw_g (lw_at lw_m2 46 rfl) rfl
theorem q356 : (Jvm.Cond.fieldLinkNest "EventCounters$Reader" (90 : Nat) "EventCounters$Line" "events" "[I" "EventCounters") ∈ lw_tbl := lw_at lw_m2 57 rfl
theorem q371 : (Jvm.Cond.constantLong "EventCounters$Reader" (88 : Nat) (7 : Int64)) ∈ lw_all := lw_g (lw_at lw_m2 72 rfl) rfl
theorem q372 : (Jvm.Cond.methodLink "EventCounters$Reader" (94 : Nat) ({ cls := "EventCounters$Reader", name := "sign", desc := "()V" } : Jvm.MethodName)) ∈ lw_all := lw_g (lw_at lw_m2 73 rfl) rfl
theorem q373 : (Jvm.Cond.privateMethod ({ cls := "EventCounters$Reader", name := "sign", desc := "()V" } : Jvm.MethodName)) ∈ lw_tbl := lw_at lw_m2 74 rfl
theorem q374 : (Jvm.Cond.instanceMethod ({ cls := "EventCounters$Reader", name := "sign", desc := "()V" } : Jvm.MethodName)) ∈ lw_all := lw_g (lw_at lw_m2 75 rfl) rfl
theorem q375 : (Jvm.Cond.code ({ cls := "EventCounters$Reader", name := "sign", desc := "()V" } : Jvm.MethodName) prog_8_method_7_code (1 : Nat) (Option.none : Option Jvm.ClassFile.FieldType)) ∈ lw_all := lw_g (lw_at lw_m2 76 rfl) rfl
theorem q376 : (Jvm.Cond.methodLink "EventCounters$Reader" (131 : Nat) ({ cls := "EventCounters$Reader", name := "loop", desc := "(II)LEventCounters$Item;" } : Jvm.MethodName)) ∈ lw_all := lw_g (lw_at lw_m2 77 rfl) rfl
theorem q377 : (Jvm.Cond.privateMethod ({ cls := "EventCounters$Reader", name := "loop", desc := "(II)LEventCounters$Item;" } : Jvm.MethodName)) ∈ lw_tbl := lw_at lw_m2 78 rfl
theorem q378 : (Jvm.Cond.instanceMethod ({ cls := "EventCounters$Reader", name := "loop", desc := "(II)LEventCounters$Item;" } : Jvm.MethodName)) ∈ lw_all := lw_g (lw_at lw_m2 79 rfl) rfl
theorem q379 : (Jvm.Cond.code ({ cls := "EventCounters$Reader", name := "loop", desc := "(II)LEventCounters$Item;" } : Jvm.MethodName) prog_8_method_10_code (4 : Nat) (Option.some (Jvm.ClassFile.FieldType.object "EventCounters$Item"))) ∈ lw_all := lw_g (lw_at lw_m2 80 rfl) rfl
theorem q381 : (Jvm.Cond.methodLink "EventCounters$Reader" (106 : Nat) ({ cls := "EventCounters$Loop", name := "<init>", desc := "(III)V" } : Jvm.MethodName)) ∈ lw_all := lw_g (lw_at lw_m2 82 rfl) rfl
theorem q386 : (Jvm.Cond.fieldLinkNest "EventCounters$Reader" (111 : Nat) "EventCounters$Loop" "times" "I" "EventCounters") ∈ lw_tbl := lw_at lw_m2 87 rfl
theorem q401 : (Jvm.Cond.methodLink "EventCounters$Reader" (107 : Nat) ({ cls := "EventCounters$Reader", name := "adds", desc := "(LEventCounters$Loop;)V" } : Jvm.MethodName)) ∈ lw_all := lw_g (lw_at lw_m2 102 rfl) rfl
theorem q402 : (Jvm.Cond.privateMethod ({ cls := "EventCounters$Reader", name := "adds", desc := "(LEventCounters$Loop;)V" } : Jvm.MethodName)) ∈ lw_tbl := lw_at lw_m2 103 rfl
theorem q403 : (Jvm.Cond.instanceMethod ({ cls := "EventCounters$Reader", name := "adds", desc := "(LEventCounters$Loop;)V" } : Jvm.MethodName)) ∈ lw_all := lw_g (lw_at lw_m2 104 rfl) rfl
theorem q404 : (Jvm.Cond.code ({ cls := "EventCounters$Reader", name := "adds", desc := "(LEventCounters$Loop;)V" } : Jvm.MethodName) prog_8_method_9_code (3 : Nat) (Option.none : Option Jvm.ClassFile.FieldType)) ∈ lw_all := lw_g (lw_at lw_m2 105 rfl) rfl
theorem q405 : (Jvm.Cond.methodLink "EventCounters$Reader" (100 : Nat) ({ cls := "java/lang/System", name := "arraycopy", desc := "(Ljava/lang/Object;ILjava/lang/Object;II)V" } : Jvm.MethodName)) ∈ lw_all := lw_g (lw_at lw_m2 106 rfl) rfl
theorem q406 : (Jvm.Cond.stringRef "EventCounters$Reader" (118 : Nat) "end") ∈ lw_tbl := lw_at lw_m2 107 rfl
theorem q407 : (Jvm.Cond.methodLink "EventCounters$Reader" (134 : Nat) ({ cls := "EventCounters$Block", name := "adds", desc := "(LEventCounters$Item;)V" } : Jvm.MethodName)) ∈ lw_all := lw_g (lw_at lw_m2 108 rfl) rfl
theorem q414 : (Jvm.Cond.methodLink "EventCounters$Reader" (140 : Nat) ({ cls := "EventCounters$Block", name := "steps", desc := "()J" } : Jvm.MethodName)) ∈ lw_all := lw_g (lw_at lw_m2 115 rfl) rfl
theorem q431 : (Jvm.Cond.constantLong "EventCounters$Reader" (144 : Nat) (6000 : Int64)) ∈ lw_all := lw_g (lw_at lw_m2 132 rfl) rfl
theorem in_X4 : ∀ w ∈ wsX40, w ∈ lw_all := lw_in wsX40 [237, 239, 241, 243, 245, 247, 249, 251, 253] (by decide +kernel) (by decide +kernel)

/-! EventCounters$Fault -/
set_option maxRecDepth 100000
def RX5 : String := "EventCounters$Fault"
def TX5 : u_T := fun k => match k with
  | 0 => ("java/lang/Throwable", "cause", "Ljava/lang/Throwable;", false)
  | 1 => ("java/lang/Throwable", "stackTrace", "[Ljava/lang/StackTraceElement;", false)
  | 2 => ("java/lang/Throwable", "suppressedExceptions", "Ljava/util/List;", false)
  | 3 => ("java/lang/Throwable", "detailMessage", "Ljava/lang/String;", false)
  | 4 => ("java/lang/Throwable", "backtrace", "Ljava/lang/Object;", false)
  | 5 => ("java/lang/Throwable", "depth", "I", false)
  | 6 => ("EventCounters$Fault", "code", "I", true)
  | _ => ("EventCounters$Fault", "place", "I", true)
def tyX5 : Nat → FieldType := fun k => match k with
  | 0 => .object "java/lang/Throwable"
  | 1 => .array (.object "java/lang/StackTraceElement")
  | 2 => .object "java/util/List"
  | 3 => .object "java/lang/String"
  | 4 => .object "java/lang/Object"
  | 5 => .int
  | 6 => .int
  | _ => .int
abbrev wsX50 : List Cond := u_ws RX5 TX5 8
theorem nmX5 : ∀ a, a < 8 → ∀ b, b < 8 → a ≠ b → (TX5 a).2.1 ≠ (TX5 b).2.1 := by decide +kernel
theorem tyX5_ok : ∀ k, k < 8 → parseFieldDescriptor (TX5 k).2.2.1 = some (tyX5 k) := by decide +kernel
abbrev cX5_init : ByteArray := prog_4_method_1_code
def yX5_init : MethodName := ⟨RX5, "<init>", "(II)V"⟩
def dkwX5_init_0 : List UInt8 := [42, 1, 1, 3, 3, 183, 0, 1, 42, 27, 181, 0, 7, 42, 28, 181, 0, 13, 177]
abbrev dktX5_init_0 : List UInt8 := dkwX5_init_0 ++ []
theorem dksX5_init_0 : cX5_init.data.toList.drop 0 = dktX5_init_0 := by decide +kernel
theorem dX5_init_0 : decode cX5_init 0 = .ok (.aload_n 0, 1) := dk_42 (dk_at dksX5_init_0 0 rfl rfl)
theorem dX5_init_1 : decode cX5_init 1 = .ok (.aconst_null, 1) := dk_1 (dk_at dksX5_init_0 1 rfl rfl)
theorem dX5_init_2 : decode cX5_init 2 = .ok (.aconst_null, 1) := dk_1 (dk_at dksX5_init_0 2 rfl rfl)
theorem dX5_init_3 : decode cX5_init 3 = .ok (.iconst 0, 1) := dk_3 (dk_at dksX5_init_0 3 rfl rfl)
theorem dX5_init_4 : decode cX5_init 4 = .ok (.iconst 0, 1) := dk_3 (dk_at dksX5_init_0 4 rfl rfl)
theorem dX5_init_5 : decode cX5_init 5 = .ok (.invokespecial 1, 3) := dk_183 0 1 (dk_at dksX5_init_0 5 rfl rfl)
theorem dX5_init_8 : decode cX5_init 8 = .ok (.aload_n 0, 1) := dk_42 (dk_at dksX5_init_0 8 rfl rfl)
theorem dX5_init_9 : decode cX5_init 9 = .ok (.iload_n 1, 1) := dk_27 (dk_at dksX5_init_0 9 rfl rfl)
theorem dX5_init_10 : decode cX5_init 10 = .ok (.putfield 7, 3) := dk_181 0 7 (dk_at dksX5_init_0 10 rfl rfl)
theorem dX5_init_13 : decode cX5_init 13 = .ok (.aload_n 0, 1) := dk_42 (dk_at dksX5_init_0 13 rfl rfl)
theorem dX5_init_14 : decode cX5_init 14 = .ok (.iload_n 2, 1) := dk_28 (dk_at dksX5_init_0 14 rfl rfl)
theorem dX5_init_15 : decode cX5_init 15 = .ok (.putfield 13, 3) := dk_181 0 13 (dk_at dksX5_init_0 15 rfl rfl)
theorem dX5_init_18 : decode cX5_init 18 = .ok (.return_, 1) := dk_177 (dk_at dksX5_init_0 18 rfl rfl)
theorem q69 : (Jvm.Cond.initialized "EventCounters$Fault") ∈ lw_all := lw_g (lw_at lw_m1 10 rfl) rfl
theorem q135 : (Jvm.Cond.instantiable "EventCounters$Fault" (8 : Nat)) ∈ lw_all := lw_g (lw_at lw_m1 76 rfl) rfl
theorem q136 : (Jvm.Cond.castable "EventCounters$Fault" "EventCounters$Fault") ∈ lw_tbl := lw_at lw_m1 77 rfl
theorem q143 : (Jvm.Cond.selects "EventCounters$Fault" ({ cls := "java/lang/Throwable", name := "fillInStackTrace", desc := "(I)Ljava/lang/Throwable;" } : Jvm.MethodName) ({ cls := "java/lang/Throwable", name := "fillInStackTrace", desc := "(I)Ljava/lang/Throwable;" } : Jvm.MethodName)) ∈ lw_all := lw_g (lw_at lw_m1 84 rfl) rfl
theorem q144 : (Jvm.Cond.selects "EventCounters$Fault" ({ cls := "java/lang/Throwable", name := "fillInStackTrace", desc := "()Ljava/lang/Throwable;" } : Jvm.MethodName) ({ cls := "java/lang/Throwable", name := "fillInStackTrace", desc := "()Ljava/lang/Throwable;" } : Jvm.MethodName)) ∈ lw_all := lw_g (lw_at lw_m1 85 rfl) rfl
theorem q145 : (Jvm.Cond.lays "EventCounters$Fault" "java/lang/Throwable" "cause" "Ljava/lang/Throwable;") ∈ lw_all := lw_g (lw_at lw_m1 86 rfl) rfl
theorem q147 : (Jvm.Cond.lays "EventCounters$Fault" "java/lang/Throwable" "stackTrace" "[Ljava/lang/StackTraceElement;") ∈ lw_all := lw_g (lw_at lw_m1 88 rfl) rfl
theorem q149 : (Jvm.Cond.lays "EventCounters$Fault" "java/lang/Throwable" "suppressedExceptions" "Ljava/util/List;") ∈ lw_all := lw_g (lw_at lw_m1 90 rfl) rfl
theorem q151 : (Jvm.Cond.lays "EventCounters$Fault" "java/lang/Throwable" "detailMessage" "Ljava/lang/String;") ∈ lw_all := lw_g (lw_at lw_m1 92 rfl) rfl
theorem q153 : (Jvm.Cond.lays "EventCounters$Fault" "java/lang/Throwable" "backtrace" "Ljava/lang/Object;") ∈ lw_all := lw_g (lw_at lw_m1 94 rfl) rfl
theorem q191 : (Jvm.Cond.instanceMethod ({ cls := "EventCounters$Fault", name := "<init>", desc := "(II)V" } : Jvm.MethodName)) ∈ lw_all := lw_g (lw_at lw_m1 132 rfl) rfl
theorem q192 : (Jvm.Cond.code ({ cls := "EventCounters$Fault", name := "<init>", desc := "(II)V" } : Jvm.MethodName) prog_4_method_1_code (3 : Nat) (Option.none : Option Jvm.ClassFile.FieldType)) ∈ lw_all := lw_g (lw_at lw_m1 133 rfl) rfl
theorem q193 : (Jvm.Cond.methodLink "EventCounters$Fault" (1 : Nat) ({ cls := "java/lang/RuntimeException", name := "<init>", desc := "(Ljava/lang/String;Ljava/lang/Throwable;ZZ)V" } : Jvm.MethodName)) ∈ lw_all := lw_g (lw_at lw_m1 134 rfl) rfl
theorem q202 : (Jvm.Cond.fieldLink "EventCounters$Fault" (7 : Nat) "EventCounters$Fault" "code" "I") ∈ lw_all := lw_g (lw_at lw_m1 143 rfl) rfl
theorem q204 : (Jvm.Cond.fieldLink "EventCounters$Fault" (13 : Nat) "EventCounters$Fault" "place" "I") ∈ lw_all := lw_g (lw_at lw_m1 145 rfl) rfl
theorem q211 : (Jvm.Cond.laysFinal "EventCounters$Fault" "EventCounters$Fault" "code" "I") ∈ lw_all := lw_g (lw_at lw_m1 152 rfl) rfl
theorem q212 : (Jvm.Cond.soleField "EventCounters$Fault" "code") ∈ lw_all := lw_g (lw_at lw_m1 153 rfl) rfl
theorem q213 : (Jvm.Cond.laysFinal "EventCounters$Fault" "EventCounters$Fault" "place" "I") ∈ lw_all := lw_g (lw_at lw_m1 154 rfl) rfl
theorem q214 : (Jvm.Cond.soleField "EventCounters$Fault" "place") ∈ lw_all := lw_g (lw_at lw_m1 155 rfl) rfl
theorem q219 : (Jvm.Cond.lays "EventCounters$Fault" "java/lang/Throwable" "depth" "I") ∈ lw_all := lw_g (lw_at lw_m1 160 rfl) rfl
theorem q222 : (Jvm.Cond.superclass "EventCounters$Fault" "java/lang/RuntimeException") ∈ lw_all := lw_g (lw_at lw_m1 163 rfl) rfl
theorem in_X5 : ∀ w ∈ wsX50, w ∈ lw_all := lw_in wsX50 [145, 147, 149, 151, 153, 219, 211, 213] (by decide +kernel) (by decide +kernel)

/-! EventCounters$Item -/
set_option maxRecDepth 100000
def RX6 : String := "EventCounters$Item"
abbrev cX6_init : ByteArray := prog_5_method_1_code
def yX6_init : MethodName := ⟨RX6, "<init>", "()V"⟩
theorem dX6_init_0 : decode cX6_init 0 = .ok (.aload_n 0, 1) := by decide +kernel
theorem dX6_init_1 : decode cX6_init 1 = .ok (.invokespecial 1, 3) := by decide +kernel
theorem dX6_init_4 : decode cX6_init 4 = .ok (.return_, 1) := by decide +kernel
theorem q70 : (Jvm.Cond.initialized "EventCounters$Item") ∈ lw_all := lw_g (lw_at lw_m1 11 rfl) rfl
theorem q266 : (Jvm.Cond.instanceMethod ({ cls := "EventCounters$Item", name := "<init>", desc := "()V" } : Jvm.MethodName)) ∈ lw_all := lw_g (lw_at lw_m1 207 rfl) rfl
theorem q267 : (Jvm.Cond.code ({ cls := "EventCounters$Item", name := "<init>", desc := "()V" } : Jvm.MethodName) prog_5_method_1_code (1 : Nat) (Option.none : Option Jvm.ClassFile.FieldType)) ∈ lw_all := lw_g (lw_at lw_m1 208 rfl) rfl
theorem q268 : (Jvm.Cond.methodLink "EventCounters$Item" (1 : Nat) ({ cls := "java/lang/Object", name := "<init>", desc := "()V" } : Jvm.MethodName)) ∈ lw_all := lw_g (lw_at lw_m1 209 rfl) rfl
theorem q424 : (Jvm.Cond.declares ({ cls := "EventCounters$Item", name := "steps", desc := "()J" } : Jvm.MethodName)) ∈ lw_tbl := lw_at lw_m2 125 rfl
theorem q425 : (Jvm.Cond.sameMethod "EventCounters$Item" "EventCounters$Item" "steps" "()J") ∈ lw_all := lw_g (lw_at lw_m2 126 rfl) rfl
theorem q447 : (Jvm.Cond.declares ({ cls := "EventCounters$Item", name := "lays", desc := "([II)I" } : Jvm.MethodName)) ∈ lw_tbl := lw_at lw_m2 148 rfl
theorem q448 : (Jvm.Cond.sameMethod "EventCounters$Item" "EventCounters$Item" "lays" "([II)I") ∈ lw_all := lw_g (lw_at lw_m2 149 rfl) rfl
theorem q511 : (Jvm.Cond.declares ({ cls := "EventCounters$Item", name := "lines", desc := "()I" } : Jvm.MethodName)) ∈ lw_tbl := lw_at lw_m2 212 rfl
theorem q512 : (Jvm.Cond.sameMethod "EventCounters$Item" "EventCounters$Item" "lines" "()I") ∈ lw_all := lw_g (lw_at lw_m2 213 rfl) rfl
theorem q532 : (Jvm.Cond.declares ({ cls := "EventCounters$Item", name := "makes", desc := "(I)I" } : Jvm.MethodName)) ∈ lw_tbl := lw_at lw_m2 233 rfl
theorem q533 : (Jvm.Cond.sameMethod "EventCounters$Item" "EventCounters$Item" "makes" "(I)I") ∈ lw_all := lw_g (lw_at lw_m2 234 rfl) rfl

/-! EventCounters$Block -/
set_option maxRecDepth 100000
def RX7 : String := "EventCounters$Block"
def TX7 : u_T := fun k => match k with
  | 0 => ("EventCounters$Block", "items", "[LEventCounters$Item;", false)
  | _ => ("EventCounters$Block", "many", "I", false)
def tyX7 : Nat → FieldType := fun k => match k with
  | 0 => .array (.object "EventCounters$Item")
  | _ => .int
abbrev wsX70 : List Cond := u_ws RX7 TX7 2
theorem nmX7 : ∀ a, a < 2 → ∀ b, b < 2 → a ≠ b → (TX7 a).2.1 ≠ (TX7 b).2.1 := by decide +kernel
theorem tyX7_ok : ∀ k, k < 2 → parseFieldDescriptor (TX7 k).2.2.1 = some (tyX7 k) := by decide +kernel
abbrev cX7_init : ByteArray := prog_2_method_1_code
def yX7_init : MethodName := ⟨RX7, "<init>", "()V"⟩
def dkwX7_init_0 : List UInt8 := [42, 183, 0, 1, 42, 5, 189, 0, 2, 181, 0, 7, 177]
abbrev dktX7_init_0 : List UInt8 := dkwX7_init_0 ++ []
theorem dksX7_init_0 : cX7_init.data.toList.drop 0 = dktX7_init_0 := by decide +kernel
theorem dX7_init_0 : decode cX7_init 0 = .ok (.aload_n 0, 1) := dk_42 (dk_at dksX7_init_0 0 rfl rfl)
theorem dX7_init_1 : decode cX7_init 1 = .ok (.invokespecial 1, 3) := dk_183 0 1 (dk_at dksX7_init_0 1 rfl rfl)
theorem dX7_init_4 : decode cX7_init 4 = .ok (.aload_n 0, 1) := dk_42 (dk_at dksX7_init_0 4 rfl rfl)
theorem dX7_init_5 : decode cX7_init 5 = .ok (.iconst 2, 1) := dk_5 (dk_at dksX7_init_0 5 rfl rfl)
theorem dX7_init_6 : decode cX7_init 6 = .ok (.anewarray 2, 3) := dk_189 0 2 (dk_at dksX7_init_0 6 rfl rfl)
theorem dX7_init_9 : decode cX7_init 9 = .ok (.putfield 7, 3) := dk_181 0 7 (dk_at dksX7_init_0 9 rfl rfl)
theorem dX7_init_12 : decode cX7_init 12 = .ok (.return_, 1) := dk_177 (dk_at dksX7_init_0 12 rfl rfl)
abbrev cX7_adds : ByteArray := prog_2_method_2_code
def yX7_adds : MethodName := ⟨RX7, "adds", "(LEventCounters$Item;)V"⟩
def dkwX7_adds_2 : List UInt8 := [180, 0, 13, 43, 83, 42, 89, 180, 0, 13, 4, 96, 181, 0, 13, 177]
abbrev dktX7_adds_2 : List UInt8 := dkwX7_adds_2 ++ []
def dkwX7_adds_1 : List UInt8 := [180, 0, 7, 3, 44, 3, 42, 180, 0, 13, 184, 0, 17, 42, 44, 181, 0, 7, 42, 180, 0, 7, 42]
abbrev dktX7_adds_1 : List UInt8 := dkwX7_adds_1 ++ dktX7_adds_2
def dkwX7_adds_0 : List UInt8 := [42, 180, 0, 13, 42, 180, 0, 7, 190, 160, 0, 32, 5, 42, 180, 0, 13, 104, 189, 0, 2, 77, 42]
abbrev dktX7_adds_0 : List UInt8 := dkwX7_adds_0 ++ dktX7_adds_1
theorem dksX7_adds_0 : cX7_adds.data.toList.drop 0 = dktX7_adds_0 := by decide +kernel
theorem dksX7_adds_1 : cX7_adds.data.toList.drop 23 = dktX7_adds_1 := dk_seg dksX7_adds_0 23 rfl rfl
theorem dksX7_adds_2 : cX7_adds.data.toList.drop 46 = dktX7_adds_2 := dk_seg dksX7_adds_1 23 rfl rfl
theorem dX7_adds_0 : decode cX7_adds 0 = .ok (.aload_n 0, 1) := dk_42 (dk_at dksX7_adds_0 0 rfl rfl)
theorem dX7_adds_1 : decode cX7_adds 1 = .ok (.getfield 13, 3) := dk_180 0 13 (dk_at dksX7_adds_0 1 rfl rfl)
theorem dX7_adds_4 : decode cX7_adds 4 = .ok (.aload_n 0, 1) := dk_42 (dk_at dksX7_adds_0 4 rfl rfl)
theorem dX7_adds_5 : decode cX7_adds 5 = .ok (.getfield 7, 3) := dk_180 0 7 (dk_at dksX7_adds_0 5 rfl rfl)
theorem dX7_adds_8 : decode cX7_adds 8 = .ok (.arraylength, 1) := dk_190 (dk_at dksX7_adds_0 8 rfl rfl)
theorem dX7_adds_9 : decode cX7_adds 9 = .ok (.if_icmp .ne 32, 3) := dk_160 0 32 (dk_at dksX7_adds_0 9 rfl rfl)
theorem dX7_adds_12 : decode cX7_adds 12 = .ok (.iconst 2, 1) := dk_5 (dk_at dksX7_adds_0 12 rfl rfl)
theorem dX7_adds_13 : decode cX7_adds 13 = .ok (.aload_n 0, 1) := dk_42 (dk_at dksX7_adds_0 13 rfl rfl)
theorem dX7_adds_14 : decode cX7_adds 14 = .ok (.getfield 13, 3) := dk_180 0 13 (dk_at dksX7_adds_0 14 rfl rfl)
theorem dX7_adds_17 : decode cX7_adds 17 = .ok (.imul, 1) := dk_104 (dk_at dksX7_adds_0 17 rfl rfl)
theorem dX7_adds_18 : decode cX7_adds 18 = .ok (.anewarray 2, 3) := dk_189 0 2 (dk_at dksX7_adds_0 18 rfl rfl)
theorem dX7_adds_21 : decode cX7_adds 21 = .ok (.astore_n 2, 1) := dk_77 (dk_at dksX7_adds_0 21 rfl rfl)
theorem dX7_adds_22 : decode cX7_adds 22 = .ok (.aload_n 0, 1) := dk_42 (dk_at dksX7_adds_0 22 rfl rfl)
theorem dX7_adds_23 : decode cX7_adds 23 = .ok (.getfield 7, 3) := dk_180 0 7 (dk_at dksX7_adds_1 0 rfl rfl)
theorem dX7_adds_26 : decode cX7_adds 26 = .ok (.iconst 0, 1) := dk_3 (dk_at dksX7_adds_1 3 rfl rfl)
theorem dX7_adds_27 : decode cX7_adds 27 = .ok (.aload_n 2, 1) := dk_44 (dk_at dksX7_adds_1 4 rfl rfl)
theorem dX7_adds_28 : decode cX7_adds 28 = .ok (.iconst 0, 1) := dk_3 (dk_at dksX7_adds_1 5 rfl rfl)
theorem dX7_adds_29 : decode cX7_adds 29 = .ok (.aload_n 0, 1) := dk_42 (dk_at dksX7_adds_1 6 rfl rfl)
theorem dX7_adds_30 : decode cX7_adds 30 = .ok (.getfield 13, 3) := dk_180 0 13 (dk_at dksX7_adds_1 7 rfl rfl)
theorem dX7_adds_33 : decode cX7_adds 33 = .ok (.invokestatic 17, 3) := dk_184 0 17 (dk_at dksX7_adds_1 10 rfl rfl)
theorem dX7_adds_36 : decode cX7_adds 36 = .ok (.aload_n 0, 1) := dk_42 (dk_at dksX7_adds_1 13 rfl rfl)
theorem dX7_adds_37 : decode cX7_adds 37 = .ok (.aload_n 2, 1) := dk_44 (dk_at dksX7_adds_1 14 rfl rfl)
theorem dX7_adds_38 : decode cX7_adds 38 = .ok (.putfield 7, 3) := dk_181 0 7 (dk_at dksX7_adds_1 15 rfl rfl)
theorem dX7_adds_41 : decode cX7_adds 41 = .ok (.aload_n 0, 1) := dk_42 (dk_at dksX7_adds_1 18 rfl rfl)
theorem dX7_adds_42 : decode cX7_adds 42 = .ok (.getfield 7, 3) := dk_180 0 7 (dk_at dksX7_adds_1 19 rfl rfl)
theorem dX7_adds_45 : decode cX7_adds 45 = .ok (.aload_n 0, 1) := dk_42 (dk_at dksX7_adds_1 22 rfl rfl)
theorem dX7_adds_46 : decode cX7_adds 46 = .ok (.getfield 13, 3) := dk_180 0 13 (dk_at dksX7_adds_2 0 rfl rfl)
theorem dX7_adds_49 : decode cX7_adds 49 = .ok (.aload_n 1, 1) := dk_43 (dk_at dksX7_adds_2 3 rfl rfl)
theorem dX7_adds_50 : decode cX7_adds 50 = .ok (.aastore, 1) := dk_83 (dk_at dksX7_adds_2 4 rfl rfl)
theorem dX7_adds_51 : decode cX7_adds 51 = .ok (.aload_n 0, 1) := dk_42 (dk_at dksX7_adds_2 5 rfl rfl)
theorem dX7_adds_52 : decode cX7_adds 52 = .ok (.dup, 1) := dk_89 (dk_at dksX7_adds_2 6 rfl rfl)
theorem dX7_adds_53 : decode cX7_adds 53 = .ok (.getfield 13, 3) := dk_180 0 13 (dk_at dksX7_adds_2 7 rfl rfl)
theorem dX7_adds_56 : decode cX7_adds 56 = .ok (.iconst 1, 1) := dk_4 (dk_at dksX7_adds_2 10 rfl rfl)
theorem dX7_adds_57 : decode cX7_adds 57 = .ok (.iadd, 1) := dk_96 (dk_at dksX7_adds_2 11 rfl rfl)
theorem dX7_adds_58 : decode cX7_adds 58 = .ok (.putfield 13, 3) := dk_181 0 13 (dk_at dksX7_adds_2 12 rfl rfl)
theorem dX7_adds_61 : decode cX7_adds 61 = .ok (.return_, 1) := dk_177 (dk_at dksX7_adds_2 15 rfl rfl)
abbrev cX7_steps : ByteArray := prog_2_method_3_code
def yX7_steps : MethodName := ⟨RX7, "steps", "()J"⟩
def dkwX7_steps_1 : List UInt8 := [132, 3, 1, 167, 255, 233, 31, 173]
abbrev dktX7_steps_1 : List UInt8 := dkwX7_steps_1 ++ []
def dkwX7_steps_0 : List UInt8 := [9, 64, 3, 62, 29, 42, 180, 0, 13, 162, 0, 21, 31, 42, 180, 0, 7, 29, 50, 182, 0, 23, 97, 64]
abbrev dktX7_steps_0 : List UInt8 := dkwX7_steps_0 ++ dktX7_steps_1
theorem dksX7_steps_0 : cX7_steps.data.toList.drop 0 = dktX7_steps_0 := by decide +kernel
theorem dksX7_steps_1 : cX7_steps.data.toList.drop 24 = dktX7_steps_1 := dk_seg dksX7_steps_0 24 rfl rfl
theorem dX7_steps_0 : decode cX7_steps 0 = .ok (.lconst 0, 1) := dk_9 (dk_at dksX7_steps_0 0 rfl rfl)
theorem dX7_steps_1 : decode cX7_steps 1 = .ok (.lstore_n 1, 1) := dk_64 (dk_at dksX7_steps_0 1 rfl rfl)
theorem dX7_steps_2 : decode cX7_steps 2 = .ok (.iconst 0, 1) := dk_3 (dk_at dksX7_steps_0 2 rfl rfl)
theorem dX7_steps_3 : decode cX7_steps 3 = .ok (.istore_n 3, 1) := dk_62 (dk_at dksX7_steps_0 3 rfl rfl)
theorem dX7_steps_4 : decode cX7_steps 4 = .ok (.iload_n 3, 1) := dk_29 (dk_at dksX7_steps_0 4 rfl rfl)
theorem dX7_steps_5 : decode cX7_steps 5 = .ok (.aload_n 0, 1) := dk_42 (dk_at dksX7_steps_0 5 rfl rfl)
theorem dX7_steps_6 : decode cX7_steps 6 = .ok (.getfield 13, 3) := dk_180 0 13 (dk_at dksX7_steps_0 6 rfl rfl)
theorem dX7_steps_9 : decode cX7_steps 9 = .ok (.if_icmp .ge 21, 3) := dk_162 0 21 (dk_at dksX7_steps_0 9 rfl rfl)
theorem dX7_steps_12 : decode cX7_steps 12 = .ok (.lload_n 1, 1) := dk_31 (dk_at dksX7_steps_0 12 rfl rfl)
theorem dX7_steps_13 : decode cX7_steps 13 = .ok (.aload_n 0, 1) := dk_42 (dk_at dksX7_steps_0 13 rfl rfl)
theorem dX7_steps_14 : decode cX7_steps 14 = .ok (.getfield 7, 3) := dk_180 0 7 (dk_at dksX7_steps_0 14 rfl rfl)
theorem dX7_steps_17 : decode cX7_steps 17 = .ok (.iload_n 3, 1) := dk_29 (dk_at dksX7_steps_0 17 rfl rfl)
theorem dX7_steps_18 : decode cX7_steps 18 = .ok (.aaload, 1) := dk_50 (dk_at dksX7_steps_0 18 rfl rfl)
theorem dX7_steps_19 : decode cX7_steps 19 = .ok (.invokevirtual 23, 3) := dk_182 0 23 (dk_at dksX7_steps_0 19 rfl rfl)
theorem dX7_steps_22 : decode cX7_steps 22 = .ok (.ladd, 1) := dk_97 (dk_at dksX7_steps_0 22 rfl rfl)
theorem dX7_steps_23 : decode cX7_steps 23 = .ok (.lstore_n 1, 1) := dk_64 (dk_at dksX7_steps_0 23 rfl rfl)
theorem dX7_steps_24 : decode cX7_steps 24 = .ok (.iinc 3 1, 3) := dk_132 3 1 (dk_at dksX7_steps_1 0 rfl rfl)
theorem dX7_steps_27 : decode cX7_steps 27 = .ok (.goto (-23), 3) := dk_167 255 233 (dk_at dksX7_steps_1 3 rfl rfl)
theorem dX7_steps_30 : decode cX7_steps 30 = .ok (.lload_n 1, 1) := dk_31 (dk_at dksX7_steps_1 6 rfl rfl)
theorem dX7_steps_31 : decode cX7_steps 31 = .ok (.lreturn, 1) := dk_173 (dk_at dksX7_steps_1 7 rfl rfl)
abbrev cX7_lays : ByteArray := prog_2_method_4_code
def yX7_lays : MethodName := ⟨RX7, "lays", "([II)I"⟩
def dkwX7_lays_1 : List UInt8 := [182, 0, 27, 62, 132, 4, 1, 167, 255, 231, 29, 172]
abbrev dktX7_lays_1 : List UInt8 := dkwX7_lays_1 ++ []
def dkwX7_lays_0 : List UInt8 := [28, 62, 3, 54, 4, 21, 4, 42, 180, 0, 13, 162, 0, 22, 42, 180, 0, 7, 21, 4, 50, 43, 29]
abbrev dktX7_lays_0 : List UInt8 := dkwX7_lays_0 ++ dktX7_lays_1
theorem dksX7_lays_0 : cX7_lays.data.toList.drop 0 = dktX7_lays_0 := by decide +kernel
theorem dksX7_lays_1 : cX7_lays.data.toList.drop 23 = dktX7_lays_1 := dk_seg dksX7_lays_0 23 rfl rfl
theorem dX7_lays_0 : decode cX7_lays 0 = .ok (.iload_n 2, 1) := dk_28 (dk_at dksX7_lays_0 0 rfl rfl)
theorem dX7_lays_1 : decode cX7_lays 1 = .ok (.istore_n 3, 1) := dk_62 (dk_at dksX7_lays_0 1 rfl rfl)
theorem dX7_lays_2 : decode cX7_lays 2 = .ok (.iconst 0, 1) := dk_3 (dk_at dksX7_lays_0 2 rfl rfl)
theorem dX7_lays_3 : decode cX7_lays 3 = .ok (.istore 4, 2) := dk_54 4 (dk_at dksX7_lays_0 3 rfl rfl)
theorem dX7_lays_5 : decode cX7_lays 5 = .ok (.iload 4, 2) := dk_21 4 (dk_at dksX7_lays_0 5 rfl rfl)
theorem dX7_lays_7 : decode cX7_lays 7 = .ok (.aload_n 0, 1) := dk_42 (dk_at dksX7_lays_0 7 rfl rfl)
theorem dX7_lays_8 : decode cX7_lays 8 = .ok (.getfield 13, 3) := dk_180 0 13 (dk_at dksX7_lays_0 8 rfl rfl)
theorem dX7_lays_11 : decode cX7_lays 11 = .ok (.if_icmp .ge 22, 3) := dk_162 0 22 (dk_at dksX7_lays_0 11 rfl rfl)
theorem dX7_lays_14 : decode cX7_lays 14 = .ok (.aload_n 0, 1) := dk_42 (dk_at dksX7_lays_0 14 rfl rfl)
theorem dX7_lays_15 : decode cX7_lays 15 = .ok (.getfield 7, 3) := dk_180 0 7 (dk_at dksX7_lays_0 15 rfl rfl)
theorem dX7_lays_18 : decode cX7_lays 18 = .ok (.iload 4, 2) := dk_21 4 (dk_at dksX7_lays_0 18 rfl rfl)
theorem dX7_lays_20 : decode cX7_lays 20 = .ok (.aaload, 1) := dk_50 (dk_at dksX7_lays_0 20 rfl rfl)
theorem dX7_lays_21 : decode cX7_lays 21 = .ok (.aload_n 1, 1) := dk_43 (dk_at dksX7_lays_0 21 rfl rfl)
theorem dX7_lays_22 : decode cX7_lays 22 = .ok (.iload_n 3, 1) := dk_29 (dk_at dksX7_lays_0 22 rfl rfl)
theorem dX7_lays_23 : decode cX7_lays 23 = .ok (.invokevirtual 27, 3) := dk_182 0 27 (dk_at dksX7_lays_1 0 rfl rfl)
theorem dX7_lays_26 : decode cX7_lays 26 = .ok (.istore_n 3, 1) := dk_62 (dk_at dksX7_lays_1 3 rfl rfl)
theorem dX7_lays_27 : decode cX7_lays 27 = .ok (.iinc 4 1, 3) := dk_132 4 1 (dk_at dksX7_lays_1 4 rfl rfl)
theorem dX7_lays_30 : decode cX7_lays 30 = .ok (.goto (-25), 3) := dk_167 255 231 (dk_at dksX7_lays_1 7 rfl rfl)
theorem dX7_lays_33 : decode cX7_lays 33 = .ok (.iload_n 3, 1) := dk_29 (dk_at dksX7_lays_1 10 rfl rfl)
theorem dX7_lays_34 : decode cX7_lays 34 = .ok (.ireturn, 1) := dk_172 (dk_at dksX7_lays_1 11 rfl rfl)
abbrev cX7_lines : ByteArray := prog_2_method_5_code
def yX7_lines : MethodName := ⟨RX7, "lines", "()I"⟩
def dkwX7_lines_1 : List UInt8 := [132, 2, 1, 167, 255, 233, 27, 172]
abbrev dktX7_lines_1 : List UInt8 := dkwX7_lines_1 ++ []
def dkwX7_lines_0 : List UInt8 := [3, 60, 3, 61, 28, 42, 180, 0, 13, 162, 0, 21, 27, 42, 180, 0, 7, 28, 50, 182, 0, 31, 128, 60]
abbrev dktX7_lines_0 : List UInt8 := dkwX7_lines_0 ++ dktX7_lines_1
theorem dksX7_lines_0 : cX7_lines.data.toList.drop 0 = dktX7_lines_0 := by decide +kernel
theorem dksX7_lines_1 : cX7_lines.data.toList.drop 24 = dktX7_lines_1 := dk_seg dksX7_lines_0 24 rfl rfl
theorem dX7_lines_0 : decode cX7_lines 0 = .ok (.iconst 0, 1) := dk_3 (dk_at dksX7_lines_0 0 rfl rfl)
theorem dX7_lines_1 : decode cX7_lines 1 = .ok (.istore_n 1, 1) := dk_60 (dk_at dksX7_lines_0 1 rfl rfl)
theorem dX7_lines_2 : decode cX7_lines 2 = .ok (.iconst 0, 1) := dk_3 (dk_at dksX7_lines_0 2 rfl rfl)
theorem dX7_lines_3 : decode cX7_lines 3 = .ok (.istore_n 2, 1) := dk_61 (dk_at dksX7_lines_0 3 rfl rfl)
theorem dX7_lines_4 : decode cX7_lines 4 = .ok (.iload_n 2, 1) := dk_28 (dk_at dksX7_lines_0 4 rfl rfl)
theorem dX7_lines_5 : decode cX7_lines 5 = .ok (.aload_n 0, 1) := dk_42 (dk_at dksX7_lines_0 5 rfl rfl)
theorem dX7_lines_6 : decode cX7_lines 6 = .ok (.getfield 13, 3) := dk_180 0 13 (dk_at dksX7_lines_0 6 rfl rfl)
theorem dX7_lines_9 : decode cX7_lines 9 = .ok (.if_icmp .ge 21, 3) := dk_162 0 21 (dk_at dksX7_lines_0 9 rfl rfl)
theorem dX7_lines_12 : decode cX7_lines 12 = .ok (.iload_n 1, 1) := dk_27 (dk_at dksX7_lines_0 12 rfl rfl)
theorem dX7_lines_13 : decode cX7_lines 13 = .ok (.aload_n 0, 1) := dk_42 (dk_at dksX7_lines_0 13 rfl rfl)
theorem dX7_lines_14 : decode cX7_lines 14 = .ok (.getfield 7, 3) := dk_180 0 7 (dk_at dksX7_lines_0 14 rfl rfl)
theorem dX7_lines_17 : decode cX7_lines 17 = .ok (.iload_n 2, 1) := dk_28 (dk_at dksX7_lines_0 17 rfl rfl)
theorem dX7_lines_18 : decode cX7_lines 18 = .ok (.aaload, 1) := dk_50 (dk_at dksX7_lines_0 18 rfl rfl)
theorem dX7_lines_19 : decode cX7_lines 19 = .ok (.invokevirtual 31, 3) := dk_182 0 31 (dk_at dksX7_lines_0 19 rfl rfl)
theorem dX7_lines_22 : decode cX7_lines 22 = .ok (.ior, 1) := dk_128 (dk_at dksX7_lines_0 22 rfl rfl)
theorem dX7_lines_23 : decode cX7_lines 23 = .ok (.istore_n 1, 1) := dk_60 (dk_at dksX7_lines_0 23 rfl rfl)
theorem dX7_lines_24 : decode cX7_lines 24 = .ok (.iinc 2 1, 3) := dk_132 2 1 (dk_at dksX7_lines_1 0 rfl rfl)
theorem dX7_lines_27 : decode cX7_lines 27 = .ok (.goto (-23), 3) := dk_167 255 233 (dk_at dksX7_lines_1 3 rfl rfl)
theorem dX7_lines_30 : decode cX7_lines 30 = .ok (.iload_n 1, 1) := dk_27 (dk_at dksX7_lines_1 6 rfl rfl)
theorem dX7_lines_31 : decode cX7_lines 31 = .ok (.ireturn, 1) := dk_172 (dk_at dksX7_lines_1 7 rfl rfl)
abbrev cX7_makes : ByteArray := prog_2_method_6_code
def yX7_makes : MethodName := ⟨RX7, "makes", "(I)I"⟩
def dkwX7_makes_1 : List UInt8 := [61, 132, 3, 1, 167, 255, 232, 28, 172]
abbrev dktX7_makes_1 : List UInt8 := dkwX7_makes_1 ++ []
def dkwX7_makes_0 : List UInt8 := [3, 61, 3, 62, 29, 42, 180, 0, 13, 162, 0, 22, 28, 42, 180, 0, 7, 29, 50, 27, 182, 0, 35, 96]
abbrev dktX7_makes_0 : List UInt8 := dkwX7_makes_0 ++ dktX7_makes_1
theorem dksX7_makes_0 : cX7_makes.data.toList.drop 0 = dktX7_makes_0 := by decide +kernel
theorem dksX7_makes_1 : cX7_makes.data.toList.drop 24 = dktX7_makes_1 := dk_seg dksX7_makes_0 24 rfl rfl
theorem dX7_makes_0 : decode cX7_makes 0 = .ok (.iconst 0, 1) := dk_3 (dk_at dksX7_makes_0 0 rfl rfl)
theorem dX7_makes_1 : decode cX7_makes 1 = .ok (.istore_n 2, 1) := dk_61 (dk_at dksX7_makes_0 1 rfl rfl)
theorem dX7_makes_2 : decode cX7_makes 2 = .ok (.iconst 0, 1) := dk_3 (dk_at dksX7_makes_0 2 rfl rfl)
theorem dX7_makes_3 : decode cX7_makes 3 = .ok (.istore_n 3, 1) := dk_62 (dk_at dksX7_makes_0 3 rfl rfl)
theorem dX7_makes_4 : decode cX7_makes 4 = .ok (.iload_n 3, 1) := dk_29 (dk_at dksX7_makes_0 4 rfl rfl)
theorem dX7_makes_5 : decode cX7_makes 5 = .ok (.aload_n 0, 1) := dk_42 (dk_at dksX7_makes_0 5 rfl rfl)
theorem dX7_makes_6 : decode cX7_makes 6 = .ok (.getfield 13, 3) := dk_180 0 13 (dk_at dksX7_makes_0 6 rfl rfl)
theorem dX7_makes_9 : decode cX7_makes 9 = .ok (.if_icmp .ge 22, 3) := dk_162 0 22 (dk_at dksX7_makes_0 9 rfl rfl)
theorem dX7_makes_12 : decode cX7_makes 12 = .ok (.iload_n 2, 1) := dk_28 (dk_at dksX7_makes_0 12 rfl rfl)
theorem dX7_makes_13 : decode cX7_makes 13 = .ok (.aload_n 0, 1) := dk_42 (dk_at dksX7_makes_0 13 rfl rfl)
theorem dX7_makes_14 : decode cX7_makes 14 = .ok (.getfield 7, 3) := dk_180 0 7 (dk_at dksX7_makes_0 14 rfl rfl)
theorem dX7_makes_17 : decode cX7_makes 17 = .ok (.iload_n 3, 1) := dk_29 (dk_at dksX7_makes_0 17 rfl rfl)
theorem dX7_makes_18 : decode cX7_makes 18 = .ok (.aaload, 1) := dk_50 (dk_at dksX7_makes_0 18 rfl rfl)
theorem dX7_makes_19 : decode cX7_makes 19 = .ok (.iload_n 1, 1) := dk_27 (dk_at dksX7_makes_0 19 rfl rfl)
theorem dX7_makes_20 : decode cX7_makes 20 = .ok (.invokevirtual 35, 3) := dk_182 0 35 (dk_at dksX7_makes_0 20 rfl rfl)
theorem dX7_makes_23 : decode cX7_makes 23 = .ok (.iadd, 1) := dk_96 (dk_at dksX7_makes_0 23 rfl rfl)
theorem dX7_makes_24 : decode cX7_makes 24 = .ok (.istore_n 2, 1) := dk_61 (dk_at dksX7_makes_1 0 rfl rfl)
theorem dX7_makes_25 : decode cX7_makes 25 = .ok (.iinc 3 1, 3) := dk_132 3 1 (dk_at dksX7_makes_1 1 rfl rfl)
theorem dX7_makes_28 : decode cX7_makes 28 = .ok (.goto (-24), 3) := dk_167 255 232 (dk_at dksX7_makes_1 4 rfl rfl)
theorem dX7_makes_31 : decode cX7_makes 31 = .ok (.iload_n 2, 1) := dk_28 (dk_at dksX7_makes_1 7 rfl rfl)
theorem dX7_makes_32 : decode cX7_makes 32 = .ok (.ireturn, 1) := dk_172 (dk_at dksX7_makes_1 8 rfl rfl)
theorem q71 : (Jvm.Cond.initialized "EventCounters$Block") ∈ lw_all := lw_g (lw_at lw_m1 12 rfl) rfl
theorem q261 : (Jvm.Cond.instantiable "EventCounters$Block" (2 : Nat)) ∈ lw_all := lw_g (lw_at lw_m1 202 rfl) rfl
theorem q263 : (Jvm.Cond.instanceMethod ({ cls := "EventCounters$Block", name := "<init>", desc := "()V" } : Jvm.MethodName)) ∈ lw_all := lw_g (lw_at lw_m1 204 rfl) rfl
theorem q264 : (Jvm.Cond.code ({ cls := "EventCounters$Block", name := "<init>", desc := "()V" } : Jvm.MethodName) prog_2_method_1_code (1 : Nat) (Option.none : Option Jvm.ClassFile.FieldType)) ∈ lw_all := lw_g (lw_at lw_m1 205 rfl) rfl
theorem q265 : (Jvm.Cond.methodLinkNest "EventCounters$Block" (1 : Nat) ({ cls := "EventCounters$Item", name := "<init>", desc := "()V" } : Jvm.MethodName) "EventCounters") ∈ lw_tbl := lw_at lw_m1 206 rfl
theorem q269 : (Jvm.Cond.classLink "EventCounters$Block" (2 : Nat) "EventCounters$Item") ∈ lw_all := lw_g (lw_at lw_m1 210 rfl) rfl
theorem q271 : (Jvm.Cond.fieldLink "EventCounters$Block" (7 : Nat) "EventCounters$Block" "items" "[LEventCounters$Item;") ∈ lw_all := lw_g (lw_at lw_m1 212 rfl) rfl
theorem q272 : (Jvm.Cond.fieldLink "EventCounters$Block" (13 : Nat) "EventCounters$Block" "many" "I") ∈ lw_all := lw_g (lw_at lw_m1 213 rfl) rfl
theorem q273 : (Jvm.Cond.lays "EventCounters$Block" "EventCounters$Block" "items" "[LEventCounters$Item;") ∈ lw_all := lw_g (lw_at lw_m1 214 rfl) rfl
theorem q274 : (Jvm.Cond.soleField "EventCounters$Block" "items") ∈ lw_all := lw_g (lw_at lw_m1 215 rfl) rfl
theorem q275 : (Jvm.Cond.lays "EventCounters$Block" "EventCounters$Block" "many" "I") ∈ lw_all := lw_g (lw_at lw_m1 216 rfl) rfl
theorem q276 : (Jvm.Cond.soleField "EventCounters$Block" "many") ∈ lw_all := lw_g (lw_at lw_m1 217 rfl) rfl
theorem q277 : (Jvm.Cond.superclass "EventCounters$Block" "EventCounters$Item") ∈ lw_all := lw_g (lw_at lw_m1 218 rfl) rfl
theorem q408 : (Jvm.Cond.instanceMethod ({ cls := "EventCounters$Block", name := "adds", desc := "(LEventCounters$Item;)V" } : Jvm.MethodName)) ∈ lw_all := lw_g (lw_at lw_m2 109 rfl) rfl
theorem q409 : (Jvm.Cond.selects "EventCounters$Block" ({ cls := "EventCounters$Block", name := "adds", desc := "(LEventCounters$Item;)V" } : Jvm.MethodName) ({ cls := "EventCounters$Block", name := "adds", desc := "(LEventCounters$Item;)V" } : Jvm.MethodName)) ∈ lw_all := lw_g (lw_at lw_m2 110 rfl) rfl
theorem q410 : (Jvm.Cond.sameMethod "EventCounters$Block" "EventCounters$Block" "adds" "(LEventCounters$Item;)V") ∈ lw_all := lw_g (lw_at lw_m2 111 rfl) rfl
theorem q412 : (Jvm.Cond.code ({ cls := "EventCounters$Block", name := "adds", desc := "(LEventCounters$Item;)V" } : Jvm.MethodName) prog_2_method_2_code (3 : Nat) (Option.none : Option Jvm.ClassFile.FieldType)) ∈ lw_all := lw_g (lw_at lw_m2 113 rfl) rfl
theorem q413 : (Jvm.Cond.methodLink "EventCounters$Block" (17 : Nat) ({ cls := "java/lang/System", name := "arraycopy", desc := "(Ljava/lang/Object;ILjava/lang/Object;II)V" } : Jvm.MethodName)) ∈ lw_all := lw_g (lw_at lw_m2 114 rfl) rfl
theorem q415 : (Jvm.Cond.instanceMethod ({ cls := "EventCounters$Block", name := "steps", desc := "()J" } : Jvm.MethodName)) ∈ lw_all := lw_g (lw_at lw_m2 116 rfl) rfl
theorem q416 : (Jvm.Cond.selects "EventCounters$Block" ({ cls := "EventCounters$Block", name := "steps", desc := "()J" } : Jvm.MethodName) ({ cls := "EventCounters$Block", name := "steps", desc := "()J" } : Jvm.MethodName)) ∈ lw_all := lw_g (lw_at lw_m2 117 rfl) rfl
theorem q417 : (Jvm.Cond.sameMethod "EventCounters$Block" "EventCounters$Block" "steps" "()J") ∈ lw_all := lw_g (lw_at lw_m2 118 rfl) rfl
theorem q422 : (Jvm.Cond.code ({ cls := "EventCounters$Block", name := "steps", desc := "()J" } : Jvm.MethodName) prog_2_method_3_code (4 : Nat) (Option.some Jvm.ClassFile.FieldType.long)) ∈ lw_all := lw_g (lw_at lw_m2 123 rfl) rfl
theorem q423 : (Jvm.Cond.methodLink "EventCounters$Block" (23 : Nat) ({ cls := "EventCounters$Item", name := "steps", desc := "()J" } : Jvm.MethodName)) ∈ lw_all := lw_g (lw_at lw_m2 124 rfl) rfl
theorem q426 : (Jvm.Cond.selects "EventCounters$Block" ({ cls := "EventCounters$Item", name := "steps", desc := "()J" } : Jvm.MethodName) ({ cls := "EventCounters$Block", name := "steps", desc := "()J" } : Jvm.MethodName)) ∈ lw_all := lw_g (lw_at lw_m2 127 rfl) rfl
theorem q438 : (Jvm.Cond.instanceMethod ({ cls := "EventCounters$Block", name := "lays", desc := "([II)I" } : Jvm.MethodName)) ∈ lw_all := lw_g (lw_at lw_m2 139 rfl) rfl
theorem q439 : (Jvm.Cond.selects "EventCounters$Block" ({ cls := "EventCounters$Block", name := "lays", desc := "([II)I" } : Jvm.MethodName) ({ cls := "EventCounters$Block", name := "lays", desc := "([II)I" } : Jvm.MethodName)) ∈ lw_all := lw_g (lw_at lw_m2 140 rfl) rfl
theorem q440 : (Jvm.Cond.sameMethod "EventCounters$Block" "EventCounters$Block" "lays" "([II)I") ∈ lw_all := lw_g (lw_at lw_m2 141 rfl) rfl
theorem q445 : (Jvm.Cond.code ({ cls := "EventCounters$Block", name := "lays", desc := "([II)I" } : Jvm.MethodName) prog_2_method_4_code (5 : Nat) (Option.some Jvm.ClassFile.FieldType.int)) ∈ lw_all := lw_g (lw_at lw_m2 146 rfl) rfl
theorem q446 : (Jvm.Cond.methodLink "EventCounters$Block" (27 : Nat) ({ cls := "EventCounters$Item", name := "lays", desc := "([II)I" } : Jvm.MethodName)) ∈ lw_all := lw_g (lw_at lw_m2 147 rfl) rfl
theorem q449 : (Jvm.Cond.selects "EventCounters$Block" ({ cls := "EventCounters$Item", name := "lays", desc := "([II)I" } : Jvm.MethodName) ({ cls := "EventCounters$Block", name := "lays", desc := "([II)I" } : Jvm.MethodName)) ∈ lw_all := lw_g (lw_at lw_m2 150 rfl) rfl
theorem q506 : (Jvm.Cond.declares ({ cls := "EventCounters$Block", name := "lines", desc := "()I" } : Jvm.MethodName)) ∈ lw_tbl := lw_at lw_m2 207 rfl
theorem q508 : (Jvm.Cond.instanceMethod ({ cls := "EventCounters$Block", name := "lines", desc := "()I" } : Jvm.MethodName)) ∈ lw_all := lw_g (lw_at lw_m2 209 rfl) rfl
theorem q509 : (Jvm.Cond.code ({ cls := "EventCounters$Block", name := "lines", desc := "()I" } : Jvm.MethodName) prog_2_method_5_code (3 : Nat) (Option.some Jvm.ClassFile.FieldType.int)) ∈ lw_all := lw_g (lw_at lw_m2 210 rfl) rfl
theorem q510 : (Jvm.Cond.methodLink "EventCounters$Block" (31 : Nat) ({ cls := "EventCounters$Item", name := "lines", desc := "()I" } : Jvm.MethodName)) ∈ lw_all := lw_g (lw_at lw_m2 211 rfl) rfl
theorem q513 : (Jvm.Cond.selects "EventCounters$Block" ({ cls := "EventCounters$Item", name := "lines", desc := "()I" } : Jvm.MethodName) ({ cls := "EventCounters$Block", name := "lines", desc := "()I" } : Jvm.MethodName)) ∈ lw_all := lw_g (lw_at lw_m2 214 rfl) rfl
theorem q529 : (Jvm.Cond.instanceMethod ({ cls := "EventCounters$Block", name := "makes", desc := "(I)I" } : Jvm.MethodName)) ∈ lw_all := lw_g (lw_at lw_m2 230 rfl) rfl
theorem q530 : (Jvm.Cond.code ({ cls := "EventCounters$Block", name := "makes", desc := "(I)I" } : Jvm.MethodName) prog_2_method_6_code (4 : Nat) (Option.some Jvm.ClassFile.FieldType.int)) ∈ lw_all := lw_g (lw_at lw_m2 231 rfl) rfl
theorem q531 : (Jvm.Cond.methodLink "EventCounters$Block" (35 : Nat) ({ cls := "EventCounters$Item", name := "makes", desc := "(I)I" } : Jvm.MethodName)) ∈ lw_all := lw_g (lw_at lw_m2 232 rfl) rfl
theorem q534 : (Jvm.Cond.selects "EventCounters$Block" ({ cls := "EventCounters$Item", name := "makes", desc := "(I)I" } : Jvm.MethodName) ({ cls := "EventCounters$Block", name := "makes", desc := "(I)I" } : Jvm.MethodName)) ∈ lw_all := lw_g (lw_at lw_m2 235 rfl) rfl
theorem q1472 : (Jvm.Cond.sameMethod "EventCounters$Block" "EventCounters$Block" "makes" "(I)I") ∈ lw_all := lw_g (lw_at lw_m6 213 rfl) rfl
theorem q1473 : (Jvm.Cond.castable "EventCounters$Block" "EventCounters$Item") ∈ lw_tbl := lw_at lw_m6 214 rfl
theorem in_X7 : ∀ w ∈ wsX70, w ∈ lw_all := lw_in wsX70 [273, 275] (by decide +kernel) (by decide +kernel)

/-! EventCounters$Line -/
set_option maxRecDepth 100000
def RX8 : String := "EventCounters$Line"
def TX8 : u_T := fun k => match k with
  | 0 => ("EventCounters$Line", "number", "I", true)
  | 1 => ("EventCounters$Line", "deep", "I", true)
  | 2 => ("EventCounters$Line", "ticks", "I", true)
  | 3 => ("EventCounters$Line", "events", "[I", true)
  | _ => ("EventCounters$Line", "times", "I", false)
def tyX8 : Nat → FieldType := fun k => match k with
  | 0 => .int
  | 1 => .int
  | 2 => .int
  | 3 => .array .int
  | _ => .int
abbrev wsX80 : List Cond := u_ws RX8 TX8 5
theorem nmX8 : ∀ a, a < 5 → ∀ b, b < 5 → a ≠ b → (TX8 a).2.1 ≠ (TX8 b).2.1 := by decide +kernel
theorem tyX8_ok : ∀ k, k < 5 → parseFieldDescriptor (TX8 k).2.2.1 = some (tyX8 k) := by decide +kernel
abbrev cX8_init : ByteArray := prog_6_method_1_code
def yX8_init : MethodName := ⟨RX8, "<init>", "(III)V"⟩
def dkwX8_init_1 : List UInt8 := [181, 0, 22, 177]
abbrev dktX8_init_1 : List UInt8 := dkwX8_init_1 ++ []
def dkwX8_init_0 : List UInt8 := [42, 183, 0, 3, 42, 16, 8, 188, 10, 181, 0, 9, 42, 27, 181, 0, 15, 42, 28, 181, 0, 19, 42, 29]
abbrev dktX8_init_0 : List UInt8 := dkwX8_init_0 ++ dktX8_init_1
theorem dksX8_init_0 : cX8_init.data.toList.drop 0 = dktX8_init_0 := by decide +kernel
theorem dksX8_init_1 : cX8_init.data.toList.drop 24 = dktX8_init_1 := dk_seg dksX8_init_0 24 rfl rfl
theorem dX8_init_0 : decode cX8_init 0 = .ok (.aload_n 0, 1) := dk_42 (dk_at dksX8_init_0 0 rfl rfl)
theorem dX8_init_1 : decode cX8_init 1 = .ok (.invokespecial 3, 3) := dk_183 0 3 (dk_at dksX8_init_0 1 rfl rfl)
theorem dX8_init_4 : decode cX8_init 4 = .ok (.aload_n 0, 1) := dk_42 (dk_at dksX8_init_0 4 rfl rfl)
theorem dX8_init_5 : decode cX8_init 5 = .ok (.bipush 8, 2) := dk_16 8 (dk_at dksX8_init_0 5 rfl rfl)
theorem dX8_init_7 : decode cX8_init 7 = .ok (.newarray .int, 2) := dk_188_10 (dk_at dksX8_init_0 7 rfl rfl)
theorem dX8_init_9 : decode cX8_init 9 = .ok (.putfield 9, 3) := dk_181 0 9 (dk_at dksX8_init_0 9 rfl rfl)
theorem dX8_init_12 : decode cX8_init 12 = .ok (.aload_n 0, 1) := dk_42 (dk_at dksX8_init_0 12 rfl rfl)
theorem dX8_init_13 : decode cX8_init 13 = .ok (.iload_n 1, 1) := dk_27 (dk_at dksX8_init_0 13 rfl rfl)
theorem dX8_init_14 : decode cX8_init 14 = .ok (.putfield 15, 3) := dk_181 0 15 (dk_at dksX8_init_0 14 rfl rfl)
theorem dX8_init_17 : decode cX8_init 17 = .ok (.aload_n 0, 1) := dk_42 (dk_at dksX8_init_0 17 rfl rfl)
theorem dX8_init_18 : decode cX8_init 18 = .ok (.iload_n 2, 1) := dk_28 (dk_at dksX8_init_0 18 rfl rfl)
theorem dX8_init_19 : decode cX8_init 19 = .ok (.putfield 19, 3) := dk_181 0 19 (dk_at dksX8_init_0 19 rfl rfl)
theorem dX8_init_22 : decode cX8_init 22 = .ok (.aload_n 0, 1) := dk_42 (dk_at dksX8_init_0 22 rfl rfl)
theorem dX8_init_23 : decode cX8_init 23 = .ok (.iload_n 3, 1) := dk_29 (dk_at dksX8_init_0 23 rfl rfl)
theorem dX8_init_24 : decode cX8_init 24 = .ok (.putfield 22, 3) := dk_181 0 22 (dk_at dksX8_init_1 0 rfl rfl)
theorem dX8_init_27 : decode cX8_init 27 = .ok (.return_, 1) := dk_177 (dk_at dksX8_init_1 3 rfl rfl)
abbrev cX8_steps : ByteArray := prog_6_method_2_code
def yX8_steps : MethodName := ⟨RX8, "steps", "()J"⟩
theorem dX8_steps_0 : decode cX8_steps 0 = .ok (.lconst 1, 1) := by decide +kernel
theorem dX8_steps_1 : decode cX8_steps 1 = .ok (.lreturn, 1) := by decide +kernel
abbrev cX8_lays : ByteArray := prog_6_method_3_code
def yX8_lays : MethodName := ⟨RX8, "lays", "([II)I"⟩
def dkwX8_lays_0 : List UInt8 := [43, 28, 42, 180, 0, 15, 79, 42, 89, 180, 0, 25, 4, 96, 181, 0, 25, 28, 4, 96, 172]
abbrev dktX8_lays_0 : List UInt8 := dkwX8_lays_0 ++ []
theorem dksX8_lays_0 : cX8_lays.data.toList.drop 0 = dktX8_lays_0 := by decide +kernel
theorem dX8_lays_0 : decode cX8_lays 0 = .ok (.aload_n 1, 1) := dk_43 (dk_at dksX8_lays_0 0 rfl rfl)
theorem dX8_lays_1 : decode cX8_lays 1 = .ok (.iload_n 2, 1) := dk_28 (dk_at dksX8_lays_0 1 rfl rfl)
theorem dX8_lays_2 : decode cX8_lays 2 = .ok (.aload_n 0, 1) := dk_42 (dk_at dksX8_lays_0 2 rfl rfl)
theorem dX8_lays_3 : decode cX8_lays 3 = .ok (.getfield 15, 3) := dk_180 0 15 (dk_at dksX8_lays_0 3 rfl rfl)
theorem dX8_lays_6 : decode cX8_lays 6 = .ok (.iastore, 1) := dk_79 (dk_at dksX8_lays_0 6 rfl rfl)
theorem dX8_lays_7 : decode cX8_lays 7 = .ok (.aload_n 0, 1) := dk_42 (dk_at dksX8_lays_0 7 rfl rfl)
theorem dX8_lays_8 : decode cX8_lays 8 = .ok (.dup, 1) := dk_89 (dk_at dksX8_lays_0 8 rfl rfl)
theorem dX8_lays_9 : decode cX8_lays 9 = .ok (.getfield 25, 3) := dk_180 0 25 (dk_at dksX8_lays_0 9 rfl rfl)
theorem dX8_lays_12 : decode cX8_lays 12 = .ok (.iconst 1, 1) := dk_4 (dk_at dksX8_lays_0 12 rfl rfl)
theorem dX8_lays_13 : decode cX8_lays 13 = .ok (.iadd, 1) := dk_96 (dk_at dksX8_lays_0 13 rfl rfl)
theorem dX8_lays_14 : decode cX8_lays 14 = .ok (.putfield 25, 3) := dk_181 0 25 (dk_at dksX8_lays_0 14 rfl rfl)
theorem dX8_lays_17 : decode cX8_lays 17 = .ok (.iload_n 2, 1) := dk_28 (dk_at dksX8_lays_0 17 rfl rfl)
theorem dX8_lays_18 : decode cX8_lays 18 = .ok (.iconst 1, 1) := dk_4 (dk_at dksX8_lays_0 18 rfl rfl)
theorem dX8_lays_19 : decode cX8_lays 19 = .ok (.iadd, 1) := dk_96 (dk_at dksX8_lays_0 19 rfl rfl)
theorem dX8_lays_20 : decode cX8_lays 20 = .ok (.ireturn, 1) := dk_172 (dk_at dksX8_lays_0 20 rfl rfl)
abbrev cX8_lines : ByteArray := prog_6_method_4_code
def yX8_lines : MethodName := ⟨RX8, "lines", "()I"⟩
def dkwX8_lines_0 : List UInt8 := [4, 42, 180, 0, 15, 120, 172]
abbrev dktX8_lines_0 : List UInt8 := dkwX8_lines_0 ++ []
theorem dksX8_lines_0 : cX8_lines.data.toList.drop 0 = dktX8_lines_0 := by decide +kernel
theorem dX8_lines_0 : decode cX8_lines 0 = .ok (.iconst 1, 1) := dk_4 (dk_at dksX8_lines_0 0 rfl rfl)
theorem dX8_lines_1 : decode cX8_lines 1 = .ok (.aload_n 0, 1) := dk_42 (dk_at dksX8_lines_0 1 rfl rfl)
theorem dX8_lines_2 : decode cX8_lines 2 = .ok (.getfield 15, 3) := dk_180 0 15 (dk_at dksX8_lines_0 2 rfl rfl)
theorem dX8_lines_5 : decode cX8_lines 5 = .ok (.ishl, 1) := dk_120 (dk_at dksX8_lines_0 5 rfl rfl)
theorem dX8_lines_6 : decode cX8_lines 6 = .ok (.ireturn, 1) := dk_172 (dk_at dksX8_lines_0 6 rfl rfl)
abbrev cX8_makes : ByteArray := prog_6_method_5_code
def yX8_makes : MethodName := ⟨RX8, "makes", "(I)I"⟩
def dkwX8_makes_0 : List UInt8 := [42, 180, 0, 9, 27, 46, 172]
abbrev dktX8_makes_0 : List UInt8 := dkwX8_makes_0 ++ []
theorem dksX8_makes_0 : cX8_makes.data.toList.drop 0 = dktX8_makes_0 := by decide +kernel
theorem dX8_makes_0 : decode cX8_makes 0 = .ok (.aload_n 0, 1) := dk_42 (dk_at dksX8_makes_0 0 rfl rfl)
theorem dX8_makes_1 : decode cX8_makes 1 = .ok (.getfield 9, 3) := dk_180 0 9 (dk_at dksX8_makes_0 1 rfl rfl)
theorem dX8_makes_4 : decode cX8_makes 4 = .ok (.iload_n 1, 1) := dk_27 (dk_at dksX8_makes_0 4 rfl rfl)
theorem dX8_makes_5 : decode cX8_makes 5 = .ok (.iaload, 1) := dk_46 (dk_at dksX8_makes_0 5 rfl rfl)
theorem dX8_makes_6 : decode cX8_makes 6 = .ok (.ireturn, 1) := dk_172 (dk_at dksX8_makes_0 6 rfl rfl)
theorem q76 : (Jvm.Cond.initialized "EventCounters$Line") ∈ lw_all := lw_g (lw_at lw_m1 17 rfl) rfl
theorem q340 : (Jvm.Cond.instantiable "EventCounters$Line" (5 : Nat)) ∈ lw_all := lw_g (lw_at lw_m2 41 rfl) rfl
theorem q346 : (Jvm.Cond.instanceMethod ({ cls := "EventCounters$Line", name := "<init>", desc := "(III)V" } : Jvm.MethodName)) ∈ lw_all := lw_g (lw_at lw_m2 47 rfl) rfl
theorem q347 : (Jvm.Cond.code ({ cls := "EventCounters$Line", name := "<init>", desc := "(III)V" } : Jvm.MethodName) prog_6_method_1_code (4 : Nat) (Option.none : Option Jvm.ClassFile.FieldType)) ∈ lw_all := lw_g (lw_at lw_m2 48 rfl) rfl
theorem q348 : (Jvm.Cond.methodLinkNest "EventCounters$Line" (3 : Nat) ({ cls := "EventCounters$Item", name := "<init>", desc := "()V" } : Jvm.MethodName) "EventCounters") ∈ lw_tbl := lw_at lw_m2 49 rfl
theorem q349 : (Jvm.Cond.fieldLink "EventCounters$Line" (15 : Nat) "EventCounters$Line" "number" "I") ∈ lw_all := lw_g (lw_at lw_m2 50 rfl) rfl
theorem q350 : (Jvm.Cond.fieldLink "EventCounters$Line" (19 : Nat) "EventCounters$Line" "deep" "I") ∈ lw_all := lw_g (lw_at lw_m2 51 rfl) rfl
theorem q352 : (Jvm.Cond.fieldLink "EventCounters$Line" (22 : Nat) "EventCounters$Line" "ticks" "I") ∈ lw_all := lw_g (lw_at lw_m2 53 rfl) rfl
theorem q354 : (Jvm.Cond.fieldLink "EventCounters$Line" (9 : Nat) "EventCounters$Line" "events" "[I") ∈ lw_all := lw_g (lw_at lw_m2 55 rfl) rfl
theorem q357 : (Jvm.Cond.fieldLink "EventCounters$Line" (25 : Nat) "EventCounters$Line" "times" "I") ∈ lw_all := lw_g (lw_at lw_m2 58 rfl) rfl
theorem q359 : (Jvm.Cond.laysFinal "EventCounters$Line" "EventCounters$Line" "number" "I") ∈ lw_all := lw_g (lw_at lw_m2 60 rfl) rfl
theorem q360 : (Jvm.Cond.soleField "EventCounters$Line" "number") ∈ lw_all := lw_g (lw_at lw_m2 61 rfl) rfl
theorem q361 : (Jvm.Cond.laysFinal "EventCounters$Line" "EventCounters$Line" "deep" "I") ∈ lw_all := lw_g (lw_at lw_m2 62 rfl) rfl
theorem q362 : (Jvm.Cond.soleField "EventCounters$Line" "deep") ∈ lw_all := lw_g (lw_at lw_m2 63 rfl) rfl
theorem q363 : (Jvm.Cond.laysFinal "EventCounters$Line" "EventCounters$Line" "ticks" "I") ∈ lw_all := lw_g (lw_at lw_m2 64 rfl) rfl
theorem q364 : (Jvm.Cond.soleField "EventCounters$Line" "ticks") ∈ lw_all := lw_g (lw_at lw_m2 65 rfl) rfl
theorem q365 : (Jvm.Cond.laysFinal "EventCounters$Line" "EventCounters$Line" "events" "[I") ∈ lw_all := lw_g (lw_at lw_m2 66 rfl) rfl
theorem q366 : (Jvm.Cond.soleField "EventCounters$Line" "events") ∈ lw_all := lw_g (lw_at lw_m2 67 rfl) rfl
theorem q367 : (Jvm.Cond.lays "EventCounters$Line" "EventCounters$Line" "times" "I") ∈ lw_all := lw_g (lw_at lw_m2 68 rfl) rfl
theorem q368 : (Jvm.Cond.soleField "EventCounters$Line" "times") ∈ lw_all := lw_g (lw_at lw_m2 69 rfl) rfl
theorem q369 : (Jvm.Cond.superclass "EventCounters$Line" "EventCounters$Item") ∈ lw_all := lw_g (lw_at lw_m2 70 rfl) rfl
theorem q427 : (Jvm.Cond.selects "EventCounters$Line" ({ cls := "EventCounters$Item", name := "steps", desc := "()J" } : Jvm.MethodName) ({ cls := "EventCounters$Line", name := "steps", desc := "()J" } : Jvm.MethodName)) ∈ lw_all := lw_g (lw_at lw_m2 128 rfl) rfl
theorem q428 : (Jvm.Cond.instanceMethod ({ cls := "EventCounters$Line", name := "steps", desc := "()J" } : Jvm.MethodName)) ∈ lw_all := lw_g (lw_at lw_m2 129 rfl) rfl
theorem q429 : (Jvm.Cond.code ({ cls := "EventCounters$Line", name := "steps", desc := "()J" } : Jvm.MethodName) prog_6_method_2_code (1 : Nat) (Option.some Jvm.ClassFile.FieldType.long)) ∈ lw_all := lw_g (lw_at lw_m2 130 rfl) rfl
theorem q450 : (Jvm.Cond.selects "EventCounters$Line" ({ cls := "EventCounters$Item", name := "lays", desc := "([II)I" } : Jvm.MethodName) ({ cls := "EventCounters$Line", name := "lays", desc := "([II)I" } : Jvm.MethodName)) ∈ lw_all := lw_g (lw_at lw_m2 151 rfl) rfl
theorem q451 : (Jvm.Cond.instanceMethod ({ cls := "EventCounters$Line", name := "lays", desc := "([II)I" } : Jvm.MethodName)) ∈ lw_all := lw_g (lw_at lw_m2 152 rfl) rfl
theorem q452 : (Jvm.Cond.code ({ cls := "EventCounters$Line", name := "lays", desc := "([II)I" } : Jvm.MethodName) prog_6_method_3_code (3 : Nat) (Option.some Jvm.ClassFile.FieldType.int)) ∈ lw_all := lw_g (lw_at lw_m2 153 rfl) rfl
theorem q514 : (Jvm.Cond.selects "EventCounters$Line" ({ cls := "EventCounters$Item", name := "lines", desc := "()I" } : Jvm.MethodName) ({ cls := "EventCounters$Line", name := "lines", desc := "()I" } : Jvm.MethodName)) ∈ lw_all := lw_g (lw_at lw_m2 215 rfl) rfl
theorem q515 : (Jvm.Cond.instanceMethod ({ cls := "EventCounters$Line", name := "lines", desc := "()I" } : Jvm.MethodName)) ∈ lw_all := lw_g (lw_at lw_m2 216 rfl) rfl
theorem q516 : (Jvm.Cond.code ({ cls := "EventCounters$Line", name := "lines", desc := "()I" } : Jvm.MethodName) prog_6_method_4_code (1 : Nat) (Option.some Jvm.ClassFile.FieldType.int)) ∈ lw_all := lw_g (lw_at lw_m2 217 rfl) rfl
theorem q535 : (Jvm.Cond.selects "EventCounters$Line" ({ cls := "EventCounters$Item", name := "makes", desc := "(I)I" } : Jvm.MethodName) ({ cls := "EventCounters$Line", name := "makes", desc := "(I)I" } : Jvm.MethodName)) ∈ lw_all := lw_g (lw_at lw_m2 236 rfl) rfl
theorem q536 : (Jvm.Cond.instanceMethod ({ cls := "EventCounters$Line", name := "makes", desc := "(I)I" } : Jvm.MethodName)) ∈ lw_all := lw_g (lw_at lw_m2 237 rfl) rfl
theorem q537 : (Jvm.Cond.code ({ cls := "EventCounters$Line", name := "makes", desc := "(I)I" } : Jvm.MethodName) prog_6_method_5_code (2 : Nat) (Option.some Jvm.ClassFile.FieldType.int)) ∈ lw_all := lw_g (lw_at lw_m2 238 rfl) rfl
theorem q1474 : (Jvm.Cond.castable "EventCounters$Line" "EventCounters$Item") ∈ lw_tbl := lw_at lw_m6 215 rfl
theorem in_X8 : ∀ w ∈ wsX80, w ∈ lw_all := lw_in wsX80 [359, 361, 363, 365, 367] (by decide +kernel) (by decide +kernel)

/-! EventCounters$Loop -/
set_option maxRecDepth 100000
def RX9 : String := "EventCounters$Loop"
def TX9 : u_T := fun k => match k with
  | 0 => ("EventCounters$Block", "items", "[LEventCounters$Item;", false)
  | 1 => ("EventCounters$Block", "many", "I", false)
  | 2 => ("EventCounters$Loop", "times", "I", true)
  | 3 => ("EventCounters$Loop", "deep", "I", true)
  | _ => ("EventCounters$Loop", "comes", "I", true)
def tyX9 : Nat → FieldType := fun k => match k with
  | 0 => .array (.object "EventCounters$Item")
  | 1 => .int
  | 2 => .int
  | 3 => .int
  | _ => .int
abbrev wsX90 : List Cond := u_ws RX9 TX9 5
theorem nmX9 : ∀ a, a < 5 → ∀ b, b < 5 → a ≠ b → (TX9 a).2.1 ≠ (TX9 b).2.1 := by decide +kernel
theorem tyX9_ok : ∀ k, k < 5 → parseFieldDescriptor (TX9 k).2.2.1 = some (tyX9 k) := by decide +kernel
abbrev cX9_init : ByteArray := prog_7_method_1_code
def yX9_init : MethodName := ⟨RX9, "<init>", "(III)V"⟩
def dkwX9_init_0 : List UInt8 := [42, 183, 0, 1, 42, 27, 181, 0, 7, 42, 28, 181, 0, 13, 42, 29, 181, 0, 16, 177]
abbrev dktX9_init_0 : List UInt8 := dkwX9_init_0 ++ []
theorem dksX9_init_0 : cX9_init.data.toList.drop 0 = dktX9_init_0 := by decide +kernel
theorem dX9_init_0 : decode cX9_init 0 = .ok (.aload_n 0, 1) := dk_42 (dk_at dksX9_init_0 0 rfl rfl)
theorem dX9_init_1 : decode cX9_init 1 = .ok (.invokespecial 1, 3) := dk_183 0 1 (dk_at dksX9_init_0 1 rfl rfl)
theorem dX9_init_4 : decode cX9_init 4 = .ok (.aload_n 0, 1) := dk_42 (dk_at dksX9_init_0 4 rfl rfl)
theorem dX9_init_5 : decode cX9_init 5 = .ok (.iload_n 1, 1) := dk_27 (dk_at dksX9_init_0 5 rfl rfl)
theorem dX9_init_6 : decode cX9_init 6 = .ok (.putfield 7, 3) := dk_181 0 7 (dk_at dksX9_init_0 6 rfl rfl)
theorem dX9_init_9 : decode cX9_init 9 = .ok (.aload_n 0, 1) := dk_42 (dk_at dksX9_init_0 9 rfl rfl)
theorem dX9_init_10 : decode cX9_init 10 = .ok (.iload_n 2, 1) := dk_28 (dk_at dksX9_init_0 10 rfl rfl)
theorem dX9_init_11 : decode cX9_init 11 = .ok (.putfield 13, 3) := dk_181 0 13 (dk_at dksX9_init_0 11 rfl rfl)
theorem dX9_init_14 : decode cX9_init 14 = .ok (.aload_n 0, 1) := dk_42 (dk_at dksX9_init_0 14 rfl rfl)
theorem dX9_init_15 : decode cX9_init 15 = .ok (.iload_n 3, 1) := dk_29 (dk_at dksX9_init_0 15 rfl rfl)
theorem dX9_init_16 : decode cX9_init 16 = .ok (.putfield 16, 3) := dk_181 0 16 (dk_at dksX9_init_0 16 rfl rfl)
theorem dX9_init_19 : decode cX9_init 19 = .ok (.return_, 1) := dk_177 (dk_at dksX9_init_0 19 rfl rfl)
abbrev cX9_steps : ByteArray := prog_7_method_4_code
def yX9_steps : MethodName := ⟨RX9, "steps", "()J"⟩
def dkwX9_steps_0 : List UInt8 := [42, 180, 0, 7, 133, 42, 183, 0, 23, 105, 173]
abbrev dktX9_steps_0 : List UInt8 := dkwX9_steps_0 ++ []
theorem dksX9_steps_0 : cX9_steps.data.toList.drop 0 = dktX9_steps_0 := by decide +kernel
theorem dX9_steps_0 : decode cX9_steps 0 = .ok (.aload_n 0, 1) := dk_42 (dk_at dksX9_steps_0 0 rfl rfl)
theorem dX9_steps_1 : decode cX9_steps 1 = .ok (.getfield 7, 3) := dk_180 0 7 (dk_at dksX9_steps_0 1 rfl rfl)
theorem dX9_steps_4 : decode cX9_steps 4 = .ok (.i2l, 1) := dk_133 (dk_at dksX9_steps_0 4 rfl rfl)
theorem dX9_steps_5 : decode cX9_steps 5 = .ok (.aload_n 0, 1) := dk_42 (dk_at dksX9_steps_0 5 rfl rfl)
theorem dX9_steps_6 : decode cX9_steps 6 = .ok (.invokespecial 23, 3) := dk_183 0 23 (dk_at dksX9_steps_0 6 rfl rfl)
theorem dX9_steps_9 : decode cX9_steps 9 = .ok (.lmul, 1) := dk_105 (dk_at dksX9_steps_0 9 rfl rfl)
theorem dX9_steps_10 : decode cX9_steps 10 = .ok (.lreturn, 1) := dk_173 (dk_at dksX9_steps_0 10 rfl rfl)
abbrev cX9_lays : ByteArray := prog_7_method_5_code
def yX9_lays : MethodName := ⟨RX9, "lays", "([II)I"⟩
def dkwX9_lays_1 : List UInt8 := [43, 29, 183, 0, 27, 62, 132, 4, 1, 167, 255, 228, 29, 172]
abbrev dktX9_lays_1 : List UInt8 := dkwX9_lays_1 ++ []
def dkwX9_lays_0 : List UInt8 := [28, 62, 3, 54, 4, 21, 4, 42, 180, 0, 7, 162, 0, 25, 42, 183, 0, 23, 9, 148, 158, 0, 16, 42]
abbrev dktX9_lays_0 : List UInt8 := dkwX9_lays_0 ++ dktX9_lays_1
theorem dksX9_lays_0 : cX9_lays.data.toList.drop 0 = dktX9_lays_0 := by decide +kernel
theorem dksX9_lays_1 : cX9_lays.data.toList.drop 24 = dktX9_lays_1 := dk_seg dksX9_lays_0 24 rfl rfl
theorem dX9_lays_0 : decode cX9_lays 0 = .ok (.iload_n 2, 1) := dk_28 (dk_at dksX9_lays_0 0 rfl rfl)
theorem dX9_lays_1 : decode cX9_lays 1 = .ok (.istore_n 3, 1) := dk_62 (dk_at dksX9_lays_0 1 rfl rfl)
theorem dX9_lays_2 : decode cX9_lays 2 = .ok (.iconst 0, 1) := dk_3 (dk_at dksX9_lays_0 2 rfl rfl)
theorem dX9_lays_3 : decode cX9_lays 3 = .ok (.istore 4, 2) := dk_54 4 (dk_at dksX9_lays_0 3 rfl rfl)
theorem dX9_lays_5 : decode cX9_lays 5 = .ok (.iload 4, 2) := dk_21 4 (dk_at dksX9_lays_0 5 rfl rfl)
theorem dX9_lays_7 : decode cX9_lays 7 = .ok (.aload_n 0, 1) := dk_42 (dk_at dksX9_lays_0 7 rfl rfl)
theorem dX9_lays_8 : decode cX9_lays 8 = .ok (.getfield 7, 3) := dk_180 0 7 (dk_at dksX9_lays_0 8 rfl rfl)
theorem dX9_lays_11 : decode cX9_lays 11 = .ok (.if_icmp .ge 25, 3) := dk_162 0 25 (dk_at dksX9_lays_0 11 rfl rfl)
theorem dX9_lays_14 : decode cX9_lays 14 = .ok (.aload_n 0, 1) := dk_42 (dk_at dksX9_lays_0 14 rfl rfl)
theorem dX9_lays_15 : decode cX9_lays 15 = .ok (.invokespecial 23, 3) := dk_183 0 23 (dk_at dksX9_lays_0 15 rfl rfl)
theorem dX9_lays_18 : decode cX9_lays 18 = .ok (.lconst 0, 1) := dk_9 (dk_at dksX9_lays_0 18 rfl rfl)
theorem dX9_lays_19 : decode cX9_lays 19 = .ok (.lcmp, 1) := dk_148 (dk_at dksX9_lays_0 19 rfl rfl)
theorem dX9_lays_20 : decode cX9_lays 20 = .ok (.ifCond .le 16, 3) := dk_158 0 16 (dk_at dksX9_lays_0 20 rfl rfl)
theorem dX9_lays_23 : decode cX9_lays 23 = .ok (.aload_n 0, 1) := dk_42 (dk_at dksX9_lays_0 23 rfl rfl)
theorem dX9_lays_24 : decode cX9_lays 24 = .ok (.aload_n 1, 1) := dk_43 (dk_at dksX9_lays_1 0 rfl rfl)
theorem dX9_lays_25 : decode cX9_lays 25 = .ok (.iload_n 3, 1) := dk_29 (dk_at dksX9_lays_1 1 rfl rfl)
theorem dX9_lays_26 : decode cX9_lays 26 = .ok (.invokespecial 27, 3) := dk_183 0 27 (dk_at dksX9_lays_1 2 rfl rfl)
theorem dX9_lays_29 : decode cX9_lays 29 = .ok (.istore_n 3, 1) := dk_62 (dk_at dksX9_lays_1 5 rfl rfl)
theorem dX9_lays_30 : decode cX9_lays 30 = .ok (.iinc 4 1, 3) := dk_132 4 1 (dk_at dksX9_lays_1 6 rfl rfl)
theorem dX9_lays_33 : decode cX9_lays 33 = .ok (.goto (-28), 3) := dk_167 255 228 (dk_at dksX9_lays_1 9 rfl rfl)
theorem dX9_lays_36 : decode cX9_lays 36 = .ok (.iload_n 3, 1) := dk_29 (dk_at dksX9_lays_1 12 rfl rfl)
theorem dX9_lays_37 : decode cX9_lays 37 = .ok (.ireturn, 1) := dk_172 (dk_at dksX9_lays_1 13 rfl rfl)
abbrev cX9_makesOnce : ByteArray := prog_7_method_3_code
def yX9_makesOnce : MethodName := ⟨RX9, "makesOnce", "(I)I"⟩
def dkwX9_makesOnce_0 : List UInt8 := [42, 27, 183, 0, 19, 172]
abbrev dktX9_makesOnce_0 : List UInt8 := dkwX9_makesOnce_0 ++ []
theorem dksX9_makesOnce_0 : cX9_makesOnce.data.toList.drop 0 = dktX9_makesOnce_0 := by decide +kernel
theorem dX9_makesOnce_0 : decode cX9_makesOnce 0 = .ok (.aload_n 0, 1) := dk_42 (dk_at dksX9_makesOnce_0 0 rfl rfl)
theorem dX9_makesOnce_1 : decode cX9_makesOnce 1 = .ok (.iload_n 1, 1) := dk_27 (dk_at dksX9_makesOnce_0 1 rfl rfl)
theorem dX9_makesOnce_2 : decode cX9_makesOnce 2 = .ok (.invokespecial 19, 3) := dk_183 0 19 (dk_at dksX9_makesOnce_0 2 rfl rfl)
theorem dX9_makesOnce_5 : decode cX9_makesOnce 5 = .ok (.ireturn, 1) := dk_172 (dk_at dksX9_makesOnce_0 5 rfl rfl)
abbrev cX9_makes : ByteArray := prog_7_method_2_code
def yX9_makes : MethodName := ⟨RX9, "makes", "(I)I"⟩
def dkwX9_makes_0 : List UInt8 := [42, 180, 0, 7, 42, 27, 183, 0, 19, 104, 172]
abbrev dktX9_makes_0 : List UInt8 := dkwX9_makes_0 ++ []
theorem dksX9_makes_0 : cX9_makes.data.toList.drop 0 = dktX9_makes_0 := by decide +kernel
theorem dX9_makes_0 : decode cX9_makes 0 = .ok (.aload_n 0, 1) := dk_42 (dk_at dksX9_makes_0 0 rfl rfl)
theorem dX9_makes_1 : decode cX9_makes 1 = .ok (.getfield 7, 3) := dk_180 0 7 (dk_at dksX9_makes_0 1 rfl rfl)
theorem dX9_makes_4 : decode cX9_makes 4 = .ok (.aload_n 0, 1) := dk_42 (dk_at dksX9_makes_0 4 rfl rfl)
theorem dX9_makes_5 : decode cX9_makes 5 = .ok (.iload_n 1, 1) := dk_27 (dk_at dksX9_makes_0 5 rfl rfl)
theorem dX9_makes_6 : decode cX9_makes 6 = .ok (.invokespecial 19, 3) := dk_183 0 19 (dk_at dksX9_makes_0 6 rfl rfl)
theorem dX9_makes_9 : decode cX9_makes 9 = .ok (.imul, 1) := dk_104 (dk_at dksX9_makes_0 9 rfl rfl)
theorem dX9_makes_10 : decode cX9_makes 10 = .ok (.ireturn, 1) := dk_172 (dk_at dksX9_makes_0 10 rfl rfl)
theorem q77 : (Jvm.Cond.initialized "EventCounters$Loop") ∈ lw_all := lw_g (lw_at lw_m1 18 rfl) rfl
theorem q380 : (Jvm.Cond.instantiable "EventCounters$Loop" (5 : Nat)) ∈ lw_all := lw_g (lw_at lw_m2 81 rfl) rfl
theorem q382 : (Jvm.Cond.instanceMethod ({ cls := "EventCounters$Loop", name := "<init>", desc := "(III)V" } : Jvm.MethodName)) ∈ lw_all := lw_g (lw_at lw_m2 83 rfl) rfl
theorem q383 : (Jvm.Cond.code ({ cls := "EventCounters$Loop", name := "<init>", desc := "(III)V" } : Jvm.MethodName) prog_7_method_1_code (4 : Nat) (Option.none : Option Jvm.ClassFile.FieldType)) ∈ lw_all := lw_g (lw_at lw_m2 84 rfl) rfl
theorem q384 : (Jvm.Cond.methodLinkNest "EventCounters$Loop" (1 : Nat) ({ cls := "EventCounters$Block", name := "<init>", desc := "()V" } : Jvm.MethodName) "EventCounters") ∈ lw_tbl := lw_at lw_m2 85 rfl
theorem q385 : (Jvm.Cond.fieldLink "EventCounters$Loop" (7 : Nat) "EventCounters$Loop" "times" "I") ∈ lw_all := lw_g (lw_at lw_m2 86 rfl) rfl
theorem q388 : (Jvm.Cond.fieldLink "EventCounters$Loop" (13 : Nat) "EventCounters$Loop" "deep" "I") ∈ lw_all := lw_g (lw_at lw_m2 89 rfl) rfl
theorem q390 : (Jvm.Cond.fieldLink "EventCounters$Loop" (16 : Nat) "EventCounters$Loop" "comes" "I") ∈ lw_all := lw_g (lw_at lw_m2 91 rfl) rfl
theorem q392 : (Jvm.Cond.laysFinal "EventCounters$Loop" "EventCounters$Loop" "times" "I") ∈ lw_all := lw_g (lw_at lw_m2 93 rfl) rfl
theorem q393 : (Jvm.Cond.soleField "EventCounters$Loop" "times") ∈ lw_all := lw_g (lw_at lw_m2 94 rfl) rfl
theorem q394 : (Jvm.Cond.laysFinal "EventCounters$Loop" "EventCounters$Loop" "deep" "I") ∈ lw_all := lw_g (lw_at lw_m2 95 rfl) rfl
theorem q395 : (Jvm.Cond.soleField "EventCounters$Loop" "deep") ∈ lw_all := lw_g (lw_at lw_m2 96 rfl) rfl
theorem q396 : (Jvm.Cond.laysFinal "EventCounters$Loop" "EventCounters$Loop" "comes" "I") ∈ lw_all := lw_g (lw_at lw_m2 97 rfl) rfl
theorem q397 : (Jvm.Cond.soleField "EventCounters$Loop" "comes") ∈ lw_all := lw_g (lw_at lw_m2 98 rfl) rfl
theorem q398 : (Jvm.Cond.lays "EventCounters$Loop" "EventCounters$Block" "items" "[LEventCounters$Item;") ∈ lw_all := lw_g (lw_at lw_m2 99 rfl) rfl
theorem q399 : (Jvm.Cond.lays "EventCounters$Loop" "EventCounters$Block" "many" "I") ∈ lw_all := lw_g (lw_at lw_m2 100 rfl) rfl
theorem q400 : (Jvm.Cond.superclass "EventCounters$Loop" "EventCounters$Block") ∈ lw_all := lw_g (lw_at lw_m2 101 rfl) rfl
theorem q411 : (Jvm.Cond.selects "EventCounters$Loop" ({ cls := "EventCounters$Block", name := "adds", desc := "(LEventCounters$Item;)V" } : Jvm.MethodName) ({ cls := "EventCounters$Block", name := "adds", desc := "(LEventCounters$Item;)V" } : Jvm.MethodName)) ∈ lw_all := lw_g (lw_at lw_m2 112 rfl) rfl
theorem q418 : (Jvm.Cond.selects "EventCounters$Loop" ({ cls := "EventCounters$Block", name := "steps", desc := "()J" } : Jvm.MethodName) ({ cls := "EventCounters$Loop", name := "steps", desc := "()J" } : Jvm.MethodName)) ∈ lw_all := lw_g (lw_at lw_m2 119 rfl) rfl
theorem q419 : (Jvm.Cond.instanceMethod ({ cls := "EventCounters$Loop", name := "steps", desc := "()J" } : Jvm.MethodName)) ∈ lw_all := lw_g (lw_at lw_m2 120 rfl) rfl
theorem q420 : (Jvm.Cond.code ({ cls := "EventCounters$Loop", name := "steps", desc := "()J" } : Jvm.MethodName) prog_7_method_4_code (1 : Nat) (Option.some Jvm.ClassFile.FieldType.long)) ∈ lw_all := lw_g (lw_at lw_m2 121 rfl) rfl
theorem q421 : (Jvm.Cond.methodLink "EventCounters$Loop" (23 : Nat) ({ cls := "EventCounters$Block", name := "steps", desc := "()J" } : Jvm.MethodName)) ∈ lw_all := lw_g (lw_at lw_m2 122 rfl) rfl
theorem q430 : (Jvm.Cond.selects "EventCounters$Loop" ({ cls := "EventCounters$Item", name := "steps", desc := "()J" } : Jvm.MethodName) ({ cls := "EventCounters$Loop", name := "steps", desc := "()J" } : Jvm.MethodName)) ∈ lw_all := lw_g (lw_at lw_m2 131 rfl) rfl
theorem q441 : (Jvm.Cond.selects "EventCounters$Loop" ({ cls := "EventCounters$Block", name := "lays", desc := "([II)I" } : Jvm.MethodName) ({ cls := "EventCounters$Loop", name := "lays", desc := "([II)I" } : Jvm.MethodName)) ∈ lw_all := lw_g (lw_at lw_m2 142 rfl) rfl
theorem q442 : (Jvm.Cond.instanceMethod ({ cls := "EventCounters$Loop", name := "lays", desc := "([II)I" } : Jvm.MethodName)) ∈ lw_all := lw_g (lw_at lw_m2 143 rfl) rfl
theorem q443 : (Jvm.Cond.code ({ cls := "EventCounters$Loop", name := "lays", desc := "([II)I" } : Jvm.MethodName) prog_7_method_5_code (5 : Nat) (Option.some Jvm.ClassFile.FieldType.int)) ∈ lw_all := lw_g (lw_at lw_m2 144 rfl) rfl
theorem q444 : (Jvm.Cond.methodLink "EventCounters$Loop" (27 : Nat) ({ cls := "EventCounters$Block", name := "lays", desc := "([II)I" } : Jvm.MethodName)) ∈ lw_all := lw_g (lw_at lw_m2 145 rfl) rfl
theorem q453 : (Jvm.Cond.selects "EventCounters$Loop" ({ cls := "EventCounters$Item", name := "lays", desc := "([II)I" } : Jvm.MethodName) ({ cls := "EventCounters$Loop", name := "lays", desc := "([II)I" } : Jvm.MethodName)) ∈ lw_all := lw_g (lw_at lw_m2 154 rfl) rfl
theorem q505 : (Jvm.Cond.sameMethod "EventCounters$Loop" "EventCounters$Block" "lines" "()I") ∈ lw_all := lw_g (lw_at lw_m2 206 rfl) rfl
theorem q507 : (Jvm.Cond.selects "EventCounters$Loop" ({ cls := "EventCounters$Loop", name := "lines", desc := "()I" } : Jvm.MethodName) ({ cls := "EventCounters$Block", name := "lines", desc := "()I" } : Jvm.MethodName)) ∈ lw_all := lw_g (lw_at lw_m2 208 rfl) rfl
theorem q517 : (Jvm.Cond.selects "EventCounters$Loop" ({ cls := "EventCounters$Item", name := "lines", desc := "()I" } : Jvm.MethodName) ({ cls := "EventCounters$Block", name := "lines", desc := "()I" } : Jvm.MethodName)) ∈ lw_all := lw_g (lw_at lw_m2 218 rfl) rfl
theorem q525 : (Jvm.Cond.instanceMethod ({ cls := "EventCounters$Loop", name := "makesOnce", desc := "(I)I" } : Jvm.MethodName)) ∈ lw_all := lw_g (lw_at lw_m2 226 rfl) rfl
theorem q526 : (Jvm.Cond.selects "EventCounters$Loop" ({ cls := "EventCounters$Loop", name := "makesOnce", desc := "(I)I" } : Jvm.MethodName) ({ cls := "EventCounters$Loop", name := "makesOnce", desc := "(I)I" } : Jvm.MethodName)) ∈ lw_all := lw_g (lw_at lw_m2 227 rfl) rfl
theorem q527 : (Jvm.Cond.code ({ cls := "EventCounters$Loop", name := "makesOnce", desc := "(I)I" } : Jvm.MethodName) prog_7_method_3_code (2 : Nat) (Option.some Jvm.ClassFile.FieldType.int)) ∈ lw_all := lw_g (lw_at lw_m2 228 rfl) rfl
theorem q528 : (Jvm.Cond.methodLink "EventCounters$Loop" (19 : Nat) ({ cls := "EventCounters$Block", name := "makes", desc := "(I)I" } : Jvm.MethodName)) ∈ lw_all := lw_g (lw_at lw_m2 229 rfl) rfl
theorem q538 : (Jvm.Cond.selects "EventCounters$Loop" ({ cls := "EventCounters$Item", name := "makes", desc := "(I)I" } : Jvm.MethodName) ({ cls := "EventCounters$Loop", name := "makes", desc := "(I)I" } : Jvm.MethodName)) ∈ lw_all := lw_g (lw_at lw_m2 239 rfl) rfl
theorem q539 : (Jvm.Cond.instanceMethod ({ cls := "EventCounters$Loop", name := "makes", desc := "(I)I" } : Jvm.MethodName)) ∈ lw_all := lw_g (lw_at lw_m3 0 rfl) rfl
theorem q540 : (Jvm.Cond.code ({ cls := "EventCounters$Loop", name := "makes", desc := "(I)I" } : Jvm.MethodName) prog_7_method_2_code (2 : Nat) (Option.some Jvm.ClassFile.FieldType.int)) ∈ lw_all := lw_g (lw_at lw_m3 1 rfl) rfl
theorem q1471 : (Jvm.Cond.selects "EventCounters$Loop" ({ cls := "EventCounters$Loop", name := "steps", desc := "()J" } : Jvm.MethodName) ({ cls := "EventCounters$Loop", name := "steps", desc := "()J" } : Jvm.MethodName)) ∈ lw_all := lw_g (lw_at lw_m6 212 rfl) rfl
theorem q1475 : (Jvm.Cond.castable "EventCounters$Loop" "EventCounters$Item") ∈ lw_tbl := lw_at lw_m6 216 rfl
theorem in_X9 : ∀ w ∈ wsX90, w ∈ lw_all := lw_in wsX90 [398, 399, 392, 394, 396] (by decide +kernel) (by decide +kernel)

theorem q59 : (Jvm.Cond.initialized "EventCountersLaw") ∈ lw_all := lw_g (lw_at lw_m1 0 rfl) rfl
set_option maxRecDepth 100000
theorem q86 : (Jvm.Cond.methodLink "EventCountersLaw" (15 : Nat) ({ cls := "EventCounters", name := "feed", desc := "(J)I" } : Jvm.MethodName)) ∈ lw_all := lw_g (lw_at lw_m1 27 rfl) rfl
theorem q90 : (Jvm.Cond.methodLink "EventCountersLaw" (20 : Nat) ({ cls := "EventCounters", name := "end", desc := "(I)I" } : Jvm.MethodName)) ∈ lw_all := lw_g (lw_at lw_m1 31 rfl) rfl
theorem q97 : (Jvm.Cond.methodLink "EventCountersLaw" (25 : Nat) ({ cls := "EventCounters", name := "program", desc := "()I" } : Jvm.MethodName)) ∈ lw_all := lw_g (lw_at lw_m1 38 rfl) rfl
theorem q457 : (Jvm.Cond.methodLink "EventCountersLaw" (30 : Nat) ({ cls := "EventCounters", name := "fault", desc := "()I" } : Jvm.MethodName)) ∈ lw_all := lw_g (lw_at lw_m2 158 rfl) rfl
theorem q461 : (Jvm.Cond.methodLink "EventCountersLaw" (34 : Nat) ({ cls := "EventCounters", name := "line", desc := "(II)I" } : Jvm.MethodName)) ∈ lw_all := lw_g (lw_at lw_m2 162 rfl) rfl
theorem q471 : (Jvm.Cond.methodLink "EventCountersLaw" (39 : Nat) ({ cls := "EventCounters", name := "step", desc := "(I)I" } : Jvm.MethodName)) ∈ lw_all := lw_g (lw_at lw_m2 172 rfl) rfl
theorem q475 : (Jvm.Cond.methodLink "EventCountersLaw" (43 : Nat) ({ cls := "EventCounters", name := "whole", desc := "(I)I" } : Jvm.MethodName)) ∈ lw_all := lw_g (lw_at lw_m2 176 rfl) rfl
theorem q479 : (Jvm.Cond.methodLink "EventCountersLaw" (47 : Nat) ({ cls := "EventCounters", name := "ratio", desc := "(IIII)I" } : Jvm.MethodName)) ∈ lw_all := lw_g (lw_at lw_m2 180 rfl) rfl
theorem q496 : (Jvm.Cond.methodLink "EventCountersLaw" (52 : Nat) ({ cls := "EventCounters", name := "loop", desc := "(II)I" } : Jvm.MethodName)) ∈ lw_all := lw_g (lw_at lw_m2 197 rfl) rfl
theorem q519 : (Jvm.Cond.methodLink "EventCountersLaw" (56 : Nat) ({ cls := "EventCounters", name := "went", desc := "(III)I" } : Jvm.MethodName)) ∈ lw_all := lw_g (lw_at lw_m2 220 rfl) rfl
theorem q542 : (Jvm.Cond.methodLink "EventCountersLaw" (61 : Nat) ({ cls := "EventCounters", name := "hot", desc := "(III)I" } : Jvm.MethodName)) ∈ lw_all := lw_g (lw_at lw_m3 3 rfl) rfl
theorem q557 : (Jvm.Cond.methodLink "EventCountersLaw" (65 : Nat) ({ cls := "EventCounters", name := "keep", desc := "()I" } : Jvm.MethodName)) ∈ lw_all := lw_g (lw_at lw_m3 18 rfl) rfl
theorem q561 : (Jvm.Cond.methodLink "EventCountersLaw" (69 : Nat) ({ cls := "EventCounters", name := "beside", desc := "(II)I" } : Jvm.MethodName)) ∈ lw_all := lw_g (lw_at lw_m3 22 rfl) rfl
theorem q572 : (Jvm.Cond.methodLink "EventCountersLaw" (73 : Nat) ({ cls := "EventCounters", name := "counters", desc := "(I)I" } : Jvm.MethodName)) ∈ lw_all := lw_g (lw_at lw_m3 33 rfl) rfl
theorem q576 : (Jvm.Cond.methodLink "EventCountersLaw" (77 : Nat) ({ cls := "EventCounters", name := "mask", desc := "(II)I" } : Jvm.MethodName)) ∈ lw_all := lw_g (lw_at lw_m3 37 rfl) rfl
theorem q588 : (Jvm.Cond.methodLink "EventCountersLaw" (81 : Nat) ({ cls := "EventCounters", name := "width", desc := "(II)I" } : Jvm.MethodName)) ∈ lw_all := lw_g (lw_at lw_m3 49 rfl) rfl
theorem q594 : (Jvm.Cond.methodLink "EventCountersLaw" (85 : Nat) ({ cls := "EventCounters", name := "together", desc := "(I)I" } : Jvm.MethodName)) ∈ lw_all := lw_g (lw_at lw_m3 55 rfl) rfl
theorem q614 : (Jvm.Cond.methodLink "EventCountersLaw" (89 : Nat) ({ cls := "EventCounters", name := "goes", desc := "(II)I" } : Jvm.MethodName)) ∈ lw_all := lw_g (lw_at lw_m3 75 rfl) rfl
theorem q618 : (Jvm.Cond.methodLink "EventCountersLaw" (93 : Nat) ({ cls := "EventCounters", name := "rounds", desc := "(II)I" } : Jvm.MethodName)) ∈ lw_all := lw_g (lw_at lw_m3 79 rfl) rfl
theorem q629 : (Jvm.Cond.methodLink "EventCountersLaw" (97 : Nat) ({ cls := "EventCounters", name := "sliced", desc := "(IIII)I" } : Jvm.MethodName)) ∈ lw_all := lw_g (lw_at lw_m3 90 rfl) rfl
theorem q641 : (Jvm.Cond.methodLink "EventCountersLaw" (101 : Nat) ({ cls := "EventCounters", name := "scaled", desc := "(IIII)J" } : Jvm.MethodName)) ∈ lw_all := lw_g (lw_at lw_m3 102 rfl) rfl
theorem q652 : (Jvm.Cond.methodLink "EventCountersLaw" (106 : Nat) ({ cls := "EventCounters", name := "finest", desc := "(IIII)I" } : Jvm.MethodName)) ∈ lw_all := lw_g (lw_at lw_m3 113 rfl) rfl
theorem q656 : (Jvm.Cond.methodLink "EventCountersLaw" (110 : Nat) ({ cls := "EventCounters", name := "shows", desc := "(IIIII)I" } : Jvm.MethodName)) ∈ lw_all := lw_g (lw_at lw_m3 117 rfl) rfl
theorem q668 : (Jvm.Cond.methodLink "EventCountersLaw" (115 : Nat) ({ cls := "EventCounters", name := "samples", desc := "(IIIII)I" } : Jvm.MethodName)) ∈ lw_all := lw_g (lw_at lw_m3 129 rfl) rfl
theorem q673 : (Jvm.Cond.methodLink "EventCountersLaw" (119 : Nat) ({ cls := "EventCounters", name := "far", desc := "(IIIII)J" } : Jvm.MethodName)) ∈ lw_all := lw_g (lw_at lw_m3 134 rfl) rfl
theorem q683 : (Jvm.Cond.methodLink "EventCountersLaw" (124 : Nat) ({ cls := "EventCounters", name := "truest", desc := "(IIII)I" } : Jvm.MethodName)) ∈ lw_all := lw_g (lw_at lw_m3 144 rfl) rfl
theorem q687 : (Jvm.Cond.methodLink "EventCountersLaw" (128 : Nat) ({ cls := "EventCounters", name := "beats", desc := "(IIII)I" } : Jvm.MethodName)) ∈ lw_all := lw_g (lw_at lw_m3 148 rfl) rfl
theorem q691 : (Jvm.Cond.methodLink "EventCountersLaw" (132 : Nat) ({ cls := "EventCounters", name := "over", desc := "(IIII)I" } : Jvm.MethodName)) ∈ lw_all := lw_g (lw_at lw_m3 152 rfl) rfl
theorem q699 : (Jvm.Cond.methodLink "EventCountersLaw" (136 : Nat) ({ cls := "EventCounters", name := "looked", desc := "(IIII)I" } : Jvm.MethodName)) ∈ lw_all := lw_g (lw_at lw_m3 160 rfl) rfl
theorem q707 : (Jvm.Cond.methodLink "EventCountersLaw" (140 : Nat) ({ cls := "EventCounters", name := "seldom", desc := "(II)I" } : Jvm.MethodName)) ∈ lw_all := lw_g (lw_at lw_m3 168 rfl) rfl
theorem q711 : (Jvm.Cond.methodLink "EventCountersLaw" (144 : Nat) ({ cls := "EventCounters", name := "run", desc := "(III)I" } : Jvm.MethodName)) ∈ lw_all := lw_g (lw_at lw_m3 172 rfl) rfl
theorem q715 : (Jvm.Cond.methodLink "EventCountersLaw" (148 : Nat) ({ cls := "EventCounters", name := "forget", desc := "()I" } : Jvm.MethodName)) ∈ lw_all := lw_g (lw_at lw_m3 176 rfl) rfl
theorem q719 : (Jvm.Cond.methodLink "EventCountersLaw" (152 : Nat) ({ cls := "EventCounters", name := "wired", desc := "(III)I" } : Jvm.MethodName)) ∈ lw_all := lw_g (lw_at lw_m3 180 rfl) rfl
theorem q728 : (Jvm.Cond.classLink "EventCountersLaw" (7 : Nat) "EventCounters") ∈ lw_all := lw_g (lw_at lw_m3 189 rfl) rfl
theorem q729 : (Jvm.Cond.methodLink "EventCountersLaw" (9 : Nat) ({ cls := "EventCounters", name := "<init>", desc := "()V" } : Jvm.MethodName)) ∈ lw_all := lw_g (lw_at lw_m3 190 rfl) rfl
theorem q853 : (Jvm.Cond.methodLink "EventCountersLaw" (156 : Nat) ({ cls := "EventCounters", name := "sheet", desc := "(III)I" } : Jvm.MethodName)) ∈ lw_all := lw_g (lw_at lw_m4 74 rfl) rfl
theorem q888 : (Jvm.Cond.methodLink "EventCountersLaw" (160 : Nat) ({ cls := "EventCounters", name := "lay", desc := "(III)I" } : Jvm.MethodName)) ∈ lw_all := lw_g (lw_at lw_m4 109 rfl) rfl
theorem q939 : (Jvm.Cond.methodLink "EventCountersLaw" (164 : Nat) ({ cls := "EventCounters", name := "said", desc := "(IIIII)I" } : Jvm.MethodName)) ∈ lw_all := lw_g (lw_at lw_m4 160 rfl) rfl
theorem q960 : (Jvm.Cond.methodLink "EventCountersLaw" (168 : Nat) ({ cls := "EventCounters", name := "count", desc := "(I)I" } : Jvm.MethodName)) ∈ lw_all := lw_g (lw_at lw_m4 181 rfl) rfl
theorem q964 : (Jvm.Cond.classLink "EventCountersLaw" (10 : Nat) "EventCountersModel") ∈ lw_all := lw_g (lw_at lw_m4 185 rfl) rfl
theorem q966 : (Jvm.Cond.methodLink "EventCountersLaw" (12 : Nat) ({ cls := "EventCountersModel", name := "<init>", desc := "()V" } : Jvm.MethodName)) ∈ lw_all := lw_g (lw_at lw_m4 187 rfl) rfl
theorem q1143 : (Jvm.Cond.methodLink "EventCountersLaw" (19 : Nat) ({ cls := "EventCountersModel", name := "feed", desc := "(J)I" } : Jvm.MethodName)) ∈ lw_all := lw_g (lw_at lw_m5 124 rfl) rfl
theorem q1148 : (Jvm.Cond.methodLink "EventCountersLaw" (24 : Nat) ({ cls := "EventCountersModel", name := "end", desc := "(I)I" } : Jvm.MethodName)) ∈ lw_all := lw_g (lw_at lw_m5 129 rfl) rfl
theorem q1155 : (Jvm.Cond.methodLink "EventCountersLaw" (29 : Nat) ({ cls := "EventCountersModel", name := "program", desc := "()I" } : Jvm.MethodName)) ∈ lw_all := lw_g (lw_at lw_m5 136 rfl) rfl
theorem q1229 : (Jvm.Cond.methodLink "EventCountersLaw" (33 : Nat) ({ cls := "EventCountersModel", name := "fault", desc := "()I" } : Jvm.MethodName)) ∈ lw_all := lw_g (lw_at lw_m5 210 rfl) rfl
theorem q1233 : (Jvm.Cond.methodLink "EventCountersLaw" (38 : Nat) ({ cls := "EventCountersModel", name := "line", desc := "(II)I" } : Jvm.MethodName)) ∈ lw_all := lw_g (lw_at lw_m5 214 rfl) rfl
theorem q1251 : (Jvm.Cond.methodLink "EventCountersLaw" (42 : Nat) ({ cls := "EventCountersModel", name := "step", desc := "(I)I" } : Jvm.MethodName)) ∈ lw_all := lw_g (lw_at lw_m5 232 rfl) rfl
theorem q1255 : (Jvm.Cond.methodLink "EventCountersLaw" (46 : Nat) ({ cls := "EventCountersModel", name := "whole", desc := "(I)I" } : Jvm.MethodName)) ∈ lw_all := lw_g (lw_at lw_m5 236 rfl) rfl
theorem q1263 : (Jvm.Cond.methodLink "EventCountersLaw" (51 : Nat) ({ cls := "EventCountersModel", name := "ratio", desc := "(IIII)I" } : Jvm.MethodName)) ∈ lw_all := lw_g (lw_at lw_m6 4 rfl) rfl
theorem q1279 : (Jvm.Cond.methodLink "EventCountersLaw" (55 : Nat) ({ cls := "EventCountersModel", name := "loop", desc := "(II)I" } : Jvm.MethodName)) ∈ lw_all := lw_g (lw_at lw_m6 20 rfl) rfl
theorem q1284 : (Jvm.Cond.methodLink "EventCountersLaw" (60 : Nat) ({ cls := "EventCountersModel", name := "went", desc := "(III)I" } : Jvm.MethodName)) ∈ lw_all := lw_g (lw_at lw_m6 25 rfl) rfl
theorem q1289 : (Jvm.Cond.methodLink "EventCountersLaw" (64 : Nat) ({ cls := "EventCountersModel", name := "hot", desc := "(III)I" } : Jvm.MethodName)) ∈ lw_all := lw_g (lw_at lw_m6 30 rfl) rfl
theorem q1297 : (Jvm.Cond.methodLink "EventCountersLaw" (68 : Nat) ({ cls := "EventCountersModel", name := "keep", desc := "()I" } : Jvm.MethodName)) ∈ lw_all := lw_g (lw_at lw_m6 38 rfl) rfl
theorem q1301 : (Jvm.Cond.methodLink "EventCountersLaw" (72 : Nat) ({ cls := "EventCountersModel", name := "beside", desc := "(II)I" } : Jvm.MethodName)) ∈ lw_all := lw_g (lw_at lw_m6 42 rfl) rfl
theorem q1305 : (Jvm.Cond.methodLink "EventCountersLaw" (76 : Nat) ({ cls := "EventCountersModel", name := "counters", desc := "(I)I" } : Jvm.MethodName)) ∈ lw_all := lw_g (lw_at lw_m6 46 rfl) rfl
theorem q1309 : (Jvm.Cond.methodLink "EventCountersLaw" (80 : Nat) ({ cls := "EventCountersModel", name := "mask", desc := "(II)I" } : Jvm.MethodName)) ∈ lw_all := lw_g (lw_at lw_m6 50 rfl) rfl
theorem q1317 : (Jvm.Cond.methodLink "EventCountersLaw" (84 : Nat) ({ cls := "EventCountersModel", name := "width", desc := "(II)I" } : Jvm.MethodName)) ∈ lw_all := lw_g (lw_at lw_m6 58 rfl) rfl
theorem q1323 : (Jvm.Cond.methodLink "EventCountersLaw" (88 : Nat) ({ cls := "EventCountersModel", name := "together", desc := "(I)I" } : Jvm.MethodName)) ∈ lw_all := lw_g (lw_at lw_m6 64 rfl) rfl
theorem q1334 : (Jvm.Cond.methodLink "EventCountersLaw" (92 : Nat) ({ cls := "EventCountersModel", name := "goes", desc := "(II)I" } : Jvm.MethodName)) ∈ lw_all := lw_g (lw_at lw_m6 75 rfl) rfl
theorem q1338 : (Jvm.Cond.methodLink "EventCountersLaw" (96 : Nat) ({ cls := "EventCountersModel", name := "rounds", desc := "(II)I" } : Jvm.MethodName)) ∈ lw_all := lw_g (lw_at lw_m6 79 rfl) rfl
theorem q1346 : (Jvm.Cond.methodLink "EventCountersLaw" (100 : Nat) ({ cls := "EventCountersModel", name := "sliced", desc := "(IIII)I" } : Jvm.MethodName)) ∈ lw_all := lw_g (lw_at lw_m6 87 rfl) rfl
theorem q1362 : (Jvm.Cond.methodLink "EventCountersLaw" (105 : Nat) ({ cls := "EventCountersModel", name := "scaled", desc := "(IIII)J" } : Jvm.MethodName)) ∈ lw_all := lw_g (lw_at lw_m6 103 rfl) rfl
theorem q1369 : (Jvm.Cond.methodLink "EventCountersLaw" (109 : Nat) ({ cls := "EventCountersModel", name := "finest", desc := "(IIII)I" } : Jvm.MethodName)) ∈ lw_all := lw_g (lw_at lw_m6 110 rfl) rfl
theorem q1373 : (Jvm.Cond.methodLink "EventCountersLaw" (114 : Nat) ({ cls := "EventCountersModel", name := "shows", desc := "(IIIII)I" } : Jvm.MethodName)) ∈ lw_all := lw_g (lw_at lw_m6 114 rfl) rfl
theorem q1386 : (Jvm.Cond.methodLink "EventCountersLaw" (118 : Nat) ({ cls := "EventCountersModel", name := "samples", desc := "(IIIII)I" } : Jvm.MethodName)) ∈ lw_all := lw_g (lw_at lw_m6 127 rfl) rfl
theorem q1391 : (Jvm.Cond.methodLink "EventCountersLaw" (123 : Nat) ({ cls := "EventCountersModel", name := "far", desc := "(IIIII)J" } : Jvm.MethodName)) ∈ lw_all := lw_g (lw_at lw_m6 132 rfl) rfl
theorem q1401 : (Jvm.Cond.methodLink "EventCountersLaw" (127 : Nat) ({ cls := "EventCountersModel", name := "truest", desc := "(IIII)I" } : Jvm.MethodName)) ∈ lw_all := lw_g (lw_at lw_m6 142 rfl) rfl
theorem q1405 : (Jvm.Cond.methodLink "EventCountersLaw" (131 : Nat) ({ cls := "EventCountersModel", name := "beats", desc := "(IIII)I" } : Jvm.MethodName)) ∈ lw_all := lw_g (lw_at lw_m6 146 rfl) rfl
theorem q1409 : (Jvm.Cond.methodLink "EventCountersLaw" (135 : Nat) ({ cls := "EventCountersModel", name := "over", desc := "(IIII)I" } : Jvm.MethodName)) ∈ lw_all := lw_g (lw_at lw_m6 150 rfl) rfl
theorem q1417 : (Jvm.Cond.methodLink "EventCountersLaw" (139 : Nat) ({ cls := "EventCountersModel", name := "looked", desc := "(IIII)I" } : Jvm.MethodName)) ∈ lw_all := lw_g (lw_at lw_m6 158 rfl) rfl
theorem q1425 : (Jvm.Cond.methodLink "EventCountersLaw" (143 : Nat) ({ cls := "EventCountersModel", name := "seldom", desc := "(II)I" } : Jvm.MethodName)) ∈ lw_all := lw_g (lw_at lw_m6 166 rfl) rfl
theorem q1429 : (Jvm.Cond.methodLink "EventCountersLaw" (147 : Nat) ({ cls := "EventCountersModel", name := "run", desc := "(III)I" } : Jvm.MethodName)) ∈ lw_all := lw_g (lw_at lw_m6 170 rfl) rfl
theorem q1433 : (Jvm.Cond.methodLink "EventCountersLaw" (151 : Nat) ({ cls := "EventCountersModel", name := "forget", desc := "()I" } : Jvm.MethodName)) ∈ lw_all := lw_g (lw_at lw_m6 174 rfl) rfl
theorem q1437 : (Jvm.Cond.methodLink "EventCountersLaw" (155 : Nat) ({ cls := "EventCountersModel", name := "wired", desc := "(III)I" } : Jvm.MethodName)) ∈ lw_all := lw_g (lw_at lw_m6 178 rfl) rfl
theorem q1449 : (Jvm.Cond.methodLink "EventCountersLaw" (159 : Nat) ({ cls := "EventCountersModel", name := "sheet", desc := "(III)I" } : Jvm.MethodName)) ∈ lw_all := lw_g (lw_at lw_m6 190 rfl) rfl
theorem q1456 : (Jvm.Cond.methodLink "EventCountersLaw" (163 : Nat) ({ cls := "EventCountersModel", name := "lay", desc := "(III)I" } : Jvm.MethodName)) ∈ lw_all := lw_g (lw_at lw_m6 197 rfl) rfl
theorem q1460 : (Jvm.Cond.methodLink "EventCountersLaw" (167 : Nat) ({ cls := "EventCountersModel", name := "said", desc := "(IIIII)I" } : Jvm.MethodName)) ∈ lw_all := lw_g (lw_at lw_m6 201 rfl) rfl
theorem q1464 : (Jvm.Cond.methodLink "EventCountersLaw" (171 : Nat) ({ cls := "EventCountersModel", name := "count", desc := "(I)I" } : Jvm.MethodName)) ∈ lw_all := lw_g (lw_at lw_m6 205 rfl) rfl
theorem q1469 : (Jvm.Cond.constantLong "EventCountersLaw" (13 : Nat) (4294967295 : Int64)) ∈ lw_all := lw_g (lw_at lw_m6 210 rfl) rfl

theorem q64 : (Jvm.Cond.initialized "java/lang/System") ∈ lw_all := lw_g (lw_at lw_m1 5 rfl) rfl
set_option maxRecDepth 100000
theorem q103 : (Jvm.Cond.static ({ cls := "java/lang/System", name := "arraycopy", desc := "(Ljava/lang/Object;ILjava/lang/Object;II)V" } : Jvm.MethodName)) ∈ lw_all := lw_g (lw_at lw_m1 44 rfl) rfl
theorem q104 : (Jvm.Cond.native ({ cls := "java/lang/System", name := "arraycopy", desc := "(Ljava/lang/Object;ILjava/lang/Object;II)V" } : Jvm.MethodName)) ∈ lw_all := lw_g (lw_at lw_m1 45 rfl) rfl

theorem q114 : (Jvm.Cond.arrayOver (Jvm.ClassFile.FieldType.object "EventCounters$Line")) ∈ lw_tbl := lw_at lw_m1 55 rfl
set_option maxRecDepth 100000
theorem q116 : (Jvm.Cond.arrayOver (Jvm.ClassFile.FieldType.object "EventCounters$Loop")) ∈ lw_tbl := lw_at lw_m1 57 rfl
theorem q223 : (Jvm.Cond.arrayClass Jvm.ClassFile.FieldType.byte) ∈ lw_all := lw_g (lw_at lw_m1 164 rfl) rfl
theorem q270 : (Jvm.Cond.arrayOver (Jvm.ClassFile.FieldType.object "EventCounters$Item")) ∈ lw_tbl := lw_at lw_m1 211 rfl
theorem q370 : (Jvm.Cond.arrayClass Jvm.ClassFile.FieldType.int) ∈ lw_all := lw_g (lw_at lw_m2 71 rfl) rfl
theorem q736 : (Jvm.Cond.arrayOver (Jvm.ClassFile.FieldType.array Jvm.ClassFile.FieldType.int)) ∈ lw_tbl := lw_at lw_m3 197 rfl
theorem q738 : (Jvm.Cond.arrayOver (Jvm.ClassFile.FieldType.object "EventCounters$Counter")) ∈ lw_tbl := lw_at lw_m3 199 rfl
theorem q754 : (Jvm.Cond.arrayOver (Jvm.ClassFile.FieldType.object "EventCounters$Sheet")) ∈ lw_tbl := lw_at lw_m3 215 rfl
theorem q767 : (Jvm.Cond.arrayClass Jvm.ClassFile.FieldType.boolean) ∈ lw_all := lw_g (lw_at lw_m3 228 rfl) rfl
theorem q887 : (Jvm.Cond.arrayClass Jvm.ClassFile.FieldType.short) ∈ lw_all := lw_g (lw_at lw_m4 108 rfl) rfl
