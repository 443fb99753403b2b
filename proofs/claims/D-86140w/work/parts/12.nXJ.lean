/-! java/lang/Throwable -/
set_option maxRecDepth 100000
def RJ0 : String := "java/lang/Throwable"
def TJ0 : u_T := fun k => match k with
  | 0 => ("java/lang/Throwable", "cause", "Ljava/lang/Throwable;", false)
  | 1 => ("java/lang/Throwable", "stackTrace", "[Ljava/lang/StackTraceElement;", false)
  | 2 => ("java/lang/Throwable", "suppressedExceptions", "Ljava/util/List;", false)
  | 3 => ("java/lang/Throwable", "detailMessage", "Ljava/lang/String;", false)
  | _ => ("java/lang/Throwable", "backtrace", "Ljava/lang/Object;", false)
def tyJ0 : Nat → FieldType := fun k => match k with
  | 0 => .object "java/lang/Throwable"
  | 1 => .array (.object "java/lang/StackTraceElement")
  | 2 => .object "java/util/List"
  | 3 => .object "java/lang/String"
  | _ => .object "java/lang/Object"
abbrev wsJ00 : List Cond := u_ws RJ0 TJ0 5
theorem nmJ0 : ∀ a, a < 5 → ∀ b, b < 5 → a ≠ b → (TJ0 a).2.1 ≠ (TJ0 b).2.1 := by decide +kernel
theorem tyJ0_ok : ∀ k, k < 5 → parseFieldDescriptor (TJ0 k).2.2.1 = some (tyJ0 k) := by decide +kernel
abbrev cJ0_init : ByteArray := prog_51_method_1_code
def yJ0_init : MethodName := ⟨RJ0, "<init>", "()V"⟩
def dkwJ0_init_1 : List UInt8 := [182, 0, 27, 87, 177]
abbrev dktJ0_init_1 : List UInt8 := dkwJ0_init_1 ++ []
def dkwJ0_init_0 : List UInt8 := [42, 183, 0, 1, 42, 42, 181, 0, 7, 42, 178, 0, 13, 181, 0, 17, 42, 178, 0, 20, 181, 0, 24, 42]
abbrev dktJ0_init_0 : List UInt8 := dkwJ0_init_0 ++ dktJ0_init_1
theorem dksJ0_init_0 : cJ0_init.data.toList.drop 0 = dktJ0_init_0 := by decide +kernel
theorem dksJ0_init_1 : cJ0_init.data.toList.drop 24 = dktJ0_init_1 := dk_seg dksJ0_init_0 24 rfl rfl
theorem dJ0_init_0 : decode cJ0_init 0 = .ok (.aload_n 0, 1) := dk_42 (dk_at dksJ0_init_0 0 rfl rfl)
theorem dJ0_init_1 : decode cJ0_init 1 = .ok (.invokespecial 1, 3) := dk_183 0 1 (dk_at dksJ0_init_0 1 rfl rfl)
theorem dJ0_init_4 : decode cJ0_init 4 = .ok (.aload_n 0, 1) := dk_42 (dk_at dksJ0_init_0 4 rfl rfl)
theorem dJ0_init_5 : decode cJ0_init 5 = .ok (.aload_n 0, 1) := dk_42 (dk_at dksJ0_init_0 5 rfl rfl)
theorem dJ0_init_6 : decode cJ0_init 6 = .ok (.putfield 7, 3) := dk_181 0 7 (dk_at dksJ0_init_0 6 rfl rfl)
theorem dJ0_init_9 : decode cJ0_init 9 = .ok (.aload_n 0, 1) := dk_42 (dk_at dksJ0_init_0 9 rfl rfl)
theorem dJ0_init_10 : decode cJ0_init 10 = .ok (.getstatic 13, 3) := dk_178 0 13 (dk_at dksJ0_init_0 10 rfl rfl)
theorem dJ0_init_13 : decode cJ0_init 13 = .ok (.putfield 17, 3) := dk_181 0 17 (dk_at dksJ0_init_0 13 rfl rfl)
theorem dJ0_init_16 : decode cJ0_init 16 = .ok (.aload_n 0, 1) := dk_42 (dk_at dksJ0_init_0 16 rfl rfl)
theorem dJ0_init_17 : decode cJ0_init 17 = .ok (.getstatic 20, 3) := dk_178 0 20 (dk_at dksJ0_init_0 17 rfl rfl)
theorem dJ0_init_20 : decode cJ0_init 20 = .ok (.putfield 24, 3) := dk_181 0 24 (dk_at dksJ0_init_0 20 rfl rfl)
theorem dJ0_init_23 : decode cJ0_init 23 = .ok (.aload_n 0, 1) := dk_42 (dk_at dksJ0_init_0 23 rfl rfl)
theorem dJ0_init_24 : decode cJ0_init 24 = .ok (.invokevirtual 27, 3) := dk_182 0 27 (dk_at dksJ0_init_1 0 rfl rfl)
theorem dJ0_init_27 : decode cJ0_init 27 = .ok (.pop, 1) := dk_87 (dk_at dksJ0_init_1 3 rfl rfl)
theorem dJ0_init_28 : decode cJ0_init 28 = .ok (.return_, 1) := dk_177 (dk_at dksJ0_init_1 4 rfl rfl)
abbrev cJ0_init_2 : ByteArray := prog_51_method_5_code
def yJ0_init_2 : MethodName := ⟨RJ0, "<init>", "(Ljava/lang/String;Ljava/lang/Throwable;ZZ)V"⟩
def dkwJ0_init_2_2 : List UInt8 := [44, 181, 0, 7, 29, 154, 0, 8, 42, 1, 181, 0, 24, 177]
abbrev dktJ0_init_2_2 : List UInt8 := dkwJ0_init_2_2 ++ []
def dkwJ0_init_2_1 : List UInt8 := [21, 4, 153, 0, 11, 42, 182, 0, 27, 87, 167, 0, 8, 42, 1, 181, 0, 17, 42, 43, 181, 0, 31, 42]
abbrev dktJ0_init_2_1 : List UInt8 := dkwJ0_init_2_1 ++ dktJ0_init_2_2
def dkwJ0_init_2_0 : List UInt8 := [42, 183, 0, 1, 42, 42, 181, 0, 7, 42, 178, 0, 13, 181, 0, 17, 42, 178, 0, 20, 181, 0, 24]
abbrev dktJ0_init_2_0 : List UInt8 := dkwJ0_init_2_0 ++ dktJ0_init_2_1
theorem dksJ0_init_2_0 : cJ0_init_2.data.toList.drop 0 = dktJ0_init_2_0 := by decide +kernel
theorem dksJ0_init_2_1 : cJ0_init_2.data.toList.drop 23 = dktJ0_init_2_1 := dk_seg dksJ0_init_2_0 23 rfl rfl
theorem dksJ0_init_2_2 : cJ0_init_2.data.toList.drop 47 = dktJ0_init_2_2 := dk_seg dksJ0_init_2_1 24 rfl rfl
theorem dJ0_init_2_0 : decode cJ0_init_2 0 = .ok (.aload_n 0, 1) := dk_42 (dk_at dksJ0_init_2_0 0 rfl rfl)
theorem dJ0_init_2_1 : decode cJ0_init_2 1 = .ok (.invokespecial 1, 3) := dk_183 0 1 (dk_at dksJ0_init_2_0 1 rfl rfl)
theorem dJ0_init_2_4 : decode cJ0_init_2 4 = .ok (.aload_n 0, 1) := dk_42 (dk_at dksJ0_init_2_0 4 rfl rfl)
theorem dJ0_init_2_5 : decode cJ0_init_2 5 = .ok (.aload_n 0, 1) := dk_42 (dk_at dksJ0_init_2_0 5 rfl rfl)
theorem dJ0_init_2_6 : decode cJ0_init_2 6 = .ok (.putfield 7, 3) := dk_181 0 7 (dk_at dksJ0_init_2_0 6 rfl rfl)
theorem dJ0_init_2_9 : decode cJ0_init_2 9 = .ok (.aload_n 0, 1) := dk_42 (dk_at dksJ0_init_2_0 9 rfl rfl)
theorem dJ0_init_2_10 : decode cJ0_init_2 10 = .ok (.getstatic 13, 3) := dk_178 0 13 (dk_at dksJ0_init_2_0 10 rfl rfl)
theorem dJ0_init_2_13 : decode cJ0_init_2 13 = .ok (.putfield 17, 3) := dk_181 0 17 (dk_at dksJ0_init_2_0 13 rfl rfl)
theorem dJ0_init_2_16 : decode cJ0_init_2 16 = .ok (.aload_n 0, 1) := dk_42 (dk_at dksJ0_init_2_0 16 rfl rfl)
theorem dJ0_init_2_17 : decode cJ0_init_2 17 = .ok (.getstatic 20, 3) := dk_178 0 20 (dk_at dksJ0_init_2_0 17 rfl rfl)
theorem dJ0_init_2_20 : decode cJ0_init_2 20 = .ok (.putfield 24, 3) := dk_181 0 24 (dk_at dksJ0_init_2_0 20 rfl rfl)
theorem dJ0_init_2_23 : decode cJ0_init_2 23 = .ok (.iload 4, 2) := dk_21 4 (dk_at dksJ0_init_2_1 0 rfl rfl)
theorem dJ0_init_2_25 : decode cJ0_init_2 25 = .ok (.ifCond .eq 11, 3) := dk_153 0 11 (dk_at dksJ0_init_2_1 2 rfl rfl)
theorem dJ0_init_2_28 : decode cJ0_init_2 28 = .ok (.aload_n 0, 1) := dk_42 (dk_at dksJ0_init_2_1 5 rfl rfl)
theorem dJ0_init_2_29 : decode cJ0_init_2 29 = .ok (.invokevirtual 27, 3) := dk_182 0 27 (dk_at dksJ0_init_2_1 6 rfl rfl)
theorem dJ0_init_2_32 : decode cJ0_init_2 32 = .ok (.pop, 1) := dk_87 (dk_at dksJ0_init_2_1 9 rfl rfl)
theorem dJ0_init_2_33 : decode cJ0_init_2 33 = .ok (.goto 8, 3) := dk_167 0 8 (dk_at dksJ0_init_2_1 10 rfl rfl)
theorem dJ0_init_2_36 : decode cJ0_init_2 36 = .ok (.aload_n 0, 1) := dk_42 (dk_at dksJ0_init_2_1 13 rfl rfl)
theorem dJ0_init_2_37 : decode cJ0_init_2 37 = .ok (.aconst_null, 1) := dk_1 (dk_at dksJ0_init_2_1 14 rfl rfl)
theorem dJ0_init_2_38 : decode cJ0_init_2 38 = .ok (.putfield 17, 3) := dk_181 0 17 (dk_at dksJ0_init_2_1 15 rfl rfl)
theorem dJ0_init_2_41 : decode cJ0_init_2 41 = .ok (.aload_n 0, 1) := dk_42 (dk_at dksJ0_init_2_1 18 rfl rfl)
theorem dJ0_init_2_42 : decode cJ0_init_2 42 = .ok (.aload_n 1, 1) := dk_43 (dk_at dksJ0_init_2_1 19 rfl rfl)
theorem dJ0_init_2_43 : decode cJ0_init_2 43 = .ok (.putfield 31, 3) := dk_181 0 31 (dk_at dksJ0_init_2_1 20 rfl rfl)
theorem dJ0_init_2_46 : decode cJ0_init_2 46 = .ok (.aload_n 0, 1) := dk_42 (dk_at dksJ0_init_2_1 23 rfl rfl)
theorem dJ0_init_2_47 : decode cJ0_init_2 47 = .ok (.aload_n 2, 1) := dk_44 (dk_at dksJ0_init_2_2 0 rfl rfl)
theorem dJ0_init_2_48 : decode cJ0_init_2 48 = .ok (.putfield 7, 3) := dk_181 0 7 (dk_at dksJ0_init_2_2 1 rfl rfl)
theorem dJ0_init_2_51 : decode cJ0_init_2 51 = .ok (.iload_n 3, 1) := dk_29 (dk_at dksJ0_init_2_2 4 rfl rfl)
theorem dJ0_init_2_52 : decode cJ0_init_2 52 = .ok (.ifCond .ne 8, 3) := dk_154 0 8 (dk_at dksJ0_init_2_2 5 rfl rfl)
theorem dJ0_init_2_55 : decode cJ0_init_2 55 = .ok (.aload_n 0, 1) := dk_42 (dk_at dksJ0_init_2_2 8 rfl rfl)
theorem dJ0_init_2_56 : decode cJ0_init_2 56 = .ok (.aconst_null, 1) := dk_1 (dk_at dksJ0_init_2_2 9 rfl rfl)
theorem dJ0_init_2_57 : decode cJ0_init_2 57 = .ok (.putfield 24, 3) := dk_181 0 24 (dk_at dksJ0_init_2_2 10 rfl rfl)
theorem dJ0_init_2_60 : decode cJ0_init_2 60 = .ok (.return_, 1) := dk_177 (dk_at dksJ0_init_2_2 13 rfl rfl)
abbrev cJ0_init_3 : ByteArray := prog_51_method_2_code
def yJ0_init_3 : MethodName := ⟨RJ0, "<init>", "(Ljava/lang/String;)V"⟩
def dkwJ0_init_3_1 : List UInt8 := [182, 0, 27, 87, 42, 43, 181, 0, 31, 177]
abbrev dktJ0_init_3_1 : List UInt8 := dkwJ0_init_3_1 ++ []
def dkwJ0_init_3_0 : List UInt8 := [42, 183, 0, 1, 42, 42, 181, 0, 7, 42, 178, 0, 13, 181, 0, 17, 42, 178, 0, 20, 181, 0, 24, 42]
abbrev dktJ0_init_3_0 : List UInt8 := dkwJ0_init_3_0 ++ dktJ0_init_3_1
theorem dksJ0_init_3_0 : cJ0_init_3.data.toList.drop 0 = dktJ0_init_3_0 := by decide +kernel
theorem dksJ0_init_3_1 : cJ0_init_3.data.toList.drop 24 = dktJ0_init_3_1 := dk_seg dksJ0_init_3_0 24 rfl rfl
theorem dJ0_init_3_0 : decode cJ0_init_3 0 = .ok (.aload_n 0, 1) := dk_42 (dk_at dksJ0_init_3_0 0 rfl rfl)
theorem dJ0_init_3_1 : decode cJ0_init_3 1 = .ok (.invokespecial 1, 3) := dk_183 0 1 (dk_at dksJ0_init_3_0 1 rfl rfl)
theorem dJ0_init_3_4 : decode cJ0_init_3 4 = .ok (.aload_n 0, 1) := dk_42 (dk_at dksJ0_init_3_0 4 rfl rfl)
theorem dJ0_init_3_5 : decode cJ0_init_3 5 = .ok (.aload_n 0, 1) := dk_42 (dk_at dksJ0_init_3_0 5 rfl rfl)
theorem dJ0_init_3_6 : decode cJ0_init_3 6 = .ok (.putfield 7, 3) := dk_181 0 7 (dk_at dksJ0_init_3_0 6 rfl rfl)
theorem dJ0_init_3_9 : decode cJ0_init_3 9 = .ok (.aload_n 0, 1) := dk_42 (dk_at dksJ0_init_3_0 9 rfl rfl)
theorem dJ0_init_3_10 : decode cJ0_init_3 10 = .ok (.getstatic 13, 3) := dk_178 0 13 (dk_at dksJ0_init_3_0 10 rfl rfl)
theorem dJ0_init_3_13 : decode cJ0_init_3 13 = .ok (.putfield 17, 3) := dk_181 0 17 (dk_at dksJ0_init_3_0 13 rfl rfl)
theorem dJ0_init_3_16 : decode cJ0_init_3 16 = .ok (.aload_n 0, 1) := dk_42 (dk_at dksJ0_init_3_0 16 rfl rfl)
theorem dJ0_init_3_17 : decode cJ0_init_3 17 = .ok (.getstatic 20, 3) := dk_178 0 20 (dk_at dksJ0_init_3_0 17 rfl rfl)
theorem dJ0_init_3_20 : decode cJ0_init_3 20 = .ok (.putfield 24, 3) := dk_181 0 24 (dk_at dksJ0_init_3_0 20 rfl rfl)
theorem dJ0_init_3_23 : decode cJ0_init_3 23 = .ok (.aload_n 0, 1) := dk_42 (dk_at dksJ0_init_3_0 23 rfl rfl)
theorem dJ0_init_3_24 : decode cJ0_init_3 24 = .ok (.invokevirtual 27, 3) := dk_182 0 27 (dk_at dksJ0_init_3_1 0 rfl rfl)
theorem dJ0_init_3_27 : decode cJ0_init_3 27 = .ok (.pop, 1) := dk_87 (dk_at dksJ0_init_3_1 3 rfl rfl)
theorem dJ0_init_3_28 : decode cJ0_init_3 28 = .ok (.aload_n 0, 1) := dk_42 (dk_at dksJ0_init_3_1 4 rfl rfl)
theorem dJ0_init_3_29 : decode cJ0_init_3 29 = .ok (.aload_n 1, 1) := dk_43 (dk_at dksJ0_init_3_1 5 rfl rfl)
theorem dJ0_init_3_30 : decode cJ0_init_3 30 = .ok (.putfield 31, 3) := dk_181 0 31 (dk_at dksJ0_init_3_1 6 rfl rfl)
theorem dJ0_init_3_33 : decode cJ0_init_3 33 = .ok (.return_, 1) := dk_177 (dk_at dksJ0_init_3_1 9 rfl rfl)
theorem q145 : (Jvm.Cond.initialized "java/lang/Throwable") ∈ lw_all := lw_g (lw_at lw_m1 3 rfl) rfl
theorem q243 : (Jvm.Cond.declares ({ cls := "java/lang/Throwable", name := "<init>", desc := "()V" } : Jvm.MethodName)) ∈ lw_tbl := lw_at lw_m1 101 rfl
theorem q244 : (Jvm.Cond.declares ({ cls := "java/lang/Throwable", name := "<init>", desc := "(Ljava/lang/String;)V" } : Jvm.MethodName)) ∈ lw_tbl := lw_at lw_m1 102 rfl
theorem q248 : (Jvm.Cond.lays "java/lang/Throwable" "java/lang/Throwable" "cause" "Ljava/lang/Throwable;") ∈ lw_all := lw_g (lw_at lw_m1 106 rfl) rfl
theorem q250 : (Jvm.Cond.lays "java/lang/Throwable" "java/lang/Throwable" "stackTrace" "[Ljava/lang/StackTraceElement;") ∈ lw_all := lw_g (lw_at lw_m1 108 rfl) rfl
theorem q252 : (Jvm.Cond.lays "java/lang/Throwable" "java/lang/Throwable" "suppressedExceptions" "Ljava/util/List;") ∈ lw_all := lw_g (lw_at lw_m1 110 rfl) rfl
theorem q254 : (Jvm.Cond.lays "java/lang/Throwable" "java/lang/Throwable" "detailMessage" "Ljava/lang/String;") ∈ lw_all := lw_g (lw_at lw_m1 112 rfl) rfl
theorem q256 : (Jvm.Cond.lays "java/lang/Throwable" "java/lang/Throwable" "backtrace" "Ljava/lang/Object;") ∈ lw_all := lw_g (lw_at lw_m1 114 rfl) rfl
theorem q257 : (Jvm.Cond.fieldLink "java/lang/Throwable" (198 : Nat) "java/lang/Throwable" "backtrace" "Ljava/lang/Object;") ∈ lw_all := lw_g (lw_at lw_m1 115 rfl) rfl
theorem q258 : (Jvm.Cond.superclass "java/lang/Throwable" "java/lang/Object") ∈ lw_all := lw_g (lw_at lw_m1 116 rfl) rfl
theorem q259 : (Jvm.Cond.instanceMethod ({ cls := "java/lang/Throwable", name := "<init>", desc := "()V" } : Jvm.MethodName)) ∈ lw_all := lw_g (lw_at lw_m1 117 rfl) rfl
theorem q260 : (Jvm.Cond.code ({ cls := "java/lang/Throwable", name := "<init>", desc := "()V" } : Jvm.MethodName) prog_51_method_1_code (1 : Nat) (Option.none : Option Jvm.ClassFile.FieldType)) ∈ lw_all := lw_g (lw_at lw_m1 118 rfl) rfl
theorem q261 : (Jvm.Cond.methodLink "java/lang/Throwable" (1 : Nat) ({ cls := "java/lang/Object", name := "<init>", desc := "()V" } : Jvm.MethodName)) ∈ lw_all := lw_g (lw_at lw_m1 119 rfl) rfl
theorem q264 : (Jvm.Cond.fieldLink "java/lang/Throwable" (13 : Nat) "java/lang/Throwable" "UNASSIGNED_STACK" "[Ljava/lang/StackTraceElement;") ∈ lw_all := lw_g (lw_at lw_m1 122 rfl) rfl
theorem q265 : (Jvm.Cond.laysStatic "java/lang/Throwable" "UNASSIGNED_STACK" "[Ljava/lang/StackTraceElement;") ∈ lw_tbl := lw_at lw_m1 123 rfl
theorem q266 : (Jvm.Cond.fieldLink "java/lang/Throwable" (20 : Nat) "java/lang/Throwable" "SUPPRESSED_SENTINEL" "Ljava/util/List;") ∈ lw_all := lw_g (lw_at lw_m1 124 rfl) rfl
theorem q267 : (Jvm.Cond.laysStatic "java/lang/Throwable" "SUPPRESSED_SENTINEL" "Ljava/util/List;") ∈ lw_tbl := lw_at lw_m1 125 rfl
theorem q268 : (Jvm.Cond.methodLink "java/lang/Throwable" (27 : Nat) ({ cls := "java/lang/Throwable", name := "fillInStackTrace", desc := "()Ljava/lang/Throwable;" } : Jvm.MethodName)) ∈ lw_all := lw_g (lw_at lw_m1 126 rfl) rfl
theorem q269 : (Jvm.Cond.instanceMethod ({ cls := "java/lang/Throwable", name := "fillInStackTrace", desc := "()Ljava/lang/Throwable;" } : Jvm.MethodName)) ∈ lw_all := lw_g (lw_at lw_m1 127 rfl) rfl
theorem q270 : (Jvm.Cond.sameMethod "java/lang/Throwable" "java/lang/Throwable" "fillInStackTrace" "()Ljava/lang/Throwable;") ∈ lw_all := lw_g (lw_at lw_m1 128 rfl) rfl
theorem q273 : (Jvm.Cond.codeSync ({ cls := "java/lang/Throwable", name := "fillInStackTrace", desc := "()Ljava/lang/Throwable;" } : Jvm.MethodName) prog_51_method_18_code (1 : Nat) (Option.some (Jvm.ClassFile.FieldType.object "java/lang/Throwable"))) ∈ lw_all := lw_g (lw_at lw_m1 131 rfl) rfl
theorem q274 : (Jvm.Cond.methodLink "java/lang/Throwable" (202 : Nat) ({ cls := "java/lang/Throwable", name := "fillInStackTrace", desc := "(I)Ljava/lang/Throwable;" } : Jvm.MethodName)) ∈ lw_all := lw_g (lw_at lw_m1 132 rfl) rfl
theorem q275 : (Jvm.Cond.privateMethod ({ cls := "java/lang/Throwable", name := "fillInStackTrace", desc := "(I)Ljava/lang/Throwable;" } : Jvm.MethodName)) ∈ lw_tbl := lw_at lw_m1 133 rfl
theorem q276 : (Jvm.Cond.instanceMethod ({ cls := "java/lang/Throwable", name := "fillInStackTrace", desc := "(I)Ljava/lang/Throwable;" } : Jvm.MethodName)) ∈ lw_all := lw_g (lw_at lw_m1 134 rfl) rfl
theorem q277 : (Jvm.Cond.instantiable "java/lang/Throwable" (6 : Nat)) ∈ lw_all := lw_g (lw_at lw_m1 135 rfl) rfl
theorem q278 : (Jvm.Cond.native ({ cls := "java/lang/Throwable", name := "fillInStackTrace", desc := "(I)Ljava/lang/Throwable;" } : Jvm.MethodName)) ∈ lw_all := lw_g (lw_at lw_m1 136 rfl) rfl
theorem q286 : (Jvm.Cond.instanceMethod ({ cls := "java/lang/Throwable", name := "<init>", desc := "(Ljava/lang/String;Ljava/lang/Throwable;ZZ)V" } : Jvm.MethodName)) ∈ lw_all := lw_g (lw_at lw_m1 144 rfl) rfl
theorem q287 : (Jvm.Cond.code ({ cls := "java/lang/Throwable", name := "<init>", desc := "(Ljava/lang/String;Ljava/lang/Throwable;ZZ)V" } : Jvm.MethodName) prog_51_method_5_code (5 : Nat) (Option.none : Option Jvm.ClassFile.FieldType)) ∈ lw_all := lw_g (lw_at lw_m1 145 rfl) rfl
theorem q292 : (Jvm.Cond.fieldLink "java/lang/Throwable" (198 : Nat) "java/lang/Throwable" "backtrace" "Ljava/lang/Object;") ∈ lw_all := lw_g (lw_at lw_m1 150 rfl) rfl
theorem q293 : (Jvm.Cond.fieldLink "java/lang/Throwable" (31 : Nat) "java/lang/Throwable" "detailMessage" "Ljava/lang/String;") ∈ lw_all := lw_g (lw_at lw_m1 151 rfl) rfl
theorem q294 : (Jvm.Cond.fieldLink "java/lang/Throwable" (7 : Nat) "java/lang/Throwable" "cause" "Ljava/lang/Throwable;") ∈ lw_all := lw_g (lw_at lw_m1 152 rfl) rfl
theorem q295 : (Jvm.Cond.fieldLink "java/lang/Throwable" (17 : Nat) "java/lang/Throwable" "stackTrace" "[Ljava/lang/StackTraceElement;") ∈ lw_all := lw_g (lw_at lw_m1 153 rfl) rfl
theorem q296 : (Jvm.Cond.fieldLink "java/lang/Throwable" (24 : Nat) "java/lang/Throwable" "suppressedExceptions" "Ljava/util/List;") ∈ lw_all := lw_g (lw_at lw_m1 154 rfl) rfl
theorem q301 : (Jvm.Cond.soleField "java/lang/Throwable" "backtrace") ∈ lw_all := lw_g (lw_at lw_m1 159 rfl) rfl
theorem q302 : (Jvm.Cond.soleField "java/lang/Throwable" "detailMessage") ∈ lw_all := lw_g (lw_at lw_m1 160 rfl) rfl
theorem q303 : (Jvm.Cond.soleField "java/lang/Throwable" "cause") ∈ lw_all := lw_g (lw_at lw_m1 161 rfl) rfl
theorem q304 : (Jvm.Cond.soleField "java/lang/Throwable" "stackTrace") ∈ lw_all := lw_g (lw_at lw_m1 162 rfl) rfl
theorem q306 : (Jvm.Cond.soleField "java/lang/Throwable" "depth") ∈ lw_all := lw_g (lw_at lw_m1 164 rfl) rfl
theorem q307 : (Jvm.Cond.soleField "java/lang/Throwable" "suppressedExceptions") ∈ lw_all := lw_g (lw_at lw_m1 165 rfl) rfl
theorem q1923 : (Jvm.Cond.instanceMethod ({ cls := "java/lang/Throwable", name := "<init>", desc := "(Ljava/lang/String;)V" } : Jvm.MethodName)) ∈ lw_all := lw_g (lw_at lw_m8 101 rfl) rfl
theorem q1924 : (Jvm.Cond.code ({ cls := "java/lang/Throwable", name := "<init>", desc := "(Ljava/lang/String;)V" } : Jvm.MethodName) prog_51_method_2_code (2 : Nat) (Option.none : Option Jvm.ClassFile.FieldType)) ∈ lw_all := lw_g (lw_at lw_m8 102 rfl) rfl
theorem q2991 : (Jvm.Cond.sameMethod "java/lang/Throwable" "java/lang/Throwable" "fillInStackTrace" "(I)Ljava/lang/Throwable;") ∈ lw_all := lw_g (lw_at lw_m12 209 rfl) rfl
theorem in_J0 : ∀ w ∈ wsJ00, w ∈ lw_all := lw_in wsJ00 [248, 250, 252, 254, 256] (by decide +kernel) (by decide +kernel)

/-! java/lang/Exception -/
set_option maxRecDepth 100000
def RJ1 : String := "java/lang/Exception"
abbrev cJ1_init : ByteArray := prog_43_method_5_code
def yJ1_init : MethodName := ⟨RJ1, "<init>", "(Ljava/lang/String;Ljava/lang/Throwable;ZZ)V"⟩
def dkwJ1_init_0 : List UInt8 := [42, 43, 44, 29, 21, 4, 183, 0, 16, 177]
abbrev dktJ1_init_0 : List UInt8 := dkwJ1_init_0 ++ []
theorem dksJ1_init_0 : cJ1_init.data.toList.drop 0 = dktJ1_init_0 := by decide +kernel
theorem dJ1_init_0 : decode cJ1_init 0 = .ok (.aload_n 0, 1) := dk_42 (dk_at dksJ1_init_0 0 rfl rfl)
theorem dJ1_init_1 : decode cJ1_init 1 = .ok (.aload_n 1, 1) := dk_43 (dk_at dksJ1_init_0 1 rfl rfl)
theorem dJ1_init_2 : decode cJ1_init 2 = .ok (.aload_n 2, 1) := dk_44 (dk_at dksJ1_init_0 2 rfl rfl)
theorem dJ1_init_3 : decode cJ1_init 3 = .ok (.iload_n 3, 1) := dk_29 (dk_at dksJ1_init_0 3 rfl rfl)
theorem dJ1_init_4 : decode cJ1_init 4 = .ok (.iload 4, 2) := dk_21 4 (dk_at dksJ1_init_0 4 rfl rfl)
theorem dJ1_init_6 : decode cJ1_init 6 = .ok (.invokespecial 16, 3) := dk_183 0 16 (dk_at dksJ1_init_0 6 rfl rfl)
theorem dJ1_init_9 : decode cJ1_init 9 = .ok (.return_, 1) := dk_177 (dk_at dksJ1_init_0 9 rfl rfl)
abbrev cJ1_init_2 : ByteArray := prog_43_method_2_code
def yJ1_init_2 : MethodName := ⟨RJ1, "<init>", "(Ljava/lang/String;)V"⟩
def dkwJ1_init_2_0 : List UInt8 := [42, 43, 183, 0, 7, 177]
abbrev dktJ1_init_2_0 : List UInt8 := dkwJ1_init_2_0 ++ []
theorem dksJ1_init_2_0 : cJ1_init_2.data.toList.drop 0 = dktJ1_init_2_0 := by decide +kernel
theorem dJ1_init_2_0 : decode cJ1_init_2 0 = .ok (.aload_n 0, 1) := dk_42 (dk_at dksJ1_init_2_0 0 rfl rfl)
theorem dJ1_init_2_1 : decode cJ1_init_2 1 = .ok (.aload_n 1, 1) := dk_43 (dk_at dksJ1_init_2_0 1 rfl rfl)
theorem dJ1_init_2_2 : decode cJ1_init_2 2 = .ok (.invokespecial 7, 3) := dk_183 0 7 (dk_at dksJ1_init_2_0 2 rfl rfl)
theorem dJ1_init_2_5 : decode cJ1_init_2 5 = .ok (.return_, 1) := dk_177 (dk_at dksJ1_init_2_0 5 rfl rfl)
theorem q146 : (Jvm.Cond.initialized "java/lang/Exception") ∈ lw_all := lw_g (lw_at lw_m1 4 rfl) rfl
theorem q241 : (Jvm.Cond.declares ({ cls := "java/lang/Exception", name := "<init>", desc := "()V" } : Jvm.MethodName)) ∈ lw_tbl := lw_at lw_m1 99 rfl
theorem q242 : (Jvm.Cond.declares ({ cls := "java/lang/Exception", name := "<init>", desc := "(Ljava/lang/String;)V" } : Jvm.MethodName)) ∈ lw_tbl := lw_at lw_m1 100 rfl
theorem q283 : (Jvm.Cond.instanceMethod ({ cls := "java/lang/Exception", name := "<init>", desc := "(Ljava/lang/String;Ljava/lang/Throwable;ZZ)V" } : Jvm.MethodName)) ∈ lw_all := lw_g (lw_at lw_m1 141 rfl) rfl
theorem q284 : (Jvm.Cond.code ({ cls := "java/lang/Exception", name := "<init>", desc := "(Ljava/lang/String;Ljava/lang/Throwable;ZZ)V" } : Jvm.MethodName) prog_43_method_5_code (5 : Nat) (Option.none : Option Jvm.ClassFile.FieldType)) ∈ lw_all := lw_g (lw_at lw_m1 142 rfl) rfl
theorem q285 : (Jvm.Cond.methodLink "java/lang/Exception" (16 : Nat) ({ cls := "java/lang/Throwable", name := "<init>", desc := "(Ljava/lang/String;Ljava/lang/Throwable;ZZ)V" } : Jvm.MethodName)) ∈ lw_all := lw_g (lw_at lw_m1 143 rfl) rfl
theorem q1920 : (Jvm.Cond.instanceMethod ({ cls := "java/lang/Exception", name := "<init>", desc := "(Ljava/lang/String;)V" } : Jvm.MethodName)) ∈ lw_all := lw_g (lw_at lw_m8 98 rfl) rfl
theorem q1921 : (Jvm.Cond.code ({ cls := "java/lang/Exception", name := "<init>", desc := "(Ljava/lang/String;)V" } : Jvm.MethodName) prog_43_method_2_code (2 : Nat) (Option.none : Option Jvm.ClassFile.FieldType)) ∈ lw_all := lw_g (lw_at lw_m8 99 rfl) rfl
theorem q1922 : (Jvm.Cond.methodLink "java/lang/Exception" (7 : Nat) ({ cls := "java/lang/Throwable", name := "<init>", desc := "(Ljava/lang/String;)V" } : Jvm.MethodName)) ∈ lw_all := lw_g (lw_at lw_m8 100 rfl) rfl

/-! java/lang/AbstractStringBuilder -/
set_option maxRecDepth 100000
def RJ2 : String := "java/lang/AbstractStringBuilder"
abbrev cJ2_init : ByteArray := prog_38_method_3_code
def yJ2_init : MethodName := ⟨RJ2, "<init>", "(Ljava/lang/String;)V"⟩
def dkwJ2_init_2 : List UInt8 := [167, 0, 7, 29, 184, 0, 26, 181, 0, 15, 42, 43, 182, 0, 43, 87, 177]
abbrev dktJ2_init_2 : List UInt8 := dkwJ2_init_2 ++ []
def dkwJ2_init_1 : List UInt8 := [62, 43, 182, 0, 40, 54, 4, 42, 21, 4, 181, 0, 22, 42, 21, 4, 154, 0, 9, 29, 188, 8]
abbrev dktJ2_init_1 : List UInt8 := dkwJ2_init_1 ++ dktJ2_init_2
def dkwJ2_init_0 : List UInt8 := [42, 183, 0, 3, 43, 182, 0, 32, 61, 28, 18, 38, 162, 0, 10, 28, 16, 16, 96, 167, 0, 5, 18, 39]
abbrev dktJ2_init_0 : List UInt8 := dkwJ2_init_0 ++ dktJ2_init_1
theorem dksJ2_init_0 : cJ2_init.data.toList.drop 0 = dktJ2_init_0 := by decide +kernel
theorem dksJ2_init_1 : cJ2_init.data.toList.drop 24 = dktJ2_init_1 := dk_seg dksJ2_init_0 24 rfl rfl
theorem dksJ2_init_2 : cJ2_init.data.toList.drop 46 = dktJ2_init_2 := dk_seg dksJ2_init_1 22 rfl rfl
theorem dJ2_init_0 : decode cJ2_init 0 = .ok (.aload_n 0, 1) := dk_42 (dk_at dksJ2_init_0 0 rfl rfl)
theorem dJ2_init_1 : decode cJ2_init 1 = .ok (.invokespecial 3, 3) := dk_183 0 3 (dk_at dksJ2_init_0 1 rfl rfl)
theorem dJ2_init_4 : decode cJ2_init 4 = .ok (.aload_n 1, 1) := dk_43 (dk_at dksJ2_init_0 4 rfl rfl)
theorem dJ2_init_5 : decode cJ2_init 5 = .ok (.invokevirtual 32, 3) := dk_182 0 32 (dk_at dksJ2_init_0 5 rfl rfl)
theorem dJ2_init_8 : decode cJ2_init 8 = .ok (.istore_n 2, 1) := dk_61 (dk_at dksJ2_init_0 8 rfl rfl)
theorem dJ2_init_9 : decode cJ2_init 9 = .ok (.iload_n 2, 1) := dk_28 (dk_at dksJ2_init_0 9 rfl rfl)
theorem dJ2_init_10 : decode cJ2_init 10 = .ok (.ldc 38, 2) := dk_18 38 (dk_at dksJ2_init_0 10 rfl rfl)
theorem dJ2_init_12 : decode cJ2_init 12 = .ok (.if_icmp .ge 10, 3) := dk_162 0 10 (dk_at dksJ2_init_0 12 rfl rfl)
theorem dJ2_init_15 : decode cJ2_init 15 = .ok (.iload_n 2, 1) := dk_28 (dk_at dksJ2_init_0 15 rfl rfl)
theorem dJ2_init_16 : decode cJ2_init 16 = .ok (.bipush 16, 2) := dk_16 16 (dk_at dksJ2_init_0 16 rfl rfl)
theorem dJ2_init_18 : decode cJ2_init 18 = .ok (.iadd, 1) := dk_96 (dk_at dksJ2_init_0 18 rfl rfl)
theorem dJ2_init_19 : decode cJ2_init 19 = .ok (.goto 5, 3) := dk_167 0 5 (dk_at dksJ2_init_0 19 rfl rfl)
theorem dJ2_init_22 : decode cJ2_init 22 = .ok (.ldc 39, 2) := dk_18 39 (dk_at dksJ2_init_0 22 rfl rfl)
theorem dJ2_init_24 : decode cJ2_init 24 = .ok (.istore_n 3, 1) := dk_62 (dk_at dksJ2_init_1 0 rfl rfl)
theorem dJ2_init_25 : decode cJ2_init 25 = .ok (.aload_n 1, 1) := dk_43 (dk_at dksJ2_init_1 1 rfl rfl)
theorem dJ2_init_26 : decode cJ2_init 26 = .ok (.invokevirtual 40, 3) := dk_182 0 40 (dk_at dksJ2_init_1 2 rfl rfl)
theorem dJ2_init_29 : decode cJ2_init 29 = .ok (.istore 4, 2) := dk_54 4 (dk_at dksJ2_init_1 5 rfl rfl)
theorem dJ2_init_31 : decode cJ2_init 31 = .ok (.aload_n 0, 1) := dk_42 (dk_at dksJ2_init_1 7 rfl rfl)
theorem dJ2_init_32 : decode cJ2_init 32 = .ok (.iload 4, 2) := dk_21 4 (dk_at dksJ2_init_1 8 rfl rfl)
theorem dJ2_init_34 : decode cJ2_init 34 = .ok (.putfield 22, 3) := dk_181 0 22 (dk_at dksJ2_init_1 10 rfl rfl)
theorem dJ2_init_37 : decode cJ2_init 37 = .ok (.aload_n 0, 1) := dk_42 (dk_at dksJ2_init_1 13 rfl rfl)
theorem dJ2_init_38 : decode cJ2_init 38 = .ok (.iload 4, 2) := dk_21 4 (dk_at dksJ2_init_1 14 rfl rfl)
theorem dJ2_init_40 : decode cJ2_init 40 = .ok (.ifCond .ne 9, 3) := dk_154 0 9 (dk_at dksJ2_init_1 16 rfl rfl)
theorem dJ2_init_43 : decode cJ2_init 43 = .ok (.iload_n 3, 1) := dk_29 (dk_at dksJ2_init_1 19 rfl rfl)
theorem dJ2_init_44 : decode cJ2_init 44 = .ok (.newarray .byte, 2) := dk_188_8 (dk_at dksJ2_init_1 20 rfl rfl)
theorem dJ2_init_46 : decode cJ2_init 46 = .ok (.goto 7, 3) := dk_167 0 7 (dk_at dksJ2_init_2 0 rfl rfl)
theorem dJ2_init_49 : decode cJ2_init 49 = .ok (.iload_n 3, 1) := dk_29 (dk_at dksJ2_init_2 3 rfl rfl)
theorem dJ2_init_50 : decode cJ2_init 50 = .ok (.invokestatic 26, 3) := dk_184 0 26 (dk_at dksJ2_init_2 4 rfl rfl)
theorem dJ2_init_53 : decode cJ2_init 53 = .ok (.putfield 15, 3) := dk_181 0 15 (dk_at dksJ2_init_2 7 rfl rfl)
theorem dJ2_init_56 : decode cJ2_init 56 = .ok (.aload_n 0, 1) := dk_42 (dk_at dksJ2_init_2 10 rfl rfl)
theorem dJ2_init_57 : decode cJ2_init 57 = .ok (.aload_n 1, 1) := dk_43 (dk_at dksJ2_init_2 11 rfl rfl)
theorem dJ2_init_58 : decode cJ2_init 58 = .ok (.invokevirtual 43, 3) := dk_182 0 43 (dk_at dksJ2_init_2 12 rfl rfl)
theorem dJ2_init_61 : decode cJ2_init 61 = .ok (.pop, 1) := dk_87 (dk_at dksJ2_init_2 15 rfl rfl)
theorem dJ2_init_62 : decode cJ2_init 62 = .ok (.return_, 1) := dk_177 (dk_at dksJ2_init_2 16 rfl rfl)
abbrev cJ2_append : ByteArray := prog_38_method_22_code
def yJ2_append : MethodName := ⟨RJ2, "append", "(Ljava/lang/String;)Ljava/lang/AbstractStringBuilder;"⟩
def dkwJ2_append_1 : List UInt8 := [42, 42, 180, 0, 79, 43, 182, 0, 208, 42, 89, 180, 0, 79, 28, 96, 181, 0, 79, 42, 176]
abbrev dktJ2_append_1 : List UInt8 := dkwJ2_append_1 ++ []
def dkwJ2_append_0 : List UInt8 := [43, 199, 0, 8, 42, 182, 0, 204, 176, 43, 182, 0, 32, 61, 42, 42, 180, 0, 79, 28, 96, 182, 0, 100]
abbrev dktJ2_append_0 : List UInt8 := dkwJ2_append_0 ++ dktJ2_append_1
theorem dksJ2_append_0 : cJ2_append.data.toList.drop 0 = dktJ2_append_0 := by decide +kernel
theorem dksJ2_append_1 : cJ2_append.data.toList.drop 24 = dktJ2_append_1 := dk_seg dksJ2_append_0 24 rfl rfl
theorem dJ2_append_0 : decode cJ2_append 0 = .ok (.aload_n 1, 1) := dk_43 (dk_at dksJ2_append_0 0 rfl rfl)
theorem dJ2_append_1 : decode cJ2_append 1 = .ok (.ifnonnull 8, 3) := dk_199 0 8 (dk_at dksJ2_append_0 1 rfl rfl)
theorem dJ2_append_4 : decode cJ2_append 4 = .ok (.aload_n 0, 1) := dk_42 (dk_at dksJ2_append_0 4 rfl rfl)
theorem dJ2_append_5 : decode cJ2_append 5 = .ok (.invokevirtual 204, 3) := dk_182 0 204 (dk_at dksJ2_append_0 5 rfl rfl)
theorem dJ2_append_8 : decode cJ2_append 8 = .ok (.areturn, 1) := dk_176 (dk_at dksJ2_append_0 8 rfl rfl)
theorem dJ2_append_9 : decode cJ2_append 9 = .ok (.aload_n 1, 1) := dk_43 (dk_at dksJ2_append_0 9 rfl rfl)
theorem dJ2_append_10 : decode cJ2_append 10 = .ok (.invokevirtual 32, 3) := dk_182 0 32 (dk_at dksJ2_append_0 10 rfl rfl)
theorem dJ2_append_13 : decode cJ2_append 13 = .ok (.istore_n 2, 1) := dk_61 (dk_at dksJ2_append_0 13 rfl rfl)
theorem dJ2_append_14 : decode cJ2_append 14 = .ok (.aload_n 0, 1) := dk_42 (dk_at dksJ2_append_0 14 rfl rfl)
theorem dJ2_append_15 : decode cJ2_append 15 = .ok (.aload_n 0, 1) := dk_42 (dk_at dksJ2_append_0 15 rfl rfl)
theorem dJ2_append_16 : decode cJ2_append 16 = .ok (.getfield 79, 3) := dk_180 0 79 (dk_at dksJ2_append_0 16 rfl rfl)
theorem dJ2_append_19 : decode cJ2_append 19 = .ok (.iload_n 2, 1) := dk_28 (dk_at dksJ2_append_0 19 rfl rfl)
theorem dJ2_append_20 : decode cJ2_append 20 = .ok (.iadd, 1) := dk_96 (dk_at dksJ2_append_0 20 rfl rfl)
theorem dJ2_append_21 : decode cJ2_append 21 = .ok (.invokevirtual 100, 3) := dk_182 0 100 (dk_at dksJ2_append_0 21 rfl rfl)
theorem dJ2_append_24 : decode cJ2_append 24 = .ok (.aload_n 0, 1) := dk_42 (dk_at dksJ2_append_1 0 rfl rfl)
theorem dJ2_append_25 : decode cJ2_append 25 = .ok (.aload_n 0, 1) := dk_42 (dk_at dksJ2_append_1 1 rfl rfl)
theorem dJ2_append_26 : decode cJ2_append 26 = .ok (.getfield 79, 3) := dk_180 0 79 (dk_at dksJ2_append_1 2 rfl rfl)
theorem dJ2_append_29 : decode cJ2_append 29 = .ok (.aload_n 1, 1) := dk_43 (dk_at dksJ2_append_1 5 rfl rfl)
theorem dJ2_append_30 : decode cJ2_append 30 = .ok (.invokevirtual 208, 3) := dk_182 0 208 (dk_at dksJ2_append_1 6 rfl rfl)
theorem dJ2_append_33 : decode cJ2_append 33 = .ok (.aload_n 0, 1) := dk_42 (dk_at dksJ2_append_1 9 rfl rfl)
theorem dJ2_append_34 : decode cJ2_append 34 = .ok (.dup, 1) := dk_89 (dk_at dksJ2_append_1 10 rfl rfl)
theorem dJ2_append_35 : decode cJ2_append 35 = .ok (.getfield 79, 3) := dk_180 0 79 (dk_at dksJ2_append_1 11 rfl rfl)
theorem dJ2_append_38 : decode cJ2_append 38 = .ok (.iload_n 2, 1) := dk_28 (dk_at dksJ2_append_1 14 rfl rfl)
theorem dJ2_append_39 : decode cJ2_append 39 = .ok (.iadd, 1) := dk_96 (dk_at dksJ2_append_1 15 rfl rfl)
theorem dJ2_append_40 : decode cJ2_append 40 = .ok (.putfield 79, 3) := dk_181 0 79 (dk_at dksJ2_append_1 16 rfl rfl)
theorem dJ2_append_43 : decode cJ2_append 43 = .ok (.aload_n 0, 1) := dk_42 (dk_at dksJ2_append_1 19 rfl rfl)
theorem dJ2_append_44 : decode cJ2_append 44 = .ok (.areturn, 1) := dk_176 (dk_at dksJ2_append_1 20 rfl rfl)
abbrev cJ2_appendNull : ByteArray := prog_38_method_26_code
def yJ2_appendNull : MethodName := ⟨RJ2, "appendNull", "()Ljava/lang/AbstractStringBuilder;"⟩
def dkwJ2_appendNull_3 : List UInt8 := [184, 0, 226, 60, 42, 27, 181, 0, 79, 42, 176]
abbrev dktJ2_appendNull_3 : List UInt8 := dkwJ2_appendNull_3 ++ []
def dkwJ2_appendNull_2 : List UInt8 := [16, 108, 84, 44, 27, 132, 1, 1, 16, 108, 84, 167, 0, 17, 44, 27, 16, 110, 16, 117, 16, 108, 16, 108]
abbrev dktJ2_appendNull_2 : List UInt8 := dkwJ2_appendNull_2 ++ dktJ2_appendNull_3
def dkwJ2_appendNull_1 : List UInt8 := [153, 0, 38, 44, 27, 132, 1, 1, 16, 110, 84, 44, 27, 132, 1, 1, 16, 117, 84, 44, 27, 132, 1, 1]
abbrev dktJ2_appendNull_1 : List UInt8 := dkwJ2_appendNull_1 ++ dktJ2_appendNull_2
def dkwJ2_appendNull_0 : List UInt8 := [42, 42, 180, 0, 79, 7, 96, 182, 0, 100, 42, 180, 0, 79, 60, 42, 180, 0, 15, 77, 42, 182, 0, 83]
abbrev dktJ2_appendNull_0 : List UInt8 := dkwJ2_appendNull_0 ++ dktJ2_appendNull_1
theorem dksJ2_appendNull_0 : cJ2_appendNull.data.toList.drop 0 = dktJ2_appendNull_0 := by decide +kernel
theorem dksJ2_appendNull_1 : cJ2_appendNull.data.toList.drop 24 = dktJ2_appendNull_1 := dk_seg dksJ2_appendNull_0 24 rfl rfl
theorem dksJ2_appendNull_2 : cJ2_appendNull.data.toList.drop 48 = dktJ2_appendNull_2 := dk_seg dksJ2_appendNull_1 24 rfl rfl
theorem dksJ2_appendNull_3 : cJ2_appendNull.data.toList.drop 72 = dktJ2_appendNull_3 := dk_seg dksJ2_appendNull_2 24 rfl rfl
theorem dJ2_appendNull_0 : decode cJ2_appendNull 0 = .ok (.aload_n 0, 1) := dk_42 (dk_at dksJ2_appendNull_0 0 rfl rfl)
theorem dJ2_appendNull_1 : decode cJ2_appendNull 1 = .ok (.aload_n 0, 1) := dk_42 (dk_at dksJ2_appendNull_0 1 rfl rfl)
theorem dJ2_appendNull_2 : decode cJ2_appendNull 2 = .ok (.getfield 79, 3) := dk_180 0 79 (dk_at dksJ2_appendNull_0 2 rfl rfl)
theorem dJ2_appendNull_5 : decode cJ2_appendNull 5 = .ok (.iconst 4, 1) := dk_7 (dk_at dksJ2_appendNull_0 5 rfl rfl)
theorem dJ2_appendNull_6 : decode cJ2_appendNull 6 = .ok (.iadd, 1) := dk_96 (dk_at dksJ2_appendNull_0 6 rfl rfl)
theorem dJ2_appendNull_7 : decode cJ2_appendNull 7 = .ok (.invokevirtual 100, 3) := dk_182 0 100 (dk_at dksJ2_appendNull_0 7 rfl rfl)
theorem dJ2_appendNull_10 : decode cJ2_appendNull 10 = .ok (.aload_n 0, 1) := dk_42 (dk_at dksJ2_appendNull_0 10 rfl rfl)
theorem dJ2_appendNull_11 : decode cJ2_appendNull 11 = .ok (.getfield 79, 3) := dk_180 0 79 (dk_at dksJ2_appendNull_0 11 rfl rfl)
theorem dJ2_appendNull_14 : decode cJ2_appendNull 14 = .ok (.istore_n 1, 1) := dk_60 (dk_at dksJ2_appendNull_0 14 rfl rfl)
theorem dJ2_appendNull_15 : decode cJ2_appendNull 15 = .ok (.aload_n 0, 1) := dk_42 (dk_at dksJ2_appendNull_0 15 rfl rfl)
theorem dJ2_appendNull_16 : decode cJ2_appendNull 16 = .ok (.getfield 15, 3) := dk_180 0 15 (dk_at dksJ2_appendNull_0 16 rfl rfl)
theorem dJ2_appendNull_19 : decode cJ2_appendNull 19 = .ok (.astore_n 2, 1) := dk_77 (dk_at dksJ2_appendNull_0 19 rfl rfl)
theorem dJ2_appendNull_20 : decode cJ2_appendNull 20 = .ok (.aload_n 0, 1) := dk_42 (dk_at dksJ2_appendNull_0 20 rfl rfl)
theorem dJ2_appendNull_21 : decode cJ2_appendNull 21 = .ok (.invokevirtual 83, 3) := dk_182 0 83 (dk_at dksJ2_appendNull_0 21 rfl rfl)
theorem dJ2_appendNull_24 : decode cJ2_appendNull 24 = .ok (.ifCond .eq 38, 3) := dk_153 0 38 (dk_at dksJ2_appendNull_1 0 rfl rfl)
theorem dJ2_appendNull_27 : decode cJ2_appendNull 27 = .ok (.aload_n 2, 1) := dk_44 (dk_at dksJ2_appendNull_1 3 rfl rfl)
theorem dJ2_appendNull_28 : decode cJ2_appendNull 28 = .ok (.iload_n 1, 1) := dk_27 (dk_at dksJ2_appendNull_1 4 rfl rfl)
theorem dJ2_appendNull_29 : decode cJ2_appendNull 29 = .ok (.iinc 1 1, 3) := dk_132 1 1 (dk_at dksJ2_appendNull_1 5 rfl rfl)
theorem dJ2_appendNull_32 : decode cJ2_appendNull 32 = .ok (.bipush 110, 2) := dk_16 110 (dk_at dksJ2_appendNull_1 8 rfl rfl)
theorem dJ2_appendNull_34 : decode cJ2_appendNull 34 = .ok (.bastore, 1) := dk_84 (dk_at dksJ2_appendNull_1 10 rfl rfl)
theorem dJ2_appendNull_35 : decode cJ2_appendNull 35 = .ok (.aload_n 2, 1) := dk_44 (dk_at dksJ2_appendNull_1 11 rfl rfl)
theorem dJ2_appendNull_36 : decode cJ2_appendNull 36 = .ok (.iload_n 1, 1) := dk_27 (dk_at dksJ2_appendNull_1 12 rfl rfl)
theorem dJ2_appendNull_37 : decode cJ2_appendNull 37 = .ok (.iinc 1 1, 3) := dk_132 1 1 (dk_at dksJ2_appendNull_1 13 rfl rfl)
theorem dJ2_appendNull_40 : decode cJ2_appendNull 40 = .ok (.bipush 117, 2) := dk_16 117 (dk_at dksJ2_appendNull_1 16 rfl rfl)
theorem dJ2_appendNull_42 : decode cJ2_appendNull 42 = .ok (.bastore, 1) := dk_84 (dk_at dksJ2_appendNull_1 18 rfl rfl)
theorem dJ2_appendNull_43 : decode cJ2_appendNull 43 = .ok (.aload_n 2, 1) := dk_44 (dk_at dksJ2_appendNull_1 19 rfl rfl)
theorem dJ2_appendNull_44 : decode cJ2_appendNull 44 = .ok (.iload_n 1, 1) := dk_27 (dk_at dksJ2_appendNull_1 20 rfl rfl)
theorem dJ2_appendNull_45 : decode cJ2_appendNull 45 = .ok (.iinc 1 1, 3) := dk_132 1 1 (dk_at dksJ2_appendNull_1 21 rfl rfl)
theorem dJ2_appendNull_48 : decode cJ2_appendNull 48 = .ok (.bipush 108, 2) := dk_16 108 (dk_at dksJ2_appendNull_2 0 rfl rfl)
theorem dJ2_appendNull_50 : decode cJ2_appendNull 50 = .ok (.bastore, 1) := dk_84 (dk_at dksJ2_appendNull_2 2 rfl rfl)
theorem dJ2_appendNull_51 : decode cJ2_appendNull 51 = .ok (.aload_n 2, 1) := dk_44 (dk_at dksJ2_appendNull_2 3 rfl rfl)
theorem dJ2_appendNull_52 : decode cJ2_appendNull 52 = .ok (.iload_n 1, 1) := dk_27 (dk_at dksJ2_appendNull_2 4 rfl rfl)
theorem dJ2_appendNull_53 : decode cJ2_appendNull 53 = .ok (.iinc 1 1, 3) := dk_132 1 1 (dk_at dksJ2_appendNull_2 5 rfl rfl)
theorem dJ2_appendNull_56 : decode cJ2_appendNull 56 = .ok (.bipush 108, 2) := dk_16 108 (dk_at dksJ2_appendNull_2 8 rfl rfl)
theorem dJ2_appendNull_58 : decode cJ2_appendNull 58 = .ok (.bastore, 1) := dk_84 (dk_at dksJ2_appendNull_2 10 rfl rfl)
theorem dJ2_appendNull_59 : decode cJ2_appendNull 59 = .ok (.goto 17, 3) := dk_167 0 17 (dk_at dksJ2_appendNull_2 11 rfl rfl)
theorem dJ2_appendNull_62 : decode cJ2_appendNull 62 = .ok (.aload_n 2, 1) := dk_44 (dk_at dksJ2_appendNull_2 14 rfl rfl)
theorem dJ2_appendNull_63 : decode cJ2_appendNull 63 = .ok (.iload_n 1, 1) := dk_27 (dk_at dksJ2_appendNull_2 15 rfl rfl)
theorem dJ2_appendNull_64 : decode cJ2_appendNull 64 = .ok (.bipush 110, 2) := dk_16 110 (dk_at dksJ2_appendNull_2 16 rfl rfl)
theorem dJ2_appendNull_66 : decode cJ2_appendNull 66 = .ok (.bipush 117, 2) := dk_16 117 (dk_at dksJ2_appendNull_2 18 rfl rfl)
theorem dJ2_appendNull_68 : decode cJ2_appendNull 68 = .ok (.bipush 108, 2) := dk_16 108 (dk_at dksJ2_appendNull_2 20 rfl rfl)
theorem dJ2_appendNull_70 : decode cJ2_appendNull 70 = .ok (.bipush 108, 2) := dk_16 108 (dk_at dksJ2_appendNull_2 22 rfl rfl)
theorem dJ2_appendNull_72 : decode cJ2_appendNull 72 = .ok (.invokestatic 226, 3) := dk_184 0 226 (dk_at dksJ2_appendNull_3 0 rfl rfl)
theorem dJ2_appendNull_75 : decode cJ2_appendNull 75 = .ok (.istore_n 1, 1) := dk_60 (dk_at dksJ2_appendNull_3 3 rfl rfl)
theorem dJ2_appendNull_76 : decode cJ2_appendNull 76 = .ok (.aload_n 0, 1) := dk_42 (dk_at dksJ2_appendNull_3 4 rfl rfl)
theorem dJ2_appendNull_77 : decode cJ2_appendNull 77 = .ok (.iload_n 1, 1) := dk_27 (dk_at dksJ2_appendNull_3 5 rfl rfl)
theorem dJ2_appendNull_78 : decode cJ2_appendNull 78 = .ok (.putfield 79, 3) := dk_181 0 79 (dk_at dksJ2_appendNull_3 6 rfl rfl)
theorem dJ2_appendNull_81 : decode cJ2_appendNull 81 = .ok (.aload_n 0, 1) := dk_42 (dk_at dksJ2_appendNull_3 9 rfl rfl)
theorem dJ2_appendNull_82 : decode cJ2_appendNull 82 = .ok (.areturn, 1) := dk_176 (dk_at dksJ2_appendNull_3 10 rfl rfl)
abbrev cJ2_ensureCapacityInternal : ByteArray := prog_38_method_9_code
def yJ2_ensureCapacityInternal : MethodName := ⟨RJ2, "ensureCapacityInternal", "(I)V"⟩
def dkwJ2_ensureCapacityInternal_1 : List UInt8 := [182, 0, 104, 42, 180, 0, 22, 120, 184, 0, 108, 181, 0, 15, 177]
abbrev dktJ2_ensureCapacityInternal_1 : List UInt8 := dkwJ2_ensureCapacityInternal_1 ++ []
def dkwJ2_ensureCapacityInternal_0 : List UInt8 := [42, 180, 0, 15, 190, 42, 180, 0, 22, 122, 61, 27, 28, 100, 158, 0, 24, 42, 42, 180, 0, 15, 42, 27]
abbrev dktJ2_ensureCapacityInternal_0 : List UInt8 := dkwJ2_ensureCapacityInternal_0 ++ dktJ2_ensureCapacityInternal_1
theorem dksJ2_ensureCapacityInternal_0 : cJ2_ensureCapacityInternal.data.toList.drop 0 = dktJ2_ensureCapacityInternal_0 := by decide +kernel
theorem dksJ2_ensureCapacityInternal_1 : cJ2_ensureCapacityInternal.data.toList.drop 24 = dktJ2_ensureCapacityInternal_1 := dk_seg dksJ2_ensureCapacityInternal_0 24 rfl rfl
theorem dJ2_ensureCapacityInternal_0 : decode cJ2_ensureCapacityInternal 0 = .ok (.aload_n 0, 1) := dk_42 (dk_at dksJ2_ensureCapacityInternal_0 0 rfl rfl)
theorem dJ2_ensureCapacityInternal_1 : decode cJ2_ensureCapacityInternal 1 = .ok (.getfield 15, 3) := dk_180 0 15 (dk_at dksJ2_ensureCapacityInternal_0 1 rfl rfl)
theorem dJ2_ensureCapacityInternal_4 : decode cJ2_ensureCapacityInternal 4 = .ok (.arraylength, 1) := dk_190 (dk_at dksJ2_ensureCapacityInternal_0 4 rfl rfl)
theorem dJ2_ensureCapacityInternal_5 : decode cJ2_ensureCapacityInternal 5 = .ok (.aload_n 0, 1) := dk_42 (dk_at dksJ2_ensureCapacityInternal_0 5 rfl rfl)
theorem dJ2_ensureCapacityInternal_6 : decode cJ2_ensureCapacityInternal 6 = .ok (.getfield 22, 3) := dk_180 0 22 (dk_at dksJ2_ensureCapacityInternal_0 6 rfl rfl)
theorem dJ2_ensureCapacityInternal_9 : decode cJ2_ensureCapacityInternal 9 = .ok (.ishr, 1) := dk_122 (dk_at dksJ2_ensureCapacityInternal_0 9 rfl rfl)
theorem dJ2_ensureCapacityInternal_10 : decode cJ2_ensureCapacityInternal 10 = .ok (.istore_n 2, 1) := dk_61 (dk_at dksJ2_ensureCapacityInternal_0 10 rfl rfl)
theorem dJ2_ensureCapacityInternal_11 : decode cJ2_ensureCapacityInternal 11 = .ok (.iload_n 1, 1) := dk_27 (dk_at dksJ2_ensureCapacityInternal_0 11 rfl rfl)
theorem dJ2_ensureCapacityInternal_12 : decode cJ2_ensureCapacityInternal 12 = .ok (.iload_n 2, 1) := dk_28 (dk_at dksJ2_ensureCapacityInternal_0 12 rfl rfl)
theorem dJ2_ensureCapacityInternal_13 : decode cJ2_ensureCapacityInternal 13 = .ok (.isub, 1) := dk_100 (dk_at dksJ2_ensureCapacityInternal_0 13 rfl rfl)
theorem dJ2_ensureCapacityInternal_14 : decode cJ2_ensureCapacityInternal 14 = .ok (.ifCond .le 24, 3) := dk_158 0 24 (dk_at dksJ2_ensureCapacityInternal_0 14 rfl rfl)
theorem dJ2_ensureCapacityInternal_17 : decode cJ2_ensureCapacityInternal 17 = .ok (.aload_n 0, 1) := dk_42 (dk_at dksJ2_ensureCapacityInternal_0 17 rfl rfl)
theorem dJ2_ensureCapacityInternal_18 : decode cJ2_ensureCapacityInternal 18 = .ok (.aload_n 0, 1) := dk_42 (dk_at dksJ2_ensureCapacityInternal_0 18 rfl rfl)
theorem dJ2_ensureCapacityInternal_19 : decode cJ2_ensureCapacityInternal 19 = .ok (.getfield 15, 3) := dk_180 0 15 (dk_at dksJ2_ensureCapacityInternal_0 19 rfl rfl)
theorem dJ2_ensureCapacityInternal_22 : decode cJ2_ensureCapacityInternal 22 = .ok (.aload_n 0, 1) := dk_42 (dk_at dksJ2_ensureCapacityInternal_0 22 rfl rfl)
theorem dJ2_ensureCapacityInternal_23 : decode cJ2_ensureCapacityInternal 23 = .ok (.iload_n 1, 1) := dk_27 (dk_at dksJ2_ensureCapacityInternal_0 23 rfl rfl)
theorem dJ2_ensureCapacityInternal_24 : decode cJ2_ensureCapacityInternal 24 = .ok (.invokevirtual 104, 3) := dk_182 0 104 (dk_at dksJ2_ensureCapacityInternal_1 0 rfl rfl)
theorem dJ2_ensureCapacityInternal_27 : decode cJ2_ensureCapacityInternal 27 = .ok (.aload_n 0, 1) := dk_42 (dk_at dksJ2_ensureCapacityInternal_1 3 rfl rfl)
theorem dJ2_ensureCapacityInternal_28 : decode cJ2_ensureCapacityInternal 28 = .ok (.getfield 22, 3) := dk_180 0 22 (dk_at dksJ2_ensureCapacityInternal_1 4 rfl rfl)
theorem dJ2_ensureCapacityInternal_31 : decode cJ2_ensureCapacityInternal 31 = .ok (.ishl, 1) := dk_120 (dk_at dksJ2_ensureCapacityInternal_1 7 rfl rfl)
theorem dJ2_ensureCapacityInternal_32 : decode cJ2_ensureCapacityInternal 32 = .ok (.invokestatic 108, 3) := dk_184 0 108 (dk_at dksJ2_ensureCapacityInternal_1 8 rfl rfl)
theorem dJ2_ensureCapacityInternal_35 : decode cJ2_ensureCapacityInternal 35 = .ok (.putfield 15, 3) := dk_181 0 15 (dk_at dksJ2_ensureCapacityInternal_1 11 rfl rfl)
theorem dJ2_ensureCapacityInternal_38 : decode cJ2_ensureCapacityInternal 38 = .ok (.return_, 1) := dk_177 (dk_at dksJ2_ensureCapacityInternal_1 14 rfl rfl)
abbrev cJ2_newCapacity : ByteArray := prog_38_method_10_code
def yJ2_newCapacity : MethodName := ⟨RJ2, "newCapacity", "(I)I"⟩
def dkwJ2_newCapacity_2 : List UInt8 := [183, 0, 124, 191, 21, 5, 42, 180, 0, 22, 122, 172]
abbrev dktJ2_newCapacity_2 : List UInt8 := dkwJ2_newCapacity_2 ++ []
def dkwJ2_newCapacity_1 : List UInt8 := [180, 0, 22, 120, 96, 184, 0, 114, 54, 5, 21, 5, 18, 39, 160, 0, 13, 187, 0, 120, 89, 18, 122]
abbrev dktJ2_newCapacity_1 : List UInt8 := dkwJ2_newCapacity_1 ++ dktJ2_newCapacity_2
def dkwJ2_newCapacity_0 : List UInt8 := [42, 180, 0, 15, 190, 61, 27, 42, 180, 0, 22, 120, 62, 29, 28, 100, 54, 4, 28, 21, 4, 28, 5, 42]
abbrev dktJ2_newCapacity_0 : List UInt8 := dkwJ2_newCapacity_0 ++ dktJ2_newCapacity_1
theorem dksJ2_newCapacity_0 : cJ2_newCapacity.data.toList.drop 0 = dktJ2_newCapacity_0 := by decide +kernel
theorem dksJ2_newCapacity_1 : cJ2_newCapacity.data.toList.drop 24 = dktJ2_newCapacity_1 := dk_seg dksJ2_newCapacity_0 24 rfl rfl
theorem dksJ2_newCapacity_2 : cJ2_newCapacity.data.toList.drop 47 = dktJ2_newCapacity_2 := dk_seg dksJ2_newCapacity_1 23 rfl rfl
theorem dJ2_newCapacity_0 : decode cJ2_newCapacity 0 = .ok (.aload_n 0, 1) := dk_42 (dk_at dksJ2_newCapacity_0 0 rfl rfl)
theorem dJ2_newCapacity_1 : decode cJ2_newCapacity 1 = .ok (.getfield 15, 3) := dk_180 0 15 (dk_at dksJ2_newCapacity_0 1 rfl rfl)
theorem dJ2_newCapacity_4 : decode cJ2_newCapacity 4 = .ok (.arraylength, 1) := dk_190 (dk_at dksJ2_newCapacity_0 4 rfl rfl)
theorem dJ2_newCapacity_5 : decode cJ2_newCapacity 5 = .ok (.istore_n 2, 1) := dk_61 (dk_at dksJ2_newCapacity_0 5 rfl rfl)
theorem dJ2_newCapacity_6 : decode cJ2_newCapacity 6 = .ok (.iload_n 1, 1) := dk_27 (dk_at dksJ2_newCapacity_0 6 rfl rfl)
theorem dJ2_newCapacity_7 : decode cJ2_newCapacity 7 = .ok (.aload_n 0, 1) := dk_42 (dk_at dksJ2_newCapacity_0 7 rfl rfl)
theorem dJ2_newCapacity_8 : decode cJ2_newCapacity 8 = .ok (.getfield 22, 3) := dk_180 0 22 (dk_at dksJ2_newCapacity_0 8 rfl rfl)
theorem dJ2_newCapacity_11 : decode cJ2_newCapacity 11 = .ok (.ishl, 1) := dk_120 (dk_at dksJ2_newCapacity_0 11 rfl rfl)
theorem dJ2_newCapacity_12 : decode cJ2_newCapacity 12 = .ok (.istore_n 3, 1) := dk_62 (dk_at dksJ2_newCapacity_0 12 rfl rfl)
theorem dJ2_newCapacity_13 : decode cJ2_newCapacity 13 = .ok (.iload_n 3, 1) := dk_29 (dk_at dksJ2_newCapacity_0 13 rfl rfl)
theorem dJ2_newCapacity_14 : decode cJ2_newCapacity 14 = .ok (.iload_n 2, 1) := dk_28 (dk_at dksJ2_newCapacity_0 14 rfl rfl)
theorem dJ2_newCapacity_15 : decode cJ2_newCapacity 15 = .ok (.isub, 1) := dk_100 (dk_at dksJ2_newCapacity_0 15 rfl rfl)
theorem dJ2_newCapacity_16 : decode cJ2_newCapacity 16 = .ok (.istore 4, 2) := dk_54 4 (dk_at dksJ2_newCapacity_0 16 rfl rfl)
theorem dJ2_newCapacity_18 : decode cJ2_newCapacity 18 = .ok (.iload_n 2, 1) := dk_28 (dk_at dksJ2_newCapacity_0 18 rfl rfl)
theorem dJ2_newCapacity_19 : decode cJ2_newCapacity 19 = .ok (.iload 4, 2) := dk_21 4 (dk_at dksJ2_newCapacity_0 19 rfl rfl)
theorem dJ2_newCapacity_21 : decode cJ2_newCapacity 21 = .ok (.iload_n 2, 1) := dk_28 (dk_at dksJ2_newCapacity_0 21 rfl rfl)
theorem dJ2_newCapacity_22 : decode cJ2_newCapacity 22 = .ok (.iconst 2, 1) := dk_5 (dk_at dksJ2_newCapacity_0 22 rfl rfl)
theorem dJ2_newCapacity_23 : decode cJ2_newCapacity 23 = .ok (.aload_n 0, 1) := dk_42 (dk_at dksJ2_newCapacity_0 23 rfl rfl)
theorem dJ2_newCapacity_24 : decode cJ2_newCapacity 24 = .ok (.getfield 22, 3) := dk_180 0 22 (dk_at dksJ2_newCapacity_1 0 rfl rfl)
theorem dJ2_newCapacity_27 : decode cJ2_newCapacity 27 = .ok (.ishl, 1) := dk_120 (dk_at dksJ2_newCapacity_1 3 rfl rfl)
theorem dJ2_newCapacity_28 : decode cJ2_newCapacity 28 = .ok (.iadd, 1) := dk_96 (dk_at dksJ2_newCapacity_1 4 rfl rfl)
theorem dJ2_newCapacity_29 : decode cJ2_newCapacity 29 = .ok (.invokestatic 114, 3) := dk_184 0 114 (dk_at dksJ2_newCapacity_1 5 rfl rfl)
theorem dJ2_newCapacity_32 : decode cJ2_newCapacity 32 = .ok (.istore 5, 2) := dk_54 5 (dk_at dksJ2_newCapacity_1 8 rfl rfl)
theorem dJ2_newCapacity_34 : decode cJ2_newCapacity 34 = .ok (.iload 5, 2) := dk_21 5 (dk_at dksJ2_newCapacity_1 10 rfl rfl)
theorem dJ2_newCapacity_36 : decode cJ2_newCapacity 36 = .ok (.ldc 39, 2) := dk_18 39 (dk_at dksJ2_newCapacity_1 12 rfl rfl)
theorem dJ2_newCapacity_38 : decode cJ2_newCapacity 38 = .ok (.if_icmp .ne 13, 3) := dk_160 0 13 (dk_at dksJ2_newCapacity_1 14 rfl rfl)
theorem dJ2_newCapacity_41 : decode cJ2_newCapacity 41 = .ok (.new 120, 3) := dk_187 0 120 (dk_at dksJ2_newCapacity_1 17 rfl rfl)
theorem dJ2_newCapacity_44 : decode cJ2_newCapacity 44 = .ok (.dup, 1) := dk_89 (dk_at dksJ2_newCapacity_1 20 rfl rfl)
theorem dJ2_newCapacity_45 : decode cJ2_newCapacity 45 = .ok (.ldc 122, 2) := dk_18 122 (dk_at dksJ2_newCapacity_1 21 rfl rfl)
theorem dJ2_newCapacity_47 : decode cJ2_newCapacity 47 = .ok (.invokespecial 124, 3) := dk_183 0 124 (dk_at dksJ2_newCapacity_2 0 rfl rfl)
theorem dJ2_newCapacity_50 : decode cJ2_newCapacity 50 = .ok (.athrow, 1) := dk_191 (dk_at dksJ2_newCapacity_2 3 rfl rfl)
theorem dJ2_newCapacity_51 : decode cJ2_newCapacity 51 = .ok (.iload 5, 2) := dk_21 5 (dk_at dksJ2_newCapacity_2 4 rfl rfl)
theorem dJ2_newCapacity_53 : decode cJ2_newCapacity 53 = .ok (.aload_n 0, 1) := dk_42 (dk_at dksJ2_newCapacity_2 6 rfl rfl)
theorem dJ2_newCapacity_54 : decode cJ2_newCapacity 54 = .ok (.getfield 22, 3) := dk_180 0 22 (dk_at dksJ2_newCapacity_2 7 rfl rfl)
theorem dJ2_newCapacity_57 : decode cJ2_newCapacity 57 = .ok (.ishr, 1) := dk_122 (dk_at dksJ2_newCapacity_2 10 rfl rfl)
theorem dJ2_newCapacity_58 : decode cJ2_newCapacity 58 = .ok (.ireturn, 1) := dk_172 (dk_at dksJ2_newCapacity_2 11 rfl rfl)
abbrev cJ2_isLatin1 : ByteArray := prog_38_method_68_code
def yJ2_isLatin1 : MethodName := ⟨RJ2, "isLatin1", "()Z"⟩
def dkwJ2_isLatin1_0 : List UInt8 := [178, 0, 18, 153, 0, 14, 42, 180, 0, 22, 154, 0, 7, 4, 167, 0, 4, 3, 172]
abbrev dktJ2_isLatin1_0 : List UInt8 := dkwJ2_isLatin1_0 ++ []
theorem dksJ2_isLatin1_0 : cJ2_isLatin1.data.toList.drop 0 = dktJ2_isLatin1_0 := by decide +kernel
theorem dJ2_isLatin1_0 : decode cJ2_isLatin1 0 = .ok (.getstatic 18, 3) := dk_178 0 18 (dk_at dksJ2_isLatin1_0 0 rfl rfl)
theorem dJ2_isLatin1_3 : decode cJ2_isLatin1 3 = .ok (.ifCond .eq 14, 3) := dk_153 0 14 (dk_at dksJ2_isLatin1_0 3 rfl rfl)
theorem dJ2_isLatin1_6 : decode cJ2_isLatin1 6 = .ok (.aload_n 0, 1) := dk_42 (dk_at dksJ2_isLatin1_0 6 rfl rfl)
theorem dJ2_isLatin1_7 : decode cJ2_isLatin1 7 = .ok (.getfield 22, 3) := dk_180 0 22 (dk_at dksJ2_isLatin1_0 7 rfl rfl)
theorem dJ2_isLatin1_10 : decode cJ2_isLatin1 10 = .ok (.ifCond .ne 7, 3) := dk_154 0 7 (dk_at dksJ2_isLatin1_0 10 rfl rfl)
theorem dJ2_isLatin1_13 : decode cJ2_isLatin1 13 = .ok (.iconst 1, 1) := dk_4 (dk_at dksJ2_isLatin1_0 13 rfl rfl)
theorem dJ2_isLatin1_14 : decode cJ2_isLatin1 14 = .ok (.goto 4, 3) := dk_167 0 4 (dk_at dksJ2_isLatin1_0 14 rfl rfl)
theorem dJ2_isLatin1_17 : decode cJ2_isLatin1 17 = .ok (.iconst 0, 1) := dk_3 (dk_at dksJ2_isLatin1_0 17 rfl rfl)
theorem dJ2_isLatin1_18 : decode cJ2_isLatin1 18 = .ok (.ireturn, 1) := dk_172 (dk_at dksJ2_isLatin1_0 18 rfl rfl)
abbrev cJ2_putStringAt : ByteArray := prog_38_method_73_code
def yJ2_putStringAt : MethodName := ⟨RJ2, "putStringAt", "(ILjava/lang/String;)V"⟩
def dkwJ2_putStringAt_0 : List UInt8 := [42, 44, 182, 1, 141, 44, 42, 180, 0, 15, 27, 42, 180, 0, 22, 182, 1, 143, 177]
abbrev dktJ2_putStringAt_0 : List UInt8 := dkwJ2_putStringAt_0 ++ []
theorem dksJ2_putStringAt_0 : cJ2_putStringAt.data.toList.drop 0 = dktJ2_putStringAt_0 := by decide +kernel
theorem dJ2_putStringAt_0 : decode cJ2_putStringAt 0 = .ok (.aload_n 0, 1) := dk_42 (dk_at dksJ2_putStringAt_0 0 rfl rfl)
theorem dJ2_putStringAt_1 : decode cJ2_putStringAt 1 = .ok (.aload_n 2, 1) := dk_44 (dk_at dksJ2_putStringAt_0 1 rfl rfl)
theorem dJ2_putStringAt_2 : decode cJ2_putStringAt 2 = .ok (.invokevirtual 397, 3) := dk_182 1 141 (dk_at dksJ2_putStringAt_0 2 rfl rfl)
theorem dJ2_putStringAt_5 : decode cJ2_putStringAt 5 = .ok (.aload_n 2, 1) := dk_44 (dk_at dksJ2_putStringAt_0 5 rfl rfl)
theorem dJ2_putStringAt_6 : decode cJ2_putStringAt 6 = .ok (.aload_n 0, 1) := dk_42 (dk_at dksJ2_putStringAt_0 6 rfl rfl)
theorem dJ2_putStringAt_7 : decode cJ2_putStringAt 7 = .ok (.getfield 15, 3) := dk_180 0 15 (dk_at dksJ2_putStringAt_0 7 rfl rfl)
theorem dJ2_putStringAt_10 : decode cJ2_putStringAt 10 = .ok (.iload_n 1, 1) := dk_27 (dk_at dksJ2_putStringAt_0 10 rfl rfl)
theorem dJ2_putStringAt_11 : decode cJ2_putStringAt 11 = .ok (.aload_n 0, 1) := dk_42 (dk_at dksJ2_putStringAt_0 11 rfl rfl)
theorem dJ2_putStringAt_12 : decode cJ2_putStringAt 12 = .ok (.getfield 22, 3) := dk_180 0 22 (dk_at dksJ2_putStringAt_0 12 rfl rfl)
theorem dJ2_putStringAt_15 : decode cJ2_putStringAt 15 = .ok (.invokevirtual 399, 3) := dk_182 1 143 (dk_at dksJ2_putStringAt_0 15 rfl rfl)
theorem dJ2_putStringAt_18 : decode cJ2_putStringAt 18 = .ok (.return_, 1) := dk_177 (dk_at dksJ2_putStringAt_0 18 rfl rfl)
abbrev cJ2_inflateIfNeededFor : ByteArray := prog_38_method_71_code
def yJ2_inflateIfNeededFor : MethodName := ⟨RJ2, "inflateIfNeededFor", "(Ljava/lang/String;)V"⟩
def dkwJ2_inflateIfNeededFor_0 : List UInt8 := [178, 0, 18, 153, 0, 18, 42, 180, 0, 22, 43, 182, 0, 40, 159, 0, 7, 42, 182, 0, 195, 177]
abbrev dktJ2_inflateIfNeededFor_0 : List UInt8 := dkwJ2_inflateIfNeededFor_0 ++ []
theorem dksJ2_inflateIfNeededFor_0 : cJ2_inflateIfNeededFor.data.toList.drop 0 = dktJ2_inflateIfNeededFor_0 := by decide +kernel
theorem dJ2_inflateIfNeededFor_0 : decode cJ2_inflateIfNeededFor 0 = .ok (.getstatic 18, 3) := dk_178 0 18 (dk_at dksJ2_inflateIfNeededFor_0 0 rfl rfl)
theorem dJ2_inflateIfNeededFor_3 : decode cJ2_inflateIfNeededFor 3 = .ok (.ifCond .eq 18, 3) := dk_153 0 18 (dk_at dksJ2_inflateIfNeededFor_0 3 rfl rfl)
theorem dJ2_inflateIfNeededFor_6 : decode cJ2_inflateIfNeededFor 6 = .ok (.aload_n 0, 1) := dk_42 (dk_at dksJ2_inflateIfNeededFor_0 6 rfl rfl)
theorem dJ2_inflateIfNeededFor_7 : decode cJ2_inflateIfNeededFor 7 = .ok (.getfield 22, 3) := dk_180 0 22 (dk_at dksJ2_inflateIfNeededFor_0 7 rfl rfl)
theorem dJ2_inflateIfNeededFor_10 : decode cJ2_inflateIfNeededFor 10 = .ok (.aload_n 1, 1) := dk_43 (dk_at dksJ2_inflateIfNeededFor_0 10 rfl rfl)
theorem dJ2_inflateIfNeededFor_11 : decode cJ2_inflateIfNeededFor 11 = .ok (.invokevirtual 40, 3) := dk_182 0 40 (dk_at dksJ2_inflateIfNeededFor_0 11 rfl rfl)
theorem dJ2_inflateIfNeededFor_14 : decode cJ2_inflateIfNeededFor 14 = .ok (.if_icmp .eq 7, 3) := dk_159 0 7 (dk_at dksJ2_inflateIfNeededFor_0 14 rfl rfl)
theorem dJ2_inflateIfNeededFor_17 : decode cJ2_inflateIfNeededFor 17 = .ok (.aload_n 0, 1) := dk_42 (dk_at dksJ2_inflateIfNeededFor_0 17 rfl rfl)
theorem dJ2_inflateIfNeededFor_18 : decode cJ2_inflateIfNeededFor 18 = .ok (.invokevirtual 195, 3) := dk_182 0 195 (dk_at dksJ2_inflateIfNeededFor_0 18 rfl rfl)
theorem dJ2_inflateIfNeededFor_21 : decode cJ2_inflateIfNeededFor 21 = .ok (.return_, 1) := dk_177 (dk_at dksJ2_inflateIfNeededFor_0 21 rfl rfl)
abbrev cJ2_inflate : ByteArray := prog_38_method_11_code
def yJ2_inflate : MethodName := ⟨RJ2, "inflate", "()V"⟩
def dkwJ2_inflate_1 : List UInt8 := [42, 180, 0, 79, 184, 0, 125, 42, 43, 181, 0, 15, 42, 4, 181, 0, 22, 177]
abbrev dktJ2_inflate_1 : List UInt8 := dkwJ2_inflate_1 ++ []
def dkwJ2_inflate_0 : List UInt8 := [42, 182, 0, 83, 154, 0, 4, 177, 42, 180, 0, 15, 190, 184, 0, 26, 76, 42, 180, 0, 15, 3, 43, 3]
abbrev dktJ2_inflate_0 : List UInt8 := dkwJ2_inflate_0 ++ dktJ2_inflate_1
theorem dksJ2_inflate_0 : cJ2_inflate.data.toList.drop 0 = dktJ2_inflate_0 := by decide +kernel
theorem dksJ2_inflate_1 : cJ2_inflate.data.toList.drop 24 = dktJ2_inflate_1 := dk_seg dksJ2_inflate_0 24 rfl rfl
theorem dJ2_inflate_0 : decode cJ2_inflate 0 = .ok (.aload_n 0, 1) := dk_42 (dk_at dksJ2_inflate_0 0 rfl rfl)
theorem dJ2_inflate_1 : decode cJ2_inflate 1 = .ok (.invokevirtual 83, 3) := dk_182 0 83 (dk_at dksJ2_inflate_0 1 rfl rfl)
theorem dJ2_inflate_4 : decode cJ2_inflate 4 = .ok (.ifCond .ne 4, 3) := dk_154 0 4 (dk_at dksJ2_inflate_0 4 rfl rfl)
theorem dJ2_inflate_7 : decode cJ2_inflate 7 = .ok (.return_, 1) := dk_177 (dk_at dksJ2_inflate_0 7 rfl rfl)
theorem dJ2_inflate_8 : decode cJ2_inflate 8 = .ok (.aload_n 0, 1) := dk_42 (dk_at dksJ2_inflate_0 8 rfl rfl)
theorem dJ2_inflate_9 : decode cJ2_inflate 9 = .ok (.getfield 15, 3) := dk_180 0 15 (dk_at dksJ2_inflate_0 9 rfl rfl)
theorem dJ2_inflate_12 : decode cJ2_inflate 12 = .ok (.arraylength, 1) := dk_190 (dk_at dksJ2_inflate_0 12 rfl rfl)
theorem dJ2_inflate_13 : decode cJ2_inflate 13 = .ok (.invokestatic 26, 3) := dk_184 0 26 (dk_at dksJ2_inflate_0 13 rfl rfl)
theorem dJ2_inflate_16 : decode cJ2_inflate 16 = .ok (.astore_n 1, 1) := dk_76 (dk_at dksJ2_inflate_0 16 rfl rfl)
theorem dJ2_inflate_17 : decode cJ2_inflate 17 = .ok (.aload_n 0, 1) := dk_42 (dk_at dksJ2_inflate_0 17 rfl rfl)
theorem dJ2_inflate_18 : decode cJ2_inflate 18 = .ok (.getfield 15, 3) := dk_180 0 15 (dk_at dksJ2_inflate_0 18 rfl rfl)
theorem dJ2_inflate_21 : decode cJ2_inflate 21 = .ok (.iconst 0, 1) := dk_3 (dk_at dksJ2_inflate_0 21 rfl rfl)
theorem dJ2_inflate_22 : decode cJ2_inflate 22 = .ok (.aload_n 1, 1) := dk_43 (dk_at dksJ2_inflate_0 22 rfl rfl)
theorem dJ2_inflate_23 : decode cJ2_inflate 23 = .ok (.iconst 0, 1) := dk_3 (dk_at dksJ2_inflate_0 23 rfl rfl)
theorem dJ2_inflate_24 : decode cJ2_inflate 24 = .ok (.aload_n 0, 1) := dk_42 (dk_at dksJ2_inflate_1 0 rfl rfl)
theorem dJ2_inflate_25 : decode cJ2_inflate 25 = .ok (.getfield 79, 3) := dk_180 0 79 (dk_at dksJ2_inflate_1 1 rfl rfl)
theorem dJ2_inflate_28 : decode cJ2_inflate 28 = .ok (.invokestatic 125, 3) := dk_184 0 125 (dk_at dksJ2_inflate_1 4 rfl rfl)
theorem dJ2_inflate_31 : decode cJ2_inflate 31 = .ok (.aload_n 0, 1) := dk_42 (dk_at dksJ2_inflate_1 7 rfl rfl)
theorem dJ2_inflate_32 : decode cJ2_inflate 32 = .ok (.aload_n 1, 1) := dk_43 (dk_at dksJ2_inflate_1 8 rfl rfl)
theorem dJ2_inflate_33 : decode cJ2_inflate 33 = .ok (.putfield 15, 3) := dk_181 0 15 (dk_at dksJ2_inflate_1 9 rfl rfl)
theorem dJ2_inflate_36 : decode cJ2_inflate 36 = .ok (.aload_n 0, 1) := dk_42 (dk_at dksJ2_inflate_1 12 rfl rfl)
theorem dJ2_inflate_37 : decode cJ2_inflate 37 = .ok (.iconst 1, 1) := dk_4 (dk_at dksJ2_inflate_1 13 rfl rfl)
theorem dJ2_inflate_38 : decode cJ2_inflate 38 = .ok (.putfield 22, 3) := dk_181 0 22 (dk_at dksJ2_inflate_1 14 rfl rfl)
theorem dJ2_inflate_41 : decode cJ2_inflate 41 = .ok (.return_, 1) := dk_177 (dk_at dksJ2_inflate_1 17 rfl rfl)
abbrev cJ2_append_2 : ByteArray := prog_38_method_31_code
def yJ2_append_2 : MethodName := ⟨RJ2, "append", "(C)Ljava/lang/AbstractStringBuilder;"⟩
def dkwJ2_append_2_3 : List UInt8 := [181, 0, 79, 27, 184, 0, 197, 42, 176]
abbrev dktJ2_append_2_3 : List UInt8 := dkwJ2_append_2_3 ++ []
def dkwJ2_append_2_2 : List UInt8 := [182, 0, 83, 153, 0, 7, 42, 182, 0, 195, 42, 180, 0, 15, 42, 89, 180, 0, 79, 90, 4, 96]
abbrev dktJ2_append_2_2 : List UInt8 := dkwJ2_append_2_2 ++ dktJ2_append_2_3
def dkwJ2_append_2_1 : List UInt8 := [42, 180, 0, 15, 42, 89, 180, 0, 79, 90, 4, 96, 181, 0, 79, 27, 145, 84, 167, 0, 33, 42]
abbrev dktJ2_append_2_1 : List UInt8 := dkwJ2_append_2_1 ++ dktJ2_append_2_2
def dkwJ2_append_2_0 : List UInt8 := [42, 42, 180, 0, 79, 4, 96, 182, 0, 100, 42, 182, 0, 83, 153, 0, 31, 27, 184, 0, 191, 153, 0, 24]
abbrev dktJ2_append_2_0 : List UInt8 := dkwJ2_append_2_0 ++ dktJ2_append_2_1
theorem dksJ2_append_2_0 : cJ2_append_2.data.toList.drop 0 = dktJ2_append_2_0 := by decide +kernel
theorem dksJ2_append_2_1 : cJ2_append_2.data.toList.drop 24 = dktJ2_append_2_1 := dk_seg dksJ2_append_2_0 24 rfl rfl
theorem dksJ2_append_2_2 : cJ2_append_2.data.toList.drop 46 = dktJ2_append_2_2 := dk_seg dksJ2_append_2_1 22 rfl rfl
theorem dksJ2_append_2_3 : cJ2_append_2.data.toList.drop 68 = dktJ2_append_2_3 := dk_seg dksJ2_append_2_2 22 rfl rfl
theorem dJ2_append_2_0 : decode cJ2_append_2 0 = .ok (.aload_n 0, 1) := dk_42 (dk_at dksJ2_append_2_0 0 rfl rfl)
theorem dJ2_append_2_1 : decode cJ2_append_2 1 = .ok (.aload_n 0, 1) := dk_42 (dk_at dksJ2_append_2_0 1 rfl rfl)
theorem dJ2_append_2_2 : decode cJ2_append_2 2 = .ok (.getfield 79, 3) := dk_180 0 79 (dk_at dksJ2_append_2_0 2 rfl rfl)
theorem dJ2_append_2_5 : decode cJ2_append_2 5 = .ok (.iconst 1, 1) := dk_4 (dk_at dksJ2_append_2_0 5 rfl rfl)
theorem dJ2_append_2_6 : decode cJ2_append_2 6 = .ok (.iadd, 1) := dk_96 (dk_at dksJ2_append_2_0 6 rfl rfl)
theorem dJ2_append_2_7 : decode cJ2_append_2 7 = .ok (.invokevirtual 100, 3) := dk_182 0 100 (dk_at dksJ2_append_2_0 7 rfl rfl)
theorem dJ2_append_2_10 : decode cJ2_append_2 10 = .ok (.aload_n 0, 1) := dk_42 (dk_at dksJ2_append_2_0 10 rfl rfl)
theorem dJ2_append_2_11 : decode cJ2_append_2 11 = .ok (.invokevirtual 83, 3) := dk_182 0 83 (dk_at dksJ2_append_2_0 11 rfl rfl)
theorem dJ2_append_2_14 : decode cJ2_append_2 14 = .ok (.ifCond .eq 31, 3) := dk_153 0 31 (dk_at dksJ2_append_2_0 14 rfl rfl)
theorem dJ2_append_2_17 : decode cJ2_append_2 17 = .ok (.iload_n 1, 1) := dk_27 (dk_at dksJ2_append_2_0 17 rfl rfl)
theorem dJ2_append_2_18 : decode cJ2_append_2 18 = .ok (.invokestatic 191, 3) := dk_184 0 191 (dk_at dksJ2_append_2_0 18 rfl rfl)
theorem dJ2_append_2_21 : decode cJ2_append_2 21 = .ok (.ifCond .eq 24, 3) := dk_153 0 24 (dk_at dksJ2_append_2_0 21 rfl rfl)
theorem dJ2_append_2_24 : decode cJ2_append_2 24 = .ok (.aload_n 0, 1) := dk_42 (dk_at dksJ2_append_2_1 0 rfl rfl)
theorem dJ2_append_2_25 : decode cJ2_append_2 25 = .ok (.getfield 15, 3) := dk_180 0 15 (dk_at dksJ2_append_2_1 1 rfl rfl)
theorem dJ2_append_2_28 : decode cJ2_append_2 28 = .ok (.aload_n 0, 1) := dk_42 (dk_at dksJ2_append_2_1 4 rfl rfl)
theorem dJ2_append_2_29 : decode cJ2_append_2 29 = .ok (.dup, 1) := dk_89 (dk_at dksJ2_append_2_1 5 rfl rfl)
theorem dJ2_append_2_30 : decode cJ2_append_2 30 = .ok (.getfield 79, 3) := dk_180 0 79 (dk_at dksJ2_append_2_1 6 rfl rfl)
theorem dJ2_append_2_33 : decode cJ2_append_2 33 = .ok (.dup_x1, 1) := dk_90 (dk_at dksJ2_append_2_1 9 rfl rfl)
theorem dJ2_append_2_34 : decode cJ2_append_2 34 = .ok (.iconst 1, 1) := dk_4 (dk_at dksJ2_append_2_1 10 rfl rfl)
theorem dJ2_append_2_35 : decode cJ2_append_2 35 = .ok (.iadd, 1) := dk_96 (dk_at dksJ2_append_2_1 11 rfl rfl)
theorem dJ2_append_2_36 : decode cJ2_append_2 36 = .ok (.putfield 79, 3) := dk_181 0 79 (dk_at dksJ2_append_2_1 12 rfl rfl)
theorem dJ2_append_2_39 : decode cJ2_append_2 39 = .ok (.iload_n 1, 1) := dk_27 (dk_at dksJ2_append_2_1 15 rfl rfl)
theorem dJ2_append_2_40 : decode cJ2_append_2 40 = .ok (.i2b, 1) := dk_145 (dk_at dksJ2_append_2_1 16 rfl rfl)
theorem dJ2_append_2_41 : decode cJ2_append_2 41 = .ok (.bastore, 1) := dk_84 (dk_at dksJ2_append_2_1 17 rfl rfl)
theorem dJ2_append_2_42 : decode cJ2_append_2 42 = .ok (.goto 33, 3) := dk_167 0 33 (dk_at dksJ2_append_2_1 18 rfl rfl)
theorem dJ2_append_2_45 : decode cJ2_append_2 45 = .ok (.aload_n 0, 1) := dk_42 (dk_at dksJ2_append_2_1 21 rfl rfl)
theorem dJ2_append_2_46 : decode cJ2_append_2 46 = .ok (.invokevirtual 83, 3) := dk_182 0 83 (dk_at dksJ2_append_2_2 0 rfl rfl)
theorem dJ2_append_2_49 : decode cJ2_append_2 49 = .ok (.ifCond .eq 7, 3) := dk_153 0 7 (dk_at dksJ2_append_2_2 3 rfl rfl)
theorem dJ2_append_2_52 : decode cJ2_append_2 52 = .ok (.aload_n 0, 1) := dk_42 (dk_at dksJ2_append_2_2 6 rfl rfl)
theorem dJ2_append_2_53 : decode cJ2_append_2 53 = .ok (.invokevirtual 195, 3) := dk_182 0 195 (dk_at dksJ2_append_2_2 7 rfl rfl)
theorem dJ2_append_2_56 : decode cJ2_append_2 56 = .ok (.aload_n 0, 1) := dk_42 (dk_at dksJ2_append_2_2 10 rfl rfl)
theorem dJ2_append_2_57 : decode cJ2_append_2 57 = .ok (.getfield 15, 3) := dk_180 0 15 (dk_at dksJ2_append_2_2 11 rfl rfl)
theorem dJ2_append_2_60 : decode cJ2_append_2 60 = .ok (.aload_n 0, 1) := dk_42 (dk_at dksJ2_append_2_2 14 rfl rfl)
theorem dJ2_append_2_61 : decode cJ2_append_2 61 = .ok (.dup, 1) := dk_89 (dk_at dksJ2_append_2_2 15 rfl rfl)
theorem dJ2_append_2_62 : decode cJ2_append_2 62 = .ok (.getfield 79, 3) := dk_180 0 79 (dk_at dksJ2_append_2_2 16 rfl rfl)
theorem dJ2_append_2_65 : decode cJ2_append_2 65 = .ok (.dup_x1, 1) := dk_90 (dk_at dksJ2_append_2_2 19 rfl rfl)
theorem dJ2_append_2_66 : decode cJ2_append_2 66 = .ok (.iconst 1, 1) := dk_4 (dk_at dksJ2_append_2_2 20 rfl rfl)
theorem dJ2_append_2_67 : decode cJ2_append_2 67 = .ok (.iadd, 1) := dk_96 (dk_at dksJ2_append_2_2 21 rfl rfl)
theorem dJ2_append_2_68 : decode cJ2_append_2 68 = .ok (.putfield 79, 3) := dk_181 0 79 (dk_at dksJ2_append_2_3 0 rfl rfl)
theorem dJ2_append_2_71 : decode cJ2_append_2 71 = .ok (.iload_n 1, 1) := dk_27 (dk_at dksJ2_append_2_3 3 rfl rfl)
theorem dJ2_append_2_72 : decode cJ2_append_2 72 = .ok (.invokestatic 197, 3) := dk_184 0 197 (dk_at dksJ2_append_2_3 4 rfl rfl)
theorem dJ2_append_2_75 : decode cJ2_append_2 75 = .ok (.aload_n 0, 1) := dk_42 (dk_at dksJ2_append_2_3 7 rfl rfl)
theorem dJ2_append_2_76 : decode cJ2_append_2 76 = .ok (.areturn, 1) := dk_176 (dk_at dksJ2_append_2_3 8 rfl rfl)
abbrev cJ2_getValue : ByteArray := prog_38_method_64_code
def yJ2_getValue : MethodName := ⟨RJ2, "getValue", "()[B"⟩
theorem dJ2_getValue_0 : decode cJ2_getValue 0 = .ok (.aload_n 0, 1) := by decide +kernel
theorem dJ2_getValue_1 : decode cJ2_getValue 1 = .ok (.getfield 15, 3) := by decide +kernel
theorem dJ2_getValue_4 : decode cJ2_getValue 4 = .ok (.areturn, 1) := by decide +kernel
abbrev cJ2_length : ByteArray := prog_38_method_6_code
def yJ2_length : MethodName := ⟨RJ2, "length", "()I"⟩
theorem dJ2_length_0 : decode cJ2_length 0 = .ok (.aload_n 0, 1) := by decide +kernel
theorem dJ2_length_1 : decode cJ2_length 1 = .ok (.getfield 79, 3) := by decide +kernel
theorem dJ2_length_4 : decode cJ2_length 4 = .ok (.ireturn, 1) := by decide +kernel
theorem q148 : (Jvm.Cond.initialized "java/lang/AbstractStringBuilder") ∈ lw_all := lw_g (lw_at lw_m1 6 rfl) rfl
theorem q316 : (Jvm.Cond.instanceMethod ({ cls := "java/lang/AbstractStringBuilder", name := "<init>", desc := "(Ljava/lang/String;)V" } : Jvm.MethodName)) ∈ lw_all := lw_g (lw_at lw_m1 174 rfl) rfl
theorem q317 : (Jvm.Cond.code ({ cls := "java/lang/AbstractStringBuilder", name := "<init>", desc := "(Ljava/lang/String;)V" } : Jvm.MethodName) prog_38_method_3_code (5 : Nat) (Option.none : Option Jvm.ClassFile.FieldType)) ∈ lw_all := lw_g (lw_at lw_m1 175 rfl) rfl
theorem q318 : (Jvm.Cond.methodLink "java/lang/AbstractStringBuilder" (3 : Nat) ({ cls := "java/lang/Object", name := "<init>", desc := "()V" } : Jvm.MethodName)) ∈ lw_all := lw_g (lw_at lw_m1 176 rfl) rfl
theorem q319 : (Jvm.Cond.methodLink "java/lang/AbstractStringBuilder" (32 : Nat) ({ cls := "java/lang/String", name := "length", desc := "()I" } : Jvm.MethodName)) ∈ lw_all := lw_g (lw_at lw_m1 177 rfl) rfl
theorem q329 : (Jvm.Cond.constant "java/lang/AbstractStringBuilder" (38 : Nat) (2147483631 : Int32)) ∈ lw_all := lw_g (lw_at lw_m1 187 rfl) rfl
theorem q330 : (Jvm.Cond.constant "java/lang/AbstractStringBuilder" (39 : Nat) (2147483647 : Int32)) ∈ lw_all := lw_g (lw_at lw_m1 188 rfl) rfl
theorem q331 : (Jvm.Cond.methodLink "java/lang/AbstractStringBuilder" (40 : Nat) ({ cls := "java/lang/String", name := "coder", desc := "()B" } : Jvm.MethodName)) ∈ lw_all := lw_g (lw_at lw_m1 189 rfl) rfl
theorem q332 : (Jvm.Cond.methodLink "java/lang/AbstractStringBuilder" (26 : Nat) ({ cls := "java/lang/StringUTF16", name := "newBytesFor", desc := "(I)[B" } : Jvm.MethodName)) ∈ lw_all := lw_g (lw_at lw_m1 190 rfl) rfl
theorem q339 : (Jvm.Cond.methodLink "java/lang/AbstractStringBuilder" (43 : Nat) ({ cls := "java/lang/AbstractStringBuilder", name := "append", desc := "(Ljava/lang/String;)Ljava/lang/AbstractStringBuilder;" } : Jvm.MethodName)) ∈ lw_all := lw_g (lw_at lw_m1 197 rfl) rfl
theorem q340 : (Jvm.Cond.instanceMethod ({ cls := "java/lang/AbstractStringBuilder", name := "append", desc := "(Ljava/lang/String;)Ljava/lang/AbstractStringBuilder;" } : Jvm.MethodName)) ∈ lw_all := lw_g (lw_at lw_m1 198 rfl) rfl
theorem q341 : (Jvm.Cond.sameMethod "java/lang/AbstractStringBuilder" "java/lang/AbstractStringBuilder" "append" "(Ljava/lang/String;)Ljava/lang/AbstractStringBuilder;") ∈ lw_all := lw_g (lw_at lw_m1 199 rfl) rfl
theorem q351 : (Jvm.Cond.code ({ cls := "java/lang/AbstractStringBuilder", name := "append", desc := "(Ljava/lang/String;)Ljava/lang/AbstractStringBuilder;" } : Jvm.MethodName) prog_38_method_22_code (3 : Nat) (Option.some (Jvm.ClassFile.FieldType.object "java/lang/AbstractStringBuilder"))) ∈ lw_all := lw_g (lw_at lw_m1 209 rfl) rfl
theorem q352 : (Jvm.Cond.methodLink "java/lang/AbstractStringBuilder" (204 : Nat) ({ cls := "java/lang/AbstractStringBuilder", name := "appendNull", desc := "()Ljava/lang/AbstractStringBuilder;" } : Jvm.MethodName)) ∈ lw_all := lw_g (lw_at lw_m1 210 rfl) rfl
theorem q353 : (Jvm.Cond.privateMethod ({ cls := "java/lang/AbstractStringBuilder", name := "appendNull", desc := "()Ljava/lang/AbstractStringBuilder;" } : Jvm.MethodName)) ∈ lw_tbl := lw_at lw_m1 211 rfl
theorem q354 : (Jvm.Cond.instanceMethod ({ cls := "java/lang/AbstractStringBuilder", name := "appendNull", desc := "()Ljava/lang/AbstractStringBuilder;" } : Jvm.MethodName)) ∈ lw_all := lw_g (lw_at lw_m1 212 rfl) rfl
theorem q355 : (Jvm.Cond.code ({ cls := "java/lang/AbstractStringBuilder", name := "appendNull", desc := "()Ljava/lang/AbstractStringBuilder;" } : Jvm.MethodName) prog_38_method_26_code (3 : Nat) (Option.some (Jvm.ClassFile.FieldType.object "java/lang/AbstractStringBuilder"))) ∈ lw_all := lw_g (lw_at lw_m1 213 rfl) rfl
theorem q356 : (Jvm.Cond.methodLink "java/lang/AbstractStringBuilder" (100 : Nat) ({ cls := "java/lang/AbstractStringBuilder", name := "ensureCapacityInternal", desc := "(I)V" } : Jvm.MethodName)) ∈ lw_all := lw_g (lw_at lw_m1 214 rfl) rfl
theorem q357 : (Jvm.Cond.privateMethod ({ cls := "java/lang/AbstractStringBuilder", name := "ensureCapacityInternal", desc := "(I)V" } : Jvm.MethodName)) ∈ lw_tbl := lw_at lw_m1 215 rfl
theorem q358 : (Jvm.Cond.instanceMethod ({ cls := "java/lang/AbstractStringBuilder", name := "ensureCapacityInternal", desc := "(I)V" } : Jvm.MethodName)) ∈ lw_all := lw_g (lw_at lw_m1 216 rfl) rfl
theorem q359 : (Jvm.Cond.code ({ cls := "java/lang/AbstractStringBuilder", name := "ensureCapacityInternal", desc := "(I)V" } : Jvm.MethodName) prog_38_method_9_code (3 : Nat) (Option.none : Option Jvm.ClassFile.FieldType)) ∈ lw_all := lw_g (lw_at lw_m1 217 rfl) rfl
theorem q360 : (Jvm.Cond.methodLink "java/lang/AbstractStringBuilder" (104 : Nat) ({ cls := "java/lang/AbstractStringBuilder", name := "newCapacity", desc := "(I)I" } : Jvm.MethodName)) ∈ lw_all := lw_g (lw_at lw_m1 218 rfl) rfl
theorem q361 : (Jvm.Cond.privateMethod ({ cls := "java/lang/AbstractStringBuilder", name := "newCapacity", desc := "(I)I" } : Jvm.MethodName)) ∈ lw_tbl := lw_at lw_m1 219 rfl
theorem q362 : (Jvm.Cond.instanceMethod ({ cls := "java/lang/AbstractStringBuilder", name := "newCapacity", desc := "(I)I" } : Jvm.MethodName)) ∈ lw_all := lw_g (lw_at lw_m1 220 rfl) rfl
theorem q363 : (Jvm.Cond.code ({ cls := "java/lang/AbstractStringBuilder", name := "newCapacity", desc := "(I)I" } : Jvm.MethodName) prog_38_method_10_code (6 : Nat) (Option.some Jvm.ClassFile.FieldType.int)) ∈ lw_all := lw_g (lw_at lw_m1 221 rfl) rfl
theorem q364 : (Jvm.Cond.methodLink "java/lang/AbstractStringBuilder" (114 : Nat) ({ cls := "jdk/internal/util/ArraysSupport", name := "newLength", desc := "(III)I" } : Jvm.MethodName)) ∈ lw_all := lw_g (lw_at lw_m1 222 rfl) rfl
theorem q374 : (Jvm.Cond.methodLink "java/lang/AbstractStringBuilder" (108 : Nat) ({ cls := "java/util/Arrays", name := "copyOf", desc := "([BI)[B" } : Jvm.MethodName)) ∈ lw_all := lw_g (lw_at lw_m1 232 rfl) rfl
theorem q390 : (Jvm.Cond.methodLink "java/lang/AbstractStringBuilder" (83 : Nat) ({ cls := "java/lang/AbstractStringBuilder", name := "isLatin1", desc := "()Z" } : Jvm.MethodName)) ∈ lw_all := lw_g (lw_at lw_m2 8 rfl) rfl
theorem q391 : (Jvm.Cond.instanceMethod ({ cls := "java/lang/AbstractStringBuilder", name := "isLatin1", desc := "()Z" } : Jvm.MethodName)) ∈ lw_all := lw_g (lw_at lw_m2 9 rfl) rfl
theorem q392 : (Jvm.Cond.sameMethod "java/lang/AbstractStringBuilder" "java/lang/AbstractStringBuilder" "isLatin1" "()Z") ∈ lw_all := lw_g (lw_at lw_m2 10 rfl) rfl
theorem q394 : (Jvm.Cond.code ({ cls := "java/lang/AbstractStringBuilder", name := "isLatin1", desc := "()Z" } : Jvm.MethodName) prog_38_method_68_code (1 : Nat) (Option.some Jvm.ClassFile.FieldType.boolean)) ∈ lw_all := lw_g (lw_at lw_m2 12 rfl) rfl
theorem q395 : (Jvm.Cond.fieldLink "java/lang/AbstractStringBuilder" (18 : Nat) "java/lang/String" "COMPACT_STRINGS" "Z") ∈ lw_all := lw_g (lw_at lw_m2 13 rfl) rfl
theorem q396 : (Jvm.Cond.methodLink "java/lang/AbstractStringBuilder" (226 : Nat) ({ cls := "java/lang/StringUTF16", name := "putCharsAt", desc := "([BICCCC)I" } : Jvm.MethodName)) ∈ lw_all := lw_g (lw_at lw_m2 14 rfl) rfl
theorem q422 : (Jvm.Cond.methodLink "java/lang/AbstractStringBuilder" (208 : Nat) ({ cls := "java/lang/AbstractStringBuilder", name := "putStringAt", desc := "(ILjava/lang/String;)V" } : Jvm.MethodName)) ∈ lw_all := lw_g (lw_at lw_m2 40 rfl) rfl
theorem q423 : (Jvm.Cond.privateMethod ({ cls := "java/lang/AbstractStringBuilder", name := "putStringAt", desc := "(ILjava/lang/String;)V" } : Jvm.MethodName)) ∈ lw_tbl := lw_at lw_m2 41 rfl
theorem q424 : (Jvm.Cond.instanceMethod ({ cls := "java/lang/AbstractStringBuilder", name := "putStringAt", desc := "(ILjava/lang/String;)V" } : Jvm.MethodName)) ∈ lw_all := lw_g (lw_at lw_m2 42 rfl) rfl
theorem q425 : (Jvm.Cond.code ({ cls := "java/lang/AbstractStringBuilder", name := "putStringAt", desc := "(ILjava/lang/String;)V" } : Jvm.MethodName) prog_38_method_73_code (3 : Nat) (Option.none : Option Jvm.ClassFile.FieldType)) ∈ lw_all := lw_g (lw_at lw_m2 43 rfl) rfl
theorem q426 : (Jvm.Cond.methodLink "java/lang/AbstractStringBuilder" (397 : Nat) ({ cls := "java/lang/AbstractStringBuilder", name := "inflateIfNeededFor", desc := "(Ljava/lang/String;)V" } : Jvm.MethodName)) ∈ lw_all := lw_g (lw_at lw_m2 44 rfl) rfl
theorem q427 : (Jvm.Cond.privateMethod ({ cls := "java/lang/AbstractStringBuilder", name := "inflateIfNeededFor", desc := "(Ljava/lang/String;)V" } : Jvm.MethodName)) ∈ lw_tbl := lw_at lw_m2 45 rfl
theorem q428 : (Jvm.Cond.instanceMethod ({ cls := "java/lang/AbstractStringBuilder", name := "inflateIfNeededFor", desc := "(Ljava/lang/String;)V" } : Jvm.MethodName)) ∈ lw_all := lw_g (lw_at lw_m2 46 rfl) rfl
theorem q429 : (Jvm.Cond.code ({ cls := "java/lang/AbstractStringBuilder", name := "inflateIfNeededFor", desc := "(Ljava/lang/String;)V" } : Jvm.MethodName) prog_38_method_71_code (2 : Nat) (Option.none : Option Jvm.ClassFile.FieldType)) ∈ lw_all := lw_g (lw_at lw_m2 47 rfl) rfl
theorem q430 : (Jvm.Cond.methodLink "java/lang/AbstractStringBuilder" (195 : Nat) ({ cls := "java/lang/AbstractStringBuilder", name := "inflate", desc := "()V" } : Jvm.MethodName)) ∈ lw_all := lw_g (lw_at lw_m2 48 rfl) rfl
theorem q431 : (Jvm.Cond.privateMethod ({ cls := "java/lang/AbstractStringBuilder", name := "inflate", desc := "()V" } : Jvm.MethodName)) ∈ lw_tbl := lw_at lw_m2 49 rfl
theorem q432 : (Jvm.Cond.instanceMethod ({ cls := "java/lang/AbstractStringBuilder", name := "inflate", desc := "()V" } : Jvm.MethodName)) ∈ lw_all := lw_g (lw_at lw_m2 50 rfl) rfl
theorem q433 : (Jvm.Cond.code ({ cls := "java/lang/AbstractStringBuilder", name := "inflate", desc := "()V" } : Jvm.MethodName) prog_38_method_11_code (2 : Nat) (Option.none : Option Jvm.ClassFile.FieldType)) ∈ lw_all := lw_g (lw_at lw_m2 51 rfl) rfl
theorem q434 : (Jvm.Cond.methodLink "java/lang/AbstractStringBuilder" (125 : Nat) ({ cls := "java/lang/StringLatin1", name := "inflate", desc := "([BI[BII)V" } : Jvm.MethodName)) ∈ lw_all := lw_g (lw_at lw_m2 52 rfl) rfl
theorem q449 : (Jvm.Cond.methodLink "java/lang/AbstractStringBuilder" (399 : Nat) ({ cls := "java/lang/String", name := "getBytes", desc := "([BIB)V" } : Jvm.MethodName)) ∈ lw_all := lw_g (lw_at lw_m2 67 rfl) rfl
theorem q455 : (Jvm.Cond.fieldLink "java/lang/AbstractStringBuilder" (15 : Nat) "java/lang/AbstractStringBuilder" "value" "[B") ∈ lw_all := lw_g (lw_at lw_m2 73 rfl) rfl
theorem q456 : (Jvm.Cond.fieldLink "java/lang/AbstractStringBuilder" (22 : Nat) "java/lang/AbstractStringBuilder" "coder" "B") ∈ lw_all := lw_g (lw_at lw_m2 74 rfl) rfl
theorem q458 : (Jvm.Cond.fieldLink "java/lang/AbstractStringBuilder" (79 : Nat) "java/lang/AbstractStringBuilder" "count" "I") ∈ lw_all := lw_g (lw_at lw_m2 76 rfl) rfl
theorem q460 : (Jvm.Cond.soleField "java/lang/AbstractStringBuilder" "value") ∈ lw_all := lw_g (lw_at lw_m2 78 rfl) rfl
theorem q462 : (Jvm.Cond.soleField "java/lang/AbstractStringBuilder" "coder") ∈ lw_all := lw_g (lw_at lw_m2 80 rfl) rfl
theorem q464 : (Jvm.Cond.soleField "java/lang/AbstractStringBuilder" "maybeLatin1") ∈ lw_all := lw_g (lw_at lw_m2 82 rfl) rfl
theorem q466 : (Jvm.Cond.soleField "java/lang/AbstractStringBuilder" "count") ∈ lw_all := lw_g (lw_at lw_m2 84 rfl) rfl
theorem q473 : (Jvm.Cond.instanceMethod ({ cls := "java/lang/AbstractStringBuilder", name := "append", desc := "(C)Ljava/lang/AbstractStringBuilder;" } : Jvm.MethodName)) ∈ lw_all := lw_g (lw_at lw_m2 91 rfl) rfl
theorem q474 : (Jvm.Cond.code ({ cls := "java/lang/AbstractStringBuilder", name := "append", desc := "(C)Ljava/lang/AbstractStringBuilder;" } : Jvm.MethodName) prog_38_method_31_code (2 : Nat) (Option.some (Jvm.ClassFile.FieldType.object "java/lang/AbstractStringBuilder"))) ∈ lw_all := lw_g (lw_at lw_m2 92 rfl) rfl
theorem q475 : (Jvm.Cond.methodLink "java/lang/AbstractStringBuilder" (191 : Nat) ({ cls := "java/lang/StringLatin1", name := "canEncode", desc := "(C)Z" } : Jvm.MethodName)) ∈ lw_all := lw_g (lw_at lw_m2 93 rfl) rfl
theorem q478 : (Jvm.Cond.methodLink "java/lang/AbstractStringBuilder" (197 : Nat) ({ cls := "java/lang/StringUTF16", name := "putCharSB", desc := "([BII)V" } : Jvm.MethodName)) ∈ lw_all := lw_g (lw_at lw_m2 96 rfl) rfl
theorem q505 : (Jvm.Cond.instanceMethod ({ cls := "java/lang/AbstractStringBuilder", name := "getValue", desc := "()[B" } : Jvm.MethodName)) ∈ lw_all := lw_g (lw_at lw_m2 123 rfl) rfl
theorem q506 : (Jvm.Cond.sameMethod "java/lang/AbstractStringBuilder" "java/lang/AbstractStringBuilder" "getValue" "()[B") ∈ lw_all := lw_g (lw_at lw_m2 124 rfl) rfl
theorem q508 : (Jvm.Cond.code ({ cls := "java/lang/AbstractStringBuilder", name := "getValue", desc := "()[B" } : Jvm.MethodName) prog_38_method_64_code (1 : Nat) (Option.some (Jvm.ClassFile.FieldType.array Jvm.ClassFile.FieldType.byte))) ∈ lw_all := lw_g (lw_at lw_m2 126 rfl) rfl
theorem q510 : (Jvm.Cond.instanceMethod ({ cls := "java/lang/AbstractStringBuilder", name := "length", desc := "()I" } : Jvm.MethodName)) ∈ lw_all := lw_g (lw_at lw_m2 128 rfl) rfl
theorem q511 : (Jvm.Cond.sameMethod "java/lang/AbstractStringBuilder" "java/lang/AbstractStringBuilder" "length" "()I") ∈ lw_all := lw_g (lw_at lw_m2 129 rfl) rfl
theorem q516 : (Jvm.Cond.code ({ cls := "java/lang/AbstractStringBuilder", name := "length", desc := "()I" } : Jvm.MethodName) prog_38_method_6_code (1 : Nat) (Option.some Jvm.ClassFile.FieldType.int)) ∈ lw_all := lw_g (lw_at lw_m2 134 rfl) rfl
theorem q2992 : (Jvm.Cond.sameMethod "java/lang/AbstractStringBuilder" "java/lang/AbstractStringBuilder" "appendNull" "()Ljava/lang/AbstractStringBuilder;") ∈ lw_all := lw_g (lw_at lw_m12 210 rfl) rfl
theorem q2993 : (Jvm.Cond.sameMethod "java/lang/AbstractStringBuilder" "java/lang/AbstractStringBuilder" "ensureCapacityInternal" "(I)V") ∈ lw_all := lw_g (lw_at lw_m12 211 rfl) rfl
theorem q2994 : (Jvm.Cond.sameMethod "java/lang/AbstractStringBuilder" "java/lang/AbstractStringBuilder" "newCapacity" "(I)I") ∈ lw_all := lw_g (lw_at lw_m12 212 rfl) rfl
theorem q2995 : (Jvm.Cond.sameMethod "java/lang/AbstractStringBuilder" "java/lang/AbstractStringBuilder" "putStringAt" "(ILjava/lang/String;)V") ∈ lw_all := lw_g (lw_at lw_m12 213 rfl) rfl
theorem q2996 : (Jvm.Cond.sameMethod "java/lang/AbstractStringBuilder" "java/lang/AbstractStringBuilder" "inflateIfNeededFor" "(Ljava/lang/String;)V") ∈ lw_all := lw_g (lw_at lw_m12 214 rfl) rfl
theorem q2997 : (Jvm.Cond.sameMethod "java/lang/AbstractStringBuilder" "java/lang/AbstractStringBuilder" "inflate" "()V") ∈ lw_all := lw_g (lw_at lw_m12 215 rfl) rfl
theorem q2998 : (Jvm.Cond.sameMethod "java/lang/AbstractStringBuilder" "java/lang/AbstractStringBuilder" "append" "(C)Ljava/lang/AbstractStringBuilder;") ∈ lw_all := lw_g (lw_at lw_m12 216 rfl) rfl

/-! java/lang/StringBuilder -/
set_option maxRecDepth 100000
def RJ3 : String := "java/lang/StringBuilder"
def TJ3 : u_T := fun k => match k with
  | 0 => ("java/lang/AbstractStringBuilder", "value", "[B", false)
  | 1 => ("java/lang/AbstractStringBuilder", "coder", "B", false)
  | 2 => ("java/lang/AbstractStringBuilder", "maybeLatin1", "Z", false)
  | _ => ("java/lang/AbstractStringBuilder", "count", "I", false)
def tyJ3 : Nat → FieldType := fun k => match k with
  | 0 => .array .byte
  | 1 => .byte
  | 2 => .boolean
  | _ => .int
abbrev wsJ30 : List Cond := u_ws RJ3 TJ3 4
theorem nmJ3 : ∀ a, a < 4 → ∀ b, b < 4 → a ≠ b → (TJ3 a).2.1 ≠ (TJ3 b).2.1 := by decide +kernel
theorem tyJ3_ok : ∀ k, k < 4 → parseFieldDescriptor (TJ3 k).2.2.1 = some (tyJ3 k) := by decide +kernel
abbrev cJ3_init : ByteArray := prog_47_method_3_code
def yJ3_init : MethodName := ⟨RJ3, "<init>", "(Ljava/lang/String;)V"⟩
def dkwJ3_init_0 : List UInt8 := [42, 43, 183, 0, 7, 177]
abbrev dktJ3_init_0 : List UInt8 := dkwJ3_init_0 ++ []
theorem dksJ3_init_0 : cJ3_init.data.toList.drop 0 = dktJ3_init_0 := by decide +kernel
theorem dJ3_init_0 : decode cJ3_init 0 = .ok (.aload_n 0, 1) := dk_42 (dk_at dksJ3_init_0 0 rfl rfl)
theorem dJ3_init_1 : decode cJ3_init 1 = .ok (.aload_n 1, 1) := dk_43 (dk_at dksJ3_init_0 1 rfl rfl)
theorem dJ3_init_2 : decode cJ3_init 2 = .ok (.invokespecial 7, 3) := dk_183 0 7 (dk_at dksJ3_init_0 2 rfl rfl)
theorem dJ3_init_5 : decode cJ3_init 5 = .ok (.return_, 1) := dk_177 (dk_at dksJ3_init_0 5 rfl rfl)
abbrev cJ3_append : ByteArray := prog_47_method_80_code
def yJ3_append : MethodName := ⟨RJ3, "append", "(Ljava/lang/String;)Ljava/lang/AbstractStringBuilder;"⟩
def dkwJ3_append_0 : List UInt8 := [42, 43, 182, 0, 23, 176]
abbrev dktJ3_append_0 : List UInt8 := dkwJ3_append_0 ++ []
theorem dksJ3_append_0 : cJ3_append.data.toList.drop 0 = dktJ3_append_0 := by decide +kernel
theorem dJ3_append_0 : decode cJ3_append 0 = .ok (.aload_n 0, 1) := dk_42 (dk_at dksJ3_append_0 0 rfl rfl)
theorem dJ3_append_1 : decode cJ3_append 1 = .ok (.aload_n 1, 1) := dk_43 (dk_at dksJ3_append_0 1 rfl rfl)
theorem dJ3_append_2 : decode cJ3_append 2 = .ok (.invokevirtual 23, 3) := dk_182 0 23 (dk_at dksJ3_append_0 2 rfl rfl)
theorem dJ3_append_5 : decode cJ3_append 5 = .ok (.areturn, 1) := dk_176 (dk_at dksJ3_append_0 5 rfl rfl)
abbrev cJ3_append_2 : ByteArray := prog_47_method_7_code
def yJ3_append_2 : MethodName := ⟨RJ3, "append", "(Ljava/lang/String;)Ljava/lang/StringBuilder;"⟩
def dkwJ3_append_2_0 : List UInt8 := [42, 43, 183, 0, 29, 87, 42, 176]
abbrev dktJ3_append_2_0 : List UInt8 := dkwJ3_append_2_0 ++ []
theorem dksJ3_append_2_0 : cJ3_append_2.data.toList.drop 0 = dktJ3_append_2_0 := by decide +kernel
theorem dJ3_append_2_0 : decode cJ3_append_2 0 = .ok (.aload_n 0, 1) := dk_42 (dk_at dksJ3_append_2_0 0 rfl rfl)
theorem dJ3_append_2_1 : decode cJ3_append_2 1 = .ok (.aload_n 1, 1) := dk_43 (dk_at dksJ3_append_2_0 1 rfl rfl)
theorem dJ3_append_2_2 : decode cJ3_append_2 2 = .ok (.invokespecial 29, 3) := dk_183 0 29 (dk_at dksJ3_append_2_0 2 rfl rfl)
theorem dJ3_append_2_5 : decode cJ3_append_2 5 = .ok (.pop, 1) := dk_87 (dk_at dksJ3_append_2_0 5 rfl rfl)
theorem dJ3_append_2_6 : decode cJ3_append_2 6 = .ok (.aload_n 0, 1) := dk_42 (dk_at dksJ3_append_2_0 6 rfl rfl)
theorem dJ3_append_2_7 : decode cJ3_append_2 7 = .ok (.areturn, 1) := dk_176 (dk_at dksJ3_append_2_0 7 rfl rfl)
abbrev cJ3_append_3 : ByteArray := prog_47_method_14_code
def yJ3_append_3 : MethodName := ⟨RJ3, "append", "(C)Ljava/lang/StringBuilder;"⟩
def dkwJ3_append_3_0 : List UInt8 := [42, 27, 183, 0, 50, 87, 42, 176]
abbrev dktJ3_append_3_0 : List UInt8 := dkwJ3_append_3_0 ++ []
theorem dksJ3_append_3_0 : cJ3_append_3.data.toList.drop 0 = dktJ3_append_3_0 := by decide +kernel
theorem dJ3_append_3_0 : decode cJ3_append_3 0 = .ok (.aload_n 0, 1) := dk_42 (dk_at dksJ3_append_3_0 0 rfl rfl)
theorem dJ3_append_3_1 : decode cJ3_append_3 1 = .ok (.iload_n 1, 1) := dk_27 (dk_at dksJ3_append_3_0 1 rfl rfl)
theorem dJ3_append_3_2 : decode cJ3_append_3 2 = .ok (.invokespecial 50, 3) := dk_183 0 50 (dk_at dksJ3_append_3_0 2 rfl rfl)
theorem dJ3_append_3_5 : decode cJ3_append_3 5 = .ok (.pop, 1) := dk_87 (dk_at dksJ3_append_3_0 5 rfl rfl)
theorem dJ3_append_3_6 : decode cJ3_append_3 6 = .ok (.aload_n 0, 1) := dk_42 (dk_at dksJ3_append_3_0 6 rfl rfl)
theorem dJ3_append_3_7 : decode cJ3_append_3 7 = .ok (.areturn, 1) := dk_176 (dk_at dksJ3_append_3_0 7 rfl rfl)
abbrev cJ3_toString : ByteArray := prog_47_method_42_code
def yJ3_toString : MethodName := ⟨RJ3, "toString", "()Ljava/lang/String;"⟩
def dkwJ3_toString_0 : List UInt8 := [187, 0, 18, 89, 42, 183, 0, 137, 176]
abbrev dktJ3_toString_0 : List UInt8 := dkwJ3_toString_0 ++ []
theorem dksJ3_toString_0 : cJ3_toString.data.toList.drop 0 = dktJ3_toString_0 := by decide +kernel
theorem dJ3_toString_0 : decode cJ3_toString 0 = .ok (.new 18, 3) := dk_187 0 18 (dk_at dksJ3_toString_0 0 rfl rfl)
theorem dJ3_toString_3 : decode cJ3_toString 3 = .ok (.dup, 1) := dk_89 (dk_at dksJ3_toString_0 3 rfl rfl)
theorem dJ3_toString_4 : decode cJ3_toString 4 = .ok (.aload_n 0, 1) := dk_42 (dk_at dksJ3_toString_0 4 rfl rfl)
theorem dJ3_toString_5 : decode cJ3_toString 5 = .ok (.invokespecial 137, 3) := dk_183 0 137 (dk_at dksJ3_toString_0 5 rfl rfl)
theorem dJ3_toString_8 : decode cJ3_toString 8 = .ok (.areturn, 1) := dk_176 (dk_at dksJ3_toString_0 8 rfl rfl)
abbrev cJ3_length : ByteArray := prog_47_method_93_code
def yJ3_length : MethodName := ⟨RJ3, "length", "()I"⟩
theorem dJ3_length_0 : decode cJ3_length 0 = .ok (.aload_n 0, 1) := by decide +kernel
theorem dJ3_length_1 : decode cJ3_length 1 = .ok (.invokespecial 343, 3) := by decide +kernel
theorem dJ3_length_4 : decode cJ3_length 4 = .ok (.ireturn, 1) := by decide +kernel
theorem q149 : (Jvm.Cond.initialized "java/lang/StringBuilder") ∈ lw_all := lw_g (lw_at lw_m1 7 rfl) rfl
theorem q310 : (Jvm.Cond.instantiable "java/lang/StringBuilder" (4 : Nat)) ∈ lw_all := lw_g (lw_at lw_m1 168 rfl) rfl
theorem q313 : (Jvm.Cond.instanceMethod ({ cls := "java/lang/StringBuilder", name := "<init>", desc := "(Ljava/lang/String;)V" } : Jvm.MethodName)) ∈ lw_all := lw_g (lw_at lw_m1 171 rfl) rfl
theorem q314 : (Jvm.Cond.code ({ cls := "java/lang/StringBuilder", name := "<init>", desc := "(Ljava/lang/String;)V" } : Jvm.MethodName) prog_47_method_3_code (2 : Nat) (Option.none : Option Jvm.ClassFile.FieldType)) ∈ lw_all := lw_g (lw_at lw_m1 172 rfl) rfl
theorem q315 : (Jvm.Cond.methodLink "java/lang/StringBuilder" (7 : Nat) ({ cls := "java/lang/AbstractStringBuilder", name := "<init>", desc := "(Ljava/lang/String;)V" } : Jvm.MethodName)) ∈ lw_all := lw_g (lw_at lw_m1 173 rfl) rfl
theorem q342 : (Jvm.Cond.selects "java/lang/StringBuilder" ({ cls := "java/lang/AbstractStringBuilder", name := "append", desc := "(Ljava/lang/String;)Ljava/lang/AbstractStringBuilder;" } : Jvm.MethodName) ({ cls := "java/lang/StringBuilder", name := "append", desc := "(Ljava/lang/String;)Ljava/lang/AbstractStringBuilder;" } : Jvm.MethodName)) ∈ lw_all := lw_g (lw_at lw_m1 200 rfl) rfl
theorem q343 : (Jvm.Cond.instanceMethod ({ cls := "java/lang/StringBuilder", name := "append", desc := "(Ljava/lang/String;)Ljava/lang/AbstractStringBuilder;" } : Jvm.MethodName)) ∈ lw_all := lw_g (lw_at lw_m1 201 rfl) rfl
theorem q344 : (Jvm.Cond.code ({ cls := "java/lang/StringBuilder", name := "append", desc := "(Ljava/lang/String;)Ljava/lang/AbstractStringBuilder;" } : Jvm.MethodName) prog_47_method_80_code (2 : Nat) (Option.some (Jvm.ClassFile.FieldType.object "java/lang/AbstractStringBuilder"))) ∈ lw_all := lw_g (lw_at lw_m1 202 rfl) rfl
theorem q345 : (Jvm.Cond.methodLink "java/lang/StringBuilder" (23 : Nat) ({ cls := "java/lang/StringBuilder", name := "append", desc := "(Ljava/lang/String;)Ljava/lang/StringBuilder;" } : Jvm.MethodName)) ∈ lw_all := lw_g (lw_at lw_m1 203 rfl) rfl
theorem q346 : (Jvm.Cond.instanceMethod ({ cls := "java/lang/StringBuilder", name := "append", desc := "(Ljava/lang/String;)Ljava/lang/StringBuilder;" } : Jvm.MethodName)) ∈ lw_all := lw_g (lw_at lw_m1 204 rfl) rfl
theorem q347 : (Jvm.Cond.selects "java/lang/StringBuilder" ({ cls := "java/lang/StringBuilder", name := "append", desc := "(Ljava/lang/String;)Ljava/lang/StringBuilder;" } : Jvm.MethodName) ({ cls := "java/lang/StringBuilder", name := "append", desc := "(Ljava/lang/String;)Ljava/lang/StringBuilder;" } : Jvm.MethodName)) ∈ lw_all := lw_g (lw_at lw_m1 205 rfl) rfl
theorem q348 : (Jvm.Cond.code ({ cls := "java/lang/StringBuilder", name := "append", desc := "(Ljava/lang/String;)Ljava/lang/StringBuilder;" } : Jvm.MethodName) prog_47_method_7_code (2 : Nat) (Option.some (Jvm.ClassFile.FieldType.object "java/lang/StringBuilder"))) ∈ lw_all := lw_g (lw_at lw_m1 206 rfl) rfl
theorem q349 : (Jvm.Cond.methodLink "java/lang/StringBuilder" (29 : Nat) ({ cls := "java/lang/AbstractStringBuilder", name := "append", desc := "(Ljava/lang/String;)Ljava/lang/AbstractStringBuilder;" } : Jvm.MethodName)) ∈ lw_all := lw_g (lw_at lw_m1 207 rfl) rfl
theorem q350 : (Jvm.Cond.superclass "java/lang/StringBuilder" "java/lang/AbstractStringBuilder") ∈ lw_all := lw_g (lw_at lw_m1 208 rfl) rfl
theorem q393 : (Jvm.Cond.selects "java/lang/StringBuilder" ({ cls := "java/lang/AbstractStringBuilder", name := "isLatin1", desc := "()Z" } : Jvm.MethodName) ({ cls := "java/lang/AbstractStringBuilder", name := "isLatin1", desc := "()Z" } : Jvm.MethodName)) ∈ lw_all := lw_g (lw_at lw_m2 11 rfl) rfl
theorem q459 : (Jvm.Cond.lays "java/lang/StringBuilder" "java/lang/AbstractStringBuilder" "value" "[B") ∈ lw_all := lw_g (lw_at lw_m2 77 rfl) rfl
theorem q461 : (Jvm.Cond.lays "java/lang/StringBuilder" "java/lang/AbstractStringBuilder" "coder" "B") ∈ lw_all := lw_g (lw_at lw_m2 79 rfl) rfl
theorem q463 : (Jvm.Cond.lays "java/lang/StringBuilder" "java/lang/AbstractStringBuilder" "maybeLatin1" "Z") ∈ lw_all := lw_g (lw_at lw_m2 81 rfl) rfl
theorem q465 : (Jvm.Cond.lays "java/lang/StringBuilder" "java/lang/AbstractStringBuilder" "count" "I") ∈ lw_all := lw_g (lw_at lw_m2 83 rfl) rfl
theorem q469 : (Jvm.Cond.instanceMethod ({ cls := "java/lang/StringBuilder", name := "append", desc := "(C)Ljava/lang/StringBuilder;" } : Jvm.MethodName)) ∈ lw_all := lw_g (lw_at lw_m2 87 rfl) rfl
theorem q470 : (Jvm.Cond.selects "java/lang/StringBuilder" ({ cls := "java/lang/StringBuilder", name := "append", desc := "(C)Ljava/lang/StringBuilder;" } : Jvm.MethodName) ({ cls := "java/lang/StringBuilder", name := "append", desc := "(C)Ljava/lang/StringBuilder;" } : Jvm.MethodName)) ∈ lw_all := lw_g (lw_at lw_m2 88 rfl) rfl
theorem q471 : (Jvm.Cond.code ({ cls := "java/lang/StringBuilder", name := "append", desc := "(C)Ljava/lang/StringBuilder;" } : Jvm.MethodName) prog_47_method_14_code (2 : Nat) (Option.some (Jvm.ClassFile.FieldType.object "java/lang/StringBuilder"))) ∈ lw_all := lw_g (lw_at lw_m2 89 rfl) rfl
theorem q472 : (Jvm.Cond.methodLink "java/lang/StringBuilder" (50 : Nat) ({ cls := "java/lang/AbstractStringBuilder", name := "append", desc := "(C)Ljava/lang/AbstractStringBuilder;" } : Jvm.MethodName)) ∈ lw_all := lw_g (lw_at lw_m2 90 rfl) rfl
theorem q492 : (Jvm.Cond.instanceMethod ({ cls := "java/lang/StringBuilder", name := "toString", desc := "()Ljava/lang/String;" } : Jvm.MethodName)) ∈ lw_all := lw_g (lw_at lw_m2 110 rfl) rfl
theorem q493 : (Jvm.Cond.selects "java/lang/StringBuilder" ({ cls := "java/lang/StringBuilder", name := "toString", desc := "()Ljava/lang/String;" } : Jvm.MethodName) ({ cls := "java/lang/StringBuilder", name := "toString", desc := "()Ljava/lang/String;" } : Jvm.MethodName)) ∈ lw_all := lw_g (lw_at lw_m2 111 rfl) rfl
theorem q494 : (Jvm.Cond.code ({ cls := "java/lang/StringBuilder", name := "toString", desc := "()Ljava/lang/String;" } : Jvm.MethodName) prog_47_method_42_code (1 : Nat) (Option.some (Jvm.ClassFile.FieldType.object "java/lang/String"))) ∈ lw_all := lw_g (lw_at lw_m2 112 rfl) rfl
theorem q495 : (Jvm.Cond.classLink "java/lang/StringBuilder" (18 : Nat) "java/lang/String") ∈ lw_all := lw_g (lw_at lw_m2 113 rfl) rfl
theorem q497 : (Jvm.Cond.methodLink "java/lang/StringBuilder" (137 : Nat) ({ cls := "java/lang/String", name := "<init>", desc := "(Ljava/lang/StringBuilder;)V" } : Jvm.MethodName)) ∈ lw_all := lw_g (lw_at lw_m2 115 rfl) rfl
theorem q507 : (Jvm.Cond.selects "java/lang/StringBuilder" ({ cls := "java/lang/AbstractStringBuilder", name := "getValue", desc := "()[B" } : Jvm.MethodName) ({ cls := "java/lang/AbstractStringBuilder", name := "getValue", desc := "()[B" } : Jvm.MethodName)) ∈ lw_all := lw_g (lw_at lw_m2 125 rfl) rfl
theorem q512 : (Jvm.Cond.selects "java/lang/StringBuilder" ({ cls := "java/lang/AbstractStringBuilder", name := "length", desc := "()I" } : Jvm.MethodName) ({ cls := "java/lang/StringBuilder", name := "length", desc := "()I" } : Jvm.MethodName)) ∈ lw_all := lw_g (lw_at lw_m2 130 rfl) rfl
theorem q513 : (Jvm.Cond.instanceMethod ({ cls := "java/lang/StringBuilder", name := "length", desc := "()I" } : Jvm.MethodName)) ∈ lw_all := lw_g (lw_at lw_m2 131 rfl) rfl
theorem q514 : (Jvm.Cond.code ({ cls := "java/lang/StringBuilder", name := "length", desc := "()I" } : Jvm.MethodName) prog_47_method_93_code (1 : Nat) (Option.some Jvm.ClassFile.FieldType.int)) ∈ lw_all := lw_g (lw_at lw_m2 132 rfl) rfl
theorem q515 : (Jvm.Cond.methodLink "java/lang/StringBuilder" (343 : Nat) ({ cls := "java/lang/AbstractStringBuilder", name := "length", desc := "()I" } : Jvm.MethodName)) ∈ lw_all := lw_g (lw_at lw_m2 133 rfl) rfl
theorem q565 : (Jvm.Cond.castable "java/lang/StringBuilder" "java/lang/CharSequence") ∈ lw_tbl := lw_at lw_m2 183 rfl
theorem q566 : (Jvm.Cond.selects "java/lang/StringBuilder" ({ cls := "java/lang/CharSequence", name := "toString", desc := "()Ljava/lang/String;" } : Jvm.MethodName) ({ cls := "java/lang/StringBuilder", name := "toString", desc := "()Ljava/lang/String;" } : Jvm.MethodName)) ∈ lw_all := lw_g (lw_at lw_m2 184 rfl) rfl
theorem q567 : (Jvm.Cond.unhidden "java/lang/StringBuilder" "toString" "()Ljava/lang/String;") ∈ lw_tbl := lw_at lw_m2 185 rfl
theorem q568 : (Jvm.Cond.publicMethod ({ cls := "java/lang/StringBuilder", name := "toString", desc := "()Ljava/lang/String;" } : Jvm.MethodName)) ∈ lw_tbl := lw_at lw_m2 186 rfl
theorem in_J3 : ∀ w ∈ wsJ30, w ∈ lw_all := lw_in wsJ30 [459, 461, 463, 465] (by decide +kernel) (by decide +kernel)

/-! java/lang/String -/
set_option maxRecDepth 100000
def RJ4 : String := "java/lang/String"
def TJ4 : u_T := fun k => match k with
  | 0 => ("java/lang/String", "value", "[B", true)
  | 1 => ("java/lang/String", "coder", "B", true)
  | 2 => ("java/lang/String", "hash", "I", false)
  | _ => ("java/lang/String", "hashIsZero", "Z", false)
def tyJ4 : Nat → FieldType := fun k => match k with
  | 0 => .array .byte
  | 1 => .byte
  | 2 => .int
  | _ => .boolean
abbrev wsJ40 : List Cond := u_ws RJ4 TJ4 4
theorem nmJ4 : ∀ a, a < 4 → ∀ b, b < 4 → a ≠ b → (TJ4 a).2.1 ≠ (TJ4 b).2.1 := by decide +kernel
theorem tyJ4_ok : ∀ k, k < 4 → parseFieldDescriptor (TJ4 k).2.2.1 = some (tyJ4 k) := by decide +kernel
abbrev cJ4_length : ByteArray := prog_46_method_54_code
def yJ4_length : MethodName := ⟨RJ4, "length", "()I"⟩
def dkwJ4_length_0 : List UInt8 := [42, 180, 0, 9, 190, 42, 182, 1, 79, 122, 172]
abbrev dktJ4_length_0 : List UInt8 := dkwJ4_length_0 ++ []
theorem dksJ4_length_0 : cJ4_length.data.toList.drop 0 = dktJ4_length_0 := by decide +kernel
theorem dJ4_length_0 : decode cJ4_length 0 = .ok (.aload_n 0, 1) := dk_42 (dk_at dksJ4_length_0 0 rfl rfl)
theorem dJ4_length_1 : decode cJ4_length 1 = .ok (.getfield 9, 3) := dk_180 0 9 (dk_at dksJ4_length_0 1 rfl rfl)
theorem dJ4_length_4 : decode cJ4_length 4 = .ok (.arraylength, 1) := dk_190 (dk_at dksJ4_length_0 4 rfl rfl)
theorem dJ4_length_5 : decode cJ4_length 5 = .ok (.aload_n 0, 1) := dk_42 (dk_at dksJ4_length_0 5 rfl rfl)
theorem dJ4_length_6 : decode cJ4_length 6 = .ok (.invokevirtual 335, 3) := dk_182 1 79 (dk_at dksJ4_length_0 6 rfl rfl)
theorem dJ4_length_9 : decode cJ4_length 9 = .ok (.ishr, 1) := dk_122 (dk_at dksJ4_length_0 9 rfl rfl)
theorem dJ4_length_10 : decode cJ4_length 10 = .ok (.ireturn, 1) := dk_172 (dk_at dksJ4_length_0 10 rfl rfl)
abbrev cJ4_coder : ByteArray := prog_46_method_152_code
def yJ4_coder : MethodName := ⟨RJ4, "coder", "()B"⟩
def dkwJ4_coder_0 : List UInt8 := [178, 0, 38, 153, 0, 10, 42, 180, 0, 15, 167, 0, 4, 4, 172]
abbrev dktJ4_coder_0 : List UInt8 := dkwJ4_coder_0 ++ []
theorem dksJ4_coder_0 : cJ4_coder.data.toList.drop 0 = dktJ4_coder_0 := by decide +kernel
theorem dJ4_coder_0 : decode cJ4_coder 0 = .ok (.getstatic 38, 3) := dk_178 0 38 (dk_at dksJ4_coder_0 0 rfl rfl)
theorem dJ4_coder_3 : decode cJ4_coder 3 = .ok (.ifCond .eq 10, 3) := dk_153 0 10 (dk_at dksJ4_coder_0 3 rfl rfl)
theorem dJ4_coder_6 : decode cJ4_coder 6 = .ok (.aload_n 0, 1) := dk_42 (dk_at dksJ4_coder_0 6 rfl rfl)
theorem dJ4_coder_7 : decode cJ4_coder 7 = .ok (.getfield 15, 3) := dk_180 0 15 (dk_at dksJ4_coder_0 7 rfl rfl)
theorem dJ4_coder_10 : decode cJ4_coder 10 = .ok (.goto 4, 3) := dk_167 0 4 (dk_at dksJ4_coder_0 10 rfl rfl)
theorem dJ4_coder_13 : decode cJ4_coder 13 = .ok (.iconst 1, 1) := dk_4 (dk_at dksJ4_coder_0 13 rfl rfl)
theorem dJ4_coder_14 : decode cJ4_coder 14 = .ok (.ireturn, 1) := dk_172 (dk_at dksJ4_coder_0 14 rfl rfl)
abbrev cJ4_checkBoundsBeginEnd : ByteArray := prog_46_method_158_code
def yJ4_checkBoundsBeginEnd : MethodName := ⟨RJ4, "checkBoundsBeginEnd", "(III)V"⟩
def dkwJ4_checkBoundsBeginEnd_0 : List UInt8 := [26, 27, 28, 178, 4, 29, 184, 4, 38, 87, 177]
abbrev dktJ4_checkBoundsBeginEnd_0 : List UInt8 := dkwJ4_checkBoundsBeginEnd_0 ++ []
theorem dksJ4_checkBoundsBeginEnd_0 : cJ4_checkBoundsBeginEnd.data.toList.drop 0 = dktJ4_checkBoundsBeginEnd_0 := by decide +kernel
theorem dJ4_checkBoundsBeginEnd_0 : decode cJ4_checkBoundsBeginEnd 0 = .ok (.iload_n 0, 1) := dk_26 (dk_at dksJ4_checkBoundsBeginEnd_0 0 rfl rfl)
theorem dJ4_checkBoundsBeginEnd_1 : decode cJ4_checkBoundsBeginEnd 1 = .ok (.iload_n 1, 1) := dk_27 (dk_at dksJ4_checkBoundsBeginEnd_0 1 rfl rfl)
theorem dJ4_checkBoundsBeginEnd_2 : decode cJ4_checkBoundsBeginEnd 2 = .ok (.iload_n 2, 1) := dk_28 (dk_at dksJ4_checkBoundsBeginEnd_0 2 rfl rfl)
theorem dJ4_checkBoundsBeginEnd_3 : decode cJ4_checkBoundsBeginEnd 3 = .ok (.getstatic 1053, 3) := dk_178 4 29 (dk_at dksJ4_checkBoundsBeginEnd_0 3 rfl rfl)
theorem dJ4_checkBoundsBeginEnd_6 : decode cJ4_checkBoundsBeginEnd 6 = .ok (.invokestatic 1062, 3) := dk_184 4 38 (dk_at dksJ4_checkBoundsBeginEnd_0 6 rfl rfl)
theorem dJ4_checkBoundsBeginEnd_9 : decode cJ4_checkBoundsBeginEnd 9 = .ok (.pop, 1) := dk_87 (dk_at dksJ4_checkBoundsBeginEnd_0 9 rfl rfl)
theorem dJ4_checkBoundsBeginEnd_10 : decode cJ4_checkBoundsBeginEnd 10 = .ok (.return_, 1) := dk_177 (dk_at dksJ4_checkBoundsBeginEnd_0 10 rfl rfl)
abbrev cJ4_checkBoundsOffCount : ByteArray := prog_46_method_157_code
def yJ4_checkBoundsOffCount : MethodName := ⟨RJ4, "checkBoundsOffCount", "(III)I"⟩
def dkwJ4_checkBoundsOffCount_0 : List UInt8 := [26, 27, 28, 178, 4, 29, 184, 4, 41, 172]
abbrev dktJ4_checkBoundsOffCount_0 : List UInt8 := dkwJ4_checkBoundsOffCount_0 ++ []
theorem dksJ4_checkBoundsOffCount_0 : cJ4_checkBoundsOffCount.data.toList.drop 0 = dktJ4_checkBoundsOffCount_0 := by decide +kernel
theorem dJ4_checkBoundsOffCount_0 : decode cJ4_checkBoundsOffCount 0 = .ok (.iload_n 0, 1) := dk_26 (dk_at dksJ4_checkBoundsOffCount_0 0 rfl rfl)
theorem dJ4_checkBoundsOffCount_1 : decode cJ4_checkBoundsOffCount 1 = .ok (.iload_n 1, 1) := dk_27 (dk_at dksJ4_checkBoundsOffCount_0 1 rfl rfl)
theorem dJ4_checkBoundsOffCount_2 : decode cJ4_checkBoundsOffCount 2 = .ok (.iload_n 2, 1) := dk_28 (dk_at dksJ4_checkBoundsOffCount_0 2 rfl rfl)
theorem dJ4_checkBoundsOffCount_3 : decode cJ4_checkBoundsOffCount 3 = .ok (.getstatic 1053, 3) := dk_178 4 29 (dk_at dksJ4_checkBoundsOffCount_0 3 rfl rfl)
theorem dJ4_checkBoundsOffCount_6 : decode cJ4_checkBoundsOffCount 6 = .ok (.invokestatic 1065, 3) := dk_184 4 41 (dk_at dksJ4_checkBoundsOffCount_0 6 rfl rfl)
theorem dJ4_checkBoundsOffCount_9 : decode cJ4_checkBoundsOffCount 9 = .ok (.ireturn, 1) := dk_172 (dk_at dksJ4_checkBoundsOffCount_0 9 rfl rfl)
abbrev cJ4_getBytes : ByteArray := prog_46_method_147_code
def yJ4_getBytes : MethodName := ⟨RJ4, "getBytes", "([BIB)V"⟩
def dkwJ4_getBytes_1 : List UInt8 := [184, 0, 212, 167, 0, 18, 42, 180, 0, 9, 3, 43, 28, 42, 180, 0, 9, 190, 184, 0, 106, 177]
abbrev dktJ4_getBytes_1 : List UInt8 := dkwJ4_getBytes_1 ++ []
def dkwJ4_getBytes_0 : List UInt8 := [42, 182, 1, 79, 29, 160, 0, 23, 42, 180, 0, 9, 3, 43, 28, 29, 120, 42, 180, 0, 9, 190]
abbrev dktJ4_getBytes_0 : List UInt8 := dkwJ4_getBytes_0 ++ dktJ4_getBytes_1
theorem dksJ4_getBytes_0 : cJ4_getBytes.data.toList.drop 0 = dktJ4_getBytes_0 := by decide +kernel
theorem dksJ4_getBytes_1 : cJ4_getBytes.data.toList.drop 22 = dktJ4_getBytes_1 := dk_seg dksJ4_getBytes_0 22 rfl rfl
theorem dJ4_getBytes_0 : decode cJ4_getBytes 0 = .ok (.aload_n 0, 1) := dk_42 (dk_at dksJ4_getBytes_0 0 rfl rfl)
theorem dJ4_getBytes_1 : decode cJ4_getBytes 1 = .ok (.invokevirtual 335, 3) := dk_182 1 79 (dk_at dksJ4_getBytes_0 1 rfl rfl)
theorem dJ4_getBytes_4 : decode cJ4_getBytes 4 = .ok (.iload_n 3, 1) := dk_29 (dk_at dksJ4_getBytes_0 4 rfl rfl)
theorem dJ4_getBytes_5 : decode cJ4_getBytes 5 = .ok (.if_icmp .ne 23, 3) := dk_160 0 23 (dk_at dksJ4_getBytes_0 5 rfl rfl)
theorem dJ4_getBytes_8 : decode cJ4_getBytes 8 = .ok (.aload_n 0, 1) := dk_42 (dk_at dksJ4_getBytes_0 8 rfl rfl)
theorem dJ4_getBytes_9 : decode cJ4_getBytes 9 = .ok (.getfield 9, 3) := dk_180 0 9 (dk_at dksJ4_getBytes_0 9 rfl rfl)
theorem dJ4_getBytes_12 : decode cJ4_getBytes 12 = .ok (.iconst 0, 1) := dk_3 (dk_at dksJ4_getBytes_0 12 rfl rfl)
theorem dJ4_getBytes_13 : decode cJ4_getBytes 13 = .ok (.aload_n 1, 1) := dk_43 (dk_at dksJ4_getBytes_0 13 rfl rfl)
theorem dJ4_getBytes_14 : decode cJ4_getBytes 14 = .ok (.iload_n 2, 1) := dk_28 (dk_at dksJ4_getBytes_0 14 rfl rfl)
theorem dJ4_getBytes_15 : decode cJ4_getBytes 15 = .ok (.iload_n 3, 1) := dk_29 (dk_at dksJ4_getBytes_0 15 rfl rfl)
theorem dJ4_getBytes_16 : decode cJ4_getBytes 16 = .ok (.ishl, 1) := dk_120 (dk_at dksJ4_getBytes_0 16 rfl rfl)
theorem dJ4_getBytes_17 : decode cJ4_getBytes 17 = .ok (.aload_n 0, 1) := dk_42 (dk_at dksJ4_getBytes_0 17 rfl rfl)
theorem dJ4_getBytes_18 : decode cJ4_getBytes 18 = .ok (.getfield 9, 3) := dk_180 0 9 (dk_at dksJ4_getBytes_0 18 rfl rfl)
theorem dJ4_getBytes_21 : decode cJ4_getBytes 21 = .ok (.arraylength, 1) := dk_190 (dk_at dksJ4_getBytes_0 21 rfl rfl)
theorem dJ4_getBytes_22 : decode cJ4_getBytes 22 = .ok (.invokestatic 212, 3) := dk_184 0 212 (dk_at dksJ4_getBytes_1 0 rfl rfl)
theorem dJ4_getBytes_25 : decode cJ4_getBytes 25 = .ok (.goto 18, 3) := dk_167 0 18 (dk_at dksJ4_getBytes_1 3 rfl rfl)
theorem dJ4_getBytes_28 : decode cJ4_getBytes 28 = .ok (.aload_n 0, 1) := dk_42 (dk_at dksJ4_getBytes_1 6 rfl rfl)
theorem dJ4_getBytes_29 : decode cJ4_getBytes 29 = .ok (.getfield 9, 3) := dk_180 0 9 (dk_at dksJ4_getBytes_1 7 rfl rfl)
theorem dJ4_getBytes_32 : decode cJ4_getBytes 32 = .ok (.iconst 0, 1) := dk_3 (dk_at dksJ4_getBytes_1 10 rfl rfl)
theorem dJ4_getBytes_33 : decode cJ4_getBytes 33 = .ok (.aload_n 1, 1) := dk_43 (dk_at dksJ4_getBytes_1 11 rfl rfl)
theorem dJ4_getBytes_34 : decode cJ4_getBytes 34 = .ok (.iload_n 2, 1) := dk_28 (dk_at dksJ4_getBytes_1 12 rfl rfl)
theorem dJ4_getBytes_35 : decode cJ4_getBytes 35 = .ok (.aload_n 0, 1) := dk_42 (dk_at dksJ4_getBytes_1 13 rfl rfl)
theorem dJ4_getBytes_36 : decode cJ4_getBytes 36 = .ok (.getfield 9, 3) := dk_180 0 9 (dk_at dksJ4_getBytes_1 14 rfl rfl)
theorem dJ4_getBytes_39 : decode cJ4_getBytes 39 = .ok (.arraylength, 1) := dk_190 (dk_at dksJ4_getBytes_1 17 rfl rfl)
theorem dJ4_getBytes_40 : decode cJ4_getBytes 40 = .ok (.invokestatic 106, 3) := dk_184 0 106 (dk_at dksJ4_getBytes_1 18 rfl rfl)
theorem dJ4_getBytes_43 : decode cJ4_getBytes 43 = .ok (.return_, 1) := dk_177 (dk_at dksJ4_getBytes_1 21 rfl rfl)
abbrev cJ4_checkIndex : ByteArray := prog_46_method_155_code
def yJ4_checkIndex : MethodName := ⟨RJ4, "checkIndex", "(II)V"⟩
def dkwJ4_checkIndex_0 : List UInt8 := [26, 27, 178, 4, 29, 184, 4, 35, 87, 177]
abbrev dktJ4_checkIndex_0 : List UInt8 := dkwJ4_checkIndex_0 ++ []
theorem dksJ4_checkIndex_0 : cJ4_checkIndex.data.toList.drop 0 = dktJ4_checkIndex_0 := by decide +kernel
theorem dJ4_checkIndex_0 : decode cJ4_checkIndex 0 = .ok (.iload_n 0, 1) := dk_26 (dk_at dksJ4_checkIndex_0 0 rfl rfl)
theorem dJ4_checkIndex_1 : decode cJ4_checkIndex 1 = .ok (.iload_n 1, 1) := dk_27 (dk_at dksJ4_checkIndex_0 1 rfl rfl)
theorem dJ4_checkIndex_2 : decode cJ4_checkIndex 2 = .ok (.getstatic 1053, 3) := dk_178 4 29 (dk_at dksJ4_checkIndex_0 2 rfl rfl)
theorem dJ4_checkIndex_5 : decode cJ4_checkIndex 5 = .ok (.invokestatic 1059, 3) := dk_184 4 35 (dk_at dksJ4_checkIndex_0 5 rfl rfl)
theorem dJ4_checkIndex_8 : decode cJ4_checkIndex 8 = .ok (.pop, 1) := dk_87 (dk_at dksJ4_checkIndex_0 8 rfl rfl)
theorem dJ4_checkIndex_9 : decode cJ4_checkIndex 9 = .ok (.return_, 1) := dk_177 (dk_at dksJ4_checkIndex_0 9 rfl rfl)
abbrev cJ4_init : ByteArray := prog_46_method_53_code
def yJ4_init : MethodName := ⟨RJ4, "<init>", "(Ljava/lang/StringBuilder;)V"⟩
def dkwJ4_init_0 : List UInt8 := [42, 43, 1, 183, 1, 233, 177]
abbrev dktJ4_init_0 : List UInt8 := dkwJ4_init_0 ++ []
theorem dksJ4_init_0 : cJ4_init.data.toList.drop 0 = dktJ4_init_0 := by decide +kernel
theorem dJ4_init_0 : decode cJ4_init 0 = .ok (.aload_n 0, 1) := dk_42 (dk_at dksJ4_init_0 0 rfl rfl)
theorem dJ4_init_1 : decode cJ4_init 1 = .ok (.aload_n 1, 1) := dk_43 (dk_at dksJ4_init_0 1 rfl rfl)
theorem dJ4_init_2 : decode cJ4_init 2 = .ok (.aconst_null, 1) := dk_1 (dk_at dksJ4_init_0 2 rfl rfl)
theorem dJ4_init_3 : decode cJ4_init 3 = .ok (.invokespecial 489, 3) := dk_183 1 233 (dk_at dksJ4_init_0 3 rfl rfl)
theorem dJ4_init_6 : decode cJ4_init 6 = .ok (.return_, 1) := dk_177 (dk_at dksJ4_init_0 6 rfl rfl)
abbrev cJ4_init_2 : ByteArray := prog_46_method_150_code
def yJ4_init_2 : MethodName := ⟨RJ4, "<init>", "(Ljava/lang/AbstractStringBuilder;Ljava/lang/Void;)V"⟩
def dkwJ4_init_2_4 : List UInt8 := [181, 0, 9, 177]
abbrev dktJ4_init_2_4 : List UInt8 := dkwJ4_init_2_4 ++ []
def dkwJ4_init_2_3 : List UInt8 := [184, 0, 47, 181, 0, 15, 177, 42, 4, 181, 0, 15, 42, 45, 3, 21, 4, 4, 120, 184, 0, 54]
abbrev dktJ4_init_2_3 : List UInt8 := dkwJ4_init_2_3 ++ dktJ4_init_2_4
def dkwJ4_init_2_2 : List UInt8 := [180, 4, 24, 153, 0, 28, 42, 45, 3, 21, 4, 184, 4, 27, 181, 0, 9, 42, 42, 180, 0, 9, 21, 4]
abbrev dktJ4_init_2_2 : List UInt8 := dkwJ4_init_2_2 ++ dktJ4_init_2_3
def dkwJ4_init_2_1 : List UInt8 := [181, 0, 15, 42, 45, 3, 21, 4, 184, 0, 54, 181, 0, 9, 167, 0, 59, 178, 0, 38, 153, 0, 35, 43]
abbrev dktJ4_init_2_1 : List UInt8 := dkwJ4_init_2_1 ++ dktJ4_init_2_2
def dkwJ4_init_2_0 : List UInt8 := [42, 183, 0, 1, 43, 182, 2, 40, 78, 43, 182, 2, 37, 54, 4, 43, 182, 4, 23, 153, 0, 22, 42, 3]
abbrev dktJ4_init_2_0 : List UInt8 := dkwJ4_init_2_0 ++ dktJ4_init_2_1
theorem dksJ4_init_2_0 : cJ4_init_2.data.toList.drop 0 = dktJ4_init_2_0 := by decide +kernel
theorem dksJ4_init_2_1 : cJ4_init_2.data.toList.drop 24 = dktJ4_init_2_1 := dk_seg dksJ4_init_2_0 24 rfl rfl
theorem dksJ4_init_2_2 : cJ4_init_2.data.toList.drop 48 = dktJ4_init_2_2 := dk_seg dksJ4_init_2_1 24 rfl rfl
theorem dksJ4_init_2_3 : cJ4_init_2.data.toList.drop 72 = dktJ4_init_2_3 := dk_seg dksJ4_init_2_2 24 rfl rfl
theorem dksJ4_init_2_4 : cJ4_init_2.data.toList.drop 94 = dktJ4_init_2_4 := dk_seg dksJ4_init_2_3 22 rfl rfl
theorem dJ4_init_2_0 : decode cJ4_init_2 0 = .ok (.aload_n 0, 1) := dk_42 (dk_at dksJ4_init_2_0 0 rfl rfl)
theorem dJ4_init_2_1 : decode cJ4_init_2 1 = .ok (.invokespecial 1, 3) := dk_183 0 1 (dk_at dksJ4_init_2_0 1 rfl rfl)
theorem dJ4_init_2_4 : decode cJ4_init_2 4 = .ok (.aload_n 1, 1) := dk_43 (dk_at dksJ4_init_2_0 4 rfl rfl)
theorem dJ4_init_2_5 : decode cJ4_init_2 5 = .ok (.invokevirtual 552, 3) := dk_182 2 40 (dk_at dksJ4_init_2_0 5 rfl rfl)
theorem dJ4_init_2_8 : decode cJ4_init_2 8 = .ok (.astore_n 3, 1) := dk_78 (dk_at dksJ4_init_2_0 8 rfl rfl)
theorem dJ4_init_2_9 : decode cJ4_init_2 9 = .ok (.aload_n 1, 1) := dk_43 (dk_at dksJ4_init_2_0 9 rfl rfl)
theorem dJ4_init_2_10 : decode cJ4_init_2 10 = .ok (.invokevirtual 549, 3) := dk_182 2 37 (dk_at dksJ4_init_2_0 10 rfl rfl)
theorem dJ4_init_2_13 : decode cJ4_init_2 13 = .ok (.istore 4, 2) := dk_54 4 (dk_at dksJ4_init_2_0 13 rfl rfl)
theorem dJ4_init_2_15 : decode cJ4_init_2 15 = .ok (.aload_n 1, 1) := dk_43 (dk_at dksJ4_init_2_0 15 rfl rfl)
theorem dJ4_init_2_16 : decode cJ4_init_2 16 = .ok (.invokevirtual 1047, 3) := dk_182 4 23 (dk_at dksJ4_init_2_0 16 rfl rfl)
theorem dJ4_init_2_19 : decode cJ4_init_2 19 = .ok (.ifCond .eq 22, 3) := dk_153 0 22 (dk_at dksJ4_init_2_0 19 rfl rfl)
theorem dJ4_init_2_22 : decode cJ4_init_2 22 = .ok (.aload_n 0, 1) := dk_42 (dk_at dksJ4_init_2_0 22 rfl rfl)
theorem dJ4_init_2_23 : decode cJ4_init_2 23 = .ok (.iconst 0, 1) := dk_3 (dk_at dksJ4_init_2_0 23 rfl rfl)
theorem dJ4_init_2_24 : decode cJ4_init_2 24 = .ok (.putfield 15, 3) := dk_181 0 15 (dk_at dksJ4_init_2_1 0 rfl rfl)
theorem dJ4_init_2_27 : decode cJ4_init_2 27 = .ok (.aload_n 0, 1) := dk_42 (dk_at dksJ4_init_2_1 3 rfl rfl)
theorem dJ4_init_2_28 : decode cJ4_init_2 28 = .ok (.aload_n 3, 1) := dk_45 (dk_at dksJ4_init_2_1 4 rfl rfl)
theorem dJ4_init_2_29 : decode cJ4_init_2 29 = .ok (.iconst 0, 1) := dk_3 (dk_at dksJ4_init_2_1 5 rfl rfl)
theorem dJ4_init_2_30 : decode cJ4_init_2 30 = .ok (.iload 4, 2) := dk_21 4 (dk_at dksJ4_init_2_1 6 rfl rfl)
theorem dJ4_init_2_32 : decode cJ4_init_2 32 = .ok (.invokestatic 54, 3) := dk_184 0 54 (dk_at dksJ4_init_2_1 8 rfl rfl)
theorem dJ4_init_2_35 : decode cJ4_init_2 35 = .ok (.putfield 9, 3) := dk_181 0 9 (dk_at dksJ4_init_2_1 11 rfl rfl)
theorem dJ4_init_2_38 : decode cJ4_init_2 38 = .ok (.goto 59, 3) := dk_167 0 59 (dk_at dksJ4_init_2_1 14 rfl rfl)
theorem dJ4_init_2_41 : decode cJ4_init_2 41 = .ok (.getstatic 38, 3) := dk_178 0 38 (dk_at dksJ4_init_2_1 17 rfl rfl)
theorem dJ4_init_2_44 : decode cJ4_init_2 44 = .ok (.ifCond .eq 35, 3) := dk_153 0 35 (dk_at dksJ4_init_2_1 20 rfl rfl)
theorem dJ4_init_2_47 : decode cJ4_init_2 47 = .ok (.aload_n 1, 1) := dk_43 (dk_at dksJ4_init_2_1 23 rfl rfl)
theorem dJ4_init_2_48 : decode cJ4_init_2 48 = .ok (.getfield 1048, 3) := dk_180 4 24 (dk_at dksJ4_init_2_2 0 rfl rfl)
theorem dJ4_init_2_51 : decode cJ4_init_2 51 = .ok (.ifCond .eq 28, 3) := dk_153 0 28 (dk_at dksJ4_init_2_2 3 rfl rfl)
theorem dJ4_init_2_54 : decode cJ4_init_2 54 = .ok (.aload_n 0, 1) := dk_42 (dk_at dksJ4_init_2_2 6 rfl rfl)
theorem dJ4_init_2_55 : decode cJ4_init_2 55 = .ok (.aload_n 3, 1) := dk_45 (dk_at dksJ4_init_2_2 7 rfl rfl)
theorem dJ4_init_2_56 : decode cJ4_init_2 56 = .ok (.iconst 0, 1) := dk_3 (dk_at dksJ4_init_2_2 8 rfl rfl)
theorem dJ4_init_2_57 : decode cJ4_init_2 57 = .ok (.iload 4, 2) := dk_21 4 (dk_at dksJ4_init_2_2 9 rfl rfl)
theorem dJ4_init_2_59 : decode cJ4_init_2 59 = .ok (.invokestatic 1051, 3) := dk_184 4 27 (dk_at dksJ4_init_2_2 11 rfl rfl)
theorem dJ4_init_2_62 : decode cJ4_init_2 62 = .ok (.putfield 9, 3) := dk_181 0 9 (dk_at dksJ4_init_2_2 14 rfl rfl)
theorem dJ4_init_2_65 : decode cJ4_init_2 65 = .ok (.aload_n 0, 1) := dk_42 (dk_at dksJ4_init_2_2 17 rfl rfl)
theorem dJ4_init_2_66 : decode cJ4_init_2 66 = .ok (.aload_n 0, 1) := dk_42 (dk_at dksJ4_init_2_2 18 rfl rfl)
theorem dJ4_init_2_67 : decode cJ4_init_2 67 = .ok (.getfield 9, 3) := dk_180 0 9 (dk_at dksJ4_init_2_2 19 rfl rfl)
theorem dJ4_init_2_70 : decode cJ4_init_2 70 = .ok (.iload 4, 2) := dk_21 4 (dk_at dksJ4_init_2_2 22 rfl rfl)
theorem dJ4_init_2_72 : decode cJ4_init_2 72 = .ok (.invokestatic 47, 3) := dk_184 0 47 (dk_at dksJ4_init_2_3 0 rfl rfl)
theorem dJ4_init_2_75 : decode cJ4_init_2 75 = .ok (.putfield 15, 3) := dk_181 0 15 (dk_at dksJ4_init_2_3 3 rfl rfl)
theorem dJ4_init_2_78 : decode cJ4_init_2 78 = .ok (.return_, 1) := dk_177 (dk_at dksJ4_init_2_3 6 rfl rfl)
theorem dJ4_init_2_79 : decode cJ4_init_2 79 = .ok (.aload_n 0, 1) := dk_42 (dk_at dksJ4_init_2_3 7 rfl rfl)
theorem dJ4_init_2_80 : decode cJ4_init_2 80 = .ok (.iconst 1, 1) := dk_4 (dk_at dksJ4_init_2_3 8 rfl rfl)
theorem dJ4_init_2_81 : decode cJ4_init_2 81 = .ok (.putfield 15, 3) := dk_181 0 15 (dk_at dksJ4_init_2_3 9 rfl rfl)
theorem dJ4_init_2_84 : decode cJ4_init_2 84 = .ok (.aload_n 0, 1) := dk_42 (dk_at dksJ4_init_2_3 12 rfl rfl)
theorem dJ4_init_2_85 : decode cJ4_init_2 85 = .ok (.aload_n 3, 1) := dk_45 (dk_at dksJ4_init_2_3 13 rfl rfl)
theorem dJ4_init_2_86 : decode cJ4_init_2 86 = .ok (.iconst 0, 1) := dk_3 (dk_at dksJ4_init_2_3 14 rfl rfl)
theorem dJ4_init_2_87 : decode cJ4_init_2 87 = .ok (.iload 4, 2) := dk_21 4 (dk_at dksJ4_init_2_3 15 rfl rfl)
theorem dJ4_init_2_89 : decode cJ4_init_2 89 = .ok (.iconst 1, 1) := dk_4 (dk_at dksJ4_init_2_3 17 rfl rfl)
theorem dJ4_init_2_90 : decode cJ4_init_2 90 = .ok (.ishl, 1) := dk_120 (dk_at dksJ4_init_2_3 18 rfl rfl)
theorem dJ4_init_2_91 : decode cJ4_init_2 91 = .ok (.invokestatic 54, 3) := dk_184 0 54 (dk_at dksJ4_init_2_3 19 rfl rfl)
theorem dJ4_init_2_94 : decode cJ4_init_2 94 = .ok (.putfield 9, 3) := dk_181 0 9 (dk_at dksJ4_init_2_4 0 rfl rfl)
theorem dJ4_init_2_97 : decode cJ4_init_2 97 = .ok (.return_, 1) := dk_177 (dk_at dksJ4_init_2_4 3 rfl rfl)
abbrev cJ4_contains : ByteArray := prog_46_method_97_code
def yJ4_contains : MethodName := ⟨RJ4, "contains", "(Ljava/lang/CharSequence;)Z"⟩
def dkwJ4_contains_0 : List UInt8 := [42, 43, 185, 2, 198, 1, 0, 182, 2, 199, 155, 0, 7, 4, 167, 0, 4, 3, 172]
abbrev dktJ4_contains_0 : List UInt8 := dkwJ4_contains_0 ++ []
theorem dksJ4_contains_0 : cJ4_contains.data.toList.drop 0 = dktJ4_contains_0 := by decide +kernel
theorem dJ4_contains_0 : decode cJ4_contains 0 = .ok (.aload_n 0, 1) := dk_42 (dk_at dksJ4_contains_0 0 rfl rfl)
theorem dJ4_contains_1 : decode cJ4_contains 1 = .ok (.aload_n 1, 1) := dk_43 (dk_at dksJ4_contains_0 1 rfl rfl)
theorem dJ4_contains_2 : decode cJ4_contains 2 = .ok (.invokeinterface 710 1, 5) := by decide +kernel
theorem dJ4_contains_7 : decode cJ4_contains 7 = .ok (.invokevirtual 711, 3) := dk_182 2 199 (dk_at dksJ4_contains_0 7 rfl rfl)
theorem dJ4_contains_10 : decode cJ4_contains 10 = .ok (.ifCond .lt 7, 3) := dk_155 0 7 (dk_at dksJ4_contains_0 10 rfl rfl)
theorem dJ4_contains_13 : decode cJ4_contains 13 = .ok (.iconst 1, 1) := dk_4 (dk_at dksJ4_contains_0 13 rfl rfl)
theorem dJ4_contains_14 : decode cJ4_contains 14 = .ok (.goto 4, 3) := dk_167 0 4 (dk_at dksJ4_contains_0 14 rfl rfl)
theorem dJ4_contains_17 : decode cJ4_contains 17 = .ok (.iconst 0, 1) := dk_3 (dk_at dksJ4_contains_0 17 rfl rfl)
theorem dJ4_contains_18 : decode cJ4_contains 18 = .ok (.ireturn, 1) := dk_172 (dk_at dksJ4_contains_0 18 rfl rfl)
abbrev cJ4_toString : ByteArray := prog_46_method_126_code
def yJ4_toString : MethodName := ⟨RJ4, "toString", "()Ljava/lang/String;"⟩
theorem dJ4_toString_0 : decode cJ4_toString 0 = .ok (.aload_n 0, 1) := by decide +kernel
theorem dJ4_toString_1 : decode cJ4_toString 1 = .ok (.areturn, 1) := by decide +kernel
abbrev cJ4_indexOf : ByteArray := prog_46_method_84_code
def yJ4_indexOf : MethodName := ⟨RJ4, "indexOf", "(Ljava/lang/String;)I"⟩
def dkwJ4_indexOf_2 : List UInt8 := [154, 0, 5, 2, 172, 42, 180, 0, 9, 43, 180, 0, 9, 184, 2, 138, 172]
abbrev dktJ4_indexOf_2 : List UInt8 := dkwJ4_indexOf_2 ++ []
def dkwJ4_indexOf_1 : List UInt8 := [43, 180, 0, 9, 184, 2, 135, 167, 0, 14, 42, 180, 0, 9, 43, 180, 0, 9, 184, 2, 137, 172, 28]
abbrev dktJ4_indexOf_1 : List UInt8 := dkwJ4_indexOf_1 ++ dktJ4_indexOf_2
def dkwJ4_indexOf_0 : List UInt8 := [42, 182, 1, 79, 61, 28, 43, 182, 1, 79, 160, 0, 36, 42, 182, 1, 236, 153, 0, 17, 42, 180, 0, 9]
abbrev dktJ4_indexOf_0 : List UInt8 := dkwJ4_indexOf_0 ++ dktJ4_indexOf_1
theorem dksJ4_indexOf_0 : cJ4_indexOf.data.toList.drop 0 = dktJ4_indexOf_0 := by decide +kernel
theorem dksJ4_indexOf_1 : cJ4_indexOf.data.toList.drop 24 = dktJ4_indexOf_1 := dk_seg dksJ4_indexOf_0 24 rfl rfl
theorem dksJ4_indexOf_2 : cJ4_indexOf.data.toList.drop 47 = dktJ4_indexOf_2 := dk_seg dksJ4_indexOf_1 23 rfl rfl
theorem dJ4_indexOf_0 : decode cJ4_indexOf 0 = .ok (.aload_n 0, 1) := dk_42 (dk_at dksJ4_indexOf_0 0 rfl rfl)
theorem dJ4_indexOf_1 : decode cJ4_indexOf 1 = .ok (.invokevirtual 335, 3) := dk_182 1 79 (dk_at dksJ4_indexOf_0 1 rfl rfl)
theorem dJ4_indexOf_4 : decode cJ4_indexOf 4 = .ok (.istore_n 2, 1) := dk_61 (dk_at dksJ4_indexOf_0 4 rfl rfl)
theorem dJ4_indexOf_5 : decode cJ4_indexOf 5 = .ok (.iload_n 2, 1) := dk_28 (dk_at dksJ4_indexOf_0 5 rfl rfl)
theorem dJ4_indexOf_6 : decode cJ4_indexOf 6 = .ok (.aload_n 1, 1) := dk_43 (dk_at dksJ4_indexOf_0 6 rfl rfl)
theorem dJ4_indexOf_7 : decode cJ4_indexOf 7 = .ok (.invokevirtual 335, 3) := dk_182 1 79 (dk_at dksJ4_indexOf_0 7 rfl rfl)
theorem dJ4_indexOf_10 : decode cJ4_indexOf 10 = .ok (.if_icmp .ne 36, 3) := dk_160 0 36 (dk_at dksJ4_indexOf_0 10 rfl rfl)
theorem dJ4_indexOf_13 : decode cJ4_indexOf 13 = .ok (.aload_n 0, 1) := dk_42 (dk_at dksJ4_indexOf_0 13 rfl rfl)
theorem dJ4_indexOf_14 : decode cJ4_indexOf 14 = .ok (.invokevirtual 492, 3) := dk_182 1 236 (dk_at dksJ4_indexOf_0 14 rfl rfl)
theorem dJ4_indexOf_17 : decode cJ4_indexOf 17 = .ok (.ifCond .eq 17, 3) := dk_153 0 17 (dk_at dksJ4_indexOf_0 17 rfl rfl)
theorem dJ4_indexOf_20 : decode cJ4_indexOf 20 = .ok (.aload_n 0, 1) := dk_42 (dk_at dksJ4_indexOf_0 20 rfl rfl)
theorem dJ4_indexOf_21 : decode cJ4_indexOf 21 = .ok (.getfield 9, 3) := dk_180 0 9 (dk_at dksJ4_indexOf_0 21 rfl rfl)
theorem dJ4_indexOf_24 : decode cJ4_indexOf 24 = .ok (.aload_n 1, 1) := dk_43 (dk_at dksJ4_indexOf_1 0 rfl rfl)
theorem dJ4_indexOf_25 : decode cJ4_indexOf 25 = .ok (.getfield 9, 3) := dk_180 0 9 (dk_at dksJ4_indexOf_1 1 rfl rfl)
theorem dJ4_indexOf_28 : decode cJ4_indexOf 28 = .ok (.invokestatic 647, 3) := dk_184 2 135 (dk_at dksJ4_indexOf_1 4 rfl rfl)
theorem dJ4_indexOf_31 : decode cJ4_indexOf 31 = .ok (.goto 14, 3) := dk_167 0 14 (dk_at dksJ4_indexOf_1 7 rfl rfl)
theorem dJ4_indexOf_34 : decode cJ4_indexOf 34 = .ok (.aload_n 0, 1) := dk_42 (dk_at dksJ4_indexOf_1 10 rfl rfl)
theorem dJ4_indexOf_35 : decode cJ4_indexOf 35 = .ok (.getfield 9, 3) := dk_180 0 9 (dk_at dksJ4_indexOf_1 11 rfl rfl)
theorem dJ4_indexOf_38 : decode cJ4_indexOf 38 = .ok (.aload_n 1, 1) := dk_43 (dk_at dksJ4_indexOf_1 14 rfl rfl)
theorem dJ4_indexOf_39 : decode cJ4_indexOf 39 = .ok (.getfield 9, 3) := dk_180 0 9 (dk_at dksJ4_indexOf_1 15 rfl rfl)
theorem dJ4_indexOf_42 : decode cJ4_indexOf 42 = .ok (.invokestatic 649, 3) := dk_184 2 137 (dk_at dksJ4_indexOf_1 18 rfl rfl)
theorem dJ4_indexOf_45 : decode cJ4_indexOf 45 = .ok (.ireturn, 1) := dk_172 (dk_at dksJ4_indexOf_1 21 rfl rfl)
theorem dJ4_indexOf_46 : decode cJ4_indexOf 46 = .ok (.iload_n 2, 1) := dk_28 (dk_at dksJ4_indexOf_1 22 rfl rfl)
theorem dJ4_indexOf_47 : decode cJ4_indexOf 47 = .ok (.ifCond .ne 5, 3) := dk_154 0 5 (dk_at dksJ4_indexOf_2 0 rfl rfl)
theorem dJ4_indexOf_50 : decode cJ4_indexOf 50 = .ok (.iconst (-1), 1) := dk_2 (dk_at dksJ4_indexOf_2 3 rfl rfl)
theorem dJ4_indexOf_51 : decode cJ4_indexOf 51 = .ok (.ireturn, 1) := dk_172 (dk_at dksJ4_indexOf_2 4 rfl rfl)
theorem dJ4_indexOf_52 : decode cJ4_indexOf 52 = .ok (.aload_n 0, 1) := dk_42 (dk_at dksJ4_indexOf_2 5 rfl rfl)
theorem dJ4_indexOf_53 : decode cJ4_indexOf 53 = .ok (.getfield 9, 3) := dk_180 0 9 (dk_at dksJ4_indexOf_2 6 rfl rfl)
theorem dJ4_indexOf_56 : decode cJ4_indexOf 56 = .ok (.aload_n 1, 1) := dk_43 (dk_at dksJ4_indexOf_2 9 rfl rfl)
theorem dJ4_indexOf_57 : decode cJ4_indexOf 57 = .ok (.getfield 9, 3) := dk_180 0 9 (dk_at dksJ4_indexOf_2 10 rfl rfl)
theorem dJ4_indexOf_60 : decode cJ4_indexOf 60 = .ok (.invokestatic 650, 3) := dk_184 2 138 (dk_at dksJ4_indexOf_2 13 rfl rfl)
theorem dJ4_indexOf_63 : decode cJ4_indexOf 63 = .ok (.ireturn, 1) := dk_172 (dk_at dksJ4_indexOf_2 16 rfl rfl)
abbrev cJ4_isLatin1 : ByteArray := prog_46_method_154_code
def yJ4_isLatin1 : MethodName := ⟨RJ4, "isLatin1", "()Z"⟩
def dkwJ4_isLatin1_0 : List UInt8 := [178, 0, 38, 153, 0, 14, 42, 180, 0, 15, 154, 0, 7, 4, 167, 0, 4, 3, 172]
abbrev dktJ4_isLatin1_0 : List UInt8 := dkwJ4_isLatin1_0 ++ []
theorem dksJ4_isLatin1_0 : cJ4_isLatin1.data.toList.drop 0 = dktJ4_isLatin1_0 := by decide +kernel
theorem dJ4_isLatin1_0 : decode cJ4_isLatin1 0 = .ok (.getstatic 38, 3) := dk_178 0 38 (dk_at dksJ4_isLatin1_0 0 rfl rfl)
theorem dJ4_isLatin1_3 : decode cJ4_isLatin1 3 = .ok (.ifCond .eq 14, 3) := dk_153 0 14 (dk_at dksJ4_isLatin1_0 3 rfl rfl)
theorem dJ4_isLatin1_6 : decode cJ4_isLatin1 6 = .ok (.aload_n 0, 1) := dk_42 (dk_at dksJ4_isLatin1_0 6 rfl rfl)
theorem dJ4_isLatin1_7 : decode cJ4_isLatin1 7 = .ok (.getfield 15, 3) := dk_180 0 15 (dk_at dksJ4_isLatin1_0 7 rfl rfl)
theorem dJ4_isLatin1_10 : decode cJ4_isLatin1 10 = .ok (.ifCond .ne 7, 3) := dk_154 0 7 (dk_at dksJ4_isLatin1_0 10 rfl rfl)
theorem dJ4_isLatin1_13 : decode cJ4_isLatin1 13 = .ok (.iconst 1, 1) := dk_4 (dk_at dksJ4_isLatin1_0 13 rfl rfl)
theorem dJ4_isLatin1_14 : decode cJ4_isLatin1 14 = .ok (.goto 4, 3) := dk_167 0 4 (dk_at dksJ4_isLatin1_0 14 rfl rfl)
theorem dJ4_isLatin1_17 : decode cJ4_isLatin1 17 = .ok (.iconst 0, 1) := dk_3 (dk_at dksJ4_isLatin1_0 17 rfl rfl)
theorem dJ4_isLatin1_18 : decode cJ4_isLatin1 18 = .ok (.ireturn, 1) := dk_172 (dk_at dksJ4_isLatin1_0 18 rfl rfl)
abbrev cJ4_indexOf_2 : ByteArray := prog_46_method_79_code
def yJ4_indexOf_2 : MethodName := ⟨RJ4, "indexOf", "(I)I"⟩
def dkwJ4_indexOf_2_0 : List UInt8 := [42, 27, 3, 182, 2, 121, 172]
abbrev dktJ4_indexOf_2_0 : List UInt8 := dkwJ4_indexOf_2_0 ++ []
theorem dksJ4_indexOf_2_0 : cJ4_indexOf_2.data.toList.drop 0 = dktJ4_indexOf_2_0 := by decide +kernel
theorem dJ4_indexOf_2_0 : decode cJ4_indexOf_2 0 = .ok (.aload_n 0, 1) := dk_42 (dk_at dksJ4_indexOf_2_0 0 rfl rfl)
theorem dJ4_indexOf_2_1 : decode cJ4_indexOf_2 1 = .ok (.iload_n 1, 1) := dk_27 (dk_at dksJ4_indexOf_2_0 1 rfl rfl)
theorem dJ4_indexOf_2_2 : decode cJ4_indexOf_2 2 = .ok (.iconst 0, 1) := dk_3 (dk_at dksJ4_indexOf_2_0 2 rfl rfl)
theorem dJ4_indexOf_2_3 : decode cJ4_indexOf_2 3 = .ok (.invokevirtual 633, 3) := dk_182 2 121 (dk_at dksJ4_indexOf_2_0 3 rfl rfl)
theorem dJ4_indexOf_2_6 : decode cJ4_indexOf_2 6 = .ok (.ireturn, 1) := dk_172 (dk_at dksJ4_indexOf_2_0 6 rfl rfl)
abbrev cJ4_indexOf_3 : ByteArray := prog_46_method_80_code
def yJ4_indexOf_3 : MethodName := ⟨RJ4, "indexOf", "(II)I"⟩
def dkwJ4_indexOf_3_1 : List UInt8 := [180, 0, 9, 27, 28, 42, 182, 1, 249, 184, 2, 128, 172]
abbrev dktJ4_indexOf_3_1 : List UInt8 := dkwJ4_indexOf_3_1 ++ []
def dkwJ4_indexOf_3_0 : List UInt8 := [42, 182, 1, 236, 153, 0, 19, 42, 180, 0, 9, 27, 28, 42, 182, 1, 249, 184, 2, 125, 167, 0, 16, 42]
abbrev dktJ4_indexOf_3_0 : List UInt8 := dkwJ4_indexOf_3_0 ++ dktJ4_indexOf_3_1
theorem dksJ4_indexOf_3_0 : cJ4_indexOf_3.data.toList.drop 0 = dktJ4_indexOf_3_0 := by decide +kernel
theorem dksJ4_indexOf_3_1 : cJ4_indexOf_3.data.toList.drop 24 = dktJ4_indexOf_3_1 := dk_seg dksJ4_indexOf_3_0 24 rfl rfl
theorem dJ4_indexOf_3_0 : decode cJ4_indexOf_3 0 = .ok (.aload_n 0, 1) := dk_42 (dk_at dksJ4_indexOf_3_0 0 rfl rfl)
theorem dJ4_indexOf_3_1 : decode cJ4_indexOf_3 1 = .ok (.invokevirtual 492, 3) := dk_182 1 236 (dk_at dksJ4_indexOf_3_0 1 rfl rfl)
theorem dJ4_indexOf_3_4 : decode cJ4_indexOf_3 4 = .ok (.ifCond .eq 19, 3) := dk_153 0 19 (dk_at dksJ4_indexOf_3_0 4 rfl rfl)
theorem dJ4_indexOf_3_7 : decode cJ4_indexOf_3 7 = .ok (.aload_n 0, 1) := dk_42 (dk_at dksJ4_indexOf_3_0 7 rfl rfl)
theorem dJ4_indexOf_3_8 : decode cJ4_indexOf_3 8 = .ok (.getfield 9, 3) := dk_180 0 9 (dk_at dksJ4_indexOf_3_0 8 rfl rfl)
theorem dJ4_indexOf_3_11 : decode cJ4_indexOf_3 11 = .ok (.iload_n 1, 1) := dk_27 (dk_at dksJ4_indexOf_3_0 11 rfl rfl)
theorem dJ4_indexOf_3_12 : decode cJ4_indexOf_3 12 = .ok (.iload_n 2, 1) := dk_28 (dk_at dksJ4_indexOf_3_0 12 rfl rfl)
theorem dJ4_indexOf_3_13 : decode cJ4_indexOf_3 13 = .ok (.aload_n 0, 1) := dk_42 (dk_at dksJ4_indexOf_3_0 13 rfl rfl)
theorem dJ4_indexOf_3_14 : decode cJ4_indexOf_3 14 = .ok (.invokevirtual 505, 3) := dk_182 1 249 (dk_at dksJ4_indexOf_3_0 14 rfl rfl)
theorem dJ4_indexOf_3_17 : decode cJ4_indexOf_3 17 = .ok (.invokestatic 637, 3) := dk_184 2 125 (dk_at dksJ4_indexOf_3_0 17 rfl rfl)
theorem dJ4_indexOf_3_20 : decode cJ4_indexOf_3 20 = .ok (.goto 16, 3) := dk_167 0 16 (dk_at dksJ4_indexOf_3_0 20 rfl rfl)
theorem dJ4_indexOf_3_23 : decode cJ4_indexOf_3 23 = .ok (.aload_n 0, 1) := dk_42 (dk_at dksJ4_indexOf_3_0 23 rfl rfl)
theorem dJ4_indexOf_3_24 : decode cJ4_indexOf_3 24 = .ok (.getfield 9, 3) := dk_180 0 9 (dk_at dksJ4_indexOf_3_1 0 rfl rfl)
theorem dJ4_indexOf_3_27 : decode cJ4_indexOf_3 27 = .ok (.iload_n 1, 1) := dk_27 (dk_at dksJ4_indexOf_3_1 3 rfl rfl)
theorem dJ4_indexOf_3_28 : decode cJ4_indexOf_3 28 = .ok (.iload_n 2, 1) := dk_28 (dk_at dksJ4_indexOf_3_1 4 rfl rfl)
theorem dJ4_indexOf_3_29 : decode cJ4_indexOf_3 29 = .ok (.aload_n 0, 1) := dk_42 (dk_at dksJ4_indexOf_3_1 5 rfl rfl)
theorem dJ4_indexOf_3_30 : decode cJ4_indexOf_3 30 = .ok (.invokevirtual 505, 3) := dk_182 1 249 (dk_at dksJ4_indexOf_3_1 6 rfl rfl)
theorem dJ4_indexOf_3_33 : decode cJ4_indexOf_3 33 = .ok (.invokestatic 640, 3) := dk_184 2 128 (dk_at dksJ4_indexOf_3_1 9 rfl rfl)
theorem dJ4_indexOf_3_36 : decode cJ4_indexOf_3 36 = .ok (.ireturn, 1) := dk_172 (dk_at dksJ4_indexOf_3_1 12 rfl rfl)
abbrev cJ4_charAt : ByteArray := prog_46_method_56_code
def yJ4_charAt : MethodName := ⟨RJ4, "charAt", "(I)C"⟩
def dkwJ4_charAt_1 : List UInt8 := [172]
abbrev dktJ4_charAt_1 : List UInt8 := dkwJ4_charAt_1 ++ []
def dkwJ4_charAt_0 : List UInt8 := [42, 182, 1, 236, 153, 0, 12, 42, 180, 0, 9, 27, 184, 1, 239, 172, 42, 180, 0, 9, 27, 184, 1, 242]
abbrev dktJ4_charAt_0 : List UInt8 := dkwJ4_charAt_0 ++ dktJ4_charAt_1
theorem dksJ4_charAt_0 : cJ4_charAt.data.toList.drop 0 = dktJ4_charAt_0 := by decide +kernel
theorem dksJ4_charAt_1 : cJ4_charAt.data.toList.drop 24 = dktJ4_charAt_1 := dk_seg dksJ4_charAt_0 24 rfl rfl
theorem dJ4_charAt_0 : decode cJ4_charAt 0 = .ok (.aload_n 0, 1) := dk_42 (dk_at dksJ4_charAt_0 0 rfl rfl)
theorem dJ4_charAt_1 : decode cJ4_charAt 1 = .ok (.invokevirtual 492, 3) := dk_182 1 236 (dk_at dksJ4_charAt_0 1 rfl rfl)
theorem dJ4_charAt_4 : decode cJ4_charAt 4 = .ok (.ifCond .eq 12, 3) := dk_153 0 12 (dk_at dksJ4_charAt_0 4 rfl rfl)
theorem dJ4_charAt_7 : decode cJ4_charAt 7 = .ok (.aload_n 0, 1) := dk_42 (dk_at dksJ4_charAt_0 7 rfl rfl)
theorem dJ4_charAt_8 : decode cJ4_charAt 8 = .ok (.getfield 9, 3) := dk_180 0 9 (dk_at dksJ4_charAt_0 8 rfl rfl)
theorem dJ4_charAt_11 : decode cJ4_charAt 11 = .ok (.iload_n 1, 1) := dk_27 (dk_at dksJ4_charAt_0 11 rfl rfl)
theorem dJ4_charAt_12 : decode cJ4_charAt 12 = .ok (.invokestatic 495, 3) := dk_184 1 239 (dk_at dksJ4_charAt_0 12 rfl rfl)
theorem dJ4_charAt_15 : decode cJ4_charAt 15 = .ok (.ireturn, 1) := dk_172 (dk_at dksJ4_charAt_0 15 rfl rfl)
theorem dJ4_charAt_16 : decode cJ4_charAt 16 = .ok (.aload_n 0, 1) := dk_42 (dk_at dksJ4_charAt_0 16 rfl rfl)
theorem dJ4_charAt_17 : decode cJ4_charAt 17 = .ok (.getfield 9, 3) := dk_180 0 9 (dk_at dksJ4_charAt_0 17 rfl rfl)
theorem dJ4_charAt_20 : decode cJ4_charAt 20 = .ok (.iload_n 1, 1) := dk_27 (dk_at dksJ4_charAt_0 20 rfl rfl)
theorem dJ4_charAt_21 : decode cJ4_charAt 21 = .ok (.invokestatic 498, 3) := dk_184 1 242 (dk_at dksJ4_charAt_0 21 rfl rfl)
theorem dJ4_charAt_24 : decode cJ4_charAt 24 = .ok (.ireturn, 1) := dk_172 (dk_at dksJ4_charAt_1 0 rfl rfl)
theorem q150 : (Jvm.Cond.initialized "java/lang/String") ∈ lw_all := lw_g (lw_at lw_m1 8 rfl) rfl
theorem q320 : (Jvm.Cond.instanceMethod ({ cls := "java/lang/String", name := "length", desc := "()I" } : Jvm.MethodName)) ∈ lw_all := lw_g (lw_at lw_m1 178 rfl) rfl
theorem q321 : (Jvm.Cond.selects "java/lang/String" ({ cls := "java/lang/String", name := "length", desc := "()I" } : Jvm.MethodName) ({ cls := "java/lang/String", name := "length", desc := "()I" } : Jvm.MethodName)) ∈ lw_all := lw_g (lw_at lw_m1 179 rfl) rfl
theorem q322 : (Jvm.Cond.code ({ cls := "java/lang/String", name := "length", desc := "()I" } : Jvm.MethodName) prog_46_method_54_code (1 : Nat) (Option.some Jvm.ClassFile.FieldType.int)) ∈ lw_all := lw_g (lw_at lw_m1 180 rfl) rfl
theorem q323 : (Jvm.Cond.methodLink "java/lang/String" (335 : Nat) ({ cls := "java/lang/String", name := "coder", desc := "()B" } : Jvm.MethodName)) ∈ lw_all := lw_g (lw_at lw_m1 181 rfl) rfl
theorem q324 : (Jvm.Cond.instanceMethod ({ cls := "java/lang/String", name := "coder", desc := "()B" } : Jvm.MethodName)) ∈ lw_all := lw_g (lw_at lw_m1 182 rfl) rfl
theorem q325 : (Jvm.Cond.selects "java/lang/String" ({ cls := "java/lang/String", name := "coder", desc := "()B" } : Jvm.MethodName) ({ cls := "java/lang/String", name := "coder", desc := "()B" } : Jvm.MethodName)) ∈ lw_all := lw_g (lw_at lw_m1 183 rfl) rfl
theorem q326 : (Jvm.Cond.code ({ cls := "java/lang/String", name := "coder", desc := "()B" } : Jvm.MethodName) prog_46_method_152_code (1 : Nat) (Option.some Jvm.ClassFile.FieldType.byte)) ∈ lw_all := lw_g (lw_at lw_m1 184 rfl) rfl
theorem q327 : (Jvm.Cond.fieldLink "java/lang/String" (38 : Nat) "java/lang/String" "COMPACT_STRINGS" "Z") ∈ lw_all := lw_g (lw_at lw_m1 185 rfl) rfl
theorem q328 : (Jvm.Cond.laysStatic "java/lang/String" "COMPACT_STRINGS" "Z") ∈ lw_tbl := lw_at lw_m1 186 rfl
theorem q406 : (Jvm.Cond.static ({ cls := "java/lang/String", name := "checkBoundsBeginEnd", desc := "(III)V" } : Jvm.MethodName)) ∈ lw_all := lw_g (lw_at lw_m2 24 rfl) rfl
theorem q407 : (Jvm.Cond.code ({ cls := "java/lang/String", name := "checkBoundsBeginEnd", desc := "(III)V" } : Jvm.MethodName) prog_46_method_158_code (3 : Nat) (Option.none : Option Jvm.ClassFile.FieldType)) ∈ lw_all := lw_g (lw_at lw_m2 25 rfl) rfl
theorem q408 : (Jvm.Cond.fieldLink "java/lang/String" (1053 : Nat) "jdk/internal/util/Preconditions" "SIOOBE_FORMATTER" "Ljava/util/function/BiFunction;") ∈ lw_all := lw_g (lw_at lw_m2 26 rfl) rfl
theorem q410 : (Jvm.Cond.methodLink "java/lang/String" (1062 : Nat) ({ cls := "jdk/internal/util/Preconditions", name := "checkFromToIndex", desc := "(IIILjava/util/function/BiFunction;)I" } : Jvm.MethodName)) ∈ lw_all := lw_g (lw_at lw_m2 28 rfl) rfl
theorem q444 : (Jvm.Cond.static ({ cls := "java/lang/String", name := "checkBoundsOffCount", desc := "(III)I" } : Jvm.MethodName)) ∈ lw_all := lw_g (lw_at lw_m2 62 rfl) rfl
theorem q445 : (Jvm.Cond.code ({ cls := "java/lang/String", name := "checkBoundsOffCount", desc := "(III)I" } : Jvm.MethodName) prog_46_method_157_code (3 : Nat) (Option.some Jvm.ClassFile.FieldType.int)) ∈ lw_all := lw_g (lw_at lw_m2 63 rfl) rfl
theorem q446 : (Jvm.Cond.methodLink "java/lang/String" (1065 : Nat) ({ cls := "jdk/internal/util/Preconditions", name := "checkFromIndexSize", desc := "(IIILjava/util/function/BiFunction;)I" } : Jvm.MethodName)) ∈ lw_all := lw_g (lw_at lw_m2 64 rfl) rfl
theorem q450 : (Jvm.Cond.instanceMethod ({ cls := "java/lang/String", name := "getBytes", desc := "([BIB)V" } : Jvm.MethodName)) ∈ lw_all := lw_g (lw_at lw_m2 68 rfl) rfl
theorem q451 : (Jvm.Cond.selects "java/lang/String" ({ cls := "java/lang/String", name := "getBytes", desc := "([BIB)V" } : Jvm.MethodName) ({ cls := "java/lang/String", name := "getBytes", desc := "([BIB)V" } : Jvm.MethodName)) ∈ lw_all := lw_g (lw_at lw_m2 69 rfl) rfl
theorem q452 : (Jvm.Cond.code ({ cls := "java/lang/String", name := "getBytes", desc := "([BIB)V" } : Jvm.MethodName) prog_46_method_147_code (4 : Nat) (Option.none : Option Jvm.ClassFile.FieldType)) ∈ lw_all := lw_g (lw_at lw_m2 70 rfl) rfl
theorem q453 : (Jvm.Cond.methodLink "java/lang/String" (212 : Nat) ({ cls := "java/lang/System", name := "arraycopy", desc := "(Ljava/lang/Object;ILjava/lang/Object;II)V" } : Jvm.MethodName)) ∈ lw_all := lw_g (lw_at lw_m2 71 rfl) rfl
theorem q454 : (Jvm.Cond.methodLink "java/lang/String" (106 : Nat) ({ cls := "java/lang/StringLatin1", name := "inflate", desc := "([BI[BII)V" } : Jvm.MethodName)) ∈ lw_all := lw_g (lw_at lw_m2 72 rfl) rfl
theorem q457 : (Jvm.Cond.fieldLink "java/lang/String" (1048 : Nat) "java/lang/AbstractStringBuilder" "maybeLatin1" "Z") ∈ lw_all := lw_g (lw_at lw_m2 75 rfl) rfl
theorem q485 : (Jvm.Cond.static ({ cls := "java/lang/String", name := "checkIndex", desc := "(II)V" } : Jvm.MethodName)) ∈ lw_all := lw_g (lw_at lw_m2 103 rfl) rfl
theorem q486 : (Jvm.Cond.code ({ cls := "java/lang/String", name := "checkIndex", desc := "(II)V" } : Jvm.MethodName) prog_46_method_155_code (2 : Nat) (Option.none : Option Jvm.ClassFile.FieldType)) ∈ lw_all := lw_g (lw_at lw_m2 104 rfl) rfl
theorem q487 : (Jvm.Cond.methodLink "java/lang/String" (1059 : Nat) ({ cls := "jdk/internal/util/Preconditions", name := "checkIndex", desc := "(IILjava/util/function/BiFunction;)I" } : Jvm.MethodName)) ∈ lw_all := lw_g (lw_at lw_m2 105 rfl) rfl
theorem q496 : (Jvm.Cond.instantiable "java/lang/String" (4 : Nat)) ∈ lw_all := lw_g (lw_at lw_m2 114 rfl) rfl
theorem q498 : (Jvm.Cond.instanceMethod ({ cls := "java/lang/String", name := "<init>", desc := "(Ljava/lang/StringBuilder;)V" } : Jvm.MethodName)) ∈ lw_all := lw_g (lw_at lw_m2 116 rfl) rfl
theorem q499 : (Jvm.Cond.code ({ cls := "java/lang/String", name := "<init>", desc := "(Ljava/lang/StringBuilder;)V" } : Jvm.MethodName) prog_46_method_53_code (2 : Nat) (Option.none : Option Jvm.ClassFile.FieldType)) ∈ lw_all := lw_g (lw_at lw_m2 117 rfl) rfl
theorem q500 : (Jvm.Cond.methodLink "java/lang/String" (489 : Nat) ({ cls := "java/lang/String", name := "<init>", desc := "(Ljava/lang/AbstractStringBuilder;Ljava/lang/Void;)V" } : Jvm.MethodName)) ∈ lw_all := lw_g (lw_at lw_m2 118 rfl) rfl
theorem q501 : (Jvm.Cond.instanceMethod ({ cls := "java/lang/String", name := "<init>", desc := "(Ljava/lang/AbstractStringBuilder;Ljava/lang/Void;)V" } : Jvm.MethodName)) ∈ lw_all := lw_g (lw_at lw_m2 119 rfl) rfl
theorem q502 : (Jvm.Cond.code ({ cls := "java/lang/String", name := "<init>", desc := "(Ljava/lang/AbstractStringBuilder;Ljava/lang/Void;)V" } : Jvm.MethodName) prog_46_method_150_code (5 : Nat) (Option.none : Option Jvm.ClassFile.FieldType)) ∈ lw_all := lw_g (lw_at lw_m2 120 rfl) rfl
theorem q503 : (Jvm.Cond.methodLink "java/lang/String" (1 : Nat) ({ cls := "java/lang/Object", name := "<init>", desc := "()V" } : Jvm.MethodName)) ∈ lw_all := lw_g (lw_at lw_m2 121 rfl) rfl
theorem q504 : (Jvm.Cond.methodLink "java/lang/String" (552 : Nat) ({ cls := "java/lang/AbstractStringBuilder", name := "getValue", desc := "()[B" } : Jvm.MethodName)) ∈ lw_all := lw_g (lw_at lw_m2 122 rfl) rfl
theorem q509 : (Jvm.Cond.methodLink "java/lang/String" (549 : Nat) ({ cls := "java/lang/AbstractStringBuilder", name := "length", desc := "()I" } : Jvm.MethodName)) ∈ lw_all := lw_g (lw_at lw_m2 127 rfl) rfl
theorem q517 : (Jvm.Cond.methodLink "java/lang/String" (1047 : Nat) ({ cls := "java/lang/AbstractStringBuilder", name := "isLatin1", desc := "()Z" } : Jvm.MethodName)) ∈ lw_all := lw_g (lw_at lw_m2 135 rfl) rfl
theorem q518 : (Jvm.Cond.methodLink "java/lang/String" (54 : Nat) ({ cls := "java/util/Arrays", name := "copyOfRange", desc := "([BII)[B" } : Jvm.MethodName)) ∈ lw_all := lw_g (lw_at lw_m2 136 rfl) rfl
theorem q527 : (Jvm.Cond.methodLink "java/lang/String" (1051 : Nat) ({ cls := "java/lang/StringUTF16", name := "compress", desc := "([BII)[B" } : Jvm.MethodName)) ∈ lw_all := lw_g (lw_at lw_m2 145 rfl) rfl
theorem q537 : (Jvm.Cond.methodLink "java/lang/String" (47 : Nat) ({ cls := "java/lang/StringUTF16", name := "coderFromArrayLen", desc := "([BI)B" } : Jvm.MethodName)) ∈ lw_all := lw_g (lw_at lw_m2 155 rfl) rfl
theorem q540 : (Jvm.Cond.fieldLink "java/lang/String" (9 : Nat) "java/lang/String" "value" "[B") ∈ lw_all := lw_g (lw_at lw_m2 158 rfl) rfl
theorem q541 : (Jvm.Cond.fieldLink "java/lang/String" (15 : Nat) "java/lang/String" "coder" "B") ∈ lw_all := lw_g (lw_at lw_m2 159 rfl) rfl
theorem q542 : (Jvm.Cond.laysFinal "java/lang/String" "java/lang/String" "value" "[B") ∈ lw_all := lw_g (lw_at lw_m2 160 rfl) rfl
theorem q543 : (Jvm.Cond.soleField "java/lang/String" "value") ∈ lw_all := lw_g (lw_at lw_m2 161 rfl) rfl
theorem q544 : (Jvm.Cond.laysFinal "java/lang/String" "java/lang/String" "coder" "B") ∈ lw_all := lw_g (lw_at lw_m2 162 rfl) rfl
theorem q545 : (Jvm.Cond.soleField "java/lang/String" "coder") ∈ lw_all := lw_g (lw_at lw_m2 163 rfl) rfl
theorem q546 : (Jvm.Cond.lays "java/lang/String" "java/lang/String" "hash" "I") ∈ lw_all := lw_g (lw_at lw_m2 164 rfl) rfl
theorem q547 : (Jvm.Cond.soleField "java/lang/String" "hash") ∈ lw_all := lw_g (lw_at lw_m2 165 rfl) rfl
theorem q548 : (Jvm.Cond.lays "java/lang/String" "java/lang/String" "hashIsZero" "Z") ∈ lw_all := lw_g (lw_at lw_m2 166 rfl) rfl
theorem q549 : (Jvm.Cond.soleField "java/lang/String" "hashIsZero") ∈ lw_all := lw_g (lw_at lw_m2 167 rfl) rfl
theorem q550 : (Jvm.Cond.superclass "java/lang/String" "java/lang/Object") ∈ lw_all := lw_g (lw_at lw_m2 168 rfl) rfl
theorem q552 : (Jvm.Cond.instanceMethod ({ cls := "java/lang/String", name := "contains", desc := "(Ljava/lang/CharSequence;)Z" } : Jvm.MethodName)) ∈ lw_all := lw_g (lw_at lw_m2 170 rfl) rfl
theorem q553 : (Jvm.Cond.selects "java/lang/String" ({ cls := "java/lang/String", name := "contains", desc := "(Ljava/lang/CharSequence;)Z" } : Jvm.MethodName) ({ cls := "java/lang/String", name := "contains", desc := "(Ljava/lang/CharSequence;)Z" } : Jvm.MethodName)) ∈ lw_all := lw_g (lw_at lw_m2 171 rfl) rfl
theorem q554 : (Jvm.Cond.code ({ cls := "java/lang/String", name := "contains", desc := "(Ljava/lang/CharSequence;)Z" } : Jvm.MethodName) prog_46_method_97_code (2 : Nat) (Option.some Jvm.ClassFile.FieldType.boolean)) ∈ lw_all := lw_g (lw_at lw_m2 172 rfl) rfl
theorem q555 : (Jvm.Cond.interfaceEntry "java/lang/String" (710 : Nat)) ∈ lw_tbl := lw_at lw_m2 173 rfl
theorem q556 : (Jvm.Cond.methodLink "java/lang/String" (710 : Nat) ({ cls := "java/lang/CharSequence", name := "toString", desc := "()Ljava/lang/String;" } : Jvm.MethodName)) ∈ lw_all := lw_g (lw_at lw_m2 174 rfl) rfl
theorem q559 : (Jvm.Cond.castable "java/lang/String" "java/lang/CharSequence") ∈ lw_tbl := lw_at lw_m2 177 rfl
theorem q560 : (Jvm.Cond.selects "java/lang/String" ({ cls := "java/lang/CharSequence", name := "toString", desc := "()Ljava/lang/String;" } : Jvm.MethodName) ({ cls := "java/lang/String", name := "toString", desc := "()Ljava/lang/String;" } : Jvm.MethodName)) ∈ lw_all := lw_g (lw_at lw_m2 178 rfl) rfl
theorem q561 : (Jvm.Cond.unhidden "java/lang/String" "toString" "()Ljava/lang/String;") ∈ lw_tbl := lw_at lw_m2 179 rfl
theorem q562 : (Jvm.Cond.instanceMethod ({ cls := "java/lang/String", name := "toString", desc := "()Ljava/lang/String;" } : Jvm.MethodName)) ∈ lw_all := lw_g (lw_at lw_m2 180 rfl) rfl
theorem q563 : (Jvm.Cond.publicMethod ({ cls := "java/lang/String", name := "toString", desc := "()Ljava/lang/String;" } : Jvm.MethodName)) ∈ lw_tbl := lw_at lw_m2 181 rfl
theorem q564 : (Jvm.Cond.code ({ cls := "java/lang/String", name := "toString", desc := "()Ljava/lang/String;" } : Jvm.MethodName) prog_46_method_126_code (1 : Nat) (Option.some (Jvm.ClassFile.FieldType.object "java/lang/String"))) ∈ lw_all := lw_g (lw_at lw_m2 182 rfl) rfl
theorem q569 : (Jvm.Cond.methodLink "java/lang/String" (711 : Nat) ({ cls := "java/lang/String", name := "indexOf", desc := "(Ljava/lang/String;)I" } : Jvm.MethodName)) ∈ lw_all := lw_g (lw_at lw_m2 187 rfl) rfl
theorem q570 : (Jvm.Cond.instanceMethod ({ cls := "java/lang/String", name := "indexOf", desc := "(Ljava/lang/String;)I" } : Jvm.MethodName)) ∈ lw_all := lw_g (lw_at lw_m2 188 rfl) rfl
theorem q571 : (Jvm.Cond.selects "java/lang/String" ({ cls := "java/lang/String", name := "indexOf", desc := "(Ljava/lang/String;)I" } : Jvm.MethodName) ({ cls := "java/lang/String", name := "indexOf", desc := "(Ljava/lang/String;)I" } : Jvm.MethodName)) ∈ lw_all := lw_g (lw_at lw_m2 189 rfl) rfl
theorem q572 : (Jvm.Cond.code ({ cls := "java/lang/String", name := "indexOf", desc := "(Ljava/lang/String;)I" } : Jvm.MethodName) prog_46_method_84_code (3 : Nat) (Option.some Jvm.ClassFile.FieldType.int)) ∈ lw_all := lw_g (lw_at lw_m2 190 rfl) rfl
theorem q573 : (Jvm.Cond.methodLink "java/lang/String" (492 : Nat) ({ cls := "java/lang/String", name := "isLatin1", desc := "()Z" } : Jvm.MethodName)) ∈ lw_all := lw_g (lw_at lw_m2 191 rfl) rfl
theorem q574 : (Jvm.Cond.instanceMethod ({ cls := "java/lang/String", name := "isLatin1", desc := "()Z" } : Jvm.MethodName)) ∈ lw_all := lw_g (lw_at lw_m2 192 rfl) rfl
theorem q575 : (Jvm.Cond.selects "java/lang/String" ({ cls := "java/lang/String", name := "isLatin1", desc := "()Z" } : Jvm.MethodName) ({ cls := "java/lang/String", name := "isLatin1", desc := "()Z" } : Jvm.MethodName)) ∈ lw_all := lw_g (lw_at lw_m2 193 rfl) rfl
theorem q576 : (Jvm.Cond.code ({ cls := "java/lang/String", name := "isLatin1", desc := "()Z" } : Jvm.MethodName) prog_46_method_154_code (1 : Nat) (Option.some Jvm.ClassFile.FieldType.boolean)) ∈ lw_all := lw_g (lw_at lw_m2 194 rfl) rfl
theorem q577 : (Jvm.Cond.methodLink "java/lang/String" (647 : Nat) ({ cls := "java/lang/StringLatin1", name := "indexOf", desc := "([B[B)I" } : Jvm.MethodName)) ∈ lw_all := lw_g (lw_at lw_m2 195 rfl) rfl
theorem q583 : (Jvm.Cond.methodLink "java/lang/String" (649 : Nat) ({ cls := "java/lang/StringUTF16", name := "indexOf", desc := "([B[B)I" } : Jvm.MethodName)) ∈ lw_all := lw_g (lw_at lw_m2 201 rfl) rfl
theorem q589 : (Jvm.Cond.methodLink "java/lang/String" (650 : Nat) ({ cls := "java/lang/StringUTF16", name := "indexOfLatin1", desc := "([B[B)I" } : Jvm.MethodName)) ∈ lw_all := lw_g (lw_at lw_m2 207 rfl) rfl
theorem q601 : (Jvm.Cond.instanceMethod ({ cls := "java/lang/String", name := "indexOf", desc := "(I)I" } : Jvm.MethodName)) ∈ lw_all := lw_g (lw_at lw_m2 219 rfl) rfl
theorem q602 : (Jvm.Cond.selects "java/lang/String" ({ cls := "java/lang/String", name := "indexOf", desc := "(I)I" } : Jvm.MethodName) ({ cls := "java/lang/String", name := "indexOf", desc := "(I)I" } : Jvm.MethodName)) ∈ lw_all := lw_g (lw_at lw_m2 220 rfl) rfl
theorem q603 : (Jvm.Cond.code ({ cls := "java/lang/String", name := "indexOf", desc := "(I)I" } : Jvm.MethodName) prog_46_method_79_code (2 : Nat) (Option.some Jvm.ClassFile.FieldType.int)) ∈ lw_all := lw_g (lw_at lw_m2 221 rfl) rfl
theorem q604 : (Jvm.Cond.methodLink "java/lang/String" (633 : Nat) ({ cls := "java/lang/String", name := "indexOf", desc := "(II)I" } : Jvm.MethodName)) ∈ lw_all := lw_g (lw_at lw_m2 222 rfl) rfl
theorem q605 : (Jvm.Cond.instanceMethod ({ cls := "java/lang/String", name := "indexOf", desc := "(II)I" } : Jvm.MethodName)) ∈ lw_all := lw_g (lw_at lw_m2 223 rfl) rfl
theorem q606 : (Jvm.Cond.selects "java/lang/String" ({ cls := "java/lang/String", name := "indexOf", desc := "(II)I" } : Jvm.MethodName) ({ cls := "java/lang/String", name := "indexOf", desc := "(II)I" } : Jvm.MethodName)) ∈ lw_all := lw_g (lw_at lw_m2 224 rfl) rfl
theorem q607 : (Jvm.Cond.code ({ cls := "java/lang/String", name := "indexOf", desc := "(II)I" } : Jvm.MethodName) prog_46_method_80_code (3 : Nat) (Option.some Jvm.ClassFile.FieldType.int)) ∈ lw_all := lw_g (lw_at lw_m2 225 rfl) rfl
theorem q608 : (Jvm.Cond.methodLink "java/lang/String" (505 : Nat) ({ cls := "java/lang/String", name := "length", desc := "()I" } : Jvm.MethodName)) ∈ lw_all := lw_g (lw_at lw_m2 226 rfl) rfl
theorem q609 : (Jvm.Cond.methodLink "java/lang/String" (637 : Nat) ({ cls := "java/lang/StringLatin1", name := "indexOf", desc := "([BIII)I" } : Jvm.MethodName)) ∈ lw_all := lw_g (lw_at lw_m2 227 rfl) rfl
theorem q620 : (Jvm.Cond.methodLink "java/lang/String" (640 : Nat) ({ cls := "java/lang/StringUTF16", name := "indexOf", desc := "([BIII)I" } : Jvm.MethodName)) ∈ lw_all := lw_g (lw_at lw_m2 238 rfl) rfl
theorem q653 : (Jvm.Cond.instanceMethod ({ cls := "java/lang/String", name := "charAt", desc := "(I)C" } : Jvm.MethodName)) ∈ lw_all := lw_g (lw_at lw_m3 31 rfl) rfl
theorem q654 : (Jvm.Cond.selects "java/lang/String" ({ cls := "java/lang/String", name := "charAt", desc := "(I)C" } : Jvm.MethodName) ({ cls := "java/lang/String", name := "charAt", desc := "(I)C" } : Jvm.MethodName)) ∈ lw_all := lw_g (lw_at lw_m3 32 rfl) rfl
theorem q655 : (Jvm.Cond.code ({ cls := "java/lang/String", name := "charAt", desc := "(I)C" } : Jvm.MethodName) prog_46_method_56_code (2 : Nat) (Option.some Jvm.ClassFile.FieldType.char)) ∈ lw_all := lw_g (lw_at lw_m3 33 rfl) rfl
theorem q656 : (Jvm.Cond.methodLink "java/lang/String" (495 : Nat) ({ cls := "java/lang/StringLatin1", name := "charAt", desc := "([BI)C" } : Jvm.MethodName)) ∈ lw_all := lw_g (lw_at lw_m3 34 rfl) rfl
theorem q660 : (Jvm.Cond.methodLink "java/lang/String" (498 : Nat) ({ cls := "java/lang/StringUTF16", name := "charAt", desc := "([BI)C" } : Jvm.MethodName)) ∈ lw_all := lw_g (lw_at lw_m3 38 rfl) rfl
theorem in_J4 : ∀ w ∈ wsJ40, w ∈ lw_all := lw_in wsJ40 [542, 544, 546, 548] (by decide +kernel) (by decide +kernel)

/-! java/lang/StringUTF16 -/
set_option maxRecDepth 100000
def RJ5 : String := "java/lang/StringUTF16"
abbrev cJ5_newBytesFor : ByteArray := prog_49_method_2_code
def yJ5_newBytesFor : MethodName := ⟨RJ5, "newBytesFor", "(I)[B"⟩
def dkwJ5_newBytesFor_0 : List UInt8 := [26, 184, 0, 11, 188, 8, 176]
abbrev dktJ5_newBytesFor_0 : List UInt8 := dkwJ5_newBytesFor_0 ++ []
theorem dksJ5_newBytesFor_0 : cJ5_newBytesFor.data.toList.drop 0 = dktJ5_newBytesFor_0 := by decide +kernel
theorem dJ5_newBytesFor_0 : decode cJ5_newBytesFor 0 = .ok (.iload_n 0, 1) := dk_26 (dk_at dksJ5_newBytesFor_0 0 rfl rfl)
theorem dJ5_newBytesFor_1 : decode cJ5_newBytesFor 1 = .ok (.invokestatic 11, 3) := dk_184 0 11 (dk_at dksJ5_newBytesFor_0 1 rfl rfl)
theorem dJ5_newBytesFor_4 : decode cJ5_newBytesFor 4 = .ok (.newarray .byte, 2) := dk_188_8 (dk_at dksJ5_newBytesFor_0 4 rfl rfl)
theorem dJ5_newBytesFor_6 : decode cJ5_newBytesFor 6 = .ok (.areturn, 1) := dk_176 (dk_at dksJ5_newBytesFor_0 6 rfl rfl)
abbrev cJ5_newBytesLength : ByteArray := prog_49_method_3_code
def yJ5_newBytesLength : MethodName := ⟨RJ5, "newBytesLength", "(I)I"⟩
def dkwJ5_newBytesLength_2 : List UInt8 := [182, 0, 32, 182, 0, 37, 183, 0, 41, 191, 26, 4, 120, 172]
abbrev dktJ5_newBytesLength_2 : List UInt8 := dkwJ5_newBytesLength_2 ++ []
def dkwJ5_newBytesLength_1 : List UInt8 := [187, 0, 23, 89, 183, 0, 25, 18, 26, 182, 0, 28, 26, 182, 0, 32, 18, 35, 182, 0, 28, 18, 20]
abbrev dktJ5_newBytesLength_1 : List UInt8 := dkwJ5_newBytesLength_1 ++ dktJ5_newBytesLength_2
def dkwJ5_newBytesLength_0 : List UInt8 := [26, 156, 0, 11, 187, 0, 17, 89, 183, 0, 19, 191, 26, 18, 20, 161, 0, 40, 187, 0, 21, 89]
abbrev dktJ5_newBytesLength_0 : List UInt8 := dkwJ5_newBytesLength_0 ++ dktJ5_newBytesLength_1
theorem dksJ5_newBytesLength_0 : cJ5_newBytesLength.data.toList.drop 0 = dktJ5_newBytesLength_0 := by decide +kernel
theorem dksJ5_newBytesLength_1 : cJ5_newBytesLength.data.toList.drop 22 = dktJ5_newBytesLength_1 := dk_seg dksJ5_newBytesLength_0 22 rfl rfl
theorem dksJ5_newBytesLength_2 : cJ5_newBytesLength.data.toList.drop 45 = dktJ5_newBytesLength_2 := dk_seg dksJ5_newBytesLength_1 23 rfl rfl
theorem dJ5_newBytesLength_0 : decode cJ5_newBytesLength 0 = .ok (.iload_n 0, 1) := dk_26 (dk_at dksJ5_newBytesLength_0 0 rfl rfl)
theorem dJ5_newBytesLength_1 : decode cJ5_newBytesLength 1 = .ok (.ifCond .ge 11, 3) := dk_156 0 11 (dk_at dksJ5_newBytesLength_0 1 rfl rfl)
theorem dJ5_newBytesLength_4 : decode cJ5_newBytesLength 4 = .ok (.new 17, 3) := dk_187 0 17 (dk_at dksJ5_newBytesLength_0 4 rfl rfl)
theorem dJ5_newBytesLength_7 : decode cJ5_newBytesLength 7 = .ok (.dup, 1) := dk_89 (dk_at dksJ5_newBytesLength_0 7 rfl rfl)
theorem dJ5_newBytesLength_8 : decode cJ5_newBytesLength 8 = .ok (.invokespecial 19, 3) := dk_183 0 19 (dk_at dksJ5_newBytesLength_0 8 rfl rfl)
theorem dJ5_newBytesLength_11 : decode cJ5_newBytesLength 11 = .ok (.athrow, 1) := dk_191 (dk_at dksJ5_newBytesLength_0 11 rfl rfl)
theorem dJ5_newBytesLength_12 : decode cJ5_newBytesLength 12 = .ok (.iload_n 0, 1) := dk_26 (dk_at dksJ5_newBytesLength_0 12 rfl rfl)
theorem dJ5_newBytesLength_13 : decode cJ5_newBytesLength 13 = .ok (.ldc 20, 2) := dk_18 20 (dk_at dksJ5_newBytesLength_0 13 rfl rfl)
theorem dJ5_newBytesLength_15 : decode cJ5_newBytesLength 15 = .ok (.if_icmp .lt 40, 3) := dk_161 0 40 (dk_at dksJ5_newBytesLength_0 15 rfl rfl)
theorem dJ5_newBytesLength_18 : decode cJ5_newBytesLength 18 = .ok (.new 21, 3) := dk_187 0 21 (dk_at dksJ5_newBytesLength_0 18 rfl rfl)
theorem dJ5_newBytesLength_21 : decode cJ5_newBytesLength 21 = .ok (.dup, 1) := dk_89 (dk_at dksJ5_newBytesLength_0 21 rfl rfl)
theorem dJ5_newBytesLength_22 : decode cJ5_newBytesLength 22 = .ok (.new 23, 3) := dk_187 0 23 (dk_at dksJ5_newBytesLength_1 0 rfl rfl)
theorem dJ5_newBytesLength_25 : decode cJ5_newBytesLength 25 = .ok (.dup, 1) := dk_89 (dk_at dksJ5_newBytesLength_1 3 rfl rfl)
theorem dJ5_newBytesLength_26 : decode cJ5_newBytesLength 26 = .ok (.invokespecial 25, 3) := dk_183 0 25 (dk_at dksJ5_newBytesLength_1 4 rfl rfl)
theorem dJ5_newBytesLength_29 : decode cJ5_newBytesLength 29 = .ok (.ldc 26, 2) := dk_18 26 (dk_at dksJ5_newBytesLength_1 7 rfl rfl)
theorem dJ5_newBytesLength_31 : decode cJ5_newBytesLength 31 = .ok (.invokevirtual 28, 3) := dk_182 0 28 (dk_at dksJ5_newBytesLength_1 9 rfl rfl)
theorem dJ5_newBytesLength_34 : decode cJ5_newBytesLength 34 = .ok (.iload_n 0, 1) := dk_26 (dk_at dksJ5_newBytesLength_1 12 rfl rfl)
theorem dJ5_newBytesLength_35 : decode cJ5_newBytesLength 35 = .ok (.invokevirtual 32, 3) := dk_182 0 32 (dk_at dksJ5_newBytesLength_1 13 rfl rfl)
theorem dJ5_newBytesLength_38 : decode cJ5_newBytesLength 38 = .ok (.ldc 35, 2) := dk_18 35 (dk_at dksJ5_newBytesLength_1 16 rfl rfl)
theorem dJ5_newBytesLength_40 : decode cJ5_newBytesLength 40 = .ok (.invokevirtual 28, 3) := dk_182 0 28 (dk_at dksJ5_newBytesLength_1 18 rfl rfl)
theorem dJ5_newBytesLength_43 : decode cJ5_newBytesLength 43 = .ok (.ldc 20, 2) := dk_18 20 (dk_at dksJ5_newBytesLength_1 21 rfl rfl)
theorem dJ5_newBytesLength_45 : decode cJ5_newBytesLength 45 = .ok (.invokevirtual 32, 3) := dk_182 0 32 (dk_at dksJ5_newBytesLength_2 0 rfl rfl)
theorem dJ5_newBytesLength_48 : decode cJ5_newBytesLength 48 = .ok (.invokevirtual 37, 3) := dk_182 0 37 (dk_at dksJ5_newBytesLength_2 3 rfl rfl)
theorem dJ5_newBytesLength_51 : decode cJ5_newBytesLength 51 = .ok (.invokespecial 41, 3) := dk_183 0 41 (dk_at dksJ5_newBytesLength_2 6 rfl rfl)
theorem dJ5_newBytesLength_54 : decode cJ5_newBytesLength 54 = .ok (.athrow, 1) := dk_191 (dk_at dksJ5_newBytesLength_2 9 rfl rfl)
theorem dJ5_newBytesLength_55 : decode cJ5_newBytesLength 55 = .ok (.iload_n 0, 1) := dk_26 (dk_at dksJ5_newBytesLength_2 10 rfl rfl)
theorem dJ5_newBytesLength_56 : decode cJ5_newBytesLength 56 = .ok (.iconst 1, 1) := dk_4 (dk_at dksJ5_newBytesLength_2 11 rfl rfl)
theorem dJ5_newBytesLength_57 : decode cJ5_newBytesLength 57 = .ok (.ishl, 1) := dk_120 (dk_at dksJ5_newBytesLength_2 12 rfl rfl)
theorem dJ5_newBytesLength_58 : decode cJ5_newBytesLength 58 = .ok (.ireturn, 1) := dk_172 (dk_at dksJ5_newBytesLength_2 13 rfl rfl)
abbrev cJ5_putCharsAt : ByteArray := prog_49_method_81_code
def yJ5_putCharsAt : MethodName := ⟨RJ5, "putCharsAt", "([BICCCC)I"⟩
def dkwJ5_putCharsAt_3 : List UInt8 := [21, 6, 172]
abbrev dktJ5_putCharsAt_3 : List UInt8 := dkwJ5_putCharsAt_3 ++ []
def dkwJ5_putCharsAt_2 : List UInt8 := [184, 0, 111, 178, 0, 44, 154, 0, 17, 27, 21, 6, 159, 0, 11, 187, 0, 52, 89, 183, 0, 66, 191]
abbrev dktJ5_putCharsAt_2 : List UInt8 := dkwJ5_putCharsAt_2 ++ dktJ5_putCharsAt_3
def dkwJ5_putCharsAt_1 : List UInt8 := [132, 1, 1, 29, 184, 0, 111, 42, 27, 132, 1, 1, 21, 4, 184, 0, 111, 42, 27, 132, 1, 1, 21, 5]
abbrev dktJ5_putCharsAt_1 : List UInt8 := dkwJ5_putCharsAt_1 ++ dktJ5_putCharsAt_2
def dkwJ5_putCharsAt_0 : List UInt8 := [27, 7, 96, 54, 6, 27, 21, 6, 42, 184, 0, 96, 42, 27, 132, 1, 1, 28, 184, 0, 111, 42, 27]
abbrev dktJ5_putCharsAt_0 : List UInt8 := dkwJ5_putCharsAt_0 ++ dktJ5_putCharsAt_1
theorem dksJ5_putCharsAt_0 : cJ5_putCharsAt.data.toList.drop 0 = dktJ5_putCharsAt_0 := by decide +kernel
theorem dksJ5_putCharsAt_1 : cJ5_putCharsAt.data.toList.drop 23 = dktJ5_putCharsAt_1 := dk_seg dksJ5_putCharsAt_0 23 rfl rfl
theorem dksJ5_putCharsAt_2 : cJ5_putCharsAt.data.toList.drop 47 = dktJ5_putCharsAt_2 := dk_seg dksJ5_putCharsAt_1 24 rfl rfl
theorem dksJ5_putCharsAt_3 : cJ5_putCharsAt.data.toList.drop 70 = dktJ5_putCharsAt_3 := dk_seg dksJ5_putCharsAt_2 23 rfl rfl
theorem dJ5_putCharsAt_0 : decode cJ5_putCharsAt 0 = .ok (.iload_n 1, 1) := dk_27 (dk_at dksJ5_putCharsAt_0 0 rfl rfl)
theorem dJ5_putCharsAt_1 : decode cJ5_putCharsAt 1 = .ok (.iconst 4, 1) := dk_7 (dk_at dksJ5_putCharsAt_0 1 rfl rfl)
theorem dJ5_putCharsAt_2 : decode cJ5_putCharsAt 2 = .ok (.iadd, 1) := dk_96 (dk_at dksJ5_putCharsAt_0 2 rfl rfl)
theorem dJ5_putCharsAt_3 : decode cJ5_putCharsAt 3 = .ok (.istore 6, 2) := dk_54 6 (dk_at dksJ5_putCharsAt_0 3 rfl rfl)
theorem dJ5_putCharsAt_5 : decode cJ5_putCharsAt 5 = .ok (.iload_n 1, 1) := dk_27 (dk_at dksJ5_putCharsAt_0 5 rfl rfl)
theorem dJ5_putCharsAt_6 : decode cJ5_putCharsAt 6 = .ok (.iload 6, 2) := dk_21 6 (dk_at dksJ5_putCharsAt_0 6 rfl rfl)
theorem dJ5_putCharsAt_8 : decode cJ5_putCharsAt 8 = .ok (.aload_n 0, 1) := dk_42 (dk_at dksJ5_putCharsAt_0 8 rfl rfl)
theorem dJ5_putCharsAt_9 : decode cJ5_putCharsAt 9 = .ok (.invokestatic 96, 3) := dk_184 0 96 (dk_at dksJ5_putCharsAt_0 9 rfl rfl)
theorem dJ5_putCharsAt_12 : decode cJ5_putCharsAt 12 = .ok (.aload_n 0, 1) := dk_42 (dk_at dksJ5_putCharsAt_0 12 rfl rfl)
theorem dJ5_putCharsAt_13 : decode cJ5_putCharsAt 13 = .ok (.iload_n 1, 1) := dk_27 (dk_at dksJ5_putCharsAt_0 13 rfl rfl)
theorem dJ5_putCharsAt_14 : decode cJ5_putCharsAt 14 = .ok (.iinc 1 1, 3) := dk_132 1 1 (dk_at dksJ5_putCharsAt_0 14 rfl rfl)
theorem dJ5_putCharsAt_17 : decode cJ5_putCharsAt 17 = .ok (.iload_n 2, 1) := dk_28 (dk_at dksJ5_putCharsAt_0 17 rfl rfl)
theorem dJ5_putCharsAt_18 : decode cJ5_putCharsAt 18 = .ok (.invokestatic 111, 3) := dk_184 0 111 (dk_at dksJ5_putCharsAt_0 18 rfl rfl)
theorem dJ5_putCharsAt_21 : decode cJ5_putCharsAt 21 = .ok (.aload_n 0, 1) := dk_42 (dk_at dksJ5_putCharsAt_0 21 rfl rfl)
theorem dJ5_putCharsAt_22 : decode cJ5_putCharsAt 22 = .ok (.iload_n 1, 1) := dk_27 (dk_at dksJ5_putCharsAt_0 22 rfl rfl)
theorem dJ5_putCharsAt_23 : decode cJ5_putCharsAt 23 = .ok (.iinc 1 1, 3) := dk_132 1 1 (dk_at dksJ5_putCharsAt_1 0 rfl rfl)
theorem dJ5_putCharsAt_26 : decode cJ5_putCharsAt 26 = .ok (.iload_n 3, 1) := dk_29 (dk_at dksJ5_putCharsAt_1 3 rfl rfl)
theorem dJ5_putCharsAt_27 : decode cJ5_putCharsAt 27 = .ok (.invokestatic 111, 3) := dk_184 0 111 (dk_at dksJ5_putCharsAt_1 4 rfl rfl)
theorem dJ5_putCharsAt_30 : decode cJ5_putCharsAt 30 = .ok (.aload_n 0, 1) := dk_42 (dk_at dksJ5_putCharsAt_1 7 rfl rfl)
theorem dJ5_putCharsAt_31 : decode cJ5_putCharsAt 31 = .ok (.iload_n 1, 1) := dk_27 (dk_at dksJ5_putCharsAt_1 8 rfl rfl)
theorem dJ5_putCharsAt_32 : decode cJ5_putCharsAt 32 = .ok (.iinc 1 1, 3) := dk_132 1 1 (dk_at dksJ5_putCharsAt_1 9 rfl rfl)
theorem dJ5_putCharsAt_35 : decode cJ5_putCharsAt 35 = .ok (.iload 4, 2) := dk_21 4 (dk_at dksJ5_putCharsAt_1 12 rfl rfl)
theorem dJ5_putCharsAt_37 : decode cJ5_putCharsAt 37 = .ok (.invokestatic 111, 3) := dk_184 0 111 (dk_at dksJ5_putCharsAt_1 14 rfl rfl)
theorem dJ5_putCharsAt_40 : decode cJ5_putCharsAt 40 = .ok (.aload_n 0, 1) := dk_42 (dk_at dksJ5_putCharsAt_1 17 rfl rfl)
theorem dJ5_putCharsAt_41 : decode cJ5_putCharsAt 41 = .ok (.iload_n 1, 1) := dk_27 (dk_at dksJ5_putCharsAt_1 18 rfl rfl)
theorem dJ5_putCharsAt_42 : decode cJ5_putCharsAt 42 = .ok (.iinc 1 1, 3) := dk_132 1 1 (dk_at dksJ5_putCharsAt_1 19 rfl rfl)
theorem dJ5_putCharsAt_45 : decode cJ5_putCharsAt 45 = .ok (.iload 5, 2) := dk_21 5 (dk_at dksJ5_putCharsAt_1 22 rfl rfl)
theorem dJ5_putCharsAt_47 : decode cJ5_putCharsAt 47 = .ok (.invokestatic 111, 3) := dk_184 0 111 (dk_at dksJ5_putCharsAt_2 0 rfl rfl)
theorem dJ5_putCharsAt_50 : decode cJ5_putCharsAt 50 = .ok (.getstatic 44, 3) := dk_178 0 44 (dk_at dksJ5_putCharsAt_2 3 rfl rfl)
theorem dJ5_putCharsAt_53 : decode cJ5_putCharsAt 53 = .ok (.ifCond .ne 17, 3) := dk_154 0 17 (dk_at dksJ5_putCharsAt_2 6 rfl rfl)
theorem dJ5_putCharsAt_56 : decode cJ5_putCharsAt 56 = .ok (.iload_n 1, 1) := dk_27 (dk_at dksJ5_putCharsAt_2 9 rfl rfl)
theorem dJ5_putCharsAt_57 : decode cJ5_putCharsAt 57 = .ok (.iload 6, 2) := dk_21 6 (dk_at dksJ5_putCharsAt_2 10 rfl rfl)
theorem dJ5_putCharsAt_59 : decode cJ5_putCharsAt 59 = .ok (.if_icmp .eq 11, 3) := dk_159 0 11 (dk_at dksJ5_putCharsAt_2 12 rfl rfl)
theorem dJ5_putCharsAt_62 : decode cJ5_putCharsAt 62 = .ok (.new 52, 3) := dk_187 0 52 (dk_at dksJ5_putCharsAt_2 15 rfl rfl)
theorem dJ5_putCharsAt_65 : decode cJ5_putCharsAt 65 = .ok (.dup, 1) := dk_89 (dk_at dksJ5_putCharsAt_2 18 rfl rfl)
theorem dJ5_putCharsAt_66 : decode cJ5_putCharsAt 66 = .ok (.invokespecial 66, 3) := dk_183 0 66 (dk_at dksJ5_putCharsAt_2 19 rfl rfl)
theorem dJ5_putCharsAt_69 : decode cJ5_putCharsAt 69 = .ok (.athrow, 1) := dk_191 (dk_at dksJ5_putCharsAt_2 22 rfl rfl)
theorem dJ5_putCharsAt_70 : decode cJ5_putCharsAt 70 = .ok (.iload 6, 2) := dk_21 6 (dk_at dksJ5_putCharsAt_3 0 rfl rfl)
theorem dJ5_putCharsAt_72 : decode cJ5_putCharsAt 72 = .ok (.ireturn, 1) := dk_172 (dk_at dksJ5_putCharsAt_3 2 rfl rfl)
abbrev cJ5_checkBoundsBeginEnd : ByteArray := prog_49_method_93_code
def yJ5_checkBoundsBeginEnd : MethodName := ⟨RJ5, "checkBoundsBeginEnd", "(II[B)V"⟩
def dkwJ5_checkBoundsBeginEnd_0 : List UInt8 := [26, 27, 44, 184, 0, 48, 184, 0, 241, 177]
abbrev dktJ5_checkBoundsBeginEnd_0 : List UInt8 := dkwJ5_checkBoundsBeginEnd_0 ++ []
theorem dksJ5_checkBoundsBeginEnd_0 : cJ5_checkBoundsBeginEnd.data.toList.drop 0 = dktJ5_checkBoundsBeginEnd_0 := by decide +kernel
theorem dJ5_checkBoundsBeginEnd_0 : decode cJ5_checkBoundsBeginEnd 0 = .ok (.iload_n 0, 1) := dk_26 (dk_at dksJ5_checkBoundsBeginEnd_0 0 rfl rfl)
theorem dJ5_checkBoundsBeginEnd_1 : decode cJ5_checkBoundsBeginEnd 1 = .ok (.iload_n 1, 1) := dk_27 (dk_at dksJ5_checkBoundsBeginEnd_0 1 rfl rfl)
theorem dJ5_checkBoundsBeginEnd_2 : decode cJ5_checkBoundsBeginEnd 2 = .ok (.aload_n 2, 1) := dk_44 (dk_at dksJ5_checkBoundsBeginEnd_0 2 rfl rfl)
theorem dJ5_checkBoundsBeginEnd_3 : decode cJ5_checkBoundsBeginEnd 3 = .ok (.invokestatic 48, 3) := dk_184 0 48 (dk_at dksJ5_checkBoundsBeginEnd_0 3 rfl rfl)
theorem dJ5_checkBoundsBeginEnd_6 : decode cJ5_checkBoundsBeginEnd 6 = .ok (.invokestatic 241, 3) := dk_184 0 241 (dk_at dksJ5_checkBoundsBeginEnd_0 6 rfl rfl)
theorem dJ5_checkBoundsBeginEnd_9 : decode cJ5_checkBoundsBeginEnd 9 = .ok (.return_, 1) := dk_177 (dk_at dksJ5_checkBoundsBeginEnd_0 9 rfl rfl)
abbrev cJ5_length : ByteArray := prog_49_method_6_code
def yJ5_length : MethodName := ⟨RJ5, "length", "([B)I"⟩
def dkwJ5_length_0 : List UInt8 := [42, 190, 4, 122, 172]
abbrev dktJ5_length_0 : List UInt8 := dkwJ5_length_0 ++ []
theorem dksJ5_length_0 : cJ5_length.data.toList.drop 0 = dktJ5_length_0 := by decide +kernel
theorem dJ5_length_0 : decode cJ5_length 0 = .ok (.aload_n 0, 1) := dk_42 (dk_at dksJ5_length_0 0 rfl rfl)
theorem dJ5_length_1 : decode cJ5_length 1 = .ok (.arraylength, 1) := dk_190 (dk_at dksJ5_length_0 1 rfl rfl)
theorem dJ5_length_2 : decode cJ5_length 2 = .ok (.iconst 1, 1) := dk_4 (dk_at dksJ5_length_0 2 rfl rfl)
theorem dJ5_length_3 : decode cJ5_length 3 = .ok (.ishr, 1) := dk_122 (dk_at dksJ5_length_0 3 rfl rfl)
theorem dJ5_length_4 : decode cJ5_length 4 = .ok (.ireturn, 1) := dk_172 (dk_at dksJ5_length_0 4 rfl rfl)
abbrev cJ5_putChar : ByteArray := prog_49_method_4_code
def yJ5_putChar : MethodName := ⟨RJ5, "putChar", "([BII)V"⟩
def dkwJ5_putChar_2 : List UInt8 := [178, 0, 63, 122, 145, 84, 177]
abbrev dktJ5_putChar_2 : List UInt8 := dkwJ5_putChar_2 ++ []
def dkwJ5_putChar_1 : List UInt8 := [183, 0, 56, 191, 27, 4, 120, 60, 42, 27, 132, 1, 1, 28, 178, 0, 59, 122, 145, 84, 42, 27, 28]
abbrev dktJ5_putChar_1 : List UInt8 := dkwJ5_putChar_1 ++ dktJ5_putChar_2
def dkwJ5_putChar_0 : List UInt8 := [178, 0, 44, 154, 0, 25, 27, 155, 0, 11, 27, 42, 184, 0, 48, 161, 0, 13, 187, 0, 52, 89, 18, 54]
abbrev dktJ5_putChar_0 : List UInt8 := dkwJ5_putChar_0 ++ dktJ5_putChar_1
theorem dksJ5_putChar_0 : cJ5_putChar.data.toList.drop 0 = dktJ5_putChar_0 := by decide +kernel
theorem dksJ5_putChar_1 : cJ5_putChar.data.toList.drop 24 = dktJ5_putChar_1 := dk_seg dksJ5_putChar_0 24 rfl rfl
theorem dksJ5_putChar_2 : cJ5_putChar.data.toList.drop 47 = dktJ5_putChar_2 := dk_seg dksJ5_putChar_1 23 rfl rfl
theorem dJ5_putChar_0 : decode cJ5_putChar 0 = .ok (.getstatic 44, 3) := dk_178 0 44 (dk_at dksJ5_putChar_0 0 rfl rfl)
theorem dJ5_putChar_3 : decode cJ5_putChar 3 = .ok (.ifCond .ne 25, 3) := dk_154 0 25 (dk_at dksJ5_putChar_0 3 rfl rfl)
theorem dJ5_putChar_6 : decode cJ5_putChar 6 = .ok (.iload_n 1, 1) := dk_27 (dk_at dksJ5_putChar_0 6 rfl rfl)
theorem dJ5_putChar_7 : decode cJ5_putChar 7 = .ok (.ifCond .lt 11, 3) := dk_155 0 11 (dk_at dksJ5_putChar_0 7 rfl rfl)
theorem dJ5_putChar_10 : decode cJ5_putChar 10 = .ok (.iload_n 1, 1) := dk_27 (dk_at dksJ5_putChar_0 10 rfl rfl)
theorem dJ5_putChar_11 : decode cJ5_putChar 11 = .ok (.aload_n 0, 1) := dk_42 (dk_at dksJ5_putChar_0 11 rfl rfl)
theorem dJ5_putChar_12 : decode cJ5_putChar 12 = .ok (.invokestatic 48, 3) := dk_184 0 48 (dk_at dksJ5_putChar_0 12 rfl rfl)
theorem dJ5_putChar_15 : decode cJ5_putChar 15 = .ok (.if_icmp .lt 13, 3) := dk_161 0 13 (dk_at dksJ5_putChar_0 15 rfl rfl)
theorem dJ5_putChar_18 : decode cJ5_putChar 18 = .ok (.new 52, 3) := dk_187 0 52 (dk_at dksJ5_putChar_0 18 rfl rfl)
theorem dJ5_putChar_21 : decode cJ5_putChar 21 = .ok (.dup, 1) := dk_89 (dk_at dksJ5_putChar_0 21 rfl rfl)
theorem dJ5_putChar_22 : decode cJ5_putChar 22 = .ok (.ldc 54, 2) := dk_18 54 (dk_at dksJ5_putChar_0 22 rfl rfl)
theorem dJ5_putChar_24 : decode cJ5_putChar 24 = .ok (.invokespecial 56, 3) := dk_183 0 56 (dk_at dksJ5_putChar_1 0 rfl rfl)
theorem dJ5_putChar_27 : decode cJ5_putChar 27 = .ok (.athrow, 1) := dk_191 (dk_at dksJ5_putChar_1 3 rfl rfl)
theorem dJ5_putChar_28 : decode cJ5_putChar 28 = .ok (.iload_n 1, 1) := dk_27 (dk_at dksJ5_putChar_1 4 rfl rfl)
theorem dJ5_putChar_29 : decode cJ5_putChar 29 = .ok (.iconst 1, 1) := dk_4 (dk_at dksJ5_putChar_1 5 rfl rfl)
theorem dJ5_putChar_30 : decode cJ5_putChar 30 = .ok (.ishl, 1) := dk_120 (dk_at dksJ5_putChar_1 6 rfl rfl)
theorem dJ5_putChar_31 : decode cJ5_putChar 31 = .ok (.istore_n 1, 1) := dk_60 (dk_at dksJ5_putChar_1 7 rfl rfl)
theorem dJ5_putChar_32 : decode cJ5_putChar 32 = .ok (.aload_n 0, 1) := dk_42 (dk_at dksJ5_putChar_1 8 rfl rfl)
theorem dJ5_putChar_33 : decode cJ5_putChar 33 = .ok (.iload_n 1, 1) := dk_27 (dk_at dksJ5_putChar_1 9 rfl rfl)
theorem dJ5_putChar_34 : decode cJ5_putChar 34 = .ok (.iinc 1 1, 3) := dk_132 1 1 (dk_at dksJ5_putChar_1 10 rfl rfl)
theorem dJ5_putChar_37 : decode cJ5_putChar 37 = .ok (.iload_n 2, 1) := dk_28 (dk_at dksJ5_putChar_1 13 rfl rfl)
theorem dJ5_putChar_38 : decode cJ5_putChar 38 = .ok (.getstatic 59, 3) := dk_178 0 59 (dk_at dksJ5_putChar_1 14 rfl rfl)
theorem dJ5_putChar_41 : decode cJ5_putChar 41 = .ok (.ishr, 1) := dk_122 (dk_at dksJ5_putChar_1 17 rfl rfl)
theorem dJ5_putChar_42 : decode cJ5_putChar 42 = .ok (.i2b, 1) := dk_145 (dk_at dksJ5_putChar_1 18 rfl rfl)
theorem dJ5_putChar_43 : decode cJ5_putChar 43 = .ok (.bastore, 1) := dk_84 (dk_at dksJ5_putChar_1 19 rfl rfl)
theorem dJ5_putChar_44 : decode cJ5_putChar 44 = .ok (.aload_n 0, 1) := dk_42 (dk_at dksJ5_putChar_1 20 rfl rfl)
theorem dJ5_putChar_45 : decode cJ5_putChar 45 = .ok (.iload_n 1, 1) := dk_27 (dk_at dksJ5_putChar_1 21 rfl rfl)
theorem dJ5_putChar_46 : decode cJ5_putChar 46 = .ok (.iload_n 2, 1) := dk_28 (dk_at dksJ5_putChar_1 22 rfl rfl)
theorem dJ5_putChar_47 : decode cJ5_putChar 47 = .ok (.getstatic 63, 3) := dk_178 0 63 (dk_at dksJ5_putChar_2 0 rfl rfl)
theorem dJ5_putChar_50 : decode cJ5_putChar 50 = .ok (.ishr, 1) := dk_122 (dk_at dksJ5_putChar_2 3 rfl rfl)
theorem dJ5_putChar_51 : decode cJ5_putChar 51 = .ok (.i2b, 1) := dk_145 (dk_at dksJ5_putChar_2 4 rfl rfl)
theorem dJ5_putChar_52 : decode cJ5_putChar 52 = .ok (.bastore, 1) := dk_84 (dk_at dksJ5_putChar_2 5 rfl rfl)
theorem dJ5_putChar_53 : decode cJ5_putChar 53 = .ok (.return_, 1) := dk_177 (dk_at dksJ5_putChar_2 6 rfl rfl)
abbrev cJ5_inflate : ByteArray := prog_49_method_86_code
def yJ5_inflate : MethodName := ⟨RJ5, "inflate", "([BI[BII)V"⟩
def dkwJ5_inflate_1 : List UInt8 := [132, 1, 1, 51, 17, 0, 255, 126, 184, 0, 111, 132, 5, 1, 167, 255, 228, 177]
abbrev dktJ5_inflate_1 : List UInt8 := dkwJ5_inflate_1 ++ []
def dkwJ5_inflate_0 : List UInt8 := [29, 21, 4, 44, 184, 0, 173, 3, 54, 5, 21, 5, 21, 4, 162, 0, 27, 44, 29, 132, 3, 1, 42, 27]
abbrev dktJ5_inflate_0 : List UInt8 := dkwJ5_inflate_0 ++ dktJ5_inflate_1
theorem dksJ5_inflate_0 : cJ5_inflate.data.toList.drop 0 = dktJ5_inflate_0 := by decide +kernel
theorem dksJ5_inflate_1 : cJ5_inflate.data.toList.drop 24 = dktJ5_inflate_1 := dk_seg dksJ5_inflate_0 24 rfl rfl
theorem dJ5_inflate_0 : decode cJ5_inflate 0 = .ok (.iload_n 3, 1) := dk_29 (dk_at dksJ5_inflate_0 0 rfl rfl)
theorem dJ5_inflate_1 : decode cJ5_inflate 1 = .ok (.iload 4, 2) := dk_21 4 (dk_at dksJ5_inflate_0 1 rfl rfl)
theorem dJ5_inflate_3 : decode cJ5_inflate 3 = .ok (.aload_n 2, 1) := dk_44 (dk_at dksJ5_inflate_0 3 rfl rfl)
theorem dJ5_inflate_4 : decode cJ5_inflate 4 = .ok (.invokestatic 173, 3) := dk_184 0 173 (dk_at dksJ5_inflate_0 4 rfl rfl)
theorem dJ5_inflate_7 : decode cJ5_inflate 7 = .ok (.iconst 0, 1) := dk_3 (dk_at dksJ5_inflate_0 7 rfl rfl)
theorem dJ5_inflate_8 : decode cJ5_inflate 8 = .ok (.istore 5, 2) := dk_54 5 (dk_at dksJ5_inflate_0 8 rfl rfl)
theorem dJ5_inflate_10 : decode cJ5_inflate 10 = .ok (.iload 5, 2) := dk_21 5 (dk_at dksJ5_inflate_0 10 rfl rfl)
theorem dJ5_inflate_12 : decode cJ5_inflate 12 = .ok (.iload 4, 2) := dk_21 4 (dk_at dksJ5_inflate_0 12 rfl rfl)
theorem dJ5_inflate_14 : decode cJ5_inflate 14 = .ok (.if_icmp .ge 27, 3) := dk_162 0 27 (dk_at dksJ5_inflate_0 14 rfl rfl)
theorem dJ5_inflate_17 : decode cJ5_inflate 17 = .ok (.aload_n 2, 1) := dk_44 (dk_at dksJ5_inflate_0 17 rfl rfl)
theorem dJ5_inflate_18 : decode cJ5_inflate 18 = .ok (.iload_n 3, 1) := dk_29 (dk_at dksJ5_inflate_0 18 rfl rfl)
theorem dJ5_inflate_19 : decode cJ5_inflate 19 = .ok (.iinc 3 1, 3) := dk_132 3 1 (dk_at dksJ5_inflate_0 19 rfl rfl)
theorem dJ5_inflate_22 : decode cJ5_inflate 22 = .ok (.aload_n 0, 1) := dk_42 (dk_at dksJ5_inflate_0 22 rfl rfl)
theorem dJ5_inflate_23 : decode cJ5_inflate 23 = .ok (.iload_n 1, 1) := dk_27 (dk_at dksJ5_inflate_0 23 rfl rfl)
theorem dJ5_inflate_24 : decode cJ5_inflate 24 = .ok (.iinc 1 1, 3) := dk_132 1 1 (dk_at dksJ5_inflate_1 0 rfl rfl)
theorem dJ5_inflate_27 : decode cJ5_inflate 27 = .ok (.baload, 1) := dk_51 (dk_at dksJ5_inflate_1 3 rfl rfl)
theorem dJ5_inflate_28 : decode cJ5_inflate 28 = .ok (.sipush 255, 3) := dk_17 0 255 (dk_at dksJ5_inflate_1 4 rfl rfl)
theorem dJ5_inflate_31 : decode cJ5_inflate 31 = .ok (.iand, 1) := dk_126 (dk_at dksJ5_inflate_1 7 rfl rfl)
theorem dJ5_inflate_32 : decode cJ5_inflate 32 = .ok (.invokestatic 111, 3) := dk_184 0 111 (dk_at dksJ5_inflate_1 8 rfl rfl)
theorem dJ5_inflate_35 : decode cJ5_inflate 35 = .ok (.iinc 5 1, 3) := dk_132 5 1 (dk_at dksJ5_inflate_1 11 rfl rfl)
theorem dJ5_inflate_38 : decode cJ5_inflate 38 = .ok (.goto (-28), 3) := dk_167 255 228 (dk_at dksJ5_inflate_1 14 rfl rfl)
theorem dJ5_inflate_41 : decode cJ5_inflate 41 = .ok (.return_, 1) := dk_177 (dk_at dksJ5_inflate_1 17 rfl rfl)
abbrev cJ5_checkBoundsOffCount : ByteArray := prog_49_method_94_code
def yJ5_checkBoundsOffCount : MethodName := ⟨RJ5, "checkBoundsOffCount", "(II[B)V"⟩
def dkwJ5_checkBoundsOffCount_0 : List UInt8 := [26, 27, 44, 184, 0, 48, 184, 1, 163, 87, 177]
abbrev dktJ5_checkBoundsOffCount_0 : List UInt8 := dkwJ5_checkBoundsOffCount_0 ++ []
theorem dksJ5_checkBoundsOffCount_0 : cJ5_checkBoundsOffCount.data.toList.drop 0 = dktJ5_checkBoundsOffCount_0 := by decide +kernel
theorem dJ5_checkBoundsOffCount_0 : decode cJ5_checkBoundsOffCount 0 = .ok (.iload_n 0, 1) := dk_26 (dk_at dksJ5_checkBoundsOffCount_0 0 rfl rfl)
theorem dJ5_checkBoundsOffCount_1 : decode cJ5_checkBoundsOffCount 1 = .ok (.iload_n 1, 1) := dk_27 (dk_at dksJ5_checkBoundsOffCount_0 1 rfl rfl)
theorem dJ5_checkBoundsOffCount_2 : decode cJ5_checkBoundsOffCount 2 = .ok (.aload_n 2, 1) := dk_44 (dk_at dksJ5_checkBoundsOffCount_0 2 rfl rfl)
theorem dJ5_checkBoundsOffCount_3 : decode cJ5_checkBoundsOffCount 3 = .ok (.invokestatic 48, 3) := dk_184 0 48 (dk_at dksJ5_checkBoundsOffCount_0 3 rfl rfl)
theorem dJ5_checkBoundsOffCount_6 : decode cJ5_checkBoundsOffCount 6 = .ok (.invokestatic 419, 3) := dk_184 1 163 (dk_at dksJ5_checkBoundsOffCount_0 6 rfl rfl)
theorem dJ5_checkBoundsOffCount_9 : decode cJ5_checkBoundsOffCount 9 = .ok (.pop, 1) := dk_87 (dk_at dksJ5_checkBoundsOffCount_0 9 rfl rfl)
theorem dJ5_checkBoundsOffCount_10 : decode cJ5_checkBoundsOffCount 10 = .ok (.return_, 1) := dk_177 (dk_at dksJ5_checkBoundsOffCount_0 10 rfl rfl)
abbrev cJ5_putCharSB : ByteArray := prog_49_method_71_code
def yJ5_putCharSB : MethodName := ⟨RJ5, "putCharSB", "([BII)V"⟩
def dkwJ5_putCharSB_0 : List UInt8 := [27, 42, 184, 0, 67, 42, 27, 28, 184, 0, 111, 177]
abbrev dktJ5_putCharSB_0 : List UInt8 := dkwJ5_putCharSB_0 ++ []
theorem dksJ5_putCharSB_0 : cJ5_putCharSB.data.toList.drop 0 = dktJ5_putCharSB_0 := by decide +kernel
theorem dJ5_putCharSB_0 : decode cJ5_putCharSB 0 = .ok (.iload_n 1, 1) := dk_27 (dk_at dksJ5_putCharSB_0 0 rfl rfl)
theorem dJ5_putCharSB_1 : decode cJ5_putCharSB 1 = .ok (.aload_n 0, 1) := dk_42 (dk_at dksJ5_putCharSB_0 1 rfl rfl)
theorem dJ5_putCharSB_2 : decode cJ5_putCharSB 2 = .ok (.invokestatic 67, 3) := dk_184 0 67 (dk_at dksJ5_putCharSB_0 2 rfl rfl)
theorem dJ5_putCharSB_5 : decode cJ5_putCharSB 5 = .ok (.aload_n 0, 1) := dk_42 (dk_at dksJ5_putCharSB_0 5 rfl rfl)
theorem dJ5_putCharSB_6 : decode cJ5_putCharSB 6 = .ok (.iload_n 1, 1) := dk_27 (dk_at dksJ5_putCharSB_0 6 rfl rfl)
theorem dJ5_putCharSB_7 : decode cJ5_putCharSB 7 = .ok (.iload_n 2, 1) := dk_28 (dk_at dksJ5_putCharSB_0 7 rfl rfl)
theorem dJ5_putCharSB_8 : decode cJ5_putCharSB 8 = .ok (.invokestatic 111, 3) := dk_184 0 111 (dk_at dksJ5_putCharSB_0 8 rfl rfl)
theorem dJ5_putCharSB_11 : decode cJ5_putCharSB 11 = .ok (.return_, 1) := dk_177 (dk_at dksJ5_putCharSB_0 11 rfl rfl)
abbrev cJ5_checkIndex : ByteArray := prog_49_method_91_code
def yJ5_checkIndex : MethodName := ⟨RJ5, "checkIndex", "(I[B)V"⟩
def dkwJ5_checkIndex_0 : List UInt8 := [26, 43, 184, 0, 48, 184, 1, 158, 177]
abbrev dktJ5_checkIndex_0 : List UInt8 := dkwJ5_checkIndex_0 ++ []
theorem dksJ5_checkIndex_0 : cJ5_checkIndex.data.toList.drop 0 = dktJ5_checkIndex_0 := by decide +kernel
theorem dJ5_checkIndex_0 : decode cJ5_checkIndex 0 = .ok (.iload_n 0, 1) := dk_26 (dk_at dksJ5_checkIndex_0 0 rfl rfl)
theorem dJ5_checkIndex_1 : decode cJ5_checkIndex 1 = .ok (.aload_n 1, 1) := dk_43 (dk_at dksJ5_checkIndex_0 1 rfl rfl)
theorem dJ5_checkIndex_2 : decode cJ5_checkIndex 2 = .ok (.invokestatic 48, 3) := dk_184 0 48 (dk_at dksJ5_checkIndex_0 2 rfl rfl)
theorem dJ5_checkIndex_5 : decode cJ5_checkIndex 5 = .ok (.invokestatic 414, 3) := dk_184 1 158 (dk_at dksJ5_checkIndex_0 5 rfl rfl)
theorem dJ5_checkIndex_8 : decode cJ5_checkIndex 8 = .ok (.return_, 1) := dk_177 (dk_at dksJ5_checkIndex_0 8 rfl rfl)
abbrev cJ5_compress : ByteArray := prog_49_method_17_code
def yJ5_compress : MethodName := ⟨RJ5, "compress", "([BII)[B"⟩
def dkwJ5_compress_2 : List UInt8 := [25, 5, 3, 45, 3, 28, 184, 0, 123, 28, 159, 0, 6, 25, 5, 176, 45, 176]
abbrev dktJ5_compress_2 : List UInt8 := dkwJ5_compress_2 ++ []
def dkwJ5_compress_1 : List UInt8 := [27, 28, 96, 184, 0, 11, 184, 0, 126, 58, 5, 25, 5, 21, 4, 184, 0, 71, 17, 0, 255, 163, 0, 16]
abbrev dktJ5_compress_1 : List UInt8 := dkwJ5_compress_1 ++ dktJ5_compress_2
def dkwJ5_compress_0 : List UInt8 := [28, 188, 8, 78, 42, 27, 45, 3, 28, 184, 0, 123, 54, 4, 21, 4, 28, 159, 0, 47, 42, 27, 4, 120]
abbrev dktJ5_compress_0 : List UInt8 := dkwJ5_compress_0 ++ dktJ5_compress_1
theorem dksJ5_compress_0 : cJ5_compress.data.toList.drop 0 = dktJ5_compress_0 := by decide +kernel
theorem dksJ5_compress_1 : cJ5_compress.data.toList.drop 24 = dktJ5_compress_1 := dk_seg dksJ5_compress_0 24 rfl rfl
theorem dksJ5_compress_2 : cJ5_compress.data.toList.drop 48 = dktJ5_compress_2 := dk_seg dksJ5_compress_1 24 rfl rfl
theorem dJ5_compress_0 : decode cJ5_compress 0 = .ok (.iload_n 2, 1) := dk_28 (dk_at dksJ5_compress_0 0 rfl rfl)
theorem dJ5_compress_1 : decode cJ5_compress 1 = .ok (.newarray .byte, 2) := dk_188_8 (dk_at dksJ5_compress_0 1 rfl rfl)
theorem dJ5_compress_3 : decode cJ5_compress 3 = .ok (.astore_n 3, 1) := dk_78 (dk_at dksJ5_compress_0 3 rfl rfl)
theorem dJ5_compress_4 : decode cJ5_compress 4 = .ok (.aload_n 0, 1) := dk_42 (dk_at dksJ5_compress_0 4 rfl rfl)
theorem dJ5_compress_5 : decode cJ5_compress 5 = .ok (.iload_n 1, 1) := dk_27 (dk_at dksJ5_compress_0 5 rfl rfl)
theorem dJ5_compress_6 : decode cJ5_compress 6 = .ok (.aload_n 3, 1) := dk_45 (dk_at dksJ5_compress_0 6 rfl rfl)
theorem dJ5_compress_7 : decode cJ5_compress 7 = .ok (.iconst 0, 1) := dk_3 (dk_at dksJ5_compress_0 7 rfl rfl)
theorem dJ5_compress_8 : decode cJ5_compress 8 = .ok (.iload_n 2, 1) := dk_28 (dk_at dksJ5_compress_0 8 rfl rfl)
theorem dJ5_compress_9 : decode cJ5_compress 9 = .ok (.invokestatic 123, 3) := dk_184 0 123 (dk_at dksJ5_compress_0 9 rfl rfl)
theorem dJ5_compress_12 : decode cJ5_compress 12 = .ok (.istore 4, 2) := dk_54 4 (dk_at dksJ5_compress_0 12 rfl rfl)
theorem dJ5_compress_14 : decode cJ5_compress 14 = .ok (.iload 4, 2) := dk_21 4 (dk_at dksJ5_compress_0 14 rfl rfl)
theorem dJ5_compress_16 : decode cJ5_compress 16 = .ok (.iload_n 2, 1) := dk_28 (dk_at dksJ5_compress_0 16 rfl rfl)
theorem dJ5_compress_17 : decode cJ5_compress 17 = .ok (.if_icmp .eq 47, 3) := dk_159 0 47 (dk_at dksJ5_compress_0 17 rfl rfl)
theorem dJ5_compress_20 : decode cJ5_compress 20 = .ok (.aload_n 0, 1) := dk_42 (dk_at dksJ5_compress_0 20 rfl rfl)
theorem dJ5_compress_21 : decode cJ5_compress 21 = .ok (.iload_n 1, 1) := dk_27 (dk_at dksJ5_compress_0 21 rfl rfl)
theorem dJ5_compress_22 : decode cJ5_compress 22 = .ok (.iconst 1, 1) := dk_4 (dk_at dksJ5_compress_0 22 rfl rfl)
theorem dJ5_compress_23 : decode cJ5_compress 23 = .ok (.ishl, 1) := dk_120 (dk_at dksJ5_compress_0 23 rfl rfl)
theorem dJ5_compress_24 : decode cJ5_compress 24 = .ok (.iload_n 1, 1) := dk_27 (dk_at dksJ5_compress_1 0 rfl rfl)
theorem dJ5_compress_25 : decode cJ5_compress 25 = .ok (.iload_n 2, 1) := dk_28 (dk_at dksJ5_compress_1 1 rfl rfl)
theorem dJ5_compress_26 : decode cJ5_compress 26 = .ok (.iadd, 1) := dk_96 (dk_at dksJ5_compress_1 2 rfl rfl)
theorem dJ5_compress_27 : decode cJ5_compress 27 = .ok (.invokestatic 11, 3) := dk_184 0 11 (dk_at dksJ5_compress_1 3 rfl rfl)
theorem dJ5_compress_30 : decode cJ5_compress 30 = .ok (.invokestatic 126, 3) := dk_184 0 126 (dk_at dksJ5_compress_1 6 rfl rfl)
theorem dJ5_compress_33 : decode cJ5_compress 33 = .ok (.astore 5, 2) := dk_58 5 (dk_at dksJ5_compress_1 9 rfl rfl)
theorem dJ5_compress_35 : decode cJ5_compress 35 = .ok (.aload 5, 2) := dk_25 5 (dk_at dksJ5_compress_1 11 rfl rfl)
theorem dJ5_compress_37 : decode cJ5_compress 37 = .ok (.iload 4, 2) := dk_21 4 (dk_at dksJ5_compress_1 13 rfl rfl)
theorem dJ5_compress_39 : decode cJ5_compress 39 = .ok (.invokestatic 71, 3) := dk_184 0 71 (dk_at dksJ5_compress_1 15 rfl rfl)
theorem dJ5_compress_42 : decode cJ5_compress 42 = .ok (.sipush 255, 3) := dk_17 0 255 (dk_at dksJ5_compress_1 18 rfl rfl)
theorem dJ5_compress_45 : decode cJ5_compress 45 = .ok (.if_icmp .gt 16, 3) := dk_163 0 16 (dk_at dksJ5_compress_1 21 rfl rfl)
theorem dJ5_compress_48 : decode cJ5_compress 48 = .ok (.aload 5, 2) := dk_25 5 (dk_at dksJ5_compress_2 0 rfl rfl)
theorem dJ5_compress_50 : decode cJ5_compress 50 = .ok (.iconst 0, 1) := dk_3 (dk_at dksJ5_compress_2 2 rfl rfl)
theorem dJ5_compress_51 : decode cJ5_compress 51 = .ok (.aload_n 3, 1) := dk_45 (dk_at dksJ5_compress_2 3 rfl rfl)
theorem dJ5_compress_52 : decode cJ5_compress 52 = .ok (.iconst 0, 1) := dk_3 (dk_at dksJ5_compress_2 4 rfl rfl)
theorem dJ5_compress_53 : decode cJ5_compress 53 = .ok (.iload_n 2, 1) := dk_28 (dk_at dksJ5_compress_2 5 rfl rfl)
theorem dJ5_compress_54 : decode cJ5_compress 54 = .ok (.invokestatic 123, 3) := dk_184 0 123 (dk_at dksJ5_compress_2 6 rfl rfl)
theorem dJ5_compress_57 : decode cJ5_compress 57 = .ok (.iload_n 2, 1) := dk_28 (dk_at dksJ5_compress_2 9 rfl rfl)
theorem dJ5_compress_58 : decode cJ5_compress 58 = .ok (.if_icmp .eq 6, 3) := dk_159 0 6 (dk_at dksJ5_compress_2 10 rfl rfl)
theorem dJ5_compress_61 : decode cJ5_compress 61 = .ok (.aload 5, 2) := dk_25 5 (dk_at dksJ5_compress_2 13 rfl rfl)
theorem dJ5_compress_63 : decode cJ5_compress 63 = .ok (.areturn, 1) := dk_176 (dk_at dksJ5_compress_2 15 rfl rfl)
theorem dJ5_compress_64 : decode cJ5_compress 64 = .ok (.aload_n 3, 1) := dk_45 (dk_at dksJ5_compress_2 16 rfl rfl)
theorem dJ5_compress_65 : decode cJ5_compress 65 = .ok (.areturn, 1) := dk_176 (dk_at dksJ5_compress_2 17 rfl rfl)
abbrev cJ5_compress_2 : ByteArray := prog_49_method_22_code
def yJ5_compress_2 : MethodName := ⟨RJ5, "compress", "([BI[BII)I"⟩
def dkwJ5_compress_2_2 : List UInt8 := [132, 5, 1, 167, 255, 216, 21, 4, 172]
abbrev dktJ5_compress_2_2 : List UInt8 := dkwJ5_compress_2_2 ++ []
def dkwJ5_compress_2_1 : List UInt8 := [21, 6, 17, 0, 255, 164, 0, 6, 21, 5, 172, 44, 29, 21, 6, 145, 84, 132, 1, 1, 132, 3, 1]
abbrev dktJ5_compress_2_1 : List UInt8 := dkwJ5_compress_2_1 ++ dktJ5_compress_2_2
def dkwJ5_compress_2_0 : List UInt8 := [27, 21, 4, 42, 184, 0, 173, 3, 54, 5, 21, 5, 21, 4, 162, 0, 39, 42, 27, 184, 0, 71, 54, 6]
abbrev dktJ5_compress_2_0 : List UInt8 := dkwJ5_compress_2_0 ++ dktJ5_compress_2_1
theorem dksJ5_compress_2_0 : cJ5_compress_2.data.toList.drop 0 = dktJ5_compress_2_0 := by decide +kernel
theorem dksJ5_compress_2_1 : cJ5_compress_2.data.toList.drop 24 = dktJ5_compress_2_1 := dk_seg dksJ5_compress_2_0 24 rfl rfl
theorem dksJ5_compress_2_2 : cJ5_compress_2.data.toList.drop 47 = dktJ5_compress_2_2 := dk_seg dksJ5_compress_2_1 23 rfl rfl
theorem dJ5_compress_2_0 : decode cJ5_compress_2 0 = .ok (.iload_n 1, 1) := dk_27 (dk_at dksJ5_compress_2_0 0 rfl rfl)
theorem dJ5_compress_2_1 : decode cJ5_compress_2 1 = .ok (.iload 4, 2) := dk_21 4 (dk_at dksJ5_compress_2_0 1 rfl rfl)
theorem dJ5_compress_2_3 : decode cJ5_compress_2 3 = .ok (.aload_n 0, 1) := dk_42 (dk_at dksJ5_compress_2_0 3 rfl rfl)
theorem dJ5_compress_2_4 : decode cJ5_compress_2 4 = .ok (.invokestatic 173, 3) := dk_184 0 173 (dk_at dksJ5_compress_2_0 4 rfl rfl)
theorem dJ5_compress_2_7 : decode cJ5_compress_2 7 = .ok (.iconst 0, 1) := dk_3 (dk_at dksJ5_compress_2_0 7 rfl rfl)
theorem dJ5_compress_2_8 : decode cJ5_compress_2 8 = .ok (.istore 5, 2) := dk_54 5 (dk_at dksJ5_compress_2_0 8 rfl rfl)
theorem dJ5_compress_2_10 : decode cJ5_compress_2 10 = .ok (.iload 5, 2) := dk_21 5 (dk_at dksJ5_compress_2_0 10 rfl rfl)
theorem dJ5_compress_2_12 : decode cJ5_compress_2 12 = .ok (.iload 4, 2) := dk_21 4 (dk_at dksJ5_compress_2_0 12 rfl rfl)
theorem dJ5_compress_2_14 : decode cJ5_compress_2 14 = .ok (.if_icmp .ge 39, 3) := dk_162 0 39 (dk_at dksJ5_compress_2_0 14 rfl rfl)
theorem dJ5_compress_2_17 : decode cJ5_compress_2 17 = .ok (.aload_n 0, 1) := dk_42 (dk_at dksJ5_compress_2_0 17 rfl rfl)
theorem dJ5_compress_2_18 : decode cJ5_compress_2 18 = .ok (.iload_n 1, 1) := dk_27 (dk_at dksJ5_compress_2_0 18 rfl rfl)
theorem dJ5_compress_2_19 : decode cJ5_compress_2 19 = .ok (.invokestatic 71, 3) := dk_184 0 71 (dk_at dksJ5_compress_2_0 19 rfl rfl)
theorem dJ5_compress_2_22 : decode cJ5_compress_2 22 = .ok (.istore 6, 2) := dk_54 6 (dk_at dksJ5_compress_2_0 22 rfl rfl)
theorem dJ5_compress_2_24 : decode cJ5_compress_2 24 = .ok (.iload 6, 2) := dk_21 6 (dk_at dksJ5_compress_2_1 0 rfl rfl)
theorem dJ5_compress_2_26 : decode cJ5_compress_2 26 = .ok (.sipush 255, 3) := dk_17 0 255 (dk_at dksJ5_compress_2_1 2 rfl rfl)
theorem dJ5_compress_2_29 : decode cJ5_compress_2 29 = .ok (.if_icmp .le 6, 3) := dk_164 0 6 (dk_at dksJ5_compress_2_1 5 rfl rfl)
theorem dJ5_compress_2_32 : decode cJ5_compress_2 32 = .ok (.iload 5, 2) := dk_21 5 (dk_at dksJ5_compress_2_1 8 rfl rfl)
theorem dJ5_compress_2_34 : decode cJ5_compress_2 34 = .ok (.ireturn, 1) := dk_172 (dk_at dksJ5_compress_2_1 10 rfl rfl)
theorem dJ5_compress_2_35 : decode cJ5_compress_2 35 = .ok (.aload_n 2, 1) := dk_44 (dk_at dksJ5_compress_2_1 11 rfl rfl)
theorem dJ5_compress_2_36 : decode cJ5_compress_2 36 = .ok (.iload_n 3, 1) := dk_29 (dk_at dksJ5_compress_2_1 12 rfl rfl)
theorem dJ5_compress_2_37 : decode cJ5_compress_2 37 = .ok (.iload 6, 2) := dk_21 6 (dk_at dksJ5_compress_2_1 13 rfl rfl)
theorem dJ5_compress_2_39 : decode cJ5_compress_2 39 = .ok (.i2b, 1) := dk_145 (dk_at dksJ5_compress_2_1 15 rfl rfl)
theorem dJ5_compress_2_40 : decode cJ5_compress_2 40 = .ok (.bastore, 1) := dk_84 (dk_at dksJ5_compress_2_1 16 rfl rfl)
theorem dJ5_compress_2_41 : decode cJ5_compress_2 41 = .ok (.iinc 1 1, 3) := dk_132 1 1 (dk_at dksJ5_compress_2_1 17 rfl rfl)
theorem dJ5_compress_2_44 : decode cJ5_compress_2 44 = .ok (.iinc 3 1, 3) := dk_132 3 1 (dk_at dksJ5_compress_2_1 20 rfl rfl)
theorem dJ5_compress_2_47 : decode cJ5_compress_2 47 = .ok (.iinc 5 1, 3) := dk_132 5 1 (dk_at dksJ5_compress_2_2 0 rfl rfl)
theorem dJ5_compress_2_50 : decode cJ5_compress_2 50 = .ok (.goto (-40), 3) := dk_167 255 216 (dk_at dksJ5_compress_2_2 3 rfl rfl)
theorem dJ5_compress_2_53 : decode cJ5_compress_2 53 = .ok (.iload 4, 2) := dk_21 4 (dk_at dksJ5_compress_2_2 6 rfl rfl)
theorem dJ5_compress_2_55 : decode cJ5_compress_2 55 = .ok (.ireturn, 1) := dk_172 (dk_at dksJ5_compress_2_2 8 rfl rfl)
abbrev cJ5_getChar : ByteArray := prog_49_method_5_code
def yJ5_getChar : MethodName := ⟨RJ5, "getChar", "([BI)C"⟩
def dkwJ5_getChar_2 : List UInt8 := [51, 17, 0, 255, 126, 178, 0, 63, 120, 128, 146, 172]
abbrev dktJ5_getChar_2 : List UInt8 := dkwJ5_getChar_2 ++ []
def dkwJ5_getChar_1 : List UInt8 := [183, 0, 56, 191, 27, 4, 120, 60, 42, 27, 132, 1, 1, 51, 17, 0, 255, 126, 178, 0, 59, 120, 42, 27]
abbrev dktJ5_getChar_1 : List UInt8 := dkwJ5_getChar_1 ++ dktJ5_getChar_2
def dkwJ5_getChar_0 : List UInt8 := [178, 0, 44, 154, 0, 25, 27, 155, 0, 11, 27, 42, 184, 0, 48, 161, 0, 13, 187, 0, 52, 89, 18, 54]
abbrev dktJ5_getChar_0 : List UInt8 := dkwJ5_getChar_0 ++ dktJ5_getChar_1
theorem dksJ5_getChar_0 : cJ5_getChar.data.toList.drop 0 = dktJ5_getChar_0 := by decide +kernel
theorem dksJ5_getChar_1 : cJ5_getChar.data.toList.drop 24 = dktJ5_getChar_1 := dk_seg dksJ5_getChar_0 24 rfl rfl
theorem dksJ5_getChar_2 : cJ5_getChar.data.toList.drop 48 = dktJ5_getChar_2 := dk_seg dksJ5_getChar_1 24 rfl rfl
theorem dJ5_getChar_0 : decode cJ5_getChar 0 = .ok (.getstatic 44, 3) := dk_178 0 44 (dk_at dksJ5_getChar_0 0 rfl rfl)
theorem dJ5_getChar_3 : decode cJ5_getChar 3 = .ok (.ifCond .ne 25, 3) := dk_154 0 25 (dk_at dksJ5_getChar_0 3 rfl rfl)
theorem dJ5_getChar_6 : decode cJ5_getChar 6 = .ok (.iload_n 1, 1) := dk_27 (dk_at dksJ5_getChar_0 6 rfl rfl)
theorem dJ5_getChar_7 : decode cJ5_getChar 7 = .ok (.ifCond .lt 11, 3) := dk_155 0 11 (dk_at dksJ5_getChar_0 7 rfl rfl)
theorem dJ5_getChar_10 : decode cJ5_getChar 10 = .ok (.iload_n 1, 1) := dk_27 (dk_at dksJ5_getChar_0 10 rfl rfl)
theorem dJ5_getChar_11 : decode cJ5_getChar 11 = .ok (.aload_n 0, 1) := dk_42 (dk_at dksJ5_getChar_0 11 rfl rfl)
theorem dJ5_getChar_12 : decode cJ5_getChar 12 = .ok (.invokestatic 48, 3) := dk_184 0 48 (dk_at dksJ5_getChar_0 12 rfl rfl)
theorem dJ5_getChar_15 : decode cJ5_getChar 15 = .ok (.if_icmp .lt 13, 3) := dk_161 0 13 (dk_at dksJ5_getChar_0 15 rfl rfl)
theorem dJ5_getChar_18 : decode cJ5_getChar 18 = .ok (.new 52, 3) := dk_187 0 52 (dk_at dksJ5_getChar_0 18 rfl rfl)
theorem dJ5_getChar_21 : decode cJ5_getChar 21 = .ok (.dup, 1) := dk_89 (dk_at dksJ5_getChar_0 21 rfl rfl)
theorem dJ5_getChar_22 : decode cJ5_getChar 22 = .ok (.ldc 54, 2) := dk_18 54 (dk_at dksJ5_getChar_0 22 rfl rfl)
theorem dJ5_getChar_24 : decode cJ5_getChar 24 = .ok (.invokespecial 56, 3) := dk_183 0 56 (dk_at dksJ5_getChar_1 0 rfl rfl)
theorem dJ5_getChar_27 : decode cJ5_getChar 27 = .ok (.athrow, 1) := dk_191 (dk_at dksJ5_getChar_1 3 rfl rfl)
theorem dJ5_getChar_28 : decode cJ5_getChar 28 = .ok (.iload_n 1, 1) := dk_27 (dk_at dksJ5_getChar_1 4 rfl rfl)
theorem dJ5_getChar_29 : decode cJ5_getChar 29 = .ok (.iconst 1, 1) := dk_4 (dk_at dksJ5_getChar_1 5 rfl rfl)
theorem dJ5_getChar_30 : decode cJ5_getChar 30 = .ok (.ishl, 1) := dk_120 (dk_at dksJ5_getChar_1 6 rfl rfl)
theorem dJ5_getChar_31 : decode cJ5_getChar 31 = .ok (.istore_n 1, 1) := dk_60 (dk_at dksJ5_getChar_1 7 rfl rfl)
theorem dJ5_getChar_32 : decode cJ5_getChar 32 = .ok (.aload_n 0, 1) := dk_42 (dk_at dksJ5_getChar_1 8 rfl rfl)
theorem dJ5_getChar_33 : decode cJ5_getChar 33 = .ok (.iload_n 1, 1) := dk_27 (dk_at dksJ5_getChar_1 9 rfl rfl)
theorem dJ5_getChar_34 : decode cJ5_getChar 34 = .ok (.iinc 1 1, 3) := dk_132 1 1 (dk_at dksJ5_getChar_1 10 rfl rfl)
theorem dJ5_getChar_37 : decode cJ5_getChar 37 = .ok (.baload, 1) := dk_51 (dk_at dksJ5_getChar_1 13 rfl rfl)
theorem dJ5_getChar_38 : decode cJ5_getChar 38 = .ok (.sipush 255, 3) := dk_17 0 255 (dk_at dksJ5_getChar_1 14 rfl rfl)
theorem dJ5_getChar_41 : decode cJ5_getChar 41 = .ok (.iand, 1) := dk_126 (dk_at dksJ5_getChar_1 17 rfl rfl)
theorem dJ5_getChar_42 : decode cJ5_getChar 42 = .ok (.getstatic 59, 3) := dk_178 0 59 (dk_at dksJ5_getChar_1 18 rfl rfl)
theorem dJ5_getChar_45 : decode cJ5_getChar 45 = .ok (.ishl, 1) := dk_120 (dk_at dksJ5_getChar_1 21 rfl rfl)
theorem dJ5_getChar_46 : decode cJ5_getChar 46 = .ok (.aload_n 0, 1) := dk_42 (dk_at dksJ5_getChar_1 22 rfl rfl)
theorem dJ5_getChar_47 : decode cJ5_getChar 47 = .ok (.iload_n 1, 1) := dk_27 (dk_at dksJ5_getChar_1 23 rfl rfl)
theorem dJ5_getChar_48 : decode cJ5_getChar 48 = .ok (.baload, 1) := dk_51 (dk_at dksJ5_getChar_2 0 rfl rfl)
theorem dJ5_getChar_49 : decode cJ5_getChar 49 = .ok (.sipush 255, 3) := dk_17 0 255 (dk_at dksJ5_getChar_2 1 rfl rfl)
theorem dJ5_getChar_52 : decode cJ5_getChar 52 = .ok (.iand, 1) := dk_126 (dk_at dksJ5_getChar_2 4 rfl rfl)
theorem dJ5_getChar_53 : decode cJ5_getChar 53 = .ok (.getstatic 63, 3) := dk_178 0 63 (dk_at dksJ5_getChar_2 5 rfl rfl)
theorem dJ5_getChar_56 : decode cJ5_getChar 56 = .ok (.ishl, 1) := dk_120 (dk_at dksJ5_getChar_2 8 rfl rfl)
theorem dJ5_getChar_57 : decode cJ5_getChar 57 = .ok (.ior, 1) := dk_128 (dk_at dksJ5_getChar_2 9 rfl rfl)
theorem dJ5_getChar_58 : decode cJ5_getChar 58 = .ok (.i2c, 1) := dk_146 (dk_at dksJ5_getChar_2 10 rfl rfl)
theorem dJ5_getChar_59 : decode cJ5_getChar 59 = .ok (.ireturn, 1) := dk_172 (dk_at dksJ5_getChar_2 11 rfl rfl)
abbrev cJ5_coderFromArrayLen : ByteArray := prog_49_method_15_code
def yJ5_coderFromArrayLen : MethodName := ⟨RJ5, "coderFromArrayLen", "([BI)B"⟩
def dkwJ5_coderFromArrayLen_0 : List UInt8 := [27, 42, 190, 100, 16, 31, 124, 145, 172]
abbrev dktJ5_coderFromArrayLen_0 : List UInt8 := dkwJ5_coderFromArrayLen_0 ++ []
theorem dksJ5_coderFromArrayLen_0 : cJ5_coderFromArrayLen.data.toList.drop 0 = dktJ5_coderFromArrayLen_0 := by decide +kernel
theorem dJ5_coderFromArrayLen_0 : decode cJ5_coderFromArrayLen 0 = .ok (.iload_n 1, 1) := dk_27 (dk_at dksJ5_coderFromArrayLen_0 0 rfl rfl)
theorem dJ5_coderFromArrayLen_1 : decode cJ5_coderFromArrayLen 1 = .ok (.aload_n 0, 1) := dk_42 (dk_at dksJ5_coderFromArrayLen_0 1 rfl rfl)
theorem dJ5_coderFromArrayLen_2 : decode cJ5_coderFromArrayLen 2 = .ok (.arraylength, 1) := dk_190 (dk_at dksJ5_coderFromArrayLen_0 2 rfl rfl)
theorem dJ5_coderFromArrayLen_3 : decode cJ5_coderFromArrayLen 3 = .ok (.isub, 1) := dk_100 (dk_at dksJ5_coderFromArrayLen_0 3 rfl rfl)
theorem dJ5_coderFromArrayLen_4 : decode cJ5_coderFromArrayLen 4 = .ok (.bipush 31, 2) := dk_16 31 (dk_at dksJ5_coderFromArrayLen_0 4 rfl rfl)
theorem dJ5_coderFromArrayLen_6 : decode cJ5_coderFromArrayLen 6 = .ok (.iushr, 1) := dk_124 (dk_at dksJ5_coderFromArrayLen_0 6 rfl rfl)
theorem dJ5_coderFromArrayLen_7 : decode cJ5_coderFromArrayLen 7 = .ok (.i2b, 1) := dk_145 (dk_at dksJ5_coderFromArrayLen_0 7 rfl rfl)
theorem dJ5_coderFromArrayLen_8 : decode cJ5_coderFromArrayLen 8 = .ok (.ireturn, 1) := dk_172 (dk_at dksJ5_coderFromArrayLen_0 8 rfl rfl)
abbrev cJ5_indexOf : ByteArray := prog_49_method_41_code
def yJ5_indexOf : MethodName := ⟨RJ5, "indexOf", "([B[B)I"⟩
def dkwJ5_indexOf_1 : List UInt8 := [184, 0, 48, 3, 184, 0, 235, 172]
abbrev dktJ5_indexOf_1 : List UInt8 := dkwJ5_indexOf_1 ++ []
def dkwJ5_indexOf_0 : List UInt8 := [43, 190, 154, 0, 5, 3, 172, 42, 190, 43, 190, 162, 0, 5, 2, 172, 42, 42, 184, 0, 48, 43, 43]
abbrev dktJ5_indexOf_0 : List UInt8 := dkwJ5_indexOf_0 ++ dktJ5_indexOf_1
theorem dksJ5_indexOf_0 : cJ5_indexOf.data.toList.drop 0 = dktJ5_indexOf_0 := by decide +kernel
theorem dksJ5_indexOf_1 : cJ5_indexOf.data.toList.drop 23 = dktJ5_indexOf_1 := dk_seg dksJ5_indexOf_0 23 rfl rfl
theorem dJ5_indexOf_0 : decode cJ5_indexOf 0 = .ok (.aload_n 1, 1) := dk_43 (dk_at dksJ5_indexOf_0 0 rfl rfl)
theorem dJ5_indexOf_1 : decode cJ5_indexOf 1 = .ok (.arraylength, 1) := dk_190 (dk_at dksJ5_indexOf_0 1 rfl rfl)
theorem dJ5_indexOf_2 : decode cJ5_indexOf 2 = .ok (.ifCond .ne 5, 3) := dk_154 0 5 (dk_at dksJ5_indexOf_0 2 rfl rfl)
theorem dJ5_indexOf_5 : decode cJ5_indexOf 5 = .ok (.iconst 0, 1) := dk_3 (dk_at dksJ5_indexOf_0 5 rfl rfl)
theorem dJ5_indexOf_6 : decode cJ5_indexOf 6 = .ok (.ireturn, 1) := dk_172 (dk_at dksJ5_indexOf_0 6 rfl rfl)
theorem dJ5_indexOf_7 : decode cJ5_indexOf 7 = .ok (.aload_n 0, 1) := dk_42 (dk_at dksJ5_indexOf_0 7 rfl rfl)
theorem dJ5_indexOf_8 : decode cJ5_indexOf 8 = .ok (.arraylength, 1) := dk_190 (dk_at dksJ5_indexOf_0 8 rfl rfl)
theorem dJ5_indexOf_9 : decode cJ5_indexOf 9 = .ok (.aload_n 1, 1) := dk_43 (dk_at dksJ5_indexOf_0 9 rfl rfl)
theorem dJ5_indexOf_10 : decode cJ5_indexOf 10 = .ok (.arraylength, 1) := dk_190 (dk_at dksJ5_indexOf_0 10 rfl rfl)
theorem dJ5_indexOf_11 : decode cJ5_indexOf 11 = .ok (.if_icmp .ge 5, 3) := dk_162 0 5 (dk_at dksJ5_indexOf_0 11 rfl rfl)
theorem dJ5_indexOf_14 : decode cJ5_indexOf 14 = .ok (.iconst (-1), 1) := dk_2 (dk_at dksJ5_indexOf_0 14 rfl rfl)
theorem dJ5_indexOf_15 : decode cJ5_indexOf 15 = .ok (.ireturn, 1) := dk_172 (dk_at dksJ5_indexOf_0 15 rfl rfl)
theorem dJ5_indexOf_16 : decode cJ5_indexOf 16 = .ok (.aload_n 0, 1) := dk_42 (dk_at dksJ5_indexOf_0 16 rfl rfl)
theorem dJ5_indexOf_17 : decode cJ5_indexOf 17 = .ok (.aload_n 0, 1) := dk_42 (dk_at dksJ5_indexOf_0 17 rfl rfl)
theorem dJ5_indexOf_18 : decode cJ5_indexOf 18 = .ok (.invokestatic 48, 3) := dk_184 0 48 (dk_at dksJ5_indexOf_0 18 rfl rfl)
theorem dJ5_indexOf_21 : decode cJ5_indexOf 21 = .ok (.aload_n 1, 1) := dk_43 (dk_at dksJ5_indexOf_0 21 rfl rfl)
theorem dJ5_indexOf_22 : decode cJ5_indexOf 22 = .ok (.aload_n 1, 1) := dk_43 (dk_at dksJ5_indexOf_0 22 rfl rfl)
theorem dJ5_indexOf_23 : decode cJ5_indexOf 23 = .ok (.invokestatic 48, 3) := dk_184 0 48 (dk_at dksJ5_indexOf_1 0 rfl rfl)
theorem dJ5_indexOf_26 : decode cJ5_indexOf 26 = .ok (.iconst 0, 1) := dk_3 (dk_at dksJ5_indexOf_1 3 rfl rfl)
theorem dJ5_indexOf_27 : decode cJ5_indexOf 27 = .ok (.invokestatic 235, 3) := dk_184 0 235 (dk_at dksJ5_indexOf_1 4 rfl rfl)
theorem dJ5_indexOf_30 : decode cJ5_indexOf 30 = .ok (.ireturn, 1) := dk_172 (dk_at dksJ5_indexOf_1 7 rfl rfl)
abbrev cJ5_indexOfUnsafe : ByteArray := prog_49_method_43_code
def yJ5_indexOfUnsafe : MethodName := ⟨RJ5, "indexOfUnsafe", "([BI[BII)I"⟩
def dkwJ5_indexOfUnsafe_9 : List UInt8 := [167, 255, 146, 2, 172]
abbrev dktJ5_indexOfUnsafe_9 : List UInt8 := dkwJ5_indexOfUnsafe_9 ++ []
def dkwJ5_indexOfUnsafe_8 : List UInt8 := [132, 8, 1, 132, 10, 1, 167, 255, 228, 21, 8, 21, 9, 160, 0, 6, 21, 7, 172, 132, 7, 1]
abbrev dktJ5_indexOfUnsafe_8 : List UInt8 := dkwJ5_indexOfUnsafe_8 ++ dktJ5_indexOfUnsafe_9
def dkwJ5_indexOfUnsafe_7 : List UInt8 := [21, 8, 21, 9, 162, 0, 27, 42, 21, 8, 184, 0, 71, 44, 21, 10, 184, 0, 71, 160, 0, 12]
abbrev dktJ5_indexOfUnsafe_7 : List UInt8 := dkwJ5_indexOfUnsafe_7 ++ dktJ5_indexOfUnsafe_8
def dkwJ5_indexOfUnsafe_6 : List UInt8 := [21, 7, 21, 6, 163, 0, 61, 21, 7, 4, 96, 54, 8, 21, 8, 29, 96, 4, 100, 54, 9, 4, 54, 10]
abbrev dktJ5_indexOfUnsafe_6 : List UInt8 := dkwJ5_indexOfUnsafe_6 ++ dktJ5_indexOfUnsafe_7
def dkwJ5_indexOfUnsafe_5 : List UInt8 := [132, 7, 1, 21, 7, 21, 6, 163, 0, 17, 42, 21, 7, 184, 0, 71, 21, 5, 159, 0, 6, 167, 255, 235]
abbrev dktJ5_indexOfUnsafe_5 : List UInt8 := dkwJ5_indexOfUnsafe_5 ++ dktJ5_indexOfUnsafe_6
def dkwJ5_indexOfUnsafe_4 : List UInt8 := [21, 4, 54, 7, 21, 7, 21, 6, 163, 0, 109, 42, 21, 7, 184, 0, 71, 21, 5, 159, 0, 27]
abbrev dktJ5_indexOfUnsafe_4 : List UInt8 := dkwJ5_indexOfUnsafe_4 ++ dktJ5_indexOfUnsafe_5
def dkwJ5_indexOfUnsafe_3 : List UInt8 := [162, 0, 11, 187, 0, 52, 89, 183, 0, 66, 191, 44, 3, 184, 0, 71, 54, 5, 27, 29, 100, 54, 6]
abbrev dktJ5_indexOfUnsafe_3 : List UInt8 := dkwJ5_indexOfUnsafe_3 ++ dktJ5_indexOfUnsafe_4
def dkwJ5_indexOfUnsafe_2 : List UInt8 := [184, 0, 48, 164, 0, 11, 187, 0, 52, 89, 183, 0, 66, 191, 178, 0, 44, 154, 0, 16, 27, 29]
abbrev dktJ5_indexOfUnsafe_2 : List UInt8 := dkwJ5_indexOfUnsafe_2 ++ dktJ5_indexOfUnsafe_3
def dkwJ5_indexOfUnsafe_1 : List UInt8 := [154, 0, 15, 29, 157, 0, 11, 187, 0, 52, 89, 183, 0, 66, 191, 178, 0, 44, 154, 0, 19, 29, 44]
abbrev dktJ5_indexOfUnsafe_1 : List UInt8 := dkwJ5_indexOfUnsafe_1 ++ dktJ5_indexOfUnsafe_2
def dkwJ5_indexOfUnsafe_0 : List UInt8 := [178, 0, 44, 154, 0, 16, 21, 4, 156, 0, 11, 187, 0, 52, 89, 183, 0, 66, 191, 178, 0, 44]
abbrev dktJ5_indexOfUnsafe_0 : List UInt8 := dkwJ5_indexOfUnsafe_0 ++ dktJ5_indexOfUnsafe_1
theorem dksJ5_indexOfUnsafe_0 : cJ5_indexOfUnsafe.data.toList.drop 0 = dktJ5_indexOfUnsafe_0 := by decide +kernel
theorem dksJ5_indexOfUnsafe_1 : cJ5_indexOfUnsafe.data.toList.drop 22 = dktJ5_indexOfUnsafe_1 := dk_seg dksJ5_indexOfUnsafe_0 22 rfl rfl
theorem dksJ5_indexOfUnsafe_2 : cJ5_indexOfUnsafe.data.toList.drop 45 = dktJ5_indexOfUnsafe_2 := dk_seg dksJ5_indexOfUnsafe_1 23 rfl rfl
theorem dksJ5_indexOfUnsafe_3 : cJ5_indexOfUnsafe.data.toList.drop 67 = dktJ5_indexOfUnsafe_3 := dk_seg dksJ5_indexOfUnsafe_2 22 rfl rfl
theorem dksJ5_indexOfUnsafe_4 : cJ5_indexOfUnsafe.data.toList.drop 90 = dktJ5_indexOfUnsafe_4 := dk_seg dksJ5_indexOfUnsafe_3 23 rfl rfl
theorem dksJ5_indexOfUnsafe_5 : cJ5_indexOfUnsafe.data.toList.drop 112 = dktJ5_indexOfUnsafe_5 := dk_seg dksJ5_indexOfUnsafe_4 22 rfl rfl
theorem dksJ5_indexOfUnsafe_6 : cJ5_indexOfUnsafe.data.toList.drop 136 = dktJ5_indexOfUnsafe_6 := dk_seg dksJ5_indexOfUnsafe_5 24 rfl rfl
theorem dksJ5_indexOfUnsafe_7 : cJ5_indexOfUnsafe.data.toList.drop 160 = dktJ5_indexOfUnsafe_7 := dk_seg dksJ5_indexOfUnsafe_6 24 rfl rfl
theorem dksJ5_indexOfUnsafe_8 : cJ5_indexOfUnsafe.data.toList.drop 182 = dktJ5_indexOfUnsafe_8 := dk_seg dksJ5_indexOfUnsafe_7 22 rfl rfl
theorem dksJ5_indexOfUnsafe_9 : cJ5_indexOfUnsafe.data.toList.drop 204 = dktJ5_indexOfUnsafe_9 := dk_seg dksJ5_indexOfUnsafe_8 22 rfl rfl
theorem dJ5_indexOfUnsafe_0 : decode cJ5_indexOfUnsafe 0 = .ok (.getstatic 44, 3) := dk_178 0 44 (dk_at dksJ5_indexOfUnsafe_0 0 rfl rfl)
theorem dJ5_indexOfUnsafe_3 : decode cJ5_indexOfUnsafe 3 = .ok (.ifCond .ne 16, 3) := dk_154 0 16 (dk_at dksJ5_indexOfUnsafe_0 3 rfl rfl)
theorem dJ5_indexOfUnsafe_6 : decode cJ5_indexOfUnsafe 6 = .ok (.iload 4, 2) := dk_21 4 (dk_at dksJ5_indexOfUnsafe_0 6 rfl rfl)
theorem dJ5_indexOfUnsafe_8 : decode cJ5_indexOfUnsafe 8 = .ok (.ifCond .ge 11, 3) := dk_156 0 11 (dk_at dksJ5_indexOfUnsafe_0 8 rfl rfl)
theorem dJ5_indexOfUnsafe_11 : decode cJ5_indexOfUnsafe 11 = .ok (.new 52, 3) := dk_187 0 52 (dk_at dksJ5_indexOfUnsafe_0 11 rfl rfl)
theorem dJ5_indexOfUnsafe_14 : decode cJ5_indexOfUnsafe 14 = .ok (.dup, 1) := dk_89 (dk_at dksJ5_indexOfUnsafe_0 14 rfl rfl)
theorem dJ5_indexOfUnsafe_15 : decode cJ5_indexOfUnsafe 15 = .ok (.invokespecial 66, 3) := dk_183 0 66 (dk_at dksJ5_indexOfUnsafe_0 15 rfl rfl)
theorem dJ5_indexOfUnsafe_18 : decode cJ5_indexOfUnsafe 18 = .ok (.athrow, 1) := dk_191 (dk_at dksJ5_indexOfUnsafe_0 18 rfl rfl)
theorem dJ5_indexOfUnsafe_19 : decode cJ5_indexOfUnsafe 19 = .ok (.getstatic 44, 3) := dk_178 0 44 (dk_at dksJ5_indexOfUnsafe_0 19 rfl rfl)
theorem dJ5_indexOfUnsafe_22 : decode cJ5_indexOfUnsafe 22 = .ok (.ifCond .ne 15, 3) := dk_154 0 15 (dk_at dksJ5_indexOfUnsafe_1 0 rfl rfl)
theorem dJ5_indexOfUnsafe_25 : decode cJ5_indexOfUnsafe 25 = .ok (.iload_n 3, 1) := dk_29 (dk_at dksJ5_indexOfUnsafe_1 3 rfl rfl)
theorem dJ5_indexOfUnsafe_26 : decode cJ5_indexOfUnsafe 26 = .ok (.ifCond .gt 11, 3) := dk_157 0 11 (dk_at dksJ5_indexOfUnsafe_1 4 rfl rfl)
theorem dJ5_indexOfUnsafe_29 : decode cJ5_indexOfUnsafe 29 = .ok (.new 52, 3) := dk_187 0 52 (dk_at dksJ5_indexOfUnsafe_1 7 rfl rfl)
theorem dJ5_indexOfUnsafe_32 : decode cJ5_indexOfUnsafe 32 = .ok (.dup, 1) := dk_89 (dk_at dksJ5_indexOfUnsafe_1 10 rfl rfl)
theorem dJ5_indexOfUnsafe_33 : decode cJ5_indexOfUnsafe 33 = .ok (.invokespecial 66, 3) := dk_183 0 66 (dk_at dksJ5_indexOfUnsafe_1 11 rfl rfl)
theorem dJ5_indexOfUnsafe_36 : decode cJ5_indexOfUnsafe 36 = .ok (.athrow, 1) := dk_191 (dk_at dksJ5_indexOfUnsafe_1 14 rfl rfl)
theorem dJ5_indexOfUnsafe_37 : decode cJ5_indexOfUnsafe 37 = .ok (.getstatic 44, 3) := dk_178 0 44 (dk_at dksJ5_indexOfUnsafe_1 15 rfl rfl)
theorem dJ5_indexOfUnsafe_40 : decode cJ5_indexOfUnsafe 40 = .ok (.ifCond .ne 19, 3) := dk_154 0 19 (dk_at dksJ5_indexOfUnsafe_1 18 rfl rfl)
theorem dJ5_indexOfUnsafe_43 : decode cJ5_indexOfUnsafe 43 = .ok (.iload_n 3, 1) := dk_29 (dk_at dksJ5_indexOfUnsafe_1 21 rfl rfl)
theorem dJ5_indexOfUnsafe_44 : decode cJ5_indexOfUnsafe 44 = .ok (.aload_n 2, 1) := dk_44 (dk_at dksJ5_indexOfUnsafe_1 22 rfl rfl)
theorem dJ5_indexOfUnsafe_45 : decode cJ5_indexOfUnsafe 45 = .ok (.invokestatic 48, 3) := dk_184 0 48 (dk_at dksJ5_indexOfUnsafe_2 0 rfl rfl)
theorem dJ5_indexOfUnsafe_48 : decode cJ5_indexOfUnsafe 48 = .ok (.if_icmp .le 11, 3) := dk_164 0 11 (dk_at dksJ5_indexOfUnsafe_2 3 rfl rfl)
theorem dJ5_indexOfUnsafe_51 : decode cJ5_indexOfUnsafe 51 = .ok (.new 52, 3) := dk_187 0 52 (dk_at dksJ5_indexOfUnsafe_2 6 rfl rfl)
theorem dJ5_indexOfUnsafe_54 : decode cJ5_indexOfUnsafe 54 = .ok (.dup, 1) := dk_89 (dk_at dksJ5_indexOfUnsafe_2 9 rfl rfl)
theorem dJ5_indexOfUnsafe_55 : decode cJ5_indexOfUnsafe 55 = .ok (.invokespecial 66, 3) := dk_183 0 66 (dk_at dksJ5_indexOfUnsafe_2 10 rfl rfl)
theorem dJ5_indexOfUnsafe_58 : decode cJ5_indexOfUnsafe 58 = .ok (.athrow, 1) := dk_191 (dk_at dksJ5_indexOfUnsafe_2 13 rfl rfl)
theorem dJ5_indexOfUnsafe_59 : decode cJ5_indexOfUnsafe 59 = .ok (.getstatic 44, 3) := dk_178 0 44 (dk_at dksJ5_indexOfUnsafe_2 14 rfl rfl)
theorem dJ5_indexOfUnsafe_62 : decode cJ5_indexOfUnsafe 62 = .ok (.ifCond .ne 16, 3) := dk_154 0 16 (dk_at dksJ5_indexOfUnsafe_2 17 rfl rfl)
theorem dJ5_indexOfUnsafe_65 : decode cJ5_indexOfUnsafe 65 = .ok (.iload_n 1, 1) := dk_27 (dk_at dksJ5_indexOfUnsafe_2 20 rfl rfl)
theorem dJ5_indexOfUnsafe_66 : decode cJ5_indexOfUnsafe 66 = .ok (.iload_n 3, 1) := dk_29 (dk_at dksJ5_indexOfUnsafe_2 21 rfl rfl)
theorem dJ5_indexOfUnsafe_67 : decode cJ5_indexOfUnsafe 67 = .ok (.if_icmp .ge 11, 3) := dk_162 0 11 (dk_at dksJ5_indexOfUnsafe_3 0 rfl rfl)
theorem dJ5_indexOfUnsafe_70 : decode cJ5_indexOfUnsafe 70 = .ok (.new 52, 3) := dk_187 0 52 (dk_at dksJ5_indexOfUnsafe_3 3 rfl rfl)
theorem dJ5_indexOfUnsafe_73 : decode cJ5_indexOfUnsafe 73 = .ok (.dup, 1) := dk_89 (dk_at dksJ5_indexOfUnsafe_3 6 rfl rfl)
theorem dJ5_indexOfUnsafe_74 : decode cJ5_indexOfUnsafe 74 = .ok (.invokespecial 66, 3) := dk_183 0 66 (dk_at dksJ5_indexOfUnsafe_3 7 rfl rfl)
theorem dJ5_indexOfUnsafe_77 : decode cJ5_indexOfUnsafe 77 = .ok (.athrow, 1) := dk_191 (dk_at dksJ5_indexOfUnsafe_3 10 rfl rfl)
theorem dJ5_indexOfUnsafe_78 : decode cJ5_indexOfUnsafe 78 = .ok (.aload_n 2, 1) := dk_44 (dk_at dksJ5_indexOfUnsafe_3 11 rfl rfl)
theorem dJ5_indexOfUnsafe_79 : decode cJ5_indexOfUnsafe 79 = .ok (.iconst 0, 1) := dk_3 (dk_at dksJ5_indexOfUnsafe_3 12 rfl rfl)
theorem dJ5_indexOfUnsafe_80 : decode cJ5_indexOfUnsafe 80 = .ok (.invokestatic 71, 3) := dk_184 0 71 (dk_at dksJ5_indexOfUnsafe_3 13 rfl rfl)
theorem dJ5_indexOfUnsafe_83 : decode cJ5_indexOfUnsafe 83 = .ok (.istore 5, 2) := dk_54 5 (dk_at dksJ5_indexOfUnsafe_3 16 rfl rfl)
theorem dJ5_indexOfUnsafe_85 : decode cJ5_indexOfUnsafe 85 = .ok (.iload_n 1, 1) := dk_27 (dk_at dksJ5_indexOfUnsafe_3 18 rfl rfl)
theorem dJ5_indexOfUnsafe_86 : decode cJ5_indexOfUnsafe 86 = .ok (.iload_n 3, 1) := dk_29 (dk_at dksJ5_indexOfUnsafe_3 19 rfl rfl)
theorem dJ5_indexOfUnsafe_87 : decode cJ5_indexOfUnsafe 87 = .ok (.isub, 1) := dk_100 (dk_at dksJ5_indexOfUnsafe_3 20 rfl rfl)
theorem dJ5_indexOfUnsafe_88 : decode cJ5_indexOfUnsafe 88 = .ok (.istore 6, 2) := dk_54 6 (dk_at dksJ5_indexOfUnsafe_3 21 rfl rfl)
theorem dJ5_indexOfUnsafe_90 : decode cJ5_indexOfUnsafe 90 = .ok (.iload 4, 2) := dk_21 4 (dk_at dksJ5_indexOfUnsafe_4 0 rfl rfl)
theorem dJ5_indexOfUnsafe_92 : decode cJ5_indexOfUnsafe 92 = .ok (.istore 7, 2) := dk_54 7 (dk_at dksJ5_indexOfUnsafe_4 2 rfl rfl)
theorem dJ5_indexOfUnsafe_94 : decode cJ5_indexOfUnsafe 94 = .ok (.iload 7, 2) := dk_21 7 (dk_at dksJ5_indexOfUnsafe_4 4 rfl rfl)
theorem dJ5_indexOfUnsafe_96 : decode cJ5_indexOfUnsafe 96 = .ok (.iload 6, 2) := dk_21 6 (dk_at dksJ5_indexOfUnsafe_4 6 rfl rfl)
theorem dJ5_indexOfUnsafe_98 : decode cJ5_indexOfUnsafe 98 = .ok (.if_icmp .gt 109, 3) := dk_163 0 109 (dk_at dksJ5_indexOfUnsafe_4 8 rfl rfl)
theorem dJ5_indexOfUnsafe_101 : decode cJ5_indexOfUnsafe 101 = .ok (.aload_n 0, 1) := dk_42 (dk_at dksJ5_indexOfUnsafe_4 11 rfl rfl)
theorem dJ5_indexOfUnsafe_102 : decode cJ5_indexOfUnsafe 102 = .ok (.iload 7, 2) := dk_21 7 (dk_at dksJ5_indexOfUnsafe_4 12 rfl rfl)
theorem dJ5_indexOfUnsafe_104 : decode cJ5_indexOfUnsafe 104 = .ok (.invokestatic 71, 3) := dk_184 0 71 (dk_at dksJ5_indexOfUnsafe_4 14 rfl rfl)
theorem dJ5_indexOfUnsafe_107 : decode cJ5_indexOfUnsafe 107 = .ok (.iload 5, 2) := dk_21 5 (dk_at dksJ5_indexOfUnsafe_4 17 rfl rfl)
theorem dJ5_indexOfUnsafe_109 : decode cJ5_indexOfUnsafe 109 = .ok (.if_icmp .eq 27, 3) := dk_159 0 27 (dk_at dksJ5_indexOfUnsafe_4 19 rfl rfl)
theorem dJ5_indexOfUnsafe_112 : decode cJ5_indexOfUnsafe 112 = .ok (.iinc 7 1, 3) := dk_132 7 1 (dk_at dksJ5_indexOfUnsafe_5 0 rfl rfl)
theorem dJ5_indexOfUnsafe_115 : decode cJ5_indexOfUnsafe 115 = .ok (.iload 7, 2) := dk_21 7 (dk_at dksJ5_indexOfUnsafe_5 3 rfl rfl)
theorem dJ5_indexOfUnsafe_117 : decode cJ5_indexOfUnsafe 117 = .ok (.iload 6, 2) := dk_21 6 (dk_at dksJ5_indexOfUnsafe_5 5 rfl rfl)
theorem dJ5_indexOfUnsafe_119 : decode cJ5_indexOfUnsafe 119 = .ok (.if_icmp .gt 17, 3) := dk_163 0 17 (dk_at dksJ5_indexOfUnsafe_5 7 rfl rfl)
theorem dJ5_indexOfUnsafe_122 : decode cJ5_indexOfUnsafe 122 = .ok (.aload_n 0, 1) := dk_42 (dk_at dksJ5_indexOfUnsafe_5 10 rfl rfl)
theorem dJ5_indexOfUnsafe_123 : decode cJ5_indexOfUnsafe 123 = .ok (.iload 7, 2) := dk_21 7 (dk_at dksJ5_indexOfUnsafe_5 11 rfl rfl)
theorem dJ5_indexOfUnsafe_125 : decode cJ5_indexOfUnsafe 125 = .ok (.invokestatic 71, 3) := dk_184 0 71 (dk_at dksJ5_indexOfUnsafe_5 13 rfl rfl)
theorem dJ5_indexOfUnsafe_128 : decode cJ5_indexOfUnsafe 128 = .ok (.iload 5, 2) := dk_21 5 (dk_at dksJ5_indexOfUnsafe_5 16 rfl rfl)
theorem dJ5_indexOfUnsafe_130 : decode cJ5_indexOfUnsafe 130 = .ok (.if_icmp .eq 6, 3) := dk_159 0 6 (dk_at dksJ5_indexOfUnsafe_5 18 rfl rfl)
theorem dJ5_indexOfUnsafe_133 : decode cJ5_indexOfUnsafe 133 = .ok (.goto (-21), 3) := dk_167 255 235 (dk_at dksJ5_indexOfUnsafe_5 21 rfl rfl)
theorem dJ5_indexOfUnsafe_136 : decode cJ5_indexOfUnsafe 136 = .ok (.iload 7, 2) := dk_21 7 (dk_at dksJ5_indexOfUnsafe_6 0 rfl rfl)
theorem dJ5_indexOfUnsafe_138 : decode cJ5_indexOfUnsafe 138 = .ok (.iload 6, 2) := dk_21 6 (dk_at dksJ5_indexOfUnsafe_6 2 rfl rfl)
theorem dJ5_indexOfUnsafe_140 : decode cJ5_indexOfUnsafe 140 = .ok (.if_icmp .gt 61, 3) := dk_163 0 61 (dk_at dksJ5_indexOfUnsafe_6 4 rfl rfl)
theorem dJ5_indexOfUnsafe_143 : decode cJ5_indexOfUnsafe 143 = .ok (.iload 7, 2) := dk_21 7 (dk_at dksJ5_indexOfUnsafe_6 7 rfl rfl)
theorem dJ5_indexOfUnsafe_145 : decode cJ5_indexOfUnsafe 145 = .ok (.iconst 1, 1) := dk_4 (dk_at dksJ5_indexOfUnsafe_6 9 rfl rfl)
theorem dJ5_indexOfUnsafe_146 : decode cJ5_indexOfUnsafe 146 = .ok (.iadd, 1) := dk_96 (dk_at dksJ5_indexOfUnsafe_6 10 rfl rfl)
theorem dJ5_indexOfUnsafe_147 : decode cJ5_indexOfUnsafe 147 = .ok (.istore 8, 2) := dk_54 8 (dk_at dksJ5_indexOfUnsafe_6 11 rfl rfl)
theorem dJ5_indexOfUnsafe_149 : decode cJ5_indexOfUnsafe 149 = .ok (.iload 8, 2) := dk_21 8 (dk_at dksJ5_indexOfUnsafe_6 13 rfl rfl)
theorem dJ5_indexOfUnsafe_151 : decode cJ5_indexOfUnsafe 151 = .ok (.iload_n 3, 1) := dk_29 (dk_at dksJ5_indexOfUnsafe_6 15 rfl rfl)
theorem dJ5_indexOfUnsafe_152 : decode cJ5_indexOfUnsafe 152 = .ok (.iadd, 1) := dk_96 (dk_at dksJ5_indexOfUnsafe_6 16 rfl rfl)
theorem dJ5_indexOfUnsafe_153 : decode cJ5_indexOfUnsafe 153 = .ok (.iconst 1, 1) := dk_4 (dk_at dksJ5_indexOfUnsafe_6 17 rfl rfl)
theorem dJ5_indexOfUnsafe_154 : decode cJ5_indexOfUnsafe 154 = .ok (.isub, 1) := dk_100 (dk_at dksJ5_indexOfUnsafe_6 18 rfl rfl)
theorem dJ5_indexOfUnsafe_155 : decode cJ5_indexOfUnsafe 155 = .ok (.istore 9, 2) := dk_54 9 (dk_at dksJ5_indexOfUnsafe_6 19 rfl rfl)
theorem dJ5_indexOfUnsafe_157 : decode cJ5_indexOfUnsafe 157 = .ok (.iconst 1, 1) := dk_4 (dk_at dksJ5_indexOfUnsafe_6 21 rfl rfl)
theorem dJ5_indexOfUnsafe_158 : decode cJ5_indexOfUnsafe 158 = .ok (.istore 10, 2) := dk_54 10 (dk_at dksJ5_indexOfUnsafe_6 22 rfl rfl)
theorem dJ5_indexOfUnsafe_160 : decode cJ5_indexOfUnsafe 160 = .ok (.iload 8, 2) := dk_21 8 (dk_at dksJ5_indexOfUnsafe_7 0 rfl rfl)
theorem dJ5_indexOfUnsafe_162 : decode cJ5_indexOfUnsafe 162 = .ok (.iload 9, 2) := dk_21 9 (dk_at dksJ5_indexOfUnsafe_7 2 rfl rfl)
theorem dJ5_indexOfUnsafe_164 : decode cJ5_indexOfUnsafe 164 = .ok (.if_icmp .ge 27, 3) := dk_162 0 27 (dk_at dksJ5_indexOfUnsafe_7 4 rfl rfl)
theorem dJ5_indexOfUnsafe_167 : decode cJ5_indexOfUnsafe 167 = .ok (.aload_n 0, 1) := dk_42 (dk_at dksJ5_indexOfUnsafe_7 7 rfl rfl)
theorem dJ5_indexOfUnsafe_168 : decode cJ5_indexOfUnsafe 168 = .ok (.iload 8, 2) := dk_21 8 (dk_at dksJ5_indexOfUnsafe_7 8 rfl rfl)
theorem dJ5_indexOfUnsafe_170 : decode cJ5_indexOfUnsafe 170 = .ok (.invokestatic 71, 3) := dk_184 0 71 (dk_at dksJ5_indexOfUnsafe_7 10 rfl rfl)
theorem dJ5_indexOfUnsafe_173 : decode cJ5_indexOfUnsafe 173 = .ok (.aload_n 2, 1) := dk_44 (dk_at dksJ5_indexOfUnsafe_7 13 rfl rfl)
theorem dJ5_indexOfUnsafe_174 : decode cJ5_indexOfUnsafe 174 = .ok (.iload 10, 2) := dk_21 10 (dk_at dksJ5_indexOfUnsafe_7 14 rfl rfl)
theorem dJ5_indexOfUnsafe_176 : decode cJ5_indexOfUnsafe 176 = .ok (.invokestatic 71, 3) := dk_184 0 71 (dk_at dksJ5_indexOfUnsafe_7 16 rfl rfl)
theorem dJ5_indexOfUnsafe_179 : decode cJ5_indexOfUnsafe 179 = .ok (.if_icmp .ne 12, 3) := dk_160 0 12 (dk_at dksJ5_indexOfUnsafe_7 19 rfl rfl)
theorem dJ5_indexOfUnsafe_182 : decode cJ5_indexOfUnsafe 182 = .ok (.iinc 8 1, 3) := dk_132 8 1 (dk_at dksJ5_indexOfUnsafe_8 0 rfl rfl)
theorem dJ5_indexOfUnsafe_185 : decode cJ5_indexOfUnsafe 185 = .ok (.iinc 10 1, 3) := dk_132 10 1 (dk_at dksJ5_indexOfUnsafe_8 3 rfl rfl)
theorem dJ5_indexOfUnsafe_188 : decode cJ5_indexOfUnsafe 188 = .ok (.goto (-28), 3) := dk_167 255 228 (dk_at dksJ5_indexOfUnsafe_8 6 rfl rfl)
theorem dJ5_indexOfUnsafe_191 : decode cJ5_indexOfUnsafe 191 = .ok (.iload 8, 2) := dk_21 8 (dk_at dksJ5_indexOfUnsafe_8 9 rfl rfl)
theorem dJ5_indexOfUnsafe_193 : decode cJ5_indexOfUnsafe 193 = .ok (.iload 9, 2) := dk_21 9 (dk_at dksJ5_indexOfUnsafe_8 11 rfl rfl)
theorem dJ5_indexOfUnsafe_195 : decode cJ5_indexOfUnsafe 195 = .ok (.if_icmp .ne 6, 3) := dk_160 0 6 (dk_at dksJ5_indexOfUnsafe_8 13 rfl rfl)
theorem dJ5_indexOfUnsafe_198 : decode cJ5_indexOfUnsafe 198 = .ok (.iload 7, 2) := dk_21 7 (dk_at dksJ5_indexOfUnsafe_8 16 rfl rfl)
theorem dJ5_indexOfUnsafe_200 : decode cJ5_indexOfUnsafe 200 = .ok (.ireturn, 1) := dk_172 (dk_at dksJ5_indexOfUnsafe_8 18 rfl rfl)
theorem dJ5_indexOfUnsafe_201 : decode cJ5_indexOfUnsafe 201 = .ok (.iinc 7 1, 3) := dk_132 7 1 (dk_at dksJ5_indexOfUnsafe_8 19 rfl rfl)
theorem dJ5_indexOfUnsafe_204 : decode cJ5_indexOfUnsafe 204 = .ok (.goto (-110), 3) := dk_167 255 146 (dk_at dksJ5_indexOfUnsafe_9 0 rfl rfl)
theorem dJ5_indexOfUnsafe_207 : decode cJ5_indexOfUnsafe 207 = .ok (.iconst (-1), 1) := dk_2 (dk_at dksJ5_indexOfUnsafe_9 3 rfl rfl)
theorem dJ5_indexOfUnsafe_208 : decode cJ5_indexOfUnsafe 208 = .ok (.ireturn, 1) := dk_172 (dk_at dksJ5_indexOfUnsafe_9 4 rfl rfl)
abbrev cJ5_indexOfLatin1 : ByteArray := prog_49_method_44_code
def yJ5_indexOfLatin1 : MethodName := ⟨RJ5, "indexOfLatin1", "([B[B)I"⟩
def dkwJ5_indexOfLatin1_1 : List UInt8 := [43, 190, 3, 184, 0, 238, 172]
abbrev dktJ5_indexOfLatin1_1 : List UInt8 := dkwJ5_indexOfLatin1_1 ++ []
def dkwJ5_indexOfLatin1_0 : List UInt8 := [43, 190, 154, 0, 5, 3, 172, 42, 184, 0, 48, 43, 190, 162, 0, 5, 2, 172, 42, 42, 184, 0, 48, 43]
abbrev dktJ5_indexOfLatin1_0 : List UInt8 := dkwJ5_indexOfLatin1_0 ++ dktJ5_indexOfLatin1_1
theorem dksJ5_indexOfLatin1_0 : cJ5_indexOfLatin1.data.toList.drop 0 = dktJ5_indexOfLatin1_0 := by decide +kernel
theorem dksJ5_indexOfLatin1_1 : cJ5_indexOfLatin1.data.toList.drop 24 = dktJ5_indexOfLatin1_1 := dk_seg dksJ5_indexOfLatin1_0 24 rfl rfl
theorem dJ5_indexOfLatin1_0 : decode cJ5_indexOfLatin1 0 = .ok (.aload_n 1, 1) := dk_43 (dk_at dksJ5_indexOfLatin1_0 0 rfl rfl)
theorem dJ5_indexOfLatin1_1 : decode cJ5_indexOfLatin1 1 = .ok (.arraylength, 1) := dk_190 (dk_at dksJ5_indexOfLatin1_0 1 rfl rfl)
theorem dJ5_indexOfLatin1_2 : decode cJ5_indexOfLatin1 2 = .ok (.ifCond .ne 5, 3) := dk_154 0 5 (dk_at dksJ5_indexOfLatin1_0 2 rfl rfl)
theorem dJ5_indexOfLatin1_5 : decode cJ5_indexOfLatin1 5 = .ok (.iconst 0, 1) := dk_3 (dk_at dksJ5_indexOfLatin1_0 5 rfl rfl)
theorem dJ5_indexOfLatin1_6 : decode cJ5_indexOfLatin1 6 = .ok (.ireturn, 1) := dk_172 (dk_at dksJ5_indexOfLatin1_0 6 rfl rfl)
theorem dJ5_indexOfLatin1_7 : decode cJ5_indexOfLatin1 7 = .ok (.aload_n 0, 1) := dk_42 (dk_at dksJ5_indexOfLatin1_0 7 rfl rfl)
theorem dJ5_indexOfLatin1_8 : decode cJ5_indexOfLatin1 8 = .ok (.invokestatic 48, 3) := dk_184 0 48 (dk_at dksJ5_indexOfLatin1_0 8 rfl rfl)
theorem dJ5_indexOfLatin1_11 : decode cJ5_indexOfLatin1 11 = .ok (.aload_n 1, 1) := dk_43 (dk_at dksJ5_indexOfLatin1_0 11 rfl rfl)
theorem dJ5_indexOfLatin1_12 : decode cJ5_indexOfLatin1 12 = .ok (.arraylength, 1) := dk_190 (dk_at dksJ5_indexOfLatin1_0 12 rfl rfl)
theorem dJ5_indexOfLatin1_13 : decode cJ5_indexOfLatin1 13 = .ok (.if_icmp .ge 5, 3) := dk_162 0 5 (dk_at dksJ5_indexOfLatin1_0 13 rfl rfl)
theorem dJ5_indexOfLatin1_16 : decode cJ5_indexOfLatin1 16 = .ok (.iconst (-1), 1) := dk_2 (dk_at dksJ5_indexOfLatin1_0 16 rfl rfl)
theorem dJ5_indexOfLatin1_17 : decode cJ5_indexOfLatin1 17 = .ok (.ireturn, 1) := dk_172 (dk_at dksJ5_indexOfLatin1_0 17 rfl rfl)
theorem dJ5_indexOfLatin1_18 : decode cJ5_indexOfLatin1 18 = .ok (.aload_n 0, 1) := dk_42 (dk_at dksJ5_indexOfLatin1_0 18 rfl rfl)
theorem dJ5_indexOfLatin1_19 : decode cJ5_indexOfLatin1 19 = .ok (.aload_n 0, 1) := dk_42 (dk_at dksJ5_indexOfLatin1_0 19 rfl rfl)
theorem dJ5_indexOfLatin1_20 : decode cJ5_indexOfLatin1 20 = .ok (.invokestatic 48, 3) := dk_184 0 48 (dk_at dksJ5_indexOfLatin1_0 20 rfl rfl)
theorem dJ5_indexOfLatin1_23 : decode cJ5_indexOfLatin1 23 = .ok (.aload_n 1, 1) := dk_43 (dk_at dksJ5_indexOfLatin1_0 23 rfl rfl)
theorem dJ5_indexOfLatin1_24 : decode cJ5_indexOfLatin1 24 = .ok (.aload_n 1, 1) := dk_43 (dk_at dksJ5_indexOfLatin1_1 0 rfl rfl)
theorem dJ5_indexOfLatin1_25 : decode cJ5_indexOfLatin1 25 = .ok (.arraylength, 1) := dk_190 (dk_at dksJ5_indexOfLatin1_1 1 rfl rfl)
theorem dJ5_indexOfLatin1_26 : decode cJ5_indexOfLatin1 26 = .ok (.iconst 0, 1) := dk_3 (dk_at dksJ5_indexOfLatin1_1 2 rfl rfl)
theorem dJ5_indexOfLatin1_27 : decode cJ5_indexOfLatin1 27 = .ok (.invokestatic 238, 3) := dk_184 0 238 (dk_at dksJ5_indexOfLatin1_1 3 rfl rfl)
theorem dJ5_indexOfLatin1_30 : decode cJ5_indexOfLatin1 30 = .ok (.ireturn, 1) := dk_172 (dk_at dksJ5_indexOfLatin1_1 6 rfl rfl)
abbrev cJ5_indexOfLatin1Unsafe : ByteArray := prog_49_method_46_code
def yJ5_indexOfLatin1Unsafe : MethodName := ⟨RJ5, "indexOfLatin1Unsafe", "([BI[BII)I"⟩
def dkwJ5_indexOfLatin1Unsafe_9 : List UInt8 := [167, 255, 144, 2, 172]
abbrev dktJ5_indexOfLatin1Unsafe_9 : List UInt8 := dkwJ5_indexOfLatin1Unsafe_9 ++ []
def dkwJ5_indexOfLatin1Unsafe_8 : List UInt8 := [132, 8, 1, 132, 10, 1, 167, 255, 226, 21, 8, 21, 9, 160, 0, 6, 21, 7, 172, 132, 7, 1]
abbrev dktJ5_indexOfLatin1Unsafe_8 : List UInt8 := dkwJ5_indexOfLatin1Unsafe_8 ++ dktJ5_indexOfLatin1Unsafe_9
def dkwJ5_indexOfLatin1Unsafe_7 : List UInt8 := [21, 8, 21, 9, 162, 0, 29, 42, 21, 8, 184, 0, 71, 44, 21, 10, 51, 17, 0, 255, 126, 160, 0, 12]
abbrev dktJ5_indexOfLatin1Unsafe_7 : List UInt8 := dkwJ5_indexOfLatin1Unsafe_7 ++ dktJ5_indexOfLatin1Unsafe_8
def dkwJ5_indexOfLatin1Unsafe_6 : List UInt8 := [21, 7, 21, 6, 163, 0, 63, 21, 7, 4, 96, 54, 8, 21, 8, 29, 96, 4, 100, 54, 9, 4, 54, 10]
abbrev dktJ5_indexOfLatin1Unsafe_6 : List UInt8 := dkwJ5_indexOfLatin1Unsafe_6 ++ dktJ5_indexOfLatin1Unsafe_7
def dkwJ5_indexOfLatin1Unsafe_5 : List UInt8 := [132, 7, 1, 21, 7, 21, 6, 163, 0, 17, 42, 21, 7, 184, 0, 71, 21, 5, 159, 0, 6, 167, 255, 235]
abbrev dktJ5_indexOfLatin1Unsafe_5 : List UInt8 := dkwJ5_indexOfLatin1Unsafe_5 ++ dktJ5_indexOfLatin1Unsafe_6
def dkwJ5_indexOfLatin1Unsafe_4 : List UInt8 := [21, 4, 54, 7, 21, 7, 21, 6, 163, 0, 111, 42, 21, 7, 184, 0, 71, 21, 5, 159, 0, 27]
abbrev dktJ5_indexOfLatin1Unsafe_4 : List UInt8 := dkwJ5_indexOfLatin1Unsafe_4 ++ dktJ5_indexOfLatin1Unsafe_5
def dkwJ5_indexOfLatin1Unsafe_3 : List UInt8 := [187, 0, 52, 89, 183, 0, 66, 191, 44, 3, 51, 17, 0, 255, 126, 146, 54, 5, 27, 29, 100, 54, 6]
abbrev dktJ5_indexOfLatin1Unsafe_3 : List UInt8 := dkwJ5_indexOfLatin1Unsafe_3 ++ dktJ5_indexOfLatin1Unsafe_4
def dkwJ5_indexOfLatin1Unsafe_2 : List UInt8 := [164, 0, 11, 187, 0, 52, 89, 183, 0, 66, 191, 178, 0, 44, 154, 0, 16, 27, 29, 162, 0, 11]
abbrev dktJ5_indexOfLatin1Unsafe_2 : List UInt8 := dkwJ5_indexOfLatin1Unsafe_2 ++ dktJ5_indexOfLatin1Unsafe_3
def dkwJ5_indexOfLatin1Unsafe_1 : List UInt8 := [154, 0, 15, 29, 157, 0, 11, 187, 0, 52, 89, 183, 0, 66, 191, 178, 0, 44, 154, 0, 17, 29, 44, 190]
abbrev dktJ5_indexOfLatin1Unsafe_1 : List UInt8 := dkwJ5_indexOfLatin1Unsafe_1 ++ dktJ5_indexOfLatin1Unsafe_2
def dkwJ5_indexOfLatin1Unsafe_0 : List UInt8 := [178, 0, 44, 154, 0, 16, 21, 4, 156, 0, 11, 187, 0, 52, 89, 183, 0, 66, 191, 178, 0, 44]
abbrev dktJ5_indexOfLatin1Unsafe_0 : List UInt8 := dkwJ5_indexOfLatin1Unsafe_0 ++ dktJ5_indexOfLatin1Unsafe_1
theorem dksJ5_indexOfLatin1Unsafe_0 : cJ5_indexOfLatin1Unsafe.data.toList.drop 0 = dktJ5_indexOfLatin1Unsafe_0 := by decide +kernel
theorem dksJ5_indexOfLatin1Unsafe_1 : cJ5_indexOfLatin1Unsafe.data.toList.drop 22 = dktJ5_indexOfLatin1Unsafe_1 := dk_seg dksJ5_indexOfLatin1Unsafe_0 22 rfl rfl
theorem dksJ5_indexOfLatin1Unsafe_2 : cJ5_indexOfLatin1Unsafe.data.toList.drop 46 = dktJ5_indexOfLatin1Unsafe_2 := dk_seg dksJ5_indexOfLatin1Unsafe_1 24 rfl rfl
theorem dksJ5_indexOfLatin1Unsafe_3 : cJ5_indexOfLatin1Unsafe.data.toList.drop 68 = dktJ5_indexOfLatin1Unsafe_3 := dk_seg dksJ5_indexOfLatin1Unsafe_2 22 rfl rfl
theorem dksJ5_indexOfLatin1Unsafe_4 : cJ5_indexOfLatin1Unsafe.data.toList.drop 91 = dktJ5_indexOfLatin1Unsafe_4 := dk_seg dksJ5_indexOfLatin1Unsafe_3 23 rfl rfl
theorem dksJ5_indexOfLatin1Unsafe_5 : cJ5_indexOfLatin1Unsafe.data.toList.drop 113 = dktJ5_indexOfLatin1Unsafe_5 := dk_seg dksJ5_indexOfLatin1Unsafe_4 22 rfl rfl
theorem dksJ5_indexOfLatin1Unsafe_6 : cJ5_indexOfLatin1Unsafe.data.toList.drop 137 = dktJ5_indexOfLatin1Unsafe_6 := dk_seg dksJ5_indexOfLatin1Unsafe_5 24 rfl rfl
theorem dksJ5_indexOfLatin1Unsafe_7 : cJ5_indexOfLatin1Unsafe.data.toList.drop 161 = dktJ5_indexOfLatin1Unsafe_7 := dk_seg dksJ5_indexOfLatin1Unsafe_6 24 rfl rfl
theorem dksJ5_indexOfLatin1Unsafe_8 : cJ5_indexOfLatin1Unsafe.data.toList.drop 185 = dktJ5_indexOfLatin1Unsafe_8 := dk_seg dksJ5_indexOfLatin1Unsafe_7 24 rfl rfl
theorem dksJ5_indexOfLatin1Unsafe_9 : cJ5_indexOfLatin1Unsafe.data.toList.drop 207 = dktJ5_indexOfLatin1Unsafe_9 := dk_seg dksJ5_indexOfLatin1Unsafe_8 22 rfl rfl
theorem dJ5_indexOfLatin1Unsafe_0 : decode cJ5_indexOfLatin1Unsafe 0 = .ok (.getstatic 44, 3) := dk_178 0 44 (dk_at dksJ5_indexOfLatin1Unsafe_0 0 rfl rfl)
theorem dJ5_indexOfLatin1Unsafe_3 : decode cJ5_indexOfLatin1Unsafe 3 = .ok (.ifCond .ne 16, 3) := dk_154 0 16 (dk_at dksJ5_indexOfLatin1Unsafe_0 3 rfl rfl)
theorem dJ5_indexOfLatin1Unsafe_6 : decode cJ5_indexOfLatin1Unsafe 6 = .ok (.iload 4, 2) := dk_21 4 (dk_at dksJ5_indexOfLatin1Unsafe_0 6 rfl rfl)
theorem dJ5_indexOfLatin1Unsafe_8 : decode cJ5_indexOfLatin1Unsafe 8 = .ok (.ifCond .ge 11, 3) := dk_156 0 11 (dk_at dksJ5_indexOfLatin1Unsafe_0 8 rfl rfl)
theorem dJ5_indexOfLatin1Unsafe_11 : decode cJ5_indexOfLatin1Unsafe 11 = .ok (.new 52, 3) := dk_187 0 52 (dk_at dksJ5_indexOfLatin1Unsafe_0 11 rfl rfl)
theorem dJ5_indexOfLatin1Unsafe_14 : decode cJ5_indexOfLatin1Unsafe 14 = .ok (.dup, 1) := dk_89 (dk_at dksJ5_indexOfLatin1Unsafe_0 14 rfl rfl)
theorem dJ5_indexOfLatin1Unsafe_15 : decode cJ5_indexOfLatin1Unsafe 15 = .ok (.invokespecial 66, 3) := dk_183 0 66 (dk_at dksJ5_indexOfLatin1Unsafe_0 15 rfl rfl)
theorem dJ5_indexOfLatin1Unsafe_18 : decode cJ5_indexOfLatin1Unsafe 18 = .ok (.athrow, 1) := dk_191 (dk_at dksJ5_indexOfLatin1Unsafe_0 18 rfl rfl)
theorem dJ5_indexOfLatin1Unsafe_19 : decode cJ5_indexOfLatin1Unsafe 19 = .ok (.getstatic 44, 3) := dk_178 0 44 (dk_at dksJ5_indexOfLatin1Unsafe_0 19 rfl rfl)
theorem dJ5_indexOfLatin1Unsafe_22 : decode cJ5_indexOfLatin1Unsafe 22 = .ok (.ifCond .ne 15, 3) := dk_154 0 15 (dk_at dksJ5_indexOfLatin1Unsafe_1 0 rfl rfl)
theorem dJ5_indexOfLatin1Unsafe_25 : decode cJ5_indexOfLatin1Unsafe 25 = .ok (.iload_n 3, 1) := dk_29 (dk_at dksJ5_indexOfLatin1Unsafe_1 3 rfl rfl)
theorem dJ5_indexOfLatin1Unsafe_26 : decode cJ5_indexOfLatin1Unsafe 26 = .ok (.ifCond .gt 11, 3) := dk_157 0 11 (dk_at dksJ5_indexOfLatin1Unsafe_1 4 rfl rfl)
theorem dJ5_indexOfLatin1Unsafe_29 : decode cJ5_indexOfLatin1Unsafe 29 = .ok (.new 52, 3) := dk_187 0 52 (dk_at dksJ5_indexOfLatin1Unsafe_1 7 rfl rfl)
theorem dJ5_indexOfLatin1Unsafe_32 : decode cJ5_indexOfLatin1Unsafe 32 = .ok (.dup, 1) := dk_89 (dk_at dksJ5_indexOfLatin1Unsafe_1 10 rfl rfl)
theorem dJ5_indexOfLatin1Unsafe_33 : decode cJ5_indexOfLatin1Unsafe 33 = .ok (.invokespecial 66, 3) := dk_183 0 66 (dk_at dksJ5_indexOfLatin1Unsafe_1 11 rfl rfl)
theorem dJ5_indexOfLatin1Unsafe_36 : decode cJ5_indexOfLatin1Unsafe 36 = .ok (.athrow, 1) := dk_191 (dk_at dksJ5_indexOfLatin1Unsafe_1 14 rfl rfl)
theorem dJ5_indexOfLatin1Unsafe_37 : decode cJ5_indexOfLatin1Unsafe 37 = .ok (.getstatic 44, 3) := dk_178 0 44 (dk_at dksJ5_indexOfLatin1Unsafe_1 15 rfl rfl)
theorem dJ5_indexOfLatin1Unsafe_40 : decode cJ5_indexOfLatin1Unsafe 40 = .ok (.ifCond .ne 17, 3) := dk_154 0 17 (dk_at dksJ5_indexOfLatin1Unsafe_1 18 rfl rfl)
theorem dJ5_indexOfLatin1Unsafe_43 : decode cJ5_indexOfLatin1Unsafe 43 = .ok (.iload_n 3, 1) := dk_29 (dk_at dksJ5_indexOfLatin1Unsafe_1 21 rfl rfl)
theorem dJ5_indexOfLatin1Unsafe_44 : decode cJ5_indexOfLatin1Unsafe 44 = .ok (.aload_n 2, 1) := dk_44 (dk_at dksJ5_indexOfLatin1Unsafe_1 22 rfl rfl)
theorem dJ5_indexOfLatin1Unsafe_45 : decode cJ5_indexOfLatin1Unsafe 45 = .ok (.arraylength, 1) := dk_190 (dk_at dksJ5_indexOfLatin1Unsafe_1 23 rfl rfl)
theorem dJ5_indexOfLatin1Unsafe_46 : decode cJ5_indexOfLatin1Unsafe 46 = .ok (.if_icmp .le 11, 3) := dk_164 0 11 (dk_at dksJ5_indexOfLatin1Unsafe_2 0 rfl rfl)
theorem dJ5_indexOfLatin1Unsafe_49 : decode cJ5_indexOfLatin1Unsafe 49 = .ok (.new 52, 3) := dk_187 0 52 (dk_at dksJ5_indexOfLatin1Unsafe_2 3 rfl rfl)
theorem dJ5_indexOfLatin1Unsafe_52 : decode cJ5_indexOfLatin1Unsafe 52 = .ok (.dup, 1) := dk_89 (dk_at dksJ5_indexOfLatin1Unsafe_2 6 rfl rfl)
theorem dJ5_indexOfLatin1Unsafe_53 : decode cJ5_indexOfLatin1Unsafe 53 = .ok (.invokespecial 66, 3) := dk_183 0 66 (dk_at dksJ5_indexOfLatin1Unsafe_2 7 rfl rfl)
theorem dJ5_indexOfLatin1Unsafe_56 : decode cJ5_indexOfLatin1Unsafe 56 = .ok (.athrow, 1) := dk_191 (dk_at dksJ5_indexOfLatin1Unsafe_2 10 rfl rfl)
theorem dJ5_indexOfLatin1Unsafe_57 : decode cJ5_indexOfLatin1Unsafe 57 = .ok (.getstatic 44, 3) := dk_178 0 44 (dk_at dksJ5_indexOfLatin1Unsafe_2 11 rfl rfl)
theorem dJ5_indexOfLatin1Unsafe_60 : decode cJ5_indexOfLatin1Unsafe 60 = .ok (.ifCond .ne 16, 3) := dk_154 0 16 (dk_at dksJ5_indexOfLatin1Unsafe_2 14 rfl rfl)
theorem dJ5_indexOfLatin1Unsafe_63 : decode cJ5_indexOfLatin1Unsafe 63 = .ok (.iload_n 1, 1) := dk_27 (dk_at dksJ5_indexOfLatin1Unsafe_2 17 rfl rfl)
theorem dJ5_indexOfLatin1Unsafe_64 : decode cJ5_indexOfLatin1Unsafe 64 = .ok (.iload_n 3, 1) := dk_29 (dk_at dksJ5_indexOfLatin1Unsafe_2 18 rfl rfl)
theorem dJ5_indexOfLatin1Unsafe_65 : decode cJ5_indexOfLatin1Unsafe 65 = .ok (.if_icmp .ge 11, 3) := dk_162 0 11 (dk_at dksJ5_indexOfLatin1Unsafe_2 19 rfl rfl)
theorem dJ5_indexOfLatin1Unsafe_68 : decode cJ5_indexOfLatin1Unsafe 68 = .ok (.new 52, 3) := dk_187 0 52 (dk_at dksJ5_indexOfLatin1Unsafe_3 0 rfl rfl)
theorem dJ5_indexOfLatin1Unsafe_71 : decode cJ5_indexOfLatin1Unsafe 71 = .ok (.dup, 1) := dk_89 (dk_at dksJ5_indexOfLatin1Unsafe_3 3 rfl rfl)
theorem dJ5_indexOfLatin1Unsafe_72 : decode cJ5_indexOfLatin1Unsafe 72 = .ok (.invokespecial 66, 3) := dk_183 0 66 (dk_at dksJ5_indexOfLatin1Unsafe_3 4 rfl rfl)
theorem dJ5_indexOfLatin1Unsafe_75 : decode cJ5_indexOfLatin1Unsafe 75 = .ok (.athrow, 1) := dk_191 (dk_at dksJ5_indexOfLatin1Unsafe_3 7 rfl rfl)
theorem dJ5_indexOfLatin1Unsafe_76 : decode cJ5_indexOfLatin1Unsafe 76 = .ok (.aload_n 2, 1) := dk_44 (dk_at dksJ5_indexOfLatin1Unsafe_3 8 rfl rfl)
theorem dJ5_indexOfLatin1Unsafe_77 : decode cJ5_indexOfLatin1Unsafe 77 = .ok (.iconst 0, 1) := dk_3 (dk_at dksJ5_indexOfLatin1Unsafe_3 9 rfl rfl)
theorem dJ5_indexOfLatin1Unsafe_78 : decode cJ5_indexOfLatin1Unsafe 78 = .ok (.baload, 1) := dk_51 (dk_at dksJ5_indexOfLatin1Unsafe_3 10 rfl rfl)
theorem dJ5_indexOfLatin1Unsafe_79 : decode cJ5_indexOfLatin1Unsafe 79 = .ok (.sipush 255, 3) := dk_17 0 255 (dk_at dksJ5_indexOfLatin1Unsafe_3 11 rfl rfl)
theorem dJ5_indexOfLatin1Unsafe_82 : decode cJ5_indexOfLatin1Unsafe 82 = .ok (.iand, 1) := dk_126 (dk_at dksJ5_indexOfLatin1Unsafe_3 14 rfl rfl)
theorem dJ5_indexOfLatin1Unsafe_83 : decode cJ5_indexOfLatin1Unsafe 83 = .ok (.i2c, 1) := dk_146 (dk_at dksJ5_indexOfLatin1Unsafe_3 15 rfl rfl)
theorem dJ5_indexOfLatin1Unsafe_84 : decode cJ5_indexOfLatin1Unsafe 84 = .ok (.istore 5, 2) := dk_54 5 (dk_at dksJ5_indexOfLatin1Unsafe_3 16 rfl rfl)
theorem dJ5_indexOfLatin1Unsafe_86 : decode cJ5_indexOfLatin1Unsafe 86 = .ok (.iload_n 1, 1) := dk_27 (dk_at dksJ5_indexOfLatin1Unsafe_3 18 rfl rfl)
theorem dJ5_indexOfLatin1Unsafe_87 : decode cJ5_indexOfLatin1Unsafe 87 = .ok (.iload_n 3, 1) := dk_29 (dk_at dksJ5_indexOfLatin1Unsafe_3 19 rfl rfl)
theorem dJ5_indexOfLatin1Unsafe_88 : decode cJ5_indexOfLatin1Unsafe 88 = .ok (.isub, 1) := dk_100 (dk_at dksJ5_indexOfLatin1Unsafe_3 20 rfl rfl)
theorem dJ5_indexOfLatin1Unsafe_89 : decode cJ5_indexOfLatin1Unsafe 89 = .ok (.istore 6, 2) := dk_54 6 (dk_at dksJ5_indexOfLatin1Unsafe_3 21 rfl rfl)
theorem dJ5_indexOfLatin1Unsafe_91 : decode cJ5_indexOfLatin1Unsafe 91 = .ok (.iload 4, 2) := dk_21 4 (dk_at dksJ5_indexOfLatin1Unsafe_4 0 rfl rfl)
theorem dJ5_indexOfLatin1Unsafe_93 : decode cJ5_indexOfLatin1Unsafe 93 = .ok (.istore 7, 2) := dk_54 7 (dk_at dksJ5_indexOfLatin1Unsafe_4 2 rfl rfl)
theorem dJ5_indexOfLatin1Unsafe_95 : decode cJ5_indexOfLatin1Unsafe 95 = .ok (.iload 7, 2) := dk_21 7 (dk_at dksJ5_indexOfLatin1Unsafe_4 4 rfl rfl)
theorem dJ5_indexOfLatin1Unsafe_97 : decode cJ5_indexOfLatin1Unsafe 97 = .ok (.iload 6, 2) := dk_21 6 (dk_at dksJ5_indexOfLatin1Unsafe_4 6 rfl rfl)
theorem dJ5_indexOfLatin1Unsafe_99 : decode cJ5_indexOfLatin1Unsafe 99 = .ok (.if_icmp .gt 111, 3) := dk_163 0 111 (dk_at dksJ5_indexOfLatin1Unsafe_4 8 rfl rfl)
theorem dJ5_indexOfLatin1Unsafe_102 : decode cJ5_indexOfLatin1Unsafe 102 = .ok (.aload_n 0, 1) := dk_42 (dk_at dksJ5_indexOfLatin1Unsafe_4 11 rfl rfl)
theorem dJ5_indexOfLatin1Unsafe_103 : decode cJ5_indexOfLatin1Unsafe 103 = .ok (.iload 7, 2) := dk_21 7 (dk_at dksJ5_indexOfLatin1Unsafe_4 12 rfl rfl)
theorem dJ5_indexOfLatin1Unsafe_105 : decode cJ5_indexOfLatin1Unsafe 105 = .ok (.invokestatic 71, 3) := dk_184 0 71 (dk_at dksJ5_indexOfLatin1Unsafe_4 14 rfl rfl)
theorem dJ5_indexOfLatin1Unsafe_108 : decode cJ5_indexOfLatin1Unsafe 108 = .ok (.iload 5, 2) := dk_21 5 (dk_at dksJ5_indexOfLatin1Unsafe_4 17 rfl rfl)
theorem dJ5_indexOfLatin1Unsafe_110 : decode cJ5_indexOfLatin1Unsafe 110 = .ok (.if_icmp .eq 27, 3) := dk_159 0 27 (dk_at dksJ5_indexOfLatin1Unsafe_4 19 rfl rfl)
theorem dJ5_indexOfLatin1Unsafe_113 : decode cJ5_indexOfLatin1Unsafe 113 = .ok (.iinc 7 1, 3) := dk_132 7 1 (dk_at dksJ5_indexOfLatin1Unsafe_5 0 rfl rfl)
theorem dJ5_indexOfLatin1Unsafe_116 : decode cJ5_indexOfLatin1Unsafe 116 = .ok (.iload 7, 2) := dk_21 7 (dk_at dksJ5_indexOfLatin1Unsafe_5 3 rfl rfl)
theorem dJ5_indexOfLatin1Unsafe_118 : decode cJ5_indexOfLatin1Unsafe 118 = .ok (.iload 6, 2) := dk_21 6 (dk_at dksJ5_indexOfLatin1Unsafe_5 5 rfl rfl)
theorem dJ5_indexOfLatin1Unsafe_120 : decode cJ5_indexOfLatin1Unsafe 120 = .ok (.if_icmp .gt 17, 3) := dk_163 0 17 (dk_at dksJ5_indexOfLatin1Unsafe_5 7 rfl rfl)
theorem dJ5_indexOfLatin1Unsafe_123 : decode cJ5_indexOfLatin1Unsafe 123 = .ok (.aload_n 0, 1) := dk_42 (dk_at dksJ5_indexOfLatin1Unsafe_5 10 rfl rfl)
theorem dJ5_indexOfLatin1Unsafe_124 : decode cJ5_indexOfLatin1Unsafe 124 = .ok (.iload 7, 2) := dk_21 7 (dk_at dksJ5_indexOfLatin1Unsafe_5 11 rfl rfl)
theorem dJ5_indexOfLatin1Unsafe_126 : decode cJ5_indexOfLatin1Unsafe 126 = .ok (.invokestatic 71, 3) := dk_184 0 71 (dk_at dksJ5_indexOfLatin1Unsafe_5 13 rfl rfl)
theorem dJ5_indexOfLatin1Unsafe_129 : decode cJ5_indexOfLatin1Unsafe 129 = .ok (.iload 5, 2) := dk_21 5 (dk_at dksJ5_indexOfLatin1Unsafe_5 16 rfl rfl)
theorem dJ5_indexOfLatin1Unsafe_131 : decode cJ5_indexOfLatin1Unsafe 131 = .ok (.if_icmp .eq 6, 3) := dk_159 0 6 (dk_at dksJ5_indexOfLatin1Unsafe_5 18 rfl rfl)
theorem dJ5_indexOfLatin1Unsafe_134 : decode cJ5_indexOfLatin1Unsafe 134 = .ok (.goto (-21), 3) := dk_167 255 235 (dk_at dksJ5_indexOfLatin1Unsafe_5 21 rfl rfl)
theorem dJ5_indexOfLatin1Unsafe_137 : decode cJ5_indexOfLatin1Unsafe 137 = .ok (.iload 7, 2) := dk_21 7 (dk_at dksJ5_indexOfLatin1Unsafe_6 0 rfl rfl)
theorem dJ5_indexOfLatin1Unsafe_139 : decode cJ5_indexOfLatin1Unsafe 139 = .ok (.iload 6, 2) := dk_21 6 (dk_at dksJ5_indexOfLatin1Unsafe_6 2 rfl rfl)
theorem dJ5_indexOfLatin1Unsafe_141 : decode cJ5_indexOfLatin1Unsafe 141 = .ok (.if_icmp .gt 63, 3) := dk_163 0 63 (dk_at dksJ5_indexOfLatin1Unsafe_6 4 rfl rfl)
theorem dJ5_indexOfLatin1Unsafe_144 : decode cJ5_indexOfLatin1Unsafe 144 = .ok (.iload 7, 2) := dk_21 7 (dk_at dksJ5_indexOfLatin1Unsafe_6 7 rfl rfl)
theorem dJ5_indexOfLatin1Unsafe_146 : decode cJ5_indexOfLatin1Unsafe 146 = .ok (.iconst 1, 1) := dk_4 (dk_at dksJ5_indexOfLatin1Unsafe_6 9 rfl rfl)
theorem dJ5_indexOfLatin1Unsafe_147 : decode cJ5_indexOfLatin1Unsafe 147 = .ok (.iadd, 1) := dk_96 (dk_at dksJ5_indexOfLatin1Unsafe_6 10 rfl rfl)
theorem dJ5_indexOfLatin1Unsafe_148 : decode cJ5_indexOfLatin1Unsafe 148 = .ok (.istore 8, 2) := dk_54 8 (dk_at dksJ5_indexOfLatin1Unsafe_6 11 rfl rfl)
theorem dJ5_indexOfLatin1Unsafe_150 : decode cJ5_indexOfLatin1Unsafe 150 = .ok (.iload 8, 2) := dk_21 8 (dk_at dksJ5_indexOfLatin1Unsafe_6 13 rfl rfl)
theorem dJ5_indexOfLatin1Unsafe_152 : decode cJ5_indexOfLatin1Unsafe 152 = .ok (.iload_n 3, 1) := dk_29 (dk_at dksJ5_indexOfLatin1Unsafe_6 15 rfl rfl)
theorem dJ5_indexOfLatin1Unsafe_153 : decode cJ5_indexOfLatin1Unsafe 153 = .ok (.iadd, 1) := dk_96 (dk_at dksJ5_indexOfLatin1Unsafe_6 16 rfl rfl)
theorem dJ5_indexOfLatin1Unsafe_154 : decode cJ5_indexOfLatin1Unsafe 154 = .ok (.iconst 1, 1) := dk_4 (dk_at dksJ5_indexOfLatin1Unsafe_6 17 rfl rfl)
theorem dJ5_indexOfLatin1Unsafe_155 : decode cJ5_indexOfLatin1Unsafe 155 = .ok (.isub, 1) := dk_100 (dk_at dksJ5_indexOfLatin1Unsafe_6 18 rfl rfl)
theorem dJ5_indexOfLatin1Unsafe_156 : decode cJ5_indexOfLatin1Unsafe 156 = .ok (.istore 9, 2) := dk_54 9 (dk_at dksJ5_indexOfLatin1Unsafe_6 19 rfl rfl)
theorem dJ5_indexOfLatin1Unsafe_158 : decode cJ5_indexOfLatin1Unsafe 158 = .ok (.iconst 1, 1) := dk_4 (dk_at dksJ5_indexOfLatin1Unsafe_6 21 rfl rfl)
theorem dJ5_indexOfLatin1Unsafe_159 : decode cJ5_indexOfLatin1Unsafe 159 = .ok (.istore 10, 2) := dk_54 10 (dk_at dksJ5_indexOfLatin1Unsafe_6 22 rfl rfl)
theorem dJ5_indexOfLatin1Unsafe_161 : decode cJ5_indexOfLatin1Unsafe 161 = .ok (.iload 8, 2) := dk_21 8 (dk_at dksJ5_indexOfLatin1Unsafe_7 0 rfl rfl)
theorem dJ5_indexOfLatin1Unsafe_163 : decode cJ5_indexOfLatin1Unsafe 163 = .ok (.iload 9, 2) := dk_21 9 (dk_at dksJ5_indexOfLatin1Unsafe_7 2 rfl rfl)
theorem dJ5_indexOfLatin1Unsafe_165 : decode cJ5_indexOfLatin1Unsafe 165 = .ok (.if_icmp .ge 29, 3) := dk_162 0 29 (dk_at dksJ5_indexOfLatin1Unsafe_7 4 rfl rfl)
theorem dJ5_indexOfLatin1Unsafe_168 : decode cJ5_indexOfLatin1Unsafe 168 = .ok (.aload_n 0, 1) := dk_42 (dk_at dksJ5_indexOfLatin1Unsafe_7 7 rfl rfl)
theorem dJ5_indexOfLatin1Unsafe_169 : decode cJ5_indexOfLatin1Unsafe 169 = .ok (.iload 8, 2) := dk_21 8 (dk_at dksJ5_indexOfLatin1Unsafe_7 8 rfl rfl)
theorem dJ5_indexOfLatin1Unsafe_171 : decode cJ5_indexOfLatin1Unsafe 171 = .ok (.invokestatic 71, 3) := dk_184 0 71 (dk_at dksJ5_indexOfLatin1Unsafe_7 10 rfl rfl)
theorem dJ5_indexOfLatin1Unsafe_174 : decode cJ5_indexOfLatin1Unsafe 174 = .ok (.aload_n 2, 1) := dk_44 (dk_at dksJ5_indexOfLatin1Unsafe_7 13 rfl rfl)
theorem dJ5_indexOfLatin1Unsafe_175 : decode cJ5_indexOfLatin1Unsafe 175 = .ok (.iload 10, 2) := dk_21 10 (dk_at dksJ5_indexOfLatin1Unsafe_7 14 rfl rfl)
theorem dJ5_indexOfLatin1Unsafe_177 : decode cJ5_indexOfLatin1Unsafe 177 = .ok (.baload, 1) := dk_51 (dk_at dksJ5_indexOfLatin1Unsafe_7 16 rfl rfl)
theorem dJ5_indexOfLatin1Unsafe_178 : decode cJ5_indexOfLatin1Unsafe 178 = .ok (.sipush 255, 3) := dk_17 0 255 (dk_at dksJ5_indexOfLatin1Unsafe_7 17 rfl rfl)
theorem dJ5_indexOfLatin1Unsafe_181 : decode cJ5_indexOfLatin1Unsafe 181 = .ok (.iand, 1) := dk_126 (dk_at dksJ5_indexOfLatin1Unsafe_7 20 rfl rfl)
theorem dJ5_indexOfLatin1Unsafe_182 : decode cJ5_indexOfLatin1Unsafe 182 = .ok (.if_icmp .ne 12, 3) := dk_160 0 12 (dk_at dksJ5_indexOfLatin1Unsafe_7 21 rfl rfl)
theorem dJ5_indexOfLatin1Unsafe_185 : decode cJ5_indexOfLatin1Unsafe 185 = .ok (.iinc 8 1, 3) := dk_132 8 1 (dk_at dksJ5_indexOfLatin1Unsafe_8 0 rfl rfl)
theorem dJ5_indexOfLatin1Unsafe_188 : decode cJ5_indexOfLatin1Unsafe 188 = .ok (.iinc 10 1, 3) := dk_132 10 1 (dk_at dksJ5_indexOfLatin1Unsafe_8 3 rfl rfl)
theorem dJ5_indexOfLatin1Unsafe_191 : decode cJ5_indexOfLatin1Unsafe 191 = .ok (.goto (-30), 3) := dk_167 255 226 (dk_at dksJ5_indexOfLatin1Unsafe_8 6 rfl rfl)
theorem dJ5_indexOfLatin1Unsafe_194 : decode cJ5_indexOfLatin1Unsafe 194 = .ok (.iload 8, 2) := dk_21 8 (dk_at dksJ5_indexOfLatin1Unsafe_8 9 rfl rfl)
theorem dJ5_indexOfLatin1Unsafe_196 : decode cJ5_indexOfLatin1Unsafe 196 = .ok (.iload 9, 2) := dk_21 9 (dk_at dksJ5_indexOfLatin1Unsafe_8 11 rfl rfl)
theorem dJ5_indexOfLatin1Unsafe_198 : decode cJ5_indexOfLatin1Unsafe 198 = .ok (.if_icmp .ne 6, 3) := dk_160 0 6 (dk_at dksJ5_indexOfLatin1Unsafe_8 13 rfl rfl)
theorem dJ5_indexOfLatin1Unsafe_201 : decode cJ5_indexOfLatin1Unsafe 201 = .ok (.iload 7, 2) := dk_21 7 (dk_at dksJ5_indexOfLatin1Unsafe_8 16 rfl rfl)
theorem dJ5_indexOfLatin1Unsafe_203 : decode cJ5_indexOfLatin1Unsafe 203 = .ok (.ireturn, 1) := dk_172 (dk_at dksJ5_indexOfLatin1Unsafe_8 18 rfl rfl)
theorem dJ5_indexOfLatin1Unsafe_204 : decode cJ5_indexOfLatin1Unsafe 204 = .ok (.iinc 7 1, 3) := dk_132 7 1 (dk_at dksJ5_indexOfLatin1Unsafe_8 19 rfl rfl)
theorem dJ5_indexOfLatin1Unsafe_207 : decode cJ5_indexOfLatin1Unsafe 207 = .ok (.goto (-112), 3) := dk_167 255 144 (dk_at dksJ5_indexOfLatin1Unsafe_9 0 rfl rfl)
theorem dJ5_indexOfLatin1Unsafe_210 : decode cJ5_indexOfLatin1Unsafe 210 = .ok (.iconst (-1), 1) := dk_2 (dk_at dksJ5_indexOfLatin1Unsafe_9 3 rfl rfl)
theorem dJ5_indexOfLatin1Unsafe_211 : decode cJ5_indexOfLatin1Unsafe 211 = .ok (.ireturn, 1) := dk_172 (dk_at dksJ5_indexOfLatin1Unsafe_9 4 rfl rfl)
abbrev cJ5_indexOf_2 : ByteArray := prog_49_method_40_code
def yJ5_indexOf_2 : MethodName := ⟨RJ5, "indexOf", "([BIII)I"⟩
def dkwJ5_indexOf_2_1 : List UInt8 := [18, 227, 162, 0, 11, 42, 27, 28, 29, 184, 0, 228, 172, 42, 27, 28, 29, 184, 0, 232, 172]
abbrev dktJ5_indexOf_2_1 : List UInt8 := dkwJ5_indexOf_2_1 ++ []
def dkwJ5_indexOf_2_0 : List UInt8 := [28, 3, 184, 0, 224, 61, 29, 42, 190, 4, 122, 184, 0, 183, 62, 28, 29, 161, 0, 5, 2, 172, 27]
abbrev dktJ5_indexOf_2_0 : List UInt8 := dkwJ5_indexOf_2_0 ++ dktJ5_indexOf_2_1
theorem dksJ5_indexOf_2_0 : cJ5_indexOf_2.data.toList.drop 0 = dktJ5_indexOf_2_0 := by decide +kernel
theorem dksJ5_indexOf_2_1 : cJ5_indexOf_2.data.toList.drop 23 = dktJ5_indexOf_2_1 := dk_seg dksJ5_indexOf_2_0 23 rfl rfl
theorem dJ5_indexOf_2_0 : decode cJ5_indexOf_2 0 = .ok (.iload_n 2, 1) := dk_28 (dk_at dksJ5_indexOf_2_0 0 rfl rfl)
theorem dJ5_indexOf_2_1 : decode cJ5_indexOf_2 1 = .ok (.iconst 0, 1) := dk_3 (dk_at dksJ5_indexOf_2_0 1 rfl rfl)
theorem dJ5_indexOf_2_2 : decode cJ5_indexOf_2 2 = .ok (.invokestatic 224, 3) := dk_184 0 224 (dk_at dksJ5_indexOf_2_0 2 rfl rfl)
theorem dJ5_indexOf_2_5 : decode cJ5_indexOf_2 5 = .ok (.istore_n 2, 1) := dk_61 (dk_at dksJ5_indexOf_2_0 5 rfl rfl)
theorem dJ5_indexOf_2_6 : decode cJ5_indexOf_2 6 = .ok (.iload_n 3, 1) := dk_29 (dk_at dksJ5_indexOf_2_0 6 rfl rfl)
theorem dJ5_indexOf_2_7 : decode cJ5_indexOf_2 7 = .ok (.aload_n 0, 1) := dk_42 (dk_at dksJ5_indexOf_2_0 7 rfl rfl)
theorem dJ5_indexOf_2_8 : decode cJ5_indexOf_2 8 = .ok (.arraylength, 1) := dk_190 (dk_at dksJ5_indexOf_2_0 8 rfl rfl)
theorem dJ5_indexOf_2_9 : decode cJ5_indexOf_2 9 = .ok (.iconst 1, 1) := dk_4 (dk_at dksJ5_indexOf_2_0 9 rfl rfl)
theorem dJ5_indexOf_2_10 : decode cJ5_indexOf_2 10 = .ok (.ishr, 1) := dk_122 (dk_at dksJ5_indexOf_2_0 10 rfl rfl)
theorem dJ5_indexOf_2_11 : decode cJ5_indexOf_2 11 = .ok (.invokestatic 183, 3) := dk_184 0 183 (dk_at dksJ5_indexOf_2_0 11 rfl rfl)
theorem dJ5_indexOf_2_14 : decode cJ5_indexOf_2 14 = .ok (.istore_n 3, 1) := dk_62 (dk_at dksJ5_indexOf_2_0 14 rfl rfl)
theorem dJ5_indexOf_2_15 : decode cJ5_indexOf_2 15 = .ok (.iload_n 2, 1) := dk_28 (dk_at dksJ5_indexOf_2_0 15 rfl rfl)
theorem dJ5_indexOf_2_16 : decode cJ5_indexOf_2 16 = .ok (.iload_n 3, 1) := dk_29 (dk_at dksJ5_indexOf_2_0 16 rfl rfl)
theorem dJ5_indexOf_2_17 : decode cJ5_indexOf_2 17 = .ok (.if_icmp .lt 5, 3) := dk_161 0 5 (dk_at dksJ5_indexOf_2_0 17 rfl rfl)
theorem dJ5_indexOf_2_20 : decode cJ5_indexOf_2 20 = .ok (.iconst (-1), 1) := dk_2 (dk_at dksJ5_indexOf_2_0 20 rfl rfl)
theorem dJ5_indexOf_2_21 : decode cJ5_indexOf_2 21 = .ok (.ireturn, 1) := dk_172 (dk_at dksJ5_indexOf_2_0 21 rfl rfl)
theorem dJ5_indexOf_2_22 : decode cJ5_indexOf_2 22 = .ok (.iload_n 1, 1) := dk_27 (dk_at dksJ5_indexOf_2_0 22 rfl rfl)
theorem dJ5_indexOf_2_23 : decode cJ5_indexOf_2 23 = .ok (.ldc 227, 2) := dk_18 227 (dk_at dksJ5_indexOf_2_1 0 rfl rfl)
theorem dJ5_indexOf_2_25 : decode cJ5_indexOf_2 25 = .ok (.if_icmp .ge 11, 3) := dk_162 0 11 (dk_at dksJ5_indexOf_2_1 2 rfl rfl)
theorem dJ5_indexOf_2_28 : decode cJ5_indexOf_2 28 = .ok (.aload_n 0, 1) := dk_42 (dk_at dksJ5_indexOf_2_1 5 rfl rfl)
theorem dJ5_indexOf_2_29 : decode cJ5_indexOf_2 29 = .ok (.iload_n 1, 1) := dk_27 (dk_at dksJ5_indexOf_2_1 6 rfl rfl)
theorem dJ5_indexOf_2_30 : decode cJ5_indexOf_2 30 = .ok (.iload_n 2, 1) := dk_28 (dk_at dksJ5_indexOf_2_1 7 rfl rfl)
theorem dJ5_indexOf_2_31 : decode cJ5_indexOf_2 31 = .ok (.iload_n 3, 1) := dk_29 (dk_at dksJ5_indexOf_2_1 8 rfl rfl)
theorem dJ5_indexOf_2_32 : decode cJ5_indexOf_2 32 = .ok (.invokestatic 228, 3) := dk_184 0 228 (dk_at dksJ5_indexOf_2_1 9 rfl rfl)
theorem dJ5_indexOf_2_35 : decode cJ5_indexOf_2 35 = .ok (.ireturn, 1) := dk_172 (dk_at dksJ5_indexOf_2_1 12 rfl rfl)
theorem dJ5_indexOf_2_36 : decode cJ5_indexOf_2 36 = .ok (.aload_n 0, 1) := dk_42 (dk_at dksJ5_indexOf_2_1 13 rfl rfl)
theorem dJ5_indexOf_2_37 : decode cJ5_indexOf_2 37 = .ok (.iload_n 1, 1) := dk_27 (dk_at dksJ5_indexOf_2_1 14 rfl rfl)
theorem dJ5_indexOf_2_38 : decode cJ5_indexOf_2 38 = .ok (.iload_n 2, 1) := dk_28 (dk_at dksJ5_indexOf_2_1 15 rfl rfl)
theorem dJ5_indexOf_2_39 : decode cJ5_indexOf_2 39 = .ok (.iload_n 3, 1) := dk_29 (dk_at dksJ5_indexOf_2_1 16 rfl rfl)
theorem dJ5_indexOf_2_40 : decode cJ5_indexOf_2 40 = .ok (.invokestatic 232, 3) := dk_184 0 232 (dk_at dksJ5_indexOf_2_1 17 rfl rfl)
theorem dJ5_indexOf_2_43 : decode cJ5_indexOf_2 43 = .ok (.ireturn, 1) := dk_172 (dk_at dksJ5_indexOf_2_1 20 rfl rfl)
abbrev cJ5_indexOfChar : ByteArray := prog_49_method_47_code
def yJ5_indexOfChar : MethodName := ⟨RJ5, "indexOfChar", "([BIII)I"⟩
def dkwJ5_indexOfChar_0 : List UInt8 := [28, 29, 42, 184, 0, 96, 42, 27, 28, 29, 184, 0, 244, 172]
abbrev dktJ5_indexOfChar_0 : List UInt8 := dkwJ5_indexOfChar_0 ++ []
theorem dksJ5_indexOfChar_0 : cJ5_indexOfChar.data.toList.drop 0 = dktJ5_indexOfChar_0 := by decide +kernel
theorem dJ5_indexOfChar_0 : decode cJ5_indexOfChar 0 = .ok (.iload_n 2, 1) := dk_28 (dk_at dksJ5_indexOfChar_0 0 rfl rfl)
theorem dJ5_indexOfChar_1 : decode cJ5_indexOfChar 1 = .ok (.iload_n 3, 1) := dk_29 (dk_at dksJ5_indexOfChar_0 1 rfl rfl)
theorem dJ5_indexOfChar_2 : decode cJ5_indexOfChar 2 = .ok (.aload_n 0, 1) := dk_42 (dk_at dksJ5_indexOfChar_0 2 rfl rfl)
theorem dJ5_indexOfChar_3 : decode cJ5_indexOfChar 3 = .ok (.invokestatic 96, 3) := dk_184 0 96 (dk_at dksJ5_indexOfChar_0 3 rfl rfl)
theorem dJ5_indexOfChar_6 : decode cJ5_indexOfChar 6 = .ok (.aload_n 0, 1) := dk_42 (dk_at dksJ5_indexOfChar_0 6 rfl rfl)
theorem dJ5_indexOfChar_7 : decode cJ5_indexOfChar 7 = .ok (.iload_n 1, 1) := dk_27 (dk_at dksJ5_indexOfChar_0 7 rfl rfl)
theorem dJ5_indexOfChar_8 : decode cJ5_indexOfChar 8 = .ok (.iload_n 2, 1) := dk_28 (dk_at dksJ5_indexOfChar_0 8 rfl rfl)
theorem dJ5_indexOfChar_9 : decode cJ5_indexOfChar 9 = .ok (.iload_n 3, 1) := dk_29 (dk_at dksJ5_indexOfChar_0 9 rfl rfl)
theorem dJ5_indexOfChar_10 : decode cJ5_indexOfChar 10 = .ok (.invokestatic 244, 3) := dk_184 0 244 (dk_at dksJ5_indexOfChar_0 10 rfl rfl)
theorem dJ5_indexOfChar_13 : decode cJ5_indexOfChar 13 = .ok (.ireturn, 1) := dk_172 (dk_at dksJ5_indexOfChar_0 13 rfl rfl)
abbrev cJ5_indexOfCharUnsafe : ByteArray := prog_49_method_48_code
def yJ5_indexOfCharUnsafe : MethodName := ⟨RJ5, "indexOfCharUnsafe", "([BIII)I"⟩
def dkwJ5_indexOfCharUnsafe_1 : List UInt8 := [132, 4, 1, 167, 255, 234, 2, 172]
abbrev dktJ5_indexOfCharUnsafe_1 : List UInt8 := dkwJ5_indexOfCharUnsafe_1 ++ []
def dkwJ5_indexOfCharUnsafe_0 : List UInt8 := [28, 54, 4, 21, 4, 29, 162, 0, 22, 42, 21, 4, 184, 0, 71, 27, 160, 0, 6, 21, 4, 172]
abbrev dktJ5_indexOfCharUnsafe_0 : List UInt8 := dkwJ5_indexOfCharUnsafe_0 ++ dktJ5_indexOfCharUnsafe_1
theorem dksJ5_indexOfCharUnsafe_0 : cJ5_indexOfCharUnsafe.data.toList.drop 0 = dktJ5_indexOfCharUnsafe_0 := by decide +kernel
theorem dksJ5_indexOfCharUnsafe_1 : cJ5_indexOfCharUnsafe.data.toList.drop 22 = dktJ5_indexOfCharUnsafe_1 := dk_seg dksJ5_indexOfCharUnsafe_0 22 rfl rfl
theorem dJ5_indexOfCharUnsafe_0 : decode cJ5_indexOfCharUnsafe 0 = .ok (.iload_n 2, 1) := dk_28 (dk_at dksJ5_indexOfCharUnsafe_0 0 rfl rfl)
theorem dJ5_indexOfCharUnsafe_1 : decode cJ5_indexOfCharUnsafe 1 = .ok (.istore 4, 2) := dk_54 4 (dk_at dksJ5_indexOfCharUnsafe_0 1 rfl rfl)
theorem dJ5_indexOfCharUnsafe_3 : decode cJ5_indexOfCharUnsafe 3 = .ok (.iload 4, 2) := dk_21 4 (dk_at dksJ5_indexOfCharUnsafe_0 3 rfl rfl)
theorem dJ5_indexOfCharUnsafe_5 : decode cJ5_indexOfCharUnsafe 5 = .ok (.iload_n 3, 1) := dk_29 (dk_at dksJ5_indexOfCharUnsafe_0 5 rfl rfl)
theorem dJ5_indexOfCharUnsafe_6 : decode cJ5_indexOfCharUnsafe 6 = .ok (.if_icmp .ge 22, 3) := dk_162 0 22 (dk_at dksJ5_indexOfCharUnsafe_0 6 rfl rfl)
theorem dJ5_indexOfCharUnsafe_9 : decode cJ5_indexOfCharUnsafe 9 = .ok (.aload_n 0, 1) := dk_42 (dk_at dksJ5_indexOfCharUnsafe_0 9 rfl rfl)
theorem dJ5_indexOfCharUnsafe_10 : decode cJ5_indexOfCharUnsafe 10 = .ok (.iload 4, 2) := dk_21 4 (dk_at dksJ5_indexOfCharUnsafe_0 10 rfl rfl)
theorem dJ5_indexOfCharUnsafe_12 : decode cJ5_indexOfCharUnsafe 12 = .ok (.invokestatic 71, 3) := dk_184 0 71 (dk_at dksJ5_indexOfCharUnsafe_0 12 rfl rfl)
theorem dJ5_indexOfCharUnsafe_15 : decode cJ5_indexOfCharUnsafe 15 = .ok (.iload_n 1, 1) := dk_27 (dk_at dksJ5_indexOfCharUnsafe_0 15 rfl rfl)
theorem dJ5_indexOfCharUnsafe_16 : decode cJ5_indexOfCharUnsafe 16 = .ok (.if_icmp .ne 6, 3) := dk_160 0 6 (dk_at dksJ5_indexOfCharUnsafe_0 16 rfl rfl)
theorem dJ5_indexOfCharUnsafe_19 : decode cJ5_indexOfCharUnsafe 19 = .ok (.iload 4, 2) := dk_21 4 (dk_at dksJ5_indexOfCharUnsafe_0 19 rfl rfl)
theorem dJ5_indexOfCharUnsafe_21 : decode cJ5_indexOfCharUnsafe 21 = .ok (.ireturn, 1) := dk_172 (dk_at dksJ5_indexOfCharUnsafe_0 21 rfl rfl)
theorem dJ5_indexOfCharUnsafe_22 : decode cJ5_indexOfCharUnsafe 22 = .ok (.iinc 4 1, 3) := dk_132 4 1 (dk_at dksJ5_indexOfCharUnsafe_1 0 rfl rfl)
theorem dJ5_indexOfCharUnsafe_25 : decode cJ5_indexOfCharUnsafe 25 = .ok (.goto (-22), 3) := dk_167 255 234 (dk_at dksJ5_indexOfCharUnsafe_1 3 rfl rfl)
theorem dJ5_indexOfCharUnsafe_28 : decode cJ5_indexOfCharUnsafe 28 = .ok (.iconst (-1), 1) := dk_2 (dk_at dksJ5_indexOfCharUnsafe_1 6 rfl rfl)
theorem dJ5_indexOfCharUnsafe_29 : decode cJ5_indexOfCharUnsafe 29 = .ok (.ireturn, 1) := dk_172 (dk_at dksJ5_indexOfCharUnsafe_1 7 rfl rfl)
abbrev cJ5_indexOfSupplementary : ByteArray := prog_49_method_49_code
def yJ5_indexOfSupplementary : MethodName := ⟨RJ5, "indexOfSupplementary", "([BIII)I"⟩
def dkwJ5_indexOfSupplementary_3 : List UInt8 := [167, 255, 218, 2, 172]
abbrev dktJ5_indexOfSupplementary_3 : List UInt8 := dkwJ5_indexOfSupplementary_3 ++ []
def dkwJ5_indexOfSupplementary_2 : List UInt8 := [160, 0, 19, 42, 21, 6, 4, 96, 184, 0, 71, 21, 5, 160, 0, 6, 21, 6, 172, 132, 6, 1]
abbrev dktJ5_indexOfSupplementary_2 : List UInt8 := dkwJ5_indexOfSupplementary_2 ++ dktJ5_indexOfSupplementary_3
def dkwJ5_indexOfSupplementary_1 : List UInt8 := [184, 0, 96, 28, 54, 6, 21, 6, 29, 4, 100, 162, 0, 36, 42, 21, 6, 184, 0, 71, 21, 4]
abbrev dktJ5_indexOfSupplementary_1 : List UInt8 := dkwJ5_indexOfSupplementary_1 ++ dktJ5_indexOfSupplementary_2
def dkwJ5_indexOfSupplementary_0 : List UInt8 := [27, 184, 0, 164, 153, 0, 65, 27, 184, 0, 157, 54, 4, 27, 184, 0, 161, 54, 5, 28, 29, 42]
abbrev dktJ5_indexOfSupplementary_0 : List UInt8 := dkwJ5_indexOfSupplementary_0 ++ dktJ5_indexOfSupplementary_1
theorem dksJ5_indexOfSupplementary_0 : cJ5_indexOfSupplementary.data.toList.drop 0 = dktJ5_indexOfSupplementary_0 := by decide +kernel
theorem dksJ5_indexOfSupplementary_1 : cJ5_indexOfSupplementary.data.toList.drop 22 = dktJ5_indexOfSupplementary_1 := dk_seg dksJ5_indexOfSupplementary_0 22 rfl rfl
theorem dksJ5_indexOfSupplementary_2 : cJ5_indexOfSupplementary.data.toList.drop 44 = dktJ5_indexOfSupplementary_2 := dk_seg dksJ5_indexOfSupplementary_1 22 rfl rfl
theorem dksJ5_indexOfSupplementary_3 : cJ5_indexOfSupplementary.data.toList.drop 66 = dktJ5_indexOfSupplementary_3 := dk_seg dksJ5_indexOfSupplementary_2 22 rfl rfl
theorem dJ5_indexOfSupplementary_0 : decode cJ5_indexOfSupplementary 0 = .ok (.iload_n 1, 1) := dk_27 (dk_at dksJ5_indexOfSupplementary_0 0 rfl rfl)
theorem dJ5_indexOfSupplementary_1 : decode cJ5_indexOfSupplementary 1 = .ok (.invokestatic 164, 3) := dk_184 0 164 (dk_at dksJ5_indexOfSupplementary_0 1 rfl rfl)
theorem dJ5_indexOfSupplementary_4 : decode cJ5_indexOfSupplementary 4 = .ok (.ifCond .eq 65, 3) := dk_153 0 65 (dk_at dksJ5_indexOfSupplementary_0 4 rfl rfl)
theorem dJ5_indexOfSupplementary_7 : decode cJ5_indexOfSupplementary 7 = .ok (.iload_n 1, 1) := dk_27 (dk_at dksJ5_indexOfSupplementary_0 7 rfl rfl)
theorem dJ5_indexOfSupplementary_8 : decode cJ5_indexOfSupplementary 8 = .ok (.invokestatic 157, 3) := dk_184 0 157 (dk_at dksJ5_indexOfSupplementary_0 8 rfl rfl)
theorem dJ5_indexOfSupplementary_11 : decode cJ5_indexOfSupplementary 11 = .ok (.istore 4, 2) := dk_54 4 (dk_at dksJ5_indexOfSupplementary_0 11 rfl rfl)
theorem dJ5_indexOfSupplementary_13 : decode cJ5_indexOfSupplementary 13 = .ok (.iload_n 1, 1) := dk_27 (dk_at dksJ5_indexOfSupplementary_0 13 rfl rfl)
theorem dJ5_indexOfSupplementary_14 : decode cJ5_indexOfSupplementary 14 = .ok (.invokestatic 161, 3) := dk_184 0 161 (dk_at dksJ5_indexOfSupplementary_0 14 rfl rfl)
theorem dJ5_indexOfSupplementary_17 : decode cJ5_indexOfSupplementary 17 = .ok (.istore 5, 2) := dk_54 5 (dk_at dksJ5_indexOfSupplementary_0 17 rfl rfl)
theorem dJ5_indexOfSupplementary_19 : decode cJ5_indexOfSupplementary 19 = .ok (.iload_n 2, 1) := dk_28 (dk_at dksJ5_indexOfSupplementary_0 19 rfl rfl)
theorem dJ5_indexOfSupplementary_20 : decode cJ5_indexOfSupplementary 20 = .ok (.iload_n 3, 1) := dk_29 (dk_at dksJ5_indexOfSupplementary_0 20 rfl rfl)
theorem dJ5_indexOfSupplementary_21 : decode cJ5_indexOfSupplementary 21 = .ok (.aload_n 0, 1) := dk_42 (dk_at dksJ5_indexOfSupplementary_0 21 rfl rfl)
theorem dJ5_indexOfSupplementary_22 : decode cJ5_indexOfSupplementary 22 = .ok (.invokestatic 96, 3) := dk_184 0 96 (dk_at dksJ5_indexOfSupplementary_1 0 rfl rfl)
theorem dJ5_indexOfSupplementary_25 : decode cJ5_indexOfSupplementary 25 = .ok (.iload_n 2, 1) := dk_28 (dk_at dksJ5_indexOfSupplementary_1 3 rfl rfl)
theorem dJ5_indexOfSupplementary_26 : decode cJ5_indexOfSupplementary 26 = .ok (.istore 6, 2) := dk_54 6 (dk_at dksJ5_indexOfSupplementary_1 4 rfl rfl)
theorem dJ5_indexOfSupplementary_28 : decode cJ5_indexOfSupplementary 28 = .ok (.iload 6, 2) := dk_21 6 (dk_at dksJ5_indexOfSupplementary_1 6 rfl rfl)
theorem dJ5_indexOfSupplementary_30 : decode cJ5_indexOfSupplementary 30 = .ok (.iload_n 3, 1) := dk_29 (dk_at dksJ5_indexOfSupplementary_1 8 rfl rfl)
theorem dJ5_indexOfSupplementary_31 : decode cJ5_indexOfSupplementary 31 = .ok (.iconst 1, 1) := dk_4 (dk_at dksJ5_indexOfSupplementary_1 9 rfl rfl)
theorem dJ5_indexOfSupplementary_32 : decode cJ5_indexOfSupplementary 32 = .ok (.isub, 1) := dk_100 (dk_at dksJ5_indexOfSupplementary_1 10 rfl rfl)
theorem dJ5_indexOfSupplementary_33 : decode cJ5_indexOfSupplementary 33 = .ok (.if_icmp .ge 36, 3) := dk_162 0 36 (dk_at dksJ5_indexOfSupplementary_1 11 rfl rfl)
theorem dJ5_indexOfSupplementary_36 : decode cJ5_indexOfSupplementary 36 = .ok (.aload_n 0, 1) := dk_42 (dk_at dksJ5_indexOfSupplementary_1 14 rfl rfl)
theorem dJ5_indexOfSupplementary_37 : decode cJ5_indexOfSupplementary 37 = .ok (.iload 6, 2) := dk_21 6 (dk_at dksJ5_indexOfSupplementary_1 15 rfl rfl)
theorem dJ5_indexOfSupplementary_39 : decode cJ5_indexOfSupplementary 39 = .ok (.invokestatic 71, 3) := dk_184 0 71 (dk_at dksJ5_indexOfSupplementary_1 17 rfl rfl)
theorem dJ5_indexOfSupplementary_42 : decode cJ5_indexOfSupplementary 42 = .ok (.iload 4, 2) := dk_21 4 (dk_at dksJ5_indexOfSupplementary_1 20 rfl rfl)
theorem dJ5_indexOfSupplementary_44 : decode cJ5_indexOfSupplementary 44 = .ok (.if_icmp .ne 19, 3) := dk_160 0 19 (dk_at dksJ5_indexOfSupplementary_2 0 rfl rfl)
theorem dJ5_indexOfSupplementary_47 : decode cJ5_indexOfSupplementary 47 = .ok (.aload_n 0, 1) := dk_42 (dk_at dksJ5_indexOfSupplementary_2 3 rfl rfl)
theorem dJ5_indexOfSupplementary_48 : decode cJ5_indexOfSupplementary 48 = .ok (.iload 6, 2) := dk_21 6 (dk_at dksJ5_indexOfSupplementary_2 4 rfl rfl)
theorem dJ5_indexOfSupplementary_50 : decode cJ5_indexOfSupplementary 50 = .ok (.iconst 1, 1) := dk_4 (dk_at dksJ5_indexOfSupplementary_2 6 rfl rfl)
theorem dJ5_indexOfSupplementary_51 : decode cJ5_indexOfSupplementary 51 = .ok (.iadd, 1) := dk_96 (dk_at dksJ5_indexOfSupplementary_2 7 rfl rfl)
theorem dJ5_indexOfSupplementary_52 : decode cJ5_indexOfSupplementary 52 = .ok (.invokestatic 71, 3) := dk_184 0 71 (dk_at dksJ5_indexOfSupplementary_2 8 rfl rfl)
theorem dJ5_indexOfSupplementary_55 : decode cJ5_indexOfSupplementary 55 = .ok (.iload 5, 2) := dk_21 5 (dk_at dksJ5_indexOfSupplementary_2 11 rfl rfl)
theorem dJ5_indexOfSupplementary_57 : decode cJ5_indexOfSupplementary 57 = .ok (.if_icmp .ne 6, 3) := dk_160 0 6 (dk_at dksJ5_indexOfSupplementary_2 13 rfl rfl)
theorem dJ5_indexOfSupplementary_60 : decode cJ5_indexOfSupplementary 60 = .ok (.iload 6, 2) := dk_21 6 (dk_at dksJ5_indexOfSupplementary_2 16 rfl rfl)
theorem dJ5_indexOfSupplementary_62 : decode cJ5_indexOfSupplementary 62 = .ok (.ireturn, 1) := dk_172 (dk_at dksJ5_indexOfSupplementary_2 18 rfl rfl)
theorem dJ5_indexOfSupplementary_63 : decode cJ5_indexOfSupplementary 63 = .ok (.iinc 6 1, 3) := dk_132 6 1 (dk_at dksJ5_indexOfSupplementary_2 19 rfl rfl)
theorem dJ5_indexOfSupplementary_66 : decode cJ5_indexOfSupplementary 66 = .ok (.goto (-38), 3) := dk_167 255 218 (dk_at dksJ5_indexOfSupplementary_3 0 rfl rfl)
theorem dJ5_indexOfSupplementary_69 : decode cJ5_indexOfSupplementary 69 = .ok (.iconst (-1), 1) := dk_2 (dk_at dksJ5_indexOfSupplementary_3 3 rfl rfl)
theorem dJ5_indexOfSupplementary_70 : decode cJ5_indexOfSupplementary 70 = .ok (.ireturn, 1) := dk_172 (dk_at dksJ5_indexOfSupplementary_3 4 rfl rfl)
abbrev cJ5_charAt : ByteArray := prog_49_method_83_code
def yJ5_charAt : MethodName := ⟨RJ5, "charAt", "([BI)C"⟩
def dkwJ5_charAt_0 : List UInt8 := [27, 42, 184, 0, 67, 42, 27, 184, 0, 71, 172]
abbrev dktJ5_charAt_0 : List UInt8 := dkwJ5_charAt_0 ++ []
theorem dksJ5_charAt_0 : cJ5_charAt.data.toList.drop 0 = dktJ5_charAt_0 := by decide +kernel
theorem dJ5_charAt_0 : decode cJ5_charAt 0 = .ok (.iload_n 1, 1) := dk_27 (dk_at dksJ5_charAt_0 0 rfl rfl)
theorem dJ5_charAt_1 : decode cJ5_charAt 1 = .ok (.aload_n 0, 1) := dk_42 (dk_at dksJ5_charAt_0 1 rfl rfl)
theorem dJ5_charAt_2 : decode cJ5_charAt 2 = .ok (.invokestatic 67, 3) := dk_184 0 67 (dk_at dksJ5_charAt_0 2 rfl rfl)
theorem dJ5_charAt_5 : decode cJ5_charAt 5 = .ok (.aload_n 0, 1) := dk_42 (dk_at dksJ5_charAt_0 5 rfl rfl)
theorem dJ5_charAt_6 : decode cJ5_charAt 6 = .ok (.iload_n 1, 1) := dk_27 (dk_at dksJ5_charAt_0 6 rfl rfl)
theorem dJ5_charAt_7 : decode cJ5_charAt 7 = .ok (.invokestatic 71, 3) := dk_184 0 71 (dk_at dksJ5_charAt_0 7 rfl rfl)
theorem dJ5_charAt_10 : decode cJ5_charAt 10 = .ok (.ireturn, 1) := dk_172 (dk_at dksJ5_charAt_0 10 rfl rfl)
theorem q151 : (Jvm.Cond.initialized "java/lang/StringUTF16") ∈ lw_all := lw_g (lw_at lw_m1 9 rfl) rfl
theorem q333 : (Jvm.Cond.static ({ cls := "java/lang/StringUTF16", name := "newBytesFor", desc := "(I)[B" } : Jvm.MethodName)) ∈ lw_all := lw_g (lw_at lw_m1 191 rfl) rfl
theorem q334 : (Jvm.Cond.code ({ cls := "java/lang/StringUTF16", name := "newBytesFor", desc := "(I)[B" } : Jvm.MethodName) prog_49_method_2_code (1 : Nat) (Option.some (Jvm.ClassFile.FieldType.array Jvm.ClassFile.FieldType.byte))) ∈ lw_all := lw_g (lw_at lw_m1 192 rfl) rfl
theorem q335 : (Jvm.Cond.methodLink "java/lang/StringUTF16" (11 : Nat) ({ cls := "java/lang/StringUTF16", name := "newBytesLength", desc := "(I)I" } : Jvm.MethodName)) ∈ lw_all := lw_g (lw_at lw_m1 193 rfl) rfl
theorem q336 : (Jvm.Cond.static ({ cls := "java/lang/StringUTF16", name := "newBytesLength", desc := "(I)I" } : Jvm.MethodName)) ∈ lw_all := lw_g (lw_at lw_m1 194 rfl) rfl
theorem q337 : (Jvm.Cond.code ({ cls := "java/lang/StringUTF16", name := "newBytesLength", desc := "(I)I" } : Jvm.MethodName) prog_49_method_3_code (1 : Nat) (Option.some Jvm.ClassFile.FieldType.int)) ∈ lw_all := lw_g (lw_at lw_m1 195 rfl) rfl
theorem q338 : (Jvm.Cond.constant "java/lang/StringUTF16" (20 : Nat) (1073741823 : Int32)) ∈ lw_all := lw_g (lw_at lw_m1 196 rfl) rfl
theorem q397 : (Jvm.Cond.static ({ cls := "java/lang/StringUTF16", name := "putCharsAt", desc := "([BICCCC)I" } : Jvm.MethodName)) ∈ lw_all := lw_g (lw_at lw_m2 15 rfl) rfl
theorem q398 : (Jvm.Cond.code ({ cls := "java/lang/StringUTF16", name := "putCharsAt", desc := "([BICCCC)I" } : Jvm.MethodName) prog_49_method_81_code (7 : Nat) (Option.some Jvm.ClassFile.FieldType.int)) ∈ lw_all := lw_g (lw_at lw_m2 16 rfl) rfl
theorem q399 : (Jvm.Cond.methodLink "java/lang/StringUTF16" (96 : Nat) ({ cls := "java/lang/StringUTF16", name := "checkBoundsBeginEnd", desc := "(II[B)V" } : Jvm.MethodName)) ∈ lw_all := lw_g (lw_at lw_m2 17 rfl) rfl
theorem q400 : (Jvm.Cond.static ({ cls := "java/lang/StringUTF16", name := "checkBoundsBeginEnd", desc := "(II[B)V" } : Jvm.MethodName)) ∈ lw_all := lw_g (lw_at lw_m2 18 rfl) rfl
theorem q401 : (Jvm.Cond.code ({ cls := "java/lang/StringUTF16", name := "checkBoundsBeginEnd", desc := "(II[B)V" } : Jvm.MethodName) prog_49_method_93_code (3 : Nat) (Option.none : Option Jvm.ClassFile.FieldType)) ∈ lw_all := lw_g (lw_at lw_m2 19 rfl) rfl
theorem q402 : (Jvm.Cond.methodLink "java/lang/StringUTF16" (48 : Nat) ({ cls := "java/lang/StringUTF16", name := "length", desc := "([B)I" } : Jvm.MethodName)) ∈ lw_all := lw_g (lw_at lw_m2 20 rfl) rfl
theorem q403 : (Jvm.Cond.static ({ cls := "java/lang/StringUTF16", name := "length", desc := "([B)I" } : Jvm.MethodName)) ∈ lw_all := lw_g (lw_at lw_m2 21 rfl) rfl
theorem q404 : (Jvm.Cond.code ({ cls := "java/lang/StringUTF16", name := "length", desc := "([B)I" } : Jvm.MethodName) prog_49_method_6_code (1 : Nat) (Option.some Jvm.ClassFile.FieldType.int)) ∈ lw_all := lw_g (lw_at lw_m2 22 rfl) rfl
theorem q405 : (Jvm.Cond.methodLink "java/lang/StringUTF16" (241 : Nat) ({ cls := "java/lang/String", name := "checkBoundsBeginEnd", desc := "(III)V" } : Jvm.MethodName)) ∈ lw_all := lw_g (lw_at lw_m2 23 rfl) rfl
theorem q413 : (Jvm.Cond.methodLink "java/lang/StringUTF16" (111 : Nat) ({ cls := "java/lang/StringUTF16", name := "putChar", desc := "([BII)V" } : Jvm.MethodName)) ∈ lw_all := lw_g (lw_at lw_m2 31 rfl) rfl
theorem q414 : (Jvm.Cond.static ({ cls := "java/lang/StringUTF16", name := "putChar", desc := "([BII)V" } : Jvm.MethodName)) ∈ lw_all := lw_g (lw_at lw_m2 32 rfl) rfl
theorem q415 : (Jvm.Cond.code ({ cls := "java/lang/StringUTF16", name := "putChar", desc := "([BII)V" } : Jvm.MethodName) prog_49_method_4_code (3 : Nat) (Option.none : Option Jvm.ClassFile.FieldType)) ∈ lw_all := lw_g (lw_at lw_m2 33 rfl) rfl
theorem q416 : (Jvm.Cond.fieldLink "java/lang/StringUTF16" (44 : Nat) "java/lang/StringUTF16" "$assertionsDisabled" "Z") ∈ lw_all := lw_g (lw_at lw_m2 34 rfl) rfl
theorem q417 : (Jvm.Cond.laysStatic "java/lang/StringUTF16" "$assertionsDisabled" "Z") ∈ lw_tbl := lw_at lw_m2 35 rfl
theorem q418 : (Jvm.Cond.fieldLink "java/lang/StringUTF16" (59 : Nat) "java/lang/StringUTF16" "HI_BYTE_SHIFT" "I") ∈ lw_all := lw_g (lw_at lw_m2 36 rfl) rfl
theorem q419 : (Jvm.Cond.laysStatic "java/lang/StringUTF16" "HI_BYTE_SHIFT" "I") ∈ lw_tbl := lw_at lw_m2 37 rfl
theorem q420 : (Jvm.Cond.fieldLink "java/lang/StringUTF16" (63 : Nat) "java/lang/StringUTF16" "LO_BYTE_SHIFT" "I") ∈ lw_all := lw_g (lw_at lw_m2 38 rfl) rfl
theorem q421 : (Jvm.Cond.laysStatic "java/lang/StringUTF16" "LO_BYTE_SHIFT" "I") ∈ lw_tbl := lw_at lw_m2 39 rfl
theorem q438 : (Jvm.Cond.static ({ cls := "java/lang/StringUTF16", name := "inflate", desc := "([BI[BII)V" } : Jvm.MethodName)) ∈ lw_all := lw_g (lw_at lw_m2 56 rfl) rfl
theorem q439 : (Jvm.Cond.code ({ cls := "java/lang/StringUTF16", name := "inflate", desc := "([BI[BII)V" } : Jvm.MethodName) prog_49_method_86_code (6 : Nat) (Option.none : Option Jvm.ClassFile.FieldType)) ∈ lw_all := lw_g (lw_at lw_m2 57 rfl) rfl
theorem q440 : (Jvm.Cond.methodLink "java/lang/StringUTF16" (173 : Nat) ({ cls := "java/lang/StringUTF16", name := "checkBoundsOffCount", desc := "(II[B)V" } : Jvm.MethodName)) ∈ lw_all := lw_g (lw_at lw_m2 58 rfl) rfl
theorem q441 : (Jvm.Cond.static ({ cls := "java/lang/StringUTF16", name := "checkBoundsOffCount", desc := "(II[B)V" } : Jvm.MethodName)) ∈ lw_all := lw_g (lw_at lw_m2 59 rfl) rfl
theorem q442 : (Jvm.Cond.code ({ cls := "java/lang/StringUTF16", name := "checkBoundsOffCount", desc := "(II[B)V" } : Jvm.MethodName) prog_49_method_94_code (3 : Nat) (Option.none : Option Jvm.ClassFile.FieldType)) ∈ lw_all := lw_g (lw_at lw_m2 60 rfl) rfl
theorem q443 : (Jvm.Cond.methodLink "java/lang/StringUTF16" (419 : Nat) ({ cls := "java/lang/String", name := "checkBoundsOffCount", desc := "(III)I" } : Jvm.MethodName)) ∈ lw_all := lw_g (lw_at lw_m2 61 rfl) rfl
theorem q479 : (Jvm.Cond.static ({ cls := "java/lang/StringUTF16", name := "putCharSB", desc := "([BII)V" } : Jvm.MethodName)) ∈ lw_all := lw_g (lw_at lw_m2 97 rfl) rfl
theorem q480 : (Jvm.Cond.code ({ cls := "java/lang/StringUTF16", name := "putCharSB", desc := "([BII)V" } : Jvm.MethodName) prog_49_method_71_code (3 : Nat) (Option.none : Option Jvm.ClassFile.FieldType)) ∈ lw_all := lw_g (lw_at lw_m2 98 rfl) rfl
theorem q481 : (Jvm.Cond.methodLink "java/lang/StringUTF16" (67 : Nat) ({ cls := "java/lang/StringUTF16", name := "checkIndex", desc := "(I[B)V" } : Jvm.MethodName)) ∈ lw_all := lw_g (lw_at lw_m2 99 rfl) rfl
theorem q482 : (Jvm.Cond.static ({ cls := "java/lang/StringUTF16", name := "checkIndex", desc := "(I[B)V" } : Jvm.MethodName)) ∈ lw_all := lw_g (lw_at lw_m2 100 rfl) rfl
theorem q483 : (Jvm.Cond.code ({ cls := "java/lang/StringUTF16", name := "checkIndex", desc := "(I[B)V" } : Jvm.MethodName) prog_49_method_91_code (2 : Nat) (Option.none : Option Jvm.ClassFile.FieldType)) ∈ lw_all := lw_g (lw_at lw_m2 101 rfl) rfl
theorem q484 : (Jvm.Cond.methodLink "java/lang/StringUTF16" (414 : Nat) ({ cls := "java/lang/String", name := "checkIndex", desc := "(II)V" } : Jvm.MethodName)) ∈ lw_all := lw_g (lw_at lw_m2 102 rfl) rfl
theorem q528 : (Jvm.Cond.static ({ cls := "java/lang/StringUTF16", name := "compress", desc := "([BII)[B" } : Jvm.MethodName)) ∈ lw_all := lw_g (lw_at lw_m2 146 rfl) rfl
theorem q529 : (Jvm.Cond.code ({ cls := "java/lang/StringUTF16", name := "compress", desc := "([BII)[B" } : Jvm.MethodName) prog_49_method_17_code (6 : Nat) (Option.some (Jvm.ClassFile.FieldType.array Jvm.ClassFile.FieldType.byte))) ∈ lw_all := lw_g (lw_at lw_m2 147 rfl) rfl
theorem q530 : (Jvm.Cond.methodLink "java/lang/StringUTF16" (123 : Nat) ({ cls := "java/lang/StringUTF16", name := "compress", desc := "([BI[BII)I" } : Jvm.MethodName)) ∈ lw_all := lw_g (lw_at lw_m2 148 rfl) rfl
theorem q531 : (Jvm.Cond.static ({ cls := "java/lang/StringUTF16", name := "compress", desc := "([BI[BII)I" } : Jvm.MethodName)) ∈ lw_all := lw_g (lw_at lw_m2 149 rfl) rfl
theorem q532 : (Jvm.Cond.code ({ cls := "java/lang/StringUTF16", name := "compress", desc := "([BI[BII)I" } : Jvm.MethodName) prog_49_method_22_code (7 : Nat) (Option.some Jvm.ClassFile.FieldType.int)) ∈ lw_all := lw_g (lw_at lw_m2 150 rfl) rfl
theorem q533 : (Jvm.Cond.methodLink "java/lang/StringUTF16" (71 : Nat) ({ cls := "java/lang/StringUTF16", name := "getChar", desc := "([BI)C" } : Jvm.MethodName)) ∈ lw_all := lw_g (lw_at lw_m2 151 rfl) rfl
theorem q534 : (Jvm.Cond.static ({ cls := "java/lang/StringUTF16", name := "getChar", desc := "([BI)C" } : Jvm.MethodName)) ∈ lw_all := lw_g (lw_at lw_m2 152 rfl) rfl
theorem q535 : (Jvm.Cond.code ({ cls := "java/lang/StringUTF16", name := "getChar", desc := "([BI)C" } : Jvm.MethodName) prog_49_method_5_code (2 : Nat) (Option.some Jvm.ClassFile.FieldType.char)) ∈ lw_all := lw_g (lw_at lw_m2 153 rfl) rfl
theorem q536 : (Jvm.Cond.methodLink "java/lang/StringUTF16" (126 : Nat) ({ cls := "java/util/Arrays", name := "copyOfRange", desc := "([BII)[B" } : Jvm.MethodName)) ∈ lw_all := lw_g (lw_at lw_m2 154 rfl) rfl
theorem q538 : (Jvm.Cond.static ({ cls := "java/lang/StringUTF16", name := "coderFromArrayLen", desc := "([BI)B" } : Jvm.MethodName)) ∈ lw_all := lw_g (lw_at lw_m2 156 rfl) rfl
theorem q539 : (Jvm.Cond.code ({ cls := "java/lang/StringUTF16", name := "coderFromArrayLen", desc := "([BI)B" } : Jvm.MethodName) prog_49_method_15_code (2 : Nat) (Option.some Jvm.ClassFile.FieldType.byte)) ∈ lw_all := lw_g (lw_at lw_m2 157 rfl) rfl
theorem q584 : (Jvm.Cond.static ({ cls := "java/lang/StringUTF16", name := "indexOf", desc := "([B[B)I" } : Jvm.MethodName)) ∈ lw_all := lw_g (lw_at lw_m2 202 rfl) rfl
theorem q585 : (Jvm.Cond.code ({ cls := "java/lang/StringUTF16", name := "indexOf", desc := "([B[B)I" } : Jvm.MethodName) prog_49_method_41_code (2 : Nat) (Option.some Jvm.ClassFile.FieldType.int)) ∈ lw_all := lw_g (lw_at lw_m2 203 rfl) rfl
theorem q586 : (Jvm.Cond.methodLink "java/lang/StringUTF16" (235 : Nat) ({ cls := "java/lang/StringUTF16", name := "indexOfUnsafe", desc := "([BI[BII)I" } : Jvm.MethodName)) ∈ lw_all := lw_g (lw_at lw_m2 204 rfl) rfl
theorem q587 : (Jvm.Cond.static ({ cls := "java/lang/StringUTF16", name := "indexOfUnsafe", desc := "([BI[BII)I" } : Jvm.MethodName)) ∈ lw_all := lw_g (lw_at lw_m2 205 rfl) rfl
theorem q588 : (Jvm.Cond.code ({ cls := "java/lang/StringUTF16", name := "indexOfUnsafe", desc := "([BI[BII)I" } : Jvm.MethodName) prog_49_method_43_code (11 : Nat) (Option.some Jvm.ClassFile.FieldType.int)) ∈ lw_all := lw_g (lw_at lw_m2 206 rfl) rfl
theorem q590 : (Jvm.Cond.static ({ cls := "java/lang/StringUTF16", name := "indexOfLatin1", desc := "([B[B)I" } : Jvm.MethodName)) ∈ lw_all := lw_g (lw_at lw_m2 208 rfl) rfl
theorem q591 : (Jvm.Cond.code ({ cls := "java/lang/StringUTF16", name := "indexOfLatin1", desc := "([B[B)I" } : Jvm.MethodName) prog_49_method_44_code (2 : Nat) (Option.some Jvm.ClassFile.FieldType.int)) ∈ lw_all := lw_g (lw_at lw_m2 209 rfl) rfl
theorem q592 : (Jvm.Cond.methodLink "java/lang/StringUTF16" (238 : Nat) ({ cls := "java/lang/StringUTF16", name := "indexOfLatin1Unsafe", desc := "([BI[BII)I" } : Jvm.MethodName)) ∈ lw_all := lw_g (lw_at lw_m2 210 rfl) rfl
theorem q593 : (Jvm.Cond.static ({ cls := "java/lang/StringUTF16", name := "indexOfLatin1Unsafe", desc := "([BI[BII)I" } : Jvm.MethodName)) ∈ lw_all := lw_g (lw_at lw_m2 211 rfl) rfl
theorem q594 : (Jvm.Cond.code ({ cls := "java/lang/StringUTF16", name := "indexOfLatin1Unsafe", desc := "([BI[BII)I" } : Jvm.MethodName) prog_49_method_46_code (11 : Nat) (Option.some Jvm.ClassFile.FieldType.int)) ∈ lw_all := lw_g (lw_at lw_m2 212 rfl) rfl
theorem q621 : (Jvm.Cond.static ({ cls := "java/lang/StringUTF16", name := "indexOf", desc := "([BIII)I" } : Jvm.MethodName)) ∈ lw_all := lw_g (lw_at lw_m2 239 rfl) rfl
theorem q622 : (Jvm.Cond.code ({ cls := "java/lang/StringUTF16", name := "indexOf", desc := "([BIII)I" } : Jvm.MethodName) prog_49_method_40_code (4 : Nat) (Option.some Jvm.ClassFile.FieldType.int)) ∈ lw_all := lw_g (lw_at lw_m3 0 rfl) rfl
theorem q623 : (Jvm.Cond.methodLink "java/lang/StringUTF16" (224 : Nat) ({ cls := "java/lang/Math", name := "max", desc := "(II)I" } : Jvm.MethodName)) ∈ lw_all := lw_g (lw_at lw_m3 1 rfl) rfl
theorem q624 : (Jvm.Cond.methodLink "java/lang/StringUTF16" (183 : Nat) ({ cls := "java/lang/Math", name := "min", desc := "(II)I" } : Jvm.MethodName)) ∈ lw_all := lw_g (lw_at lw_m3 2 rfl) rfl
theorem q625 : (Jvm.Cond.constant "java/lang/StringUTF16" (227 : Nat) (65536 : Int32)) ∈ lw_all := lw_g (lw_at lw_m3 3 rfl) rfl
theorem q626 : (Jvm.Cond.methodLink "java/lang/StringUTF16" (228 : Nat) ({ cls := "java/lang/StringUTF16", name := "indexOfChar", desc := "([BIII)I" } : Jvm.MethodName)) ∈ lw_all := lw_g (lw_at lw_m3 4 rfl) rfl
theorem q627 : (Jvm.Cond.static ({ cls := "java/lang/StringUTF16", name := "indexOfChar", desc := "([BIII)I" } : Jvm.MethodName)) ∈ lw_all := lw_g (lw_at lw_m3 5 rfl) rfl
theorem q628 : (Jvm.Cond.code ({ cls := "java/lang/StringUTF16", name := "indexOfChar", desc := "([BIII)I" } : Jvm.MethodName) prog_49_method_47_code (4 : Nat) (Option.some Jvm.ClassFile.FieldType.int)) ∈ lw_all := lw_g (lw_at lw_m3 6 rfl) rfl
theorem q629 : (Jvm.Cond.methodLink "java/lang/StringUTF16" (244 : Nat) ({ cls := "java/lang/StringUTF16", name := "indexOfCharUnsafe", desc := "([BIII)I" } : Jvm.MethodName)) ∈ lw_all := lw_g (lw_at lw_m3 7 rfl) rfl
theorem q630 : (Jvm.Cond.static ({ cls := "java/lang/StringUTF16", name := "indexOfCharUnsafe", desc := "([BIII)I" } : Jvm.MethodName)) ∈ lw_all := lw_g (lw_at lw_m3 8 rfl) rfl
theorem q631 : (Jvm.Cond.code ({ cls := "java/lang/StringUTF16", name := "indexOfCharUnsafe", desc := "([BIII)I" } : Jvm.MethodName) prog_49_method_48_code (5 : Nat) (Option.some Jvm.ClassFile.FieldType.int)) ∈ lw_all := lw_g (lw_at lw_m3 9 rfl) rfl
theorem q632 : (Jvm.Cond.methodLink "java/lang/StringUTF16" (232 : Nat) ({ cls := "java/lang/StringUTF16", name := "indexOfSupplementary", desc := "([BIII)I" } : Jvm.MethodName)) ∈ lw_all := lw_g (lw_at lw_m3 10 rfl) rfl
theorem q633 : (Jvm.Cond.static ({ cls := "java/lang/StringUTF16", name := "indexOfSupplementary", desc := "([BIII)I" } : Jvm.MethodName)) ∈ lw_all := lw_g (lw_at lw_m3 11 rfl) rfl
theorem q634 : (Jvm.Cond.code ({ cls := "java/lang/StringUTF16", name := "indexOfSupplementary", desc := "([BIII)I" } : Jvm.MethodName) prog_49_method_49_code (7 : Nat) (Option.some Jvm.ClassFile.FieldType.int)) ∈ lw_all := lw_g (lw_at lw_m3 12 rfl) rfl
theorem q635 : (Jvm.Cond.methodLink "java/lang/StringUTF16" (164 : Nat) ({ cls := "java/lang/Character", name := "isValidCodePoint", desc := "(I)Z" } : Jvm.MethodName)) ∈ lw_all := lw_g (lw_at lw_m3 13 rfl) rfl
theorem q638 : (Jvm.Cond.methodLink "java/lang/StringUTF16" (157 : Nat) ({ cls := "java/lang/Character", name := "highSurrogate", desc := "(I)C" } : Jvm.MethodName)) ∈ lw_all := lw_g (lw_at lw_m3 16 rfl) rfl
theorem q642 : (Jvm.Cond.methodLink "java/lang/StringUTF16" (161 : Nat) ({ cls := "java/lang/Character", name := "lowSurrogate", desc := "(I)C" } : Jvm.MethodName)) ∈ lw_all := lw_g (lw_at lw_m3 20 rfl) rfl
theorem q661 : (Jvm.Cond.static ({ cls := "java/lang/StringUTF16", name := "charAt", desc := "([BI)C" } : Jvm.MethodName)) ∈ lw_all := lw_g (lw_at lw_m3 39 rfl) rfl
theorem q662 : (Jvm.Cond.code ({ cls := "java/lang/StringUTF16", name := "charAt", desc := "([BI)C" } : Jvm.MethodName) prog_49_method_83_code (2 : Nat) (Option.some Jvm.ClassFile.FieldType.char)) ∈ lw_all := lw_g (lw_at lw_m3 40 rfl) rfl

/-! jdk/internal/util/ArraysSupport -/
set_option maxRecDepth 100000
def RJ6 : String := "jdk/internal/util/ArraysSupport"
abbrev cJ6_newLength : ByteArray := prog_53_method_27_code
def yJ6_newLength : MethodName := ⟨RJ6, "newLength", "(III)I"⟩
def dkwJ6_newLength_1 : List UInt8 := [184, 0, 201, 172]
abbrev dktJ6_newLength_1 : List UInt8 := dkwJ6_newLength_1 ++ []
def dkwJ6_newLength_0 : List UInt8 := [26, 27, 28, 184, 0, 194, 96, 62, 3, 29, 162, 0, 11, 29, 18, 200, 163, 0, 5, 29, 172, 26, 27]
abbrev dktJ6_newLength_0 : List UInt8 := dkwJ6_newLength_0 ++ dktJ6_newLength_1
theorem dksJ6_newLength_0 : cJ6_newLength.data.toList.drop 0 = dktJ6_newLength_0 := by decide +kernel
theorem dksJ6_newLength_1 : cJ6_newLength.data.toList.drop 23 = dktJ6_newLength_1 := dk_seg dksJ6_newLength_0 23 rfl rfl
theorem dJ6_newLength_0 : decode cJ6_newLength 0 = .ok (.iload_n 0, 1) := dk_26 (dk_at dksJ6_newLength_0 0 rfl rfl)
theorem dJ6_newLength_1 : decode cJ6_newLength 1 = .ok (.iload_n 1, 1) := dk_27 (dk_at dksJ6_newLength_0 1 rfl rfl)
theorem dJ6_newLength_2 : decode cJ6_newLength 2 = .ok (.iload_n 2, 1) := dk_28 (dk_at dksJ6_newLength_0 2 rfl rfl)
theorem dJ6_newLength_3 : decode cJ6_newLength 3 = .ok (.invokestatic 194, 3) := dk_184 0 194 (dk_at dksJ6_newLength_0 3 rfl rfl)
theorem dJ6_newLength_6 : decode cJ6_newLength 6 = .ok (.iadd, 1) := dk_96 (dk_at dksJ6_newLength_0 6 rfl rfl)
theorem dJ6_newLength_7 : decode cJ6_newLength 7 = .ok (.istore_n 3, 1) := dk_62 (dk_at dksJ6_newLength_0 7 rfl rfl)
theorem dJ6_newLength_8 : decode cJ6_newLength 8 = .ok (.iconst 0, 1) := dk_3 (dk_at dksJ6_newLength_0 8 rfl rfl)
theorem dJ6_newLength_9 : decode cJ6_newLength 9 = .ok (.iload_n 3, 1) := dk_29 (dk_at dksJ6_newLength_0 9 rfl rfl)
theorem dJ6_newLength_10 : decode cJ6_newLength 10 = .ok (.if_icmp .ge 11, 3) := dk_162 0 11 (dk_at dksJ6_newLength_0 10 rfl rfl)
theorem dJ6_newLength_13 : decode cJ6_newLength 13 = .ok (.iload_n 3, 1) := dk_29 (dk_at dksJ6_newLength_0 13 rfl rfl)
theorem dJ6_newLength_14 : decode cJ6_newLength 14 = .ok (.ldc 200, 2) := dk_18 200 (dk_at dksJ6_newLength_0 14 rfl rfl)
theorem dJ6_newLength_16 : decode cJ6_newLength 16 = .ok (.if_icmp .gt 5, 3) := dk_163 0 5 (dk_at dksJ6_newLength_0 16 rfl rfl)
theorem dJ6_newLength_19 : decode cJ6_newLength 19 = .ok (.iload_n 3, 1) := dk_29 (dk_at dksJ6_newLength_0 19 rfl rfl)
theorem dJ6_newLength_20 : decode cJ6_newLength 20 = .ok (.ireturn, 1) := dk_172 (dk_at dksJ6_newLength_0 20 rfl rfl)
theorem dJ6_newLength_21 : decode cJ6_newLength 21 = .ok (.iload_n 0, 1) := dk_26 (dk_at dksJ6_newLength_0 21 rfl rfl)
theorem dJ6_newLength_22 : decode cJ6_newLength 22 = .ok (.iload_n 1, 1) := dk_27 (dk_at dksJ6_newLength_0 22 rfl rfl)
theorem dJ6_newLength_23 : decode cJ6_newLength 23 = .ok (.invokestatic 201, 3) := dk_184 0 201 (dk_at dksJ6_newLength_1 0 rfl rfl)
theorem dJ6_newLength_26 : decode cJ6_newLength 26 = .ok (.ireturn, 1) := dk_172 (dk_at dksJ6_newLength_1 3 rfl rfl)
abbrev cJ6_hugeLength : ByteArray := prog_53_method_28_code
def yJ6_hugeLength : MethodName := ⟨RJ6, "hugeLength", "(II)I"⟩
def dkwJ6_hugeLength_2 : List UInt8 := [191, 28, 18, 200, 163, 0, 6, 18, 200, 172, 28, 172]
abbrev dktJ6_hugeLength_2 : List UInt8 := dkwJ6_hugeLength_2 ++ []
def dkwJ6_hugeLength_1 : List UInt8 := [26, 182, 0, 98, 18, 208, 182, 0, 94, 27, 182, 0, 98, 18, 210, 182, 0, 94, 182, 0, 101, 183, 0, 212]
abbrev dktJ6_hugeLength_1 : List UInt8 := dkwJ6_hugeLength_1 ++ dktJ6_hugeLength_2
def dkwJ6_hugeLength_0 : List UInt8 := [26, 27, 96, 61, 28, 156, 0, 44, 187, 0, 204, 89, 187, 0, 89, 89, 183, 0, 91, 18, 206, 182, 0, 94]
abbrev dktJ6_hugeLength_0 : List UInt8 := dkwJ6_hugeLength_0 ++ dktJ6_hugeLength_1
theorem dksJ6_hugeLength_0 : cJ6_hugeLength.data.toList.drop 0 = dktJ6_hugeLength_0 := by decide +kernel
theorem dksJ6_hugeLength_1 : cJ6_hugeLength.data.toList.drop 24 = dktJ6_hugeLength_1 := dk_seg dksJ6_hugeLength_0 24 rfl rfl
theorem dksJ6_hugeLength_2 : cJ6_hugeLength.data.toList.drop 48 = dktJ6_hugeLength_2 := dk_seg dksJ6_hugeLength_1 24 rfl rfl
theorem dJ6_hugeLength_0 : decode cJ6_hugeLength 0 = .ok (.iload_n 0, 1) := dk_26 (dk_at dksJ6_hugeLength_0 0 rfl rfl)
theorem dJ6_hugeLength_1 : decode cJ6_hugeLength 1 = .ok (.iload_n 1, 1) := dk_27 (dk_at dksJ6_hugeLength_0 1 rfl rfl)
theorem dJ6_hugeLength_2 : decode cJ6_hugeLength 2 = .ok (.iadd, 1) := dk_96 (dk_at dksJ6_hugeLength_0 2 rfl rfl)
theorem dJ6_hugeLength_3 : decode cJ6_hugeLength 3 = .ok (.istore_n 2, 1) := dk_61 (dk_at dksJ6_hugeLength_0 3 rfl rfl)
theorem dJ6_hugeLength_4 : decode cJ6_hugeLength 4 = .ok (.iload_n 2, 1) := dk_28 (dk_at dksJ6_hugeLength_0 4 rfl rfl)
theorem dJ6_hugeLength_5 : decode cJ6_hugeLength 5 = .ok (.ifCond .ge 44, 3) := dk_156 0 44 (dk_at dksJ6_hugeLength_0 5 rfl rfl)
theorem dJ6_hugeLength_8 : decode cJ6_hugeLength 8 = .ok (.new 204, 3) := dk_187 0 204 (dk_at dksJ6_hugeLength_0 8 rfl rfl)
theorem dJ6_hugeLength_11 : decode cJ6_hugeLength 11 = .ok (.dup, 1) := dk_89 (dk_at dksJ6_hugeLength_0 11 rfl rfl)
theorem dJ6_hugeLength_12 : decode cJ6_hugeLength 12 = .ok (.new 89, 3) := dk_187 0 89 (dk_at dksJ6_hugeLength_0 12 rfl rfl)
theorem dJ6_hugeLength_15 : decode cJ6_hugeLength 15 = .ok (.dup, 1) := dk_89 (dk_at dksJ6_hugeLength_0 15 rfl rfl)
theorem dJ6_hugeLength_16 : decode cJ6_hugeLength 16 = .ok (.invokespecial 91, 3) := dk_183 0 91 (dk_at dksJ6_hugeLength_0 16 rfl rfl)
theorem dJ6_hugeLength_19 : decode cJ6_hugeLength 19 = .ok (.ldc 206, 2) := dk_18 206 (dk_at dksJ6_hugeLength_0 19 rfl rfl)
theorem dJ6_hugeLength_21 : decode cJ6_hugeLength 21 = .ok (.invokevirtual 94, 3) := dk_182 0 94 (dk_at dksJ6_hugeLength_0 21 rfl rfl)
theorem dJ6_hugeLength_24 : decode cJ6_hugeLength 24 = .ok (.iload_n 0, 1) := dk_26 (dk_at dksJ6_hugeLength_1 0 rfl rfl)
theorem dJ6_hugeLength_25 : decode cJ6_hugeLength 25 = .ok (.invokevirtual 98, 3) := dk_182 0 98 (dk_at dksJ6_hugeLength_1 1 rfl rfl)
theorem dJ6_hugeLength_28 : decode cJ6_hugeLength 28 = .ok (.ldc 208, 2) := dk_18 208 (dk_at dksJ6_hugeLength_1 4 rfl rfl)
theorem dJ6_hugeLength_30 : decode cJ6_hugeLength 30 = .ok (.invokevirtual 94, 3) := dk_182 0 94 (dk_at dksJ6_hugeLength_1 6 rfl rfl)
theorem dJ6_hugeLength_33 : decode cJ6_hugeLength 33 = .ok (.iload_n 1, 1) := dk_27 (dk_at dksJ6_hugeLength_1 9 rfl rfl)
theorem dJ6_hugeLength_34 : decode cJ6_hugeLength 34 = .ok (.invokevirtual 98, 3) := dk_182 0 98 (dk_at dksJ6_hugeLength_1 10 rfl rfl)
theorem dJ6_hugeLength_37 : decode cJ6_hugeLength 37 = .ok (.ldc 210, 2) := dk_18 210 (dk_at dksJ6_hugeLength_1 13 rfl rfl)
theorem dJ6_hugeLength_39 : decode cJ6_hugeLength 39 = .ok (.invokevirtual 94, 3) := dk_182 0 94 (dk_at dksJ6_hugeLength_1 15 rfl rfl)
theorem dJ6_hugeLength_42 : decode cJ6_hugeLength 42 = .ok (.invokevirtual 101, 3) := dk_182 0 101 (dk_at dksJ6_hugeLength_1 18 rfl rfl)
theorem dJ6_hugeLength_45 : decode cJ6_hugeLength 45 = .ok (.invokespecial 212, 3) := dk_183 0 212 (dk_at dksJ6_hugeLength_1 21 rfl rfl)
theorem dJ6_hugeLength_48 : decode cJ6_hugeLength 48 = .ok (.athrow, 1) := dk_191 (dk_at dksJ6_hugeLength_2 0 rfl rfl)
theorem dJ6_hugeLength_49 : decode cJ6_hugeLength 49 = .ok (.iload_n 2, 1) := dk_28 (dk_at dksJ6_hugeLength_2 1 rfl rfl)
theorem dJ6_hugeLength_50 : decode cJ6_hugeLength 50 = .ok (.ldc 200, 2) := dk_18 200 (dk_at dksJ6_hugeLength_2 2 rfl rfl)
theorem dJ6_hugeLength_52 : decode cJ6_hugeLength 52 = .ok (.if_icmp .gt 6, 3) := dk_163 0 6 (dk_at dksJ6_hugeLength_2 4 rfl rfl)
theorem dJ6_hugeLength_55 : decode cJ6_hugeLength 55 = .ok (.ldc 200, 2) := dk_18 200 (dk_at dksJ6_hugeLength_2 7 rfl rfl)
theorem dJ6_hugeLength_57 : decode cJ6_hugeLength 57 = .ok (.ireturn, 1) := dk_172 (dk_at dksJ6_hugeLength_2 9 rfl rfl)
theorem dJ6_hugeLength_58 : decode cJ6_hugeLength 58 = .ok (.iload_n 2, 1) := dk_28 (dk_at dksJ6_hugeLength_2 10 rfl rfl)
theorem dJ6_hugeLength_59 : decode cJ6_hugeLength 59 = .ok (.ireturn, 1) := dk_172 (dk_at dksJ6_hugeLength_2 11 rfl rfl)
theorem q152 : (Jvm.Cond.initialized "jdk/internal/util/ArraysSupport") ∈ lw_all := lw_g (lw_at lw_m1 10 rfl) rfl
theorem q365 : (Jvm.Cond.static ({ cls := "jdk/internal/util/ArraysSupport", name := "newLength", desc := "(III)I" } : Jvm.MethodName)) ∈ lw_all := lw_g (lw_at lw_m1 223 rfl) rfl
theorem q366 : (Jvm.Cond.code ({ cls := "jdk/internal/util/ArraysSupport", name := "newLength", desc := "(III)I" } : Jvm.MethodName) prog_53_method_27_code (4 : Nat) (Option.some Jvm.ClassFile.FieldType.int)) ∈ lw_all := lw_g (lw_at lw_m1 224 rfl) rfl
theorem q367 : (Jvm.Cond.methodLink "jdk/internal/util/ArraysSupport" (194 : Nat) ({ cls := "java/lang/Math", name := "max", desc := "(II)I" } : Jvm.MethodName)) ∈ lw_all := lw_g (lw_at lw_m1 225 rfl) rfl
theorem q370 : (Jvm.Cond.constant "jdk/internal/util/ArraysSupport" (200 : Nat) (2147483639 : Int32)) ∈ lw_all := lw_g (lw_at lw_m1 228 rfl) rfl
theorem q371 : (Jvm.Cond.methodLink "jdk/internal/util/ArraysSupport" (201 : Nat) ({ cls := "jdk/internal/util/ArraysSupport", name := "hugeLength", desc := "(II)I" } : Jvm.MethodName)) ∈ lw_all := lw_g (lw_at lw_m1 229 rfl) rfl
theorem q372 : (Jvm.Cond.static ({ cls := "jdk/internal/util/ArraysSupport", name := "hugeLength", desc := "(II)I" } : Jvm.MethodName)) ∈ lw_all := lw_g (lw_at lw_m1 230 rfl) rfl
theorem q373 : (Jvm.Cond.code ({ cls := "jdk/internal/util/ArraysSupport", name := "hugeLength", desc := "(II)I" } : Jvm.MethodName) prog_53_method_28_code (3 : Nat) (Option.some Jvm.ClassFile.FieldType.int)) ∈ lw_all := lw_g (lw_at lw_m1 231 rfl) rfl

/-! java/lang/Math -/
set_option maxRecDepth 100000
def RJ7 : String := "java/lang/Math"
abbrev cJ7_max : ByteArray := prog_44_method_65_code
def yJ7_max : MethodName := ⟨RJ7, "max", "(II)I"⟩
def dkwJ7_max_0 : List UInt8 := [26, 27, 161, 0, 7, 26, 167, 0, 4, 27, 172]
abbrev dktJ7_max_0 : List UInt8 := dkwJ7_max_0 ++ []
theorem dksJ7_max_0 : cJ7_max.data.toList.drop 0 = dktJ7_max_0 := by decide +kernel
theorem dJ7_max_0 : decode cJ7_max 0 = .ok (.iload_n 0, 1) := dk_26 (dk_at dksJ7_max_0 0 rfl rfl)
theorem dJ7_max_1 : decode cJ7_max 1 = .ok (.iload_n 1, 1) := dk_27 (dk_at dksJ7_max_0 1 rfl rfl)
theorem dJ7_max_2 : decode cJ7_max 2 = .ok (.if_icmp .lt 7, 3) := dk_161 0 7 (dk_at dksJ7_max_0 2 rfl rfl)
theorem dJ7_max_5 : decode cJ7_max 5 = .ok (.iload_n 0, 1) := dk_26 (dk_at dksJ7_max_0 5 rfl rfl)
theorem dJ7_max_6 : decode cJ7_max 6 = .ok (.goto 4, 3) := dk_167 0 4 (dk_at dksJ7_max_0 6 rfl rfl)
theorem dJ7_max_9 : decode cJ7_max 9 = .ok (.iload_n 1, 1) := dk_27 (dk_at dksJ7_max_0 9 rfl rfl)
theorem dJ7_max_10 : decode cJ7_max 10 = .ok (.ireturn, 1) := dk_172 (dk_at dksJ7_max_0 10 rfl rfl)
abbrev cJ7_min : ByteArray := prog_44_method_69_code
def yJ7_min : MethodName := ⟨RJ7, "min", "(II)I"⟩
def dkwJ7_min_0 : List UInt8 := [26, 27, 163, 0, 7, 26, 167, 0, 4, 27, 172]
abbrev dktJ7_min_0 : List UInt8 := dkwJ7_min_0 ++ []
theorem dksJ7_min_0 : cJ7_min.data.toList.drop 0 = dktJ7_min_0 := by decide +kernel
theorem dJ7_min_0 : decode cJ7_min 0 = .ok (.iload_n 0, 1) := dk_26 (dk_at dksJ7_min_0 0 rfl rfl)
theorem dJ7_min_1 : decode cJ7_min 1 = .ok (.iload_n 1, 1) := dk_27 (dk_at dksJ7_min_0 1 rfl rfl)
theorem dJ7_min_2 : decode cJ7_min 2 = .ok (.if_icmp .gt 7, 3) := dk_163 0 7 (dk_at dksJ7_min_0 2 rfl rfl)
theorem dJ7_min_5 : decode cJ7_min 5 = .ok (.iload_n 0, 1) := dk_26 (dk_at dksJ7_min_0 5 rfl rfl)
theorem dJ7_min_6 : decode cJ7_min 6 = .ok (.goto 4, 3) := dk_167 0 4 (dk_at dksJ7_min_0 6 rfl rfl)
theorem dJ7_min_9 : decode cJ7_min 9 = .ok (.iload_n 1, 1) := dk_27 (dk_at dksJ7_min_0 9 rfl rfl)
theorem dJ7_min_10 : decode cJ7_min 10 = .ok (.ireturn, 1) := dk_172 (dk_at dksJ7_min_0 10 rfl rfl)
theorem q153 : (Jvm.Cond.initialized "java/lang/Math") ∈ lw_all := lw_g (lw_at lw_m1 11 rfl) rfl
theorem q368 : (Jvm.Cond.static ({ cls := "java/lang/Math", name := "max", desc := "(II)I" } : Jvm.MethodName)) ∈ lw_all := lw_g (lw_at lw_m1 226 rfl) rfl
theorem q369 : (Jvm.Cond.code ({ cls := "java/lang/Math", name := "max", desc := "(II)I" } : Jvm.MethodName) prog_44_method_65_code (2 : Nat) (Option.some Jvm.ClassFile.FieldType.int)) ∈ lw_all := lw_g (lw_at lw_m1 227 rfl) rfl
theorem q385 : (Jvm.Cond.static ({ cls := "java/lang/Math", name := "min", desc := "(II)I" } : Jvm.MethodName)) ∈ lw_all := lw_g (lw_at lw_m2 3 rfl) rfl
theorem q386 : (Jvm.Cond.code ({ cls := "java/lang/Math", name := "min", desc := "(II)I" } : Jvm.MethodName) prog_44_method_69_code (2 : Nat) (Option.some Jvm.ClassFile.FieldType.int)) ∈ lw_all := lw_g (lw_at lw_m2 4 rfl) rfl

/-! java/util/Arrays -/
set_option maxRecDepth 100000
def RJ8 : String := "java/util/Arrays"
abbrev cJ8_copyOf : ByteArray := prog_52_method_121_code
def yJ8_copyOf : MethodName := ⟨RJ8, "copyOf", "([BI)[B"⟩
def dkwJ8_copyOf_1 : List UInt8 := [27, 184, 1, 48, 184, 0, 150, 44, 176]
abbrev dktJ8_copyOf_1 : List UInt8 := dkwJ8_copyOf_1 ++ []
def dkwJ8_copyOf_0 : List UInt8 := [27, 42, 190, 160, 0, 11, 42, 182, 1, 54, 192, 1, 55, 176, 27, 188, 8, 77, 42, 3, 44, 3, 42, 190]
abbrev dktJ8_copyOf_0 : List UInt8 := dkwJ8_copyOf_0 ++ dktJ8_copyOf_1
theorem dksJ8_copyOf_0 : cJ8_copyOf.data.toList.drop 0 = dktJ8_copyOf_0 := by decide +kernel
theorem dksJ8_copyOf_1 : cJ8_copyOf.data.toList.drop 24 = dktJ8_copyOf_1 := dk_seg dksJ8_copyOf_0 24 rfl rfl
theorem dJ8_copyOf_0 : decode cJ8_copyOf 0 = .ok (.iload_n 1, 1) := dk_27 (dk_at dksJ8_copyOf_0 0 rfl rfl)
theorem dJ8_copyOf_1 : decode cJ8_copyOf 1 = .ok (.aload_n 0, 1) := dk_42 (dk_at dksJ8_copyOf_0 1 rfl rfl)
theorem dJ8_copyOf_2 : decode cJ8_copyOf 2 = .ok (.arraylength, 1) := dk_190 (dk_at dksJ8_copyOf_0 2 rfl rfl)
theorem dJ8_copyOf_3 : decode cJ8_copyOf 3 = .ok (.if_icmp .ne 11, 3) := dk_160 0 11 (dk_at dksJ8_copyOf_0 3 rfl rfl)
theorem dJ8_copyOf_6 : decode cJ8_copyOf 6 = .ok (.aload_n 0, 1) := dk_42 (dk_at dksJ8_copyOf_0 6 rfl rfl)
theorem dJ8_copyOf_7 : decode cJ8_copyOf 7 = .ok (.invokevirtual 310, 3) := dk_182 1 54 (dk_at dksJ8_copyOf_0 7 rfl rfl)
theorem dJ8_copyOf_10 : decode cJ8_copyOf 10 = .ok (.checkcast 311, 3) := dk_192 1 55 (dk_at dksJ8_copyOf_0 10 rfl rfl)
theorem dJ8_copyOf_13 : decode cJ8_copyOf 13 = .ok (.areturn, 1) := dk_176 (dk_at dksJ8_copyOf_0 13 rfl rfl)
theorem dJ8_copyOf_14 : decode cJ8_copyOf 14 = .ok (.iload_n 1, 1) := dk_27 (dk_at dksJ8_copyOf_0 14 rfl rfl)
theorem dJ8_copyOf_15 : decode cJ8_copyOf 15 = .ok (.newarray .byte, 2) := dk_188_8 (dk_at dksJ8_copyOf_0 15 rfl rfl)
theorem dJ8_copyOf_17 : decode cJ8_copyOf 17 = .ok (.astore_n 2, 1) := dk_77 (dk_at dksJ8_copyOf_0 17 rfl rfl)
theorem dJ8_copyOf_18 : decode cJ8_copyOf 18 = .ok (.aload_n 0, 1) := dk_42 (dk_at dksJ8_copyOf_0 18 rfl rfl)
theorem dJ8_copyOf_19 : decode cJ8_copyOf 19 = .ok (.iconst 0, 1) := dk_3 (dk_at dksJ8_copyOf_0 19 rfl rfl)
theorem dJ8_copyOf_20 : decode cJ8_copyOf 20 = .ok (.aload_n 2, 1) := dk_44 (dk_at dksJ8_copyOf_0 20 rfl rfl)
theorem dJ8_copyOf_21 : decode cJ8_copyOf 21 = .ok (.iconst 0, 1) := dk_3 (dk_at dksJ8_copyOf_0 21 rfl rfl)
theorem dJ8_copyOf_22 : decode cJ8_copyOf 22 = .ok (.aload_n 0, 1) := dk_42 (dk_at dksJ8_copyOf_0 22 rfl rfl)
theorem dJ8_copyOf_23 : decode cJ8_copyOf 23 = .ok (.arraylength, 1) := dk_190 (dk_at dksJ8_copyOf_0 23 rfl rfl)
theorem dJ8_copyOf_24 : decode cJ8_copyOf 24 = .ok (.iload_n 1, 1) := dk_27 (dk_at dksJ8_copyOf_1 0 rfl rfl)
theorem dJ8_copyOf_25 : decode cJ8_copyOf 25 = .ok (.invokestatic 304, 3) := dk_184 1 48 (dk_at dksJ8_copyOf_1 1 rfl rfl)
theorem dJ8_copyOf_28 : decode cJ8_copyOf 28 = .ok (.invokestatic 150, 3) := dk_184 0 150 (dk_at dksJ8_copyOf_1 4 rfl rfl)
theorem dJ8_copyOf_31 : decode cJ8_copyOf 31 = .ok (.aload_n 2, 1) := dk_44 (dk_at dksJ8_copyOf_1 7 rfl rfl)
theorem dJ8_copyOf_32 : decode cJ8_copyOf 32 = .ok (.areturn, 1) := dk_176 (dk_at dksJ8_copyOf_1 8 rfl rfl)
abbrev cJ8_copyOfRange : ByteArray := prog_52_method_132_code
def yJ8_copyOfRange : MethodName := ⟨RJ8, "copyOfRange", "([BII)[B"⟩
def dkwJ8_copyOfRange_1 : List UInt8 := [176]
abbrev dktJ8_copyOfRange_1 : List UInt8 := dkwJ8_copyOfRange_1 ++ []
def dkwJ8_copyOfRange_0 : List UInt8 := [27, 154, 0, 9, 28, 42, 190, 159, 0, 10, 42, 27, 28, 184, 1, 83, 176, 42, 182, 1, 54, 192, 1, 55]
abbrev dktJ8_copyOfRange_0 : List UInt8 := dkwJ8_copyOfRange_0 ++ dktJ8_copyOfRange_1
theorem dksJ8_copyOfRange_0 : cJ8_copyOfRange.data.toList.drop 0 = dktJ8_copyOfRange_0 := by decide +kernel
theorem dksJ8_copyOfRange_1 : cJ8_copyOfRange.data.toList.drop 24 = dktJ8_copyOfRange_1 := dk_seg dksJ8_copyOfRange_0 24 rfl rfl
theorem dJ8_copyOfRange_0 : decode cJ8_copyOfRange 0 = .ok (.iload_n 1, 1) := dk_27 (dk_at dksJ8_copyOfRange_0 0 rfl rfl)
theorem dJ8_copyOfRange_1 : decode cJ8_copyOfRange 1 = .ok (.ifCond .ne 9, 3) := dk_154 0 9 (dk_at dksJ8_copyOfRange_0 1 rfl rfl)
theorem dJ8_copyOfRange_4 : decode cJ8_copyOfRange 4 = .ok (.iload_n 2, 1) := dk_28 (dk_at dksJ8_copyOfRange_0 4 rfl rfl)
theorem dJ8_copyOfRange_5 : decode cJ8_copyOfRange 5 = .ok (.aload_n 0, 1) := dk_42 (dk_at dksJ8_copyOfRange_0 5 rfl rfl)
theorem dJ8_copyOfRange_6 : decode cJ8_copyOfRange 6 = .ok (.arraylength, 1) := dk_190 (dk_at dksJ8_copyOfRange_0 6 rfl rfl)
theorem dJ8_copyOfRange_7 : decode cJ8_copyOfRange 7 = .ok (.if_icmp .eq 10, 3) := dk_159 0 10 (dk_at dksJ8_copyOfRange_0 7 rfl rfl)
theorem dJ8_copyOfRange_10 : decode cJ8_copyOfRange 10 = .ok (.aload_n 0, 1) := dk_42 (dk_at dksJ8_copyOfRange_0 10 rfl rfl)
theorem dJ8_copyOfRange_11 : decode cJ8_copyOfRange 11 = .ok (.iload_n 1, 1) := dk_27 (dk_at dksJ8_copyOfRange_0 11 rfl rfl)
theorem dJ8_copyOfRange_12 : decode cJ8_copyOfRange 12 = .ok (.iload_n 2, 1) := dk_28 (dk_at dksJ8_copyOfRange_0 12 rfl rfl)
theorem dJ8_copyOfRange_13 : decode cJ8_copyOfRange 13 = .ok (.invokestatic 339, 3) := dk_184 1 83 (dk_at dksJ8_copyOfRange_0 13 rfl rfl)
theorem dJ8_copyOfRange_16 : decode cJ8_copyOfRange 16 = .ok (.areturn, 1) := dk_176 (dk_at dksJ8_copyOfRange_0 16 rfl rfl)
theorem dJ8_copyOfRange_17 : decode cJ8_copyOfRange 17 = .ok (.aload_n 0, 1) := dk_42 (dk_at dksJ8_copyOfRange_0 17 rfl rfl)
theorem dJ8_copyOfRange_18 : decode cJ8_copyOfRange 18 = .ok (.invokevirtual 310, 3) := dk_182 1 54 (dk_at dksJ8_copyOfRange_0 18 rfl rfl)
theorem dJ8_copyOfRange_21 : decode cJ8_copyOfRange 21 = .ok (.checkcast 311, 3) := dk_192 1 55 (dk_at dksJ8_copyOfRange_0 21 rfl rfl)
theorem dJ8_copyOfRange_24 : decode cJ8_copyOfRange 24 = .ok (.areturn, 1) := dk_176 (dk_at dksJ8_copyOfRange_1 0 rfl rfl)
abbrev cJ8_copyOfRangeByte : ByteArray := prog_52_method_133_code
def yJ8_copyOfRangeByte : MethodName := ⟨RJ8, "copyOfRangeByte", "([BII)[B"⟩
def dkwJ8_copyOfRangeByte_1 : List UInt8 := [184, 1, 48, 184, 0, 150, 25, 4, 176]
abbrev dktJ8_copyOfRangeByte_1 : List UInt8 := dkwJ8_copyOfRangeByte_1 ++ []
def dkwJ8_copyOfRangeByte_0 : List UInt8 := [27, 28, 184, 1, 87, 28, 27, 100, 62, 29, 188, 8, 58, 4, 42, 27, 25, 4, 3, 42, 190, 27, 100, 29]
abbrev dktJ8_copyOfRangeByte_0 : List UInt8 := dkwJ8_copyOfRangeByte_0 ++ dktJ8_copyOfRangeByte_1
theorem dksJ8_copyOfRangeByte_0 : cJ8_copyOfRangeByte.data.toList.drop 0 = dktJ8_copyOfRangeByte_0 := by decide +kernel
theorem dksJ8_copyOfRangeByte_1 : cJ8_copyOfRangeByte.data.toList.drop 24 = dktJ8_copyOfRangeByte_1 := dk_seg dksJ8_copyOfRangeByte_0 24 rfl rfl
theorem dJ8_copyOfRangeByte_0 : decode cJ8_copyOfRangeByte 0 = .ok (.iload_n 1, 1) := dk_27 (dk_at dksJ8_copyOfRangeByte_0 0 rfl rfl)
theorem dJ8_copyOfRangeByte_1 : decode cJ8_copyOfRangeByte 1 = .ok (.iload_n 2, 1) := dk_28 (dk_at dksJ8_copyOfRangeByte_0 1 rfl rfl)
theorem dJ8_copyOfRangeByte_2 : decode cJ8_copyOfRangeByte 2 = .ok (.invokestatic 343, 3) := dk_184 1 87 (dk_at dksJ8_copyOfRangeByte_0 2 rfl rfl)
theorem dJ8_copyOfRangeByte_5 : decode cJ8_copyOfRangeByte 5 = .ok (.iload_n 2, 1) := dk_28 (dk_at dksJ8_copyOfRangeByte_0 5 rfl rfl)
theorem dJ8_copyOfRangeByte_6 : decode cJ8_copyOfRangeByte 6 = .ok (.iload_n 1, 1) := dk_27 (dk_at dksJ8_copyOfRangeByte_0 6 rfl rfl)
theorem dJ8_copyOfRangeByte_7 : decode cJ8_copyOfRangeByte 7 = .ok (.isub, 1) := dk_100 (dk_at dksJ8_copyOfRangeByte_0 7 rfl rfl)
theorem dJ8_copyOfRangeByte_8 : decode cJ8_copyOfRangeByte 8 = .ok (.istore_n 3, 1) := dk_62 (dk_at dksJ8_copyOfRangeByte_0 8 rfl rfl)
theorem dJ8_copyOfRangeByte_9 : decode cJ8_copyOfRangeByte 9 = .ok (.iload_n 3, 1) := dk_29 (dk_at dksJ8_copyOfRangeByte_0 9 rfl rfl)
theorem dJ8_copyOfRangeByte_10 : decode cJ8_copyOfRangeByte 10 = .ok (.newarray .byte, 2) := dk_188_8 (dk_at dksJ8_copyOfRangeByte_0 10 rfl rfl)
theorem dJ8_copyOfRangeByte_12 : decode cJ8_copyOfRangeByte 12 = .ok (.astore 4, 2) := dk_58 4 (dk_at dksJ8_copyOfRangeByte_0 12 rfl rfl)
theorem dJ8_copyOfRangeByte_14 : decode cJ8_copyOfRangeByte 14 = .ok (.aload_n 0, 1) := dk_42 (dk_at dksJ8_copyOfRangeByte_0 14 rfl rfl)
theorem dJ8_copyOfRangeByte_15 : decode cJ8_copyOfRangeByte 15 = .ok (.iload_n 1, 1) := dk_27 (dk_at dksJ8_copyOfRangeByte_0 15 rfl rfl)
theorem dJ8_copyOfRangeByte_16 : decode cJ8_copyOfRangeByte 16 = .ok (.aload 4, 2) := dk_25 4 (dk_at dksJ8_copyOfRangeByte_0 16 rfl rfl)
theorem dJ8_copyOfRangeByte_18 : decode cJ8_copyOfRangeByte 18 = .ok (.iconst 0, 1) := dk_3 (dk_at dksJ8_copyOfRangeByte_0 18 rfl rfl)
theorem dJ8_copyOfRangeByte_19 : decode cJ8_copyOfRangeByte 19 = .ok (.aload_n 0, 1) := dk_42 (dk_at dksJ8_copyOfRangeByte_0 19 rfl rfl)
theorem dJ8_copyOfRangeByte_20 : decode cJ8_copyOfRangeByte 20 = .ok (.arraylength, 1) := dk_190 (dk_at dksJ8_copyOfRangeByte_0 20 rfl rfl)
theorem dJ8_copyOfRangeByte_21 : decode cJ8_copyOfRangeByte 21 = .ok (.iload_n 1, 1) := dk_27 (dk_at dksJ8_copyOfRangeByte_0 21 rfl rfl)
theorem dJ8_copyOfRangeByte_22 : decode cJ8_copyOfRangeByte 22 = .ok (.isub, 1) := dk_100 (dk_at dksJ8_copyOfRangeByte_0 22 rfl rfl)
theorem dJ8_copyOfRangeByte_23 : decode cJ8_copyOfRangeByte 23 = .ok (.iload_n 3, 1) := dk_29 (dk_at dksJ8_copyOfRangeByte_0 23 rfl rfl)
theorem dJ8_copyOfRangeByte_24 : decode cJ8_copyOfRangeByte 24 = .ok (.invokestatic 304, 3) := dk_184 1 48 (dk_at dksJ8_copyOfRangeByte_1 0 rfl rfl)
theorem dJ8_copyOfRangeByte_27 : decode cJ8_copyOfRangeByte 27 = .ok (.invokestatic 150, 3) := dk_184 0 150 (dk_at dksJ8_copyOfRangeByte_1 3 rfl rfl)
theorem dJ8_copyOfRangeByte_30 : decode cJ8_copyOfRangeByte 30 = .ok (.aload 4, 2) := dk_25 4 (dk_at dksJ8_copyOfRangeByte_1 6 rfl rfl)
theorem dJ8_copyOfRangeByte_32 : decode cJ8_copyOfRangeByte 32 = .ok (.areturn, 1) := dk_176 (dk_at dksJ8_copyOfRangeByte_1 8 rfl rfl)
abbrev cJ8_checkLength : ByteArray := prog_52_method_131_code
def yJ8_checkLength : MethodName := ⟨RJ8, "checkLength", "(II)V"⟩
def dkwJ8_checkLength_1 : List UInt8 := [182, 0, 50, 27, 182, 0, 54, 182, 0, 61, 183, 0, 65, 191, 177]
abbrev dktJ8_checkLength_1 : List UInt8 := dkwJ8_checkLength_1 ++ []
def dkwJ8_checkLength_0 : List UInt8 := [27, 26, 162, 0, 35, 187, 0, 43, 89, 187, 0, 45, 89, 183, 0, 47, 26, 182, 0, 54, 19, 1, 81]
abbrev dktJ8_checkLength_0 : List UInt8 := dkwJ8_checkLength_0 ++ dktJ8_checkLength_1
theorem dksJ8_checkLength_0 : cJ8_checkLength.data.toList.drop 0 = dktJ8_checkLength_0 := by decide +kernel
theorem dksJ8_checkLength_1 : cJ8_checkLength.data.toList.drop 23 = dktJ8_checkLength_1 := dk_seg dksJ8_checkLength_0 23 rfl rfl
theorem dJ8_checkLength_0 : decode cJ8_checkLength 0 = .ok (.iload_n 1, 1) := dk_27 (dk_at dksJ8_checkLength_0 0 rfl rfl)
theorem dJ8_checkLength_1 : decode cJ8_checkLength 1 = .ok (.iload_n 0, 1) := dk_26 (dk_at dksJ8_checkLength_0 1 rfl rfl)
theorem dJ8_checkLength_2 : decode cJ8_checkLength 2 = .ok (.if_icmp .ge 35, 3) := dk_162 0 35 (dk_at dksJ8_checkLength_0 2 rfl rfl)
theorem dJ8_checkLength_5 : decode cJ8_checkLength 5 = .ok (.new 43, 3) := dk_187 0 43 (dk_at dksJ8_checkLength_0 5 rfl rfl)
theorem dJ8_checkLength_8 : decode cJ8_checkLength 8 = .ok (.dup, 1) := dk_89 (dk_at dksJ8_checkLength_0 8 rfl rfl)
theorem dJ8_checkLength_9 : decode cJ8_checkLength 9 = .ok (.new 45, 3) := dk_187 0 45 (dk_at dksJ8_checkLength_0 9 rfl rfl)
theorem dJ8_checkLength_12 : decode cJ8_checkLength 12 = .ok (.dup, 1) := dk_89 (dk_at dksJ8_checkLength_0 12 rfl rfl)
theorem dJ8_checkLength_13 : decode cJ8_checkLength 13 = .ok (.invokespecial 47, 3) := dk_183 0 47 (dk_at dksJ8_checkLength_0 13 rfl rfl)
theorem dJ8_checkLength_16 : decode cJ8_checkLength 16 = .ok (.iload_n 0, 1) := dk_26 (dk_at dksJ8_checkLength_0 16 rfl rfl)
theorem dJ8_checkLength_17 : decode cJ8_checkLength 17 = .ok (.invokevirtual 54, 3) := dk_182 0 54 (dk_at dksJ8_checkLength_0 17 rfl rfl)
theorem dJ8_checkLength_20 : decode cJ8_checkLength 20 = .ok (.ldc_w 337, 3) := dk_19 1 81 (dk_at dksJ8_checkLength_0 20 rfl rfl)
theorem dJ8_checkLength_23 : decode cJ8_checkLength 23 = .ok (.invokevirtual 50, 3) := dk_182 0 50 (dk_at dksJ8_checkLength_1 0 rfl rfl)
theorem dJ8_checkLength_26 : decode cJ8_checkLength 26 = .ok (.iload_n 1, 1) := dk_27 (dk_at dksJ8_checkLength_1 3 rfl rfl)
theorem dJ8_checkLength_27 : decode cJ8_checkLength 27 = .ok (.invokevirtual 54, 3) := dk_182 0 54 (dk_at dksJ8_checkLength_1 4 rfl rfl)
theorem dJ8_checkLength_30 : decode cJ8_checkLength 30 = .ok (.invokevirtual 61, 3) := dk_182 0 61 (dk_at dksJ8_checkLength_1 7 rfl rfl)
theorem dJ8_checkLength_33 : decode cJ8_checkLength 33 = .ok (.invokespecial 65, 3) := dk_183 0 65 (dk_at dksJ8_checkLength_1 10 rfl rfl)
theorem dJ8_checkLength_36 : decode cJ8_checkLength 36 = .ok (.athrow, 1) := dk_191 (dk_at dksJ8_checkLength_1 13 rfl rfl)
theorem dJ8_checkLength_37 : decode cJ8_checkLength 37 = .ok (.return_, 1) := dk_177 (dk_at dksJ8_checkLength_1 14 rfl rfl)
abbrev cJ8_fill : ByteArray := prog_52_method_117_code
def yJ8_fill : MethodName := ⟨RJ8, "fill", "([Ljava/lang/Object;Ljava/lang/Object;)V"⟩
def dkwJ8_fill_0 : List UInt8 := [3, 61, 42, 190, 62, 28, 29, 162, 0, 13, 42, 28, 43, 83, 132, 2, 1, 167, 255, 244, 177]
abbrev dktJ8_fill_0 : List UInt8 := dkwJ8_fill_0 ++ []
theorem dksJ8_fill_0 : cJ8_fill.data.toList.drop 0 = dktJ8_fill_0 := by decide +kernel
theorem dJ8_fill_0 : decode cJ8_fill 0 = .ok (.iconst 0, 1) := dk_3 (dk_at dksJ8_fill_0 0 rfl rfl)
theorem dJ8_fill_1 : decode cJ8_fill 1 = .ok (.istore_n 2, 1) := dk_61 (dk_at dksJ8_fill_0 1 rfl rfl)
theorem dJ8_fill_2 : decode cJ8_fill 2 = .ok (.aload_n 0, 1) := dk_42 (dk_at dksJ8_fill_0 2 rfl rfl)
theorem dJ8_fill_3 : decode cJ8_fill 3 = .ok (.arraylength, 1) := dk_190 (dk_at dksJ8_fill_0 3 rfl rfl)
theorem dJ8_fill_4 : decode cJ8_fill 4 = .ok (.istore_n 3, 1) := dk_62 (dk_at dksJ8_fill_0 4 rfl rfl)
theorem dJ8_fill_5 : decode cJ8_fill 5 = .ok (.iload_n 2, 1) := dk_28 (dk_at dksJ8_fill_0 5 rfl rfl)
theorem dJ8_fill_6 : decode cJ8_fill 6 = .ok (.iload_n 3, 1) := dk_29 (dk_at dksJ8_fill_0 6 rfl rfl)
theorem dJ8_fill_7 : decode cJ8_fill 7 = .ok (.if_icmp .ge 13, 3) := dk_162 0 13 (dk_at dksJ8_fill_0 7 rfl rfl)
theorem dJ8_fill_10 : decode cJ8_fill 10 = .ok (.aload_n 0, 1) := dk_42 (dk_at dksJ8_fill_0 10 rfl rfl)
theorem dJ8_fill_11 : decode cJ8_fill 11 = .ok (.iload_n 2, 1) := dk_28 (dk_at dksJ8_fill_0 11 rfl rfl)
theorem dJ8_fill_12 : decode cJ8_fill 12 = .ok (.aload_n 1, 1) := dk_43 (dk_at dksJ8_fill_0 12 rfl rfl)
theorem dJ8_fill_13 : decode cJ8_fill 13 = .ok (.aastore, 1) := dk_83 (dk_at dksJ8_fill_0 13 rfl rfl)
theorem dJ8_fill_14 : decode cJ8_fill 14 = .ok (.iinc 2 1, 3) := dk_132 2 1 (dk_at dksJ8_fill_0 14 rfl rfl)
theorem dJ8_fill_17 : decode cJ8_fill 17 = .ok (.goto (-12), 3) := dk_167 255 244 (dk_at dksJ8_fill_0 17 rfl rfl)
theorem dJ8_fill_20 : decode cJ8_fill 20 = .ok (.return_, 1) := dk_177 (dk_at dksJ8_fill_0 20 rfl rfl)
theorem q154 : (Jvm.Cond.initialized "java/util/Arrays") ∈ lw_all := lw_g (lw_at lw_m1 12 rfl) rfl
theorem q375 : (Jvm.Cond.static ({ cls := "java/util/Arrays", name := "copyOf", desc := "([BI)[B" } : Jvm.MethodName)) ∈ lw_all := lw_g (lw_at lw_m1 233 rfl) rfl
theorem q376 : (Jvm.Cond.code ({ cls := "java/util/Arrays", name := "copyOf", desc := "([BI)[B" } : Jvm.MethodName) prog_52_method_121_code (3 : Nat) (Option.some (Jvm.ClassFile.FieldType.array Jvm.ClassFile.FieldType.byte))) ∈ lw_all := lw_g (lw_at lw_m1 234 rfl) rfl
theorem q377 : (Jvm.Cond.methodLink "java/util/Arrays" (310 : Nat) ({ cls := "[B", name := "clone", desc := "()Ljava/lang/Object;" } : Jvm.MethodName)) ∈ lw_all := lw_g (lw_at lw_m1 235 rfl) rfl
theorem q383 : (Jvm.Cond.classLink "java/util/Arrays" (311 : Nat) "[B") ∈ lw_all := lw_g (lw_at lw_m2 1 rfl) rfl
theorem q384 : (Jvm.Cond.methodLink "java/util/Arrays" (304 : Nat) ({ cls := "java/lang/Math", name := "min", desc := "(II)I" } : Jvm.MethodName)) ∈ lw_all := lw_g (lw_at lw_m2 2 rfl) rfl
theorem q387 : (Jvm.Cond.methodLink "java/util/Arrays" (150 : Nat) ({ cls := "java/lang/System", name := "arraycopy", desc := "(Ljava/lang/Object;ILjava/lang/Object;II)V" } : Jvm.MethodName)) ∈ lw_all := lw_g (lw_at lw_m2 5 rfl) rfl
theorem q519 : (Jvm.Cond.static ({ cls := "java/util/Arrays", name := "copyOfRange", desc := "([BII)[B" } : Jvm.MethodName)) ∈ lw_all := lw_g (lw_at lw_m2 137 rfl) rfl
theorem q520 : (Jvm.Cond.code ({ cls := "java/util/Arrays", name := "copyOfRange", desc := "([BII)[B" } : Jvm.MethodName) prog_52_method_132_code (3 : Nat) (Option.some (Jvm.ClassFile.FieldType.array Jvm.ClassFile.FieldType.byte))) ∈ lw_all := lw_g (lw_at lw_m2 138 rfl) rfl
theorem q521 : (Jvm.Cond.methodLink "java/util/Arrays" (339 : Nat) ({ cls := "java/util/Arrays", name := "copyOfRangeByte", desc := "([BII)[B" } : Jvm.MethodName)) ∈ lw_all := lw_g (lw_at lw_m2 139 rfl) rfl
theorem q522 : (Jvm.Cond.static ({ cls := "java/util/Arrays", name := "copyOfRangeByte", desc := "([BII)[B" } : Jvm.MethodName)) ∈ lw_all := lw_g (lw_at lw_m2 140 rfl) rfl
theorem q523 : (Jvm.Cond.code ({ cls := "java/util/Arrays", name := "copyOfRangeByte", desc := "([BII)[B" } : Jvm.MethodName) prog_52_method_133_code (5 : Nat) (Option.some (Jvm.ClassFile.FieldType.array Jvm.ClassFile.FieldType.byte))) ∈ lw_all := lw_g (lw_at lw_m2 141 rfl) rfl
theorem q524 : (Jvm.Cond.methodLink "java/util/Arrays" (343 : Nat) ({ cls := "java/util/Arrays", name := "checkLength", desc := "(II)V" } : Jvm.MethodName)) ∈ lw_all := lw_g (lw_at lw_m2 142 rfl) rfl
theorem q525 : (Jvm.Cond.static ({ cls := "java/util/Arrays", name := "checkLength", desc := "(II)V" } : Jvm.MethodName)) ∈ lw_all := lw_g (lw_at lw_m2 143 rfl) rfl
theorem q526 : (Jvm.Cond.code ({ cls := "java/util/Arrays", name := "checkLength", desc := "(II)V" } : Jvm.MethodName) prog_52_method_131_code (2 : Nat) (Option.none : Option Jvm.ClassFile.FieldType)) ∈ lw_all := lw_g (lw_at lw_m2 144 rfl) rfl
theorem q1981 : (Jvm.Cond.static ({ cls := "java/util/Arrays", name := "fill", desc := "([Ljava/lang/Object;Ljava/lang/Object;)V" } : Jvm.MethodName)) ∈ lw_all := lw_g (lw_at lw_m8 159 rfl) rfl
theorem q1982 : (Jvm.Cond.code ({ cls := "java/util/Arrays", name := "fill", desc := "([Ljava/lang/Object;Ljava/lang/Object;)V" } : Jvm.MethodName) prog_52_method_117_code (4 : Nat) (Option.none : Option Jvm.ClassFile.FieldType)) ∈ lw_all := lw_g (lw_at lw_m8 160 rfl) rfl

/-! jdk/internal/util/Preconditions -/
set_option maxRecDepth 100000
def RJ9 : String := "jdk/internal/util/Preconditions"
abbrev cJ9_checkFromToIndex : ByteArray := prog_54_method_12_code
def yJ9_checkFromToIndex : MethodName := ⟨RJ9, "checkFromToIndex", "(IIILjava/util/function/BiFunction;)I"⟩
def dkwJ9_checkFromToIndex_0 : List UInt8 := [26, 155, 0, 13, 26, 27, 163, 0, 8, 27, 28, 164, 0, 11, 45, 26, 27, 28, 184, 0, 99, 191, 26, 172]
abbrev dktJ9_checkFromToIndex_0 : List UInt8 := dkwJ9_checkFromToIndex_0 ++ []
theorem dksJ9_checkFromToIndex_0 : cJ9_checkFromToIndex.data.toList.drop 0 = dktJ9_checkFromToIndex_0 := by decide +kernel
theorem dJ9_checkFromToIndex_0 : decode cJ9_checkFromToIndex 0 = .ok (.iload_n 0, 1) := dk_26 (dk_at dksJ9_checkFromToIndex_0 0 rfl rfl)
theorem dJ9_checkFromToIndex_1 : decode cJ9_checkFromToIndex 1 = .ok (.ifCond .lt 13, 3) := dk_155 0 13 (dk_at dksJ9_checkFromToIndex_0 1 rfl rfl)
theorem dJ9_checkFromToIndex_4 : decode cJ9_checkFromToIndex 4 = .ok (.iload_n 0, 1) := dk_26 (dk_at dksJ9_checkFromToIndex_0 4 rfl rfl)
theorem dJ9_checkFromToIndex_5 : decode cJ9_checkFromToIndex 5 = .ok (.iload_n 1, 1) := dk_27 (dk_at dksJ9_checkFromToIndex_0 5 rfl rfl)
theorem dJ9_checkFromToIndex_6 : decode cJ9_checkFromToIndex 6 = .ok (.if_icmp .gt 8, 3) := dk_163 0 8 (dk_at dksJ9_checkFromToIndex_0 6 rfl rfl)
theorem dJ9_checkFromToIndex_9 : decode cJ9_checkFromToIndex 9 = .ok (.iload_n 1, 1) := dk_27 (dk_at dksJ9_checkFromToIndex_0 9 rfl rfl)
theorem dJ9_checkFromToIndex_10 : decode cJ9_checkFromToIndex 10 = .ok (.iload_n 2, 1) := dk_28 (dk_at dksJ9_checkFromToIndex_0 10 rfl rfl)
theorem dJ9_checkFromToIndex_11 : decode cJ9_checkFromToIndex 11 = .ok (.if_icmp .le 11, 3) := dk_164 0 11 (dk_at dksJ9_checkFromToIndex_0 11 rfl rfl)
theorem dJ9_checkFromToIndex_14 : decode cJ9_checkFromToIndex 14 = .ok (.aload_n 3, 1) := dk_45 (dk_at dksJ9_checkFromToIndex_0 14 rfl rfl)
theorem dJ9_checkFromToIndex_15 : decode cJ9_checkFromToIndex 15 = .ok (.iload_n 0, 1) := dk_26 (dk_at dksJ9_checkFromToIndex_0 15 rfl rfl)
theorem dJ9_checkFromToIndex_16 : decode cJ9_checkFromToIndex 16 = .ok (.iload_n 1, 1) := dk_27 (dk_at dksJ9_checkFromToIndex_0 16 rfl rfl)
theorem dJ9_checkFromToIndex_17 : decode cJ9_checkFromToIndex 17 = .ok (.iload_n 2, 1) := dk_28 (dk_at dksJ9_checkFromToIndex_0 17 rfl rfl)
theorem dJ9_checkFromToIndex_18 : decode cJ9_checkFromToIndex 18 = .ok (.invokestatic 99, 3) := dk_184 0 99 (dk_at dksJ9_checkFromToIndex_0 18 rfl rfl)
theorem dJ9_checkFromToIndex_21 : decode cJ9_checkFromToIndex 21 = .ok (.athrow, 1) := dk_191 (dk_at dksJ9_checkFromToIndex_0 21 rfl rfl)
theorem dJ9_checkFromToIndex_22 : decode cJ9_checkFromToIndex 22 = .ok (.iload_n 0, 1) := dk_26 (dk_at dksJ9_checkFromToIndex_0 22 rfl rfl)
theorem dJ9_checkFromToIndex_23 : decode cJ9_checkFromToIndex 23 = .ok (.ireturn, 1) := dk_172 (dk_at dksJ9_checkFromToIndex_0 23 rfl rfl)
abbrev cJ9_checkFromIndexSize : ByteArray := prog_54_method_13_code
def yJ9_checkFromIndexSize : MethodName := ⟨RJ9, "checkFromIndexSize", "(IIILjava/util/function/BiFunction;)I"⟩
def dkwJ9_checkFromIndexSize_1 : List UInt8 := [172]
abbrev dktJ9_checkFromIndexSize_1 : List UInt8 := dkwJ9_checkFromIndexSize_1 ++ []
def dkwJ9_checkFromIndexSize_0 : List UInt8 := [28, 26, 128, 27, 128, 155, 0, 10, 27, 28, 26, 100, 164, 0, 11, 45, 26, 27, 28, 184, 0, 103, 191, 26]
abbrev dktJ9_checkFromIndexSize_0 : List UInt8 := dkwJ9_checkFromIndexSize_0 ++ dktJ9_checkFromIndexSize_1
theorem dksJ9_checkFromIndexSize_0 : cJ9_checkFromIndexSize.data.toList.drop 0 = dktJ9_checkFromIndexSize_0 := by decide +kernel
theorem dksJ9_checkFromIndexSize_1 : cJ9_checkFromIndexSize.data.toList.drop 24 = dktJ9_checkFromIndexSize_1 := dk_seg dksJ9_checkFromIndexSize_0 24 rfl rfl
theorem dJ9_checkFromIndexSize_0 : decode cJ9_checkFromIndexSize 0 = .ok (.iload_n 2, 1) := dk_28 (dk_at dksJ9_checkFromIndexSize_0 0 rfl rfl)
theorem dJ9_checkFromIndexSize_1 : decode cJ9_checkFromIndexSize 1 = .ok (.iload_n 0, 1) := dk_26 (dk_at dksJ9_checkFromIndexSize_0 1 rfl rfl)
theorem dJ9_checkFromIndexSize_2 : decode cJ9_checkFromIndexSize 2 = .ok (.ior, 1) := dk_128 (dk_at dksJ9_checkFromIndexSize_0 2 rfl rfl)
theorem dJ9_checkFromIndexSize_3 : decode cJ9_checkFromIndexSize 3 = .ok (.iload_n 1, 1) := dk_27 (dk_at dksJ9_checkFromIndexSize_0 3 rfl rfl)
theorem dJ9_checkFromIndexSize_4 : decode cJ9_checkFromIndexSize 4 = .ok (.ior, 1) := dk_128 (dk_at dksJ9_checkFromIndexSize_0 4 rfl rfl)
theorem dJ9_checkFromIndexSize_5 : decode cJ9_checkFromIndexSize 5 = .ok (.ifCond .lt 10, 3) := dk_155 0 10 (dk_at dksJ9_checkFromIndexSize_0 5 rfl rfl)
theorem dJ9_checkFromIndexSize_8 : decode cJ9_checkFromIndexSize 8 = .ok (.iload_n 1, 1) := dk_27 (dk_at dksJ9_checkFromIndexSize_0 8 rfl rfl)
theorem dJ9_checkFromIndexSize_9 : decode cJ9_checkFromIndexSize 9 = .ok (.iload_n 2, 1) := dk_28 (dk_at dksJ9_checkFromIndexSize_0 9 rfl rfl)
theorem dJ9_checkFromIndexSize_10 : decode cJ9_checkFromIndexSize 10 = .ok (.iload_n 0, 1) := dk_26 (dk_at dksJ9_checkFromIndexSize_0 10 rfl rfl)
theorem dJ9_checkFromIndexSize_11 : decode cJ9_checkFromIndexSize 11 = .ok (.isub, 1) := dk_100 (dk_at dksJ9_checkFromIndexSize_0 11 rfl rfl)
theorem dJ9_checkFromIndexSize_12 : decode cJ9_checkFromIndexSize 12 = .ok (.if_icmp .le 11, 3) := dk_164 0 11 (dk_at dksJ9_checkFromIndexSize_0 12 rfl rfl)
theorem dJ9_checkFromIndexSize_15 : decode cJ9_checkFromIndexSize 15 = .ok (.aload_n 3, 1) := dk_45 (dk_at dksJ9_checkFromIndexSize_0 15 rfl rfl)
theorem dJ9_checkFromIndexSize_16 : decode cJ9_checkFromIndexSize 16 = .ok (.iload_n 0, 1) := dk_26 (dk_at dksJ9_checkFromIndexSize_0 16 rfl rfl)
theorem dJ9_checkFromIndexSize_17 : decode cJ9_checkFromIndexSize 17 = .ok (.iload_n 1, 1) := dk_27 (dk_at dksJ9_checkFromIndexSize_0 17 rfl rfl)
theorem dJ9_checkFromIndexSize_18 : decode cJ9_checkFromIndexSize 18 = .ok (.iload_n 2, 1) := dk_28 (dk_at dksJ9_checkFromIndexSize_0 18 rfl rfl)
theorem dJ9_checkFromIndexSize_19 : decode cJ9_checkFromIndexSize 19 = .ok (.invokestatic 103, 3) := dk_184 0 103 (dk_at dksJ9_checkFromIndexSize_0 19 rfl rfl)
theorem dJ9_checkFromIndexSize_22 : decode cJ9_checkFromIndexSize 22 = .ok (.athrow, 1) := dk_191 (dk_at dksJ9_checkFromIndexSize_0 22 rfl rfl)
theorem dJ9_checkFromIndexSize_23 : decode cJ9_checkFromIndexSize 23 = .ok (.iload_n 0, 1) := dk_26 (dk_at dksJ9_checkFromIndexSize_0 23 rfl rfl)
theorem dJ9_checkFromIndexSize_24 : decode cJ9_checkFromIndexSize 24 = .ok (.ireturn, 1) := dk_172 (dk_at dksJ9_checkFromIndexSize_1 0 rfl rfl)
abbrev cJ9_checkIndex : ByteArray := prog_54_method_11_code
def yJ9_checkIndex : MethodName := ⟨RJ9, "checkIndex", "(IILjava/util/function/BiFunction;)I"⟩
def dkwJ9_checkIndex_0 : List UInt8 := [26, 155, 0, 8, 26, 27, 161, 0, 10, 44, 26, 27, 184, 0, 95, 191, 26, 172]
abbrev dktJ9_checkIndex_0 : List UInt8 := dkwJ9_checkIndex_0 ++ []
theorem dksJ9_checkIndex_0 : cJ9_checkIndex.data.toList.drop 0 = dktJ9_checkIndex_0 := by decide +kernel
theorem dJ9_checkIndex_0 : decode cJ9_checkIndex 0 = .ok (.iload_n 0, 1) := dk_26 (dk_at dksJ9_checkIndex_0 0 rfl rfl)
theorem dJ9_checkIndex_1 : decode cJ9_checkIndex 1 = .ok (.ifCond .lt 8, 3) := dk_155 0 8 (dk_at dksJ9_checkIndex_0 1 rfl rfl)
theorem dJ9_checkIndex_4 : decode cJ9_checkIndex 4 = .ok (.iload_n 0, 1) := dk_26 (dk_at dksJ9_checkIndex_0 4 rfl rfl)
theorem dJ9_checkIndex_5 : decode cJ9_checkIndex 5 = .ok (.iload_n 1, 1) := dk_27 (dk_at dksJ9_checkIndex_0 5 rfl rfl)
theorem dJ9_checkIndex_6 : decode cJ9_checkIndex 6 = .ok (.if_icmp .lt 10, 3) := dk_161 0 10 (dk_at dksJ9_checkIndex_0 6 rfl rfl)
theorem dJ9_checkIndex_9 : decode cJ9_checkIndex 9 = .ok (.aload_n 2, 1) := dk_44 (dk_at dksJ9_checkIndex_0 9 rfl rfl)
theorem dJ9_checkIndex_10 : decode cJ9_checkIndex 10 = .ok (.iload_n 0, 1) := dk_26 (dk_at dksJ9_checkIndex_0 10 rfl rfl)
theorem dJ9_checkIndex_11 : decode cJ9_checkIndex 11 = .ok (.iload_n 1, 1) := dk_27 (dk_at dksJ9_checkIndex_0 11 rfl rfl)
theorem dJ9_checkIndex_12 : decode cJ9_checkIndex 12 = .ok (.invokestatic 95, 3) := dk_184 0 95 (dk_at dksJ9_checkIndex_0 12 rfl rfl)
theorem dJ9_checkIndex_15 : decode cJ9_checkIndex 15 = .ok (.athrow, 1) := dk_191 (dk_at dksJ9_checkIndex_0 15 rfl rfl)
theorem dJ9_checkIndex_16 : decode cJ9_checkIndex 16 = .ok (.iload_n 0, 1) := dk_26 (dk_at dksJ9_checkIndex_0 16 rfl rfl)
theorem dJ9_checkIndex_17 : decode cJ9_checkIndex 17 = .ok (.ireturn, 1) := dk_172 (dk_at dksJ9_checkIndex_0 17 rfl rfl)
theorem q156 : (Jvm.Cond.initialized "jdk/internal/util/Preconditions") ∈ lw_all := lw_g (lw_at lw_m1 14 rfl) rfl
theorem q409 : (Jvm.Cond.laysStatic "jdk/internal/util/Preconditions" "SIOOBE_FORMATTER" "Ljava/util/function/BiFunction;") ∈ lw_tbl := lw_at lw_m2 27 rfl
theorem q411 : (Jvm.Cond.static ({ cls := "jdk/internal/util/Preconditions", name := "checkFromToIndex", desc := "(IIILjava/util/function/BiFunction;)I" } : Jvm.MethodName)) ∈ lw_all := lw_g (lw_at lw_m2 29 rfl) rfl
theorem q412 : (Jvm.Cond.code ({ cls := "jdk/internal/util/Preconditions", name := "checkFromToIndex", desc := "(IIILjava/util/function/BiFunction;)I" } : Jvm.MethodName) prog_54_method_12_code (4 : Nat) (Option.some Jvm.ClassFile.FieldType.int)) ∈ lw_all := lw_g (lw_at lw_m2 30 rfl) rfl
theorem q447 : (Jvm.Cond.static ({ cls := "jdk/internal/util/Preconditions", name := "checkFromIndexSize", desc := "(IIILjava/util/function/BiFunction;)I" } : Jvm.MethodName)) ∈ lw_all := lw_g (lw_at lw_m2 65 rfl) rfl
theorem q448 : (Jvm.Cond.code ({ cls := "jdk/internal/util/Preconditions", name := "checkFromIndexSize", desc := "(IIILjava/util/function/BiFunction;)I" } : Jvm.MethodName) prog_54_method_13_code (4 : Nat) (Option.some Jvm.ClassFile.FieldType.int)) ∈ lw_all := lw_g (lw_at lw_m2 66 rfl) rfl
theorem q488 : (Jvm.Cond.static ({ cls := "jdk/internal/util/Preconditions", name := "checkIndex", desc := "(IILjava/util/function/BiFunction;)I" } : Jvm.MethodName)) ∈ lw_all := lw_g (lw_at lw_m2 106 rfl) rfl
theorem q489 : (Jvm.Cond.code ({ cls := "jdk/internal/util/Preconditions", name := "checkIndex", desc := "(IILjava/util/function/BiFunction;)I" } : Jvm.MethodName) prog_54_method_11_code (3 : Nat) (Option.some Jvm.ClassFile.FieldType.int)) ∈ lw_all := lw_g (lw_at lw_m2 107 rfl) rfl

/-! java/lang/StringLatin1 -/
set_option maxRecDepth 100000
def RJ10 : String := "java/lang/StringLatin1"
abbrev cJ10_inflate : ByteArray := prog_48_method_50_code
def yJ10_inflate : MethodName := ⟨RJ10, "inflate", "([BI[BII)V"⟩
def dkwJ10_inflate_0 : List UInt8 := [42, 27, 44, 29, 21, 4, 184, 0, 240, 177]
abbrev dktJ10_inflate_0 : List UInt8 := dkwJ10_inflate_0 ++ []
theorem dksJ10_inflate_0 : cJ10_inflate.data.toList.drop 0 = dktJ10_inflate_0 := by decide +kernel
theorem dJ10_inflate_0 : decode cJ10_inflate 0 = .ok (.aload_n 0, 1) := dk_42 (dk_at dksJ10_inflate_0 0 rfl rfl)
theorem dJ10_inflate_1 : decode cJ10_inflate 1 = .ok (.iload_n 1, 1) := dk_27 (dk_at dksJ10_inflate_0 1 rfl rfl)
theorem dJ10_inflate_2 : decode cJ10_inflate 2 = .ok (.aload_n 2, 1) := dk_44 (dk_at dksJ10_inflate_0 2 rfl rfl)
theorem dJ10_inflate_3 : decode cJ10_inflate 3 = .ok (.iload_n 3, 1) := dk_29 (dk_at dksJ10_inflate_0 3 rfl rfl)
theorem dJ10_inflate_4 : decode cJ10_inflate 4 = .ok (.iload 4, 2) := dk_21 4 (dk_at dksJ10_inflate_0 4 rfl rfl)
theorem dJ10_inflate_6 : decode cJ10_inflate 6 = .ok (.invokestatic 240, 3) := dk_184 0 240 (dk_at dksJ10_inflate_0 6 rfl rfl)
theorem dJ10_inflate_9 : decode cJ10_inflate 9 = .ok (.return_, 1) := dk_177 (dk_at dksJ10_inflate_0 9 rfl rfl)
abbrev cJ10_canEncode : ByteArray := prog_48_method_3_code
def yJ10_canEncode : MethodName := ⟨RJ10, "canEncode", "(C)Z"⟩
def dkwJ10_canEncode_0 : List UInt8 := [26, 17, 0, 255, 163, 0, 7, 4, 167, 0, 4, 3, 172]
abbrev dktJ10_canEncode_0 : List UInt8 := dkwJ10_canEncode_0 ++ []
theorem dksJ10_canEncode_0 : cJ10_canEncode.data.toList.drop 0 = dktJ10_canEncode_0 := by decide +kernel
theorem dJ10_canEncode_0 : decode cJ10_canEncode 0 = .ok (.iload_n 0, 1) := dk_26 (dk_at dksJ10_canEncode_0 0 rfl rfl)
theorem dJ10_canEncode_1 : decode cJ10_canEncode 1 = .ok (.sipush 255, 3) := dk_17 0 255 (dk_at dksJ10_canEncode_0 1 rfl rfl)
theorem dJ10_canEncode_4 : decode cJ10_canEncode 4 = .ok (.if_icmp .gt 7, 3) := dk_163 0 7 (dk_at dksJ10_canEncode_0 4 rfl rfl)
theorem dJ10_canEncode_7 : decode cJ10_canEncode 7 = .ok (.iconst 1, 1) := dk_4 (dk_at dksJ10_canEncode_0 7 rfl rfl)
theorem dJ10_canEncode_8 : decode cJ10_canEncode 8 = .ok (.goto 4, 3) := dk_167 0 4 (dk_at dksJ10_canEncode_0 8 rfl rfl)
theorem dJ10_canEncode_11 : decode cJ10_canEncode 11 = .ok (.iconst 0, 1) := dk_3 (dk_at dksJ10_canEncode_0 11 rfl rfl)
theorem dJ10_canEncode_12 : decode cJ10_canEncode 12 = .ok (.ireturn, 1) := dk_172 (dk_at dksJ10_canEncode_0 12 rfl rfl)
abbrev cJ10_indexOf : ByteArray := prog_48_method_24_code
def yJ10_indexOf : MethodName := ⟨RJ10, "indexOf", "([B[B)I"⟩
def dkwJ10_indexOf_1 : List UInt8 := [172]
abbrev dktJ10_indexOf_1 : List UInt8 := dkwJ10_indexOf_1 ++ []
def dkwJ10_indexOf_0 : List UInt8 := [43, 190, 154, 0, 5, 3, 172, 42, 190, 154, 0, 5, 2, 172, 42, 42, 190, 43, 43, 190, 3, 184, 0, 99]
abbrev dktJ10_indexOf_0 : List UInt8 := dkwJ10_indexOf_0 ++ dktJ10_indexOf_1
theorem dksJ10_indexOf_0 : cJ10_indexOf.data.toList.drop 0 = dktJ10_indexOf_0 := by decide +kernel
theorem dksJ10_indexOf_1 : cJ10_indexOf.data.toList.drop 24 = dktJ10_indexOf_1 := dk_seg dksJ10_indexOf_0 24 rfl rfl
theorem dJ10_indexOf_0 : decode cJ10_indexOf 0 = .ok (.aload_n 1, 1) := dk_43 (dk_at dksJ10_indexOf_0 0 rfl rfl)
theorem dJ10_indexOf_1 : decode cJ10_indexOf 1 = .ok (.arraylength, 1) := dk_190 (dk_at dksJ10_indexOf_0 1 rfl rfl)
theorem dJ10_indexOf_2 : decode cJ10_indexOf 2 = .ok (.ifCond .ne 5, 3) := dk_154 0 5 (dk_at dksJ10_indexOf_0 2 rfl rfl)
theorem dJ10_indexOf_5 : decode cJ10_indexOf 5 = .ok (.iconst 0, 1) := dk_3 (dk_at dksJ10_indexOf_0 5 rfl rfl)
theorem dJ10_indexOf_6 : decode cJ10_indexOf 6 = .ok (.ireturn, 1) := dk_172 (dk_at dksJ10_indexOf_0 6 rfl rfl)
theorem dJ10_indexOf_7 : decode cJ10_indexOf 7 = .ok (.aload_n 0, 1) := dk_42 (dk_at dksJ10_indexOf_0 7 rfl rfl)
theorem dJ10_indexOf_8 : decode cJ10_indexOf 8 = .ok (.arraylength, 1) := dk_190 (dk_at dksJ10_indexOf_0 8 rfl rfl)
theorem dJ10_indexOf_9 : decode cJ10_indexOf 9 = .ok (.ifCond .ne 5, 3) := dk_154 0 5 (dk_at dksJ10_indexOf_0 9 rfl rfl)
theorem dJ10_indexOf_12 : decode cJ10_indexOf 12 = .ok (.iconst (-1), 1) := dk_2 (dk_at dksJ10_indexOf_0 12 rfl rfl)
theorem dJ10_indexOf_13 : decode cJ10_indexOf 13 = .ok (.ireturn, 1) := dk_172 (dk_at dksJ10_indexOf_0 13 rfl rfl)
theorem dJ10_indexOf_14 : decode cJ10_indexOf 14 = .ok (.aload_n 0, 1) := dk_42 (dk_at dksJ10_indexOf_0 14 rfl rfl)
theorem dJ10_indexOf_15 : decode cJ10_indexOf 15 = .ok (.aload_n 0, 1) := dk_42 (dk_at dksJ10_indexOf_0 15 rfl rfl)
theorem dJ10_indexOf_16 : decode cJ10_indexOf 16 = .ok (.arraylength, 1) := dk_190 (dk_at dksJ10_indexOf_0 16 rfl rfl)
theorem dJ10_indexOf_17 : decode cJ10_indexOf 17 = .ok (.aload_n 1, 1) := dk_43 (dk_at dksJ10_indexOf_0 17 rfl rfl)
theorem dJ10_indexOf_18 : decode cJ10_indexOf 18 = .ok (.aload_n 1, 1) := dk_43 (dk_at dksJ10_indexOf_0 18 rfl rfl)
theorem dJ10_indexOf_19 : decode cJ10_indexOf 19 = .ok (.arraylength, 1) := dk_190 (dk_at dksJ10_indexOf_0 19 rfl rfl)
theorem dJ10_indexOf_20 : decode cJ10_indexOf 20 = .ok (.iconst 0, 1) := dk_3 (dk_at dksJ10_indexOf_0 20 rfl rfl)
theorem dJ10_indexOf_21 : decode cJ10_indexOf 21 = .ok (.invokestatic 99, 3) := dk_184 0 99 (dk_at dksJ10_indexOf_0 21 rfl rfl)
theorem dJ10_indexOf_24 : decode cJ10_indexOf 24 = .ok (.ireturn, 1) := dk_172 (dk_at dksJ10_indexOf_1 0 rfl rfl)
abbrev cJ10_indexOf_2 : ByteArray := prog_48_method_25_code
def yJ10_indexOf_2 : MethodName := ⟨RJ10, "indexOf", "([BI[BII)I"⟩
def dkwJ10_indexOf_2_5 : List UInt8 := [167, 255, 154, 2, 172]
abbrev dktJ10_indexOf_2_5 : List UInt8 := dkwJ10_indexOf_2_5 ++ []
def dkwJ10_indexOf_2_4 : List UInt8 := [132, 8, 1, 132, 10, 1, 167, 255, 232, 21, 8, 21, 9, 160, 0, 6, 21, 7, 172, 132, 7, 1]
abbrev dktJ10_indexOf_2_4 : List UInt8 := dkwJ10_indexOf_2_4 ++ dktJ10_indexOf_2_5
def dkwJ10_indexOf_2_3 : List UInt8 := [100, 54, 9, 4, 54, 10, 21, 8, 21, 9, 162, 0, 23, 42, 21, 8, 51, 44, 21, 10, 51, 160, 0, 12]
abbrev dktJ10_indexOf_2_3 : List UInt8 := dkwJ10_indexOf_2_3 ++ dktJ10_indexOf_2_4
def dkwJ10_indexOf_2_2 : List UInt8 := [159, 0, 6, 167, 255, 237, 21, 7, 21, 6, 163, 0, 57, 21, 7, 4, 96, 54, 8, 21, 8, 29, 96, 4]
abbrev dktJ10_indexOf_2_2 : List UInt8 := dkwJ10_indexOf_2_2 ++ dktJ10_indexOf_2_3
def dkwJ10_indexOf_2_1 : List UInt8 := [51, 21, 5, 159, 0, 25, 132, 7, 1, 21, 7, 21, 6, 163, 0, 15, 42, 21, 7, 51, 21, 5]
abbrev dktJ10_indexOf_2_1 : List UInt8 := dkwJ10_indexOf_2_1 ++ dktJ10_indexOf_2_2
def dkwJ10_indexOf_2_0 : List UInt8 := [44, 3, 51, 54, 5, 27, 29, 100, 54, 6, 21, 4, 54, 7, 21, 7, 21, 6, 163, 0, 101, 42, 21, 7]
abbrev dktJ10_indexOf_2_0 : List UInt8 := dkwJ10_indexOf_2_0 ++ dktJ10_indexOf_2_1
theorem dksJ10_indexOf_2_0 : cJ10_indexOf_2.data.toList.drop 0 = dktJ10_indexOf_2_0 := by decide +kernel
theorem dksJ10_indexOf_2_1 : cJ10_indexOf_2.data.toList.drop 24 = dktJ10_indexOf_2_1 := dk_seg dksJ10_indexOf_2_0 24 rfl rfl
theorem dksJ10_indexOf_2_2 : cJ10_indexOf_2.data.toList.drop 46 = dktJ10_indexOf_2_2 := dk_seg dksJ10_indexOf_2_1 22 rfl rfl
theorem dksJ10_indexOf_2_3 : cJ10_indexOf_2.data.toList.drop 70 = dktJ10_indexOf_2_3 := dk_seg dksJ10_indexOf_2_2 24 rfl rfl
theorem dksJ10_indexOf_2_4 : cJ10_indexOf_2.data.toList.drop 94 = dktJ10_indexOf_2_4 := dk_seg dksJ10_indexOf_2_3 24 rfl rfl
theorem dksJ10_indexOf_2_5 : cJ10_indexOf_2.data.toList.drop 116 = dktJ10_indexOf_2_5 := dk_seg dksJ10_indexOf_2_4 22 rfl rfl
theorem dJ10_indexOf_2_0 : decode cJ10_indexOf_2 0 = .ok (.aload_n 2, 1) := dk_44 (dk_at dksJ10_indexOf_2_0 0 rfl rfl)
theorem dJ10_indexOf_2_1 : decode cJ10_indexOf_2 1 = .ok (.iconst 0, 1) := dk_3 (dk_at dksJ10_indexOf_2_0 1 rfl rfl)
theorem dJ10_indexOf_2_2 : decode cJ10_indexOf_2 2 = .ok (.baload, 1) := dk_51 (dk_at dksJ10_indexOf_2_0 2 rfl rfl)
theorem dJ10_indexOf_2_3 : decode cJ10_indexOf_2 3 = .ok (.istore 5, 2) := dk_54 5 (dk_at dksJ10_indexOf_2_0 3 rfl rfl)
theorem dJ10_indexOf_2_5 : decode cJ10_indexOf_2 5 = .ok (.iload_n 1, 1) := dk_27 (dk_at dksJ10_indexOf_2_0 5 rfl rfl)
theorem dJ10_indexOf_2_6 : decode cJ10_indexOf_2 6 = .ok (.iload_n 3, 1) := dk_29 (dk_at dksJ10_indexOf_2_0 6 rfl rfl)
theorem dJ10_indexOf_2_7 : decode cJ10_indexOf_2 7 = .ok (.isub, 1) := dk_100 (dk_at dksJ10_indexOf_2_0 7 rfl rfl)
theorem dJ10_indexOf_2_8 : decode cJ10_indexOf_2 8 = .ok (.istore 6, 2) := dk_54 6 (dk_at dksJ10_indexOf_2_0 8 rfl rfl)
theorem dJ10_indexOf_2_10 : decode cJ10_indexOf_2 10 = .ok (.iload 4, 2) := dk_21 4 (dk_at dksJ10_indexOf_2_0 10 rfl rfl)
theorem dJ10_indexOf_2_12 : decode cJ10_indexOf_2 12 = .ok (.istore 7, 2) := dk_54 7 (dk_at dksJ10_indexOf_2_0 12 rfl rfl)
theorem dJ10_indexOf_2_14 : decode cJ10_indexOf_2 14 = .ok (.iload 7, 2) := dk_21 7 (dk_at dksJ10_indexOf_2_0 14 rfl rfl)
theorem dJ10_indexOf_2_16 : decode cJ10_indexOf_2 16 = .ok (.iload 6, 2) := dk_21 6 (dk_at dksJ10_indexOf_2_0 16 rfl rfl)
theorem dJ10_indexOf_2_18 : decode cJ10_indexOf_2 18 = .ok (.if_icmp .gt 101, 3) := dk_163 0 101 (dk_at dksJ10_indexOf_2_0 18 rfl rfl)
theorem dJ10_indexOf_2_21 : decode cJ10_indexOf_2 21 = .ok (.aload_n 0, 1) := dk_42 (dk_at dksJ10_indexOf_2_0 21 rfl rfl)
theorem dJ10_indexOf_2_22 : decode cJ10_indexOf_2 22 = .ok (.iload 7, 2) := dk_21 7 (dk_at dksJ10_indexOf_2_0 22 rfl rfl)
theorem dJ10_indexOf_2_24 : decode cJ10_indexOf_2 24 = .ok (.baload, 1) := dk_51 (dk_at dksJ10_indexOf_2_1 0 rfl rfl)
theorem dJ10_indexOf_2_25 : decode cJ10_indexOf_2 25 = .ok (.iload 5, 2) := dk_21 5 (dk_at dksJ10_indexOf_2_1 1 rfl rfl)
theorem dJ10_indexOf_2_27 : decode cJ10_indexOf_2 27 = .ok (.if_icmp .eq 25, 3) := dk_159 0 25 (dk_at dksJ10_indexOf_2_1 3 rfl rfl)
theorem dJ10_indexOf_2_30 : decode cJ10_indexOf_2 30 = .ok (.iinc 7 1, 3) := dk_132 7 1 (dk_at dksJ10_indexOf_2_1 6 rfl rfl)
theorem dJ10_indexOf_2_33 : decode cJ10_indexOf_2 33 = .ok (.iload 7, 2) := dk_21 7 (dk_at dksJ10_indexOf_2_1 9 rfl rfl)
theorem dJ10_indexOf_2_35 : decode cJ10_indexOf_2 35 = .ok (.iload 6, 2) := dk_21 6 (dk_at dksJ10_indexOf_2_1 11 rfl rfl)
theorem dJ10_indexOf_2_37 : decode cJ10_indexOf_2 37 = .ok (.if_icmp .gt 15, 3) := dk_163 0 15 (dk_at dksJ10_indexOf_2_1 13 rfl rfl)
theorem dJ10_indexOf_2_40 : decode cJ10_indexOf_2 40 = .ok (.aload_n 0, 1) := dk_42 (dk_at dksJ10_indexOf_2_1 16 rfl rfl)
theorem dJ10_indexOf_2_41 : decode cJ10_indexOf_2 41 = .ok (.iload 7, 2) := dk_21 7 (dk_at dksJ10_indexOf_2_1 17 rfl rfl)
theorem dJ10_indexOf_2_43 : decode cJ10_indexOf_2 43 = .ok (.baload, 1) := dk_51 (dk_at dksJ10_indexOf_2_1 19 rfl rfl)
theorem dJ10_indexOf_2_44 : decode cJ10_indexOf_2 44 = .ok (.iload 5, 2) := dk_21 5 (dk_at dksJ10_indexOf_2_1 20 rfl rfl)
theorem dJ10_indexOf_2_46 : decode cJ10_indexOf_2 46 = .ok (.if_icmp .eq 6, 3) := dk_159 0 6 (dk_at dksJ10_indexOf_2_2 0 rfl rfl)
theorem dJ10_indexOf_2_49 : decode cJ10_indexOf_2 49 = .ok (.goto (-19), 3) := dk_167 255 237 (dk_at dksJ10_indexOf_2_2 3 rfl rfl)
theorem dJ10_indexOf_2_52 : decode cJ10_indexOf_2 52 = .ok (.iload 7, 2) := dk_21 7 (dk_at dksJ10_indexOf_2_2 6 rfl rfl)
theorem dJ10_indexOf_2_54 : decode cJ10_indexOf_2 54 = .ok (.iload 6, 2) := dk_21 6 (dk_at dksJ10_indexOf_2_2 8 rfl rfl)
theorem dJ10_indexOf_2_56 : decode cJ10_indexOf_2 56 = .ok (.if_icmp .gt 57, 3) := dk_163 0 57 (dk_at dksJ10_indexOf_2_2 10 rfl rfl)
theorem dJ10_indexOf_2_59 : decode cJ10_indexOf_2 59 = .ok (.iload 7, 2) := dk_21 7 (dk_at dksJ10_indexOf_2_2 13 rfl rfl)
theorem dJ10_indexOf_2_61 : decode cJ10_indexOf_2 61 = .ok (.iconst 1, 1) := dk_4 (dk_at dksJ10_indexOf_2_2 15 rfl rfl)
theorem dJ10_indexOf_2_62 : decode cJ10_indexOf_2 62 = .ok (.iadd, 1) := dk_96 (dk_at dksJ10_indexOf_2_2 16 rfl rfl)
theorem dJ10_indexOf_2_63 : decode cJ10_indexOf_2 63 = .ok (.istore 8, 2) := dk_54 8 (dk_at dksJ10_indexOf_2_2 17 rfl rfl)
theorem dJ10_indexOf_2_65 : decode cJ10_indexOf_2 65 = .ok (.iload 8, 2) := dk_21 8 (dk_at dksJ10_indexOf_2_2 19 rfl rfl)
theorem dJ10_indexOf_2_67 : decode cJ10_indexOf_2 67 = .ok (.iload_n 3, 1) := dk_29 (dk_at dksJ10_indexOf_2_2 21 rfl rfl)
theorem dJ10_indexOf_2_68 : decode cJ10_indexOf_2 68 = .ok (.iadd, 1) := dk_96 (dk_at dksJ10_indexOf_2_2 22 rfl rfl)
theorem dJ10_indexOf_2_69 : decode cJ10_indexOf_2 69 = .ok (.iconst 1, 1) := dk_4 (dk_at dksJ10_indexOf_2_2 23 rfl rfl)
theorem dJ10_indexOf_2_70 : decode cJ10_indexOf_2 70 = .ok (.isub, 1) := dk_100 (dk_at dksJ10_indexOf_2_3 0 rfl rfl)
theorem dJ10_indexOf_2_71 : decode cJ10_indexOf_2 71 = .ok (.istore 9, 2) := dk_54 9 (dk_at dksJ10_indexOf_2_3 1 rfl rfl)
theorem dJ10_indexOf_2_73 : decode cJ10_indexOf_2 73 = .ok (.iconst 1, 1) := dk_4 (dk_at dksJ10_indexOf_2_3 3 rfl rfl)
theorem dJ10_indexOf_2_74 : decode cJ10_indexOf_2 74 = .ok (.istore 10, 2) := dk_54 10 (dk_at dksJ10_indexOf_2_3 4 rfl rfl)
theorem dJ10_indexOf_2_76 : decode cJ10_indexOf_2 76 = .ok (.iload 8, 2) := dk_21 8 (dk_at dksJ10_indexOf_2_3 6 rfl rfl)
theorem dJ10_indexOf_2_78 : decode cJ10_indexOf_2 78 = .ok (.iload 9, 2) := dk_21 9 (dk_at dksJ10_indexOf_2_3 8 rfl rfl)
theorem dJ10_indexOf_2_80 : decode cJ10_indexOf_2 80 = .ok (.if_icmp .ge 23, 3) := dk_162 0 23 (dk_at dksJ10_indexOf_2_3 10 rfl rfl)
theorem dJ10_indexOf_2_83 : decode cJ10_indexOf_2 83 = .ok (.aload_n 0, 1) := dk_42 (dk_at dksJ10_indexOf_2_3 13 rfl rfl)
theorem dJ10_indexOf_2_84 : decode cJ10_indexOf_2 84 = .ok (.iload 8, 2) := dk_21 8 (dk_at dksJ10_indexOf_2_3 14 rfl rfl)
theorem dJ10_indexOf_2_86 : decode cJ10_indexOf_2 86 = .ok (.baload, 1) := dk_51 (dk_at dksJ10_indexOf_2_3 16 rfl rfl)
theorem dJ10_indexOf_2_87 : decode cJ10_indexOf_2 87 = .ok (.aload_n 2, 1) := dk_44 (dk_at dksJ10_indexOf_2_3 17 rfl rfl)
theorem dJ10_indexOf_2_88 : decode cJ10_indexOf_2 88 = .ok (.iload 10, 2) := dk_21 10 (dk_at dksJ10_indexOf_2_3 18 rfl rfl)
theorem dJ10_indexOf_2_90 : decode cJ10_indexOf_2 90 = .ok (.baload, 1) := dk_51 (dk_at dksJ10_indexOf_2_3 20 rfl rfl)
theorem dJ10_indexOf_2_91 : decode cJ10_indexOf_2 91 = .ok (.if_icmp .ne 12, 3) := dk_160 0 12 (dk_at dksJ10_indexOf_2_3 21 rfl rfl)
theorem dJ10_indexOf_2_94 : decode cJ10_indexOf_2 94 = .ok (.iinc 8 1, 3) := dk_132 8 1 (dk_at dksJ10_indexOf_2_4 0 rfl rfl)
theorem dJ10_indexOf_2_97 : decode cJ10_indexOf_2 97 = .ok (.iinc 10 1, 3) := dk_132 10 1 (dk_at dksJ10_indexOf_2_4 3 rfl rfl)
theorem dJ10_indexOf_2_100 : decode cJ10_indexOf_2 100 = .ok (.goto (-24), 3) := dk_167 255 232 (dk_at dksJ10_indexOf_2_4 6 rfl rfl)
theorem dJ10_indexOf_2_103 : decode cJ10_indexOf_2 103 = .ok (.iload 8, 2) := dk_21 8 (dk_at dksJ10_indexOf_2_4 9 rfl rfl)
theorem dJ10_indexOf_2_105 : decode cJ10_indexOf_2 105 = .ok (.iload 9, 2) := dk_21 9 (dk_at dksJ10_indexOf_2_4 11 rfl rfl)
theorem dJ10_indexOf_2_107 : decode cJ10_indexOf_2 107 = .ok (.if_icmp .ne 6, 3) := dk_160 0 6 (dk_at dksJ10_indexOf_2_4 13 rfl rfl)
theorem dJ10_indexOf_2_110 : decode cJ10_indexOf_2 110 = .ok (.iload 7, 2) := dk_21 7 (dk_at dksJ10_indexOf_2_4 16 rfl rfl)
theorem dJ10_indexOf_2_112 : decode cJ10_indexOf_2 112 = .ok (.ireturn, 1) := dk_172 (dk_at dksJ10_indexOf_2_4 18 rfl rfl)
theorem dJ10_indexOf_2_113 : decode cJ10_indexOf_2 113 = .ok (.iinc 7 1, 3) := dk_132 7 1 (dk_at dksJ10_indexOf_2_4 19 rfl rfl)
theorem dJ10_indexOf_2_116 : decode cJ10_indexOf_2 116 = .ok (.goto (-102), 3) := dk_167 255 154 (dk_at dksJ10_indexOf_2_5 0 rfl rfl)
theorem dJ10_indexOf_2_119 : decode cJ10_indexOf_2 119 = .ok (.iconst (-1), 1) := dk_2 (dk_at dksJ10_indexOf_2_5 3 rfl rfl)
theorem dJ10_indexOf_2_120 : decode cJ10_indexOf_2 120 = .ok (.ireturn, 1) := dk_172 (dk_at dksJ10_indexOf_2_5 4 rfl rfl)
abbrev cJ10_indexOf_3 : ByteArray := prog_48_method_22_code
def yJ10_indexOf_3 : MethodName := ⟨RJ10, "indexOf", "([BIII)I"⟩
def dkwJ10_indexOf_3_1 : List UInt8 := [161, 0, 5, 2, 172, 42, 27, 28, 29, 184, 0, 95, 172]
abbrev dktJ10_indexOf_3_1 : List UInt8 := dkwJ10_indexOf_3_1 ++ []
def dkwJ10_indexOf_3_0 : List UInt8 := [27, 184, 0, 88, 154, 0, 5, 2, 172, 28, 3, 184, 0, 92, 61, 29, 42, 190, 184, 0, 38, 62, 28, 29]
abbrev dktJ10_indexOf_3_0 : List UInt8 := dkwJ10_indexOf_3_0 ++ dktJ10_indexOf_3_1
theorem dksJ10_indexOf_3_0 : cJ10_indexOf_3.data.toList.drop 0 = dktJ10_indexOf_3_0 := by decide +kernel
theorem dksJ10_indexOf_3_1 : cJ10_indexOf_3.data.toList.drop 24 = dktJ10_indexOf_3_1 := dk_seg dksJ10_indexOf_3_0 24 rfl rfl
theorem dJ10_indexOf_3_0 : decode cJ10_indexOf_3 0 = .ok (.iload_n 1, 1) := dk_27 (dk_at dksJ10_indexOf_3_0 0 rfl rfl)
theorem dJ10_indexOf_3_1 : decode cJ10_indexOf_3 1 = .ok (.invokestatic 88, 3) := dk_184 0 88 (dk_at dksJ10_indexOf_3_0 1 rfl rfl)
theorem dJ10_indexOf_3_4 : decode cJ10_indexOf_3 4 = .ok (.ifCond .ne 5, 3) := dk_154 0 5 (dk_at dksJ10_indexOf_3_0 4 rfl rfl)
theorem dJ10_indexOf_3_7 : decode cJ10_indexOf_3 7 = .ok (.iconst (-1), 1) := dk_2 (dk_at dksJ10_indexOf_3_0 7 rfl rfl)
theorem dJ10_indexOf_3_8 : decode cJ10_indexOf_3 8 = .ok (.ireturn, 1) := dk_172 (dk_at dksJ10_indexOf_3_0 8 rfl rfl)
theorem dJ10_indexOf_3_9 : decode cJ10_indexOf_3 9 = .ok (.iload_n 2, 1) := dk_28 (dk_at dksJ10_indexOf_3_0 9 rfl rfl)
theorem dJ10_indexOf_3_10 : decode cJ10_indexOf_3 10 = .ok (.iconst 0, 1) := dk_3 (dk_at dksJ10_indexOf_3_0 10 rfl rfl)
theorem dJ10_indexOf_3_11 : decode cJ10_indexOf_3 11 = .ok (.invokestatic 92, 3) := dk_184 0 92 (dk_at dksJ10_indexOf_3_0 11 rfl rfl)
theorem dJ10_indexOf_3_14 : decode cJ10_indexOf_3 14 = .ok (.istore_n 2, 1) := dk_61 (dk_at dksJ10_indexOf_3_0 14 rfl rfl)
theorem dJ10_indexOf_3_15 : decode cJ10_indexOf_3 15 = .ok (.iload_n 3, 1) := dk_29 (dk_at dksJ10_indexOf_3_0 15 rfl rfl)
theorem dJ10_indexOf_3_16 : decode cJ10_indexOf_3 16 = .ok (.aload_n 0, 1) := dk_42 (dk_at dksJ10_indexOf_3_0 16 rfl rfl)
theorem dJ10_indexOf_3_17 : decode cJ10_indexOf_3 17 = .ok (.arraylength, 1) := dk_190 (dk_at dksJ10_indexOf_3_0 17 rfl rfl)
theorem dJ10_indexOf_3_18 : decode cJ10_indexOf_3 18 = .ok (.invokestatic 38, 3) := dk_184 0 38 (dk_at dksJ10_indexOf_3_0 18 rfl rfl)
theorem dJ10_indexOf_3_21 : decode cJ10_indexOf_3 21 = .ok (.istore_n 3, 1) := dk_62 (dk_at dksJ10_indexOf_3_0 21 rfl rfl)
theorem dJ10_indexOf_3_22 : decode cJ10_indexOf_3 22 = .ok (.iload_n 2, 1) := dk_28 (dk_at dksJ10_indexOf_3_0 22 rfl rfl)
theorem dJ10_indexOf_3_23 : decode cJ10_indexOf_3 23 = .ok (.iload_n 3, 1) := dk_29 (dk_at dksJ10_indexOf_3_0 23 rfl rfl)
theorem dJ10_indexOf_3_24 : decode cJ10_indexOf_3 24 = .ok (.if_icmp .lt 5, 3) := dk_161 0 5 (dk_at dksJ10_indexOf_3_1 0 rfl rfl)
theorem dJ10_indexOf_3_27 : decode cJ10_indexOf_3 27 = .ok (.iconst (-1), 1) := dk_2 (dk_at dksJ10_indexOf_3_1 3 rfl rfl)
theorem dJ10_indexOf_3_28 : decode cJ10_indexOf_3 28 = .ok (.ireturn, 1) := dk_172 (dk_at dksJ10_indexOf_3_1 4 rfl rfl)
theorem dJ10_indexOf_3_29 : decode cJ10_indexOf_3 29 = .ok (.aload_n 0, 1) := dk_42 (dk_at dksJ10_indexOf_3_1 5 rfl rfl)
theorem dJ10_indexOf_3_30 : decode cJ10_indexOf_3 30 = .ok (.iload_n 1, 1) := dk_27 (dk_at dksJ10_indexOf_3_1 6 rfl rfl)
theorem dJ10_indexOf_3_31 : decode cJ10_indexOf_3 31 = .ok (.iload_n 2, 1) := dk_28 (dk_at dksJ10_indexOf_3_1 7 rfl rfl)
theorem dJ10_indexOf_3_32 : decode cJ10_indexOf_3 32 = .ok (.iload_n 3, 1) := dk_29 (dk_at dksJ10_indexOf_3_1 8 rfl rfl)
theorem dJ10_indexOf_3_33 : decode cJ10_indexOf_3 33 = .ok (.invokestatic 95, 3) := dk_184 0 95 (dk_at dksJ10_indexOf_3_1 9 rfl rfl)
theorem dJ10_indexOf_3_36 : decode cJ10_indexOf_3 36 = .ok (.ireturn, 1) := dk_172 (dk_at dksJ10_indexOf_3_1 12 rfl rfl)
abbrev cJ10_canEncode_2 : ByteArray := prog_48_method_4_code
def yJ10_canEncode_2 : MethodName := ⟨RJ10, "canEncode", "(I)Z"⟩
def dkwJ10_canEncode_2_0 : List UInt8 := [26, 155, 0, 14, 26, 17, 0, 255, 163, 0, 7, 4, 167, 0, 4, 3, 172]
abbrev dktJ10_canEncode_2_0 : List UInt8 := dkwJ10_canEncode_2_0 ++ []
theorem dksJ10_canEncode_2_0 : cJ10_canEncode_2.data.toList.drop 0 = dktJ10_canEncode_2_0 := by decide +kernel
theorem dJ10_canEncode_2_0 : decode cJ10_canEncode_2 0 = .ok (.iload_n 0, 1) := dk_26 (dk_at dksJ10_canEncode_2_0 0 rfl rfl)
theorem dJ10_canEncode_2_1 : decode cJ10_canEncode_2 1 = .ok (.ifCond .lt 14, 3) := dk_155 0 14 (dk_at dksJ10_canEncode_2_0 1 rfl rfl)
theorem dJ10_canEncode_2_4 : decode cJ10_canEncode_2 4 = .ok (.iload_n 0, 1) := dk_26 (dk_at dksJ10_canEncode_2_0 4 rfl rfl)
theorem dJ10_canEncode_2_5 : decode cJ10_canEncode_2 5 = .ok (.sipush 255, 3) := dk_17 0 255 (dk_at dksJ10_canEncode_2_0 5 rfl rfl)
theorem dJ10_canEncode_2_8 : decode cJ10_canEncode_2 8 = .ok (.if_icmp .gt 7, 3) := dk_163 0 7 (dk_at dksJ10_canEncode_2_0 8 rfl rfl)
theorem dJ10_canEncode_2_11 : decode cJ10_canEncode_2 11 = .ok (.iconst 1, 1) := dk_4 (dk_at dksJ10_canEncode_2_0 11 rfl rfl)
theorem dJ10_canEncode_2_12 : decode cJ10_canEncode_2 12 = .ok (.goto 4, 3) := dk_167 0 4 (dk_at dksJ10_canEncode_2_0 12 rfl rfl)
theorem dJ10_canEncode_2_15 : decode cJ10_canEncode_2 15 = .ok (.iconst 0, 1) := dk_3 (dk_at dksJ10_canEncode_2_0 15 rfl rfl)
theorem dJ10_canEncode_2_16 : decode cJ10_canEncode_2 16 = .ok (.ireturn, 1) := dk_172 (dk_at dksJ10_canEncode_2_0 16 rfl rfl)
abbrev cJ10_indexOfChar : ByteArray := prog_48_method_23_code
def yJ10_indexOfChar : MethodName := ⟨RJ10, "indexOfChar", "([BIII)I"⟩
def dkwJ10_indexOfChar_1 : List UInt8 := [172, 132, 5, 1, 167, 255, 235, 2, 172]
abbrev dktJ10_indexOfChar_1 : List UInt8 := dkwJ10_indexOfChar_1 ++ []
def dkwJ10_indexOfChar_0 : List UInt8 := [27, 145, 54, 4, 28, 54, 5, 21, 5, 29, 162, 0, 21, 42, 21, 5, 51, 21, 4, 160, 0, 6, 21, 5]
abbrev dktJ10_indexOfChar_0 : List UInt8 := dkwJ10_indexOfChar_0 ++ dktJ10_indexOfChar_1
theorem dksJ10_indexOfChar_0 : cJ10_indexOfChar.data.toList.drop 0 = dktJ10_indexOfChar_0 := by decide +kernel
theorem dksJ10_indexOfChar_1 : cJ10_indexOfChar.data.toList.drop 24 = dktJ10_indexOfChar_1 := dk_seg dksJ10_indexOfChar_0 24 rfl rfl
theorem dJ10_indexOfChar_0 : decode cJ10_indexOfChar 0 = .ok (.iload_n 1, 1) := dk_27 (dk_at dksJ10_indexOfChar_0 0 rfl rfl)
theorem dJ10_indexOfChar_1 : decode cJ10_indexOfChar 1 = .ok (.i2b, 1) := dk_145 (dk_at dksJ10_indexOfChar_0 1 rfl rfl)
theorem dJ10_indexOfChar_2 : decode cJ10_indexOfChar 2 = .ok (.istore 4, 2) := dk_54 4 (dk_at dksJ10_indexOfChar_0 2 rfl rfl)
theorem dJ10_indexOfChar_4 : decode cJ10_indexOfChar 4 = .ok (.iload_n 2, 1) := dk_28 (dk_at dksJ10_indexOfChar_0 4 rfl rfl)
theorem dJ10_indexOfChar_5 : decode cJ10_indexOfChar 5 = .ok (.istore 5, 2) := dk_54 5 (dk_at dksJ10_indexOfChar_0 5 rfl rfl)
theorem dJ10_indexOfChar_7 : decode cJ10_indexOfChar 7 = .ok (.iload 5, 2) := dk_21 5 (dk_at dksJ10_indexOfChar_0 7 rfl rfl)
theorem dJ10_indexOfChar_9 : decode cJ10_indexOfChar 9 = .ok (.iload_n 3, 1) := dk_29 (dk_at dksJ10_indexOfChar_0 9 rfl rfl)
theorem dJ10_indexOfChar_10 : decode cJ10_indexOfChar 10 = .ok (.if_icmp .ge 21, 3) := dk_162 0 21 (dk_at dksJ10_indexOfChar_0 10 rfl rfl)
theorem dJ10_indexOfChar_13 : decode cJ10_indexOfChar 13 = .ok (.aload_n 0, 1) := dk_42 (dk_at dksJ10_indexOfChar_0 13 rfl rfl)
theorem dJ10_indexOfChar_14 : decode cJ10_indexOfChar 14 = .ok (.iload 5, 2) := dk_21 5 (dk_at dksJ10_indexOfChar_0 14 rfl rfl)
theorem dJ10_indexOfChar_16 : decode cJ10_indexOfChar 16 = .ok (.baload, 1) := dk_51 (dk_at dksJ10_indexOfChar_0 16 rfl rfl)
theorem dJ10_indexOfChar_17 : decode cJ10_indexOfChar 17 = .ok (.iload 4, 2) := dk_21 4 (dk_at dksJ10_indexOfChar_0 17 rfl rfl)
theorem dJ10_indexOfChar_19 : decode cJ10_indexOfChar 19 = .ok (.if_icmp .ne 6, 3) := dk_160 0 6 (dk_at dksJ10_indexOfChar_0 19 rfl rfl)
theorem dJ10_indexOfChar_22 : decode cJ10_indexOfChar 22 = .ok (.iload 5, 2) := dk_21 5 (dk_at dksJ10_indexOfChar_0 22 rfl rfl)
theorem dJ10_indexOfChar_24 : decode cJ10_indexOfChar 24 = .ok (.ireturn, 1) := dk_172 (dk_at dksJ10_indexOfChar_1 0 rfl rfl)
theorem dJ10_indexOfChar_25 : decode cJ10_indexOfChar 25 = .ok (.iinc 5 1, 3) := dk_132 5 1 (dk_at dksJ10_indexOfChar_1 1 rfl rfl)
theorem dJ10_indexOfChar_28 : decode cJ10_indexOfChar 28 = .ok (.goto (-21), 3) := dk_167 255 235 (dk_at dksJ10_indexOfChar_1 4 rfl rfl)
theorem dJ10_indexOfChar_31 : decode cJ10_indexOfChar 31 = .ok (.iconst (-1), 1) := dk_2 (dk_at dksJ10_indexOfChar_1 7 rfl rfl)
theorem dJ10_indexOfChar_32 : decode cJ10_indexOfChar 32 = .ok (.ireturn, 1) := dk_172 (dk_at dksJ10_indexOfChar_1 8 rfl rfl)
abbrev cJ10_charAt : ByteArray := prog_48_method_2_code
def yJ10_charAt : MethodName := ⟨RJ10, "charAt", "([BI)C"⟩
def dkwJ10_charAt_0 : List UInt8 := [27, 42, 190, 184, 0, 9, 42, 27, 51, 17, 0, 255, 126, 146, 172]
abbrev dktJ10_charAt_0 : List UInt8 := dkwJ10_charAt_0 ++ []
theorem dksJ10_charAt_0 : cJ10_charAt.data.toList.drop 0 = dktJ10_charAt_0 := by decide +kernel
theorem dJ10_charAt_0 : decode cJ10_charAt 0 = .ok (.iload_n 1, 1) := dk_27 (dk_at dksJ10_charAt_0 0 rfl rfl)
theorem dJ10_charAt_1 : decode cJ10_charAt 1 = .ok (.aload_n 0, 1) := dk_42 (dk_at dksJ10_charAt_0 1 rfl rfl)
theorem dJ10_charAt_2 : decode cJ10_charAt 2 = .ok (.arraylength, 1) := dk_190 (dk_at dksJ10_charAt_0 2 rfl rfl)
theorem dJ10_charAt_3 : decode cJ10_charAt 3 = .ok (.invokestatic 9, 3) := dk_184 0 9 (dk_at dksJ10_charAt_0 3 rfl rfl)
theorem dJ10_charAt_6 : decode cJ10_charAt 6 = .ok (.aload_n 0, 1) := dk_42 (dk_at dksJ10_charAt_0 6 rfl rfl)
theorem dJ10_charAt_7 : decode cJ10_charAt 7 = .ok (.iload_n 1, 1) := dk_27 (dk_at dksJ10_charAt_0 7 rfl rfl)
theorem dJ10_charAt_8 : decode cJ10_charAt 8 = .ok (.baload, 1) := dk_51 (dk_at dksJ10_charAt_0 8 rfl rfl)
theorem dJ10_charAt_9 : decode cJ10_charAt 9 = .ok (.sipush 255, 3) := dk_17 0 255 (dk_at dksJ10_charAt_0 9 rfl rfl)
theorem dJ10_charAt_12 : decode cJ10_charAt 12 = .ok (.iand, 1) := dk_126 (dk_at dksJ10_charAt_0 12 rfl rfl)
theorem dJ10_charAt_13 : decode cJ10_charAt 13 = .ok (.i2c, 1) := dk_146 (dk_at dksJ10_charAt_0 13 rfl rfl)
theorem dJ10_charAt_14 : decode cJ10_charAt 14 = .ok (.ireturn, 1) := dk_172 (dk_at dksJ10_charAt_0 14 rfl rfl)
theorem q157 : (Jvm.Cond.initialized "java/lang/StringLatin1") ∈ lw_all := lw_g (lw_at lw_m1 15 rfl) rfl
theorem q435 : (Jvm.Cond.static ({ cls := "java/lang/StringLatin1", name := "inflate", desc := "([BI[BII)V" } : Jvm.MethodName)) ∈ lw_all := lw_g (lw_at lw_m2 53 rfl) rfl
theorem q436 : (Jvm.Cond.code ({ cls := "java/lang/StringLatin1", name := "inflate", desc := "([BI[BII)V" } : Jvm.MethodName) prog_48_method_50_code (5 : Nat) (Option.none : Option Jvm.ClassFile.FieldType)) ∈ lw_all := lw_g (lw_at lw_m2 54 rfl) rfl
theorem q437 : (Jvm.Cond.methodLink "java/lang/StringLatin1" (240 : Nat) ({ cls := "java/lang/StringUTF16", name := "inflate", desc := "([BI[BII)V" } : Jvm.MethodName)) ∈ lw_all := lw_g (lw_at lw_m2 55 rfl) rfl
theorem q476 : (Jvm.Cond.static ({ cls := "java/lang/StringLatin1", name := "canEncode", desc := "(C)Z" } : Jvm.MethodName)) ∈ lw_all := lw_g (lw_at lw_m2 94 rfl) rfl
theorem q477 : (Jvm.Cond.code ({ cls := "java/lang/StringLatin1", name := "canEncode", desc := "(C)Z" } : Jvm.MethodName) prog_48_method_3_code (1 : Nat) (Option.some Jvm.ClassFile.FieldType.boolean)) ∈ lw_all := lw_g (lw_at lw_m2 95 rfl) rfl
theorem q578 : (Jvm.Cond.static ({ cls := "java/lang/StringLatin1", name := "indexOf", desc := "([B[B)I" } : Jvm.MethodName)) ∈ lw_all := lw_g (lw_at lw_m2 196 rfl) rfl
theorem q579 : (Jvm.Cond.code ({ cls := "java/lang/StringLatin1", name := "indexOf", desc := "([B[B)I" } : Jvm.MethodName) prog_48_method_24_code (2 : Nat) (Option.some Jvm.ClassFile.FieldType.int)) ∈ lw_all := lw_g (lw_at lw_m2 197 rfl) rfl
theorem q580 : (Jvm.Cond.methodLink "java/lang/StringLatin1" (99 : Nat) ({ cls := "java/lang/StringLatin1", name := "indexOf", desc := "([BI[BII)I" } : Jvm.MethodName)) ∈ lw_all := lw_g (lw_at lw_m2 198 rfl) rfl
theorem q581 : (Jvm.Cond.static ({ cls := "java/lang/StringLatin1", name := "indexOf", desc := "([BI[BII)I" } : Jvm.MethodName)) ∈ lw_all := lw_g (lw_at lw_m2 199 rfl) rfl
theorem q582 : (Jvm.Cond.code ({ cls := "java/lang/StringLatin1", name := "indexOf", desc := "([BI[BII)I" } : Jvm.MethodName) prog_48_method_25_code (11 : Nat) (Option.some Jvm.ClassFile.FieldType.int)) ∈ lw_all := lw_g (lw_at lw_m2 200 rfl) rfl
theorem q610 : (Jvm.Cond.static ({ cls := "java/lang/StringLatin1", name := "indexOf", desc := "([BIII)I" } : Jvm.MethodName)) ∈ lw_all := lw_g (lw_at lw_m2 228 rfl) rfl
theorem q611 : (Jvm.Cond.code ({ cls := "java/lang/StringLatin1", name := "indexOf", desc := "([BIII)I" } : Jvm.MethodName) prog_48_method_22_code (4 : Nat) (Option.some Jvm.ClassFile.FieldType.int)) ∈ lw_all := lw_g (lw_at lw_m2 229 rfl) rfl
theorem q612 : (Jvm.Cond.methodLink "java/lang/StringLatin1" (88 : Nat) ({ cls := "java/lang/StringLatin1", name := "canEncode", desc := "(I)Z" } : Jvm.MethodName)) ∈ lw_all := lw_g (lw_at lw_m2 230 rfl) rfl
theorem q613 : (Jvm.Cond.static ({ cls := "java/lang/StringLatin1", name := "canEncode", desc := "(I)Z" } : Jvm.MethodName)) ∈ lw_all := lw_g (lw_at lw_m2 231 rfl) rfl
theorem q614 : (Jvm.Cond.code ({ cls := "java/lang/StringLatin1", name := "canEncode", desc := "(I)Z" } : Jvm.MethodName) prog_48_method_4_code (1 : Nat) (Option.some Jvm.ClassFile.FieldType.boolean)) ∈ lw_all := lw_g (lw_at lw_m2 232 rfl) rfl
theorem q615 : (Jvm.Cond.methodLink "java/lang/StringLatin1" (92 : Nat) ({ cls := "java/lang/Math", name := "max", desc := "(II)I" } : Jvm.MethodName)) ∈ lw_all := lw_g (lw_at lw_m2 233 rfl) rfl
theorem q616 : (Jvm.Cond.methodLink "java/lang/StringLatin1" (38 : Nat) ({ cls := "java/lang/Math", name := "min", desc := "(II)I" } : Jvm.MethodName)) ∈ lw_all := lw_g (lw_at lw_m2 234 rfl) rfl
theorem q617 : (Jvm.Cond.methodLink "java/lang/StringLatin1" (95 : Nat) ({ cls := "java/lang/StringLatin1", name := "indexOfChar", desc := "([BIII)I" } : Jvm.MethodName)) ∈ lw_all := lw_g (lw_at lw_m2 235 rfl) rfl
theorem q618 : (Jvm.Cond.static ({ cls := "java/lang/StringLatin1", name := "indexOfChar", desc := "([BIII)I" } : Jvm.MethodName)) ∈ lw_all := lw_g (lw_at lw_m2 236 rfl) rfl
theorem q619 : (Jvm.Cond.code ({ cls := "java/lang/StringLatin1", name := "indexOfChar", desc := "([BIII)I" } : Jvm.MethodName) prog_48_method_23_code (6 : Nat) (Option.some Jvm.ClassFile.FieldType.int)) ∈ lw_all := lw_g (lw_at lw_m2 237 rfl) rfl
theorem q657 : (Jvm.Cond.static ({ cls := "java/lang/StringLatin1", name := "charAt", desc := "([BI)C" } : Jvm.MethodName)) ∈ lw_all := lw_g (lw_at lw_m3 35 rfl) rfl
theorem q658 : (Jvm.Cond.code ({ cls := "java/lang/StringLatin1", name := "charAt", desc := "([BI)C" } : Jvm.MethodName) prog_48_method_2_code (2 : Nat) (Option.some Jvm.ClassFile.FieldType.char)) ∈ lw_all := lw_g (lw_at lw_m3 36 rfl) rfl
theorem q659 : (Jvm.Cond.methodLink "java/lang/StringLatin1" (9 : Nat) ({ cls := "java/lang/String", name := "checkIndex", desc := "(II)V" } : Jvm.MethodName)) ∈ lw_all := lw_g (lw_at lw_m3 37 rfl) rfl

/-! java/lang/Character -/
set_option maxRecDepth 100000
def RJ11 : String := "java/lang/Character"
abbrev cJ11_isValidCodePoint : ByteArray := prog_41_method_11_code
def yJ11_isValidCodePoint : MethodName := ⟨RJ11, "isValidCodePoint", "(I)Z"⟩
def dkwJ11_isValidCodePoint_0 : List UInt8 := [26, 16, 16, 124, 60, 27, 16, 17, 162, 0, 7, 4, 167, 0, 4, 3, 172]
abbrev dktJ11_isValidCodePoint_0 : List UInt8 := dkwJ11_isValidCodePoint_0 ++ []
theorem dksJ11_isValidCodePoint_0 : cJ11_isValidCodePoint.data.toList.drop 0 = dktJ11_isValidCodePoint_0 := by decide +kernel
theorem dJ11_isValidCodePoint_0 : decode cJ11_isValidCodePoint 0 = .ok (.iload_n 0, 1) := dk_26 (dk_at dksJ11_isValidCodePoint_0 0 rfl rfl)
theorem dJ11_isValidCodePoint_1 : decode cJ11_isValidCodePoint 1 = .ok (.bipush 16, 2) := dk_16 16 (dk_at dksJ11_isValidCodePoint_0 1 rfl rfl)
theorem dJ11_isValidCodePoint_3 : decode cJ11_isValidCodePoint 3 = .ok (.iushr, 1) := dk_124 (dk_at dksJ11_isValidCodePoint_0 3 rfl rfl)
theorem dJ11_isValidCodePoint_4 : decode cJ11_isValidCodePoint 4 = .ok (.istore_n 1, 1) := dk_60 (dk_at dksJ11_isValidCodePoint_0 4 rfl rfl)
theorem dJ11_isValidCodePoint_5 : decode cJ11_isValidCodePoint 5 = .ok (.iload_n 1, 1) := dk_27 (dk_at dksJ11_isValidCodePoint_0 5 rfl rfl)
theorem dJ11_isValidCodePoint_6 : decode cJ11_isValidCodePoint 6 = .ok (.bipush 17, 2) := dk_16 17 (dk_at dksJ11_isValidCodePoint_0 6 rfl rfl)
theorem dJ11_isValidCodePoint_8 : decode cJ11_isValidCodePoint 8 = .ok (.if_icmp .ge 7, 3) := dk_162 0 7 (dk_at dksJ11_isValidCodePoint_0 8 rfl rfl)
theorem dJ11_isValidCodePoint_11 : decode cJ11_isValidCodePoint 11 = .ok (.iconst 1, 1) := dk_4 (dk_at dksJ11_isValidCodePoint_0 11 rfl rfl)
theorem dJ11_isValidCodePoint_12 : decode cJ11_isValidCodePoint 12 = .ok (.goto 4, 3) := dk_167 0 4 (dk_at dksJ11_isValidCodePoint_0 12 rfl rfl)
theorem dJ11_isValidCodePoint_15 : decode cJ11_isValidCodePoint 15 = .ok (.iconst 0, 1) := dk_3 (dk_at dksJ11_isValidCodePoint_0 15 rfl rfl)
theorem dJ11_isValidCodePoint_16 : decode cJ11_isValidCodePoint 16 = .ok (.ireturn, 1) := dk_172 (dk_at dksJ11_isValidCodePoint_0 16 rfl rfl)
abbrev cJ11_highSurrogate : ByteArray := prog_41_method_28_code
def yJ11_highSurrogate : MethodName := ⟨RJ11, "highSurrogate", "(I)C"⟩
def dkwJ11_highSurrogate_0 : List UInt8 := [26, 16, 10, 124, 18, 110, 96, 146, 172]
abbrev dktJ11_highSurrogate_0 : List UInt8 := dkwJ11_highSurrogate_0 ++ []
theorem dksJ11_highSurrogate_0 : cJ11_highSurrogate.data.toList.drop 0 = dktJ11_highSurrogate_0 := by decide +kernel
theorem dJ11_highSurrogate_0 : decode cJ11_highSurrogate 0 = .ok (.iload_n 0, 1) := dk_26 (dk_at dksJ11_highSurrogate_0 0 rfl rfl)
theorem dJ11_highSurrogate_1 : decode cJ11_highSurrogate 1 = .ok (.bipush 10, 2) := dk_16 10 (dk_at dksJ11_highSurrogate_0 1 rfl rfl)
theorem dJ11_highSurrogate_3 : decode cJ11_highSurrogate 3 = .ok (.iushr, 1) := dk_124 (dk_at dksJ11_highSurrogate_0 3 rfl rfl)
theorem dJ11_highSurrogate_4 : decode cJ11_highSurrogate 4 = .ok (.ldc 110, 2) := dk_18 110 (dk_at dksJ11_highSurrogate_0 4 rfl rfl)
theorem dJ11_highSurrogate_6 : decode cJ11_highSurrogate 6 = .ok (.iadd, 1) := dk_96 (dk_at dksJ11_highSurrogate_0 6 rfl rfl)
theorem dJ11_highSurrogate_7 : decode cJ11_highSurrogate 7 = .ok (.i2c, 1) := dk_146 (dk_at dksJ11_highSurrogate_0 7 rfl rfl)
theorem dJ11_highSurrogate_8 : decode cJ11_highSurrogate 8 = .ok (.ireturn, 1) := dk_172 (dk_at dksJ11_highSurrogate_0 8 rfl rfl)
abbrev cJ11_lowSurrogate : ByteArray := prog_41_method_29_code
def yJ11_lowSurrogate : MethodName := ⟨RJ11, "lowSurrogate", "(I)C"⟩
def dkwJ11_lowSurrogate_0 : List UInt8 := [26, 17, 3, 255, 126, 18, 76, 96, 146, 172]
abbrev dktJ11_lowSurrogate_0 : List UInt8 := dkwJ11_lowSurrogate_0 ++ []
theorem dksJ11_lowSurrogate_0 : cJ11_lowSurrogate.data.toList.drop 0 = dktJ11_lowSurrogate_0 := by decide +kernel
theorem dJ11_lowSurrogate_0 : decode cJ11_lowSurrogate 0 = .ok (.iload_n 0, 1) := dk_26 (dk_at dksJ11_lowSurrogate_0 0 rfl rfl)
theorem dJ11_lowSurrogate_1 : decode cJ11_lowSurrogate 1 = .ok (.sipush 1023, 3) := dk_17 3 255 (dk_at dksJ11_lowSurrogate_0 1 rfl rfl)
theorem dJ11_lowSurrogate_4 : decode cJ11_lowSurrogate 4 = .ok (.iand, 1) := dk_126 (dk_at dksJ11_lowSurrogate_0 4 rfl rfl)
theorem dJ11_lowSurrogate_5 : decode cJ11_lowSurrogate 5 = .ok (.ldc 76, 2) := dk_18 76 (dk_at dksJ11_lowSurrogate_0 5 rfl rfl)
theorem dJ11_lowSurrogate_7 : decode cJ11_lowSurrogate 7 = .ok (.iadd, 1) := dk_96 (dk_at dksJ11_lowSurrogate_0 7 rfl rfl)
theorem dJ11_lowSurrogate_8 : decode cJ11_lowSurrogate 8 = .ok (.i2c, 1) := dk_146 (dk_at dksJ11_lowSurrogate_0 8 rfl rfl)
theorem dJ11_lowSurrogate_9 : decode cJ11_lowSurrogate 9 = .ok (.ireturn, 1) := dk_172 (dk_at dksJ11_lowSurrogate_0 9 rfl rfl)
theorem q158 : (Jvm.Cond.initialized "java/lang/Character") ∈ lw_all := lw_g (lw_at lw_m1 16 rfl) rfl
theorem q636 : (Jvm.Cond.static ({ cls := "java/lang/Character", name := "isValidCodePoint", desc := "(I)Z" } : Jvm.MethodName)) ∈ lw_all := lw_g (lw_at lw_m3 14 rfl) rfl
theorem q637 : (Jvm.Cond.code ({ cls := "java/lang/Character", name := "isValidCodePoint", desc := "(I)Z" } : Jvm.MethodName) prog_41_method_11_code (2 : Nat) (Option.some Jvm.ClassFile.FieldType.boolean)) ∈ lw_all := lw_g (lw_at lw_m3 15 rfl) rfl
theorem q639 : (Jvm.Cond.static ({ cls := "java/lang/Character", name := "highSurrogate", desc := "(I)C" } : Jvm.MethodName)) ∈ lw_all := lw_g (lw_at lw_m3 17 rfl) rfl
theorem q640 : (Jvm.Cond.code ({ cls := "java/lang/Character", name := "highSurrogate", desc := "(I)C" } : Jvm.MethodName) prog_41_method_28_code (1 : Nat) (Option.some Jvm.ClassFile.FieldType.char)) ∈ lw_all := lw_g (lw_at lw_m3 18 rfl) rfl
theorem q641 : (Jvm.Cond.constant "java/lang/Character" (110 : Nat) (55232 : Int32)) ∈ lw_all := lw_g (lw_at lw_m3 19 rfl) rfl
theorem q643 : (Jvm.Cond.static ({ cls := "java/lang/Character", name := "lowSurrogate", desc := "(I)C" } : Jvm.MethodName)) ∈ lw_all := lw_g (lw_at lw_m3 21 rfl) rfl
theorem q644 : (Jvm.Cond.code ({ cls := "java/lang/Character", name := "lowSurrogate", desc := "(I)C" } : Jvm.MethodName) prog_41_method_29_code (1 : Nat) (Option.some Jvm.ClassFile.FieldType.char)) ∈ lw_all := lw_g (lw_at lw_m3 22 rfl) rfl
theorem q645 : (Jvm.Cond.constant "java/lang/Character" (76 : Nat) (56320 : Int32)) ∈ lw_all := lw_g (lw_at lw_m3 23 rfl) rfl

/-! java/lang/RuntimeException -/
set_option maxRecDepth 100000
def RJ12 : String := "java/lang/RuntimeException"
abbrev cJ12_init : ByteArray := prog_45_method_2_code
def yJ12_init : MethodName := ⟨RJ12, "<init>", "(Ljava/lang/String;)V"⟩
def dkwJ12_init_0 : List UInt8 := [42, 43, 183, 0, 7, 177]
abbrev dktJ12_init_0 : List UInt8 := dkwJ12_init_0 ++ []
theorem dksJ12_init_0 : cJ12_init.data.toList.drop 0 = dktJ12_init_0 := by decide +kernel
theorem dJ12_init_0 : decode cJ12_init 0 = .ok (.aload_n 0, 1) := dk_42 (dk_at dksJ12_init_0 0 rfl rfl)
theorem dJ12_init_1 : decode cJ12_init 1 = .ok (.aload_n 1, 1) := dk_43 (dk_at dksJ12_init_0 1 rfl rfl)
theorem dJ12_init_2 : decode cJ12_init 2 = .ok (.invokespecial 7, 3) := dk_183 0 7 (dk_at dksJ12_init_0 2 rfl rfl)
theorem dJ12_init_5 : decode cJ12_init 5 = .ok (.return_, 1) := dk_177 (dk_at dksJ12_init_0 5 rfl rfl)
theorem q192 : (Jvm.Cond.initialized "java/lang/RuntimeException") ∈ lw_all := lw_g (lw_at lw_m1 50 rfl) rfl
theorem q1917 : (Jvm.Cond.instanceMethod ({ cls := "java/lang/RuntimeException", name := "<init>", desc := "(Ljava/lang/String;)V" } : Jvm.MethodName)) ∈ lw_all := lw_g (lw_at lw_m8 95 rfl) rfl
theorem q1918 : (Jvm.Cond.code ({ cls := "java/lang/RuntimeException", name := "<init>", desc := "(Ljava/lang/String;)V" } : Jvm.MethodName) prog_45_method_2_code (2 : Nat) (Option.none : Option Jvm.ClassFile.FieldType)) ∈ lw_all := lw_g (lw_at lw_m8 96 rfl) rfl
theorem q1919 : (Jvm.Cond.methodLink "java/lang/RuntimeException" (7 : Nat) ({ cls := "java/lang/Exception", name := "<init>", desc := "(Ljava/lang/String;)V" } : Jvm.MethodName)) ∈ lw_all := lw_g (lw_at lw_m8 97 rfl) rfl
theorem q1933 : (Jvm.Cond.declares ({ cls := "java/lang/RuntimeException", name := "<init>", desc := "()V" } : Jvm.MethodName)) ∈ lw_tbl := lw_at lw_m8 111 rfl
theorem q1934 : (Jvm.Cond.declares ({ cls := "java/lang/RuntimeException", name := "<init>", desc := "(Ljava/lang/String;)V" } : Jvm.MethodName)) ∈ lw_tbl := lw_at lw_m8 112 rfl

/-! java/lang/ArithmeticException -/
set_option maxRecDepth 100000
def RJ13 : String := "java/lang/ArithmeticException"
def TJ13 : u_T := fun k => match k with
  | 0 => ("java/lang/Throwable", "backtrace", "Ljava/lang/Object;", false)
  | 1 => ("java/lang/Throwable", "detailMessage", "Ljava/lang/String;", false)
  | 2 => ("java/lang/Throwable", "cause", "Ljava/lang/Throwable;", false)
  | 3 => ("java/lang/Throwable", "stackTrace", "[Ljava/lang/StackTraceElement;", false)
  | 4 => ("java/lang/Throwable", "depth", "I", false)
  | _ => ("java/lang/Throwable", "suppressedExceptions", "Ljava/util/List;", false)
def tyJ13 : Nat → FieldType := fun k => match k with
  | 0 => .object "java/lang/Object"
  | 1 => .object "java/lang/String"
  | 2 => .object "java/lang/Throwable"
  | 3 => .array (.object "java/lang/StackTraceElement")
  | 4 => .int
  | _ => .object "java/util/List"
abbrev wsJ130 : List Cond := u_ws RJ13 TJ13 6
theorem nmJ13 : ∀ a, a < 6 → ∀ b, b < 6 → a ≠ b → (TJ13 a).2.1 ≠ (TJ13 b).2.1 := by decide +kernel
theorem tyJ13_ok : ∀ k, k < 6 → parseFieldDescriptor (TJ13 k).2.2.1 = some (tyJ13 k) := by decide +kernel
abbrev cJ13_init : ByteArray := prog_39_method_2_code
def yJ13_init : MethodName := ⟨RJ13, "<init>", "(Ljava/lang/String;)V"⟩
def dkwJ13_init_0 : List UInt8 := [42, 43, 183, 0, 7, 177]
abbrev dktJ13_init_0 : List UInt8 := dkwJ13_init_0 ++ []
theorem dksJ13_init_0 : cJ13_init.data.toList.drop 0 = dktJ13_init_0 := by decide +kernel
theorem dJ13_init_0 : decode cJ13_init 0 = .ok (.aload_n 0, 1) := dk_42 (dk_at dksJ13_init_0 0 rfl rfl)
theorem dJ13_init_1 : decode cJ13_init 1 = .ok (.aload_n 1, 1) := dk_43 (dk_at dksJ13_init_0 1 rfl rfl)
theorem dJ13_init_2 : decode cJ13_init 2 = .ok (.invokespecial 7, 3) := dk_183 0 7 (dk_at dksJ13_init_0 2 rfl rfl)
theorem dJ13_init_5 : decode cJ13_init 5 = .ok (.return_, 1) := dk_177 (dk_at dksJ13_init_0 5 rfl rfl)
theorem q193 : (Jvm.Cond.initialized "java/lang/ArithmeticException") ∈ lw_all := lw_g (lw_at lw_m1 51 rfl) rfl
theorem q272 : (Jvm.Cond.selects "java/lang/ArithmeticException" ({ cls := "java/lang/Throwable", name := "fillInStackTrace", desc := "()Ljava/lang/Throwable;" } : Jvm.MethodName) ({ cls := "java/lang/Throwable", name := "fillInStackTrace", desc := "()Ljava/lang/Throwable;" } : Jvm.MethodName)) ∈ lw_all := lw_g (lw_at lw_m1 130 rfl) rfl
theorem q1913 : (Jvm.Cond.instantiable "java/lang/ArithmeticException" (6 : Nat)) ∈ lw_all := lw_g (lw_at lw_m8 91 rfl) rfl
theorem q1914 : (Jvm.Cond.instanceMethod ({ cls := "java/lang/ArithmeticException", name := "<init>", desc := "(Ljava/lang/String;)V" } : Jvm.MethodName)) ∈ lw_all := lw_g (lw_at lw_m8 92 rfl) rfl
theorem q1915 : (Jvm.Cond.code ({ cls := "java/lang/ArithmeticException", name := "<init>", desc := "(Ljava/lang/String;)V" } : Jvm.MethodName) prog_39_method_2_code (2 : Nat) (Option.none : Option Jvm.ClassFile.FieldType)) ∈ lw_all := lw_g (lw_at lw_m8 93 rfl) rfl
theorem q1916 : (Jvm.Cond.methodLink "java/lang/ArithmeticException" (7 : Nat) ({ cls := "java/lang/RuntimeException", name := "<init>", desc := "(Ljava/lang/String;)V" } : Jvm.MethodName)) ∈ lw_all := lw_g (lw_at lw_m8 94 rfl) rfl
theorem q1925 : (Jvm.Cond.lays "java/lang/ArithmeticException" "java/lang/Throwable" "backtrace" "Ljava/lang/Object;") ∈ lw_all := lw_g (lw_at lw_m8 103 rfl) rfl
theorem q1926 : (Jvm.Cond.lays "java/lang/ArithmeticException" "java/lang/Throwable" "detailMessage" "Ljava/lang/String;") ∈ lw_all := lw_g (lw_at lw_m8 104 rfl) rfl
theorem q1927 : (Jvm.Cond.lays "java/lang/ArithmeticException" "java/lang/Throwable" "cause" "Ljava/lang/Throwable;") ∈ lw_all := lw_g (lw_at lw_m8 105 rfl) rfl
theorem q1928 : (Jvm.Cond.lays "java/lang/ArithmeticException" "java/lang/Throwable" "stackTrace" "[Ljava/lang/StackTraceElement;") ∈ lw_all := lw_g (lw_at lw_m8 106 rfl) rfl
theorem q1929 : (Jvm.Cond.lays "java/lang/ArithmeticException" "java/lang/Throwable" "depth" "I") ∈ lw_all := lw_g (lw_at lw_m8 107 rfl) rfl
theorem q1930 : (Jvm.Cond.lays "java/lang/ArithmeticException" "java/lang/Throwable" "suppressedExceptions" "Ljava/util/List;") ∈ lw_all := lw_g (lw_at lw_m8 108 rfl) rfl
theorem q1931 : (Jvm.Cond.superclass "java/lang/ArithmeticException" "java/lang/RuntimeException") ∈ lw_all := lw_g (lw_at lw_m8 109 rfl) rfl
theorem q1932 : (Jvm.Cond.castable "java/lang/ArithmeticException" "java/lang/ArithmeticException") ∈ lw_tbl := lw_at lw_m8 110 rfl
theorem q1935 : (Jvm.Cond.selects "java/lang/ArithmeticException" ({ cls := "java/lang/Throwable", name := "fillInStackTrace", desc := "(I)Ljava/lang/Throwable;" } : Jvm.MethodName) ({ cls := "java/lang/Throwable", name := "fillInStackTrace", desc := "(I)Ljava/lang/Throwable;" } : Jvm.MethodName)) ∈ lw_all := lw_g (lw_at lw_m8 113 rfl) rfl
theorem in_J13 : ∀ w ∈ wsJ130, w ∈ lw_all := lw_in wsJ130 [1925, 1926, 1927, 1928, 1929, 1930] (by decide +kernel) (by decide +kernel)

/-! java/lang/Object -/
set_option maxRecDepth 100000
def RJ14 : String := "java/lang/Object"
abbrev cJ14_init : ByteArray := object_method_1_code
def yJ14_init : MethodName := ⟨RJ14, "<init>", "()V"⟩
theorem dJ14_init_0 : decode cJ14_init 0 = .ok (.return_, 1) := by decide +kernel
theorem q262 : (Jvm.Cond.instanceMethod ({ cls := "java/lang/Object", name := "<init>", desc := "()V" } : Jvm.MethodName)) ∈ lw_all := lw_g (lw_at lw_m1 120 rfl) rfl
theorem q263 : (Jvm.Cond.code ({ cls := "java/lang/Object", name := "<init>", desc := "()V" } : Jvm.MethodName) object_method_1_code (1 : Nat) (Option.none : Option Jvm.ClassFile.FieldType)) ∈ lw_all := lw_g (lw_at lw_m1 121 rfl) rfl
theorem q379 : (Jvm.Cond.native ({ cls := "java/lang/Object", name := "clone", desc := "()Ljava/lang/Object;" } : Jvm.MethodName)) ∈ lw_all := lw_g (lw_at lw_m1 237 rfl) rfl
theorem q380 : (Jvm.Cond.instanceMethod ({ cls := "java/lang/Object", name := "clone", desc := "()Ljava/lang/Object;" } : Jvm.MethodName)) ∈ lw_all := lw_g (lw_at lw_m1 238 rfl) rfl
