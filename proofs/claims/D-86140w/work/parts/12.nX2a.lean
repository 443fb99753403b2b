/-! LetterPost$Wrong -/
set_option maxRecDepth 100000
def RX2 : String := "LetterPost$Wrong"
def TX2 : u_T := fun k => match k with
  | 0 => ("java/lang/Throwable", "cause", "Ljava/lang/Throwable;", false)
  | 1 => ("java/lang/Throwable", "stackTrace", "[Ljava/lang/StackTraceElement;", false)
  | 2 => ("java/lang/Throwable", "suppressedExceptions", "Ljava/util/List;", false)
  | 3 => ("java/lang/Throwable", "detailMessage", "Ljava/lang/String;", false)
  | 4 => ("java/lang/Throwable", "backtrace", "Ljava/lang/Object;", false)
  | 5 => ("java/lang/Throwable", "depth", "I", false)
  | 6 => ("LetterPost$Wrong", "how", "I", true)
  | _ => ("LetterPost$Wrong", "place", "I", true)
def tyX2 : Nat → FieldType := fun k => match k with
  | 0 => .object "java/lang/Throwable"
  | 1 => .array (.object "java/lang/StackTraceElement")
  | 2 => .object "java/util/List"
  | 3 => .object "java/lang/String"
  | 4 => .object "java/lang/Object"
  | 5 => .int
  | 6 => .int
  | _ => .int
abbrev wsX20 : List Cond := u_ws RX2 TX2 8
theorem nmX2 : ∀ a, a < 8 → ∀ b, b < 8 → a ≠ b → (TX2 a).2.1 ≠ (TX2 b).2.1 := by decide +kernel
theorem tyX2_ok : ∀ k, k < 8 → parseFieldDescriptor (TX2 k).2.2.1 = some (tyX2 k) := by decide +kernel
abbrev cX2_init : ByteArray := prog_35_method_1_code
def yX2_init : MethodName := ⟨RX2, "<init>", "(II)V"⟩
def dkwX2_init_0 : List UInt8 := [42, 1, 1, 3, 3, 183, 0, 1, 42, 27, 181, 0, 7, 42, 28, 181, 0, 13, 177]
abbrev dktX2_init_0 : List UInt8 := dkwX2_init_0 ++ []
theorem dksX2_init_0 : cX2_init.data.toList.drop 0 = dktX2_init_0 := by decide +kernel
theorem dX2_init_0 : decode cX2_init 0 = .ok (.aload_n 0, 1) := dk_42 (dk_at dksX2_init_0 0 rfl rfl)
theorem dX2_init_1 : decode cX2_init 1 = .ok (.aconst_null, 1) := dk_1 (dk_at dksX2_init_0 1 rfl rfl)
theorem dX2_init_2 : decode cX2_init 2 = .ok (.aconst_null, 1) := dk_1 (dk_at dksX2_init_0 2 rfl rfl)
theorem dX2_init_3 : decode cX2_init 3 = .ok (.iconst 0, 1) := dk_3 (dk_at dksX2_init_0 3 rfl rfl)
theorem dX2_init_4 : decode cX2_init 4 = .ok (.iconst 0, 1) := dk_3 (dk_at dksX2_init_0 4 rfl rfl)
theorem dX2_init_5 : decode cX2_init 5 = .ok (.invokespecial 1, 3) := dk_183 0 1 (dk_at dksX2_init_0 5 rfl rfl)
theorem dX2_init_8 : decode cX2_init 8 = .ok (.aload_n 0, 1) := dk_42 (dk_at dksX2_init_0 8 rfl rfl)
theorem dX2_init_9 : decode cX2_init 9 = .ok (.iload_n 1, 1) := dk_27 (dk_at dksX2_init_0 9 rfl rfl)
theorem dX2_init_10 : decode cX2_init 10 = .ok (.putfield 7, 3) := dk_181 0 7 (dk_at dksX2_init_0 10 rfl rfl)
theorem dX2_init_13 : decode cX2_init 13 = .ok (.aload_n 0, 1) := dk_42 (dk_at dksX2_init_0 13 rfl rfl)
theorem dX2_init_14 : decode cX2_init 14 = .ok (.iload_n 2, 1) := dk_28 (dk_at dksX2_init_0 14 rfl rfl)
theorem dX2_init_15 : decode cX2_init 15 = .ok (.putfield 13, 3) := dk_181 0 13 (dk_at dksX2_init_0 15 rfl rfl)
theorem dX2_init_18 : decode cX2_init 18 = .ok (.return_, 1) := dk_177 (dk_at dksX2_init_0 18 rfl rfl)
theorem q147 : (Jvm.Cond.initialized "LetterPost$Wrong") ∈ lw_all := lw_g (lw_at lw_m1 5 rfl) rfl
theorem q239 : (Jvm.Cond.instantiable "LetterPost$Wrong" (8 : Nat)) ∈ lw_all := lw_g (lw_at lw_m1 97 rfl) rfl
theorem q240 : (Jvm.Cond.castable "LetterPost$Wrong" "LetterPost$Wrong") ∈ lw_tbl := lw_at lw_m1 98 rfl
theorem q245 : (Jvm.Cond.selects "LetterPost$Wrong" ({ cls := "java/lang/Throwable", name := "fillInStackTrace", desc := "(I)Ljava/lang/Throwable;" } : Jvm.MethodName) ({ cls := "java/lang/Throwable", name := "fillInStackTrace", desc := "(I)Ljava/lang/Throwable;" } : Jvm.MethodName)) ∈ lw_all := lw_g (lw_at lw_m1 103 rfl) rfl
theorem q246 : (Jvm.Cond.selects "LetterPost$Wrong" ({ cls := "java/lang/Throwable", name := "fillInStackTrace", desc := "()Ljava/lang/Throwable;" } : Jvm.MethodName) ({ cls := "java/lang/Throwable", name := "fillInStackTrace", desc := "()Ljava/lang/Throwable;" } : Jvm.MethodName)) ∈ lw_all := lw_g (lw_at lw_m1 104 rfl) rfl
theorem q247 : (Jvm.Cond.lays "LetterPost$Wrong" "java/lang/Throwable" "cause" "Ljava/lang/Throwable;") ∈ lw_all := lw_g (lw_at lw_m1 105 rfl) rfl
theorem q249 : (Jvm.Cond.lays "LetterPost$Wrong" "java/lang/Throwable" "stackTrace" "[Ljava/lang/StackTraceElement;") ∈ lw_all := lw_g (lw_at lw_m1 107 rfl) rfl
theorem q251 : (Jvm.Cond.lays "LetterPost$Wrong" "java/lang/Throwable" "suppressedExceptions" "Ljava/util/List;") ∈ lw_all := lw_g (lw_at lw_m1 109 rfl) rfl
theorem q253 : (Jvm.Cond.lays "LetterPost$Wrong" "java/lang/Throwable" "detailMessage" "Ljava/lang/String;") ∈ lw_all := lw_g (lw_at lw_m1 111 rfl) rfl
theorem q255 : (Jvm.Cond.lays "LetterPost$Wrong" "java/lang/Throwable" "backtrace" "Ljava/lang/Object;") ∈ lw_all := lw_g (lw_at lw_m1 113 rfl) rfl
theorem q280 : (Jvm.Cond.instanceMethod ({ cls := "LetterPost$Wrong", name := "<init>", desc := "(II)V" } : Jvm.MethodName)) ∈ lw_all := lw_g (lw_at lw_m1 138 rfl) rfl
theorem q281 : (Jvm.Cond.code ({ cls := "LetterPost$Wrong", name := "<init>", desc := "(II)V" } : Jvm.MethodName) prog_35_method_1_code (3 : Nat) (Option.none : Option Jvm.ClassFile.FieldType)) ∈ lw_all := lw_g (lw_at lw_m1 139 rfl) rfl
theorem q282 : (Jvm.Cond.methodLink "LetterPost$Wrong" (1 : Nat) ({ cls := "java/lang/Exception", name := "<init>", desc := "(Ljava/lang/String;Ljava/lang/Throwable;ZZ)V" } : Jvm.MethodName)) ∈ lw_all := lw_g (lw_at lw_m1 140 rfl) rfl
theorem q288 : (Jvm.Cond.fieldLink "LetterPost$Wrong" (7 : Nat) "LetterPost$Wrong" "how" "I") ∈ lw_all := lw_g (lw_at lw_m1 146 rfl) rfl
theorem q290 : (Jvm.Cond.fieldLink "LetterPost$Wrong" (13 : Nat) "LetterPost$Wrong" "place" "I") ∈ lw_all := lw_g (lw_at lw_m1 148 rfl) rfl
theorem q297 : (Jvm.Cond.laysFinal "LetterPost$Wrong" "LetterPost$Wrong" "how" "I") ∈ lw_all := lw_g (lw_at lw_m1 155 rfl) rfl
theorem q298 : (Jvm.Cond.soleField "LetterPost$Wrong" "how") ∈ lw_all := lw_g (lw_at lw_m1 156 rfl) rfl
theorem q299 : (Jvm.Cond.laysFinal "LetterPost$Wrong" "LetterPost$Wrong" "place" "I") ∈ lw_all := lw_g (lw_at lw_m1 157 rfl) rfl
theorem q300 : (Jvm.Cond.soleField "LetterPost$Wrong" "place") ∈ lw_all := lw_g (lw_at lw_m1 158 rfl) rfl
theorem q305 : (Jvm.Cond.lays "LetterPost$Wrong" "java/lang/Throwable" "depth" "I") ∈ lw_all := lw_g (lw_at lw_m1 163 rfl) rfl
theorem q308 : (Jvm.Cond.superclass "LetterPost$Wrong" "java/lang/Exception") ∈ lw_all := lw_g (lw_at lw_m1 166 rfl) rfl
theorem in_X2 : ∀ w ∈ wsX20, w ∈ lw_all := lw_in wsX20 [247, 249, 251, 253, 255, 305, 297, 299] (by decide +kernel) (by decide +kernel)

/-! LetterPost$Kind -/
set_option maxRecDepth 100000
def RX3 : String := "LetterPost$Kind"
def TX3 : u_T := fun k => match k with
  | 0 => ("LetterPost$Kind", "number", "I", true)
  | 1 => ("LetterPost$Kind", "name", "J", true)
  | 2 => ("LetterPost$Kind", "under", "LLetterPost$Kind;", true)
  | 3 => ("LetterPost$Kind", "isSealed", "Z", false)
  | 4 => ("LetterPost$Kind", "sorts", "[I", true)
  | _ => ("LetterPost$Kind", "many", "I", false)
def tyX3 : Nat → FieldType := fun k => match k with
  | 0 => .int
  | 1 => .long
  | 2 => .object "LetterPost$Kind"
  | 3 => .boolean
  | 4 => .array .int
  | _ => .int
abbrev wsX30 : List Cond := u_ws RX3 TX3 6
theorem nmX3 : ∀ a, a < 6 → ∀ b, b < 6 → a ≠ b → (TX3 a).2.1 ≠ (TX3 b).2.1 := by decide +kernel
theorem tyX3_ok : ∀ k, k < 6 → parseFieldDescriptor (TX3 k).2.2.1 = some (tyX3 k) := by decide +kernel
abbrev cX3_init : ByteArray := prog_8_method_1_code
def yX3_init : MethodName := ⟨RX3, "<init>", "(IJLLetterPost$Kind;)V"⟩
def dkwX3_init_1 : List UInt8 := [181, 0, 23, 177]
abbrev dktX3_init_1 : List UInt8 := dkwX3_init_1 ++ []
def dkwX3_init_0 : List UInt8 := [42, 183, 0, 3, 42, 7, 188, 10, 181, 0, 9, 42, 27, 181, 0, 15, 42, 32, 181, 0, 19, 42, 25, 4]
abbrev dktX3_init_0 : List UInt8 := dkwX3_init_0 ++ dktX3_init_1
theorem dksX3_init_0 : cX3_init.data.toList.drop 0 = dktX3_init_0 := by decide +kernel
theorem dksX3_init_1 : cX3_init.data.toList.drop 24 = dktX3_init_1 := dk_seg dksX3_init_0 24 rfl rfl
theorem dX3_init_0 : decode cX3_init 0 = .ok (.aload_n 0, 1) := dk_42 (dk_at dksX3_init_0 0 rfl rfl)
theorem dX3_init_1 : decode cX3_init 1 = .ok (.invokespecial 3, 3) := dk_183 0 3 (dk_at dksX3_init_0 1 rfl rfl)
theorem dX3_init_4 : decode cX3_init 4 = .ok (.aload_n 0, 1) := dk_42 (dk_at dksX3_init_0 4 rfl rfl)
theorem dX3_init_5 : decode cX3_init 5 = .ok (.iconst 4, 1) := dk_7 (dk_at dksX3_init_0 5 rfl rfl)
theorem dX3_init_6 : decode cX3_init 6 = .ok (.newarray .int, 2) := dk_188_10 (dk_at dksX3_init_0 6 rfl rfl)
theorem dX3_init_8 : decode cX3_init 8 = .ok (.putfield 9, 3) := dk_181 0 9 (dk_at dksX3_init_0 8 rfl rfl)
theorem dX3_init_11 : decode cX3_init 11 = .ok (.aload_n 0, 1) := dk_42 (dk_at dksX3_init_0 11 rfl rfl)
theorem dX3_init_12 : decode cX3_init 12 = .ok (.iload_n 1, 1) := dk_27 (dk_at dksX3_init_0 12 rfl rfl)
theorem dX3_init_13 : decode cX3_init 13 = .ok (.putfield 15, 3) := dk_181 0 15 (dk_at dksX3_init_0 13 rfl rfl)
theorem dX3_init_16 : decode cX3_init 16 = .ok (.aload_n 0, 1) := dk_42 (dk_at dksX3_init_0 16 rfl rfl)
theorem dX3_init_17 : decode cX3_init 17 = .ok (.lload_n 2, 1) := dk_32 (dk_at dksX3_init_0 17 rfl rfl)
theorem dX3_init_18 : decode cX3_init 18 = .ok (.putfield 19, 3) := dk_181 0 19 (dk_at dksX3_init_0 18 rfl rfl)
theorem dX3_init_21 : decode cX3_init 21 = .ok (.aload_n 0, 1) := dk_42 (dk_at dksX3_init_0 21 rfl rfl)
theorem dX3_init_22 : decode cX3_init 22 = .ok (.aload 4, 2) := dk_25 4 (dk_at dksX3_init_0 22 rfl rfl)
theorem dX3_init_24 : decode cX3_init 24 = .ok (.putfield 23, 3) := dk_181 0 23 (dk_at dksX3_init_1 0 rfl rfl)
theorem dX3_init_27 : decode cX3_init 27 = .ok (.return_, 1) := dk_177 (dk_at dksX3_init_1 3 rfl rfl)
abbrev cX3_is : ByteArray := prog_8_method_2_code
def yX3_is : MethodName := ⟨RX3, "is", "(LLetterPost$Kind;)Z"⟩
def dkwX3_is_1 : List UInt8 := [167, 0, 4, 3, 172]
abbrev dktX3_is_1 : List UInt8 := dkwX3_is_1 ++ []
def dkwX3_is_0 : List UInt8 := [42, 77, 44, 198, 0, 16, 44, 43, 165, 0, 11, 44, 180, 0, 23, 77, 167, 255, 242, 44, 198, 0, 7, 4]
abbrev dktX3_is_0 : List UInt8 := dkwX3_is_0 ++ dktX3_is_1
theorem dksX3_is_0 : cX3_is.data.toList.drop 0 = dktX3_is_0 := by decide +kernel
theorem dksX3_is_1 : cX3_is.data.toList.drop 24 = dktX3_is_1 := dk_seg dksX3_is_0 24 rfl rfl
theorem dX3_is_0 : decode cX3_is 0 = .ok (.aload_n 0, 1) := dk_42 (dk_at dksX3_is_0 0 rfl rfl)
theorem dX3_is_1 : decode cX3_is 1 = .ok (.astore_n 2, 1) := dk_77 (dk_at dksX3_is_0 1 rfl rfl)
theorem dX3_is_2 : decode cX3_is 2 = .ok (.aload_n 2, 1) := dk_44 (dk_at dksX3_is_0 2 rfl rfl)
theorem dX3_is_3 : decode cX3_is 3 = .ok (.ifnull 16, 3) := dk_198 0 16 (dk_at dksX3_is_0 3 rfl rfl)
theorem dX3_is_6 : decode cX3_is 6 = .ok (.aload_n 2, 1) := dk_44 (dk_at dksX3_is_0 6 rfl rfl)
theorem dX3_is_7 : decode cX3_is 7 = .ok (.aload_n 1, 1) := dk_43 (dk_at dksX3_is_0 7 rfl rfl)
theorem dX3_is_8 : decode cX3_is 8 = .ok (.if_acmp .eq 11, 3) := dk_165 0 11 (dk_at dksX3_is_0 8 rfl rfl)
theorem dX3_is_11 : decode cX3_is 11 = .ok (.aload_n 2, 1) := dk_44 (dk_at dksX3_is_0 11 rfl rfl)
theorem dX3_is_12 : decode cX3_is 12 = .ok (.getfield 23, 3) := dk_180 0 23 (dk_at dksX3_is_0 12 rfl rfl)
theorem dX3_is_15 : decode cX3_is 15 = .ok (.astore_n 2, 1) := dk_77 (dk_at dksX3_is_0 15 rfl rfl)
theorem dX3_is_16 : decode cX3_is 16 = .ok (.goto (-14), 3) := dk_167 255 242 (dk_at dksX3_is_0 16 rfl rfl)
theorem dX3_is_19 : decode cX3_is 19 = .ok (.aload_n 2, 1) := dk_44 (dk_at dksX3_is_0 19 rfl rfl)
theorem dX3_is_20 : decode cX3_is 20 = .ok (.ifnull 7, 3) := dk_198 0 7 (dk_at dksX3_is_0 20 rfl rfl)
theorem dX3_is_23 : decode cX3_is 23 = .ok (.iconst 1, 1) := dk_4 (dk_at dksX3_is_0 23 rfl rfl)
theorem dX3_is_24 : decode cX3_is 24 = .ok (.goto 4, 3) := dk_167 0 4 (dk_at dksX3_is_1 0 rfl rfl)
theorem dX3_is_27 : decode cX3_is 27 = .ok (.iconst 0, 1) := dk_3 (dk_at dksX3_is_1 3 rfl rfl)
theorem dX3_is_28 : decode cX3_is 28 = .ok (.ireturn, 1) := dk_172 (dk_at dksX3_is_1 4 rfl rfl)
theorem q159 : (Jvm.Cond.initialized "LetterPost$Kind") ∈ lw_all := lw_g (lw_at lw_m1 17 rfl) rfl
theorem q677 : (Jvm.Cond.instantiable "LetterPost$Kind" (6 : Nat)) ∈ lw_all := lw_g (lw_at lw_m3 55 rfl) rfl
theorem q679 : (Jvm.Cond.instanceMethod ({ cls := "LetterPost$Kind", name := "<init>", desc := "(IJLLetterPost$Kind;)V" } : Jvm.MethodName)) ∈ lw_all := lw_g (lw_at lw_m3 57 rfl) rfl
theorem q680 : (Jvm.Cond.code ({ cls := "LetterPost$Kind", name := "<init>", desc := "(IJLLetterPost$Kind;)V" } : Jvm.MethodName) prog_8_method_1_code (5 : Nat) (Option.none : Option Jvm.ClassFile.FieldType)) ∈ lw_all := lw_g (lw_at lw_m3 58 rfl) rfl
theorem q681 : (Jvm.Cond.methodLink "LetterPost$Kind" (3 : Nat) ({ cls := "java/lang/Object", name := "<init>", desc := "()V" } : Jvm.MethodName)) ∈ lw_all := lw_g (lw_at lw_m3 59 rfl) rfl
theorem q682 : (Jvm.Cond.fieldLink "LetterPost$Kind" (15 : Nat) "LetterPost$Kind" "number" "I") ∈ lw_all := lw_g (lw_at lw_m3 60 rfl) rfl
theorem q685 : (Jvm.Cond.fieldLink "LetterPost$Kind" (19 : Nat) "LetterPost$Kind" "name" "J") ∈ lw_all := lw_g (lw_at lw_m3 63 rfl) rfl
theorem q687 : (Jvm.Cond.fieldLink "LetterPost$Kind" (23 : Nat) "LetterPost$Kind" "under" "LLetterPost$Kind;") ∈ lw_all := lw_g (lw_at lw_m3 65 rfl) rfl
theorem q691 : (Jvm.Cond.fieldLink "LetterPost$Kind" (9 : Nat) "LetterPost$Kind" "sorts" "[I") ∈ lw_all := lw_g (lw_at lw_m3 69 rfl) rfl
theorem q695 : (Jvm.Cond.laysFinal "LetterPost$Kind" "LetterPost$Kind" "number" "I") ∈ lw_all := lw_g (lw_at lw_m3 73 rfl) rfl
theorem q696 : (Jvm.Cond.soleField "LetterPost$Kind" "number") ∈ lw_all := lw_g (lw_at lw_m3 74 rfl) rfl
theorem q697 : (Jvm.Cond.laysFinal "LetterPost$Kind" "LetterPost$Kind" "name" "J") ∈ lw_all := lw_g (lw_at lw_m3 75 rfl) rfl
theorem q698 : (Jvm.Cond.soleField "LetterPost$Kind" "name") ∈ lw_all := lw_g (lw_at lw_m3 76 rfl) rfl
theorem q699 : (Jvm.Cond.laysFinal "LetterPost$Kind" "LetterPost$Kind" "under" "LLetterPost$Kind;") ∈ lw_all := lw_g (lw_at lw_m3 77 rfl) rfl
theorem q700 : (Jvm.Cond.soleField "LetterPost$Kind" "under") ∈ lw_all := lw_g (lw_at lw_m3 78 rfl) rfl
theorem q701 : (Jvm.Cond.lays "LetterPost$Kind" "LetterPost$Kind" "isSealed" "Z") ∈ lw_all := lw_g (lw_at lw_m3 79 rfl) rfl
theorem q702 : (Jvm.Cond.soleField "LetterPost$Kind" "isSealed") ∈ lw_all := lw_g (lw_at lw_m3 80 rfl) rfl
theorem q703 : (Jvm.Cond.laysFinal "LetterPost$Kind" "LetterPost$Kind" "sorts" "[I") ∈ lw_all := lw_g (lw_at lw_m3 81 rfl) rfl
theorem q704 : (Jvm.Cond.soleField "LetterPost$Kind" "sorts") ∈ lw_all := lw_g (lw_at lw_m3 82 rfl) rfl
theorem q705 : (Jvm.Cond.lays "LetterPost$Kind" "LetterPost$Kind" "many" "I") ∈ lw_all := lw_g (lw_at lw_m3 83 rfl) rfl
theorem q706 : (Jvm.Cond.soleField "LetterPost$Kind" "many") ∈ lw_all := lw_g (lw_at lw_m3 84 rfl) rfl
theorem q707 : (Jvm.Cond.superclass "LetterPost$Kind" "java/lang/Object") ∈ lw_all := lw_g (lw_at lw_m3 85 rfl) rfl
theorem q928 : (Jvm.Cond.instanceMethod ({ cls := "LetterPost$Kind", name := "is", desc := "(LLetterPost$Kind;)Z" } : Jvm.MethodName)) ∈ lw_all := lw_g (lw_at lw_m4 66 rfl) rfl
theorem q929 : (Jvm.Cond.selects "LetterPost$Kind" ({ cls := "LetterPost$Kind", name := "is", desc := "(LLetterPost$Kind;)Z" } : Jvm.MethodName) ({ cls := "LetterPost$Kind", name := "is", desc := "(LLetterPost$Kind;)Z" } : Jvm.MethodName)) ∈ lw_all := lw_g (lw_at lw_m4 67 rfl) rfl
theorem q930 : (Jvm.Cond.code ({ cls := "LetterPost$Kind", name := "is", desc := "(LLetterPost$Kind;)Z" } : Jvm.MethodName) prog_8_method_2_code (3 : Nat) (Option.some Jvm.ClassFile.FieldType.boolean)) ∈ lw_all := lw_g (lw_at lw_m4 68 rfl) rfl
theorem in_X3 : ∀ w ∈ wsX30, w ∈ lw_all := lw_in wsX30 [695, 697, 699, 701, 703, 705] (by decide +kernel) (by decide +kernel)

/-! LetterPost$Function -/
set_option maxRecDepth 100000
def RX4 : String := "LetterPost$Function"
def TX4 : u_T := fun k => match k with
  | 0 => ("LetterPost$Function", "number", "I", true)
  | 1 => ("LetterPost$Function", "name", "J", true)
  | 2 => ("LetterPost$Function", "sorts", "[I", true)
  | 3 => ("LetterPost$Function", "columns", "I", false)
  | 4 => ("LetterPost$Function", "rules", "[LLetterPost$Rule;", true)
  | 5 => ("LetterPost$Function", "ruleMany", "I", false)
  | 6 => ("LetterPost$Function", "rows", "[LLetterPost$Row;", false)
  | 7 => ("LetterPost$Function", "places", "[LLetterPost$Place;", true)
  | 8 => ("LetterPost$Function", "placeMany", "I", false)
  | 9 => ("LetterPost$Function", "tree", "LLetterPost$Node;", false)
  | 10 => ("LetterPost$Function", "way", "I", false)
  | 11 => ("LetterPost$Function", "known", "I", false)
  | _ => ("LetterPost$Function", "this$0", "LLetterPost;", true)
def tyX4 : Nat → FieldType := fun k => match k with
  | 0 => .int
  | 1 => .long
  | 2 => .array .int
  | 3 => .int
  | 4 => .array (.object "LetterPost$Rule")
  | 5 => .int
  | 6 => .array (.object "LetterPost$Row")
  | 7 => .array (.object "LetterPost$Place")
  | 8 => .int
  | 9 => .object "LetterPost$Node"
  | 10 => .int
  | 11 => .int
  | _ => .object "LetterPost"
abbrev wsX40 : List Cond := u_ws RX4 TX4 13
set_option maxRecDepth 100000 in
theorem nmX4 : ∀ a, a < 13 → ∀ b, b < 13 → a ≠ b → (TX4 a).2.1 ≠ (TX4 b).2.1 := by decide +kernel
set_option maxRecDepth 100000 in
theorem tyX4_ok : ∀ k, k < 13 → parseFieldDescriptor (TX4 k).2.2.1 = some (tyX4 k) := by decide +kernel
abbrev cX4_init : ByteArray := prog_5_method_1_code
def yX4_init : MethodName := ⟨RX4, "<init>", "(LLetterPost;IJ)V"⟩
def dkwX4_init_1 : List UInt8 := [181, 0, 21, 42, 17, 3, 132, 189, 0, 25, 181, 0, 27, 42, 28, 181, 0, 31, 42, 33, 181, 0, 35, 177]
abbrev dktX4_init_1 : List UInt8 := dkwX4_init_1 ++ []
def dkwX4_init_0 : List UInt8 := [42, 43, 181, 0, 3, 42, 183, 0, 9, 42, 6, 188, 10, 181, 0, 15, 42, 16, 16, 189, 0, 19]
abbrev dktX4_init_0 : List UInt8 := dkwX4_init_0 ++ dktX4_init_1
theorem dksX4_init_0 : cX4_init.data.toList.drop 0 = dktX4_init_0 := by decide +kernel
theorem dksX4_init_1 : cX4_init.data.toList.drop 22 = dktX4_init_1 := dk_seg dksX4_init_0 22 rfl rfl
theorem dX4_init_0 : decode cX4_init 0 = .ok (.aload_n 0, 1) := dk_42 (dk_at dksX4_init_0 0 rfl rfl)
theorem dX4_init_1 : decode cX4_init 1 = .ok (.aload_n 1, 1) := dk_43 (dk_at dksX4_init_0 1 rfl rfl)
theorem dX4_init_2 : decode cX4_init 2 = .ok (.putfield 3, 3) := dk_181 0 3 (dk_at dksX4_init_0 2 rfl rfl)
theorem dX4_init_5 : decode cX4_init 5 = .ok (.aload_n 0, 1) := dk_42 (dk_at dksX4_init_0 5 rfl rfl)
theorem dX4_init_6 : decode cX4_init 6 = .ok (.invokespecial 9, 3) := dk_183 0 9 (dk_at dksX4_init_0 6 rfl rfl)
theorem dX4_init_9 : decode cX4_init 9 = .ok (.aload_n 0, 1) := dk_42 (dk_at dksX4_init_0 9 rfl rfl)
theorem dX4_init_10 : decode cX4_init 10 = .ok (.iconst 3, 1) := dk_6 (dk_at dksX4_init_0 10 rfl rfl)
theorem dX4_init_11 : decode cX4_init 11 = .ok (.newarray .int, 2) := dk_188_10 (dk_at dksX4_init_0 11 rfl rfl)
theorem dX4_init_13 : decode cX4_init 13 = .ok (.putfield 15, 3) := dk_181 0 15 (dk_at dksX4_init_0 13 rfl rfl)
theorem dX4_init_16 : decode cX4_init 16 = .ok (.aload_n 0, 1) := dk_42 (dk_at dksX4_init_0 16 rfl rfl)
theorem dX4_init_17 : decode cX4_init 17 = .ok (.bipush 16, 2) := dk_16 16 (dk_at dksX4_init_0 17 rfl rfl)
theorem dX4_init_19 : decode cX4_init 19 = .ok (.anewarray 19, 3) := dk_189 0 19 (dk_at dksX4_init_0 19 rfl rfl)
theorem dX4_init_22 : decode cX4_init 22 = .ok (.putfield 21, 3) := dk_181 0 21 (dk_at dksX4_init_1 0 rfl rfl)
theorem dX4_init_25 : decode cX4_init 25 = .ok (.aload_n 0, 1) := dk_42 (dk_at dksX4_init_1 3 rfl rfl)
theorem dX4_init_26 : decode cX4_init 26 = .ok (.sipush 900, 3) := dk_17 3 132 (dk_at dksX4_init_1 4 rfl rfl)
theorem dX4_init_29 : decode cX4_init 29 = .ok (.anewarray 25, 3) := dk_189 0 25 (dk_at dksX4_init_1 7 rfl rfl)
theorem dX4_init_32 : decode cX4_init 32 = .ok (.putfield 27, 3) := dk_181 0 27 (dk_at dksX4_init_1 10 rfl rfl)
theorem dX4_init_35 : decode cX4_init 35 = .ok (.aload_n 0, 1) := dk_42 (dk_at dksX4_init_1 13 rfl rfl)
theorem dX4_init_36 : decode cX4_init 36 = .ok (.iload_n 2, 1) := dk_28 (dk_at dksX4_init_1 14 rfl rfl)
theorem dX4_init_37 : decode cX4_init 37 = .ok (.putfield 31, 3) := dk_181 0 31 (dk_at dksX4_init_1 15 rfl rfl)
theorem dX4_init_40 : decode cX4_init 40 = .ok (.aload_n 0, 1) := dk_42 (dk_at dksX4_init_1 18 rfl rfl)
theorem dX4_init_41 : decode cX4_init 41 = .ok (.lload_n 3, 1) := dk_33 (dk_at dksX4_init_1 19 rfl rfl)
theorem dX4_init_42 : decode cX4_init 42 = .ok (.putfield 35, 3) := dk_181 0 35 (dk_at dksX4_init_1 20 rfl rfl)
theorem dX4_init_45 : decode cX4_init 45 = .ok (.return_, 1) := dk_177 (dk_at dksX4_init_1 23 rfl rfl)
abbrev cX4_count : ByteArray := prog_5_method_3_code
def yX4_count : MethodName := ⟨RX4, "count", "(I)I"⟩
def dkwX4_count_1 : List UInt8 := [132, 3, 1, 167, 255, 233, 28, 172]
abbrev dktX4_count_1 : List UInt8 := dkwX4_count_1 ++ []
def dkwX4_count_0 : List UInt8 := [3, 61, 3, 62, 29, 27, 162, 0, 24, 28, 42, 180, 0, 21, 29, 50, 180, 0, 56, 184, 0, 60, 96, 61]
abbrev dktX4_count_0 : List UInt8 := dkwX4_count_0 ++ dktX4_count_1
theorem dksX4_count_0 : cX4_count.data.toList.drop 0 = dktX4_count_0 := by decide +kernel
theorem dksX4_count_1 : cX4_count.data.toList.drop 24 = dktX4_count_1 := dk_seg dksX4_count_0 24 rfl rfl
theorem dX4_count_0 : decode cX4_count 0 = .ok (.iconst 0, 1) := dk_3 (dk_at dksX4_count_0 0 rfl rfl)
theorem dX4_count_1 : decode cX4_count 1 = .ok (.istore_n 2, 1) := dk_61 (dk_at dksX4_count_0 1 rfl rfl)
theorem dX4_count_2 : decode cX4_count 2 = .ok (.iconst 0, 1) := dk_3 (dk_at dksX4_count_0 2 rfl rfl)
theorem dX4_count_3 : decode cX4_count 3 = .ok (.istore_n 3, 1) := dk_62 (dk_at dksX4_count_0 3 rfl rfl)
theorem dX4_count_4 : decode cX4_count 4 = .ok (.iload_n 3, 1) := dk_29 (dk_at dksX4_count_0 4 rfl rfl)
theorem dX4_count_5 : decode cX4_count 5 = .ok (.iload_n 1, 1) := dk_27 (dk_at dksX4_count_0 5 rfl rfl)
theorem dX4_count_6 : decode cX4_count 6 = .ok (.if_icmp .ge 24, 3) := dk_162 0 24 (dk_at dksX4_count_0 6 rfl rfl)
theorem dX4_count_9 : decode cX4_count 9 = .ok (.iload_n 2, 1) := dk_28 (dk_at dksX4_count_0 9 rfl rfl)
theorem dX4_count_10 : decode cX4_count 10 = .ok (.aload_n 0, 1) := dk_42 (dk_at dksX4_count_0 10 rfl rfl)
theorem dX4_count_11 : decode cX4_count 11 = .ok (.getfield 21, 3) := dk_180 0 21 (dk_at dksX4_count_0 11 rfl rfl)
theorem dX4_count_14 : decode cX4_count 14 = .ok (.iload_n 3, 1) := dk_29 (dk_at dksX4_count_0 14 rfl rfl)
theorem dX4_count_15 : decode cX4_count 15 = .ok (.aaload, 1) := dk_50 (dk_at dksX4_count_0 15 rfl rfl)
theorem dX4_count_16 : decode cX4_count 16 = .ok (.getfield 56, 3) := dk_180 0 56 (dk_at dksX4_count_0 16 rfl rfl)
theorem dX4_count_19 : decode cX4_count 19 = .ok (.invokestatic 60, 3) := dk_184 0 60 (dk_at dksX4_count_0 19 rfl rfl)
theorem dX4_count_22 : decode cX4_count 22 = .ok (.iadd, 1) := dk_96 (dk_at dksX4_count_0 22 rfl rfl)
theorem dX4_count_23 : decode cX4_count 23 = .ok (.istore_n 2, 1) := dk_61 (dk_at dksX4_count_0 23 rfl rfl)
theorem dX4_count_24 : decode cX4_count 24 = .ok (.iinc 3 1, 3) := dk_132 3 1 (dk_at dksX4_count_1 0 rfl rfl)
theorem dX4_count_27 : decode cX4_count 27 = .ok (.goto (-23), 3) := dk_167 255 233 (dk_at dksX4_count_1 3 rfl rfl)
theorem dX4_count_30 : decode cX4_count 30 = .ok (.iload_n 2, 1) := dk_28 (dk_at dksX4_count_1 6 rfl rfl)
theorem dX4_count_31 : decode cX4_count 31 = .ok (.ireturn, 1) := dk_172 (dk_at dksX4_count_1 7 rfl rfl)
abbrev cX4_lay : ByteArray := prog_5_method_4_code
def yX4_lay : MethodName := ⟨RX4, "lay", "()V"⟩
def dkwX4_lay_7 : List UInt8 := [167, 255, 112, 177]
abbrev dktX4_lay_7 : List UInt8 := dkwX4_lay_7 ++ []
def dkwX4_lay_6 : List UInt8 := [167, 255, 195, 42, 180, 0, 73, 27, 25, 6, 83, 132, 1, 1, 132, 5, 1, 167, 255, 145, 132, 2, 1]
abbrev dktX4_lay_6 : List UInt8 := dkwX4_lay_6 ++ dktX4_lay_7
def dkwX4_lay_5 : List UInt8 := [21, 9, 46, 182, 0, 89, 42, 25, 6, 182, 0, 93, 21, 8, 21, 7, 112, 54, 8, 132, 9, 1]
abbrev dktX4_lay_5 : List UInt8 := dkwX4_lay_5 ++ dktX4_lay_6
def dkwX4_lay_4 : List UInt8 := [182, 0, 83, 108, 54, 7, 45, 21, 9, 50, 21, 8, 21, 7, 108, 42, 1, 1, 21, 9, 42, 180, 0, 15]
abbrev dktX4_lay_4 : List UInt8 := dkwX4_lay_4 ++ dktX4_lay_5
def dkwX4_lay_3 : List UInt8 := [21, 5, 54, 8, 3, 54, 9, 21, 9, 42, 180, 0, 80, 162, 0, 58, 21, 7, 45, 21, 9, 50]
abbrev dktX4_lay_3 : List UInt8 := dkwX4_lay_3 ++ dktX4_lay_4
def dkwX4_lay_2 : List UInt8 := [21, 4, 162, 0, 110, 187, 0, 71, 89, 42, 180, 0, 21, 28, 50, 183, 0, 77, 58, 6, 21, 4, 54, 7]
abbrev dktX4_lay_2 : List UInt8 := dkwX4_lay_2 ++ dktX4_lay_3
def dkwX4_lay_1 : List UInt8 := [162, 0, 142, 42, 180, 0, 21, 28, 50, 180, 0, 56, 78, 45, 184, 0, 60, 54, 4, 3, 54, 5, 21, 5]
abbrev dktX4_lay_1 : List UInt8 := dkwX4_lay_1 ++ dktX4_lay_2
def dkwX4_lay_0 : List UInt8 := [42, 42, 42, 180, 0, 64, 182, 0, 67, 189, 0, 71, 181, 0, 73, 3, 60, 3, 61, 28, 42, 180, 0, 64]
abbrev dktX4_lay_0 : List UInt8 := dkwX4_lay_0 ++ dktX4_lay_1
theorem dksX4_lay_0 : cX4_lay.data.toList.drop 0 = dktX4_lay_0 := by decide +kernel
theorem dksX4_lay_1 : cX4_lay.data.toList.drop 24 = dktX4_lay_1 := dk_seg dksX4_lay_0 24 rfl rfl
theorem dksX4_lay_2 : cX4_lay.data.toList.drop 48 = dktX4_lay_2 := dk_seg dksX4_lay_1 24 rfl rfl
theorem dksX4_lay_3 : cX4_lay.data.toList.drop 72 = dktX4_lay_3 := dk_seg dksX4_lay_2 24 rfl rfl
theorem dksX4_lay_4 : cX4_lay.data.toList.drop 94 = dktX4_lay_4 := dk_seg dksX4_lay_3 22 rfl rfl
theorem dksX4_lay_5 : cX4_lay.data.toList.drop 118 = dktX4_lay_5 := dk_seg dksX4_lay_4 24 rfl rfl
theorem dksX4_lay_6 : cX4_lay.data.toList.drop 140 = dktX4_lay_6 := dk_seg dksX4_lay_5 22 rfl rfl
theorem dksX4_lay_7 : cX4_lay.data.toList.drop 163 = dktX4_lay_7 := dk_seg dksX4_lay_6 23 rfl rfl
theorem dX4_lay_0 : decode cX4_lay 0 = .ok (.aload_n 0, 1) := dk_42 (dk_at dksX4_lay_0 0 rfl rfl)
theorem dX4_lay_1 : decode cX4_lay 1 = .ok (.aload_n 0, 1) := dk_42 (dk_at dksX4_lay_0 1 rfl rfl)
theorem dX4_lay_2 : decode cX4_lay 2 = .ok (.aload_n 0, 1) := dk_42 (dk_at dksX4_lay_0 2 rfl rfl)
theorem dX4_lay_3 : decode cX4_lay 3 = .ok (.getfield 64, 3) := dk_180 0 64 (dk_at dksX4_lay_0 3 rfl rfl)
theorem dX4_lay_6 : decode cX4_lay 6 = .ok (.invokevirtual 67, 3) := dk_182 0 67 (dk_at dksX4_lay_0 6 rfl rfl)
theorem dX4_lay_9 : decode cX4_lay 9 = .ok (.anewarray 71, 3) := dk_189 0 71 (dk_at dksX4_lay_0 9 rfl rfl)
theorem dX4_lay_12 : decode cX4_lay 12 = .ok (.putfield 73, 3) := dk_181 0 73 (dk_at dksX4_lay_0 12 rfl rfl)
theorem dX4_lay_15 : decode cX4_lay 15 = .ok (.iconst 0, 1) := dk_3 (dk_at dksX4_lay_0 15 rfl rfl)
theorem dX4_lay_16 : decode cX4_lay 16 = .ok (.istore_n 1, 1) := dk_60 (dk_at dksX4_lay_0 16 rfl rfl)
theorem dX4_lay_17 : decode cX4_lay 17 = .ok (.iconst 0, 1) := dk_3 (dk_at dksX4_lay_0 17 rfl rfl)
theorem dX4_lay_18 : decode cX4_lay 18 = .ok (.istore_n 2, 1) := dk_61 (dk_at dksX4_lay_0 18 rfl rfl)
theorem dX4_lay_19 : decode cX4_lay 19 = .ok (.iload_n 2, 1) := dk_28 (dk_at dksX4_lay_0 19 rfl rfl)
theorem dX4_lay_20 : decode cX4_lay 20 = .ok (.aload_n 0, 1) := dk_42 (dk_at dksX4_lay_0 20 rfl rfl)
theorem dX4_lay_21 : decode cX4_lay 21 = .ok (.getfield 64, 3) := dk_180 0 64 (dk_at dksX4_lay_0 21 rfl rfl)
theorem dX4_lay_24 : decode cX4_lay 24 = .ok (.if_icmp .ge 142, 3) := dk_162 0 142 (dk_at dksX4_lay_1 0 rfl rfl)
theorem dX4_lay_27 : decode cX4_lay 27 = .ok (.aload_n 0, 1) := dk_42 (dk_at dksX4_lay_1 3 rfl rfl)
theorem dX4_lay_28 : decode cX4_lay 28 = .ok (.getfield 21, 3) := dk_180 0 21 (dk_at dksX4_lay_1 4 rfl rfl)
theorem dX4_lay_31 : decode cX4_lay 31 = .ok (.iload_n 2, 1) := dk_28 (dk_at dksX4_lay_1 7 rfl rfl)
theorem dX4_lay_32 : decode cX4_lay 32 = .ok (.aaload, 1) := dk_50 (dk_at dksX4_lay_1 8 rfl rfl)
theorem dX4_lay_33 : decode cX4_lay 33 = .ok (.getfield 56, 3) := dk_180 0 56 (dk_at dksX4_lay_1 9 rfl rfl)
theorem dX4_lay_36 : decode cX4_lay 36 = .ok (.astore_n 3, 1) := dk_78 (dk_at dksX4_lay_1 12 rfl rfl)
theorem dX4_lay_37 : decode cX4_lay 37 = .ok (.aload_n 3, 1) := dk_45 (dk_at dksX4_lay_1 13 rfl rfl)
theorem dX4_lay_38 : decode cX4_lay 38 = .ok (.invokestatic 60, 3) := dk_184 0 60 (dk_at dksX4_lay_1 14 rfl rfl)
theorem dX4_lay_41 : decode cX4_lay 41 = .ok (.istore 4, 2) := dk_54 4 (dk_at dksX4_lay_1 17 rfl rfl)
theorem dX4_lay_43 : decode cX4_lay 43 = .ok (.iconst 0, 1) := dk_3 (dk_at dksX4_lay_1 19 rfl rfl)
theorem dX4_lay_44 : decode cX4_lay 44 = .ok (.istore 5, 2) := dk_54 5 (dk_at dksX4_lay_1 20 rfl rfl)
theorem dX4_lay_46 : decode cX4_lay 46 = .ok (.iload 5, 2) := dk_21 5 (dk_at dksX4_lay_1 22 rfl rfl)
theorem dX4_lay_48 : decode cX4_lay 48 = .ok (.iload 4, 2) := dk_21 4 (dk_at dksX4_lay_2 0 rfl rfl)
theorem dX4_lay_50 : decode cX4_lay 50 = .ok (.if_icmp .ge 110, 3) := dk_162 0 110 (dk_at dksX4_lay_2 2 rfl rfl)
theorem dX4_lay_53 : decode cX4_lay 53 = .ok (.new 71, 3) := dk_187 0 71 (dk_at dksX4_lay_2 5 rfl rfl)
theorem dX4_lay_56 : decode cX4_lay 56 = .ok (.dup, 1) := dk_89 (dk_at dksX4_lay_2 8 rfl rfl)
theorem dX4_lay_57 : decode cX4_lay 57 = .ok (.aload_n 0, 1) := dk_42 (dk_at dksX4_lay_2 9 rfl rfl)
theorem dX4_lay_58 : decode cX4_lay 58 = .ok (.getfield 21, 3) := dk_180 0 21 (dk_at dksX4_lay_2 10 rfl rfl)
theorem dX4_lay_61 : decode cX4_lay 61 = .ok (.iload_n 2, 1) := dk_28 (dk_at dksX4_lay_2 13 rfl rfl)
theorem dX4_lay_62 : decode cX4_lay 62 = .ok (.aaload, 1) := dk_50 (dk_at dksX4_lay_2 14 rfl rfl)
theorem dX4_lay_63 : decode cX4_lay 63 = .ok (.invokespecial 77, 3) := dk_183 0 77 (dk_at dksX4_lay_2 15 rfl rfl)
theorem dX4_lay_66 : decode cX4_lay 66 = .ok (.astore 6, 2) := dk_58 6 (dk_at dksX4_lay_2 18 rfl rfl)
theorem dX4_lay_68 : decode cX4_lay 68 = .ok (.iload 4, 2) := dk_21 4 (dk_at dksX4_lay_2 20 rfl rfl)
theorem dX4_lay_70 : decode cX4_lay 70 = .ok (.istore 7, 2) := dk_54 7 (dk_at dksX4_lay_2 22 rfl rfl)
theorem dX4_lay_72 : decode cX4_lay 72 = .ok (.iload 5, 2) := dk_21 5 (dk_at dksX4_lay_3 0 rfl rfl)
theorem dX4_lay_74 : decode cX4_lay 74 = .ok (.istore 8, 2) := dk_54 8 (dk_at dksX4_lay_3 2 rfl rfl)
theorem dX4_lay_76 : decode cX4_lay 76 = .ok (.iconst 0, 1) := dk_3 (dk_at dksX4_lay_3 4 rfl rfl)
theorem dX4_lay_77 : decode cX4_lay 77 = .ok (.istore 9, 2) := dk_54 9 (dk_at dksX4_lay_3 5 rfl rfl)
theorem dX4_lay_79 : decode cX4_lay 79 = .ok (.iload 9, 2) := dk_21 9 (dk_at dksX4_lay_3 7 rfl rfl)
theorem dX4_lay_81 : decode cX4_lay 81 = .ok (.aload_n 0, 1) := dk_42 (dk_at dksX4_lay_3 9 rfl rfl)
theorem dX4_lay_82 : decode cX4_lay 82 = .ok (.getfield 80, 3) := dk_180 0 80 (dk_at dksX4_lay_3 10 rfl rfl)
theorem dX4_lay_85 : decode cX4_lay 85 = .ok (.if_icmp .ge 58, 3) := dk_162 0 58 (dk_at dksX4_lay_3 13 rfl rfl)
theorem dX4_lay_88 : decode cX4_lay 88 = .ok (.iload 7, 2) := dk_21 7 (dk_at dksX4_lay_3 16 rfl rfl)
theorem dX4_lay_90 : decode cX4_lay 90 = .ok (.aload_n 3, 1) := dk_45 (dk_at dksX4_lay_3 18 rfl rfl)
theorem dX4_lay_91 : decode cX4_lay 91 = .ok (.iload 9, 2) := dk_21 9 (dk_at dksX4_lay_3 19 rfl rfl)
theorem dX4_lay_93 : decode cX4_lay 93 = .ok (.aaload, 1) := dk_50 (dk_at dksX4_lay_3 21 rfl rfl)
theorem dX4_lay_94 : decode cX4_lay 94 = .ok (.invokevirtual 83, 3) := dk_182 0 83 (dk_at dksX4_lay_4 0 rfl rfl)
theorem dX4_lay_97 : decode cX4_lay 97 = .ok (.idiv, 1) := dk_108 (dk_at dksX4_lay_4 3 rfl rfl)
theorem dX4_lay_98 : decode cX4_lay 98 = .ok (.istore 7, 2) := dk_54 7 (dk_at dksX4_lay_4 4 rfl rfl)
theorem dX4_lay_100 : decode cX4_lay 100 = .ok (.aload_n 3, 1) := dk_45 (dk_at dksX4_lay_4 6 rfl rfl)
theorem dX4_lay_101 : decode cX4_lay 101 = .ok (.iload 9, 2) := dk_21 9 (dk_at dksX4_lay_4 7 rfl rfl)
theorem dX4_lay_103 : decode cX4_lay 103 = .ok (.aaload, 1) := dk_50 (dk_at dksX4_lay_4 9 rfl rfl)
theorem dX4_lay_104 : decode cX4_lay 104 = .ok (.iload 8, 2) := dk_21 8 (dk_at dksX4_lay_4 10 rfl rfl)
theorem dX4_lay_106 : decode cX4_lay 106 = .ok (.iload 7, 2) := dk_21 7 (dk_at dksX4_lay_4 12 rfl rfl)
theorem dX4_lay_108 : decode cX4_lay 108 = .ok (.idiv, 1) := dk_108 (dk_at dksX4_lay_4 14 rfl rfl)
theorem dX4_lay_109 : decode cX4_lay 109 = .ok (.aload_n 0, 1) := dk_42 (dk_at dksX4_lay_4 15 rfl rfl)
theorem dX4_lay_110 : decode cX4_lay 110 = .ok (.aconst_null, 1) := dk_1 (dk_at dksX4_lay_4 16 rfl rfl)
theorem dX4_lay_111 : decode cX4_lay 111 = .ok (.aconst_null, 1) := dk_1 (dk_at dksX4_lay_4 17 rfl rfl)
theorem dX4_lay_112 : decode cX4_lay 112 = .ok (.iload 9, 2) := dk_21 9 (dk_at dksX4_lay_4 18 rfl rfl)
theorem dX4_lay_114 : decode cX4_lay 114 = .ok (.aload_n 0, 1) := dk_42 (dk_at dksX4_lay_4 20 rfl rfl)
theorem dX4_lay_115 : decode cX4_lay 115 = .ok (.getfield 15, 3) := dk_180 0 15 (dk_at dksX4_lay_4 21 rfl rfl)
theorem dX4_lay_118 : decode cX4_lay 118 = .ok (.iload 9, 2) := dk_21 9 (dk_at dksX4_lay_5 0 rfl rfl)
theorem dX4_lay_120 : decode cX4_lay 120 = .ok (.iaload, 1) := dk_46 (dk_at dksX4_lay_5 2 rfl rfl)
theorem dX4_lay_121 : decode cX4_lay 121 = .ok (.invokevirtual 89, 3) := dk_182 0 89 (dk_at dksX4_lay_5 3 rfl rfl)
theorem dX4_lay_124 : decode cX4_lay 124 = .ok (.aload_n 0, 1) := dk_42 (dk_at dksX4_lay_5 6 rfl rfl)
theorem dX4_lay_125 : decode cX4_lay 125 = .ok (.aload 6, 2) := dk_25 6 (dk_at dksX4_lay_5 7 rfl rfl)
theorem dX4_lay_127 : decode cX4_lay 127 = .ok (.invokevirtual 93, 3) := dk_182 0 93 (dk_at dksX4_lay_5 9 rfl rfl)
theorem dX4_lay_130 : decode cX4_lay 130 = .ok (.iload 8, 2) := dk_21 8 (dk_at dksX4_lay_5 12 rfl rfl)
theorem dX4_lay_132 : decode cX4_lay 132 = .ok (.iload 7, 2) := dk_21 7 (dk_at dksX4_lay_5 14 rfl rfl)
theorem dX4_lay_134 : decode cX4_lay 134 = .ok (.irem, 1) := dk_112 (dk_at dksX4_lay_5 16 rfl rfl)
theorem dX4_lay_135 : decode cX4_lay 135 = .ok (.istore 8, 2) := dk_54 8 (dk_at dksX4_lay_5 17 rfl rfl)
theorem dX4_lay_137 : decode cX4_lay 137 = .ok (.iinc 9 1, 3) := dk_132 9 1 (dk_at dksX4_lay_5 19 rfl rfl)
theorem dX4_lay_140 : decode cX4_lay 140 = .ok (.goto (-61), 3) := dk_167 255 195 (dk_at dksX4_lay_6 0 rfl rfl)
theorem dX4_lay_143 : decode cX4_lay 143 = .ok (.aload_n 0, 1) := dk_42 (dk_at dksX4_lay_6 3 rfl rfl)
theorem dX4_lay_144 : decode cX4_lay 144 = .ok (.getfield 73, 3) := dk_180 0 73 (dk_at dksX4_lay_6 4 rfl rfl)
theorem dX4_lay_147 : decode cX4_lay 147 = .ok (.iload_n 1, 1) := dk_27 (dk_at dksX4_lay_6 7 rfl rfl)
theorem dX4_lay_148 : decode cX4_lay 148 = .ok (.aload 6, 2) := dk_25 6 (dk_at dksX4_lay_6 8 rfl rfl)
theorem dX4_lay_150 : decode cX4_lay 150 = .ok (.aastore, 1) := dk_83 (dk_at dksX4_lay_6 10 rfl rfl)
theorem dX4_lay_151 : decode cX4_lay 151 = .ok (.iinc 1 1, 3) := dk_132 1 1 (dk_at dksX4_lay_6 11 rfl rfl)
theorem dX4_lay_154 : decode cX4_lay 154 = .ok (.iinc 5 1, 3) := dk_132 5 1 (dk_at dksX4_lay_6 14 rfl rfl)
theorem dX4_lay_157 : decode cX4_lay 157 = .ok (.goto (-111), 3) := dk_167 255 145 (dk_at dksX4_lay_6 17 rfl rfl)
theorem dX4_lay_160 : decode cX4_lay 160 = .ok (.iinc 2 1, 3) := dk_132 2 1 (dk_at dksX4_lay_6 20 rfl rfl)
theorem dX4_lay_163 : decode cX4_lay 163 = .ok (.goto (-144), 3) := dk_167 255 112 (dk_at dksX4_lay_7 0 rfl rfl)
theorem dX4_lay_166 : decode cX4_lay 166 = .ok (.return_, 1) := dk_177 (dk_at dksX4_lay_7 3 rfl rfl)
abbrev cX4_place : ByteArray := prog_5_method_2_code
def yX4_place : MethodName := ⟨RX4, "place", "(LLetterPost$Place;LLetterPost$Kind;II)LLetterPost$Place;"⟩
def dkwX4_place_4 : List UInt8 := [180, 0, 27, 42, 180, 0, 39, 4, 100, 50, 176]
abbrev dktX4_place_4 : List UInt8 := dkwX4_place_4 ++ []
def dkwX4_place_3 : List UInt8 := [43, 44, 29, 21, 4, 42, 180, 0, 39, 183, 0, 53, 83, 42, 89, 180, 0, 39, 4, 96, 181, 0, 39, 42]
abbrev dktX4_place_3 : List UInt8 := dkwX4_place_3 ++ dktX4_place_4
def dkwX4_place_2 : List UInt8 := [160, 0, 6, 25, 6, 176, 132, 5, 1, 167, 255, 205, 42, 180, 0, 27, 42, 180, 0, 39, 187, 0, 25, 89]
abbrev dktX4_place_2 : List UInt8 := dkwX4_place_2 ++ dktX4_place_3
def dkwX4_place_1 : List UInt8 := [180, 0, 42, 43, 166, 0, 24, 25, 6, 180, 0, 46, 44, 166, 0, 15, 25, 6, 180, 0, 50, 29]
abbrev dktX4_place_1 : List UInt8 := dkwX4_place_1 ++ dktX4_place_2
def dkwX4_place_0 : List UInt8 := [3, 54, 5, 21, 5, 42, 180, 0, 39, 162, 0, 48, 42, 180, 0, 27, 21, 5, 50, 58, 6, 25, 6]
abbrev dktX4_place_0 : List UInt8 := dkwX4_place_0 ++ dktX4_place_1
theorem dksX4_place_0 : cX4_place.data.toList.drop 0 = dktX4_place_0 := by decide +kernel
theorem dksX4_place_1 : cX4_place.data.toList.drop 23 = dktX4_place_1 := dk_seg dksX4_place_0 23 rfl rfl
theorem dksX4_place_2 : cX4_place.data.toList.drop 45 = dktX4_place_2 := dk_seg dksX4_place_1 22 rfl rfl
theorem dksX4_place_3 : cX4_place.data.toList.drop 69 = dktX4_place_3 := dk_seg dksX4_place_2 24 rfl rfl
theorem dksX4_place_4 : cX4_place.data.toList.drop 93 = dktX4_place_4 := dk_seg dksX4_place_3 24 rfl rfl
theorem dX4_place_0 : decode cX4_place 0 = .ok (.iconst 0, 1) := dk_3 (dk_at dksX4_place_0 0 rfl rfl)
theorem dX4_place_1 : decode cX4_place 1 = .ok (.istore 5, 2) := dk_54 5 (dk_at dksX4_place_0 1 rfl rfl)
theorem dX4_place_3 : decode cX4_place 3 = .ok (.iload 5, 2) := dk_21 5 (dk_at dksX4_place_0 3 rfl rfl)
theorem dX4_place_5 : decode cX4_place 5 = .ok (.aload_n 0, 1) := dk_42 (dk_at dksX4_place_0 5 rfl rfl)
theorem dX4_place_6 : decode cX4_place 6 = .ok (.getfield 39, 3) := dk_180 0 39 (dk_at dksX4_place_0 6 rfl rfl)
theorem dX4_place_9 : decode cX4_place 9 = .ok (.if_icmp .ge 48, 3) := dk_162 0 48 (dk_at dksX4_place_0 9 rfl rfl)
theorem dX4_place_12 : decode cX4_place 12 = .ok (.aload_n 0, 1) := dk_42 (dk_at dksX4_place_0 12 rfl rfl)
theorem dX4_place_13 : decode cX4_place 13 = .ok (.getfield 27, 3) := dk_180 0 27 (dk_at dksX4_place_0 13 rfl rfl)
theorem dX4_place_16 : decode cX4_place 16 = .ok (.iload 5, 2) := dk_21 5 (dk_at dksX4_place_0 16 rfl rfl)
theorem dX4_place_18 : decode cX4_place 18 = .ok (.aaload, 1) := dk_50 (dk_at dksX4_place_0 18 rfl rfl)
theorem dX4_place_19 : decode cX4_place 19 = .ok (.astore 6, 2) := dk_58 6 (dk_at dksX4_place_0 19 rfl rfl)
theorem dX4_place_21 : decode cX4_place 21 = .ok (.aload 6, 2) := dk_25 6 (dk_at dksX4_place_0 21 rfl rfl)
theorem dX4_place_23 : decode cX4_place 23 = .ok (.getfield 42, 3) := dk_180 0 42 (dk_at dksX4_place_1 0 rfl rfl)
theorem dX4_place_26 : decode cX4_place 26 = .ok (.aload_n 1, 1) := dk_43 (dk_at dksX4_place_1 3 rfl rfl)
theorem dX4_place_27 : decode cX4_place 27 = .ok (.if_acmp .ne 24, 3) := dk_166 0 24 (dk_at dksX4_place_1 4 rfl rfl)
theorem dX4_place_30 : decode cX4_place 30 = .ok (.aload 6, 2) := dk_25 6 (dk_at dksX4_place_1 7 rfl rfl)
theorem dX4_place_32 : decode cX4_place 32 = .ok (.getfield 46, 3) := dk_180 0 46 (dk_at dksX4_place_1 9 rfl rfl)
theorem dX4_place_35 : decode cX4_place 35 = .ok (.aload_n 2, 1) := dk_44 (dk_at dksX4_place_1 12 rfl rfl)
theorem dX4_place_36 : decode cX4_place 36 = .ok (.if_acmp .ne 15, 3) := dk_166 0 15 (dk_at dksX4_place_1 13 rfl rfl)
theorem dX4_place_39 : decode cX4_place 39 = .ok (.aload 6, 2) := dk_25 6 (dk_at dksX4_place_1 16 rfl rfl)
theorem dX4_place_41 : decode cX4_place 41 = .ok (.getfield 50, 3) := dk_180 0 50 (dk_at dksX4_place_1 18 rfl rfl)
theorem dX4_place_44 : decode cX4_place 44 = .ok (.iload_n 3, 1) := dk_29 (dk_at dksX4_place_1 21 rfl rfl)
theorem dX4_place_45 : decode cX4_place 45 = .ok (.if_icmp .ne 6, 3) := dk_160 0 6 (dk_at dksX4_place_2 0 rfl rfl)
theorem dX4_place_48 : decode cX4_place 48 = .ok (.aload 6, 2) := dk_25 6 (dk_at dksX4_place_2 3 rfl rfl)
theorem dX4_place_50 : decode cX4_place 50 = .ok (.areturn, 1) := dk_176 (dk_at dksX4_place_2 5 rfl rfl)
theorem dX4_place_51 : decode cX4_place 51 = .ok (.iinc 5 1, 3) := dk_132 5 1 (dk_at dksX4_place_2 6 rfl rfl)
theorem dX4_place_54 : decode cX4_place 54 = .ok (.goto (-51), 3) := dk_167 255 205 (dk_at dksX4_place_2 9 rfl rfl)
theorem dX4_place_57 : decode cX4_place 57 = .ok (.aload_n 0, 1) := dk_42 (dk_at dksX4_place_2 12 rfl rfl)
theorem dX4_place_58 : decode cX4_place 58 = .ok (.getfield 27, 3) := dk_180 0 27 (dk_at dksX4_place_2 13 rfl rfl)
theorem dX4_place_61 : decode cX4_place 61 = .ok (.aload_n 0, 1) := dk_42 (dk_at dksX4_place_2 16 rfl rfl)
theorem dX4_place_62 : decode cX4_place 62 = .ok (.getfield 39, 3) := dk_180 0 39 (dk_at dksX4_place_2 17 rfl rfl)
theorem dX4_place_65 : decode cX4_place 65 = .ok (.new 25, 3) := dk_187 0 25 (dk_at dksX4_place_2 20 rfl rfl)
theorem dX4_place_68 : decode cX4_place 68 = .ok (.dup, 1) := dk_89 (dk_at dksX4_place_2 23 rfl rfl)
theorem dX4_place_69 : decode cX4_place 69 = .ok (.aload_n 1, 1) := dk_43 (dk_at dksX4_place_3 0 rfl rfl)
theorem dX4_place_70 : decode cX4_place 70 = .ok (.aload_n 2, 1) := dk_44 (dk_at dksX4_place_3 1 rfl rfl)
theorem dX4_place_71 : decode cX4_place 71 = .ok (.iload_n 3, 1) := dk_29 (dk_at dksX4_place_3 2 rfl rfl)
theorem dX4_place_72 : decode cX4_place 72 = .ok (.iload 4, 2) := dk_21 4 (dk_at dksX4_place_3 3 rfl rfl)
theorem dX4_place_74 : decode cX4_place 74 = .ok (.aload_n 0, 1) := dk_42 (dk_at dksX4_place_3 5 rfl rfl)
theorem dX4_place_75 : decode cX4_place 75 = .ok (.getfield 39, 3) := dk_180 0 39 (dk_at dksX4_place_3 6 rfl rfl)
theorem dX4_place_78 : decode cX4_place 78 = .ok (.invokespecial 53, 3) := dk_183 0 53 (dk_at dksX4_place_3 9 rfl rfl)
theorem dX4_place_81 : decode cX4_place 81 = .ok (.aastore, 1) := dk_83 (dk_at dksX4_place_3 12 rfl rfl)
theorem dX4_place_82 : decode cX4_place 82 = .ok (.aload_n 0, 1) := dk_42 (dk_at dksX4_place_3 13 rfl rfl)
theorem dX4_place_83 : decode cX4_place 83 = .ok (.dup, 1) := dk_89 (dk_at dksX4_place_3 14 rfl rfl)
theorem dX4_place_84 : decode cX4_place 84 = .ok (.getfield 39, 3) := dk_180 0 39 (dk_at dksX4_place_3 15 rfl rfl)
theorem dX4_place_87 : decode cX4_place 87 = .ok (.iconst 1, 1) := dk_4 (dk_at dksX4_place_3 18 rfl rfl)
theorem dX4_place_88 : decode cX4_place 88 = .ok (.iadd, 1) := dk_96 (dk_at dksX4_place_3 19 rfl rfl)
theorem dX4_place_89 : decode cX4_place 89 = .ok (.putfield 39, 3) := dk_181 0 39 (dk_at dksX4_place_3 20 rfl rfl)
theorem dX4_place_92 : decode cX4_place 92 = .ok (.aload_n 0, 1) := dk_42 (dk_at dksX4_place_3 23 rfl rfl)
theorem dX4_place_93 : decode cX4_place 93 = .ok (.getfield 27, 3) := dk_180 0 27 (dk_at dksX4_place_4 0 rfl rfl)
theorem dX4_place_96 : decode cX4_place 96 = .ok (.aload_n 0, 1) := dk_42 (dk_at dksX4_place_4 3 rfl rfl)
theorem dX4_place_97 : decode cX4_place 97 = .ok (.getfield 39, 3) := dk_180 0 39 (dk_at dksX4_place_4 4 rfl rfl)
theorem dX4_place_100 : decode cX4_place 100 = .ok (.iconst 1, 1) := dk_4 (dk_at dksX4_place_4 7 rfl rfl)
theorem dX4_place_101 : decode cX4_place 101 = .ok (.isub, 1) := dk_100 (dk_at dksX4_place_4 8 rfl rfl)
theorem dX4_place_102 : decode cX4_place 102 = .ok (.aaload, 1) := dk_50 (dk_at dksX4_place_4 9 rfl rfl)
theorem dX4_place_103 : decode cX4_place 103 = .ok (.areturn, 1) := dk_176 (dk_at dksX4_place_4 10 rfl rfl)
abbrev cX4_remake : ByteArray := prog_5_method_6_code
def yX4_remake : MethodName := ⟨RX4, "remake", "(I)V"⟩
def dkwX4_remake_1 : List UInt8 := [181, 0, 127, 177]
abbrev dktX4_remake_1 : List UInt8 := dkwX4_remake_1 ++ []
def dkwX4_remake_0 : List UInt8 := [42, 42, 27, 3, 182, 0, 114, 181, 0, 117, 42, 27, 181, 0, 121, 42, 42, 180, 0, 3, 180, 0, 124]
abbrev dktX4_remake_0 : List UInt8 := dkwX4_remake_0 ++ dktX4_remake_1
theorem dksX4_remake_0 : cX4_remake.data.toList.drop 0 = dktX4_remake_0 := by decide +kernel
theorem dksX4_remake_1 : cX4_remake.data.toList.drop 23 = dktX4_remake_1 := dk_seg dksX4_remake_0 23 rfl rfl
theorem dX4_remake_0 : decode cX4_remake 0 = .ok (.aload_n 0, 1) := dk_42 (dk_at dksX4_remake_0 0 rfl rfl)
theorem dX4_remake_1 : decode cX4_remake 1 = .ok (.aload_n 0, 1) := dk_42 (dk_at dksX4_remake_0 1 rfl rfl)
theorem dX4_remake_2 : decode cX4_remake 2 = .ok (.iload_n 1, 1) := dk_27 (dk_at dksX4_remake_0 2 rfl rfl)
theorem dX4_remake_3 : decode cX4_remake 3 = .ok (.iconst 0, 1) := dk_3 (dk_at dksX4_remake_0 3 rfl rfl)
theorem dX4_remake_4 : decode cX4_remake 4 = .ok (.invokevirtual 114, 3) := dk_182 0 114 (dk_at dksX4_remake_0 4 rfl rfl)
theorem dX4_remake_7 : decode cX4_remake 7 = .ok (.putfield 117, 3) := dk_181 0 117 (dk_at dksX4_remake_0 7 rfl rfl)
theorem dX4_remake_10 : decode cX4_remake 10 = .ok (.aload_n 0, 1) := dk_42 (dk_at dksX4_remake_0 10 rfl rfl)
theorem dX4_remake_11 : decode cX4_remake 11 = .ok (.iload_n 1, 1) := dk_27 (dk_at dksX4_remake_0 11 rfl rfl)
theorem dX4_remake_12 : decode cX4_remake 12 = .ok (.putfield 121, 3) := dk_181 0 121 (dk_at dksX4_remake_0 12 rfl rfl)
theorem dX4_remake_15 : decode cX4_remake 15 = .ok (.aload_n 0, 1) := dk_42 (dk_at dksX4_remake_0 15 rfl rfl)
theorem dX4_remake_16 : decode cX4_remake 16 = .ok (.aload_n 0, 1) := dk_42 (dk_at dksX4_remake_0 16 rfl rfl)
theorem dX4_remake_17 : decode cX4_remake 17 = .ok (.getfield 3, 3) := dk_180 0 3 (dk_at dksX4_remake_0 17 rfl rfl)
theorem dX4_remake_20 : decode cX4_remake 20 = .ok (.getfield 124, 3) := dk_180 0 124 (dk_at dksX4_remake_0 20 rfl rfl)
theorem dX4_remake_23 : decode cX4_remake 23 = .ok (.putfield 127, 3) := dk_181 0 127 (dk_at dksX4_remake_1 0 rfl rfl)
theorem dX4_remake_26 : decode cX4_remake 26 = .ok (.return_, 1) := dk_177 (dk_at dksX4_remake_1 3 rfl rfl)
abbrev cX4_make : ByteArray := prog_5_method_5_code
def yX4_make : MethodName := ⟨RX4, "make", "(IZ)LLetterPost$Node;"⟩
def dkwX4_make_3 : List UInt8 := [187, 0, 105, 89, 42, 180, 0, 3, 42, 27, 183, 0, 107, 45, 21, 4, 182, 0, 110, 176]
abbrev dktX4_make_3 : List UInt8 := dkwX4_make_3 ++ []
def dkwX4_make_2 : List UInt8 := [180, 0, 97, 180, 0, 101, 199, 0, 12, 45, 21, 4, 25, 8, 83, 132, 4, 1, 132, 7, 1, 167, 255, 215]
abbrev dktX4_make_2 : List UInt8 := dkwX4_make_2 ++ dktX4_make_3
def dkwX4_make_1 : List UInt8 := [54, 7, 21, 7, 21, 6, 162, 0, 40, 25, 5, 21, 7, 50, 58, 8, 28, 153, 0, 14, 25, 8]
abbrev dktX4_make_1 : List UInt8 := dkwX4_make_1 ++ dktX4_make_2
def dkwX4_make_0 : List UInt8 := [42, 180, 0, 73, 190, 189, 0, 71, 78, 3, 54, 4, 42, 180, 0, 73, 58, 5, 25, 5, 190, 54, 6, 3]
abbrev dktX4_make_0 : List UInt8 := dkwX4_make_0 ++ dktX4_make_1
theorem dksX4_make_0 : cX4_make.data.toList.drop 0 = dktX4_make_0 := by decide +kernel
theorem dksX4_make_1 : cX4_make.data.toList.drop 24 = dktX4_make_1 := dk_seg dksX4_make_0 24 rfl rfl
theorem dksX4_make_2 : cX4_make.data.toList.drop 46 = dktX4_make_2 := dk_seg dksX4_make_1 22 rfl rfl
theorem dksX4_make_3 : cX4_make.data.toList.drop 70 = dktX4_make_3 := dk_seg dksX4_make_2 24 rfl rfl
theorem dX4_make_0 : decode cX4_make 0 = .ok (.aload_n 0, 1) := dk_42 (dk_at dksX4_make_0 0 rfl rfl)
theorem dX4_make_1 : decode cX4_make 1 = .ok (.getfield 73, 3) := dk_180 0 73 (dk_at dksX4_make_0 1 rfl rfl)
theorem dX4_make_4 : decode cX4_make 4 = .ok (.arraylength, 1) := dk_190 (dk_at dksX4_make_0 4 rfl rfl)
theorem dX4_make_5 : decode cX4_make 5 = .ok (.anewarray 71, 3) := dk_189 0 71 (dk_at dksX4_make_0 5 rfl rfl)
theorem dX4_make_8 : decode cX4_make 8 = .ok (.astore_n 3, 1) := dk_78 (dk_at dksX4_make_0 8 rfl rfl)
theorem dX4_make_9 : decode cX4_make 9 = .ok (.iconst 0, 1) := dk_3 (dk_at dksX4_make_0 9 rfl rfl)
theorem dX4_make_10 : decode cX4_make 10 = .ok (.istore 4, 2) := dk_54 4 (dk_at dksX4_make_0 10 rfl rfl)
theorem dX4_make_12 : decode cX4_make 12 = .ok (.aload_n 0, 1) := dk_42 (dk_at dksX4_make_0 12 rfl rfl)
theorem dX4_make_13 : decode cX4_make 13 = .ok (.getfield 73, 3) := dk_180 0 73 (dk_at dksX4_make_0 13 rfl rfl)
theorem dX4_make_16 : decode cX4_make 16 = .ok (.astore 5, 2) := dk_58 5 (dk_at dksX4_make_0 16 rfl rfl)
theorem dX4_make_18 : decode cX4_make 18 = .ok (.aload 5, 2) := dk_25 5 (dk_at dksX4_make_0 18 rfl rfl)
theorem dX4_make_20 : decode cX4_make 20 = .ok (.arraylength, 1) := dk_190 (dk_at dksX4_make_0 20 rfl rfl)
theorem dX4_make_21 : decode cX4_make 21 = .ok (.istore 6, 2) := dk_54 6 (dk_at dksX4_make_0 21 rfl rfl)
theorem dX4_make_23 : decode cX4_make 23 = .ok (.iconst 0, 1) := dk_3 (dk_at dksX4_make_0 23 rfl rfl)
theorem dX4_make_24 : decode cX4_make 24 = .ok (.istore 7, 2) := dk_54 7 (dk_at dksX4_make_1 0 rfl rfl)
theorem dX4_make_26 : decode cX4_make 26 = .ok (.iload 7, 2) := dk_21 7 (dk_at dksX4_make_1 2 rfl rfl)
theorem dX4_make_28 : decode cX4_make 28 = .ok (.iload 6, 2) := dk_21 6 (dk_at dksX4_make_1 4 rfl rfl)
theorem dX4_make_30 : decode cX4_make 30 = .ok (.if_icmp .ge 40, 3) := dk_162 0 40 (dk_at dksX4_make_1 6 rfl rfl)
theorem dX4_make_33 : decode cX4_make 33 = .ok (.aload 5, 2) := dk_25 5 (dk_at dksX4_make_1 9 rfl rfl)
theorem dX4_make_35 : decode cX4_make 35 = .ok (.iload 7, 2) := dk_21 7 (dk_at dksX4_make_1 11 rfl rfl)
theorem dX4_make_37 : decode cX4_make 37 = .ok (.aaload, 1) := dk_50 (dk_at dksX4_make_1 13 rfl rfl)
theorem dX4_make_38 : decode cX4_make 38 = .ok (.astore 8, 2) := dk_58 8 (dk_at dksX4_make_1 14 rfl rfl)
theorem dX4_make_40 : decode cX4_make 40 = .ok (.iload_n 2, 1) := dk_28 (dk_at dksX4_make_1 16 rfl rfl)
theorem dX4_make_41 : decode cX4_make 41 = .ok (.ifCond .eq 14, 3) := dk_153 0 14 (dk_at dksX4_make_1 17 rfl rfl)
theorem dX4_make_44 : decode cX4_make 44 = .ok (.aload 8, 2) := dk_25 8 (dk_at dksX4_make_1 20 rfl rfl)
theorem dX4_make_46 : decode cX4_make 46 = .ok (.getfield 97, 3) := dk_180 0 97 (dk_at dksX4_make_2 0 rfl rfl)
theorem dX4_make_49 : decode cX4_make 49 = .ok (.getfield 101, 3) := dk_180 0 101 (dk_at dksX4_make_2 3 rfl rfl)
theorem dX4_make_52 : decode cX4_make 52 = .ok (.ifnonnull 12, 3) := dk_199 0 12 (dk_at dksX4_make_2 6 rfl rfl)
theorem dX4_make_55 : decode cX4_make 55 = .ok (.aload_n 3, 1) := dk_45 (dk_at dksX4_make_2 9 rfl rfl)
theorem dX4_make_56 : decode cX4_make 56 = .ok (.iload 4, 2) := dk_21 4 (dk_at dksX4_make_2 10 rfl rfl)
theorem dX4_make_58 : decode cX4_make 58 = .ok (.aload 8, 2) := dk_25 8 (dk_at dksX4_make_2 12 rfl rfl)
theorem dX4_make_60 : decode cX4_make 60 = .ok (.aastore, 1) := dk_83 (dk_at dksX4_make_2 14 rfl rfl)
theorem dX4_make_61 : decode cX4_make 61 = .ok (.iinc 4 1, 3) := dk_132 4 1 (dk_at dksX4_make_2 15 rfl rfl)
theorem dX4_make_64 : decode cX4_make 64 = .ok (.iinc 7 1, 3) := dk_132 7 1 (dk_at dksX4_make_2 18 rfl rfl)
theorem dX4_make_67 : decode cX4_make 67 = .ok (.goto (-41), 3) := dk_167 255 215 (dk_at dksX4_make_2 21 rfl rfl)
theorem dX4_make_70 : decode cX4_make 70 = .ok (.new 105, 3) := dk_187 0 105 (dk_at dksX4_make_3 0 rfl rfl)
theorem dX4_make_73 : decode cX4_make 73 = .ok (.dup, 1) := dk_89 (dk_at dksX4_make_3 3 rfl rfl)
theorem dX4_make_74 : decode cX4_make 74 = .ok (.aload_n 0, 1) := dk_42 (dk_at dksX4_make_3 4 rfl rfl)
theorem dX4_make_75 : decode cX4_make 75 = .ok (.getfield 3, 3) := dk_180 0 3 (dk_at dksX4_make_3 5 rfl rfl)
theorem dX4_make_78 : decode cX4_make 78 = .ok (.aload_n 0, 1) := dk_42 (dk_at dksX4_make_3 8 rfl rfl)
theorem dX4_make_79 : decode cX4_make 79 = .ok (.iload_n 1, 1) := dk_27 (dk_at dksX4_make_3 9 rfl rfl)
theorem dX4_make_80 : decode cX4_make 80 = .ok (.invokespecial 107, 3) := dk_183 0 107 (dk_at dksX4_make_3 10 rfl rfl)
theorem dX4_make_83 : decode cX4_make 83 = .ok (.aload_n 3, 1) := dk_45 (dk_at dksX4_make_3 13 rfl rfl)
theorem dX4_make_84 : decode cX4_make 84 = .ok (.iload 4, 2) := dk_21 4 (dk_at dksX4_make_3 14 rfl rfl)
theorem dX4_make_86 : decode cX4_make 86 = .ok (.invokevirtual 110, 3) := dk_182 0 110 (dk_at dksX4_make_3 16 rfl rfl)
theorem dX4_make_89 : decode cX4_make 89 = .ok (.areturn, 1) := dk_176 (dk_at dksX4_make_3 19 rfl rfl)
theorem q160 : (Jvm.Cond.initialized "LetterPost$Function") ∈ lw_all := lw_g (lw_at lw_m1 18 rfl) rfl
theorem q734 : (Jvm.Cond.instantiable "LetterPost$Function" (13 : Nat)) ∈ lw_all := lw_g (lw_at lw_m3 112 rfl) rfl
theorem q736 : (Jvm.Cond.instanceMethod ({ cls := "LetterPost$Function", name := "<init>", desc := "(LLetterPost;IJ)V" } : Jvm.MethodName)) ∈ lw_all := lw_g (lw_at lw_m3 114 rfl) rfl
theorem q737 : (Jvm.Cond.code ({ cls := "LetterPost$Function", name := "<init>", desc := "(LLetterPost;IJ)V" } : Jvm.MethodName) prog_5_method_1_code (5 : Nat) (Option.none : Option Jvm.ClassFile.FieldType)) ∈ lw_all := lw_g (lw_at lw_m3 115 rfl) rfl
theorem q738 : (Jvm.Cond.methodLink "LetterPost$Function" (9 : Nat) ({ cls := "java/lang/Object", name := "<init>", desc := "()V" } : Jvm.MethodName)) ∈ lw_all := lw_g (lw_at lw_m3 116 rfl) rfl
theorem q739 : (Jvm.Cond.classLink "LetterPost$Function" (19 : Nat) "LetterPost$Rule") ∈ lw_all := lw_g (lw_at lw_m3 117 rfl) rfl
theorem q741 : (Jvm.Cond.classLink "LetterPost$Function" (25 : Nat) "LetterPost$Place") ∈ lw_all := lw_g (lw_at lw_m3 119 rfl) rfl
theorem q743 : (Jvm.Cond.fieldLink "LetterPost$Function" (31 : Nat) "LetterPost$Function" "number" "I") ∈ lw_all := lw_g (lw_at lw_m3 121 rfl) rfl
theorem q745 : (Jvm.Cond.fieldLink "LetterPost$Function" (35 : Nat) "LetterPost$Function" "name" "J") ∈ lw_all := lw_g (lw_at lw_m3 123 rfl) rfl
theorem q747 : (Jvm.Cond.fieldLink "LetterPost$Function" (15 : Nat) "LetterPost$Function" "sorts" "[I") ∈ lw_all := lw_g (lw_at lw_m3 125 rfl) rfl
theorem q749 : (Jvm.Cond.fieldLink "LetterPost$Function" (80 : Nat) "LetterPost$Function" "columns" "I") ∈ lw_all := lw_g (lw_at lw_m3 127 rfl) rfl
theorem q751 : (Jvm.Cond.fieldLink "LetterPost$Function" (21 : Nat) "LetterPost$Function" "rules" "[LLetterPost$Rule;") ∈ lw_all := lw_g (lw_at lw_m3 129 rfl) rfl
theorem q753 : (Jvm.Cond.fieldLink "LetterPost$Function" (64 : Nat) "LetterPost$Function" "ruleMany" "I") ∈ lw_all := lw_g (lw_at lw_m3 131 rfl) rfl
theorem q755 : (Jvm.Cond.fieldLink "LetterPost$Function" (73 : Nat) "LetterPost$Function" "rows" "[LLetterPost$Row;") ∈ lw_all := lw_g (lw_at lw_m3 133 rfl) rfl
theorem q757 : (Jvm.Cond.fieldLink "LetterPost$Function" (27 : Nat) "LetterPost$Function" "places" "[LLetterPost$Place;") ∈ lw_all := lw_g (lw_at lw_m3 135 rfl) rfl
theorem q759 : (Jvm.Cond.fieldLink "LetterPost$Function" (39 : Nat) "LetterPost$Function" "placeMany" "I") ∈ lw_all := lw_g (lw_at lw_m3 137 rfl) rfl
theorem q760 : (Jvm.Cond.fieldLink "LetterPost$Function" (117 : Nat) "LetterPost$Function" "tree" "LLetterPost$Node;") ∈ lw_all := lw_g (lw_at lw_m3 138 rfl) rfl
theorem q762 : (Jvm.Cond.fieldLink "LetterPost$Function" (121 : Nat) "LetterPost$Function" "way" "I") ∈ lw_all := lw_g (lw_at lw_m3 140 rfl) rfl
theorem q764 : (Jvm.Cond.fieldLink "LetterPost$Function" (127 : Nat) "LetterPost$Function" "known" "I") ∈ lw_all := lw_g (lw_at lw_m3 142 rfl) rfl
theorem q766 : (Jvm.Cond.fieldLink "LetterPost$Function" (3 : Nat) "LetterPost$Function" "this$0" "LLetterPost;") ∈ lw_all := lw_g (lw_at lw_m3 144 rfl) rfl
theorem q767 : (Jvm.Cond.laysFinal "LetterPost$Function" "LetterPost$Function" "number" "I") ∈ lw_all := lw_g (lw_at lw_m3 145 rfl) rfl
theorem q768 : (Jvm.Cond.soleField "LetterPost$Function" "number") ∈ lw_all := lw_g (lw_at lw_m3 146 rfl) rfl
theorem q769 : (Jvm.Cond.laysFinal "LetterPost$Function" "LetterPost$Function" "name" "J") ∈ lw_all := lw_g (lw_at lw_m3 147 rfl) rfl
theorem q770 : (Jvm.Cond.soleField "LetterPost$Function" "name") ∈ lw_all := lw_g (lw_at lw_m3 148 rfl) rfl
theorem q771 : (Jvm.Cond.laysFinal "LetterPost$Function" "LetterPost$Function" "sorts" "[I") ∈ lw_all := lw_g (lw_at lw_m3 149 rfl) rfl
theorem q772 : (Jvm.Cond.soleField "LetterPost$Function" "sorts") ∈ lw_all := lw_g (lw_at lw_m3 150 rfl) rfl
theorem q773 : (Jvm.Cond.lays "LetterPost$Function" "LetterPost$Function" "columns" "I") ∈ lw_all := lw_g (lw_at lw_m3 151 rfl) rfl
theorem q774 : (Jvm.Cond.soleField "LetterPost$Function" "columns") ∈ lw_all := lw_g (lw_at lw_m3 152 rfl) rfl
theorem q775 : (Jvm.Cond.laysFinal "LetterPost$Function" "LetterPost$Function" "rules" "[LLetterPost$Rule;") ∈ lw_all := lw_g (lw_at lw_m3 153 rfl) rfl
theorem q776 : (Jvm.Cond.soleField "LetterPost$Function" "rules") ∈ lw_all := lw_g (lw_at lw_m3 154 rfl) rfl
theorem q777 : (Jvm.Cond.lays "LetterPost$Function" "LetterPost$Function" "ruleMany" "I") ∈ lw_all := lw_g (lw_at lw_m3 155 rfl) rfl
theorem q778 : (Jvm.Cond.soleField "LetterPost$Function" "ruleMany") ∈ lw_all := lw_g (lw_at lw_m3 156 rfl) rfl
theorem q779 : (Jvm.Cond.lays "LetterPost$Function" "LetterPost$Function" "rows" "[LLetterPost$Row;") ∈ lw_all := lw_g (lw_at lw_m3 157 rfl) rfl
theorem q780 : (Jvm.Cond.soleField "LetterPost$Function" "rows") ∈ lw_all := lw_g (lw_at lw_m3 158 rfl) rfl
theorem q781 : (Jvm.Cond.laysFinal "LetterPost$Function" "LetterPost$Function" "places" "[LLetterPost$Place;") ∈ lw_all := lw_g (lw_at lw_m3 159 rfl) rfl
theorem q782 : (Jvm.Cond.soleField "LetterPost$Function" "places") ∈ lw_all := lw_g (lw_at lw_m3 160 rfl) rfl
theorem q783 : (Jvm.Cond.lays "LetterPost$Function" "LetterPost$Function" "placeMany" "I") ∈ lw_all := lw_g (lw_at lw_m3 161 rfl) rfl
theorem q784 : (Jvm.Cond.soleField "LetterPost$Function" "placeMany") ∈ lw_all := lw_g (lw_at lw_m3 162 rfl) rfl
theorem q785 : (Jvm.Cond.lays "LetterPost$Function" "LetterPost$Function" "tree" "LLetterPost$Node;") ∈ lw_all := lw_g (lw_at lw_m3 163 rfl) rfl
theorem q786 : (Jvm.Cond.soleField "LetterPost$Function" "tree") ∈ lw_all := lw_g (lw_at lw_m3 164 rfl) rfl
theorem q787 : (Jvm.Cond.lays "LetterPost$Function" "LetterPost$Function" "way" "I") ∈ lw_all := lw_g (lw_at lw_m3 165 rfl) rfl
theorem q788 : (Jvm.Cond.soleField "LetterPost$Function" "way") ∈ lw_all := lw_g (lw_at lw_m3 166 rfl) rfl
theorem q789 : (Jvm.Cond.lays "LetterPost$Function" "LetterPost$Function" "known" "I") ∈ lw_all := lw_g (lw_at lw_m3 167 rfl) rfl
theorem q790 : (Jvm.Cond.soleField "LetterPost$Function" "known") ∈ lw_all := lw_g (lw_at lw_m3 168 rfl) rfl
theorem q791 : (Jvm.Cond.laysFinal "LetterPost$Function" "LetterPost$Function" "this$0" "LLetterPost;") ∈ lw_all := lw_g (lw_at lw_m3 169 rfl) rfl
theorem q792 : (Jvm.Cond.soleField "LetterPost$Function" "this$0") ∈ lw_all := lw_g (lw_at lw_m3 170 rfl) rfl
theorem q793 : (Jvm.Cond.superclass "LetterPost$Function" "java/lang/Object") ∈ lw_all := lw_g (lw_at lw_m3 171 rfl) rfl
theorem q808 : (Jvm.Cond.fieldLink "LetterPost$Function" (56 : Nat) "LetterPost$Rule" "patterns" "[LLetterPost$Pattern;") ∈ lw_all := lw_g (lw_at lw_m3 186 rfl) rfl
theorem q811 : (Jvm.Cond.fieldLink "LetterPost$Function" (101 : Nat) "LetterPost$Rule" "guard" "LLetterPost$Guard;") ∈ lw_all := lw_g (lw_at lw_m3 189 rfl) rfl
theorem q1062 : (Jvm.Cond.instanceMethod ({ cls := "LetterPost$Function", name := "count", desc := "(I)I" } : Jvm.MethodName)) ∈ lw_all := lw_g (lw_at lw_m4 200 rfl) rfl
theorem q1063 : (Jvm.Cond.selects "LetterPost$Function" ({ cls := "LetterPost$Function", name := "count", desc := "(I)I" } : Jvm.MethodName) ({ cls := "LetterPost$Function", name := "count", desc := "(I)I" } : Jvm.MethodName)) ∈ lw_all := lw_g (lw_at lw_m4 201 rfl) rfl
theorem q1064 : (Jvm.Cond.code ({ cls := "LetterPost$Function", name := "count", desc := "(I)I" } : Jvm.MethodName) prog_5_method_3_code (4 : Nat) (Option.some Jvm.ClassFile.FieldType.int)) ∈ lw_all := lw_g (lw_at lw_m4 202 rfl) rfl
theorem q1065 : (Jvm.Cond.methodLinkNest "LetterPost$Function" (60 : Nat) ({ cls := "LetterPost", name := "product", desc := "([LLetterPost$Pattern;)I" } : Jvm.MethodName) "LetterPost") ∈ lw_tbl := lw_at lw_m4 203 rfl
theorem q1088 : (Jvm.Cond.instanceMethod ({ cls := "LetterPost$Function", name := "lay", desc := "()V" } : Jvm.MethodName)) ∈ lw_all := lw_g (lw_at lw_m4 226 rfl) rfl
theorem q1089 : (Jvm.Cond.selects "LetterPost$Function" ({ cls := "LetterPost$Function", name := "lay", desc := "()V" } : Jvm.MethodName) ({ cls := "LetterPost$Function", name := "lay", desc := "()V" } : Jvm.MethodName)) ∈ lw_all := lw_g (lw_at lw_m4 227 rfl) rfl
theorem q1090 : (Jvm.Cond.code ({ cls := "LetterPost$Function", name := "lay", desc := "()V" } : Jvm.MethodName) prog_5_method_4_code (10 : Nat) (Option.none : Option Jvm.ClassFile.FieldType)) ∈ lw_all := lw_g (lw_at lw_m4 228 rfl) rfl
theorem q1091 : (Jvm.Cond.methodLink "LetterPost$Function" (67 : Nat) ({ cls := "LetterPost$Function", name := "count", desc := "(I)I" } : Jvm.MethodName)) ∈ lw_all := lw_g (lw_at lw_m4 229 rfl) rfl
theorem q1092 : (Jvm.Cond.classLink "LetterPost$Function" (71 : Nat) "LetterPost$Row") ∈ lw_all := lw_g (lw_at lw_m4 230 rfl) rfl
theorem q1095 : (Jvm.Cond.methodLink "LetterPost$Function" (77 : Nat) ({ cls := "LetterPost$Row", name := "<init>", desc := "(LLetterPost$Rule;)V" } : Jvm.MethodName)) ∈ lw_all := lw_g (lw_at lw_m4 233 rfl) rfl
theorem q1105 : (Jvm.Cond.fieldLink "LetterPost$Function" (97 : Nat) "LetterPost$Row" "rule" "LLetterPost$Rule;") ∈ lw_all := lw_g (lw_at lw_m5 3 rfl) rfl
theorem q1124 : (Jvm.Cond.methodLink "LetterPost$Function" (83 : Nat) ({ cls := "LetterPost$Pattern", name := "ways", desc := "()I" } : Jvm.MethodName)) ∈ lw_all := lw_g (lw_at lw_m5 22 rfl) rfl
theorem q1125 : (Jvm.Cond.methodLink "LetterPost$Function" (89 : Nat) ({ cls := "LetterPost$Function", name := "place", desc := "(LLetterPost$Place;LLetterPost$Kind;II)LLetterPost$Place;" } : Jvm.MethodName)) ∈ lw_all := lw_g (lw_at lw_m5 23 rfl) rfl
theorem q1126 : (Jvm.Cond.instanceMethod ({ cls := "LetterPost$Function", name := "place", desc := "(LLetterPost$Place;LLetterPost$Kind;II)LLetterPost$Place;" } : Jvm.MethodName)) ∈ lw_all := lw_g (lw_at lw_m5 24 rfl) rfl
theorem q1127 : (Jvm.Cond.selects "LetterPost$Function" ({ cls := "LetterPost$Function", name := "place", desc := "(LLetterPost$Place;LLetterPost$Kind;II)LLetterPost$Place;" } : Jvm.MethodName) ({ cls := "LetterPost$Function", name := "place", desc := "(LLetterPost$Place;LLetterPost$Kind;II)LLetterPost$Place;" } : Jvm.MethodName)) ∈ lw_all := lw_g (lw_at lw_m5 25 rfl) rfl
theorem q1128 : (Jvm.Cond.code ({ cls := "LetterPost$Function", name := "place", desc := "(LLetterPost$Place;LLetterPost$Kind;II)LLetterPost$Place;" } : Jvm.MethodName) prog_5_method_2_code (7 : Nat) (Option.some (Jvm.ClassFile.FieldType.object "LetterPost$Place"))) ∈ lw_all := lw_g (lw_at lw_m5 26 rfl) rfl
theorem q1130 : (Jvm.Cond.methodLink "LetterPost$Function" (53 : Nat) ({ cls := "LetterPost$Place", name := "<init>", desc := "(LLetterPost$Place;LLetterPost$Kind;III)V" } : Jvm.MethodName)) ∈ lw_all := lw_g (lw_at lw_m5 28 rfl) rfl
theorem q1135 : (Jvm.Cond.fieldLink "LetterPost$Function" (42 : Nat) "LetterPost$Place" "above" "LLetterPost$Place;") ∈ lw_all := lw_g (lw_at lw_m5 33 rfl) rfl
theorem q1137 : (Jvm.Cond.fieldLink "LetterPost$Function" (46 : Nat) "LetterPost$Place" "kind" "LLetterPost$Kind;") ∈ lw_all := lw_g (lw_at lw_m5 35 rfl) rfl
theorem q1139 : (Jvm.Cond.fieldLink "LetterPost$Function" (50 : Nat) "LetterPost$Place" "index" "I") ∈ lw_all := lw_g (lw_at lw_m5 37 rfl) rfl
theorem q1165 : (Jvm.Cond.methodLink "LetterPost$Function" (93 : Nat) ({ cls := "LetterPost$Pattern", name := "row", desc := "(ILLetterPost$Place;LLetterPost$Function;LLetterPost$Row;)V" } : Jvm.MethodName)) ∈ lw_all := lw_g (lw_at lw_m5 63 rfl) rfl
theorem q1196 : (Jvm.Cond.instanceMethod ({ cls := "LetterPost$Function", name := "remake", desc := "(I)V" } : Jvm.MethodName)) ∈ lw_all := lw_g (lw_at lw_m5 94 rfl) rfl
theorem q1197 : (Jvm.Cond.selects "LetterPost$Function" ({ cls := "LetterPost$Function", name := "remake", desc := "(I)V" } : Jvm.MethodName) ({ cls := "LetterPost$Function", name := "remake", desc := "(I)V" } : Jvm.MethodName)) ∈ lw_all := lw_g (lw_at lw_m5 95 rfl) rfl
theorem q1198 : (Jvm.Cond.code ({ cls := "LetterPost$Function", name := "remake", desc := "(I)V" } : Jvm.MethodName) prog_5_method_6_code (2 : Nat) (Option.none : Option Jvm.ClassFile.FieldType)) ∈ lw_all := lw_g (lw_at lw_m5 96 rfl) rfl
theorem q1199 : (Jvm.Cond.methodLink "LetterPost$Function" (114 : Nat) ({ cls := "LetterPost$Function", name := "make", desc := "(IZ)LLetterPost$Node;" } : Jvm.MethodName)) ∈ lw_all := lw_g (lw_at lw_m5 97 rfl) rfl
theorem q1200 : (Jvm.Cond.instanceMethod ({ cls := "LetterPost$Function", name := "make", desc := "(IZ)LLetterPost$Node;" } : Jvm.MethodName)) ∈ lw_all := lw_g (lw_at lw_m5 98 rfl) rfl
theorem q1201 : (Jvm.Cond.selects "LetterPost$Function" ({ cls := "LetterPost$Function", name := "make", desc := "(IZ)LLetterPost$Node;" } : Jvm.MethodName) ({ cls := "LetterPost$Function", name := "make", desc := "(IZ)LLetterPost$Node;" } : Jvm.MethodName)) ∈ lw_all := lw_g (lw_at lw_m5 99 rfl) rfl
theorem q1202 : (Jvm.Cond.code ({ cls := "LetterPost$Function", name := "make", desc := "(IZ)LLetterPost$Node;" } : Jvm.MethodName) prog_5_method_5_code (9 : Nat) (Option.some (Jvm.ClassFile.FieldType.object "LetterPost$Node"))) ∈ lw_all := lw_g (lw_at lw_m5 100 rfl) rfl
theorem q1203 : (Jvm.Cond.classLink "LetterPost$Function" (105 : Nat) "LetterPost$Maker") ∈ lw_all := lw_g (lw_at lw_m5 101 rfl) rfl
theorem q1205 : (Jvm.Cond.methodLink "LetterPost$Function" (107 : Nat) ({ cls := "LetterPost$Maker", name := "<init>", desc := "(LLetterPost;LLetterPost$Function;I)V" } : Jvm.MethodName)) ∈ lw_all := lw_g (lw_at lw_m5 103 rfl) rfl
theorem q1285 : (Jvm.Cond.methodLink "LetterPost$Function" (110 : Nat) ({ cls := "LetterPost$Maker", name := "make", desc := "([LLetterPost$Row;I)LLetterPost$Node;" } : Jvm.MethodName)) ∈ lw_all := lw_g (lw_at lw_m5 183 rfl) rfl
theorem q2056 : (Jvm.Cond.fieldLinkNest "LetterPost$Function" (124 : Nat) "LetterPost" "kindMany" "I" "LetterPost") ∈ lw_tbl := lw_at lw_m8 234 rfl
theorem in_X4 : ∀ w ∈ wsX40, w ∈ lw_all := lw_in wsX40 [767, 769, 771, 773, 775, 777, 779, 781, 783, 785, 787, 789, 791] (by decide +kernel) (by decide +kernel)

/-! LetterPost$Rule -/
set_option maxRecDepth 100000
def RX5 : String := "LetterPost$Rule"
def TX5 : u_T := fun k => match k with
  | 0 => ("LetterPost$Rule", "number", "I", true)
  | 1 => ("LetterPost$Rule", "place", "I", true)
  | 2 => ("LetterPost$Rule", "patterns", "[LLetterPost$Pattern;", false)
  | 3 => ("LetterPost$Rule", "guard", "LLetterPost$Guard;", false)
  | 4 => ("LetterPost$Rule", "answer", "I", false)
  | 5 => ("LetterPost$Rule", "name", "I", false)
  | 6 => ("LetterPost$Rule", "handed", "[I", false)
  | 7 => ("LetterPost$Rule", "calls", "J", false)
  | 8 => ("LetterPost$Rule", "callPlace", "I", false)
  | 9 => ("LetterPost$Rule", "handedPlaces", "[I", false)
  | 10 => ("LetterPost$Rule", "called", "LLetterPost$Function;", false)
  | _ => ("LetterPost$Rule", "sorts", "[I", true)
def tyX5 : Nat → FieldType := fun k => match k with
  | 0 => .int
  | 1 => .int
  | 2 => .array (.object "LetterPost$Pattern")
  | 3 => .object "LetterPost$Guard"
  | 4 => .int
  | 5 => .int
  | 6 => .array .int
  | 7 => .long
  | 8 => .int
  | 9 => .array .int
  | 10 => .object "LetterPost$Function"
  | _ => .array .int
abbrev wsX50 : List Cond := u_ws RX5 TX5 12
theorem nmX5 : ∀ a, a < 12 → ∀ b, b < 12 → a ≠ b → (TX5 a).2.1 ≠ (TX5 b).2.1 := by decide +kernel
theorem tyX5_ok : ∀ k, k < 12 → parseFieldDescriptor (TX5 k).2.2.1 = some (tyX5 k) := by decide +kernel
abbrev cX5_init : ByteArray := prog_21_method_1_code
def yX5_init : MethodName := ⟨RX5, "<init>", "(II)V"⟩
def dkwX5_init_1 : List UInt8 := [181, 0, 22, 177]
abbrev dktX5_init_1 : List UInt8 := dkwX5_init_1 ++ []
def dkwX5_init_0 : List UInt8 := [42, 183, 0, 3, 42, 2, 181, 0, 9, 42, 16, 8, 188, 10, 181, 0, 15, 42, 27, 181, 0, 19, 42, 28]
abbrev dktX5_init_0 : List UInt8 := dkwX5_init_0 ++ dktX5_init_1
theorem dksX5_init_0 : cX5_init.data.toList.drop 0 = dktX5_init_0 := by decide +kernel
theorem dksX5_init_1 : cX5_init.data.toList.drop 24 = dktX5_init_1 := dk_seg dksX5_init_0 24 rfl rfl
theorem dX5_init_0 : decode cX5_init 0 = .ok (.aload_n 0, 1) := dk_42 (dk_at dksX5_init_0 0 rfl rfl)
theorem dX5_init_1 : decode cX5_init 1 = .ok (.invokespecial 3, 3) := dk_183 0 3 (dk_at dksX5_init_0 1 rfl rfl)
theorem dX5_init_4 : decode cX5_init 4 = .ok (.aload_n 0, 1) := dk_42 (dk_at dksX5_init_0 4 rfl rfl)
theorem dX5_init_5 : decode cX5_init 5 = .ok (.iconst (-1), 1) := dk_2 (dk_at dksX5_init_0 5 rfl rfl)
theorem dX5_init_6 : decode cX5_init 6 = .ok (.putfield 9, 3) := dk_181 0 9 (dk_at dksX5_init_0 6 rfl rfl)
theorem dX5_init_9 : decode cX5_init 9 = .ok (.aload_n 0, 1) := dk_42 (dk_at dksX5_init_0 9 rfl rfl)
theorem dX5_init_10 : decode cX5_init 10 = .ok (.bipush 8, 2) := dk_16 8 (dk_at dksX5_init_0 10 rfl rfl)
theorem dX5_init_12 : decode cX5_init 12 = .ok (.newarray .int, 2) := dk_188_10 (dk_at dksX5_init_0 12 rfl rfl)
theorem dX5_init_14 : decode cX5_init 14 = .ok (.putfield 15, 3) := dk_181 0 15 (dk_at dksX5_init_0 14 rfl rfl)
theorem dX5_init_17 : decode cX5_init 17 = .ok (.aload_n 0, 1) := dk_42 (dk_at dksX5_init_0 17 rfl rfl)
theorem dX5_init_18 : decode cX5_init 18 = .ok (.iload_n 1, 1) := dk_27 (dk_at dksX5_init_0 18 rfl rfl)
theorem dX5_init_19 : decode cX5_init 19 = .ok (.putfield 19, 3) := dk_181 0 19 (dk_at dksX5_init_0 19 rfl rfl)
theorem dX5_init_22 : decode cX5_init 22 = .ok (.aload_n 0, 1) := dk_42 (dk_at dksX5_init_0 22 rfl rfl)
theorem dX5_init_23 : decode cX5_init 23 = .ok (.iload_n 2, 1) := dk_28 (dk_at dksX5_init_0 23 rfl rfl)
theorem dX5_init_24 : decode cX5_init 24 = .ok (.putfield 22, 3) := dk_181 0 22 (dk_at dksX5_init_1 0 rfl rfl)
theorem dX5_init_27 : decode cX5_init 27 = .ok (.return_, 1) := dk_177 (dk_at dksX5_init_1 3 rfl rfl)
theorem q161 : (Jvm.Cond.initialized "LetterPost$Rule") ∈ lw_all := lw_g (lw_at lw_m1 19 rfl) rfl
theorem q799 : (Jvm.Cond.instantiable "LetterPost$Rule" (12 : Nat)) ∈ lw_all := lw_g (lw_at lw_m3 177 rfl) rfl
theorem q801 : (Jvm.Cond.instanceMethod ({ cls := "LetterPost$Rule", name := "<init>", desc := "(II)V" } : Jvm.MethodName)) ∈ lw_all := lw_g (lw_at lw_m3 179 rfl) rfl
theorem q802 : (Jvm.Cond.code ({ cls := "LetterPost$Rule", name := "<init>", desc := "(II)V" } : Jvm.MethodName) prog_21_method_1_code (3 : Nat) (Option.none : Option Jvm.ClassFile.FieldType)) ∈ lw_all := lw_g (lw_at lw_m3 180 rfl) rfl
theorem q803 : (Jvm.Cond.methodLink "LetterPost$Rule" (3 : Nat) ({ cls := "java/lang/Object", name := "<init>", desc := "()V" } : Jvm.MethodName)) ∈ lw_all := lw_g (lw_at lw_m3 181 rfl) rfl
theorem q804 : (Jvm.Cond.fieldLink "LetterPost$Rule" (19 : Nat) "LetterPost$Rule" "number" "I") ∈ lw_all := lw_g (lw_at lw_m3 182 rfl) rfl
theorem q806 : (Jvm.Cond.fieldLink "LetterPost$Rule" (22 : Nat) "LetterPost$Rule" "place" "I") ∈ lw_all := lw_g (lw_at lw_m3 184 rfl) rfl
theorem q814 : (Jvm.Cond.fieldLink "LetterPost$Rule" (9 : Nat) "LetterPost$Rule" "name" "I") ∈ lw_all := lw_g (lw_at lw_m3 192 rfl) rfl
theorem q821 : (Jvm.Cond.fieldLink "LetterPost$Rule" (15 : Nat) "LetterPost$Rule" "sorts" "[I") ∈ lw_all := lw_g (lw_at lw_m3 199 rfl) rfl
theorem q823 : (Jvm.Cond.laysFinal "LetterPost$Rule" "LetterPost$Rule" "number" "I") ∈ lw_all := lw_g (lw_at lw_m3 201 rfl) rfl
theorem q824 : (Jvm.Cond.soleField "LetterPost$Rule" "number") ∈ lw_all := lw_g (lw_at lw_m3 202 rfl) rfl
theorem q825 : (Jvm.Cond.laysFinal "LetterPost$Rule" "LetterPost$Rule" "place" "I") ∈ lw_all := lw_g (lw_at lw_m3 203 rfl) rfl
theorem q826 : (Jvm.Cond.soleField "LetterPost$Rule" "place") ∈ lw_all := lw_g (lw_at lw_m3 204 rfl) rfl
theorem q827 : (Jvm.Cond.lays "LetterPost$Rule" "LetterPost$Rule" "patterns" "[LLetterPost$Pattern;") ∈ lw_all := lw_g (lw_at lw_m3 205 rfl) rfl
theorem q828 : (Jvm.Cond.soleField "LetterPost$Rule" "patterns") ∈ lw_all := lw_g (lw_at lw_m3 206 rfl) rfl
theorem q829 : (Jvm.Cond.lays "LetterPost$Rule" "LetterPost$Rule" "guard" "LLetterPost$Guard;") ∈ lw_all := lw_g (lw_at lw_m3 207 rfl) rfl
theorem q830 : (Jvm.Cond.soleField "LetterPost$Rule" "guard") ∈ lw_all := lw_g (lw_at lw_m3 208 rfl) rfl
theorem q831 : (Jvm.Cond.lays "LetterPost$Rule" "LetterPost$Rule" "answer" "I") ∈ lw_all := lw_g (lw_at lw_m3 209 rfl) rfl
theorem q832 : (Jvm.Cond.soleField "LetterPost$Rule" "answer") ∈ lw_all := lw_g (lw_at lw_m3 210 rfl) rfl
theorem q833 : (Jvm.Cond.lays "LetterPost$Rule" "LetterPost$Rule" "name" "I") ∈ lw_all := lw_g (lw_at lw_m3 211 rfl) rfl
theorem q834 : (Jvm.Cond.soleField "LetterPost$Rule" "name") ∈ lw_all := lw_g (lw_at lw_m3 212 rfl) rfl
theorem q835 : (Jvm.Cond.lays "LetterPost$Rule" "LetterPost$Rule" "handed" "[I") ∈ lw_all := lw_g (lw_at lw_m3 213 rfl) rfl
theorem q836 : (Jvm.Cond.soleField "LetterPost$Rule" "handed") ∈ lw_all := lw_g (lw_at lw_m3 214 rfl) rfl
theorem q837 : (Jvm.Cond.lays "LetterPost$Rule" "LetterPost$Rule" "calls" "J") ∈ lw_all := lw_g (lw_at lw_m3 215 rfl) rfl
theorem q838 : (Jvm.Cond.soleField "LetterPost$Rule" "calls") ∈ lw_all := lw_g (lw_at lw_m3 216 rfl) rfl
theorem q839 : (Jvm.Cond.lays "LetterPost$Rule" "LetterPost$Rule" "callPlace" "I") ∈ lw_all := lw_g (lw_at lw_m3 217 rfl) rfl
theorem q840 : (Jvm.Cond.soleField "LetterPost$Rule" "callPlace") ∈ lw_all := lw_g (lw_at lw_m3 218 rfl) rfl
theorem q841 : (Jvm.Cond.lays "LetterPost$Rule" "LetterPost$Rule" "handedPlaces" "[I") ∈ lw_all := lw_g (lw_at lw_m3 219 rfl) rfl
theorem q842 : (Jvm.Cond.soleField "LetterPost$Rule" "handedPlaces") ∈ lw_all := lw_g (lw_at lw_m3 220 rfl) rfl
theorem q843 : (Jvm.Cond.lays "LetterPost$Rule" "LetterPost$Rule" "called" "LLetterPost$Function;") ∈ lw_all := lw_g (lw_at lw_m3 221 rfl) rfl
theorem q844 : (Jvm.Cond.soleField "LetterPost$Rule" "called") ∈ lw_all := lw_g (lw_at lw_m3 222 rfl) rfl
theorem q845 : (Jvm.Cond.laysFinal "LetterPost$Rule" "LetterPost$Rule" "sorts" "[I") ∈ lw_all := lw_g (lw_at lw_m3 223 rfl) rfl
theorem q846 : (Jvm.Cond.soleField "LetterPost$Rule" "sorts") ∈ lw_all := lw_g (lw_at lw_m3 224 rfl) rfl
theorem q847 : (Jvm.Cond.superclass "LetterPost$Rule" "java/lang/Object") ∈ lw_all := lw_g (lw_at lw_m3 225 rfl) rfl
theorem in_X5 : ∀ w ∈ wsX50, w ∈ lw_all := lw_in wsX50 [823, 825, 827, 829, 831, 833, 835, 837, 839, 841, 843, 845] (by decide +kernel) (by decide +kernel)

/-! LetterPost$Pattern -/
set_option maxRecDepth 100000
def RX6 : String := "LetterPost$Pattern"
abbrev cX6_init : ByteArray := prog_17_method_1_code
def yX6_init : MethodName := ⟨RX6, "<init>", "()V"⟩
def dkwX6_init_0 : List UInt8 := [42, 183, 0, 1, 42, 2, 181, 0, 7, 177]
abbrev dktX6_init_0 : List UInt8 := dkwX6_init_0 ++ []
theorem dksX6_init_0 : cX6_init.data.toList.drop 0 = dktX6_init_0 := by decide +kernel
theorem dX6_init_0 : decode cX6_init 0 = .ok (.aload_n 0, 1) := dk_42 (dk_at dksX6_init_0 0 rfl rfl)
theorem dX6_init_1 : decode cX6_init 1 = .ok (.invokespecial 1, 3) := dk_183 0 1 (dk_at dksX6_init_0 1 rfl rfl)
theorem dX6_init_4 : decode cX6_init 4 = .ok (.aload_n 0, 1) := dk_42 (dk_at dksX6_init_0 4 rfl rfl)
theorem dX6_init_5 : decode cX6_init 5 = .ok (.iconst (-1), 1) := dk_2 (dk_at dksX6_init_0 5 rfl rfl)
theorem dX6_init_6 : decode cX6_init 6 = .ok (.putfield 7, 3) := dk_181 0 7 (dk_at dksX6_init_0 6 rfl rfl)
theorem dX6_init_9 : decode cX6_init 9 = .ok (.return_, 1) := dk_177 (dk_at dksX6_init_0 9 rfl rfl)
abbrev cX6_ways : ByteArray := prog_17_method_4_code
def yX6_ways : MethodName := ⟨RX6, "ways", "()I"⟩
theorem dX6_ways_0 : decode cX6_ways 0 = .ok (.iconst 1, 1) := by decide +kernel
theorem dX6_ways_1 : decode cX6_ways 1 = .ok (.ireturn, 1) := by decide +kernel
abbrev cX6_row : ByteArray := prog_17_method_5_code
def yX6_row : MethodName := ⟨RX6, "row", "(ILLetterPost$Place;LLetterPost$Function;LLetterPost$Row;)V"⟩
def dkwX6_row_0 : List UInt8 := [42, 180, 0, 7, 155, 0, 14, 25, 4, 180, 0, 17, 42, 180, 0, 7, 44, 83, 177]
abbrev dktX6_row_0 : List UInt8 := dkwX6_row_0 ++ []
theorem dksX6_row_0 : cX6_row.data.toList.drop 0 = dktX6_row_0 := by decide +kernel
theorem dX6_row_0 : decode cX6_row 0 = .ok (.aload_n 0, 1) := dk_42 (dk_at dksX6_row_0 0 rfl rfl)
theorem dX6_row_1 : decode cX6_row 1 = .ok (.getfield 7, 3) := dk_180 0 7 (dk_at dksX6_row_0 1 rfl rfl)
theorem dX6_row_4 : decode cX6_row 4 = .ok (.ifCond .lt 14, 3) := dk_155 0 14 (dk_at dksX6_row_0 4 rfl rfl)
theorem dX6_row_7 : decode cX6_row 7 = .ok (.aload 4, 2) := dk_25 4 (dk_at dksX6_row_0 7 rfl rfl)
theorem dX6_row_9 : decode cX6_row 9 = .ok (.getfield 17, 3) := dk_180 0 17 (dk_at dksX6_row_0 9 rfl rfl)
theorem dX6_row_12 : decode cX6_row 12 = .ok (.aload_n 0, 1) := dk_42 (dk_at dksX6_row_0 12 rfl rfl)
theorem dX6_row_13 : decode cX6_row 13 = .ok (.getfield 7, 3) := dk_180 0 7 (dk_at dksX6_row_0 13 rfl rfl)
theorem dX6_row_16 : decode cX6_row 16 = .ok (.aload_n 2, 1) := dk_44 (dk_at dksX6_row_0 16 rfl rfl)
theorem dX6_row_17 : decode cX6_row 17 = .ok (.aastore, 1) := dk_83 (dk_at dksX6_row_0 17 rfl rfl)
theorem dX6_row_18 : decode cX6_row 18 = .ok (.return_, 1) := dk_177 (dk_at dksX6_row_0 18 rfl rfl)
abbrev cX6_fits : ByteArray := prog_17_method_2_code
def yX6_fits : MethodName := ⟨RX6, "fits", "(LLetterPost$Value;[LLetterPost$Value;)Z"⟩
def dkwX6_fits_1 : List UInt8 := [83, 4, 172]
abbrev dktX6_fits_1 : List UInt8 := dkwX6_fits_1 ++ []
def dkwX6_fits_0 : List UInt8 := [42, 43, 44, 182, 0, 13, 154, 0, 5, 3, 172, 42, 180, 0, 7, 155, 0, 10, 44, 42, 180, 0, 7, 43]
abbrev dktX6_fits_0 : List UInt8 := dkwX6_fits_0 ++ dktX6_fits_1
theorem dksX6_fits_0 : cX6_fits.data.toList.drop 0 = dktX6_fits_0 := by decide +kernel
theorem dksX6_fits_1 : cX6_fits.data.toList.drop 24 = dktX6_fits_1 := dk_seg dksX6_fits_0 24 rfl rfl
theorem dX6_fits_0 : decode cX6_fits 0 = .ok (.aload_n 0, 1) := dk_42 (dk_at dksX6_fits_0 0 rfl rfl)
theorem dX6_fits_1 : decode cX6_fits 1 = .ok (.aload_n 1, 1) := dk_43 (dk_at dksX6_fits_0 1 rfl rfl)
theorem dX6_fits_2 : decode cX6_fits 2 = .ok (.aload_n 2, 1) := dk_44 (dk_at dksX6_fits_0 2 rfl rfl)
theorem dX6_fits_3 : decode cX6_fits 3 = .ok (.invokevirtual 13, 3) := dk_182 0 13 (dk_at dksX6_fits_0 3 rfl rfl)
theorem dX6_fits_6 : decode cX6_fits 6 = .ok (.ifCond .ne 5, 3) := dk_154 0 5 (dk_at dksX6_fits_0 6 rfl rfl)
theorem dX6_fits_9 : decode cX6_fits 9 = .ok (.iconst 0, 1) := dk_3 (dk_at dksX6_fits_0 9 rfl rfl)
theorem dX6_fits_10 : decode cX6_fits 10 = .ok (.ireturn, 1) := dk_172 (dk_at dksX6_fits_0 10 rfl rfl)
theorem dX6_fits_11 : decode cX6_fits 11 = .ok (.aload_n 0, 1) := dk_42 (dk_at dksX6_fits_0 11 rfl rfl)
theorem dX6_fits_12 : decode cX6_fits 12 = .ok (.getfield 7, 3) := dk_180 0 7 (dk_at dksX6_fits_0 12 rfl rfl)
theorem dX6_fits_15 : decode cX6_fits 15 = .ok (.ifCond .lt 10, 3) := dk_155 0 10 (dk_at dksX6_fits_0 15 rfl rfl)
theorem dX6_fits_18 : decode cX6_fits 18 = .ok (.aload_n 2, 1) := dk_44 (dk_at dksX6_fits_0 18 rfl rfl)
theorem dX6_fits_19 : decode cX6_fits 19 = .ok (.aload_n 0, 1) := dk_42 (dk_at dksX6_fits_0 19 rfl rfl)
theorem dX6_fits_20 : decode cX6_fits 20 = .ok (.getfield 7, 3) := dk_180 0 7 (dk_at dksX6_fits_0 20 rfl rfl)
theorem dX6_fits_23 : decode cX6_fits 23 = .ok (.aload_n 1, 1) := dk_43 (dk_at dksX6_fits_0 23 rfl rfl)
theorem dX6_fits_24 : decode cX6_fits 24 = .ok (.aastore, 1) := dk_83 (dk_at dksX6_fits_1 0 rfl rfl)
theorem dX6_fits_25 : decode cX6_fits 25 = .ok (.iconst 1, 1) := dk_4 (dk_at dksX6_fits_1 1 rfl rfl)
theorem dX6_fits_26 : decode cX6_fits 26 = .ok (.ireturn, 1) := dk_172 (dk_at dksX6_fits_1 2 rfl rfl)
theorem q162 : (Jvm.Cond.initialized "LetterPost$Pattern") ∈ lw_all := lw_g (lw_at lw_m1 20 rfl) rfl
theorem q864 : (Jvm.Cond.instanceMethod ({ cls := "LetterPost$Pattern", name := "<init>", desc := "()V" } : Jvm.MethodName)) ∈ lw_all := lw_g (lw_at lw_m4 2 rfl) rfl
theorem q865 : (Jvm.Cond.code ({ cls := "LetterPost$Pattern", name := "<init>", desc := "()V" } : Jvm.MethodName) prog_17_method_1_code (1 : Nat) (Option.none : Option Jvm.ClassFile.FieldType)) ∈ lw_all := lw_g (lw_at lw_m4 3 rfl) rfl
theorem q866 : (Jvm.Cond.methodLink "LetterPost$Pattern" (1 : Nat) ({ cls := "java/lang/Object", name := "<init>", desc := "()V" } : Jvm.MethodName)) ∈ lw_all := lw_g (lw_at lw_m4 4 rfl) rfl
theorem q867 : (Jvm.Cond.fieldLink "LetterPost$Pattern" (7 : Nat) "LetterPost$Pattern" "name" "I") ∈ lw_all := lw_g (lw_at lw_m4 5 rfl) rfl
theorem q874 : (Jvm.Cond.soleField "LetterPost$Pattern" "name") ∈ lw_all := lw_g (lw_at lw_m4 12 rfl) rfl
theorem q1069 : (Jvm.Cond.instanceMethod ({ cls := "LetterPost$Pattern", name := "ways", desc := "()I" } : Jvm.MethodName)) ∈ lw_all := lw_g (lw_at lw_m4 207 rfl) rfl
theorem q1070 : (Jvm.Cond.sameMethod "LetterPost$Pattern" "LetterPost$Pattern" "ways" "()I") ∈ lw_all := lw_g (lw_at lw_m4 208 rfl) rfl
theorem q1085 : (Jvm.Cond.code ({ cls := "LetterPost$Pattern", name := "ways", desc := "()I" } : Jvm.MethodName) prog_17_method_4_code (1 : Nat) (Option.some Jvm.ClassFile.FieldType.int)) ∈ lw_all := lw_g (lw_at lw_m4 223 rfl) rfl
theorem q1112 : (Jvm.Cond.fieldLink "LetterPost$Pattern" (17 : Nat) "LetterPost$Row" "places" "[LLetterPost$Place;") ∈ lw_all := lw_g (lw_at lw_m5 10 rfl) rfl
theorem q1166 : (Jvm.Cond.instanceMethod ({ cls := "LetterPost$Pattern", name := "row", desc := "(ILLetterPost$Place;LLetterPost$Function;LLetterPost$Row;)V" } : Jvm.MethodName)) ∈ lw_all := lw_g (lw_at lw_m5 64 rfl) rfl
theorem q1167 : (Jvm.Cond.sameMethod "LetterPost$Pattern" "LetterPost$Pattern" "row" "(ILLetterPost$Place;LLetterPost$Function;LLetterPost$Row;)V") ∈ lw_all := lw_g (lw_at lw_m5 65 rfl) rfl
theorem q1194 : (Jvm.Cond.code ({ cls := "LetterPost$Pattern", name := "row", desc := "(ILLetterPost$Place;LLetterPost$Function;LLetterPost$Row;)V" } : Jvm.MethodName) prog_17_method_5_code (5 : Nat) (Option.none : Option Jvm.ClassFile.FieldType)) ∈ lw_all := lw_g (lw_at lw_m5 92 rfl) rfl
theorem q1984 : (Jvm.Cond.instanceMethod ({ cls := "LetterPost$Pattern", name := "fits", desc := "(LLetterPost$Value;[LLetterPost$Value;)Z" } : Jvm.MethodName)) ∈ lw_all := lw_g (lw_at lw_m8 162 rfl) rfl
theorem q1985 : (Jvm.Cond.sameMethod "LetterPost$Pattern" "LetterPost$Pattern" "fits" "(LLetterPost$Value;[LLetterPost$Value;)Z") ∈ lw_all := lw_g (lw_at lw_m8 163 rfl) rfl
theorem q1993 : (Jvm.Cond.code ({ cls := "LetterPost$Pattern", name := "fits", desc := "(LLetterPost$Value;[LLetterPost$Value;)Z" } : Jvm.MethodName) prog_17_method_2_code (3 : Nat) (Option.some Jvm.ClassFile.FieldType.boolean)) ∈ lw_all := lw_g (lw_at lw_m8 171 rfl) rfl
theorem q1994 : (Jvm.Cond.methodLink "LetterPost$Pattern" (13 : Nat) ({ cls := "LetterPost$Pattern", name := "holds", desc := "(LLetterPost$Value;[LLetterPost$Value;)Z" } : Jvm.MethodName)) ∈ lw_all := lw_g (lw_at lw_m8 172 rfl) rfl
theorem q1995 : (Jvm.Cond.declares ({ cls := "LetterPost$Pattern", name := "holds", desc := "(LLetterPost$Value;[LLetterPost$Value;)Z" } : Jvm.MethodName)) ∈ lw_tbl := lw_at lw_m8 173 rfl
theorem q1996 : (Jvm.Cond.sameMethod "LetterPost$Pattern" "LetterPost$Pattern" "holds" "(LLetterPost$Value;[LLetterPost$Value;)Z") ∈ lw_all := lw_g (lw_at lw_m8 174 rfl) rfl

/-! LetterPost$Any -/
set_option maxRecDepth 100000
def RX7 : String := "LetterPost$Any"
def TX7 : u_T := fun k => match k with
  | _ => ("LetterPost$Pattern", "name", "I", false)
def tyX7 : Nat → FieldType := fun k => match k with
  | _ => .int
abbrev wsX70 : List Cond := u_ws RX7 TX7 1
theorem nmX7 : ∀ a, a < 1 → ∀ b, b < 1 → a ≠ b → (TX7 a).2.1 ≠ (TX7 b).2.1 := by decide +kernel
theorem tyX7_ok : ∀ k, k < 1 → parseFieldDescriptor (TX7 k).2.2.1 = some (tyX7 k) := by decide +kernel
abbrev cX7_init : ByteArray := prog_3_method_1_code
def yX7_init : MethodName := ⟨RX7, "<init>", "()V"⟩
theorem dX7_init_0 : decode cX7_init 0 = .ok (.aload_n 0, 1) := by decide +kernel
theorem dX7_init_1 : decode cX7_init 1 = .ok (.invokespecial 1, 3) := by decide +kernel
theorem dX7_init_4 : decode cX7_init 4 = .ok (.return_, 1) := by decide +kernel
abbrev cX7_holds : ByteArray := prog_3_method_2_code
def yX7_holds : MethodName := ⟨RX7, "holds", "(LLetterPost$Value;[LLetterPost$Value;)Z"⟩
theorem dX7_holds_0 : decode cX7_holds 0 = .ok (.iconst 1, 1) := by decide +kernel
theorem dX7_holds_1 : decode cX7_holds 1 = .ok (.ireturn, 1) := by decide +kernel
theorem q163 : (Jvm.Cond.initialized "LetterPost$Any") ∈ lw_all := lw_g (lw_at lw_m1 21 rfl) rfl
theorem q859 : (Jvm.Cond.instantiable "LetterPost$Any" (1 : Nat)) ∈ lw_all := lw_g (lw_at lw_m3 237 rfl) rfl
theorem q861 : (Jvm.Cond.instanceMethod ({ cls := "LetterPost$Any", name := "<init>", desc := "()V" } : Jvm.MethodName)) ∈ lw_all := lw_g (lw_at lw_m3 239 rfl) rfl
theorem q862 : (Jvm.Cond.code ({ cls := "LetterPost$Any", name := "<init>", desc := "()V" } : Jvm.MethodName) prog_3_method_1_code (1 : Nat) (Option.none : Option Jvm.ClassFile.FieldType)) ∈ lw_all := lw_g (lw_at lw_m4 0 rfl) rfl
theorem q863 : (Jvm.Cond.methodLinkNest "LetterPost$Any" (1 : Nat) ({ cls := "LetterPost$Pattern", name := "<init>", desc := "()V" } : Jvm.MethodName) "LetterPost") ∈ lw_tbl := lw_at lw_m4 1 rfl
theorem q872 : (Jvm.Cond.sameField "LetterPost$Any" "LetterPost$Pattern" "name" "I") ∈ lw_all := lw_g (lw_at lw_m4 10 rfl) rfl
theorem q873 : (Jvm.Cond.lays "LetterPost$Any" "LetterPost$Pattern" "name" "I") ∈ lw_all := lw_g (lw_at lw_m4 11 rfl) rfl
theorem q875 : (Jvm.Cond.superclass "LetterPost$Any" "LetterPost$Pattern") ∈ lw_all := lw_g (lw_at lw_m4 13 rfl) rfl
theorem q1071 : (Jvm.Cond.selects "LetterPost$Any" ({ cls := "LetterPost$Pattern", name := "ways", desc := "()I" } : Jvm.MethodName) ({ cls := "LetterPost$Pattern", name := "ways", desc := "()I" } : Jvm.MethodName)) ∈ lw_all := lw_g (lw_at lw_m4 209 rfl) rfl
theorem q1168 : (Jvm.Cond.selects "LetterPost$Any" ({ cls := "LetterPost$Pattern", name := "row", desc := "(ILLetterPost$Place;LLetterPost$Function;LLetterPost$Row;)V" } : Jvm.MethodName) ({ cls := "LetterPost$Pattern", name := "row", desc := "(ILLetterPost$Place;LLetterPost$Function;LLetterPost$Row;)V" } : Jvm.MethodName)) ∈ lw_all := lw_g (lw_at lw_m5 66 rfl) rfl
theorem q1986 : (Jvm.Cond.selects "LetterPost$Any" ({ cls := "LetterPost$Pattern", name := "fits", desc := "(LLetterPost$Value;[LLetterPost$Value;)Z" } : Jvm.MethodName) ({ cls := "LetterPost$Pattern", name := "fits", desc := "(LLetterPost$Value;[LLetterPost$Value;)Z" } : Jvm.MethodName)) ∈ lw_all := lw_g (lw_at lw_m8 164 rfl) rfl
theorem q1997 : (Jvm.Cond.selects "LetterPost$Any" ({ cls := "LetterPost$Pattern", name := "holds", desc := "(LLetterPost$Value;[LLetterPost$Value;)Z" } : Jvm.MethodName) ({ cls := "LetterPost$Any", name := "holds", desc := "(LLetterPost$Value;[LLetterPost$Value;)Z" } : Jvm.MethodName)) ∈ lw_all := lw_g (lw_at lw_m8 175 rfl) rfl
theorem q1998 : (Jvm.Cond.instanceMethod ({ cls := "LetterPost$Any", name := "holds", desc := "(LLetterPost$Value;[LLetterPost$Value;)Z" } : Jvm.MethodName)) ∈ lw_all := lw_g (lw_at lw_m8 176 rfl) rfl
theorem q1999 : (Jvm.Cond.code ({ cls := "LetterPost$Any", name := "holds", desc := "(LLetterPost$Value;[LLetterPost$Value;)Z" } : Jvm.MethodName) prog_3_method_2_code (3 : Nat) (Option.some Jvm.ClassFile.FieldType.boolean)) ∈ lw_all := lw_g (lw_at lw_m8 177 rfl) rfl
theorem q3023 : (Jvm.Cond.castable "LetterPost$Any" "LetterPost$Pattern") ∈ lw_tbl := lw_at lw_m13 1 rfl
theorem in_X7 : ∀ w ∈ wsX70, w ∈ lw_all := lw_in wsX70 [873] (by decide +kernel) (by decide +kernel)

/-! LetterPost$Test -/
set_option maxRecDepth 100000
def RX8 : String := "LetterPost$Test"
abbrev cX8_init : ByteArray := prog_23_method_1_code
def yX8_init : MethodName := ⟨RX8, "<init>", "()V"⟩
theorem dX8_init_0 : decode cX8_init 0 = .ok (.aload_n 0, 1) := by decide +kernel
theorem dX8_init_1 : decode cX8_init 1 = .ok (.invokespecial 1, 3) := by decide +kernel
theorem dX8_init_4 : decode cX8_init 4 = .ok (.return_, 1) := by decide +kernel
abbrev cX8_row : ByteArray := prog_23_method_2_code
def yX8_row : MethodName := ⟨RX8, "row", "(ILLetterPost$Place;LLetterPost$Function;LLetterPost$Row;)V"⟩
def dkwX8_row_0 : List UInt8 := [25, 4, 44, 42, 182, 0, 7, 42, 27, 44, 45, 25, 4, 183, 0, 13, 177]
abbrev dktX8_row_0 : List UInt8 := dkwX8_row_0 ++ []
theorem dksX8_row_0 : cX8_row.data.toList.drop 0 = dktX8_row_0 := by decide +kernel
theorem dX8_row_0 : decode cX8_row 0 = .ok (.aload 4, 2) := dk_25 4 (dk_at dksX8_row_0 0 rfl rfl)
theorem dX8_row_2 : decode cX8_row 2 = .ok (.aload_n 2, 1) := dk_44 (dk_at dksX8_row_0 2 rfl rfl)
theorem dX8_row_3 : decode cX8_row 3 = .ok (.aload_n 0, 1) := dk_42 (dk_at dksX8_row_0 3 rfl rfl)
theorem dX8_row_4 : decode cX8_row 4 = .ok (.invokevirtual 7, 3) := dk_182 0 7 (dk_at dksX8_row_0 4 rfl rfl)
theorem dX8_row_7 : decode cX8_row 7 = .ok (.aload_n 0, 1) := dk_42 (dk_at dksX8_row_0 7 rfl rfl)
theorem dX8_row_8 : decode cX8_row 8 = .ok (.iload_n 1, 1) := dk_27 (dk_at dksX8_row_0 8 rfl rfl)
theorem dX8_row_9 : decode cX8_row 9 = .ok (.aload_n 2, 1) := dk_44 (dk_at dksX8_row_0 9 rfl rfl)
theorem dX8_row_10 : decode cX8_row 10 = .ok (.aload_n 3, 1) := dk_45 (dk_at dksX8_row_0 10 rfl rfl)
theorem dX8_row_11 : decode cX8_row 11 = .ok (.aload 4, 2) := dk_25 4 (dk_at dksX8_row_0 11 rfl rfl)
theorem dX8_row_13 : decode cX8_row 13 = .ok (.invokespecial 13, 3) := dk_183 0 13 (dk_at dksX8_row_0 13 rfl rfl)
theorem dX8_row_16 : decode cX8_row 16 = .ok (.return_, 1) := dk_177 (dk_at dksX8_row_0 16 rfl rfl)
theorem q164 : (Jvm.Cond.initialized "LetterPost$Test") ∈ lw_all := lw_g (lw_at lw_m1 22 rfl) rfl
theorem q903 : (Jvm.Cond.instanceMethod ({ cls := "LetterPost$Test", name := "<init>", desc := "()V" } : Jvm.MethodName)) ∈ lw_all := lw_g (lw_at lw_m4 41 rfl) rfl
theorem q904 : (Jvm.Cond.code ({ cls := "LetterPost$Test", name := "<init>", desc := "()V" } : Jvm.MethodName) prog_23_method_1_code (1 : Nat) (Option.none : Option Jvm.ClassFile.FieldType)) ∈ lw_all := lw_g (lw_at lw_m4 42 rfl) rfl
theorem q905 : (Jvm.Cond.methodLinkNest "LetterPost$Test" (1 : Nat) ({ cls := "LetterPost$Pattern", name := "<init>", desc := "()V" } : Jvm.MethodName) "LetterPost") ∈ lw_tbl := lw_at lw_m4 43 rfl
theorem q1176 : (Jvm.Cond.instanceMethod ({ cls := "LetterPost$Test", name := "row", desc := "(ILLetterPost$Place;LLetterPost$Function;LLetterPost$Row;)V" } : Jvm.MethodName)) ∈ lw_all := lw_g (lw_at lw_m5 74 rfl) rfl
theorem q1177 : (Jvm.Cond.code ({ cls := "LetterPost$Test", name := "row", desc := "(ILLetterPost$Place;LLetterPost$Function;LLetterPost$Row;)V" } : Jvm.MethodName) prog_23_method_2_code (5 : Nat) (Option.none : Option Jvm.ClassFile.FieldType)) ∈ lw_all := lw_g (lw_at lw_m5 75 rfl) rfl
theorem q1178 : (Jvm.Cond.methodLink "LetterPost$Test" (7 : Nat) ({ cls := "LetterPost$Row", name := "add", desc := "(LLetterPost$Place;LLetterPost$Test;)V" } : Jvm.MethodName)) ∈ lw_all := lw_g (lw_at lw_m5 76 rfl) rfl
theorem q1183 : (Jvm.Cond.methodLink "LetterPost$Test" (13 : Nat) ({ cls := "LetterPost$Pattern", name := "row", desc := "(ILLetterPost$Place;LLetterPost$Function;LLetterPost$Row;)V" } : Jvm.MethodName)) ∈ lw_all := lw_g (lw_at lw_m5 81 rfl) rfl
theorem q1184 : (Jvm.Cond.superclass "LetterPost$Test" "LetterPost$Pattern") ∈ lw_all := lw_g (lw_at lw_m5 82 rfl) rfl
theorem q1295 : (Jvm.Cond.declares ({ cls := "LetterPost$Test", name := "by", desc := "(LLetterPost$Known;LLetterPost$Place;)I" } : Jvm.MethodName)) ∈ lw_tbl := lw_at lw_m5 193 rfl
theorem q1296 : (Jvm.Cond.sameMethod "LetterPost$Test" "LetterPost$Test" "by" "(LLetterPost$Known;LLetterPost$Place;)I") ∈ lw_all := lw_g (lw_at lw_m5 194 rfl) rfl
theorem q2999 : (Jvm.Cond.sameMethod "LetterPost$Test" "LetterPost$Test" "row" "(ILLetterPost$Place;LLetterPost$Function;LLetterPost$Row;)V") ∈ lw_all := lw_g (lw_at lw_m12 217 rfl) rfl
theorem q3047 : (Jvm.Cond.castable "LetterPost$Test" "LetterPost$Pattern") ∈ lw_tbl := lw_at lw_m13 25 rfl

/-! LetterPost$Range -/
set_option maxRecDepth 100000
def RX9 : String := "LetterPost$Range"
def TX9 : u_T := fun k => match k with
  | 0 => ("LetterPost$Pattern", "name", "I", false)
  | 1 => ("LetterPost$Range", "low", "I", true)
  | _ => ("LetterPost$Range", "high", "I", true)
def tyX9 : Nat → FieldType := fun k => match k with
  | 0 => .int
  | 1 => .int
  | _ => .int
abbrev wsX90 : List Cond := u_ws RX9 TX9 3
theorem nmX9 : ∀ a, a < 3 → ∀ b, b < 3 → a ≠ b → (TX9 a).2.1 ≠ (TX9 b).2.1 := by decide +kernel
theorem tyX9_ok : ∀ k, k < 3 → parseFieldDescriptor (TX9 k).2.2.1 = some (tyX9 k) := by decide +kernel
abbrev cX9_init : ByteArray := prog_19_method_1_code
def yX9_init : MethodName := ⟨RX9, "<init>", "(II)V"⟩
def dkwX9_init_0 : List UInt8 := [42, 183, 0, 1, 42, 27, 181, 0, 7, 42, 28, 181, 0, 13, 177]
abbrev dktX9_init_0 : List UInt8 := dkwX9_init_0 ++ []
theorem dksX9_init_0 : cX9_init.data.toList.drop 0 = dktX9_init_0 := by decide +kernel
theorem dX9_init_0 : decode cX9_init 0 = .ok (.aload_n 0, 1) := dk_42 (dk_at dksX9_init_0 0 rfl rfl)
theorem dX9_init_1 : decode cX9_init 1 = .ok (.invokespecial 1, 3) := dk_183 0 1 (dk_at dksX9_init_0 1 rfl rfl)
theorem dX9_init_4 : decode cX9_init 4 = .ok (.aload_n 0, 1) := dk_42 (dk_at dksX9_init_0 4 rfl rfl)
theorem dX9_init_5 : decode cX9_init 5 = .ok (.iload_n 1, 1) := dk_27 (dk_at dksX9_init_0 5 rfl rfl)
theorem dX9_init_6 : decode cX9_init 6 = .ok (.putfield 7, 3) := dk_181 0 7 (dk_at dksX9_init_0 6 rfl rfl)
theorem dX9_init_9 : decode cX9_init 9 = .ok (.aload_n 0, 1) := dk_42 (dk_at dksX9_init_0 9 rfl rfl)
theorem dX9_init_10 : decode cX9_init 10 = .ok (.iload_n 2, 1) := dk_28 (dk_at dksX9_init_0 10 rfl rfl)
theorem dX9_init_11 : decode cX9_init 11 = .ok (.putfield 13, 3) := dk_181 0 13 (dk_at dksX9_init_0 11 rfl rfl)
theorem dX9_init_14 : decode cX9_init 14 = .ok (.return_, 1) := dk_177 (dk_at dksX9_init_0 14 rfl rfl)
abbrev cX9_by : ByteArray := prog_19_method_3_code
def yX9_by : MethodName := ⟨RX9, "by", "(LLetterPost$Known;LLetterPost$Place;)I"⟩
def dkwX9_by_2 : List UInt8 := [29, 161, 0, 12, 42, 180, 0, 7, 21, 4, 164, 0, 7, 2, 167, 0, 4, 3, 172]
abbrev dktX9_by_2 : List UInt8 := dkwX9_by_2 ++ []
def dkwX9_by_1 : List UInt8 := [180, 0, 7, 29, 163, 0, 16, 21, 4, 42, 180, 0, 13, 163, 0, 7, 4, 167, 0, 25, 42, 180, 0, 13]
abbrev dktX9_by_1 : List UInt8 := dkwX9_by_1 ++ dktX9_by_2
def dkwX9_by_0 : List UInt8 := [43, 180, 0, 27, 44, 180, 0, 32, 46, 62, 43, 180, 0, 37, 44, 180, 0, 32, 46, 54, 4, 42]
abbrev dktX9_by_0 : List UInt8 := dkwX9_by_0 ++ dktX9_by_1
theorem dksX9_by_0 : cX9_by.data.toList.drop 0 = dktX9_by_0 := by decide +kernel
theorem dksX9_by_1 : cX9_by.data.toList.drop 22 = dktX9_by_1 := dk_seg dksX9_by_0 22 rfl rfl
theorem dksX9_by_2 : cX9_by.data.toList.drop 46 = dktX9_by_2 := dk_seg dksX9_by_1 24 rfl rfl
theorem dX9_by_0 : decode cX9_by 0 = .ok (.aload_n 1, 1) := dk_43 (dk_at dksX9_by_0 0 rfl rfl)
theorem dX9_by_1 : decode cX9_by 1 = .ok (.getfield 27, 3) := dk_180 0 27 (dk_at dksX9_by_0 1 rfl rfl)
theorem dX9_by_4 : decode cX9_by 4 = .ok (.aload_n 2, 1) := dk_44 (dk_at dksX9_by_0 4 rfl rfl)
theorem dX9_by_5 : decode cX9_by 5 = .ok (.getfield 32, 3) := dk_180 0 32 (dk_at dksX9_by_0 5 rfl rfl)
theorem dX9_by_8 : decode cX9_by 8 = .ok (.iaload, 1) := dk_46 (dk_at dksX9_by_0 8 rfl rfl)
theorem dX9_by_9 : decode cX9_by 9 = .ok (.istore_n 3, 1) := dk_62 (dk_at dksX9_by_0 9 rfl rfl)
theorem dX9_by_10 : decode cX9_by 10 = .ok (.aload_n 1, 1) := dk_43 (dk_at dksX9_by_0 10 rfl rfl)
theorem dX9_by_11 : decode cX9_by 11 = .ok (.getfield 37, 3) := dk_180 0 37 (dk_at dksX9_by_0 11 rfl rfl)
theorem dX9_by_14 : decode cX9_by 14 = .ok (.aload_n 2, 1) := dk_44 (dk_at dksX9_by_0 14 rfl rfl)
theorem dX9_by_15 : decode cX9_by 15 = .ok (.getfield 32, 3) := dk_180 0 32 (dk_at dksX9_by_0 15 rfl rfl)
theorem dX9_by_18 : decode cX9_by 18 = .ok (.iaload, 1) := dk_46 (dk_at dksX9_by_0 18 rfl rfl)
theorem dX9_by_19 : decode cX9_by 19 = .ok (.istore 4, 2) := dk_54 4 (dk_at dksX9_by_0 19 rfl rfl)
theorem dX9_by_21 : decode cX9_by 21 = .ok (.aload_n 0, 1) := dk_42 (dk_at dksX9_by_0 21 rfl rfl)
theorem dX9_by_22 : decode cX9_by 22 = .ok (.getfield 7, 3) := dk_180 0 7 (dk_at dksX9_by_1 0 rfl rfl)
theorem dX9_by_25 : decode cX9_by 25 = .ok (.iload_n 3, 1) := dk_29 (dk_at dksX9_by_1 3 rfl rfl)
theorem dX9_by_26 : decode cX9_by 26 = .ok (.if_icmp .gt 16, 3) := dk_163 0 16 (dk_at dksX9_by_1 4 rfl rfl)
theorem dX9_by_29 : decode cX9_by 29 = .ok (.iload 4, 2) := dk_21 4 (dk_at dksX9_by_1 7 rfl rfl)
theorem dX9_by_31 : decode cX9_by 31 = .ok (.aload_n 0, 1) := dk_42 (dk_at dksX9_by_1 9 rfl rfl)
theorem dX9_by_32 : decode cX9_by 32 = .ok (.getfield 13, 3) := dk_180 0 13 (dk_at dksX9_by_1 10 rfl rfl)
theorem dX9_by_35 : decode cX9_by 35 = .ok (.if_icmp .gt 7, 3) := dk_163 0 7 (dk_at dksX9_by_1 13 rfl rfl)
theorem dX9_by_38 : decode cX9_by 38 = .ok (.iconst 1, 1) := dk_4 (dk_at dksX9_by_1 16 rfl rfl)
theorem dX9_by_39 : decode cX9_by 39 = .ok (.goto 25, 3) := dk_167 0 25 (dk_at dksX9_by_1 17 rfl rfl)
theorem dX9_by_42 : decode cX9_by 42 = .ok (.aload_n 0, 1) := dk_42 (dk_at dksX9_by_1 20 rfl rfl)
theorem dX9_by_43 : decode cX9_by 43 = .ok (.getfield 13, 3) := dk_180 0 13 (dk_at dksX9_by_1 21 rfl rfl)
theorem dX9_by_46 : decode cX9_by 46 = .ok (.iload_n 3, 1) := dk_29 (dk_at dksX9_by_2 0 rfl rfl)
theorem dX9_by_47 : decode cX9_by 47 = .ok (.if_icmp .lt 12, 3) := dk_161 0 12 (dk_at dksX9_by_2 1 rfl rfl)
theorem dX9_by_50 : decode cX9_by 50 = .ok (.aload_n 0, 1) := dk_42 (dk_at dksX9_by_2 4 rfl rfl)
theorem dX9_by_51 : decode cX9_by 51 = .ok (.getfield 7, 3) := dk_180 0 7 (dk_at dksX9_by_2 5 rfl rfl)
theorem dX9_by_54 : decode cX9_by 54 = .ok (.iload 4, 2) := dk_21 4 (dk_at dksX9_by_2 8 rfl rfl)
theorem dX9_by_56 : decode cX9_by 56 = .ok (.if_icmp .le 7, 3) := dk_164 0 7 (dk_at dksX9_by_2 10 rfl rfl)
theorem dX9_by_59 : decode cX9_by 59 = .ok (.iconst (-1), 1) := dk_2 (dk_at dksX9_by_2 13 rfl rfl)
theorem dX9_by_60 : decode cX9_by 60 = .ok (.goto 4, 3) := dk_167 0 4 (dk_at dksX9_by_2 14 rfl rfl)
theorem dX9_by_63 : decode cX9_by 63 = .ok (.iconst 0, 1) := dk_3 (dk_at dksX9_by_2 17 rfl rfl)
theorem dX9_by_64 : decode cX9_by 64 = .ok (.ireturn, 1) := dk_172 (dk_at dksX9_by_2 18 rfl rfl)
abbrev cX9_holds : ByteArray := prog_19_method_2_code
def yX9_holds : MethodName := ⟨RX9, "holds", "(LLetterPost$Value;[LLetterPost$Value;)Z"⟩
def dkwX9_holds_0 : List UInt8 := [43, 192, 0, 16, 180, 0, 18, 133, 42, 180, 0, 7, 133, 42, 180, 0, 13, 133, 184, 0, 21, 172]
abbrev dktX9_holds_0 : List UInt8 := dkwX9_holds_0 ++ []
theorem dksX9_holds_0 : cX9_holds.data.toList.drop 0 = dktX9_holds_0 := by decide +kernel
theorem dX9_holds_0 : decode cX9_holds 0 = .ok (.aload_n 1, 1) := dk_43 (dk_at dksX9_holds_0 0 rfl rfl)
theorem dX9_holds_1 : decode cX9_holds 1 = .ok (.checkcast 16, 3) := dk_192 0 16 (dk_at dksX9_holds_0 1 rfl rfl)
theorem dX9_holds_4 : decode cX9_holds 4 = .ok (.getfield 18, 3) := dk_180 0 18 (dk_at dksX9_holds_0 4 rfl rfl)
theorem dX9_holds_7 : decode cX9_holds 7 = .ok (.i2l, 1) := dk_133 (dk_at dksX9_holds_0 7 rfl rfl)
theorem dX9_holds_8 : decode cX9_holds 8 = .ok (.aload_n 0, 1) := dk_42 (dk_at dksX9_holds_0 8 rfl rfl)
theorem dX9_holds_9 : decode cX9_holds 9 = .ok (.getfield 7, 3) := dk_180 0 7 (dk_at dksX9_holds_0 9 rfl rfl)
theorem dX9_holds_12 : decode cX9_holds 12 = .ok (.i2l, 1) := dk_133 (dk_at dksX9_holds_0 12 rfl rfl)
theorem dX9_holds_13 : decode cX9_holds 13 = .ok (.aload_n 0, 1) := dk_42 (dk_at dksX9_holds_0 13 rfl rfl)
theorem dX9_holds_14 : decode cX9_holds 14 = .ok (.getfield 13, 3) := dk_180 0 13 (dk_at dksX9_holds_0 14 rfl rfl)
theorem dX9_holds_17 : decode cX9_holds 17 = .ok (.i2l, 1) := dk_133 (dk_at dksX9_holds_0 17 rfl rfl)
theorem dX9_holds_18 : decode cX9_holds 18 = .ok (.invokestatic 21, 3) := dk_184 0 21 (dk_at dksX9_holds_0 18 rfl rfl)
theorem dX9_holds_21 : decode cX9_holds 21 = .ok (.ireturn, 1) := dk_172 (dk_at dksX9_holds_0 21 rfl rfl)
theorem q165 : (Jvm.Cond.initialized "LetterPost$Range") ∈ lw_all := lw_g (lw_at lw_m1 23 rfl) rfl
theorem q898 : (Jvm.Cond.instantiable "LetterPost$Range" (3 : Nat)) ∈ lw_all := lw_g (lw_at lw_m4 36 rfl) rfl
theorem q900 : (Jvm.Cond.instanceMethod ({ cls := "LetterPost$Range", name := "<init>", desc := "(II)V" } : Jvm.MethodName)) ∈ lw_all := lw_g (lw_at lw_m4 38 rfl) rfl
theorem q901 : (Jvm.Cond.code ({ cls := "LetterPost$Range", name := "<init>", desc := "(II)V" } : Jvm.MethodName) prog_19_method_1_code (3 : Nat) (Option.none : Option Jvm.ClassFile.FieldType)) ∈ lw_all := lw_g (lw_at lw_m4 39 rfl) rfl
theorem q902 : (Jvm.Cond.methodLinkNest "LetterPost$Range" (1 : Nat) ({ cls := "LetterPost$Test", name := "<init>", desc := "()V" } : Jvm.MethodName) "LetterPost") ∈ lw_tbl := lw_at lw_m4 40 rfl
theorem q906 : (Jvm.Cond.fieldLink "LetterPost$Range" (7 : Nat) "LetterPost$Range" "low" "I") ∈ lw_all := lw_g (lw_at lw_m4 44 rfl) rfl
theorem q908 : (Jvm.Cond.fieldLink "LetterPost$Range" (13 : Nat) "LetterPost$Range" "high" "I") ∈ lw_all := lw_g (lw_at lw_m4 46 rfl) rfl
theorem q910 : (Jvm.Cond.laysFinal "LetterPost$Range" "LetterPost$Range" "low" "I") ∈ lw_all := lw_g (lw_at lw_m4 48 rfl) rfl
theorem q911 : (Jvm.Cond.soleField "LetterPost$Range" "low") ∈ lw_all := lw_g (lw_at lw_m4 49 rfl) rfl
theorem q912 : (Jvm.Cond.laysFinal "LetterPost$Range" "LetterPost$Range" "high" "I") ∈ lw_all := lw_g (lw_at lw_m4 50 rfl) rfl
theorem q913 : (Jvm.Cond.soleField "LetterPost$Range" "high") ∈ lw_all := lw_g (lw_at lw_m4 51 rfl) rfl
theorem q914 : (Jvm.Cond.lays "LetterPost$Range" "LetterPost$Pattern" "name" "I") ∈ lw_all := lw_g (lw_at lw_m4 52 rfl) rfl
theorem q915 : (Jvm.Cond.superclass "LetterPost$Range" "LetterPost$Test") ∈ lw_all := lw_g (lw_at lw_m4 53 rfl) rfl
theorem q1082 : (Jvm.Cond.selects "LetterPost$Range" ({ cls := "LetterPost$Pattern", name := "ways", desc := "()I" } : Jvm.MethodName) ({ cls := "LetterPost$Pattern", name := "ways", desc := "()I" } : Jvm.MethodName)) ∈ lw_all := lw_g (lw_at lw_m4 220 rfl) rfl
theorem q1145 : (Jvm.Cond.fieldLink "LetterPost$Range" (32 : Nat) "LetterPost$Place" "number" "I") ∈ lw_all := lw_g (lw_at lw_m5 43 rfl) rfl
theorem q1191 : (Jvm.Cond.selects "LetterPost$Range" ({ cls := "LetterPost$Pattern", name := "row", desc := "(ILLetterPost$Place;LLetterPost$Function;LLetterPost$Row;)V" } : Jvm.MethodName) ({ cls := "LetterPost$Test", name := "row", desc := "(ILLetterPost$Place;LLetterPost$Function;LLetterPost$Row;)V" } : Jvm.MethodName)) ∈ lw_all := lw_g (lw_at lw_m5 89 rfl) rfl
theorem q1233 : (Jvm.Cond.fieldLink "LetterPost$Range" (27 : Nat) "LetterPost$Known" "low" "[I") ∈ lw_all := lw_g (lw_at lw_m5 131 rfl) rfl
theorem q1236 : (Jvm.Cond.fieldLink "LetterPost$Range" (37 : Nat) "LetterPost$Known" "high" "[I") ∈ lw_all := lw_g (lw_at lw_m5 134 rfl) rfl
theorem q1304 : (Jvm.Cond.selects "LetterPost$Range" ({ cls := "LetterPost$Test", name := "by", desc := "(LLetterPost$Known;LLetterPost$Place;)I" } : Jvm.MethodName) ({ cls := "LetterPost$Range", name := "by", desc := "(LLetterPost$Known;LLetterPost$Place;)I" } : Jvm.MethodName)) ∈ lw_all := lw_g (lw_at lw_m5 202 rfl) rfl
theorem q1305 : (Jvm.Cond.instanceMethod ({ cls := "LetterPost$Range", name := "by", desc := "(LLetterPost$Known;LLetterPost$Place;)I" } : Jvm.MethodName)) ∈ lw_all := lw_g (lw_at lw_m5 203 rfl) rfl
theorem q1306 : (Jvm.Cond.code ({ cls := "LetterPost$Range", name := "by", desc := "(LLetterPost$Known;LLetterPost$Place;)I" } : Jvm.MethodName) prog_19_method_3_code (5 : Nat) (Option.some Jvm.ClassFile.FieldType.int)) ∈ lw_all := lw_g (lw_at lw_m5 204 rfl) rfl
theorem q1703 : (Jvm.Cond.fieldLink "LetterPost$Range" (18 : Nat) "LetterPost$Whole" "v" "I") ∈ lw_all := lw_g (lw_at lw_m7 121 rfl) rfl
theorem q1990 : (Jvm.Cond.selects "LetterPost$Range" ({ cls := "LetterPost$Pattern", name := "fits", desc := "(LLetterPost$Value;[LLetterPost$Value;)Z" } : Jvm.MethodName) ({ cls := "LetterPost$Pattern", name := "fits", desc := "(LLetterPost$Value;[LLetterPost$Value;)Z" } : Jvm.MethodName)) ∈ lw_all := lw_g (lw_at lw_m8 168 rfl) rfl
theorem q2014 : (Jvm.Cond.selects "LetterPost$Range" ({ cls := "LetterPost$Pattern", name := "holds", desc := "(LLetterPost$Value;[LLetterPost$Value;)Z" } : Jvm.MethodName) ({ cls := "LetterPost$Range", name := "holds", desc := "(LLetterPost$Value;[LLetterPost$Value;)Z" } : Jvm.MethodName)) ∈ lw_all := lw_g (lw_at lw_m8 192 rfl) rfl
theorem q2015 : (Jvm.Cond.instanceMethod ({ cls := "LetterPost$Range", name := "holds", desc := "(LLetterPost$Value;[LLetterPost$Value;)Z" } : Jvm.MethodName)) ∈ lw_all := lw_g (lw_at lw_m8 193 rfl) rfl
theorem q2016 : (Jvm.Cond.code ({ cls := "LetterPost$Range", name := "holds", desc := "(LLetterPost$Value;[LLetterPost$Value;)Z" } : Jvm.MethodName) prog_19_method_2_code (3 : Nat) (Option.some Jvm.ClassFile.FieldType.boolean)) ∈ lw_all := lw_g (lw_at lw_m8 194 rfl) rfl
theorem q2017 : (Jvm.Cond.classLink "LetterPost$Range" (16 : Nat) "LetterPost$Whole") ∈ lw_all := lw_g (lw_at lw_m8 195 rfl) rfl
theorem q2018 : (Jvm.Cond.methodLinkNest "LetterPost$Range" (21 : Nat) ({ cls := "LetterPost", name := "isIn", desc := "(JJJ)Z" } : Jvm.MethodName) "LetterPost") ∈ lw_tbl := lw_at lw_m8 196 rfl
theorem q3024 : (Jvm.Cond.castable "LetterPost$Range" "LetterPost$Pattern") ∈ lw_tbl := lw_at lw_m13 2 rfl
theorem q3030 : (Jvm.Cond.castable "LetterPost$Range" "LetterPost$Test") ∈ lw_tbl := lw_at lw_m13 8 rfl
theorem in_X9 : ∀ w ∈ wsX90, w ∈ lw_all := lw_in wsX90 [914, 910, 912] (by decide +kernel) (by decide +kernel)

/-! LetterPost$Kinded -/
set_option maxRecDepth 100000
def RX10 : String := "LetterPost$Kinded"
def TX10 : u_T := fun k => match k with
  | 0 => ("LetterPost$Pattern", "name", "I", false)
  | 1 => ("LetterPost$Kinded", "kind", "LLetterPost$Kind;", true)
  | _ => ("LetterPost$Kinded", "parts", "[LLetterPost$Pattern;", true)
def tyX10 : Nat → FieldType := fun k => match k with
  | 0 => .int
  | 1 => .object "LetterPost$Kind"
  | _ => .array (.object "LetterPost$Pattern")
abbrev wsX100 : List Cond := u_ws RX10 TX10 3
theorem nmX10 : ∀ a, a < 3 → ∀ b, b < 3 → a ≠ b → (TX10 a).2.1 ≠ (TX10 b).2.1 := by decide +kernel
theorem tyX10_ok : ∀ k, k < 3 → parseFieldDescriptor (TX10 k).2.2.1 = some (tyX10 k) := by decide +kernel
abbrev cX10_init : ByteArray := prog_10_method_1_code
def yX10_init : MethodName := ⟨RX10, "<init>", "(LLetterPost$Kind;[LLetterPost$Pattern;)V"⟩
def dkwX10_init_0 : List UInt8 := [42, 183, 0, 1, 42, 43, 181, 0, 7, 42, 44, 181, 0, 13, 177]
abbrev dktX10_init_0 : List UInt8 := dkwX10_init_0 ++ []
theorem dksX10_init_0 : cX10_init.data.toList.drop 0 = dktX10_init_0 := by decide +kernel
theorem dX10_init_0 : decode cX10_init 0 = .ok (.aload_n 0, 1) := dk_42 (dk_at dksX10_init_0 0 rfl rfl)
theorem dX10_init_1 : decode cX10_init 1 = .ok (.invokespecial 1, 3) := dk_183 0 1 (dk_at dksX10_init_0 1 rfl rfl)
theorem dX10_init_4 : decode cX10_init 4 = .ok (.aload_n 0, 1) := dk_42 (dk_at dksX10_init_0 4 rfl rfl)
theorem dX10_init_5 : decode cX10_init 5 = .ok (.aload_n 1, 1) := dk_43 (dk_at dksX10_init_0 5 rfl rfl)
theorem dX10_init_6 : decode cX10_init 6 = .ok (.putfield 7, 3) := dk_181 0 7 (dk_at dksX10_init_0 6 rfl rfl)
theorem dX10_init_9 : decode cX10_init 9 = .ok (.aload_n 0, 1) := dk_42 (dk_at dksX10_init_0 9 rfl rfl)
theorem dX10_init_10 : decode cX10_init 10 = .ok (.aload_n 2, 1) := dk_44 (dk_at dksX10_init_0 10 rfl rfl)
theorem dX10_init_11 : decode cX10_init 11 = .ok (.putfield 13, 3) := dk_181 0 13 (dk_at dksX10_init_0 11 rfl rfl)
theorem dX10_init_14 : decode cX10_init 14 = .ok (.return_, 1) := dk_177 (dk_at dksX10_init_0 14 rfl rfl)
abbrev cX10_ways : ByteArray := prog_10_method_3_code
def yX10_ways : MethodName := ⟨RX10, "ways", "()I"⟩
def dkwX10_ways_0 : List UInt8 := [42, 180, 0, 13, 184, 0, 39, 172]
abbrev dktX10_ways_0 : List UInt8 := dkwX10_ways_0 ++ []
theorem dksX10_ways_0 : cX10_ways.data.toList.drop 0 = dktX10_ways_0 := by decide +kernel
theorem dX10_ways_0 : decode cX10_ways 0 = .ok (.aload_n 0, 1) := dk_42 (dk_at dksX10_ways_0 0 rfl rfl)
theorem dX10_ways_1 : decode cX10_ways 1 = .ok (.getfield 13, 3) := dk_180 0 13 (dk_at dksX10_ways_0 1 rfl rfl)
theorem dX10_ways_4 : decode cX10_ways 4 = .ok (.invokestatic 39, 3) := dk_184 0 39 (dk_at dksX10_ways_0 4 rfl rfl)
theorem dX10_ways_7 : decode cX10_ways 7 = .ok (.ireturn, 1) := dk_172 (dk_at dksX10_ways_0 7 rfl rfl)
abbrev cX10_row : ByteArray := prog_10_method_4_code
def yX10_row : MethodName := ⟨RX10, "row", "(ILLetterPost$Place;LLetterPost$Function;LLetterPost$Row;)V"⟩
def dkwX10_row_4 : List UInt8 := [132, 7, 1, 167, 255, 182, 177]
abbrev dktX10_row_4 : List UInt8 := dkwX10_row_4 ++ []
def dkwX10_row_3 : List UInt8 := [180, 0, 54, 21, 7, 46, 182, 0, 58, 45, 25, 4, 182, 0, 64, 21, 6, 21, 5, 112, 54, 6]
abbrev dktX10_row_3 : List UInt8 := dkwX10_row_3 ++ dktX10_row_4
def dkwX10_row_2 : List UInt8 := [180, 0, 13, 21, 7, 50, 21, 6, 21, 5, 108, 45, 44, 42, 180, 0, 7, 21, 7, 42, 180, 0, 7]
abbrev dktX10_row_2 : List UInt8 := dkwX10_row_2 ++ dktX10_row_3
def dkwX10_row_1 : List UInt8 := [180, 0, 13, 190, 162, 0, 70, 21, 5, 42, 180, 0, 13, 21, 7, 50, 182, 0, 53, 108, 54, 5, 42]
abbrev dktX10_row_1 : List UInt8 := dkwX10_row_1 ++ dktX10_row_2
def dkwX10_row_0 : List UInt8 := [42, 27, 44, 45, 25, 4, 183, 0, 45, 42, 182, 0, 49, 54, 5, 27, 54, 6, 3, 54, 7, 21, 7, 42]
abbrev dktX10_row_0 : List UInt8 := dkwX10_row_0 ++ dktX10_row_1
theorem dksX10_row_0 : cX10_row.data.toList.drop 0 = dktX10_row_0 := by decide +kernel
theorem dksX10_row_1 : cX10_row.data.toList.drop 24 = dktX10_row_1 := dk_seg dksX10_row_0 24 rfl rfl
theorem dksX10_row_2 : cX10_row.data.toList.drop 47 = dktX10_row_2 := dk_seg dksX10_row_1 23 rfl rfl
theorem dksX10_row_3 : cX10_row.data.toList.drop 70 = dktX10_row_3 := dk_seg dksX10_row_2 23 rfl rfl
theorem dksX10_row_4 : cX10_row.data.toList.drop 92 = dktX10_row_4 := dk_seg dksX10_row_3 22 rfl rfl
theorem dX10_row_0 : decode cX10_row 0 = .ok (.aload_n 0, 1) := dk_42 (dk_at dksX10_row_0 0 rfl rfl)
theorem dX10_row_1 : decode cX10_row 1 = .ok (.iload_n 1, 1) := dk_27 (dk_at dksX10_row_0 1 rfl rfl)
theorem dX10_row_2 : decode cX10_row 2 = .ok (.aload_n 2, 1) := dk_44 (dk_at dksX10_row_0 2 rfl rfl)
theorem dX10_row_3 : decode cX10_row 3 = .ok (.aload_n 3, 1) := dk_45 (dk_at dksX10_row_0 3 rfl rfl)
theorem dX10_row_4 : decode cX10_row 4 = .ok (.aload 4, 2) := dk_25 4 (dk_at dksX10_row_0 4 rfl rfl)
theorem dX10_row_6 : decode cX10_row 6 = .ok (.invokespecial 45, 3) := dk_183 0 45 (dk_at dksX10_row_0 6 rfl rfl)
theorem dX10_row_9 : decode cX10_row 9 = .ok (.aload_n 0, 1) := dk_42 (dk_at dksX10_row_0 9 rfl rfl)
theorem dX10_row_10 : decode cX10_row 10 = .ok (.invokevirtual 49, 3) := dk_182 0 49 (dk_at dksX10_row_0 10 rfl rfl)
theorem dX10_row_13 : decode cX10_row 13 = .ok (.istore 5, 2) := dk_54 5 (dk_at dksX10_row_0 13 rfl rfl)
theorem dX10_row_15 : decode cX10_row 15 = .ok (.iload_n 1, 1) := dk_27 (dk_at dksX10_row_0 15 rfl rfl)
theorem dX10_row_16 : decode cX10_row 16 = .ok (.istore 6, 2) := dk_54 6 (dk_at dksX10_row_0 16 rfl rfl)
theorem dX10_row_18 : decode cX10_row 18 = .ok (.iconst 0, 1) := dk_3 (dk_at dksX10_row_0 18 rfl rfl)
theorem dX10_row_19 : decode cX10_row 19 = .ok (.istore 7, 2) := dk_54 7 (dk_at dksX10_row_0 19 rfl rfl)
theorem dX10_row_21 : decode cX10_row 21 = .ok (.iload 7, 2) := dk_21 7 (dk_at dksX10_row_0 21 rfl rfl)
theorem dX10_row_23 : decode cX10_row 23 = .ok (.aload_n 0, 1) := dk_42 (dk_at dksX10_row_0 23 rfl rfl)
theorem dX10_row_24 : decode cX10_row 24 = .ok (.getfield 13, 3) := dk_180 0 13 (dk_at dksX10_row_1 0 rfl rfl)
theorem dX10_row_27 : decode cX10_row 27 = .ok (.arraylength, 1) := dk_190 (dk_at dksX10_row_1 3 rfl rfl)
theorem dX10_row_28 : decode cX10_row 28 = .ok (.if_icmp .ge 70, 3) := dk_162 0 70 (dk_at dksX10_row_1 4 rfl rfl)
theorem dX10_row_31 : decode cX10_row 31 = .ok (.iload 5, 2) := dk_21 5 (dk_at dksX10_row_1 7 rfl rfl)
theorem dX10_row_33 : decode cX10_row 33 = .ok (.aload_n 0, 1) := dk_42 (dk_at dksX10_row_1 9 rfl rfl)
theorem dX10_row_34 : decode cX10_row 34 = .ok (.getfield 13, 3) := dk_180 0 13 (dk_at dksX10_row_1 10 rfl rfl)
theorem dX10_row_37 : decode cX10_row 37 = .ok (.iload 7, 2) := dk_21 7 (dk_at dksX10_row_1 13 rfl rfl)
theorem dX10_row_39 : decode cX10_row 39 = .ok (.aaload, 1) := dk_50 (dk_at dksX10_row_1 15 rfl rfl)
theorem dX10_row_40 : decode cX10_row 40 = .ok (.invokevirtual 53, 3) := dk_182 0 53 (dk_at dksX10_row_1 16 rfl rfl)
theorem dX10_row_43 : decode cX10_row 43 = .ok (.idiv, 1) := dk_108 (dk_at dksX10_row_1 19 rfl rfl)
theorem dX10_row_44 : decode cX10_row 44 = .ok (.istore 5, 2) := dk_54 5 (dk_at dksX10_row_1 20 rfl rfl)
theorem dX10_row_46 : decode cX10_row 46 = .ok (.aload_n 0, 1) := dk_42 (dk_at dksX10_row_1 22 rfl rfl)
theorem dX10_row_47 : decode cX10_row 47 = .ok (.getfield 13, 3) := dk_180 0 13 (dk_at dksX10_row_2 0 rfl rfl)
theorem dX10_row_50 : decode cX10_row 50 = .ok (.iload 7, 2) := dk_21 7 (dk_at dksX10_row_2 3 rfl rfl)
theorem dX10_row_52 : decode cX10_row 52 = .ok (.aaload, 1) := dk_50 (dk_at dksX10_row_2 5 rfl rfl)
theorem dX10_row_53 : decode cX10_row 53 = .ok (.iload 6, 2) := dk_21 6 (dk_at dksX10_row_2 6 rfl rfl)
theorem dX10_row_55 : decode cX10_row 55 = .ok (.iload 5, 2) := dk_21 5 (dk_at dksX10_row_2 8 rfl rfl)
theorem dX10_row_57 : decode cX10_row 57 = .ok (.idiv, 1) := dk_108 (dk_at dksX10_row_2 10 rfl rfl)
theorem dX10_row_58 : decode cX10_row 58 = .ok (.aload_n 3, 1) := dk_45 (dk_at dksX10_row_2 11 rfl rfl)
theorem dX10_row_59 : decode cX10_row 59 = .ok (.aload_n 2, 1) := dk_44 (dk_at dksX10_row_2 12 rfl rfl)
theorem dX10_row_60 : decode cX10_row 60 = .ok (.aload_n 0, 1) := dk_42 (dk_at dksX10_row_2 13 rfl rfl)
theorem dX10_row_61 : decode cX10_row 61 = .ok (.getfield 7, 3) := dk_180 0 7 (dk_at dksX10_row_2 14 rfl rfl)
theorem dX10_row_64 : decode cX10_row 64 = .ok (.iload 7, 2) := dk_21 7 (dk_at dksX10_row_2 17 rfl rfl)
theorem dX10_row_66 : decode cX10_row 66 = .ok (.aload_n 0, 1) := dk_42 (dk_at dksX10_row_2 19 rfl rfl)
theorem dX10_row_67 : decode cX10_row 67 = .ok (.getfield 7, 3) := dk_180 0 7 (dk_at dksX10_row_2 20 rfl rfl)
theorem dX10_row_70 : decode cX10_row 70 = .ok (.getfield 54, 3) := dk_180 0 54 (dk_at dksX10_row_3 0 rfl rfl)
theorem dX10_row_73 : decode cX10_row 73 = .ok (.iload 7, 2) := dk_21 7 (dk_at dksX10_row_3 3 rfl rfl)
theorem dX10_row_75 : decode cX10_row 75 = .ok (.iaload, 1) := dk_46 (dk_at dksX10_row_3 5 rfl rfl)
theorem dX10_row_76 : decode cX10_row 76 = .ok (.invokevirtual 58, 3) := dk_182 0 58 (dk_at dksX10_row_3 6 rfl rfl)
theorem dX10_row_79 : decode cX10_row 79 = .ok (.aload_n 3, 1) := dk_45 (dk_at dksX10_row_3 9 rfl rfl)
theorem dX10_row_80 : decode cX10_row 80 = .ok (.aload 4, 2) := dk_25 4 (dk_at dksX10_row_3 10 rfl rfl)
theorem dX10_row_82 : decode cX10_row 82 = .ok (.invokevirtual 64, 3) := dk_182 0 64 (dk_at dksX10_row_3 12 rfl rfl)
theorem dX10_row_85 : decode cX10_row 85 = .ok (.iload 6, 2) := dk_21 6 (dk_at dksX10_row_3 15 rfl rfl)
theorem dX10_row_87 : decode cX10_row 87 = .ok (.iload 5, 2) := dk_21 5 (dk_at dksX10_row_3 17 rfl rfl)
theorem dX10_row_89 : decode cX10_row 89 = .ok (.irem, 1) := dk_112 (dk_at dksX10_row_3 19 rfl rfl)
theorem dX10_row_90 : decode cX10_row 90 = .ok (.istore 6, 2) := dk_54 6 (dk_at dksX10_row_3 20 rfl rfl)
theorem dX10_row_92 : decode cX10_row 92 = .ok (.iinc 7 1, 3) := dk_132 7 1 (dk_at dksX10_row_4 0 rfl rfl)
theorem dX10_row_95 : decode cX10_row 95 = .ok (.goto (-74), 3) := dk_167 255 182 (dk_at dksX10_row_4 3 rfl rfl)
theorem dX10_row_98 : decode cX10_row 98 = .ok (.return_, 1) := dk_177 (dk_at dksX10_row_4 6 rfl rfl)
abbrev cX10_by : ByteArray := prog_10_method_5_code
def yX10_by : MethodName := ⟨RX10, "by", "(LLetterPost$Known;LLetterPost$Place;)I"⟩
def dkwX10_by_1 : List UInt8 := [180, 0, 76, 44, 180, 0, 70, 50, 42, 180, 0, 7, 182, 0, 22, 153, 0, 7, 4, 167, 0, 4, 2, 172]
abbrev dktX10_by_1 : List UInt8 := dkwX10_by_1 ++ []
def dkwX10_by_0 : List UInt8 := [43, 180, 0, 65, 44, 180, 0, 70, 46, 62, 29, 154, 0, 7, 3, 167, 0, 32, 29, 5, 160, 0, 26, 43]
abbrev dktX10_by_0 : List UInt8 := dkwX10_by_0 ++ dktX10_by_1
theorem dksX10_by_0 : cX10_by.data.toList.drop 0 = dktX10_by_0 := by decide +kernel
theorem dksX10_by_1 : cX10_by.data.toList.drop 24 = dktX10_by_1 := dk_seg dksX10_by_0 24 rfl rfl
theorem dX10_by_0 : decode cX10_by 0 = .ok (.aload_n 1, 1) := dk_43 (dk_at dksX10_by_0 0 rfl rfl)
theorem dX10_by_1 : decode cX10_by 1 = .ok (.getfield 65, 3) := dk_180 0 65 (dk_at dksX10_by_0 1 rfl rfl)
theorem dX10_by_4 : decode cX10_by 4 = .ok (.aload_n 2, 1) := dk_44 (dk_at dksX10_by_0 4 rfl rfl)
theorem dX10_by_5 : decode cX10_by 5 = .ok (.getfield 70, 3) := dk_180 0 70 (dk_at dksX10_by_0 5 rfl rfl)
theorem dX10_by_8 : decode cX10_by 8 = .ok (.iaload, 1) := dk_46 (dk_at dksX10_by_0 8 rfl rfl)
theorem dX10_by_9 : decode cX10_by 9 = .ok (.istore_n 3, 1) := dk_62 (dk_at dksX10_by_0 9 rfl rfl)
theorem dX10_by_10 : decode cX10_by 10 = .ok (.iload_n 3, 1) := dk_29 (dk_at dksX10_by_0 10 rfl rfl)
theorem dX10_by_11 : decode cX10_by 11 = .ok (.ifCond .ne 7, 3) := dk_154 0 7 (dk_at dksX10_by_0 11 rfl rfl)
theorem dX10_by_14 : decode cX10_by 14 = .ok (.iconst 0, 1) := dk_3 (dk_at dksX10_by_0 14 rfl rfl)
theorem dX10_by_15 : decode cX10_by 15 = .ok (.goto 32, 3) := dk_167 0 32 (dk_at dksX10_by_0 15 rfl rfl)
theorem dX10_by_18 : decode cX10_by 18 = .ok (.iload_n 3, 1) := dk_29 (dk_at dksX10_by_0 18 rfl rfl)
theorem dX10_by_19 : decode cX10_by 19 = .ok (.iconst 2, 1) := dk_5 (dk_at dksX10_by_0 19 rfl rfl)
theorem dX10_by_20 : decode cX10_by 20 = .ok (.if_icmp .ne 26, 3) := dk_160 0 26 (dk_at dksX10_by_0 20 rfl rfl)
theorem dX10_by_23 : decode cX10_by 23 = .ok (.aload_n 1, 1) := dk_43 (dk_at dksX10_by_0 23 rfl rfl)
theorem dX10_by_24 : decode cX10_by 24 = .ok (.getfield 76, 3) := dk_180 0 76 (dk_at dksX10_by_1 0 rfl rfl)
theorem dX10_by_27 : decode cX10_by 27 = .ok (.aload_n 2, 1) := dk_44 (dk_at dksX10_by_1 3 rfl rfl)
theorem dX10_by_28 : decode cX10_by 28 = .ok (.getfield 70, 3) := dk_180 0 70 (dk_at dksX10_by_1 4 rfl rfl)
theorem dX10_by_31 : decode cX10_by 31 = .ok (.aaload, 1) := dk_50 (dk_at dksX10_by_1 7 rfl rfl)
theorem dX10_by_32 : decode cX10_by 32 = .ok (.aload_n 0, 1) := dk_42 (dk_at dksX10_by_1 8 rfl rfl)
theorem dX10_by_33 : decode cX10_by 33 = .ok (.getfield 7, 3) := dk_180 0 7 (dk_at dksX10_by_1 9 rfl rfl)
theorem dX10_by_36 : decode cX10_by 36 = .ok (.invokevirtual 22, 3) := dk_182 0 22 (dk_at dksX10_by_1 12 rfl rfl)
theorem dX10_by_39 : decode cX10_by 39 = .ok (.ifCond .eq 7, 3) := dk_153 0 7 (dk_at dksX10_by_1 15 rfl rfl)
theorem dX10_by_42 : decode cX10_by 42 = .ok (.iconst 1, 1) := dk_4 (dk_at dksX10_by_1 18 rfl rfl)
theorem dX10_by_43 : decode cX10_by 43 = .ok (.goto 4, 3) := dk_167 0 4 (dk_at dksX10_by_1 19 rfl rfl)
theorem dX10_by_46 : decode cX10_by 46 = .ok (.iconst (-1), 1) := dk_2 (dk_at dksX10_by_1 22 rfl rfl)
theorem dX10_by_47 : decode cX10_by 47 = .ok (.ireturn, 1) := dk_172 (dk_at dksX10_by_1 23 rfl rfl)
abbrev cX10_holds : ByteArray := prog_10_method_2_code
def yX10_holds : MethodName := ⟨RX10, "holds", "(LLetterPost$Value;[LLetterPost$Value;)Z"⟩
def dkwX10_holds_3 : List UInt8 := [167, 255, 217, 29, 172]
abbrev dktX10_holds_3 : List UInt8 := dkwX10_holds_3 ++ []
def dkwX10_holds_2 : List UInt8 := [180, 0, 13, 21, 4, 50, 43, 192, 0, 28, 180, 0, 30, 21, 4, 50, 44, 182, 0, 33, 62, 132, 4, 1]
abbrev dktX10_holds_2 : List UInt8 := dkwX10_holds_2 ++ dktX10_holds_3
def dkwX10_holds_1 : List UInt8 := [167, 0, 4, 3, 62, 3, 54, 4, 29, 153, 0, 41, 21, 4, 42, 180, 0, 13, 190, 162, 0, 31, 42]
abbrev dktX10_holds_1 : List UInt8 := dkwX10_holds_1 ++ dktX10_holds_2
def dkwX10_holds_0 : List UInt8 := [43, 182, 0, 17, 198, 0, 21, 43, 182, 0, 17, 42, 180, 0, 7, 182, 0, 22, 153, 0, 7, 4]
abbrev dktX10_holds_0 : List UInt8 := dkwX10_holds_0 ++ dktX10_holds_1
theorem dksX10_holds_0 : cX10_holds.data.toList.drop 0 = dktX10_holds_0 := by decide +kernel
theorem dksX10_holds_1 : cX10_holds.data.toList.drop 22 = dktX10_holds_1 := dk_seg dksX10_holds_0 22 rfl rfl
theorem dksX10_holds_2 : cX10_holds.data.toList.drop 45 = dktX10_holds_2 := dk_seg dksX10_holds_1 23 rfl rfl
theorem dksX10_holds_3 : cX10_holds.data.toList.drop 69 = dktX10_holds_3 := dk_seg dksX10_holds_2 24 rfl rfl
theorem dX10_holds_0 : decode cX10_holds 0 = .ok (.aload_n 1, 1) := dk_43 (dk_at dksX10_holds_0 0 rfl rfl)
theorem dX10_holds_1 : decode cX10_holds 1 = .ok (.invokevirtual 17, 3) := dk_182 0 17 (dk_at dksX10_holds_0 1 rfl rfl)
theorem dX10_holds_4 : decode cX10_holds 4 = .ok (.ifnull 21, 3) := dk_198 0 21 (dk_at dksX10_holds_0 4 rfl rfl)
theorem dX10_holds_7 : decode cX10_holds 7 = .ok (.aload_n 1, 1) := dk_43 (dk_at dksX10_holds_0 7 rfl rfl)
theorem dX10_holds_8 : decode cX10_holds 8 = .ok (.invokevirtual 17, 3) := dk_182 0 17 (dk_at dksX10_holds_0 8 rfl rfl)
theorem dX10_holds_11 : decode cX10_holds 11 = .ok (.aload_n 0, 1) := dk_42 (dk_at dksX10_holds_0 11 rfl rfl)
theorem dX10_holds_12 : decode cX10_holds 12 = .ok (.getfield 7, 3) := dk_180 0 7 (dk_at dksX10_holds_0 12 rfl rfl)
theorem dX10_holds_15 : decode cX10_holds 15 = .ok (.invokevirtual 22, 3) := dk_182 0 22 (dk_at dksX10_holds_0 15 rfl rfl)
theorem dX10_holds_18 : decode cX10_holds 18 = .ok (.ifCond .eq 7, 3) := dk_153 0 7 (dk_at dksX10_holds_0 18 rfl rfl)
theorem dX10_holds_21 : decode cX10_holds 21 = .ok (.iconst 1, 1) := dk_4 (dk_at dksX10_holds_0 21 rfl rfl)
theorem dX10_holds_22 : decode cX10_holds 22 = .ok (.goto 4, 3) := dk_167 0 4 (dk_at dksX10_holds_1 0 rfl rfl)
theorem dX10_holds_25 : decode cX10_holds 25 = .ok (.iconst 0, 1) := dk_3 (dk_at dksX10_holds_1 3 rfl rfl)
theorem dX10_holds_26 : decode cX10_holds 26 = .ok (.istore_n 3, 1) := dk_62 (dk_at dksX10_holds_1 4 rfl rfl)
theorem dX10_holds_27 : decode cX10_holds 27 = .ok (.iconst 0, 1) := dk_3 (dk_at dksX10_holds_1 5 rfl rfl)
theorem dX10_holds_28 : decode cX10_holds 28 = .ok (.istore 4, 2) := dk_54 4 (dk_at dksX10_holds_1 6 rfl rfl)
theorem dX10_holds_30 : decode cX10_holds 30 = .ok (.iload_n 3, 1) := dk_29 (dk_at dksX10_holds_1 8 rfl rfl)
theorem dX10_holds_31 : decode cX10_holds 31 = .ok (.ifCond .eq 41, 3) := dk_153 0 41 (dk_at dksX10_holds_1 9 rfl rfl)
theorem dX10_holds_34 : decode cX10_holds 34 = .ok (.iload 4, 2) := dk_21 4 (dk_at dksX10_holds_1 12 rfl rfl)
theorem dX10_holds_36 : decode cX10_holds 36 = .ok (.aload_n 0, 1) := dk_42 (dk_at dksX10_holds_1 14 rfl rfl)
theorem dX10_holds_37 : decode cX10_holds 37 = .ok (.getfield 13, 3) := dk_180 0 13 (dk_at dksX10_holds_1 15 rfl rfl)
theorem dX10_holds_40 : decode cX10_holds 40 = .ok (.arraylength, 1) := dk_190 (dk_at dksX10_holds_1 18 rfl rfl)
theorem dX10_holds_41 : decode cX10_holds 41 = .ok (.if_icmp .ge 31, 3) := dk_162 0 31 (dk_at dksX10_holds_1 19 rfl rfl)
theorem dX10_holds_44 : decode cX10_holds 44 = .ok (.aload_n 0, 1) := dk_42 (dk_at dksX10_holds_1 22 rfl rfl)
theorem dX10_holds_45 : decode cX10_holds 45 = .ok (.getfield 13, 3) := dk_180 0 13 (dk_at dksX10_holds_2 0 rfl rfl)
theorem dX10_holds_48 : decode cX10_holds 48 = .ok (.iload 4, 2) := dk_21 4 (dk_at dksX10_holds_2 3 rfl rfl)
theorem dX10_holds_50 : decode cX10_holds 50 = .ok (.aaload, 1) := dk_50 (dk_at dksX10_holds_2 5 rfl rfl)
theorem dX10_holds_51 : decode cX10_holds 51 = .ok (.aload_n 1, 1) := dk_43 (dk_at dksX10_holds_2 6 rfl rfl)
theorem dX10_holds_52 : decode cX10_holds 52 = .ok (.checkcast 28, 3) := dk_192 0 28 (dk_at dksX10_holds_2 7 rfl rfl)
theorem dX10_holds_55 : decode cX10_holds 55 = .ok (.getfield 30, 3) := dk_180 0 30 (dk_at dksX10_holds_2 10 rfl rfl)
theorem dX10_holds_58 : decode cX10_holds 58 = .ok (.iload 4, 2) := dk_21 4 (dk_at dksX10_holds_2 13 rfl rfl)
theorem dX10_holds_60 : decode cX10_holds 60 = .ok (.aaload, 1) := dk_50 (dk_at dksX10_holds_2 15 rfl rfl)
theorem dX10_holds_61 : decode cX10_holds 61 = .ok (.aload_n 2, 1) := dk_44 (dk_at dksX10_holds_2 16 rfl rfl)
theorem dX10_holds_62 : decode cX10_holds 62 = .ok (.invokevirtual 33, 3) := dk_182 0 33 (dk_at dksX10_holds_2 17 rfl rfl)
theorem dX10_holds_65 : decode cX10_holds 65 = .ok (.istore_n 3, 1) := dk_62 (dk_at dksX10_holds_2 20 rfl rfl)
theorem dX10_holds_66 : decode cX10_holds 66 = .ok (.iinc 4 1, 3) := dk_132 4 1 (dk_at dksX10_holds_2 21 rfl rfl)
theorem dX10_holds_69 : decode cX10_holds 69 = .ok (.goto (-39), 3) := dk_167 255 217 (dk_at dksX10_holds_3 0 rfl rfl)
theorem dX10_holds_72 : decode cX10_holds 72 = .ok (.iload_n 3, 1) := dk_29 (dk_at dksX10_holds_3 3 rfl rfl)
theorem dX10_holds_73 : decode cX10_holds 73 = .ok (.ireturn, 1) := dk_172 (dk_at dksX10_holds_3 4 rfl rfl)
theorem q166 : (Jvm.Cond.initialized "LetterPost$Kinded") ∈ lw_all := lw_g (lw_at lw_m1 24 rfl) rfl
theorem q692 : (Jvm.Cond.fieldLink "LetterPost$Kinded" (54 : Nat) "LetterPost$Kind" "sorts" "[I") ∈ lw_all := lw_g (lw_at lw_m3 70 rfl) rfl
theorem q932 : (Jvm.Cond.instantiable "LetterPost$Kinded" (3 : Nat)) ∈ lw_all := lw_g (lw_at lw_m4 70 rfl) rfl
theorem q934 : (Jvm.Cond.instanceMethod ({ cls := "LetterPost$Kinded", name := "<init>", desc := "(LLetterPost$Kind;[LLetterPost$Pattern;)V" } : Jvm.MethodName)) ∈ lw_all := lw_g (lw_at lw_m4 72 rfl) rfl
theorem q935 : (Jvm.Cond.code ({ cls := "LetterPost$Kinded", name := "<init>", desc := "(LLetterPost$Kind;[LLetterPost$Pattern;)V" } : Jvm.MethodName) prog_10_method_1_code (3 : Nat) (Option.none : Option Jvm.ClassFile.FieldType)) ∈ lw_all := lw_g (lw_at lw_m4 73 rfl) rfl
theorem q936 : (Jvm.Cond.methodLinkNest "LetterPost$Kinded" (1 : Nat) ({ cls := "LetterPost$Test", name := "<init>", desc := "()V" } : Jvm.MethodName) "LetterPost") ∈ lw_tbl := lw_at lw_m4 74 rfl
theorem q937 : (Jvm.Cond.fieldLink "LetterPost$Kinded" (7 : Nat) "LetterPost$Kinded" "kind" "LLetterPost$Kind;") ∈ lw_all := lw_g (lw_at lw_m4 75 rfl) rfl
theorem q938 : (Jvm.Cond.fieldLink "LetterPost$Kinded" (13 : Nat) "LetterPost$Kinded" "parts" "[LLetterPost$Pattern;") ∈ lw_all := lw_g (lw_at lw_m4 76 rfl) rfl
theorem q939 : (Jvm.Cond.laysFinal "LetterPost$Kinded" "LetterPost$Kinded" "kind" "LLetterPost$Kind;") ∈ lw_all := lw_g (lw_at lw_m4 77 rfl) rfl
theorem q940 : (Jvm.Cond.soleField "LetterPost$Kinded" "kind") ∈ lw_all := lw_g (lw_at lw_m4 78 rfl) rfl
theorem q941 : (Jvm.Cond.laysFinal "LetterPost$Kinded" "LetterPost$Kinded" "parts" "[LLetterPost$Pattern;") ∈ lw_all := lw_g (lw_at lw_m4 79 rfl) rfl
theorem q942 : (Jvm.Cond.soleField "LetterPost$Kinded" "parts") ∈ lw_all := lw_g (lw_at lw_m4 80 rfl) rfl
theorem q943 : (Jvm.Cond.lays "LetterPost$Kinded" "LetterPost$Pattern" "name" "I") ∈ lw_all := lw_g (lw_at lw_m4 81 rfl) rfl
theorem q944 : (Jvm.Cond.superclass "LetterPost$Kinded" "LetterPost$Test") ∈ lw_all := lw_g (lw_at lw_m4 82 rfl) rfl
theorem q1076 : (Jvm.Cond.instanceMethod ({ cls := "LetterPost$Kinded", name := "ways", desc := "()I" } : Jvm.MethodName)) ∈ lw_all := lw_g (lw_at lw_m4 214 rfl) rfl
theorem q1077 : (Jvm.Cond.code ({ cls := "LetterPost$Kinded", name := "ways", desc := "()I" } : Jvm.MethodName) prog_10_method_3_code (1 : Nat) (Option.some Jvm.ClassFile.FieldType.int)) ∈ lw_all := lw_g (lw_at lw_m4 215 rfl) rfl
theorem q1078 : (Jvm.Cond.methodLinkNest "LetterPost$Kinded" (39 : Nat) ({ cls := "LetterPost", name := "product", desc := "([LLetterPost$Pattern;)I" } : Jvm.MethodName) "LetterPost") ∈ lw_tbl := lw_at lw_m4 216 rfl
theorem q1080 : (Jvm.Cond.selects "LetterPost$Kinded" ({ cls := "LetterPost$Pattern", name := "ways", desc := "()I" } : Jvm.MethodName) ({ cls := "LetterPost$Kinded", name := "ways", desc := "()I" } : Jvm.MethodName)) ∈ lw_all := lw_g (lw_at lw_m4 218 rfl) rfl
theorem q1148 : (Jvm.Cond.fieldLink "LetterPost$Kinded" (70 : Nat) "LetterPost$Place" "number" "I") ∈ lw_all := lw_g (lw_at lw_m5 46 rfl) rfl
theorem q1173 : (Jvm.Cond.instanceMethod ({ cls := "LetterPost$Kinded", name := "row", desc := "(ILLetterPost$Place;LLetterPost$Function;LLetterPost$Row;)V" } : Jvm.MethodName)) ∈ lw_all := lw_g (lw_at lw_m5 71 rfl) rfl
theorem q1174 : (Jvm.Cond.code ({ cls := "LetterPost$Kinded", name := "row", desc := "(ILLetterPost$Place;LLetterPost$Function;LLetterPost$Row;)V" } : Jvm.MethodName) prog_10_method_4_code (8 : Nat) (Option.none : Option Jvm.ClassFile.FieldType)) ∈ lw_all := lw_g (lw_at lw_m5 72 rfl) rfl
theorem q1175 : (Jvm.Cond.methodLink "LetterPost$Kinded" (45 : Nat) ({ cls := "LetterPost$Test", name := "row", desc := "(ILLetterPost$Place;LLetterPost$Function;LLetterPost$Row;)V" } : Jvm.MethodName)) ∈ lw_all := lw_g (lw_at lw_m5 73 rfl) rfl
theorem q1185 : (Jvm.Cond.methodLink "LetterPost$Kinded" (49 : Nat) ({ cls := "LetterPost$Kinded", name := "ways", desc := "()I" } : Jvm.MethodName)) ∈ lw_all := lw_g (lw_at lw_m5 83 rfl) rfl
theorem q1186 : (Jvm.Cond.methodLink "LetterPost$Kinded" (53 : Nat) ({ cls := "LetterPost$Pattern", name := "ways", desc := "()I" } : Jvm.MethodName)) ∈ lw_all := lw_g (lw_at lw_m5 84 rfl) rfl
theorem q1187 : (Jvm.Cond.methodLink "LetterPost$Kinded" (58 : Nat) ({ cls := "LetterPost$Function", name := "place", desc := "(LLetterPost$Place;LLetterPost$Kind;II)LLetterPost$Place;" } : Jvm.MethodName)) ∈ lw_all := lw_g (lw_at lw_m5 85 rfl) rfl
theorem q1188 : (Jvm.Cond.methodLink "LetterPost$Kinded" (64 : Nat) ({ cls := "LetterPost$Pattern", name := "row", desc := "(ILLetterPost$Place;LLetterPost$Function;LLetterPost$Row;)V" } : Jvm.MethodName)) ∈ lw_all := lw_g (lw_at lw_m5 86 rfl) rfl
theorem q1189 : (Jvm.Cond.selects "LetterPost$Kinded" ({ cls := "LetterPost$Pattern", name := "row", desc := "(ILLetterPost$Place;LLetterPost$Function;LLetterPost$Row;)V" } : Jvm.MethodName) ({ cls := "LetterPost$Kinded", name := "row", desc := "(ILLetterPost$Place;LLetterPost$Function;LLetterPost$Row;)V" } : Jvm.MethodName)) ∈ lw_all := lw_g (lw_at lw_m5 87 rfl) rfl
theorem q1224 : (Jvm.Cond.fieldLink "LetterPost$Kinded" (65 : Nat) "LetterPost$Known" "state" "[I") ∈ lw_all := lw_g (lw_at lw_m5 122 rfl) rfl
theorem q1227 : (Jvm.Cond.fieldLink "LetterPost$Kinded" (76 : Nat) "LetterPost$Known" "kinds" "[LLetterPost$Kind;") ∈ lw_all := lw_g (lw_at lw_m5 125 rfl) rfl
theorem q1297 : (Jvm.Cond.selects "LetterPost$Kinded" ({ cls := "LetterPost$Test", name := "by", desc := "(LLetterPost$Known;LLetterPost$Place;)I" } : Jvm.MethodName) ({ cls := "LetterPost$Kinded", name := "by", desc := "(LLetterPost$Known;LLetterPost$Place;)I" } : Jvm.MethodName)) ∈ lw_all := lw_g (lw_at lw_m5 195 rfl) rfl
theorem q1298 : (Jvm.Cond.instanceMethod ({ cls := "LetterPost$Kinded", name := "by", desc := "(LLetterPost$Known;LLetterPost$Place;)I" } : Jvm.MethodName)) ∈ lw_all := lw_g (lw_at lw_m5 196 rfl) rfl
theorem q1299 : (Jvm.Cond.code ({ cls := "LetterPost$Kinded", name := "by", desc := "(LLetterPost$Known;LLetterPost$Place;)I" } : Jvm.MethodName) prog_10_method_5_code (4 : Nat) (Option.some Jvm.ClassFile.FieldType.int)) ∈ lw_all := lw_g (lw_at lw_m5 197 rfl) rfl
theorem q1300 : (Jvm.Cond.methodLink "LetterPost$Kinded" (22 : Nat) ({ cls := "LetterPost$Kind", name := "is", desc := "(LLetterPost$Kind;)Z" } : Jvm.MethodName)) ∈ lw_all := lw_g (lw_at lw_m5 198 rfl) rfl
theorem q1819 : (Jvm.Cond.fieldLink "LetterPost$Kinded" (30 : Nat) "LetterPost$Letter" "parts" "[LLetterPost$Value;") ∈ lw_all := lw_g (lw_at lw_m7 237 rfl) rfl
theorem q1988 : (Jvm.Cond.selects "LetterPost$Kinded" ({ cls := "LetterPost$Pattern", name := "fits", desc := "(LLetterPost$Value;[LLetterPost$Value;)Z" } : Jvm.MethodName) ({ cls := "LetterPost$Pattern", name := "fits", desc := "(LLetterPost$Value;[LLetterPost$Value;)Z" } : Jvm.MethodName)) ∈ lw_all := lw_g (lw_at lw_m8 166 rfl) rfl
theorem q2004 : (Jvm.Cond.selects "LetterPost$Kinded" ({ cls := "LetterPost$Pattern", name := "holds", desc := "(LLetterPost$Value;[LLetterPost$Value;)Z" } : Jvm.MethodName) ({ cls := "LetterPost$Kinded", name := "holds", desc := "(LLetterPost$Value;[LLetterPost$Value;)Z" } : Jvm.MethodName)) ∈ lw_all := lw_g (lw_at lw_m8 182 rfl) rfl
theorem q2005 : (Jvm.Cond.instanceMethod ({ cls := "LetterPost$Kinded", name := "holds", desc := "(LLetterPost$Value;[LLetterPost$Value;)Z" } : Jvm.MethodName)) ∈ lw_all := lw_g (lw_at lw_m8 183 rfl) rfl
theorem q2006 : (Jvm.Cond.code ({ cls := "LetterPost$Kinded", name := "holds", desc := "(LLetterPost$Value;[LLetterPost$Value;)Z" } : Jvm.MethodName) prog_10_method_2_code (5 : Nat) (Option.some Jvm.ClassFile.FieldType.boolean)) ∈ lw_all := lw_g (lw_at lw_m8 184 rfl) rfl
theorem q2007 : (Jvm.Cond.methodLink "LetterPost$Kinded" (17 : Nat) ({ cls := "LetterPost$Value", name := "kind", desc := "()LLetterPost$Kind;" } : Jvm.MethodName)) ∈ lw_all := lw_g (lw_at lw_m8 185 rfl) rfl
theorem q2008 : (Jvm.Cond.classLink "LetterPost$Kinded" (28 : Nat) "LetterPost$Letter") ∈ lw_all := lw_g (lw_at lw_m8 186 rfl) rfl
theorem q2009 : (Jvm.Cond.methodLink "LetterPost$Kinded" (33 : Nat) ({ cls := "LetterPost$Pattern", name := "fits", desc := "(LLetterPost$Value;[LLetterPost$Value;)Z" } : Jvm.MethodName)) ∈ lw_all := lw_g (lw_at lw_m8 187 rfl) rfl
theorem q3000 : (Jvm.Cond.selects "LetterPost$Kinded" ({ cls := "LetterPost$Kinded", name := "ways", desc := "()I" } : Jvm.MethodName) ({ cls := "LetterPost$Kinded", name := "ways", desc := "()I" } : Jvm.MethodName)) ∈ lw_all := lw_g (lw_at lw_m12 218 rfl) rfl
theorem q3025 : (Jvm.Cond.castable "LetterPost$Kinded" "LetterPost$Pattern") ∈ lw_tbl := lw_at lw_m13 3 rfl
theorem q3031 : (Jvm.Cond.castable "LetterPost$Kinded" "LetterPost$Test") ∈ lw_tbl := lw_at lw_m13 9 rfl
theorem in_X10 : ∀ w ∈ wsX100, w ∈ lw_all := lw_in wsX100 [943, 939, 941] (by decide +kernel) (by decide +kernel)

/-! LetterPost$Either -/
set_option maxRecDepth 100000
def RX11 : String := "LetterPost$Either"
def TX11 : u_T := fun k => match k with
  | 0 => ("LetterPost$Pattern", "name", "I", false)
  | _ => ("LetterPost$Either", "ways", "[LLetterPost$Pattern;", true)
def tyX11 : Nat → FieldType := fun k => match k with
  | 0 => .int
  | _ => .array (.object "LetterPost$Pattern")
abbrev wsX110 : List Cond := u_ws RX11 TX11 2
theorem nmX11 : ∀ a, a < 2 → ∀ b, b < 2 → a ≠ b → (TX11 a).2.1 ≠ (TX11 b).2.1 := by decide +kernel
theorem tyX11_ok : ∀ k, k < 2 → parseFieldDescriptor (TX11 k).2.2.1 = some (tyX11 k) := by decide +kernel
abbrev cX11_init : ByteArray := prog_4_method_1_code
def yX11_init : MethodName := ⟨RX11, "<init>", "([LLetterPost$Pattern;)V"⟩
def dkwX11_init_0 : List UInt8 := [42, 183, 0, 3, 42, 43, 181, 0, 9, 177]
abbrev dktX11_init_0 : List UInt8 := dkwX11_init_0 ++ []
theorem dksX11_init_0 : cX11_init.data.toList.drop 0 = dktX11_init_0 := by decide +kernel
theorem dX11_init_0 : decode cX11_init 0 = .ok (.aload_n 0, 1) := dk_42 (dk_at dksX11_init_0 0 rfl rfl)
theorem dX11_init_1 : decode cX11_init 1 = .ok (.invokespecial 3, 3) := dk_183 0 3 (dk_at dksX11_init_0 1 rfl rfl)
theorem dX11_init_4 : decode cX11_init 4 = .ok (.aload_n 0, 1) := dk_42 (dk_at dksX11_init_0 4 rfl rfl)
theorem dX11_init_5 : decode cX11_init 5 = .ok (.aload_n 1, 1) := dk_43 (dk_at dksX11_init_0 5 rfl rfl)
theorem dX11_init_6 : decode cX11_init 6 = .ok (.putfield 9, 3) := dk_181 0 9 (dk_at dksX11_init_0 6 rfl rfl)
theorem dX11_init_9 : decode cX11_init 9 = .ok (.return_, 1) := dk_177 (dk_at dksX11_init_0 9 rfl rfl)
abbrev cX11_ways : ByteArray := prog_4_method_3_code
def yX11_ways : MethodName := ⟨RX11, "ways", "()I"⟩
def dkwX11_ways_1 : List UInt8 := [58, 5, 16, 41, 27, 25, 5, 182, 0, 19, 96, 184, 0, 22, 60, 132, 4, 1, 167, 255, 228, 27, 172]
abbrev dktX11_ways_1 : List UInt8 := dkwX11_ways_1 ++ []
def dkwX11_ways_0 : List UInt8 := [3, 60, 42, 180, 0, 9, 77, 44, 190, 62, 3, 54, 4, 21, 4, 29, 162, 0, 28, 44, 21, 4, 50]
abbrev dktX11_ways_0 : List UInt8 := dkwX11_ways_0 ++ dktX11_ways_1
theorem dksX11_ways_0 : cX11_ways.data.toList.drop 0 = dktX11_ways_0 := by decide +kernel
theorem dksX11_ways_1 : cX11_ways.data.toList.drop 23 = dktX11_ways_1 := dk_seg dksX11_ways_0 23 rfl rfl
theorem dX11_ways_0 : decode cX11_ways 0 = .ok (.iconst 0, 1) := dk_3 (dk_at dksX11_ways_0 0 rfl rfl)
theorem dX11_ways_1 : decode cX11_ways 1 = .ok (.istore_n 1, 1) := dk_60 (dk_at dksX11_ways_0 1 rfl rfl)
theorem dX11_ways_2 : decode cX11_ways 2 = .ok (.aload_n 0, 1) := dk_42 (dk_at dksX11_ways_0 2 rfl rfl)
theorem dX11_ways_3 : decode cX11_ways 3 = .ok (.getfield 9, 3) := dk_180 0 9 (dk_at dksX11_ways_0 3 rfl rfl)
theorem dX11_ways_6 : decode cX11_ways 6 = .ok (.astore_n 2, 1) := dk_77 (dk_at dksX11_ways_0 6 rfl rfl)
theorem dX11_ways_7 : decode cX11_ways 7 = .ok (.aload_n 2, 1) := dk_44 (dk_at dksX11_ways_0 7 rfl rfl)
theorem dX11_ways_8 : decode cX11_ways 8 = .ok (.arraylength, 1) := dk_190 (dk_at dksX11_ways_0 8 rfl rfl)
theorem dX11_ways_9 : decode cX11_ways 9 = .ok (.istore_n 3, 1) := dk_62 (dk_at dksX11_ways_0 9 rfl rfl)
theorem dX11_ways_10 : decode cX11_ways 10 = .ok (.iconst 0, 1) := dk_3 (dk_at dksX11_ways_0 10 rfl rfl)
theorem dX11_ways_11 : decode cX11_ways 11 = .ok (.istore 4, 2) := dk_54 4 (dk_at dksX11_ways_0 11 rfl rfl)
theorem dX11_ways_13 : decode cX11_ways 13 = .ok (.iload 4, 2) := dk_21 4 (dk_at dksX11_ways_0 13 rfl rfl)
theorem dX11_ways_15 : decode cX11_ways 15 = .ok (.iload_n 3, 1) := dk_29 (dk_at dksX11_ways_0 15 rfl rfl)
theorem dX11_ways_16 : decode cX11_ways 16 = .ok (.if_icmp .ge 28, 3) := dk_162 0 28 (dk_at dksX11_ways_0 16 rfl rfl)
theorem dX11_ways_19 : decode cX11_ways 19 = .ok (.aload_n 2, 1) := dk_44 (dk_at dksX11_ways_0 19 rfl rfl)
theorem dX11_ways_20 : decode cX11_ways 20 = .ok (.iload 4, 2) := dk_21 4 (dk_at dksX11_ways_0 20 rfl rfl)
theorem dX11_ways_22 : decode cX11_ways 22 = .ok (.aaload, 1) := dk_50 (dk_at dksX11_ways_0 22 rfl rfl)
theorem dX11_ways_23 : decode cX11_ways 23 = .ok (.astore 5, 2) := dk_58 5 (dk_at dksX11_ways_1 0 rfl rfl)
theorem dX11_ways_25 : decode cX11_ways 25 = .ok (.bipush 41, 2) := dk_16 41 (dk_at dksX11_ways_1 2 rfl rfl)
theorem dX11_ways_27 : decode cX11_ways 27 = .ok (.iload_n 1, 1) := dk_27 (dk_at dksX11_ways_1 4 rfl rfl)
theorem dX11_ways_28 : decode cX11_ways 28 = .ok (.aload 5, 2) := dk_25 5 (dk_at dksX11_ways_1 5 rfl rfl)
theorem dX11_ways_30 : decode cX11_ways 30 = .ok (.invokevirtual 19, 3) := dk_182 0 19 (dk_at dksX11_ways_1 7 rfl rfl)
theorem dX11_ways_33 : decode cX11_ways 33 = .ok (.iadd, 1) := dk_96 (dk_at dksX11_ways_1 10 rfl rfl)
theorem dX11_ways_34 : decode cX11_ways 34 = .ok (.invokestatic 22, 3) := dk_184 0 22 (dk_at dksX11_ways_1 11 rfl rfl)
theorem dX11_ways_37 : decode cX11_ways 37 = .ok (.istore_n 1, 1) := dk_60 (dk_at dksX11_ways_1 14 rfl rfl)
theorem dX11_ways_38 : decode cX11_ways 38 = .ok (.iinc 4 1, 3) := dk_132 4 1 (dk_at dksX11_ways_1 15 rfl rfl)
theorem dX11_ways_41 : decode cX11_ways 41 = .ok (.goto (-28), 3) := dk_167 255 228 (dk_at dksX11_ways_1 18 rfl rfl)
theorem dX11_ways_44 : decode cX11_ways 44 = .ok (.iload_n 1, 1) := dk_27 (dk_at dksX11_ways_1 21 rfl rfl)
theorem dX11_ways_45 : decode cX11_ways 45 = .ok (.ireturn, 1) := dk_172 (dk_at dksX11_ways_1 22 rfl rfl)
abbrev cX11_row : ByteArray := prog_4_method_4_code
def yX11_row : MethodName := ⟨RX11, "row", "(ILLetterPost$Place;LLetterPost$Function;LLetterPost$Row;)V"⟩
def dkwX11_row_2 : List UInt8 := [50, 21, 5, 44, 45, 25, 4, 182, 0, 28, 42, 27, 44, 45, 25, 4, 183, 0, 28, 177]
abbrev dktX11_row_2 : List UInt8 := dkwX11_row_2 ++ []
def dkwX11_row_1 : List UInt8 := [180, 0, 9, 21, 6, 50, 182, 0, 19, 100, 54, 5, 132, 6, 1, 167, 255, 223, 42, 180, 0, 9, 21, 6]
abbrev dktX11_row_1 : List UInt8 := dkwX11_row_1 ++ dktX11_row_2
def dkwX11_row_0 : List UInt8 := [27, 54, 5, 3, 54, 6, 21, 5, 42, 180, 0, 9, 21, 6, 50, 182, 0, 19, 161, 0, 24, 21, 5, 42]
abbrev dktX11_row_0 : List UInt8 := dkwX11_row_0 ++ dktX11_row_1
theorem dksX11_row_0 : cX11_row.data.toList.drop 0 = dktX11_row_0 := by decide +kernel
theorem dksX11_row_1 : cX11_row.data.toList.drop 24 = dktX11_row_1 := dk_seg dksX11_row_0 24 rfl rfl
theorem dksX11_row_2 : cX11_row.data.toList.drop 48 = dktX11_row_2 := dk_seg dksX11_row_1 24 rfl rfl
theorem dX11_row_0 : decode cX11_row 0 = .ok (.iload_n 1, 1) := dk_27 (dk_at dksX11_row_0 0 rfl rfl)
theorem dX11_row_1 : decode cX11_row 1 = .ok (.istore 5, 2) := dk_54 5 (dk_at dksX11_row_0 1 rfl rfl)
theorem dX11_row_3 : decode cX11_row 3 = .ok (.iconst 0, 1) := dk_3 (dk_at dksX11_row_0 3 rfl rfl)
theorem dX11_row_4 : decode cX11_row 4 = .ok (.istore 6, 2) := dk_54 6 (dk_at dksX11_row_0 4 rfl rfl)
theorem dX11_row_6 : decode cX11_row 6 = .ok (.iload 5, 2) := dk_21 5 (dk_at dksX11_row_0 6 rfl rfl)
theorem dX11_row_8 : decode cX11_row 8 = .ok (.aload_n 0, 1) := dk_42 (dk_at dksX11_row_0 8 rfl rfl)
theorem dX11_row_9 : decode cX11_row 9 = .ok (.getfield 9, 3) := dk_180 0 9 (dk_at dksX11_row_0 9 rfl rfl)
theorem dX11_row_12 : decode cX11_row 12 = .ok (.iload 6, 2) := dk_21 6 (dk_at dksX11_row_0 12 rfl rfl)
theorem dX11_row_14 : decode cX11_row 14 = .ok (.aaload, 1) := dk_50 (dk_at dksX11_row_0 14 rfl rfl)
theorem dX11_row_15 : decode cX11_row 15 = .ok (.invokevirtual 19, 3) := dk_182 0 19 (dk_at dksX11_row_0 15 rfl rfl)
theorem dX11_row_18 : decode cX11_row 18 = .ok (.if_icmp .lt 24, 3) := dk_161 0 24 (dk_at dksX11_row_0 18 rfl rfl)
theorem dX11_row_21 : decode cX11_row 21 = .ok (.iload 5, 2) := dk_21 5 (dk_at dksX11_row_0 21 rfl rfl)
theorem dX11_row_23 : decode cX11_row 23 = .ok (.aload_n 0, 1) := dk_42 (dk_at dksX11_row_0 23 rfl rfl)
theorem dX11_row_24 : decode cX11_row 24 = .ok (.getfield 9, 3) := dk_180 0 9 (dk_at dksX11_row_1 0 rfl rfl)
theorem dX11_row_27 : decode cX11_row 27 = .ok (.iload 6, 2) := dk_21 6 (dk_at dksX11_row_1 3 rfl rfl)
theorem dX11_row_29 : decode cX11_row 29 = .ok (.aaload, 1) := dk_50 (dk_at dksX11_row_1 5 rfl rfl)
theorem dX11_row_30 : decode cX11_row 30 = .ok (.invokevirtual 19, 3) := dk_182 0 19 (dk_at dksX11_row_1 6 rfl rfl)
theorem dX11_row_33 : decode cX11_row 33 = .ok (.isub, 1) := dk_100 (dk_at dksX11_row_1 9 rfl rfl)
theorem dX11_row_34 : decode cX11_row 34 = .ok (.istore 5, 2) := dk_54 5 (dk_at dksX11_row_1 10 rfl rfl)
theorem dX11_row_36 : decode cX11_row 36 = .ok (.iinc 6 1, 3) := dk_132 6 1 (dk_at dksX11_row_1 12 rfl rfl)
theorem dX11_row_39 : decode cX11_row 39 = .ok (.goto (-33), 3) := dk_167 255 223 (dk_at dksX11_row_1 15 rfl rfl)
theorem dX11_row_42 : decode cX11_row 42 = .ok (.aload_n 0, 1) := dk_42 (dk_at dksX11_row_1 18 rfl rfl)
theorem dX11_row_43 : decode cX11_row 43 = .ok (.getfield 9, 3) := dk_180 0 9 (dk_at dksX11_row_1 19 rfl rfl)
theorem dX11_row_46 : decode cX11_row 46 = .ok (.iload 6, 2) := dk_21 6 (dk_at dksX11_row_1 22 rfl rfl)
theorem dX11_row_48 : decode cX11_row 48 = .ok (.aaload, 1) := dk_50 (dk_at dksX11_row_2 0 rfl rfl)
theorem dX11_row_49 : decode cX11_row 49 = .ok (.iload 5, 2) := dk_21 5 (dk_at dksX11_row_2 1 rfl rfl)
theorem dX11_row_51 : decode cX11_row 51 = .ok (.aload_n 2, 1) := dk_44 (dk_at dksX11_row_2 3 rfl rfl)
theorem dX11_row_52 : decode cX11_row 52 = .ok (.aload_n 3, 1) := dk_45 (dk_at dksX11_row_2 4 rfl rfl)
theorem dX11_row_53 : decode cX11_row 53 = .ok (.aload 4, 2) := dk_25 4 (dk_at dksX11_row_2 5 rfl rfl)
theorem dX11_row_55 : decode cX11_row 55 = .ok (.invokevirtual 28, 3) := dk_182 0 28 (dk_at dksX11_row_2 7 rfl rfl)
theorem dX11_row_58 : decode cX11_row 58 = .ok (.aload_n 0, 1) := dk_42 (dk_at dksX11_row_2 10 rfl rfl)
theorem dX11_row_59 : decode cX11_row 59 = .ok (.iload_n 1, 1) := dk_27 (dk_at dksX11_row_2 11 rfl rfl)
theorem dX11_row_60 : decode cX11_row 60 = .ok (.aload_n 2, 1) := dk_44 (dk_at dksX11_row_2 12 rfl rfl)
theorem dX11_row_61 : decode cX11_row 61 = .ok (.aload_n 3, 1) := dk_45 (dk_at dksX11_row_2 13 rfl rfl)
theorem dX11_row_62 : decode cX11_row 62 = .ok (.aload 4, 2) := dk_25 4 (dk_at dksX11_row_2 14 rfl rfl)
theorem dX11_row_64 : decode cX11_row 64 = .ok (.invokespecial 28, 3) := dk_183 0 28 (dk_at dksX11_row_2 16 rfl rfl)
theorem dX11_row_67 : decode cX11_row 67 = .ok (.return_, 1) := dk_177 (dk_at dksX11_row_2 19 rfl rfl)
abbrev cX11_holds : ByteArray := prog_4_method_2_code
def yX11_holds : MethodName := ⟨RX11, "holds", "(LLetterPost$Value;[LLetterPost$Value;)Z"⟩
def dkwX11_holds_1 : List UInt8 := [21, 4, 50, 43, 44, 182, 0, 15, 62, 132, 4, 1, 167, 255, 226, 29, 172]
abbrev dktX11_holds_1 : List UInt8 := dkwX11_holds_1 ++ []
def dkwX11_holds_0 : List UInt8 := [3, 62, 3, 54, 4, 29, 154, 0, 32, 21, 4, 42, 180, 0, 9, 190, 162, 0, 22, 42, 180, 0, 9]
abbrev dktX11_holds_0 : List UInt8 := dkwX11_holds_0 ++ dktX11_holds_1
theorem dksX11_holds_0 : cX11_holds.data.toList.drop 0 = dktX11_holds_0 := by decide +kernel
theorem dksX11_holds_1 : cX11_holds.data.toList.drop 23 = dktX11_holds_1 := dk_seg dksX11_holds_0 23 rfl rfl
theorem dX11_holds_0 : decode cX11_holds 0 = .ok (.iconst 0, 1) := dk_3 (dk_at dksX11_holds_0 0 rfl rfl)
theorem dX11_holds_1 : decode cX11_holds 1 = .ok (.istore_n 3, 1) := dk_62 (dk_at dksX11_holds_0 1 rfl rfl)
theorem dX11_holds_2 : decode cX11_holds 2 = .ok (.iconst 0, 1) := dk_3 (dk_at dksX11_holds_0 2 rfl rfl)
theorem dX11_holds_3 : decode cX11_holds 3 = .ok (.istore 4, 2) := dk_54 4 (dk_at dksX11_holds_0 3 rfl rfl)
theorem dX11_holds_5 : decode cX11_holds 5 = .ok (.iload_n 3, 1) := dk_29 (dk_at dksX11_holds_0 5 rfl rfl)
theorem dX11_holds_6 : decode cX11_holds 6 = .ok (.ifCond .ne 32, 3) := dk_154 0 32 (dk_at dksX11_holds_0 6 rfl rfl)
theorem dX11_holds_9 : decode cX11_holds 9 = .ok (.iload 4, 2) := dk_21 4 (dk_at dksX11_holds_0 9 rfl rfl)
theorem dX11_holds_11 : decode cX11_holds 11 = .ok (.aload_n 0, 1) := dk_42 (dk_at dksX11_holds_0 11 rfl rfl)
theorem dX11_holds_12 : decode cX11_holds 12 = .ok (.getfield 9, 3) := dk_180 0 9 (dk_at dksX11_holds_0 12 rfl rfl)
theorem dX11_holds_15 : decode cX11_holds 15 = .ok (.arraylength, 1) := dk_190 (dk_at dksX11_holds_0 15 rfl rfl)
theorem dX11_holds_16 : decode cX11_holds 16 = .ok (.if_icmp .ge 22, 3) := dk_162 0 22 (dk_at dksX11_holds_0 16 rfl rfl)
theorem dX11_holds_19 : decode cX11_holds 19 = .ok (.aload_n 0, 1) := dk_42 (dk_at dksX11_holds_0 19 rfl rfl)
theorem dX11_holds_20 : decode cX11_holds 20 = .ok (.getfield 9, 3) := dk_180 0 9 (dk_at dksX11_holds_0 20 rfl rfl)
theorem dX11_holds_23 : decode cX11_holds 23 = .ok (.iload 4, 2) := dk_21 4 (dk_at dksX11_holds_1 0 rfl rfl)
theorem dX11_holds_25 : decode cX11_holds 25 = .ok (.aaload, 1) := dk_50 (dk_at dksX11_holds_1 2 rfl rfl)
theorem dX11_holds_26 : decode cX11_holds 26 = .ok (.aload_n 1, 1) := dk_43 (dk_at dksX11_holds_1 3 rfl rfl)
theorem dX11_holds_27 : decode cX11_holds 27 = .ok (.aload_n 2, 1) := dk_44 (dk_at dksX11_holds_1 4 rfl rfl)
theorem dX11_holds_28 : decode cX11_holds 28 = .ok (.invokevirtual 15, 3) := dk_182 0 15 (dk_at dksX11_holds_1 5 rfl rfl)
theorem dX11_holds_31 : decode cX11_holds 31 = .ok (.istore_n 3, 1) := dk_62 (dk_at dksX11_holds_1 8 rfl rfl)
theorem dX11_holds_32 : decode cX11_holds 32 = .ok (.iinc 4 1, 3) := dk_132 4 1 (dk_at dksX11_holds_1 9 rfl rfl)
theorem dX11_holds_35 : decode cX11_holds 35 = .ok (.goto (-30), 3) := dk_167 255 226 (dk_at dksX11_holds_1 12 rfl rfl)
theorem dX11_holds_38 : decode cX11_holds 38 = .ok (.iload_n 3, 1) := dk_29 (dk_at dksX11_holds_1 15 rfl rfl)
theorem dX11_holds_39 : decode cX11_holds 39 = .ok (.ireturn, 1) := dk_172 (dk_at dksX11_holds_1 16 rfl rfl)
theorem q167 : (Jvm.Cond.initialized "LetterPost$Either") ∈ lw_all := lw_g (lw_at lw_m1 25 rfl) rfl
theorem q870 : (Jvm.Cond.sameField "LetterPost$Either" "LetterPost$Pattern" "name" "I") ∈ lw_all := lw_g (lw_at lw_m4 8 rfl) rfl
theorem q951 : (Jvm.Cond.instantiable "LetterPost$Either" (2 : Nat)) ∈ lw_all := lw_g (lw_at lw_m4 89 rfl) rfl
theorem q953 : (Jvm.Cond.instanceMethod ({ cls := "LetterPost$Either", name := "<init>", desc := "([LLetterPost$Pattern;)V" } : Jvm.MethodName)) ∈ lw_all := lw_g (lw_at lw_m4 91 rfl) rfl
theorem q954 : (Jvm.Cond.code ({ cls := "LetterPost$Either", name := "<init>", desc := "([LLetterPost$Pattern;)V" } : Jvm.MethodName) prog_4_method_1_code (2 : Nat) (Option.none : Option Jvm.ClassFile.FieldType)) ∈ lw_all := lw_g (lw_at lw_m4 92 rfl) rfl
theorem q955 : (Jvm.Cond.methodLinkNest "LetterPost$Either" (3 : Nat) ({ cls := "LetterPost$Pattern", name := "<init>", desc := "()V" } : Jvm.MethodName) "LetterPost") ∈ lw_tbl := lw_at lw_m4 93 rfl
theorem q956 : (Jvm.Cond.fieldLink "LetterPost$Either" (9 : Nat) "LetterPost$Either" "ways" "[LLetterPost$Pattern;") ∈ lw_all := lw_g (lw_at lw_m4 94 rfl) rfl
theorem q957 : (Jvm.Cond.laysFinal "LetterPost$Either" "LetterPost$Either" "ways" "[LLetterPost$Pattern;") ∈ lw_all := lw_g (lw_at lw_m4 95 rfl) rfl
theorem q958 : (Jvm.Cond.soleField "LetterPost$Either" "ways") ∈ lw_all := lw_g (lw_at lw_m4 96 rfl) rfl
theorem q959 : (Jvm.Cond.lays "LetterPost$Either" "LetterPost$Pattern" "name" "I") ∈ lw_all := lw_g (lw_at lw_m4 97 rfl) rfl
theorem q960 : (Jvm.Cond.superclass "LetterPost$Either" "LetterPost$Pattern") ∈ lw_all := lw_g (lw_at lw_m4 98 rfl) rfl
theorem q1072 : (Jvm.Cond.selects "LetterPost$Either" ({ cls := "LetterPost$Pattern", name := "ways", desc := "()I" } : Jvm.MethodName) ({ cls := "LetterPost$Either", name := "ways", desc := "()I" } : Jvm.MethodName)) ∈ lw_all := lw_g (lw_at lw_m4 210 rfl) rfl
theorem q1073 : (Jvm.Cond.instanceMethod ({ cls := "LetterPost$Either", name := "ways", desc := "()I" } : Jvm.MethodName)) ∈ lw_all := lw_g (lw_at lw_m4 211 rfl) rfl
theorem q1074 : (Jvm.Cond.code ({ cls := "LetterPost$Either", name := "ways", desc := "()I" } : Jvm.MethodName) prog_4_method_3_code (6 : Nat) (Option.some Jvm.ClassFile.FieldType.int)) ∈ lw_all := lw_g (lw_at lw_m4 212 rfl) rfl
theorem q1075 : (Jvm.Cond.methodLink "LetterPost$Either" (19 : Nat) ({ cls := "LetterPost$Pattern", name := "ways", desc := "()I" } : Jvm.MethodName)) ∈ lw_all := lw_g (lw_at lw_m4 213 rfl) rfl
theorem q1079 : (Jvm.Cond.methodLink "LetterPost$Either" (22 : Nat) ({ cls := "java/lang/Math", name := "min", desc := "(II)I" } : Jvm.MethodName)) ∈ lw_all := lw_g (lw_at lw_m4 217 rfl) rfl
theorem q1169 : (Jvm.Cond.selects "LetterPost$Either" ({ cls := "LetterPost$Pattern", name := "row", desc := "(ILLetterPost$Place;LLetterPost$Function;LLetterPost$Row;)V" } : Jvm.MethodName) ({ cls := "LetterPost$Either", name := "row", desc := "(ILLetterPost$Place;LLetterPost$Function;LLetterPost$Row;)V" } : Jvm.MethodName)) ∈ lw_all := lw_g (lw_at lw_m5 67 rfl) rfl
theorem q1170 : (Jvm.Cond.instanceMethod ({ cls := "LetterPost$Either", name := "row", desc := "(ILLetterPost$Place;LLetterPost$Function;LLetterPost$Row;)V" } : Jvm.MethodName)) ∈ lw_all := lw_g (lw_at lw_m5 68 rfl) rfl
theorem q1171 : (Jvm.Cond.code ({ cls := "LetterPost$Either", name := "row", desc := "(ILLetterPost$Place;LLetterPost$Function;LLetterPost$Row;)V" } : Jvm.MethodName) prog_4_method_4_code (7 : Nat) (Option.none : Option Jvm.ClassFile.FieldType)) ∈ lw_all := lw_g (lw_at lw_m5 69 rfl) rfl
theorem q1172 : (Jvm.Cond.methodLink "LetterPost$Either" (28 : Nat) ({ cls := "LetterPost$Pattern", name := "row", desc := "(ILLetterPost$Place;LLetterPost$Function;LLetterPost$Row;)V" } : Jvm.MethodName)) ∈ lw_all := lw_g (lw_at lw_m5 70 rfl) rfl
theorem q1987 : (Jvm.Cond.selects "LetterPost$Either" ({ cls := "LetterPost$Pattern", name := "fits", desc := "(LLetterPost$Value;[LLetterPost$Value;)Z" } : Jvm.MethodName) ({ cls := "LetterPost$Pattern", name := "fits", desc := "(LLetterPost$Value;[LLetterPost$Value;)Z" } : Jvm.MethodName)) ∈ lw_all := lw_g (lw_at lw_m8 165 rfl) rfl
theorem q2000 : (Jvm.Cond.selects "LetterPost$Either" ({ cls := "LetterPost$Pattern", name := "holds", desc := "(LLetterPost$Value;[LLetterPost$Value;)Z" } : Jvm.MethodName) ({ cls := "LetterPost$Either", name := "holds", desc := "(LLetterPost$Value;[LLetterPost$Value;)Z" } : Jvm.MethodName)) ∈ lw_all := lw_g (lw_at lw_m8 178 rfl) rfl
theorem q2001 : (Jvm.Cond.instanceMethod ({ cls := "LetterPost$Either", name := "holds", desc := "(LLetterPost$Value;[LLetterPost$Value;)Z" } : Jvm.MethodName)) ∈ lw_all := lw_g (lw_at lw_m8 179 rfl) rfl
theorem q2002 : (Jvm.Cond.code ({ cls := "LetterPost$Either", name := "holds", desc := "(LLetterPost$Value;[LLetterPost$Value;)Z" } : Jvm.MethodName) prog_4_method_2_code (5 : Nat) (Option.some Jvm.ClassFile.FieldType.boolean)) ∈ lw_all := lw_g (lw_at lw_m8 180 rfl) rfl
theorem q2003 : (Jvm.Cond.methodLink "LetterPost$Either" (15 : Nat) ({ cls := "LetterPost$Pattern", name := "fits", desc := "(LLetterPost$Value;[LLetterPost$Value;)Z" } : Jvm.MethodName)) ∈ lw_all := lw_g (lw_at lw_m8 181 rfl) rfl
theorem q3026 : (Jvm.Cond.castable "LetterPost$Either" "LetterPost$Pattern") ∈ lw_tbl := lw_at lw_m13 4 rfl
theorem in_X11 : ∀ w ∈ wsX110, w ∈ lw_all := lw_in wsX110 [959, 957] (by decide +kernel) (by decide +kernel)

/-! LetterPost$Word -/
set_option maxRecDepth 100000
def RX12 : String := "LetterPost$Word"
def TX12 : u_T := fun k => match k with
  | 0 => ("LetterPost$Pattern", "name", "I", false)
  | _ => ("LetterPost$Word", "letters", "J", true)
def tyX12 : Nat → FieldType := fun k => match k with
  | 0 => .int
  | _ => .long
abbrev wsX120 : List Cond := u_ws RX12 TX12 2
theorem nmX12 : ∀ a, a < 2 → ∀ b, b < 2 → a ≠ b → (TX12 a).2.1 ≠ (TX12 b).2.1 := by decide +kernel
theorem tyX12_ok : ∀ k, k < 2 → parseFieldDescriptor (TX12 k).2.2.1 = some (tyX12 k) := by decide +kernel
abbrev cX12_init : ByteArray := prog_34_method_1_code
def yX12_init : MethodName := ⟨RX12, "<init>", "(J)V"⟩
def dkwX12_init_0 : List UInt8 := [42, 183, 0, 1, 42, 31, 181, 0, 7, 177]
abbrev dktX12_init_0 : List UInt8 := dkwX12_init_0 ++ []
theorem dksX12_init_0 : cX12_init.data.toList.drop 0 = dktX12_init_0 := by decide +kernel
theorem dX12_init_0 : decode cX12_init 0 = .ok (.aload_n 0, 1) := dk_42 (dk_at dksX12_init_0 0 rfl rfl)
theorem dX12_init_1 : decode cX12_init 1 = .ok (.invokespecial 1, 3) := dk_183 0 1 (dk_at dksX12_init_0 1 rfl rfl)
theorem dX12_init_4 : decode cX12_init 4 = .ok (.aload_n 0, 1) := dk_42 (dk_at dksX12_init_0 4 rfl rfl)
theorem dX12_init_5 : decode cX12_init 5 = .ok (.lload_n 1, 1) := dk_31 (dk_at dksX12_init_0 5 rfl rfl)
theorem dX12_init_6 : decode cX12_init 6 = .ok (.putfield 7, 3) := dk_181 0 7 (dk_at dksX12_init_0 6 rfl rfl)
theorem dX12_init_9 : decode cX12_init 9 = .ok (.return_, 1) := dk_177 (dk_at dksX12_init_0 9 rfl rfl)
abbrev cX12_by : ByteArray := prog_34_method_3_code
def yX12_by : MethodName := ⟨RX12, "by", "(LLetterPost$Known;LLetterPost$Place;)I"⟩
def dkwX12_by_2 : List UInt8 := [153, 0, 7, 2, 167, 0, 4, 3, 172]
abbrev dktX12_by_2 : List UInt8 := dkwX12_by_2 ++ []
def dkwX12_by_1 : List UInt8 := [180, 0, 7, 148, 154, 0, 7, 4, 167, 0, 4, 2, 172, 43, 44, 42, 180, 0, 7, 182, 0, 31]
abbrev dktX12_by_1 : List UInt8 := dkwX12_by_1 ++ dktX12_by_2
def dkwX12_by_0 : List UInt8 := [43, 180, 0, 16, 44, 180, 0, 22, 46, 4, 160, 0, 26, 43, 180, 0, 28, 44, 180, 0, 22, 47, 42]
abbrev dktX12_by_0 : List UInt8 := dkwX12_by_0 ++ dktX12_by_1
theorem dksX12_by_0 : cX12_by.data.toList.drop 0 = dktX12_by_0 := by decide +kernel
theorem dksX12_by_1 : cX12_by.data.toList.drop 23 = dktX12_by_1 := dk_seg dksX12_by_0 23 rfl rfl
theorem dksX12_by_2 : cX12_by.data.toList.drop 45 = dktX12_by_2 := dk_seg dksX12_by_1 22 rfl rfl
theorem dX12_by_0 : decode cX12_by 0 = .ok (.aload_n 1, 1) := dk_43 (dk_at dksX12_by_0 0 rfl rfl)
theorem dX12_by_1 : decode cX12_by 1 = .ok (.getfield 16, 3) := dk_180 0 16 (dk_at dksX12_by_0 1 rfl rfl)
theorem dX12_by_4 : decode cX12_by 4 = .ok (.aload_n 2, 1) := dk_44 (dk_at dksX12_by_0 4 rfl rfl)
theorem dX12_by_5 : decode cX12_by 5 = .ok (.getfield 22, 3) := dk_180 0 22 (dk_at dksX12_by_0 5 rfl rfl)
theorem dX12_by_8 : decode cX12_by 8 = .ok (.iaload, 1) := dk_46 (dk_at dksX12_by_0 8 rfl rfl)
theorem dX12_by_9 : decode cX12_by 9 = .ok (.iconst 1, 1) := dk_4 (dk_at dksX12_by_0 9 rfl rfl)
theorem dX12_by_10 : decode cX12_by 10 = .ok (.if_icmp .ne 26, 3) := dk_160 0 26 (dk_at dksX12_by_0 10 rfl rfl)
theorem dX12_by_13 : decode cX12_by 13 = .ok (.aload_n 1, 1) := dk_43 (dk_at dksX12_by_0 13 rfl rfl)
theorem dX12_by_14 : decode cX12_by 14 = .ok (.getfield 28, 3) := dk_180 0 28 (dk_at dksX12_by_0 14 rfl rfl)
theorem dX12_by_17 : decode cX12_by 17 = .ok (.aload_n 2, 1) := dk_44 (dk_at dksX12_by_0 17 rfl rfl)
theorem dX12_by_18 : decode cX12_by 18 = .ok (.getfield 22, 3) := dk_180 0 22 (dk_at dksX12_by_0 18 rfl rfl)
theorem dX12_by_21 : decode cX12_by 21 = .ok (.laload, 1) := dk_47 (dk_at dksX12_by_0 21 rfl rfl)
theorem dX12_by_22 : decode cX12_by 22 = .ok (.aload_n 0, 1) := dk_42 (dk_at dksX12_by_0 22 rfl rfl)
theorem dX12_by_23 : decode cX12_by 23 = .ok (.getfield 7, 3) := dk_180 0 7 (dk_at dksX12_by_1 0 rfl rfl)
theorem dX12_by_26 : decode cX12_by 26 = .ok (.lcmp, 1) := dk_148 (dk_at dksX12_by_1 3 rfl rfl)
theorem dX12_by_27 : decode cX12_by 27 = .ok (.ifCond .ne 7, 3) := dk_154 0 7 (dk_at dksX12_by_1 4 rfl rfl)
theorem dX12_by_30 : decode cX12_by 30 = .ok (.iconst 1, 1) := dk_4 (dk_at dksX12_by_1 7 rfl rfl)
theorem dX12_by_31 : decode cX12_by 31 = .ok (.goto 4, 3) := dk_167 0 4 (dk_at dksX12_by_1 8 rfl rfl)
theorem dX12_by_34 : decode cX12_by 34 = .ok (.iconst (-1), 1) := dk_2 (dk_at dksX12_by_1 11 rfl rfl)
theorem dX12_by_35 : decode cX12_by 35 = .ok (.ireturn, 1) := dk_172 (dk_at dksX12_by_1 12 rfl rfl)
theorem dX12_by_36 : decode cX12_by 36 = .ok (.aload_n 1, 1) := dk_43 (dk_at dksX12_by_1 13 rfl rfl)
theorem dX12_by_37 : decode cX12_by 37 = .ok (.aload_n 2, 1) := dk_44 (dk_at dksX12_by_1 14 rfl rfl)
theorem dX12_by_38 : decode cX12_by 38 = .ok (.aload_n 0, 1) := dk_42 (dk_at dksX12_by_1 15 rfl rfl)
theorem dX12_by_39 : decode cX12_by 39 = .ok (.getfield 7, 3) := dk_180 0 7 (dk_at dksX12_by_1 16 rfl rfl)
theorem dX12_by_42 : decode cX12_by 42 = .ok (.invokevirtual 31, 3) := dk_182 0 31 (dk_at dksX12_by_1 19 rfl rfl)
theorem dX12_by_45 : decode cX12_by 45 = .ok (.ifCond .eq 7, 3) := dk_153 0 7 (dk_at dksX12_by_2 0 rfl rfl)
theorem dX12_by_48 : decode cX12_by 48 = .ok (.iconst (-1), 1) := dk_2 (dk_at dksX12_by_2 3 rfl rfl)
theorem dX12_by_49 : decode cX12_by 49 = .ok (.goto 4, 3) := dk_167 0 4 (dk_at dksX12_by_2 4 rfl rfl)
theorem dX12_by_52 : decode cX12_by 52 = .ok (.iconst 0, 1) := dk_3 (dk_at dksX12_by_2 7 rfl rfl)
theorem dX12_by_53 : decode cX12_by 53 = .ok (.ireturn, 1) := dk_172 (dk_at dksX12_by_2 8 rfl rfl)
abbrev cX12_holds : ByteArray := prog_34_method_2_code
def yX12_holds : MethodName := ⟨RX12, "holds", "(LLetterPost$Value;[LLetterPost$Value;)Z"⟩
def dkwX12_holds_0 : List UInt8 := [43, 192, 0, 13, 180, 0, 15, 42, 180, 0, 7, 148, 154, 0, 7, 4, 167, 0, 4, 3, 172]
abbrev dktX12_holds_0 : List UInt8 := dkwX12_holds_0 ++ []
theorem dksX12_holds_0 : cX12_holds.data.toList.drop 0 = dktX12_holds_0 := by decide +kernel
theorem dX12_holds_0 : decode cX12_holds 0 = .ok (.aload_n 1, 1) := dk_43 (dk_at dksX12_holds_0 0 rfl rfl)
theorem dX12_holds_1 : decode cX12_holds 1 = .ok (.checkcast 13, 3) := dk_192 0 13 (dk_at dksX12_holds_0 1 rfl rfl)
theorem dX12_holds_4 : decode cX12_holds 4 = .ok (.getfield 15, 3) := dk_180 0 15 (dk_at dksX12_holds_0 4 rfl rfl)
theorem dX12_holds_7 : decode cX12_holds 7 = .ok (.aload_n 0, 1) := dk_42 (dk_at dksX12_holds_0 7 rfl rfl)
theorem dX12_holds_8 : decode cX12_holds 8 = .ok (.getfield 7, 3) := dk_180 0 7 (dk_at dksX12_holds_0 8 rfl rfl)
theorem dX12_holds_11 : decode cX12_holds 11 = .ok (.lcmp, 1) := dk_148 (dk_at dksX12_holds_0 11 rfl rfl)
theorem dX12_holds_12 : decode cX12_holds 12 = .ok (.ifCond .ne 7, 3) := dk_154 0 7 (dk_at dksX12_holds_0 12 rfl rfl)
theorem dX12_holds_15 : decode cX12_holds 15 = .ok (.iconst 1, 1) := dk_4 (dk_at dksX12_holds_0 15 rfl rfl)
theorem dX12_holds_16 : decode cX12_holds 16 = .ok (.goto 4, 3) := dk_167 0 4 (dk_at dksX12_holds_0 16 rfl rfl)
theorem dX12_holds_19 : decode cX12_holds 19 = .ok (.iconst 0, 1) := dk_3 (dk_at dksX12_holds_0 19 rfl rfl)
theorem dX12_holds_20 : decode cX12_holds 20 = .ok (.ireturn, 1) := dk_172 (dk_at dksX12_holds_0 20 rfl rfl)
theorem q168 : (Jvm.Cond.initialized "LetterPost$Word") ∈ lw_all := lw_g (lw_at lw_m1 26 rfl) rfl
theorem q962 : (Jvm.Cond.instantiable "LetterPost$Word" (2 : Nat)) ∈ lw_all := lw_g (lw_at lw_m4 100 rfl) rfl
theorem q964 : (Jvm.Cond.instanceMethod ({ cls := "LetterPost$Word", name := "<init>", desc := "(J)V" } : Jvm.MethodName)) ∈ lw_all := lw_g (lw_at lw_m4 102 rfl) rfl
theorem q965 : (Jvm.Cond.code ({ cls := "LetterPost$Word", name := "<init>", desc := "(J)V" } : Jvm.MethodName) prog_34_method_1_code (3 : Nat) (Option.none : Option Jvm.ClassFile.FieldType)) ∈ lw_all := lw_g (lw_at lw_m4 103 rfl) rfl
theorem q966 : (Jvm.Cond.methodLinkNest "LetterPost$Word" (1 : Nat) ({ cls := "LetterPost$Test", name := "<init>", desc := "()V" } : Jvm.MethodName) "LetterPost") ∈ lw_tbl := lw_at lw_m4 104 rfl
theorem q967 : (Jvm.Cond.fieldLink "LetterPost$Word" (7 : Nat) "LetterPost$Word" "letters" "J") ∈ lw_all := lw_g (lw_at lw_m4 105 rfl) rfl
theorem q969 : (Jvm.Cond.laysFinal "LetterPost$Word" "LetterPost$Word" "letters" "J") ∈ lw_all := lw_g (lw_at lw_m4 107 rfl) rfl
theorem q970 : (Jvm.Cond.soleField "LetterPost$Word" "letters") ∈ lw_all := lw_g (lw_at lw_m4 108 rfl) rfl
theorem q971 : (Jvm.Cond.lays "LetterPost$Word" "LetterPost$Pattern" "name" "I") ∈ lw_all := lw_g (lw_at lw_m4 109 rfl) rfl
theorem q972 : (Jvm.Cond.superclass "LetterPost$Word" "LetterPost$Test") ∈ lw_all := lw_g (lw_at lw_m4 110 rfl) rfl
theorem q1084 : (Jvm.Cond.selects "LetterPost$Word" ({ cls := "LetterPost$Pattern", name := "ways", desc := "()I" } : Jvm.MethodName) ({ cls := "LetterPost$Pattern", name := "ways", desc := "()I" } : Jvm.MethodName)) ∈ lw_all := lw_g (lw_at lw_m4 222 rfl) rfl
theorem q1147 : (Jvm.Cond.fieldLink "LetterPost$Word" (22 : Nat) "LetterPost$Place" "number" "I") ∈ lw_all := lw_g (lw_at lw_m5 45 rfl) rfl
theorem q1193 : (Jvm.Cond.selects "LetterPost$Word" ({ cls := "LetterPost$Pattern", name := "row", desc := "(ILLetterPost$Place;LLetterPost$Function;LLetterPost$Row;)V" } : Jvm.MethodName) ({ cls := "LetterPost$Test", name := "row", desc := "(ILLetterPost$Place;LLetterPost$Function;LLetterPost$Row;)V" } : Jvm.MethodName)) ∈ lw_all := lw_g (lw_at lw_m5 91 rfl) rfl
theorem q1223 : (Jvm.Cond.fieldLink "LetterPost$Word" (16 : Nat) "LetterPost$Known" "state" "[I") ∈ lw_all := lw_g (lw_at lw_m5 121 rfl) rfl
theorem q1230 : (Jvm.Cond.fieldLink "LetterPost$Word" (28 : Nat) "LetterPost$Known" "letters" "[J") ∈ lw_all := lw_g (lw_at lw_m5 128 rfl) rfl
theorem q1310 : (Jvm.Cond.selects "LetterPost$Word" ({ cls := "LetterPost$Test", name := "by", desc := "(LLetterPost$Known;LLetterPost$Place;)I" } : Jvm.MethodName) ({ cls := "LetterPost$Word", name := "by", desc := "(LLetterPost$Known;LLetterPost$Place;)I" } : Jvm.MethodName)) ∈ lw_all := lw_g (lw_at lw_m5 208 rfl) rfl
theorem q1311 : (Jvm.Cond.instanceMethod ({ cls := "LetterPost$Word", name := "by", desc := "(LLetterPost$Known;LLetterPost$Place;)I" } : Jvm.MethodName)) ∈ lw_all := lw_g (lw_at lw_m5 209 rfl) rfl
theorem q1312 : (Jvm.Cond.code ({ cls := "LetterPost$Word", name := "by", desc := "(LLetterPost$Known;LLetterPost$Place;)I" } : Jvm.MethodName) prog_34_method_3_code (3 : Nat) (Option.some Jvm.ClassFile.FieldType.int)) ∈ lw_all := lw_g (lw_at lw_m5 210 rfl) rfl
theorem q1313 : (Jvm.Cond.methodLink "LetterPost$Word" (31 : Nat) ({ cls := "LetterPost$Known", name := "isOut", desc := "(LLetterPost$Place;J)Z" } : Jvm.MethodName)) ∈ lw_all := lw_g (lw_at lw_m5 211 rfl) rfl
theorem q1747 : (Jvm.Cond.fieldLink "LetterPost$Word" (15 : Nat) "LetterPost$Text" "letters" "J") ∈ lw_all := lw_g (lw_at lw_m7 165 rfl) rfl
theorem q1992 : (Jvm.Cond.selects "LetterPost$Word" ({ cls := "LetterPost$Pattern", name := "fits", desc := "(LLetterPost$Value;[LLetterPost$Value;)Z" } : Jvm.MethodName) ({ cls := "LetterPost$Pattern", name := "fits", desc := "(LLetterPost$Value;[LLetterPost$Value;)Z" } : Jvm.MethodName)) ∈ lw_all := lw_g (lw_at lw_m8 170 rfl) rfl
theorem q2023 : (Jvm.Cond.selects "LetterPost$Word" ({ cls := "LetterPost$Pattern", name := "holds", desc := "(LLetterPost$Value;[LLetterPost$Value;)Z" } : Jvm.MethodName) ({ cls := "LetterPost$Word", name := "holds", desc := "(LLetterPost$Value;[LLetterPost$Value;)Z" } : Jvm.MethodName)) ∈ lw_all := lw_g (lw_at lw_m8 201 rfl) rfl
theorem q2024 : (Jvm.Cond.instanceMethod ({ cls := "LetterPost$Word", name := "holds", desc := "(LLetterPost$Value;[LLetterPost$Value;)Z" } : Jvm.MethodName)) ∈ lw_all := lw_g (lw_at lw_m8 202 rfl) rfl
theorem q2025 : (Jvm.Cond.code ({ cls := "LetterPost$Word", name := "holds", desc := "(LLetterPost$Value;[LLetterPost$Value;)Z" } : Jvm.MethodName) prog_34_method_2_code (3 : Nat) (Option.some Jvm.ClassFile.FieldType.boolean)) ∈ lw_all := lw_g (lw_at lw_m8 203 rfl) rfl
theorem q2026 : (Jvm.Cond.classLink "LetterPost$Word" (13 : Nat) "LetterPost$Text") ∈ lw_all := lw_g (lw_at lw_m8 204 rfl) rfl
theorem q3027 : (Jvm.Cond.castable "LetterPost$Word" "LetterPost$Pattern") ∈ lw_tbl := lw_at lw_m13 5 rfl
theorem q3032 : (Jvm.Cond.castable "LetterPost$Word" "LetterPost$Test") ∈ lw_tbl := lw_at lw_m13 10 rfl
theorem in_X12 : ∀ w ∈ wsX120, w ∈ lw_all := lw_in wsX120 [971, 969] (by decide +kernel) (by decide +kernel)

/-! LetterPost$Same -/
set_option maxRecDepth 100000
def RX13 : String := "LetterPost$Same"
def TX13 : u_T := fun k => match k with
  | 0 => ("LetterPost$Pattern", "name", "I", false)
  | _ => ("LetterPost$Same", "is", "Z", true)
def tyX13 : Nat → FieldType := fun k => match k with
  | 0 => .int
  | _ => .boolean
abbrev wsX130 : List Cond := u_ws RX13 TX13 2
theorem nmX13 : ∀ a, a < 2 → ∀ b, b < 2 → a ≠ b → (TX13 a).2.1 ≠ (TX13 b).2.1 := by decide +kernel
theorem tyX13_ok : ∀ k, k < 2 → parseFieldDescriptor (TX13 k).2.2.1 = some (tyX13 k) := by decide +kernel
abbrev cX13_init : ByteArray := prog_22_method_1_code
def yX13_init : MethodName := ⟨RX13, "<init>", "(Z)V"⟩
def dkwX13_init_0 : List UInt8 := [42, 183, 0, 1, 42, 27, 181, 0, 7, 177]
abbrev dktX13_init_0 : List UInt8 := dkwX13_init_0 ++ []
theorem dksX13_init_0 : cX13_init.data.toList.drop 0 = dktX13_init_0 := by decide +kernel
theorem dX13_init_0 : decode cX13_init 0 = .ok (.aload_n 0, 1) := dk_42 (dk_at dksX13_init_0 0 rfl rfl)
theorem dX13_init_1 : decode cX13_init 1 = .ok (.invokespecial 1, 3) := dk_183 0 1 (dk_at dksX13_init_0 1 rfl rfl)
theorem dX13_init_4 : decode cX13_init 4 = .ok (.aload_n 0, 1) := dk_42 (dk_at dksX13_init_0 4 rfl rfl)
theorem dX13_init_5 : decode cX13_init 5 = .ok (.iload_n 1, 1) := dk_27 (dk_at dksX13_init_0 5 rfl rfl)
theorem dX13_init_6 : decode cX13_init 6 = .ok (.putfield 7, 3) := dk_181 0 7 (dk_at dksX13_init_0 6 rfl rfl)
theorem dX13_init_9 : decode cX13_init 9 = .ok (.return_, 1) := dk_177 (dk_at dksX13_init_0 9 rfl rfl)
abbrev cX13_by : ByteArray := prog_22_method_3_code
def yX13_by : MethodName := ⟨RX13, "by", "(LLetterPost$Known;LLetterPost$Place;)I"⟩
def dkwX13_by_1 : List UInt8 := [153, 0, 7, 5, 167, 0, 4, 4, 160, 0, 7, 4, 167, 0, 4, 2, 172]
abbrev dktX13_by_1 : List UInt8 := dkwX13_by_1 ++ []
def dkwX13_by_0 : List UInt8 := [43, 180, 0, 19, 44, 180, 0, 25, 46, 62, 29, 154, 0, 7, 3, 167, 0, 24, 29, 42, 180, 0, 7]
abbrev dktX13_by_0 : List UInt8 := dkwX13_by_0 ++ dktX13_by_1
theorem dksX13_by_0 : cX13_by.data.toList.drop 0 = dktX13_by_0 := by decide +kernel
theorem dksX13_by_1 : cX13_by.data.toList.drop 23 = dktX13_by_1 := dk_seg dksX13_by_0 23 rfl rfl
theorem dX13_by_0 : decode cX13_by 0 = .ok (.aload_n 1, 1) := dk_43 (dk_at dksX13_by_0 0 rfl rfl)
theorem dX13_by_1 : decode cX13_by 1 = .ok (.getfield 19, 3) := dk_180 0 19 (dk_at dksX13_by_0 1 rfl rfl)
theorem dX13_by_4 : decode cX13_by 4 = .ok (.aload_n 2, 1) := dk_44 (dk_at dksX13_by_0 4 rfl rfl)
theorem dX13_by_5 : decode cX13_by 5 = .ok (.getfield 25, 3) := dk_180 0 25 (dk_at dksX13_by_0 5 rfl rfl)
theorem dX13_by_8 : decode cX13_by 8 = .ok (.iaload, 1) := dk_46 (dk_at dksX13_by_0 8 rfl rfl)
theorem dX13_by_9 : decode cX13_by 9 = .ok (.istore_n 3, 1) := dk_62 (dk_at dksX13_by_0 9 rfl rfl)
theorem dX13_by_10 : decode cX13_by 10 = .ok (.iload_n 3, 1) := dk_29 (dk_at dksX13_by_0 10 rfl rfl)
theorem dX13_by_11 : decode cX13_by 11 = .ok (.ifCond .ne 7, 3) := dk_154 0 7 (dk_at dksX13_by_0 11 rfl rfl)
theorem dX13_by_14 : decode cX13_by 14 = .ok (.iconst 0, 1) := dk_3 (dk_at dksX13_by_0 14 rfl rfl)
theorem dX13_by_15 : decode cX13_by 15 = .ok (.goto 24, 3) := dk_167 0 24 (dk_at dksX13_by_0 15 rfl rfl)
theorem dX13_by_18 : decode cX13_by 18 = .ok (.iload_n 3, 1) := dk_29 (dk_at dksX13_by_0 18 rfl rfl)
theorem dX13_by_19 : decode cX13_by 19 = .ok (.aload_n 0, 1) := dk_42 (dk_at dksX13_by_0 19 rfl rfl)
theorem dX13_by_20 : decode cX13_by 20 = .ok (.getfield 7, 3) := dk_180 0 7 (dk_at dksX13_by_0 20 rfl rfl)
theorem dX13_by_23 : decode cX13_by 23 = .ok (.ifCond .eq 7, 3) := dk_153 0 7 (dk_at dksX13_by_1 0 rfl rfl)
theorem dX13_by_26 : decode cX13_by 26 = .ok (.iconst 2, 1) := dk_5 (dk_at dksX13_by_1 3 rfl rfl)
theorem dX13_by_27 : decode cX13_by 27 = .ok (.goto 4, 3) := dk_167 0 4 (dk_at dksX13_by_1 4 rfl rfl)
theorem dX13_by_30 : decode cX13_by 30 = .ok (.iconst 1, 1) := dk_4 (dk_at dksX13_by_1 7 rfl rfl)
theorem dX13_by_31 : decode cX13_by 31 = .ok (.if_icmp .ne 7, 3) := dk_160 0 7 (dk_at dksX13_by_1 8 rfl rfl)
theorem dX13_by_34 : decode cX13_by 34 = .ok (.iconst 1, 1) := dk_4 (dk_at dksX13_by_1 11 rfl rfl)
theorem dX13_by_35 : decode cX13_by 35 = .ok (.goto 4, 3) := dk_167 0 4 (dk_at dksX13_by_1 12 rfl rfl)
theorem dX13_by_38 : decode cX13_by 38 = .ok (.iconst (-1), 1) := dk_2 (dk_at dksX13_by_1 15 rfl rfl)
theorem dX13_by_39 : decode cX13_by 39 = .ok (.ireturn, 1) := dk_172 (dk_at dksX13_by_1 16 rfl rfl)
abbrev cX13_holds : ByteArray := prog_22_method_2_code
def yX13_holds : MethodName := ⟨RX13, "holds", "(LLetterPost$Value;[LLetterPost$Value;)Z"⟩
def dkwX13_holds_1 : List UInt8 := [172]
abbrev dktX13_holds_1 : List UInt8 := dkwX13_holds_1 ++ []
def dkwX13_holds_0 : List UInt8 := [43, 182, 0, 13, 42, 180, 0, 7, 153, 0, 7, 4, 167, 0, 4, 3, 160, 0, 7, 4, 167, 0, 4, 3]
abbrev dktX13_holds_0 : List UInt8 := dkwX13_holds_0 ++ dktX13_holds_1
theorem dksX13_holds_0 : cX13_holds.data.toList.drop 0 = dktX13_holds_0 := by decide +kernel
theorem dksX13_holds_1 : cX13_holds.data.toList.drop 24 = dktX13_holds_1 := dk_seg dksX13_holds_0 24 rfl rfl
theorem dX13_holds_0 : decode cX13_holds 0 = .ok (.aload_n 1, 1) := dk_43 (dk_at dksX13_holds_0 0 rfl rfl)
theorem dX13_holds_1 : decode cX13_holds 1 = .ok (.invokevirtual 13, 3) := dk_182 0 13 (dk_at dksX13_holds_0 1 rfl rfl)
theorem dX13_holds_4 : decode cX13_holds 4 = .ok (.aload_n 0, 1) := dk_42 (dk_at dksX13_holds_0 4 rfl rfl)
theorem dX13_holds_5 : decode cX13_holds 5 = .ok (.getfield 7, 3) := dk_180 0 7 (dk_at dksX13_holds_0 5 rfl rfl)
theorem dX13_holds_8 : decode cX13_holds 8 = .ok (.ifCond .eq 7, 3) := dk_153 0 7 (dk_at dksX13_holds_0 8 rfl rfl)
theorem dX13_holds_11 : decode cX13_holds 11 = .ok (.iconst 1, 1) := dk_4 (dk_at dksX13_holds_0 11 rfl rfl)
theorem dX13_holds_12 : decode cX13_holds 12 = .ok (.goto 4, 3) := dk_167 0 4 (dk_at dksX13_holds_0 12 rfl rfl)
theorem dX13_holds_15 : decode cX13_holds 15 = .ok (.iconst 0, 1) := dk_3 (dk_at dksX13_holds_0 15 rfl rfl)
theorem dX13_holds_16 : decode cX13_holds 16 = .ok (.if_icmp .ne 7, 3) := dk_160 0 7 (dk_at dksX13_holds_0 16 rfl rfl)
theorem dX13_holds_19 : decode cX13_holds 19 = .ok (.iconst 1, 1) := dk_4 (dk_at dksX13_holds_0 19 rfl rfl)
theorem dX13_holds_20 : decode cX13_holds 20 = .ok (.goto 4, 3) := dk_167 0 4 (dk_at dksX13_holds_0 20 rfl rfl)
theorem dX13_holds_23 : decode cX13_holds 23 = .ok (.iconst 0, 1) := dk_3 (dk_at dksX13_holds_0 23 rfl rfl)
theorem dX13_holds_24 : decode cX13_holds 24 = .ok (.ireturn, 1) := dk_172 (dk_at dksX13_holds_1 0 rfl rfl)
theorem q169 : (Jvm.Cond.initialized "LetterPost$Same") ∈ lw_all := lw_g (lw_at lw_m1 27 rfl) rfl
theorem q976 : (Jvm.Cond.instantiable "LetterPost$Same" (2 : Nat)) ∈ lw_all := lw_g (lw_at lw_m4 114 rfl) rfl
theorem q978 : (Jvm.Cond.instanceMethod ({ cls := "LetterPost$Same", name := "<init>", desc := "(Z)V" } : Jvm.MethodName)) ∈ lw_all := lw_g (lw_at lw_m4 116 rfl) rfl
theorem q979 : (Jvm.Cond.code ({ cls := "LetterPost$Same", name := "<init>", desc := "(Z)V" } : Jvm.MethodName) prog_22_method_1_code (2 : Nat) (Option.none : Option Jvm.ClassFile.FieldType)) ∈ lw_all := lw_g (lw_at lw_m4 117 rfl) rfl
theorem q980 : (Jvm.Cond.methodLinkNest "LetterPost$Same" (1 : Nat) ({ cls := "LetterPost$Test", name := "<init>", desc := "()V" } : Jvm.MethodName) "LetterPost") ∈ lw_tbl := lw_at lw_m4 118 rfl
theorem q981 : (Jvm.Cond.fieldLink "LetterPost$Same" (7 : Nat) "LetterPost$Same" "is" "Z") ∈ lw_all := lw_g (lw_at lw_m4 119 rfl) rfl
theorem q982 : (Jvm.Cond.laysFinal "LetterPost$Same" "LetterPost$Same" "is" "Z") ∈ lw_all := lw_g (lw_at lw_m4 120 rfl) rfl
theorem q983 : (Jvm.Cond.soleField "LetterPost$Same" "is") ∈ lw_all := lw_g (lw_at lw_m4 121 rfl) rfl
theorem q984 : (Jvm.Cond.lays "LetterPost$Same" "LetterPost$Pattern" "name" "I") ∈ lw_all := lw_g (lw_at lw_m4 122 rfl) rfl
theorem q985 : (Jvm.Cond.superclass "LetterPost$Same" "LetterPost$Test") ∈ lw_all := lw_g (lw_at lw_m4 123 rfl) rfl
theorem q1083 : (Jvm.Cond.selects "LetterPost$Same" ({ cls := "LetterPost$Pattern", name := "ways", desc := "()I" } : Jvm.MethodName) ({ cls := "LetterPost$Pattern", name := "ways", desc := "()I" } : Jvm.MethodName)) ∈ lw_all := lw_g (lw_at lw_m4 221 rfl) rfl
theorem q1146 : (Jvm.Cond.fieldLink "LetterPost$Same" (25 : Nat) "LetterPost$Place" "number" "I") ∈ lw_all := lw_g (lw_at lw_m5 44 rfl) rfl
theorem q1192 : (Jvm.Cond.selects "LetterPost$Same" ({ cls := "LetterPost$Pattern", name := "row", desc := "(ILLetterPost$Place;LLetterPost$Function;LLetterPost$Row;)V" } : Jvm.MethodName) ({ cls := "LetterPost$Test", name := "row", desc := "(ILLetterPost$Place;LLetterPost$Function;LLetterPost$Row;)V" } : Jvm.MethodName)) ∈ lw_all := lw_g (lw_at lw_m5 90 rfl) rfl
theorem q1222 : (Jvm.Cond.fieldLink "LetterPost$Same" (19 : Nat) "LetterPost$Known" "state" "[I") ∈ lw_all := lw_g (lw_at lw_m5 120 rfl) rfl
theorem q1307 : (Jvm.Cond.selects "LetterPost$Same" ({ cls := "LetterPost$Test", name := "by", desc := "(LLetterPost$Known;LLetterPost$Place;)I" } : Jvm.MethodName) ({ cls := "LetterPost$Same", name := "by", desc := "(LLetterPost$Known;LLetterPost$Place;)I" } : Jvm.MethodName)) ∈ lw_all := lw_g (lw_at lw_m5 205 rfl) rfl
theorem q1308 : (Jvm.Cond.instanceMethod ({ cls := "LetterPost$Same", name := "by", desc := "(LLetterPost$Known;LLetterPost$Place;)I" } : Jvm.MethodName)) ∈ lw_all := lw_g (lw_at lw_m5 206 rfl) rfl
theorem q1309 : (Jvm.Cond.code ({ cls := "LetterPost$Same", name := "by", desc := "(LLetterPost$Known;LLetterPost$Place;)I" } : Jvm.MethodName) prog_22_method_3_code (4 : Nat) (Option.some Jvm.ClassFile.FieldType.int)) ∈ lw_all := lw_g (lw_at lw_m5 207 rfl) rfl
theorem q1991 : (Jvm.Cond.selects "LetterPost$Same" ({ cls := "LetterPost$Pattern", name := "fits", desc := "(LLetterPost$Value;[LLetterPost$Value;)Z" } : Jvm.MethodName) ({ cls := "LetterPost$Pattern", name := "fits", desc := "(LLetterPost$Value;[LLetterPost$Value;)Z" } : Jvm.MethodName)) ∈ lw_all := lw_g (lw_at lw_m8 169 rfl) rfl
theorem q2019 : (Jvm.Cond.selects "LetterPost$Same" ({ cls := "LetterPost$Pattern", name := "holds", desc := "(LLetterPost$Value;[LLetterPost$Value;)Z" } : Jvm.MethodName) ({ cls := "LetterPost$Same", name := "holds", desc := "(LLetterPost$Value;[LLetterPost$Value;)Z" } : Jvm.MethodName)) ∈ lw_all := lw_g (lw_at lw_m8 197 rfl) rfl
theorem q2020 : (Jvm.Cond.instanceMethod ({ cls := "LetterPost$Same", name := "holds", desc := "(LLetterPost$Value;[LLetterPost$Value;)Z" } : Jvm.MethodName)) ∈ lw_all := lw_g (lw_at lw_m8 198 rfl) rfl
theorem q2021 : (Jvm.Cond.code ({ cls := "LetterPost$Same", name := "holds", desc := "(LLetterPost$Value;[LLetterPost$Value;)Z" } : Jvm.MethodName) prog_22_method_2_code (3 : Nat) (Option.some Jvm.ClassFile.FieldType.boolean)) ∈ lw_all := lw_g (lw_at lw_m8 199 rfl) rfl
theorem q2022 : (Jvm.Cond.methodLink "LetterPost$Same" (13 : Nat) ({ cls := "LetterPost$Value", name := "told", desc := "()I" } : Jvm.MethodName)) ∈ lw_all := lw_g (lw_at lw_m8 200 rfl) rfl
theorem q3028 : (Jvm.Cond.castable "LetterPost$Same" "LetterPost$Pattern") ∈ lw_tbl := lw_at lw_m13 6 rfl
theorem q3033 : (Jvm.Cond.castable "LetterPost$Same" "LetterPost$Test") ∈ lw_tbl := lw_at lw_m13 11 rfl
theorem in_X13 : ∀ w ∈ wsX130, w ∈ lw_all := lw_in wsX130 [984, 982] (by decide +kernel) (by decide +kernel)

/-! LetterPost$None -/
set_option maxRecDepth 100000
def RX14 : String := "LetterPost$None"
def TX14 : u_T := fun k => match k with
  | _ => ("LetterPost$Pattern", "name", "I", false)
def tyX14 : Nat → FieldType := fun k => match k with
  | _ => .int
abbrev wsX140 : List Cond := u_ws RX14 TX14 1
theorem nmX14 : ∀ a, a < 1 → ∀ b, b < 1 → a ≠ b → (TX14 a).2.1 ≠ (TX14 b).2.1 := by decide +kernel
theorem tyX14_ok : ∀ k, k < 1 → parseFieldDescriptor (TX14 k).2.2.1 = some (tyX14 k) := by decide +kernel
abbrev cX14_init : ByteArray := prog_15_method_1_code
def yX14_init : MethodName := ⟨RX14, "<init>", "()V"⟩
theorem dX14_init_0 : decode cX14_init 0 = .ok (.aload_n 0, 1) := by decide +kernel
theorem dX14_init_1 : decode cX14_init 1 = .ok (.invokespecial 1, 3) := by decide +kernel
theorem dX14_init_4 : decode cX14_init 4 = .ok (.return_, 1) := by decide +kernel
abbrev cX14_by : ByteArray := prog_15_method_3_code
def yX14_by : MethodName := ⟨RX14, "by", "(LLetterPost$Known;LLetterPost$Place;)I"⟩
def dkwX14_by_1 : List UInt8 := [167, 0, 4, 2, 172]
abbrev dktX14_by_1 : List UInt8 := dkwX14_by_1 ++ []
def dkwX14_by_0 : List UInt8 := [43, 180, 0, 13, 44, 180, 0, 19, 46, 62, 29, 154, 0, 7, 3, 167, 0, 13, 29, 4, 160, 0, 7, 4]
abbrev dktX14_by_0 : List UInt8 := dkwX14_by_0 ++ dktX14_by_1
theorem dksX14_by_0 : cX14_by.data.toList.drop 0 = dktX14_by_0 := by decide +kernel
theorem dksX14_by_1 : cX14_by.data.toList.drop 24 = dktX14_by_1 := dk_seg dksX14_by_0 24 rfl rfl
theorem dX14_by_0 : decode cX14_by 0 = .ok (.aload_n 1, 1) := dk_43 (dk_at dksX14_by_0 0 rfl rfl)
theorem dX14_by_1 : decode cX14_by 1 = .ok (.getfield 13, 3) := dk_180 0 13 (dk_at dksX14_by_0 1 rfl rfl)
theorem dX14_by_4 : decode cX14_by 4 = .ok (.aload_n 2, 1) := dk_44 (dk_at dksX14_by_0 4 rfl rfl)
theorem dX14_by_5 : decode cX14_by 5 = .ok (.getfield 19, 3) := dk_180 0 19 (dk_at dksX14_by_0 5 rfl rfl)
theorem dX14_by_8 : decode cX14_by 8 = .ok (.iaload, 1) := dk_46 (dk_at dksX14_by_0 8 rfl rfl)
theorem dX14_by_9 : decode cX14_by 9 = .ok (.istore_n 3, 1) := dk_62 (dk_at dksX14_by_0 9 rfl rfl)
theorem dX14_by_10 : decode cX14_by 10 = .ok (.iload_n 3, 1) := dk_29 (dk_at dksX14_by_0 10 rfl rfl)
theorem dX14_by_11 : decode cX14_by 11 = .ok (.ifCond .ne 7, 3) := dk_154 0 7 (dk_at dksX14_by_0 11 rfl rfl)
theorem dX14_by_14 : decode cX14_by 14 = .ok (.iconst 0, 1) := dk_3 (dk_at dksX14_by_0 14 rfl rfl)
theorem dX14_by_15 : decode cX14_by 15 = .ok (.goto 13, 3) := dk_167 0 13 (dk_at dksX14_by_0 15 rfl rfl)
theorem dX14_by_18 : decode cX14_by 18 = .ok (.iload_n 3, 1) := dk_29 (dk_at dksX14_by_0 18 rfl rfl)
theorem dX14_by_19 : decode cX14_by 19 = .ok (.iconst 1, 1) := dk_4 (dk_at dksX14_by_0 19 rfl rfl)
theorem dX14_by_20 : decode cX14_by 20 = .ok (.if_icmp .ne 7, 3) := dk_160 0 7 (dk_at dksX14_by_0 20 rfl rfl)
theorem dX14_by_23 : decode cX14_by 23 = .ok (.iconst 1, 1) := dk_4 (dk_at dksX14_by_0 23 rfl rfl)
theorem dX14_by_24 : decode cX14_by 24 = .ok (.goto 4, 3) := dk_167 0 4 (dk_at dksX14_by_1 0 rfl rfl)
theorem dX14_by_27 : decode cX14_by 27 = .ok (.iconst (-1), 1) := dk_2 (dk_at dksX14_by_1 3 rfl rfl)
theorem dX14_by_28 : decode cX14_by 28 = .ok (.ireturn, 1) := dk_172 (dk_at dksX14_by_1 4 rfl rfl)
abbrev cX14_holds : ByteArray := prog_15_method_2_code
def yX14_holds : MethodName := ⟨RX14, "holds", "(LLetterPost$Value;[LLetterPost$Value;)Z"⟩
def dkwX14_holds_0 : List UInt8 := [43, 182, 0, 7, 199, 0, 7, 4, 167, 0, 4, 3, 172]
abbrev dktX14_holds_0 : List UInt8 := dkwX14_holds_0 ++ []
theorem dksX14_holds_0 : cX14_holds.data.toList.drop 0 = dktX14_holds_0 := by decide +kernel
theorem dX14_holds_0 : decode cX14_holds 0 = .ok (.aload_n 1, 1) := dk_43 (dk_at dksX14_holds_0 0 rfl rfl)
theorem dX14_holds_1 : decode cX14_holds 1 = .ok (.invokevirtual 7, 3) := dk_182 0 7 (dk_at dksX14_holds_0 1 rfl rfl)
theorem dX14_holds_4 : decode cX14_holds 4 = .ok (.ifnonnull 7, 3) := dk_199 0 7 (dk_at dksX14_holds_0 4 rfl rfl)
theorem dX14_holds_7 : decode cX14_holds 7 = .ok (.iconst 1, 1) := dk_4 (dk_at dksX14_holds_0 7 rfl rfl)
theorem dX14_holds_8 : decode cX14_holds 8 = .ok (.goto 4, 3) := dk_167 0 4 (dk_at dksX14_holds_0 8 rfl rfl)
theorem dX14_holds_11 : decode cX14_holds 11 = .ok (.iconst 0, 1) := dk_3 (dk_at dksX14_holds_0 11 rfl rfl)
theorem dX14_holds_12 : decode cX14_holds 12 = .ok (.ireturn, 1) := dk_172 (dk_at dksX14_holds_0 12 rfl rfl)
theorem q170 : (Jvm.Cond.initialized "LetterPost$None") ∈ lw_all := lw_g (lw_at lw_m1 28 rfl) rfl
theorem q988 : (Jvm.Cond.instantiable "LetterPost$None" (1 : Nat)) ∈ lw_all := lw_g (lw_at lw_m4 126 rfl) rfl
theorem q990 : (Jvm.Cond.instanceMethod ({ cls := "LetterPost$None", name := "<init>", desc := "()V" } : Jvm.MethodName)) ∈ lw_all := lw_g (lw_at lw_m4 128 rfl) rfl
theorem q991 : (Jvm.Cond.code ({ cls := "LetterPost$None", name := "<init>", desc := "()V" } : Jvm.MethodName) prog_15_method_1_code (1 : Nat) (Option.none : Option Jvm.ClassFile.FieldType)) ∈ lw_all := lw_g (lw_at lw_m4 129 rfl) rfl
theorem q992 : (Jvm.Cond.methodLinkNest "LetterPost$None" (1 : Nat) ({ cls := "LetterPost$Test", name := "<init>", desc := "()V" } : Jvm.MethodName) "LetterPost") ∈ lw_tbl := lw_at lw_m4 130 rfl
theorem q993 : (Jvm.Cond.lays "LetterPost$None" "LetterPost$Pattern" "name" "I") ∈ lw_all := lw_g (lw_at lw_m4 131 rfl) rfl
theorem q994 : (Jvm.Cond.superclass "LetterPost$None" "LetterPost$Test") ∈ lw_all := lw_g (lw_at lw_m4 132 rfl) rfl
theorem q1081 : (Jvm.Cond.selects "LetterPost$None" ({ cls := "LetterPost$Pattern", name := "ways", desc := "()I" } : Jvm.MethodName) ({ cls := "LetterPost$Pattern", name := "ways", desc := "()I" } : Jvm.MethodName)) ∈ lw_all := lw_g (lw_at lw_m4 219 rfl) rfl
theorem q1144 : (Jvm.Cond.fieldLink "LetterPost$None" (19 : Nat) "LetterPost$Place" "number" "I") ∈ lw_all := lw_g (lw_at lw_m5 42 rfl) rfl
theorem q1190 : (Jvm.Cond.selects "LetterPost$None" ({ cls := "LetterPost$Pattern", name := "row", desc := "(ILLetterPost$Place;LLetterPost$Function;LLetterPost$Row;)V" } : Jvm.MethodName) ({ cls := "LetterPost$Test", name := "row", desc := "(ILLetterPost$Place;LLetterPost$Function;LLetterPost$Row;)V" } : Jvm.MethodName)) ∈ lw_all := lw_g (lw_at lw_m5 88 rfl) rfl
theorem q1221 : (Jvm.Cond.fieldLink "LetterPost$None" (13 : Nat) "LetterPost$Known" "state" "[I") ∈ lw_all := lw_g (lw_at lw_m5 119 rfl) rfl
theorem q1301 : (Jvm.Cond.selects "LetterPost$None" ({ cls := "LetterPost$Test", name := "by", desc := "(LLetterPost$Known;LLetterPost$Place;)I" } : Jvm.MethodName) ({ cls := "LetterPost$None", name := "by", desc := "(LLetterPost$Known;LLetterPost$Place;)I" } : Jvm.MethodName)) ∈ lw_all := lw_g (lw_at lw_m5 199 rfl) rfl
theorem q1302 : (Jvm.Cond.instanceMethod ({ cls := "LetterPost$None", name := "by", desc := "(LLetterPost$Known;LLetterPost$Place;)I" } : Jvm.MethodName)) ∈ lw_all := lw_g (lw_at lw_m5 200 rfl) rfl
theorem q1303 : (Jvm.Cond.code ({ cls := "LetterPost$None", name := "by", desc := "(LLetterPost$Known;LLetterPost$Place;)I" } : Jvm.MethodName) prog_15_method_3_code (4 : Nat) (Option.some Jvm.ClassFile.FieldType.int)) ∈ lw_all := lw_g (lw_at lw_m5 201 rfl) rfl
theorem q1989 : (Jvm.Cond.selects "LetterPost$None" ({ cls := "LetterPost$Pattern", name := "fits", desc := "(LLetterPost$Value;[LLetterPost$Value;)Z" } : Jvm.MethodName) ({ cls := "LetterPost$Pattern", name := "fits", desc := "(LLetterPost$Value;[LLetterPost$Value;)Z" } : Jvm.MethodName)) ∈ lw_all := lw_g (lw_at lw_m8 167 rfl) rfl
theorem q2010 : (Jvm.Cond.selects "LetterPost$None" ({ cls := "LetterPost$Pattern", name := "holds", desc := "(LLetterPost$Value;[LLetterPost$Value;)Z" } : Jvm.MethodName) ({ cls := "LetterPost$None", name := "holds", desc := "(LLetterPost$Value;[LLetterPost$Value;)Z" } : Jvm.MethodName)) ∈ lw_all := lw_g (lw_at lw_m8 188 rfl) rfl
theorem q2011 : (Jvm.Cond.instanceMethod ({ cls := "LetterPost$None", name := "holds", desc := "(LLetterPost$Value;[LLetterPost$Value;)Z" } : Jvm.MethodName)) ∈ lw_all := lw_g (lw_at lw_m8 189 rfl) rfl
theorem q2012 : (Jvm.Cond.code ({ cls := "LetterPost$None", name := "holds", desc := "(LLetterPost$Value;[LLetterPost$Value;)Z" } : Jvm.MethodName) prog_15_method_2_code (3 : Nat) (Option.some Jvm.ClassFile.FieldType.boolean)) ∈ lw_all := lw_g (lw_at lw_m8 190 rfl) rfl
theorem q2013 : (Jvm.Cond.methodLink "LetterPost$None" (7 : Nat) ({ cls := "LetterPost$Value", name := "kind", desc := "()LLetterPost$Kind;" } : Jvm.MethodName)) ∈ lw_all := lw_g (lw_at lw_m8 191 rfl) rfl
theorem q3029 : (Jvm.Cond.castable "LetterPost$None" "LetterPost$Pattern") ∈ lw_tbl := lw_at lw_m13 7 rfl
theorem q3034 : (Jvm.Cond.castable "LetterPost$None" "LetterPost$Test") ∈ lw_tbl := lw_at lw_m13 12 rfl
theorem in_X14 : ∀ w ∈ wsX140, w ∈ lw_all := lw_in wsX140 [993] (by decide +kernel) (by decide +kernel)

/-! LetterPost$Guard -/
set_option maxRecDepth 100000
def RX15 : String := "LetterPost$Guard"
def TX15 : u_T := fun k => match k with
  | 0 => ("LetterPost$Guard", "ops", "[I", true)
  | 1 => ("LetterPost$Guard", "numbers", "[I", true)
  | 2 => ("LetterPost$Guard", "names", "[I", true)
  | _ => ("LetterPost$Guard", "relation", "I", false)
def tyX15 : Nat → FieldType := fun k => match k with
  | 0 => .array .int
  | 1 => .array .int
  | 2 => .array .int
  | _ => .int
abbrev wsX150 : List Cond := u_ws RX15 TX15 4
theorem nmX15 : ∀ a, a < 4 → ∀ b, b < 4 → a ≠ b → (TX15 a).2.1 ≠ (TX15 b).2.1 := by decide +kernel
theorem tyX15_ok : ∀ k, k < 4 → parseFieldDescriptor (TX15 k).2.2.1 = some (tyX15 k) := by decide +kernel
abbrev cX15_init : ByteArray := prog_6_method_1_code
def yX15_init : MethodName := ⟨RX15, "<init>", "()V"⟩
def dkwX15_init_1 : List UInt8 := [2, 79, 89, 4, 2, 79, 89, 5, 2, 79, 89, 6, 2, 79, 181, 0, 16, 177]
abbrev dktX15_init_1 : List UInt8 := dkwX15_init_1 ++ []
def dkwX15_init_0 : List UInt8 := [42, 183, 0, 1, 42, 5, 188, 10, 181, 0, 7, 42, 7, 188, 10, 181, 0, 13, 42, 7, 188, 10, 89, 3]
abbrev dktX15_init_0 : List UInt8 := dkwX15_init_0 ++ dktX15_init_1
theorem dksX15_init_0 : cX15_init.data.toList.drop 0 = dktX15_init_0 := by decide +kernel
theorem dksX15_init_1 : cX15_init.data.toList.drop 24 = dktX15_init_1 := dk_seg dksX15_init_0 24 rfl rfl
theorem dX15_init_0 : decode cX15_init 0 = .ok (.aload_n 0, 1) := dk_42 (dk_at dksX15_init_0 0 rfl rfl)
theorem dX15_init_1 : decode cX15_init 1 = .ok (.invokespecial 1, 3) := dk_183 0 1 (dk_at dksX15_init_0 1 rfl rfl)
theorem dX15_init_4 : decode cX15_init 4 = .ok (.aload_n 0, 1) := dk_42 (dk_at dksX15_init_0 4 rfl rfl)
theorem dX15_init_5 : decode cX15_init 5 = .ok (.iconst 2, 1) := dk_5 (dk_at dksX15_init_0 5 rfl rfl)
theorem dX15_init_6 : decode cX15_init 6 = .ok (.newarray .int, 2) := dk_188_10 (dk_at dksX15_init_0 6 rfl rfl)
theorem dX15_init_8 : decode cX15_init 8 = .ok (.putfield 7, 3) := dk_181 0 7 (dk_at dksX15_init_0 8 rfl rfl)
theorem dX15_init_11 : decode cX15_init 11 = .ok (.aload_n 0, 1) := dk_42 (dk_at dksX15_init_0 11 rfl rfl)
theorem dX15_init_12 : decode cX15_init 12 = .ok (.iconst 4, 1) := dk_7 (dk_at dksX15_init_0 12 rfl rfl)
theorem dX15_init_13 : decode cX15_init 13 = .ok (.newarray .int, 2) := dk_188_10 (dk_at dksX15_init_0 13 rfl rfl)
theorem dX15_init_15 : decode cX15_init 15 = .ok (.putfield 13, 3) := dk_181 0 13 (dk_at dksX15_init_0 15 rfl rfl)
theorem dX15_init_18 : decode cX15_init 18 = .ok (.aload_n 0, 1) := dk_42 (dk_at dksX15_init_0 18 rfl rfl)
theorem dX15_init_19 : decode cX15_init 19 = .ok (.iconst 4, 1) := dk_7 (dk_at dksX15_init_0 19 rfl rfl)
theorem dX15_init_20 : decode cX15_init 20 = .ok (.newarray .int, 2) := dk_188_10 (dk_at dksX15_init_0 20 rfl rfl)
theorem dX15_init_22 : decode cX15_init 22 = .ok (.dup, 1) := dk_89 (dk_at dksX15_init_0 22 rfl rfl)
theorem dX15_init_23 : decode cX15_init 23 = .ok (.iconst 0, 1) := dk_3 (dk_at dksX15_init_0 23 rfl rfl)
theorem dX15_init_24 : decode cX15_init 24 = .ok (.iconst (-1), 1) := dk_2 (dk_at dksX15_init_1 0 rfl rfl)
theorem dX15_init_25 : decode cX15_init 25 = .ok (.iastore, 1) := dk_79 (dk_at dksX15_init_1 1 rfl rfl)
theorem dX15_init_26 : decode cX15_init 26 = .ok (.dup, 1) := dk_89 (dk_at dksX15_init_1 2 rfl rfl)
theorem dX15_init_27 : decode cX15_init 27 = .ok (.iconst 1, 1) := dk_4 (dk_at dksX15_init_1 3 rfl rfl)
theorem dX15_init_28 : decode cX15_init 28 = .ok (.iconst (-1), 1) := dk_2 (dk_at dksX15_init_1 4 rfl rfl)
theorem dX15_init_29 : decode cX15_init 29 = .ok (.iastore, 1) := dk_79 (dk_at dksX15_init_1 5 rfl rfl)
theorem dX15_init_30 : decode cX15_init 30 = .ok (.dup, 1) := dk_89 (dk_at dksX15_init_1 6 rfl rfl)
theorem dX15_init_31 : decode cX15_init 31 = .ok (.iconst 2, 1) := dk_5 (dk_at dksX15_init_1 7 rfl rfl)
theorem dX15_init_32 : decode cX15_init 32 = .ok (.iconst (-1), 1) := dk_2 (dk_at dksX15_init_1 8 rfl rfl)
theorem dX15_init_33 : decode cX15_init 33 = .ok (.iastore, 1) := dk_79 (dk_at dksX15_init_1 9 rfl rfl)
theorem dX15_init_34 : decode cX15_init 34 = .ok (.dup, 1) := dk_89 (dk_at dksX15_init_1 10 rfl rfl)
theorem dX15_init_35 : decode cX15_init 35 = .ok (.iconst 3, 1) := dk_6 (dk_at dksX15_init_1 11 rfl rfl)
theorem dX15_init_36 : decode cX15_init 36 = .ok (.iconst (-1), 1) := dk_2 (dk_at dksX15_init_1 12 rfl rfl)
theorem dX15_init_37 : decode cX15_init 37 = .ok (.iastore, 1) := dk_79 (dk_at dksX15_init_1 13 rfl rfl)
theorem dX15_init_38 : decode cX15_init 38 = .ok (.putfield 16, 3) := dk_181 0 16 (dk_at dksX15_init_1 14 rfl rfl)
theorem dX15_init_41 : decode cX15_init 41 = .ok (.return_, 1) := dk_177 (dk_at dksX15_init_1 17 rfl rfl)
abbrev cX15_holds : ByteArray := prog_6_method_4_code
def yX15_holds : MethodName := ⟨RX15, "holds", "([LLetterPost$Value;)Z"⟩
def dkwX15_holds_2 : List UInt8 := [164, 0, 7, 4, 167, 0, 17, 3, 167, 0, 13, 28, 29, 160, 0, 7, 4, 167, 0, 4, 3, 172]
abbrev dktX15_holds_2 : List UInt8 := dkwX15_holds_2 ++ []
def dkwX15_holds_1 : List UInt8 := [29, 162, 0, 7, 4, 167, 0, 39, 3, 167, 0, 35, 42, 180, 0, 32, 16, 62, 160, 0, 16, 28, 29]
abbrev dktX15_holds_1 : List UInt8 := dkwX15_holds_1 ++ dktX15_holds_2
def dkwX15_holds_0 : List UInt8 := [42, 3, 43, 182, 0, 29, 61, 42, 4, 43, 182, 0, 29, 62, 42, 180, 0, 32, 16, 60, 160, 0, 16, 28]
abbrev dktX15_holds_0 : List UInt8 := dkwX15_holds_0 ++ dktX15_holds_1
theorem dksX15_holds_0 : cX15_holds.data.toList.drop 0 = dktX15_holds_0 := by decide +kernel
theorem dksX15_holds_1 : cX15_holds.data.toList.drop 24 = dktX15_holds_1 := dk_seg dksX15_holds_0 24 rfl rfl
theorem dksX15_holds_2 : cX15_holds.data.toList.drop 47 = dktX15_holds_2 := dk_seg dksX15_holds_1 23 rfl rfl
theorem dX15_holds_0 : decode cX15_holds 0 = .ok (.aload_n 0, 1) := dk_42 (dk_at dksX15_holds_0 0 rfl rfl)
theorem dX15_holds_1 : decode cX15_holds 1 = .ok (.iconst 0, 1) := dk_3 (dk_at dksX15_holds_0 1 rfl rfl)
theorem dX15_holds_2 : decode cX15_holds 2 = .ok (.aload_n 1, 1) := dk_43 (dk_at dksX15_holds_0 2 rfl rfl)
theorem dX15_holds_3 : decode cX15_holds 3 = .ok (.invokevirtual 29, 3) := dk_182 0 29 (dk_at dksX15_holds_0 3 rfl rfl)
theorem dX15_holds_6 : decode cX15_holds 6 = .ok (.istore_n 2, 1) := dk_61 (dk_at dksX15_holds_0 6 rfl rfl)
theorem dX15_holds_7 : decode cX15_holds 7 = .ok (.aload_n 0, 1) := dk_42 (dk_at dksX15_holds_0 7 rfl rfl)
theorem dX15_holds_8 : decode cX15_holds 8 = .ok (.iconst 1, 1) := dk_4 (dk_at dksX15_holds_0 8 rfl rfl)
theorem dX15_holds_9 : decode cX15_holds 9 = .ok (.aload_n 1, 1) := dk_43 (dk_at dksX15_holds_0 9 rfl rfl)
theorem dX15_holds_10 : decode cX15_holds 10 = .ok (.invokevirtual 29, 3) := dk_182 0 29 (dk_at dksX15_holds_0 10 rfl rfl)
theorem dX15_holds_13 : decode cX15_holds 13 = .ok (.istore_n 3, 1) := dk_62 (dk_at dksX15_holds_0 13 rfl rfl)
theorem dX15_holds_14 : decode cX15_holds 14 = .ok (.aload_n 0, 1) := dk_42 (dk_at dksX15_holds_0 14 rfl rfl)
theorem dX15_holds_15 : decode cX15_holds 15 = .ok (.getfield 32, 3) := dk_180 0 32 (dk_at dksX15_holds_0 15 rfl rfl)
theorem dX15_holds_18 : decode cX15_holds 18 = .ok (.bipush 60, 2) := dk_16 60 (dk_at dksX15_holds_0 18 rfl rfl)
theorem dX15_holds_20 : decode cX15_holds 20 = .ok (.if_icmp .ne 16, 3) := dk_160 0 16 (dk_at dksX15_holds_0 20 rfl rfl)
theorem dX15_holds_23 : decode cX15_holds 23 = .ok (.iload_n 2, 1) := dk_28 (dk_at dksX15_holds_0 23 rfl rfl)
theorem dX15_holds_24 : decode cX15_holds 24 = .ok (.iload_n 3, 1) := dk_29 (dk_at dksX15_holds_1 0 rfl rfl)
theorem dX15_holds_25 : decode cX15_holds 25 = .ok (.if_icmp .ge 7, 3) := dk_162 0 7 (dk_at dksX15_holds_1 1 rfl rfl)
theorem dX15_holds_28 : decode cX15_holds 28 = .ok (.iconst 1, 1) := dk_4 (dk_at dksX15_holds_1 4 rfl rfl)
theorem dX15_holds_29 : decode cX15_holds 29 = .ok (.goto 39, 3) := dk_167 0 39 (dk_at dksX15_holds_1 5 rfl rfl)
theorem dX15_holds_32 : decode cX15_holds 32 = .ok (.iconst 0, 1) := dk_3 (dk_at dksX15_holds_1 8 rfl rfl)
theorem dX15_holds_33 : decode cX15_holds 33 = .ok (.goto 35, 3) := dk_167 0 35 (dk_at dksX15_holds_1 9 rfl rfl)
theorem dX15_holds_36 : decode cX15_holds 36 = .ok (.aload_n 0, 1) := dk_42 (dk_at dksX15_holds_1 12 rfl rfl)
theorem dX15_holds_37 : decode cX15_holds 37 = .ok (.getfield 32, 3) := dk_180 0 32 (dk_at dksX15_holds_1 13 rfl rfl)
theorem dX15_holds_40 : decode cX15_holds 40 = .ok (.bipush 62, 2) := dk_16 62 (dk_at dksX15_holds_1 16 rfl rfl)
theorem dX15_holds_42 : decode cX15_holds 42 = .ok (.if_icmp .ne 16, 3) := dk_160 0 16 (dk_at dksX15_holds_1 18 rfl rfl)
theorem dX15_holds_45 : decode cX15_holds 45 = .ok (.iload_n 2, 1) := dk_28 (dk_at dksX15_holds_1 21 rfl rfl)
theorem dX15_holds_46 : decode cX15_holds 46 = .ok (.iload_n 3, 1) := dk_29 (dk_at dksX15_holds_1 22 rfl rfl)
theorem dX15_holds_47 : decode cX15_holds 47 = .ok (.if_icmp .le 7, 3) := dk_164 0 7 (dk_at dksX15_holds_2 0 rfl rfl)
theorem dX15_holds_50 : decode cX15_holds 50 = .ok (.iconst 1, 1) := dk_4 (dk_at dksX15_holds_2 3 rfl rfl)
theorem dX15_holds_51 : decode cX15_holds 51 = .ok (.goto 17, 3) := dk_167 0 17 (dk_at dksX15_holds_2 4 rfl rfl)
theorem dX15_holds_54 : decode cX15_holds 54 = .ok (.iconst 0, 1) := dk_3 (dk_at dksX15_holds_2 7 rfl rfl)
theorem dX15_holds_55 : decode cX15_holds 55 = .ok (.goto 13, 3) := dk_167 0 13 (dk_at dksX15_holds_2 8 rfl rfl)
theorem dX15_holds_58 : decode cX15_holds 58 = .ok (.iload_n 2, 1) := dk_28 (dk_at dksX15_holds_2 11 rfl rfl)
theorem dX15_holds_59 : decode cX15_holds 59 = .ok (.iload_n 3, 1) := dk_29 (dk_at dksX15_holds_2 12 rfl rfl)
theorem dX15_holds_60 : decode cX15_holds 60 = .ok (.if_icmp .ne 7, 3) := dk_160 0 7 (dk_at dksX15_holds_2 13 rfl rfl)
theorem dX15_holds_63 : decode cX15_holds 63 = .ok (.iconst 1, 1) := dk_4 (dk_at dksX15_holds_2 16 rfl rfl)
theorem dX15_holds_64 : decode cX15_holds 64 = .ok (.goto 4, 3) := dk_167 0 4 (dk_at dksX15_holds_2 17 rfl rfl)
theorem dX15_holds_67 : decode cX15_holds 67 = .ok (.iconst 0, 1) := dk_3 (dk_at dksX15_holds_2 20 rfl rfl)
theorem dX15_holds_68 : decode cX15_holds 68 = .ok (.ireturn, 1) := dk_172 (dk_at dksX15_holds_2 21 rfl rfl)
abbrev cX15_sum : ByteArray := prog_6_method_3_code
def yX15_sum : MethodName := ⟨RX15, "sum", "(I[LLetterPost$Value;)I"⟩
def dkwX15_sum_4 : List UInt8 := [172, 29, 172]
abbrev dktX15_sum_4 : List UInt8 := dkwX15_sum_4 ++ []
def dkwX15_sum_3 : List UInt8 := [29, 21, 4, 96, 172, 29, 21, 4, 100, 172, 29, 21, 4, 104, 172, 29, 21, 4, 108, 172, 29, 21, 4, 112]
abbrev dktX15_sum_3 : List UInt8 := dkwX15_sum_3 ++ dktX15_sum_4
def dkwX15_sum_2 : List UInt8 := [170, 0, 0, 0, 82, 0, 0, 0, 37, 0, 0, 0, 47, 0, 0, 0, 77, 0, 0, 0, 82, 0, 0, 0, 82, 0, 0, 0, 82, 0, 0, 0, 82, 0, 0, 0, 67, 0, 0, 0, 57, 0, 0, 0, 82, 0, 0, 0, 62, 0, 0, 0, 82, 0, 0, 0, 72]
abbrev dktX15_sum_2 : List UInt8 := dkwX15_sum_2 ++ dktX15_sum_3
def dkwX15_sum_1 : List UInt8 := [180, 0, 7, 27, 46]
abbrev dktX15_sum_1 : List UInt8 := dkwX15_sum_1 ++ dktX15_sum_2
def dkwX15_sum_0 : List UInt8 := [42, 5, 27, 104, 44, 182, 0, 25, 62, 42, 5, 27, 104, 4, 96, 44, 182, 0, 25, 54, 4, 42]
abbrev dktX15_sum_0 : List UInt8 := dkwX15_sum_0 ++ dktX15_sum_1
theorem dksX15_sum_0 : cX15_sum.data.toList.drop 0 = dktX15_sum_0 := by decide +kernel
theorem dksX15_sum_1 : cX15_sum.data.toList.drop 22 = dktX15_sum_1 := dk_seg dksX15_sum_0 22 rfl rfl
theorem dksX15_sum_2 : cX15_sum.data.toList.drop 27 = dktX15_sum_2 := dk_seg dksX15_sum_1 5 rfl rfl
theorem dksX15_sum_3 : cX15_sum.data.toList.drop 84 = dktX15_sum_3 := dk_seg dksX15_sum_2 57 rfl rfl
theorem dksX15_sum_4 : cX15_sum.data.toList.drop 108 = dktX15_sum_4 := dk_seg dksX15_sum_3 24 rfl rfl
theorem dX15_sum_0 : decode cX15_sum 0 = .ok (.aload_n 0, 1) := dk_42 (dk_at dksX15_sum_0 0 rfl rfl)
theorem dX15_sum_1 : decode cX15_sum 1 = .ok (.iconst 2, 1) := dk_5 (dk_at dksX15_sum_0 1 rfl rfl)
theorem dX15_sum_2 : decode cX15_sum 2 = .ok (.iload_n 1, 1) := dk_27 (dk_at dksX15_sum_0 2 rfl rfl)
theorem dX15_sum_3 : decode cX15_sum 3 = .ok (.imul, 1) := dk_104 (dk_at dksX15_sum_0 3 rfl rfl)
theorem dX15_sum_4 : decode cX15_sum 4 = .ok (.aload_n 2, 1) := dk_44 (dk_at dksX15_sum_0 4 rfl rfl)
theorem dX15_sum_5 : decode cX15_sum 5 = .ok (.invokevirtual 25, 3) := dk_182 0 25 (dk_at dksX15_sum_0 5 rfl rfl)
theorem dX15_sum_8 : decode cX15_sum 8 = .ok (.istore_n 3, 1) := dk_62 (dk_at dksX15_sum_0 8 rfl rfl)
theorem dX15_sum_9 : decode cX15_sum 9 = .ok (.aload_n 0, 1) := dk_42 (dk_at dksX15_sum_0 9 rfl rfl)
theorem dX15_sum_10 : decode cX15_sum 10 = .ok (.iconst 2, 1) := dk_5 (dk_at dksX15_sum_0 10 rfl rfl)
theorem dX15_sum_11 : decode cX15_sum 11 = .ok (.iload_n 1, 1) := dk_27 (dk_at dksX15_sum_0 11 rfl rfl)
theorem dX15_sum_12 : decode cX15_sum 12 = .ok (.imul, 1) := dk_104 (dk_at dksX15_sum_0 12 rfl rfl)
theorem dX15_sum_13 : decode cX15_sum 13 = .ok (.iconst 1, 1) := dk_4 (dk_at dksX15_sum_0 13 rfl rfl)
theorem dX15_sum_14 : decode cX15_sum 14 = .ok (.iadd, 1) := dk_96 (dk_at dksX15_sum_0 14 rfl rfl)
theorem dX15_sum_15 : decode cX15_sum 15 = .ok (.aload_n 2, 1) := dk_44 (dk_at dksX15_sum_0 15 rfl rfl)
theorem dX15_sum_16 : decode cX15_sum 16 = .ok (.invokevirtual 25, 3) := dk_182 0 25 (dk_at dksX15_sum_0 16 rfl rfl)
theorem dX15_sum_19 : decode cX15_sum 19 = .ok (.istore 4, 2) := dk_54 4 (dk_at dksX15_sum_0 19 rfl rfl)
theorem dX15_sum_21 : decode cX15_sum 21 = .ok (.aload_n 0, 1) := dk_42 (dk_at dksX15_sum_0 21 rfl rfl)
theorem dX15_sum_22 : decode cX15_sum 22 = .ok (.getfield 7, 3) := dk_180 0 7 (dk_at dksX15_sum_1 0 rfl rfl)
theorem dX15_sum_25 : decode cX15_sum 25 = .ok (.iload_n 1, 1) := dk_27 (dk_at dksX15_sum_1 3 rfl rfl)
theorem dX15_sum_26 : decode cX15_sum 26 = .ok (.iaload, 1) := dk_46 (dk_at dksX15_sum_1 4 rfl rfl)
theorem dX15_sum_27 : decode cX15_sum 27 = .ok (.tableswitch 82 37 47 #[77, 82, 82, 82, 82, 67, 57, 82, 62, 82, 72], 57) := by decide +kernel
theorem dX15_sum_84 : decode cX15_sum 84 = .ok (.iload_n 3, 1) := dk_29 (dk_at dksX15_sum_3 0 rfl rfl)
theorem dX15_sum_85 : decode cX15_sum 85 = .ok (.iload 4, 2) := dk_21 4 (dk_at dksX15_sum_3 1 rfl rfl)
theorem dX15_sum_87 : decode cX15_sum 87 = .ok (.iadd, 1) := dk_96 (dk_at dksX15_sum_3 3 rfl rfl)
theorem dX15_sum_88 : decode cX15_sum 88 = .ok (.ireturn, 1) := dk_172 (dk_at dksX15_sum_3 4 rfl rfl)
theorem dX15_sum_89 : decode cX15_sum 89 = .ok (.iload_n 3, 1) := dk_29 (dk_at dksX15_sum_3 5 rfl rfl)
theorem dX15_sum_90 : decode cX15_sum 90 = .ok (.iload 4, 2) := dk_21 4 (dk_at dksX15_sum_3 6 rfl rfl)
theorem dX15_sum_92 : decode cX15_sum 92 = .ok (.isub, 1) := dk_100 (dk_at dksX15_sum_3 8 rfl rfl)
theorem dX15_sum_93 : decode cX15_sum 93 = .ok (.ireturn, 1) := dk_172 (dk_at dksX15_sum_3 9 rfl rfl)
theorem dX15_sum_94 : decode cX15_sum 94 = .ok (.iload_n 3, 1) := dk_29 (dk_at dksX15_sum_3 10 rfl rfl)
theorem dX15_sum_95 : decode cX15_sum 95 = .ok (.iload 4, 2) := dk_21 4 (dk_at dksX15_sum_3 11 rfl rfl)
theorem dX15_sum_97 : decode cX15_sum 97 = .ok (.imul, 1) := dk_104 (dk_at dksX15_sum_3 13 rfl rfl)
theorem dX15_sum_98 : decode cX15_sum 98 = .ok (.ireturn, 1) := dk_172 (dk_at dksX15_sum_3 14 rfl rfl)
theorem dX15_sum_99 : decode cX15_sum 99 = .ok (.iload_n 3, 1) := dk_29 (dk_at dksX15_sum_3 15 rfl rfl)
theorem dX15_sum_100 : decode cX15_sum 100 = .ok (.iload 4, 2) := dk_21 4 (dk_at dksX15_sum_3 16 rfl rfl)
theorem dX15_sum_102 : decode cX15_sum 102 = .ok (.idiv, 1) := dk_108 (dk_at dksX15_sum_3 18 rfl rfl)
theorem dX15_sum_103 : decode cX15_sum 103 = .ok (.ireturn, 1) := dk_172 (dk_at dksX15_sum_3 19 rfl rfl)
theorem dX15_sum_104 : decode cX15_sum 104 = .ok (.iload_n 3, 1) := dk_29 (dk_at dksX15_sum_3 20 rfl rfl)
theorem dX15_sum_105 : decode cX15_sum 105 = .ok (.iload 4, 2) := dk_21 4 (dk_at dksX15_sum_3 21 rfl rfl)
theorem dX15_sum_107 : decode cX15_sum 107 = .ok (.irem, 1) := dk_112 (dk_at dksX15_sum_3 23 rfl rfl)
theorem dX15_sum_108 : decode cX15_sum 108 = .ok (.ireturn, 1) := dk_172 (dk_at dksX15_sum_4 0 rfl rfl)
theorem dX15_sum_109 : decode cX15_sum 109 = .ok (.iload_n 3, 1) := dk_29 (dk_at dksX15_sum_4 1 rfl rfl)
theorem dX15_sum_110 : decode cX15_sum 110 = .ok (.ireturn, 1) := dk_172 (dk_at dksX15_sum_4 2 rfl rfl)
abbrev cX15_term : ByteArray := prog_6_method_2_code
def yX15_term : MethodName := ⟨RX15, "term", "(I[LLetterPost$Value;)I"⟩
def dkwX15_term_1 : List UInt8 := [167, 0, 9, 42, 180, 0, 13, 27, 46, 172]
abbrev dktX15_term_1 : List UInt8 := dkwX15_term_1 ++ []
def dkwX15_term_0 : List UInt8 := [42, 180, 0, 16, 27, 46, 155, 0, 20, 44, 42, 180, 0, 16, 27, 46, 50, 192, 0, 19, 180, 0, 21]
abbrev dktX15_term_0 : List UInt8 := dkwX15_term_0 ++ dktX15_term_1
theorem dksX15_term_0 : cX15_term.data.toList.drop 0 = dktX15_term_0 := by decide +kernel
theorem dksX15_term_1 : cX15_term.data.toList.drop 23 = dktX15_term_1 := dk_seg dksX15_term_0 23 rfl rfl
theorem dX15_term_0 : decode cX15_term 0 = .ok (.aload_n 0, 1) := dk_42 (dk_at dksX15_term_0 0 rfl rfl)
theorem dX15_term_1 : decode cX15_term 1 = .ok (.getfield 16, 3) := dk_180 0 16 (dk_at dksX15_term_0 1 rfl rfl)
theorem dX15_term_4 : decode cX15_term 4 = .ok (.iload_n 1, 1) := dk_27 (dk_at dksX15_term_0 4 rfl rfl)
theorem dX15_term_5 : decode cX15_term 5 = .ok (.iaload, 1) := dk_46 (dk_at dksX15_term_0 5 rfl rfl)
theorem dX15_term_6 : decode cX15_term 6 = .ok (.ifCond .lt 20, 3) := dk_155 0 20 (dk_at dksX15_term_0 6 rfl rfl)
theorem dX15_term_9 : decode cX15_term 9 = .ok (.aload_n 2, 1) := dk_44 (dk_at dksX15_term_0 9 rfl rfl)
theorem dX15_term_10 : decode cX15_term 10 = .ok (.aload_n 0, 1) := dk_42 (dk_at dksX15_term_0 10 rfl rfl)
theorem dX15_term_11 : decode cX15_term 11 = .ok (.getfield 16, 3) := dk_180 0 16 (dk_at dksX15_term_0 11 rfl rfl)
theorem dX15_term_14 : decode cX15_term 14 = .ok (.iload_n 1, 1) := dk_27 (dk_at dksX15_term_0 14 rfl rfl)
theorem dX15_term_15 : decode cX15_term 15 = .ok (.iaload, 1) := dk_46 (dk_at dksX15_term_0 15 rfl rfl)
theorem dX15_term_16 : decode cX15_term 16 = .ok (.aaload, 1) := dk_50 (dk_at dksX15_term_0 16 rfl rfl)
theorem dX15_term_17 : decode cX15_term 17 = .ok (.checkcast 19, 3) := dk_192 0 19 (dk_at dksX15_term_0 17 rfl rfl)
theorem dX15_term_20 : decode cX15_term 20 = .ok (.getfield 21, 3) := dk_180 0 21 (dk_at dksX15_term_0 20 rfl rfl)
theorem dX15_term_23 : decode cX15_term 23 = .ok (.goto 9, 3) := dk_167 0 9 (dk_at dksX15_term_1 0 rfl rfl)
theorem dX15_term_26 : decode cX15_term 26 = .ok (.aload_n 0, 1) := dk_42 (dk_at dksX15_term_1 3 rfl rfl)
theorem dX15_term_27 : decode cX15_term 27 = .ok (.getfield 13, 3) := dk_180 0 13 (dk_at dksX15_term_1 4 rfl rfl)
theorem dX15_term_30 : decode cX15_term 30 = .ok (.iload_n 1, 1) := dk_27 (dk_at dksX15_term_1 7 rfl rfl)
theorem dX15_term_31 : decode cX15_term 31 = .ok (.iaload, 1) := dk_46 (dk_at dksX15_term_1 8 rfl rfl)
theorem dX15_term_32 : decode cX15_term 32 = .ok (.ireturn, 1) := dk_172 (dk_at dksX15_term_1 9 rfl rfl)
theorem q171 : (Jvm.Cond.initialized "LetterPost$Guard") ∈ lw_all := lw_g (lw_at lw_m1 29 rfl) rfl
theorem q1006 : (Jvm.Cond.instantiable "LetterPost$Guard" (4 : Nat)) ∈ lw_all := lw_g (lw_at lw_m4 144 rfl) rfl
theorem q1008 : (Jvm.Cond.instanceMethod ({ cls := "LetterPost$Guard", name := "<init>", desc := "()V" } : Jvm.MethodName)) ∈ lw_all := lw_g (lw_at lw_m4 146 rfl) rfl
theorem q1009 : (Jvm.Cond.code ({ cls := "LetterPost$Guard", name := "<init>", desc := "()V" } : Jvm.MethodName) prog_6_method_1_code (1 : Nat) (Option.none : Option Jvm.ClassFile.FieldType)) ∈ lw_all := lw_g (lw_at lw_m4 147 rfl) rfl
theorem q1010 : (Jvm.Cond.methodLink "LetterPost$Guard" (1 : Nat) ({ cls := "java/lang/Object", name := "<init>", desc := "()V" } : Jvm.MethodName)) ∈ lw_all := lw_g (lw_at lw_m4 148 rfl) rfl
theorem q1011 : (Jvm.Cond.fieldLink "LetterPost$Guard" (7 : Nat) "LetterPost$Guard" "ops" "[I") ∈ lw_all := lw_g (lw_at lw_m4 149 rfl) rfl
theorem q1013 : (Jvm.Cond.fieldLink "LetterPost$Guard" (13 : Nat) "LetterPost$Guard" "numbers" "[I") ∈ lw_all := lw_g (lw_at lw_m4 151 rfl) rfl
theorem q1015 : (Jvm.Cond.fieldLink "LetterPost$Guard" (16 : Nat) "LetterPost$Guard" "names" "[I") ∈ lw_all := lw_g (lw_at lw_m4 153 rfl) rfl
theorem q1017 : (Jvm.Cond.fieldLink "LetterPost$Guard" (32 : Nat) "LetterPost$Guard" "relation" "I") ∈ lw_all := lw_g (lw_at lw_m4 155 rfl) rfl
theorem q1019 : (Jvm.Cond.laysFinal "LetterPost$Guard" "LetterPost$Guard" "ops" "[I") ∈ lw_all := lw_g (lw_at lw_m4 157 rfl) rfl
theorem q1020 : (Jvm.Cond.soleField "LetterPost$Guard" "ops") ∈ lw_all := lw_g (lw_at lw_m4 158 rfl) rfl
theorem q1021 : (Jvm.Cond.laysFinal "LetterPost$Guard" "LetterPost$Guard" "numbers" "[I") ∈ lw_all := lw_g (lw_at lw_m4 159 rfl) rfl
theorem q1022 : (Jvm.Cond.soleField "LetterPost$Guard" "numbers") ∈ lw_all := lw_g (lw_at lw_m4 160 rfl) rfl
theorem q1023 : (Jvm.Cond.laysFinal "LetterPost$Guard" "LetterPost$Guard" "names" "[I") ∈ lw_all := lw_g (lw_at lw_m4 161 rfl) rfl
theorem q1024 : (Jvm.Cond.soleField "LetterPost$Guard" "names") ∈ lw_all := lw_g (lw_at lw_m4 162 rfl) rfl
theorem q1025 : (Jvm.Cond.lays "LetterPost$Guard" "LetterPost$Guard" "relation" "I") ∈ lw_all := lw_g (lw_at lw_m4 163 rfl) rfl
theorem q1026 : (Jvm.Cond.soleField "LetterPost$Guard" "relation") ∈ lw_all := lw_g (lw_at lw_m4 164 rfl) rfl
theorem q1027 : (Jvm.Cond.superclass "LetterPost$Guard" "java/lang/Object") ∈ lw_all := lw_g (lw_at lw_m4 165 rfl) rfl
theorem q1704 : (Jvm.Cond.fieldLink "LetterPost$Guard" (21 : Nat) "LetterPost$Whole" "v" "I") ∈ lw_all := lw_g (lw_at lw_m7 122 rfl) rfl
theorem q1937 : (Jvm.Cond.instanceMethod ({ cls := "LetterPost$Guard", name := "holds", desc := "([LLetterPost$Value;)Z" } : Jvm.MethodName)) ∈ lw_all := lw_g (lw_at lw_m8 115 rfl) rfl
theorem q1938 : (Jvm.Cond.selects "LetterPost$Guard" ({ cls := "LetterPost$Guard", name := "holds", desc := "([LLetterPost$Value;)Z" } : Jvm.MethodName) ({ cls := "LetterPost$Guard", name := "holds", desc := "([LLetterPost$Value;)Z" } : Jvm.MethodName)) ∈ lw_all := lw_g (lw_at lw_m8 116 rfl) rfl
theorem q1939 : (Jvm.Cond.code ({ cls := "LetterPost$Guard", name := "holds", desc := "([LLetterPost$Value;)Z" } : Jvm.MethodName) prog_6_method_4_code (4 : Nat) (Option.some Jvm.ClassFile.FieldType.boolean)) ∈ lw_all := lw_g (lw_at lw_m8 117 rfl) rfl
theorem q1940 : (Jvm.Cond.methodLink "LetterPost$Guard" (29 : Nat) ({ cls := "LetterPost$Guard", name := "sum", desc := "(I[LLetterPost$Value;)I" } : Jvm.MethodName)) ∈ lw_all := lw_g (lw_at lw_m8 118 rfl) rfl
theorem q1941 : (Jvm.Cond.privateMethod ({ cls := "LetterPost$Guard", name := "sum", desc := "(I[LLetterPost$Value;)I" } : Jvm.MethodName)) ∈ lw_tbl := lw_at lw_m8 119 rfl
theorem q1942 : (Jvm.Cond.instanceMethod ({ cls := "LetterPost$Guard", name := "sum", desc := "(I[LLetterPost$Value;)I" } : Jvm.MethodName)) ∈ lw_all := lw_g (lw_at lw_m8 120 rfl) rfl
theorem q1943 : (Jvm.Cond.code ({ cls := "LetterPost$Guard", name := "sum", desc := "(I[LLetterPost$Value;)I" } : Jvm.MethodName) prog_6_method_3_code (5 : Nat) (Option.some Jvm.ClassFile.FieldType.int)) ∈ lw_all := lw_g (lw_at lw_m8 121 rfl) rfl
theorem q1944 : (Jvm.Cond.methodLink "LetterPost$Guard" (25 : Nat) ({ cls := "LetterPost$Guard", name := "term", desc := "(I[LLetterPost$Value;)I" } : Jvm.MethodName)) ∈ lw_all := lw_g (lw_at lw_m8 122 rfl) rfl
theorem q1945 : (Jvm.Cond.privateMethod ({ cls := "LetterPost$Guard", name := "term", desc := "(I[LLetterPost$Value;)I" } : Jvm.MethodName)) ∈ lw_tbl := lw_at lw_m8 123 rfl
theorem q1946 : (Jvm.Cond.instanceMethod ({ cls := "LetterPost$Guard", name := "term", desc := "(I[LLetterPost$Value;)I" } : Jvm.MethodName)) ∈ lw_all := lw_g (lw_at lw_m8 124 rfl) rfl
theorem q1947 : (Jvm.Cond.code ({ cls := "LetterPost$Guard", name := "term", desc := "(I[LLetterPost$Value;)I" } : Jvm.MethodName) prog_6_method_2_code (3 : Nat) (Option.some Jvm.ClassFile.FieldType.int)) ∈ lw_all := lw_g (lw_at lw_m8 125 rfl) rfl
theorem q1948 : (Jvm.Cond.classLink "LetterPost$Guard" (19 : Nat) "LetterPost$Whole") ∈ lw_all := lw_g (lw_at lw_m8 126 rfl) rfl
theorem in_X15 : ∀ w ∈ wsX150, w ∈ lw_all := lw_in wsX150 [1019, 1021, 1023, 1025] (by decide +kernel) (by decide +kernel)

/-! LetterPost$Row -/
set_option maxRecDepth 100000
def RX16 : String := "LetterPost$Row"
def TX16 : u_T := fun k => match k with
  | 0 => ("LetterPost$Row", "rule", "LLetterPost$Rule;", true)
  | 1 => ("LetterPost$Row", "at", "[LLetterPost$Place;", false)
  | 2 => ("LetterPost$Row", "wants", "[LLetterPost$Test;", false)
  | 3 => ("LetterPost$Row", "many", "I", false)
  | _ => ("LetterPost$Row", "places", "[LLetterPost$Place;", true)
def tyX16 : Nat → FieldType := fun k => match k with
  | 0 => .object "LetterPost$Rule"
  | 1 => .array (.object "LetterPost$Place")
  | 2 => .array (.object "LetterPost$Test")
  | 3 => .int
  | _ => .array (.object "LetterPost$Place")
abbrev wsX160 : List Cond := u_ws RX16 TX16 5
theorem nmX16 : ∀ a, a < 5 → ∀ b, b < 5 → a ≠ b → (TX16 a).2.1 ≠ (TX16 b).2.1 := by decide +kernel
theorem tyX16_ok : ∀ k, k < 5 → parseFieldDescriptor (TX16 k).2.2.1 = some (tyX16 k) := by decide +kernel
abbrev cX16_init : ByteArray := prog_20_method_1_code
def yX16_init : MethodName := ⟨RX16, "<init>", "(LLetterPost$Rule;)V"⟩
def dkwX16_init_1 : List UInt8 := [16, 8, 189, 0, 9, 181, 0, 23, 42, 43, 181, 0, 26, 177]
abbrev dktX16_init_1 : List UInt8 := dkwX16_init_1 ++ []
def dkwX16_init_0 : List UInt8 := [42, 183, 0, 3, 42, 16, 8, 189, 0, 9, 181, 0, 11, 42, 16, 8, 189, 0, 17, 181, 0, 19, 42]
abbrev dktX16_init_0 : List UInt8 := dkwX16_init_0 ++ dktX16_init_1
theorem dksX16_init_0 : cX16_init.data.toList.drop 0 = dktX16_init_0 := by decide +kernel
theorem dksX16_init_1 : cX16_init.data.toList.drop 23 = dktX16_init_1 := dk_seg dksX16_init_0 23 rfl rfl
theorem dX16_init_0 : decode cX16_init 0 = .ok (.aload_n 0, 1) := dk_42 (dk_at dksX16_init_0 0 rfl rfl)
theorem dX16_init_1 : decode cX16_init 1 = .ok (.invokespecial 3, 3) := dk_183 0 3 (dk_at dksX16_init_0 1 rfl rfl)
theorem dX16_init_4 : decode cX16_init 4 = .ok (.aload_n 0, 1) := dk_42 (dk_at dksX16_init_0 4 rfl rfl)
theorem dX16_init_5 : decode cX16_init 5 = .ok (.bipush 8, 2) := dk_16 8 (dk_at dksX16_init_0 5 rfl rfl)
theorem dX16_init_7 : decode cX16_init 7 = .ok (.anewarray 9, 3) := dk_189 0 9 (dk_at dksX16_init_0 7 rfl rfl)
theorem dX16_init_10 : decode cX16_init 10 = .ok (.putfield 11, 3) := dk_181 0 11 (dk_at dksX16_init_0 10 rfl rfl)
theorem dX16_init_13 : decode cX16_init 13 = .ok (.aload_n 0, 1) := dk_42 (dk_at dksX16_init_0 13 rfl rfl)
theorem dX16_init_14 : decode cX16_init 14 = .ok (.bipush 8, 2) := dk_16 8 (dk_at dksX16_init_0 14 rfl rfl)
theorem dX16_init_16 : decode cX16_init 16 = .ok (.anewarray 17, 3) := dk_189 0 17 (dk_at dksX16_init_0 16 rfl rfl)
theorem dX16_init_19 : decode cX16_init 19 = .ok (.putfield 19, 3) := dk_181 0 19 (dk_at dksX16_init_0 19 rfl rfl)
theorem dX16_init_22 : decode cX16_init 22 = .ok (.aload_n 0, 1) := dk_42 (dk_at dksX16_init_0 22 rfl rfl)
theorem dX16_init_23 : decode cX16_init 23 = .ok (.bipush 8, 2) := dk_16 8 (dk_at dksX16_init_1 0 rfl rfl)
theorem dX16_init_25 : decode cX16_init 25 = .ok (.anewarray 9, 3) := dk_189 0 9 (dk_at dksX16_init_1 2 rfl rfl)
theorem dX16_init_28 : decode cX16_init 28 = .ok (.putfield 23, 3) := dk_181 0 23 (dk_at dksX16_init_1 5 rfl rfl)
theorem dX16_init_31 : decode cX16_init 31 = .ok (.aload_n 0, 1) := dk_42 (dk_at dksX16_init_1 8 rfl rfl)
theorem dX16_init_32 : decode cX16_init 32 = .ok (.aload_n 1, 1) := dk_43 (dk_at dksX16_init_1 9 rfl rfl)
theorem dX16_init_33 : decode cX16_init 33 = .ok (.putfield 26, 3) := dk_181 0 26 (dk_at dksX16_init_1 10 rfl rfl)
theorem dX16_init_36 : decode cX16_init 36 = .ok (.return_, 1) := dk_177 (dk_at dksX16_init_1 13 rfl rfl)
abbrev cX16_add : ByteArray := prog_20_method_2_code
def yX16_add : MethodName := ⟨RX16, "add", "(LLetterPost$Place;LLetterPost$Test;)V"⟩
def dkwX16_add_4 : List UInt8 := [89, 180, 0, 30, 4, 96, 181, 0, 30, 177]
abbrev dktX16_add_4 : List UInt8 := dkwX16_add_4 ++ []
def dkwX16_add_3 : List UInt8 := [181, 0, 19, 42, 180, 0, 11, 42, 180, 0, 30, 43, 83, 42, 180, 0, 19, 42, 180, 0, 30, 44, 83, 42]
abbrev dktX16_add_3 : List UInt8 := dkwX16_add_3 ++ dktX16_add_4
def dkwX16_add_2 : List UInt8 := [189, 0, 17, 58, 4, 42, 180, 0, 19, 3, 25, 4, 3, 42, 180, 0, 30, 184, 0, 34, 42, 25, 4]
abbrev dktX16_add_2 : List UInt8 := dkwX16_add_2 ++ dktX16_add_3
def dkwX16_add_1 : List UInt8 := [180, 0, 11, 3, 45, 3, 42, 180, 0, 30, 184, 0, 34, 42, 45, 181, 0, 11, 5, 42, 180, 0, 30, 104]
abbrev dktX16_add_1 : List UInt8 := dkwX16_add_1 ++ dktX16_add_2
def dkwX16_add_0 : List UInt8 := [42, 180, 0, 30, 42, 180, 0, 11, 190, 160, 0, 64, 5, 42, 180, 0, 30, 104, 189, 0, 9, 78, 42]
abbrev dktX16_add_0 : List UInt8 := dkwX16_add_0 ++ dktX16_add_1
theorem dksX16_add_0 : cX16_add.data.toList.drop 0 = dktX16_add_0 := by decide +kernel
theorem dksX16_add_1 : cX16_add.data.toList.drop 23 = dktX16_add_1 := dk_seg dksX16_add_0 23 rfl rfl
theorem dksX16_add_2 : cX16_add.data.toList.drop 47 = dktX16_add_2 := dk_seg dksX16_add_1 24 rfl rfl
theorem dksX16_add_3 : cX16_add.data.toList.drop 70 = dktX16_add_3 := dk_seg dksX16_add_2 23 rfl rfl
theorem dksX16_add_4 : cX16_add.data.toList.drop 94 = dktX16_add_4 := dk_seg dksX16_add_3 24 rfl rfl
theorem dX16_add_0 : decode cX16_add 0 = .ok (.aload_n 0, 1) := dk_42 (dk_at dksX16_add_0 0 rfl rfl)
theorem dX16_add_1 : decode cX16_add 1 = .ok (.getfield 30, 3) := dk_180 0 30 (dk_at dksX16_add_0 1 rfl rfl)
theorem dX16_add_4 : decode cX16_add 4 = .ok (.aload_n 0, 1) := dk_42 (dk_at dksX16_add_0 4 rfl rfl)
theorem dX16_add_5 : decode cX16_add 5 = .ok (.getfield 11, 3) := dk_180 0 11 (dk_at dksX16_add_0 5 rfl rfl)
theorem dX16_add_8 : decode cX16_add 8 = .ok (.arraylength, 1) := dk_190 (dk_at dksX16_add_0 8 rfl rfl)
theorem dX16_add_9 : decode cX16_add 9 = .ok (.if_icmp .ne 64, 3) := dk_160 0 64 (dk_at dksX16_add_0 9 rfl rfl)
theorem dX16_add_12 : decode cX16_add 12 = .ok (.iconst 2, 1) := dk_5 (dk_at dksX16_add_0 12 rfl rfl)
theorem dX16_add_13 : decode cX16_add 13 = .ok (.aload_n 0, 1) := dk_42 (dk_at dksX16_add_0 13 rfl rfl)
theorem dX16_add_14 : decode cX16_add 14 = .ok (.getfield 30, 3) := dk_180 0 30 (dk_at dksX16_add_0 14 rfl rfl)
theorem dX16_add_17 : decode cX16_add 17 = .ok (.imul, 1) := dk_104 (dk_at dksX16_add_0 17 rfl rfl)
theorem dX16_add_18 : decode cX16_add 18 = .ok (.anewarray 9, 3) := dk_189 0 9 (dk_at dksX16_add_0 18 rfl rfl)
theorem dX16_add_21 : decode cX16_add 21 = .ok (.astore_n 3, 1) := dk_78 (dk_at dksX16_add_0 21 rfl rfl)
theorem dX16_add_22 : decode cX16_add 22 = .ok (.aload_n 0, 1) := dk_42 (dk_at dksX16_add_0 22 rfl rfl)
theorem dX16_add_23 : decode cX16_add 23 = .ok (.getfield 11, 3) := dk_180 0 11 (dk_at dksX16_add_1 0 rfl rfl)
theorem dX16_add_26 : decode cX16_add 26 = .ok (.iconst 0, 1) := dk_3 (dk_at dksX16_add_1 3 rfl rfl)
theorem dX16_add_27 : decode cX16_add 27 = .ok (.aload_n 3, 1) := dk_45 (dk_at dksX16_add_1 4 rfl rfl)
theorem dX16_add_28 : decode cX16_add 28 = .ok (.iconst 0, 1) := dk_3 (dk_at dksX16_add_1 5 rfl rfl)
theorem dX16_add_29 : decode cX16_add 29 = .ok (.aload_n 0, 1) := dk_42 (dk_at dksX16_add_1 6 rfl rfl)
theorem dX16_add_30 : decode cX16_add 30 = .ok (.getfield 30, 3) := dk_180 0 30 (dk_at dksX16_add_1 7 rfl rfl)
theorem dX16_add_33 : decode cX16_add 33 = .ok (.invokestatic 34, 3) := dk_184 0 34 (dk_at dksX16_add_1 10 rfl rfl)
theorem dX16_add_36 : decode cX16_add 36 = .ok (.aload_n 0, 1) := dk_42 (dk_at dksX16_add_1 13 rfl rfl)
theorem dX16_add_37 : decode cX16_add 37 = .ok (.aload_n 3, 1) := dk_45 (dk_at dksX16_add_1 14 rfl rfl)
theorem dX16_add_38 : decode cX16_add 38 = .ok (.putfield 11, 3) := dk_181 0 11 (dk_at dksX16_add_1 15 rfl rfl)
theorem dX16_add_41 : decode cX16_add 41 = .ok (.iconst 2, 1) := dk_5 (dk_at dksX16_add_1 18 rfl rfl)
theorem dX16_add_42 : decode cX16_add 42 = .ok (.aload_n 0, 1) := dk_42 (dk_at dksX16_add_1 19 rfl rfl)
theorem dX16_add_43 : decode cX16_add 43 = .ok (.getfield 30, 3) := dk_180 0 30 (dk_at dksX16_add_1 20 rfl rfl)
theorem dX16_add_46 : decode cX16_add 46 = .ok (.imul, 1) := dk_104 (dk_at dksX16_add_1 23 rfl rfl)
theorem dX16_add_47 : decode cX16_add 47 = .ok (.anewarray 17, 3) := dk_189 0 17 (dk_at dksX16_add_2 0 rfl rfl)
theorem dX16_add_50 : decode cX16_add 50 = .ok (.astore 4, 2) := dk_58 4 (dk_at dksX16_add_2 3 rfl rfl)
theorem dX16_add_52 : decode cX16_add 52 = .ok (.aload_n 0, 1) := dk_42 (dk_at dksX16_add_2 5 rfl rfl)
theorem dX16_add_53 : decode cX16_add 53 = .ok (.getfield 19, 3) := dk_180 0 19 (dk_at dksX16_add_2 6 rfl rfl)
theorem dX16_add_56 : decode cX16_add 56 = .ok (.iconst 0, 1) := dk_3 (dk_at dksX16_add_2 9 rfl rfl)
theorem dX16_add_57 : decode cX16_add 57 = .ok (.aload 4, 2) := dk_25 4 (dk_at dksX16_add_2 10 rfl rfl)
theorem dX16_add_59 : decode cX16_add 59 = .ok (.iconst 0, 1) := dk_3 (dk_at dksX16_add_2 12 rfl rfl)
theorem dX16_add_60 : decode cX16_add 60 = .ok (.aload_n 0, 1) := dk_42 (dk_at dksX16_add_2 13 rfl rfl)
theorem dX16_add_61 : decode cX16_add 61 = .ok (.getfield 30, 3) := dk_180 0 30 (dk_at dksX16_add_2 14 rfl rfl)
theorem dX16_add_64 : decode cX16_add 64 = .ok (.invokestatic 34, 3) := dk_184 0 34 (dk_at dksX16_add_2 17 rfl rfl)
theorem dX16_add_67 : decode cX16_add 67 = .ok (.aload_n 0, 1) := dk_42 (dk_at dksX16_add_2 20 rfl rfl)
theorem dX16_add_68 : decode cX16_add 68 = .ok (.aload 4, 2) := dk_25 4 (dk_at dksX16_add_2 21 rfl rfl)
theorem dX16_add_70 : decode cX16_add 70 = .ok (.putfield 19, 3) := dk_181 0 19 (dk_at dksX16_add_3 0 rfl rfl)
theorem dX16_add_73 : decode cX16_add 73 = .ok (.aload_n 0, 1) := dk_42 (dk_at dksX16_add_3 3 rfl rfl)
theorem dX16_add_74 : decode cX16_add 74 = .ok (.getfield 11, 3) := dk_180 0 11 (dk_at dksX16_add_3 4 rfl rfl)
theorem dX16_add_77 : decode cX16_add 77 = .ok (.aload_n 0, 1) := dk_42 (dk_at dksX16_add_3 7 rfl rfl)
theorem dX16_add_78 : decode cX16_add 78 = .ok (.getfield 30, 3) := dk_180 0 30 (dk_at dksX16_add_3 8 rfl rfl)
theorem dX16_add_81 : decode cX16_add 81 = .ok (.aload_n 1, 1) := dk_43 (dk_at dksX16_add_3 11 rfl rfl)
theorem dX16_add_82 : decode cX16_add 82 = .ok (.aastore, 1) := dk_83 (dk_at dksX16_add_3 12 rfl rfl)
theorem dX16_add_83 : decode cX16_add 83 = .ok (.aload_n 0, 1) := dk_42 (dk_at dksX16_add_3 13 rfl rfl)
theorem dX16_add_84 : decode cX16_add 84 = .ok (.getfield 19, 3) := dk_180 0 19 (dk_at dksX16_add_3 14 rfl rfl)
theorem dX16_add_87 : decode cX16_add 87 = .ok (.aload_n 0, 1) := dk_42 (dk_at dksX16_add_3 17 rfl rfl)
theorem dX16_add_88 : decode cX16_add 88 = .ok (.getfield 30, 3) := dk_180 0 30 (dk_at dksX16_add_3 18 rfl rfl)
theorem dX16_add_91 : decode cX16_add 91 = .ok (.aload_n 2, 1) := dk_44 (dk_at dksX16_add_3 21 rfl rfl)
theorem dX16_add_92 : decode cX16_add 92 = .ok (.aastore, 1) := dk_83 (dk_at dksX16_add_3 22 rfl rfl)
theorem dX16_add_93 : decode cX16_add 93 = .ok (.aload_n 0, 1) := dk_42 (dk_at dksX16_add_3 23 rfl rfl)
theorem dX16_add_94 : decode cX16_add 94 = .ok (.dup, 1) := dk_89 (dk_at dksX16_add_4 0 rfl rfl)
theorem dX16_add_95 : decode cX16_add 95 = .ok (.getfield 30, 3) := dk_180 0 30 (dk_at dksX16_add_4 1 rfl rfl)
theorem dX16_add_98 : decode cX16_add 98 = .ok (.iconst 1, 1) := dk_4 (dk_at dksX16_add_4 4 rfl rfl)
theorem dX16_add_99 : decode cX16_add 99 = .ok (.iadd, 1) := dk_96 (dk_at dksX16_add_4 5 rfl rfl)
theorem dX16_add_100 : decode cX16_add 100 = .ok (.putfield 30, 3) := dk_181 0 30 (dk_at dksX16_add_4 6 rfl rfl)
theorem dX16_add_103 : decode cX16_add 103 = .ok (.return_, 1) := dk_177 (dk_at dksX16_add_4 9 rfl rfl)
abbrev cX16_isOut : ByteArray := prog_20_method_3_code
def yX16_isOut : MethodName := ⟨RX16, "isOut", "(LLetterPost$Known;)Z"⟩
def dkwX16_isOut_2 : List UInt8 := [172]
abbrev dktX16_isOut_2 : List UInt8 := dkwX16_isOut_2 ++ []
def dkwX16_isOut_1 : List UInt8 := [180, 0, 11, 29, 50, 182, 0, 40, 156, 0, 7, 4, 167, 0, 4, 3, 61, 132, 3, 1, 167, 255, 216, 28]
abbrev dktX16_isOut_1 : List UInt8 := dkwX16_isOut_1 ++ dktX16_isOut_2
def dkwX16_isOut_0 : List UInt8 := [3, 61, 3, 62, 29, 42, 180, 0, 30, 162, 0, 38, 28, 154, 0, 34, 42, 180, 0, 19, 29, 50, 43, 42]
abbrev dktX16_isOut_0 : List UInt8 := dkwX16_isOut_0 ++ dktX16_isOut_1
theorem dksX16_isOut_0 : cX16_isOut.data.toList.drop 0 = dktX16_isOut_0 := by decide +kernel
theorem dksX16_isOut_1 : cX16_isOut.data.toList.drop 24 = dktX16_isOut_1 := dk_seg dksX16_isOut_0 24 rfl rfl
theorem dksX16_isOut_2 : cX16_isOut.data.toList.drop 48 = dktX16_isOut_2 := dk_seg dksX16_isOut_1 24 rfl rfl
theorem dX16_isOut_0 : decode cX16_isOut 0 = .ok (.iconst 0, 1) := dk_3 (dk_at dksX16_isOut_0 0 rfl rfl)
theorem dX16_isOut_1 : decode cX16_isOut 1 = .ok (.istore_n 2, 1) := dk_61 (dk_at dksX16_isOut_0 1 rfl rfl)
theorem dX16_isOut_2 : decode cX16_isOut 2 = .ok (.iconst 0, 1) := dk_3 (dk_at dksX16_isOut_0 2 rfl rfl)
theorem dX16_isOut_3 : decode cX16_isOut 3 = .ok (.istore_n 3, 1) := dk_62 (dk_at dksX16_isOut_0 3 rfl rfl)
theorem dX16_isOut_4 : decode cX16_isOut 4 = .ok (.iload_n 3, 1) := dk_29 (dk_at dksX16_isOut_0 4 rfl rfl)
theorem dX16_isOut_5 : decode cX16_isOut 5 = .ok (.aload_n 0, 1) := dk_42 (dk_at dksX16_isOut_0 5 rfl rfl)
theorem dX16_isOut_6 : decode cX16_isOut 6 = .ok (.getfield 30, 3) := dk_180 0 30 (dk_at dksX16_isOut_0 6 rfl rfl)
theorem dX16_isOut_9 : decode cX16_isOut 9 = .ok (.if_icmp .ge 38, 3) := dk_162 0 38 (dk_at dksX16_isOut_0 9 rfl rfl)
theorem dX16_isOut_12 : decode cX16_isOut 12 = .ok (.iload_n 2, 1) := dk_28 (dk_at dksX16_isOut_0 12 rfl rfl)
theorem dX16_isOut_13 : decode cX16_isOut 13 = .ok (.ifCond .ne 34, 3) := dk_154 0 34 (dk_at dksX16_isOut_0 13 rfl rfl)
theorem dX16_isOut_16 : decode cX16_isOut 16 = .ok (.aload_n 0, 1) := dk_42 (dk_at dksX16_isOut_0 16 rfl rfl)
theorem dX16_isOut_17 : decode cX16_isOut 17 = .ok (.getfield 19, 3) := dk_180 0 19 (dk_at dksX16_isOut_0 17 rfl rfl)
theorem dX16_isOut_20 : decode cX16_isOut 20 = .ok (.iload_n 3, 1) := dk_29 (dk_at dksX16_isOut_0 20 rfl rfl)
theorem dX16_isOut_21 : decode cX16_isOut 21 = .ok (.aaload, 1) := dk_50 (dk_at dksX16_isOut_0 21 rfl rfl)
theorem dX16_isOut_22 : decode cX16_isOut 22 = .ok (.aload_n 1, 1) := dk_43 (dk_at dksX16_isOut_0 22 rfl rfl)
theorem dX16_isOut_23 : decode cX16_isOut 23 = .ok (.aload_n 0, 1) := dk_42 (dk_at dksX16_isOut_0 23 rfl rfl)
theorem dX16_isOut_24 : decode cX16_isOut 24 = .ok (.getfield 11, 3) := dk_180 0 11 (dk_at dksX16_isOut_1 0 rfl rfl)
theorem dX16_isOut_27 : decode cX16_isOut 27 = .ok (.iload_n 3, 1) := dk_29 (dk_at dksX16_isOut_1 3 rfl rfl)
theorem dX16_isOut_28 : decode cX16_isOut 28 = .ok (.aaload, 1) := dk_50 (dk_at dksX16_isOut_1 4 rfl rfl)
theorem dX16_isOut_29 : decode cX16_isOut 29 = .ok (.invokevirtual 40, 3) := dk_182 0 40 (dk_at dksX16_isOut_1 5 rfl rfl)
theorem dX16_isOut_32 : decode cX16_isOut 32 = .ok (.ifCond .ge 7, 3) := dk_156 0 7 (dk_at dksX16_isOut_1 8 rfl rfl)
theorem dX16_isOut_35 : decode cX16_isOut 35 = .ok (.iconst 1, 1) := dk_4 (dk_at dksX16_isOut_1 11 rfl rfl)
theorem dX16_isOut_36 : decode cX16_isOut 36 = .ok (.goto 4, 3) := dk_167 0 4 (dk_at dksX16_isOut_1 12 rfl rfl)
theorem dX16_isOut_39 : decode cX16_isOut 39 = .ok (.iconst 0, 1) := dk_3 (dk_at dksX16_isOut_1 15 rfl rfl)
theorem dX16_isOut_40 : decode cX16_isOut 40 = .ok (.istore_n 2, 1) := dk_61 (dk_at dksX16_isOut_1 16 rfl rfl)
theorem dX16_isOut_41 : decode cX16_isOut 41 = .ok (.iinc 3 1, 3) := dk_132 3 1 (dk_at dksX16_isOut_1 17 rfl rfl)
theorem dX16_isOut_44 : decode cX16_isOut 44 = .ok (.goto (-40), 3) := dk_167 255 216 (dk_at dksX16_isOut_1 20 rfl rfl)
theorem dX16_isOut_47 : decode cX16_isOut 47 = .ok (.iload_n 2, 1) := dk_28 (dk_at dksX16_isOut_1 23 rfl rfl)
theorem dX16_isOut_48 : decode cX16_isOut 48 = .ok (.ireturn, 1) := dk_172 (dk_at dksX16_isOut_2 0 rfl rfl)
abbrev cX16_asked : ByteArray := prog_20_method_5_code
def yX16_asked : MethodName := ⟨RX16, "asked", "(LLetterPost$Known;[LLetterPost$Place;)I"⟩
def dkwX16_asked_4 : List UInt8 := [180, 0, 11, 21, 4, 50, 83, 132, 3, 1, 132, 4, 1, 167, 255, 154, 29, 172]
abbrev dktX16_asked_4 : List UInt8 := dkwX16_asked_4 ++ []
def dkwX16_asked_3 : List UInt8 := [154, 0, 7, 4, 167, 0, 4, 3, 54, 5, 132, 6, 1, 167, 255, 218, 21, 5, 153, 0, 16, 44, 29, 42]
abbrev dktX16_asked_3 : List UInt8 := dkwX16_asked_3 ++ dktX16_asked_4
def dkwX16_asked_2 : List UInt8 := [29, 162, 0, 38, 21, 5, 153, 0, 33, 42, 180, 0, 11, 21, 4, 50, 44, 21, 6, 50, 182, 0, 44]
abbrev dktX16_asked_2 : List UInt8 := dkwX16_asked_2 ++ dktX16_asked_3
def dkwX16_asked_1 : List UInt8 := [180, 0, 11, 21, 4, 50, 182, 0, 40, 154, 0, 7, 4, 167, 0, 4, 3, 54, 5, 3, 54, 6, 21, 6]
abbrev dktX16_asked_1 : List UInt8 := dkwX16_asked_1 ++ dktX16_asked_2
def dkwX16_asked_0 : List UInt8 := [3, 62, 3, 54, 4, 21, 4, 42, 180, 0, 30, 162, 0, 99, 42, 180, 0, 19, 21, 4, 50, 43, 42]
abbrev dktX16_asked_0 : List UInt8 := dkwX16_asked_0 ++ dktX16_asked_1
theorem dksX16_asked_0 : cX16_asked.data.toList.drop 0 = dktX16_asked_0 := by decide +kernel
theorem dksX16_asked_1 : cX16_asked.data.toList.drop 23 = dktX16_asked_1 := dk_seg dksX16_asked_0 23 rfl rfl
theorem dksX16_asked_2 : cX16_asked.data.toList.drop 47 = dktX16_asked_2 := dk_seg dksX16_asked_1 24 rfl rfl
theorem dksX16_asked_3 : cX16_asked.data.toList.drop 70 = dktX16_asked_3 := dk_seg dksX16_asked_2 23 rfl rfl
theorem dksX16_asked_4 : cX16_asked.data.toList.drop 94 = dktX16_asked_4 := dk_seg dksX16_asked_3 24 rfl rfl
theorem dX16_asked_0 : decode cX16_asked 0 = .ok (.iconst 0, 1) := dk_3 (dk_at dksX16_asked_0 0 rfl rfl)
theorem dX16_asked_1 : decode cX16_asked 1 = .ok (.istore_n 3, 1) := dk_62 (dk_at dksX16_asked_0 1 rfl rfl)
theorem dX16_asked_2 : decode cX16_asked 2 = .ok (.iconst 0, 1) := dk_3 (dk_at dksX16_asked_0 2 rfl rfl)
theorem dX16_asked_3 : decode cX16_asked 3 = .ok (.istore 4, 2) := dk_54 4 (dk_at dksX16_asked_0 3 rfl rfl)
theorem dX16_asked_5 : decode cX16_asked 5 = .ok (.iload 4, 2) := dk_21 4 (dk_at dksX16_asked_0 5 rfl rfl)
theorem dX16_asked_7 : decode cX16_asked 7 = .ok (.aload_n 0, 1) := dk_42 (dk_at dksX16_asked_0 7 rfl rfl)
theorem dX16_asked_8 : decode cX16_asked 8 = .ok (.getfield 30, 3) := dk_180 0 30 (dk_at dksX16_asked_0 8 rfl rfl)
theorem dX16_asked_11 : decode cX16_asked 11 = .ok (.if_icmp .ge 99, 3) := dk_162 0 99 (dk_at dksX16_asked_0 11 rfl rfl)
theorem dX16_asked_14 : decode cX16_asked 14 = .ok (.aload_n 0, 1) := dk_42 (dk_at dksX16_asked_0 14 rfl rfl)
theorem dX16_asked_15 : decode cX16_asked 15 = .ok (.getfield 19, 3) := dk_180 0 19 (dk_at dksX16_asked_0 15 rfl rfl)
theorem dX16_asked_18 : decode cX16_asked 18 = .ok (.iload 4, 2) := dk_21 4 (dk_at dksX16_asked_0 18 rfl rfl)
theorem dX16_asked_20 : decode cX16_asked 20 = .ok (.aaload, 1) := dk_50 (dk_at dksX16_asked_0 20 rfl rfl)
theorem dX16_asked_21 : decode cX16_asked 21 = .ok (.aload_n 1, 1) := dk_43 (dk_at dksX16_asked_0 21 rfl rfl)
theorem dX16_asked_22 : decode cX16_asked 22 = .ok (.aload_n 0, 1) := dk_42 (dk_at dksX16_asked_0 22 rfl rfl)
theorem dX16_asked_23 : decode cX16_asked 23 = .ok (.getfield 11, 3) := dk_180 0 11 (dk_at dksX16_asked_1 0 rfl rfl)
theorem dX16_asked_26 : decode cX16_asked 26 = .ok (.iload 4, 2) := dk_21 4 (dk_at dksX16_asked_1 3 rfl rfl)
theorem dX16_asked_28 : decode cX16_asked 28 = .ok (.aaload, 1) := dk_50 (dk_at dksX16_asked_1 5 rfl rfl)
theorem dX16_asked_29 : decode cX16_asked 29 = .ok (.invokevirtual 40, 3) := dk_182 0 40 (dk_at dksX16_asked_1 6 rfl rfl)
theorem dX16_asked_32 : decode cX16_asked 32 = .ok (.ifCond .ne 7, 3) := dk_154 0 7 (dk_at dksX16_asked_1 9 rfl rfl)
theorem dX16_asked_35 : decode cX16_asked 35 = .ok (.iconst 1, 1) := dk_4 (dk_at dksX16_asked_1 12 rfl rfl)
theorem dX16_asked_36 : decode cX16_asked 36 = .ok (.goto 4, 3) := dk_167 0 4 (dk_at dksX16_asked_1 13 rfl rfl)
theorem dX16_asked_39 : decode cX16_asked 39 = .ok (.iconst 0, 1) := dk_3 (dk_at dksX16_asked_1 16 rfl rfl)
theorem dX16_asked_40 : decode cX16_asked 40 = .ok (.istore 5, 2) := dk_54 5 (dk_at dksX16_asked_1 17 rfl rfl)
theorem dX16_asked_42 : decode cX16_asked 42 = .ok (.iconst 0, 1) := dk_3 (dk_at dksX16_asked_1 19 rfl rfl)
theorem dX16_asked_43 : decode cX16_asked 43 = .ok (.istore 6, 2) := dk_54 6 (dk_at dksX16_asked_1 20 rfl rfl)
theorem dX16_asked_45 : decode cX16_asked 45 = .ok (.iload 6, 2) := dk_21 6 (dk_at dksX16_asked_1 22 rfl rfl)
theorem dX16_asked_47 : decode cX16_asked 47 = .ok (.iload_n 3, 1) := dk_29 (dk_at dksX16_asked_2 0 rfl rfl)
theorem dX16_asked_48 : decode cX16_asked 48 = .ok (.if_icmp .ge 38, 3) := dk_162 0 38 (dk_at dksX16_asked_2 1 rfl rfl)
theorem dX16_asked_51 : decode cX16_asked 51 = .ok (.iload 5, 2) := dk_21 5 (dk_at dksX16_asked_2 4 rfl rfl)
theorem dX16_asked_53 : decode cX16_asked 53 = .ok (.ifCond .eq 33, 3) := dk_153 0 33 (dk_at dksX16_asked_2 6 rfl rfl)
theorem dX16_asked_56 : decode cX16_asked 56 = .ok (.aload_n 0, 1) := dk_42 (dk_at dksX16_asked_2 9 rfl rfl)
theorem dX16_asked_57 : decode cX16_asked 57 = .ok (.getfield 11, 3) := dk_180 0 11 (dk_at dksX16_asked_2 10 rfl rfl)
theorem dX16_asked_60 : decode cX16_asked 60 = .ok (.iload 4, 2) := dk_21 4 (dk_at dksX16_asked_2 13 rfl rfl)
theorem dX16_asked_62 : decode cX16_asked 62 = .ok (.aaload, 1) := dk_50 (dk_at dksX16_asked_2 15 rfl rfl)
theorem dX16_asked_63 : decode cX16_asked 63 = .ok (.aload_n 2, 1) := dk_44 (dk_at dksX16_asked_2 16 rfl rfl)
theorem dX16_asked_64 : decode cX16_asked 64 = .ok (.iload 6, 2) := dk_21 6 (dk_at dksX16_asked_2 17 rfl rfl)
theorem dX16_asked_66 : decode cX16_asked 66 = .ok (.aaload, 1) := dk_50 (dk_at dksX16_asked_2 19 rfl rfl)
theorem dX16_asked_67 : decode cX16_asked 67 = .ok (.invokevirtual 44, 3) := dk_182 0 44 (dk_at dksX16_asked_2 20 rfl rfl)
theorem dX16_asked_70 : decode cX16_asked 70 = .ok (.ifCond .ne 7, 3) := dk_154 0 7 (dk_at dksX16_asked_3 0 rfl rfl)
theorem dX16_asked_73 : decode cX16_asked 73 = .ok (.iconst 1, 1) := dk_4 (dk_at dksX16_asked_3 3 rfl rfl)
theorem dX16_asked_74 : decode cX16_asked 74 = .ok (.goto 4, 3) := dk_167 0 4 (dk_at dksX16_asked_3 4 rfl rfl)
theorem dX16_asked_77 : decode cX16_asked 77 = .ok (.iconst 0, 1) := dk_3 (dk_at dksX16_asked_3 7 rfl rfl)
theorem dX16_asked_78 : decode cX16_asked 78 = .ok (.istore 5, 2) := dk_54 5 (dk_at dksX16_asked_3 8 rfl rfl)
theorem dX16_asked_80 : decode cX16_asked 80 = .ok (.iinc 6 1, 3) := dk_132 6 1 (dk_at dksX16_asked_3 10 rfl rfl)
theorem dX16_asked_83 : decode cX16_asked 83 = .ok (.goto (-38), 3) := dk_167 255 218 (dk_at dksX16_asked_3 13 rfl rfl)
theorem dX16_asked_86 : decode cX16_asked 86 = .ok (.iload 5, 2) := dk_21 5 (dk_at dksX16_asked_3 16 rfl rfl)
theorem dX16_asked_88 : decode cX16_asked 88 = .ok (.ifCond .eq 16, 3) := dk_153 0 16 (dk_at dksX16_asked_3 18 rfl rfl)
theorem dX16_asked_91 : decode cX16_asked 91 = .ok (.aload_n 2, 1) := dk_44 (dk_at dksX16_asked_3 21 rfl rfl)
theorem dX16_asked_92 : decode cX16_asked 92 = .ok (.iload_n 3, 1) := dk_29 (dk_at dksX16_asked_3 22 rfl rfl)
theorem dX16_asked_93 : decode cX16_asked 93 = .ok (.aload_n 0, 1) := dk_42 (dk_at dksX16_asked_3 23 rfl rfl)
theorem dX16_asked_94 : decode cX16_asked 94 = .ok (.getfield 11, 3) := dk_180 0 11 (dk_at dksX16_asked_4 0 rfl rfl)
theorem dX16_asked_97 : decode cX16_asked 97 = .ok (.iload 4, 2) := dk_21 4 (dk_at dksX16_asked_4 3 rfl rfl)
theorem dX16_asked_99 : decode cX16_asked 99 = .ok (.aaload, 1) := dk_50 (dk_at dksX16_asked_4 5 rfl rfl)
theorem dX16_asked_100 : decode cX16_asked 100 = .ok (.aastore, 1) := dk_83 (dk_at dksX16_asked_4 6 rfl rfl)
theorem dX16_asked_101 : decode cX16_asked 101 = .ok (.iinc 3 1, 3) := dk_132 3 1 (dk_at dksX16_asked_4 7 rfl rfl)
theorem dX16_asked_104 : decode cX16_asked 104 = .ok (.iinc 4 1, 3) := dk_132 4 1 (dk_at dksX16_asked_4 10 rfl rfl)
theorem dX16_asked_107 : decode cX16_asked 107 = .ok (.goto (-102), 3) := dk_167 255 154 (dk_at dksX16_asked_4 13 rfl rfl)
theorem dX16_asked_110 : decode cX16_asked 110 = .ok (.iload_n 3, 1) := dk_29 (dk_at dksX16_asked_4 16 rfl rfl)
theorem dX16_asked_111 : decode cX16_asked 111 = .ok (.ireturn, 1) := dk_172 (dk_at dksX16_asked_4 17 rfl rfl)
abbrev cX16_left : ByteArray := prog_20_method_4_code
def yX16_left : MethodName := ⟨RX16, "left", "(LLetterPost$Known;LLetterPost$Place;)LLetterPost$Test;"⟩
def dkwX16_left_2 : List UInt8 := [176]
abbrev dktX16_left_2 : List UInt8 := dkwX16_left_2 ++ []
def dkwX16_left_1 : List UInt8 := [29, 50, 43, 44, 182, 0, 40, 154, 0, 10, 42, 180, 0, 19, 29, 50, 176, 132, 3, 1, 167, 255, 214, 1]
abbrev dktX16_left_1 : List UInt8 := dkwX16_left_1 ++ dktX16_left_2
def dkwX16_left_0 : List UInt8 := [3, 62, 29, 42, 180, 0, 30, 162, 0, 40, 42, 180, 0, 11, 29, 50, 44, 166, 0, 24, 42, 180, 0, 19]
abbrev dktX16_left_0 : List UInt8 := dkwX16_left_0 ++ dktX16_left_1
theorem dksX16_left_0 : cX16_left.data.toList.drop 0 = dktX16_left_0 := by decide +kernel
theorem dksX16_left_1 : cX16_left.data.toList.drop 24 = dktX16_left_1 := dk_seg dksX16_left_0 24 rfl rfl
theorem dksX16_left_2 : cX16_left.data.toList.drop 48 = dktX16_left_2 := dk_seg dksX16_left_1 24 rfl rfl
theorem dX16_left_0 : decode cX16_left 0 = .ok (.iconst 0, 1) := dk_3 (dk_at dksX16_left_0 0 rfl rfl)
theorem dX16_left_1 : decode cX16_left 1 = .ok (.istore_n 3, 1) := dk_62 (dk_at dksX16_left_0 1 rfl rfl)
theorem dX16_left_2 : decode cX16_left 2 = .ok (.iload_n 3, 1) := dk_29 (dk_at dksX16_left_0 2 rfl rfl)
theorem dX16_left_3 : decode cX16_left 3 = .ok (.aload_n 0, 1) := dk_42 (dk_at dksX16_left_0 3 rfl rfl)
theorem dX16_left_4 : decode cX16_left 4 = .ok (.getfield 30, 3) := dk_180 0 30 (dk_at dksX16_left_0 4 rfl rfl)
theorem dX16_left_7 : decode cX16_left 7 = .ok (.if_icmp .ge 40, 3) := dk_162 0 40 (dk_at dksX16_left_0 7 rfl rfl)
theorem dX16_left_10 : decode cX16_left 10 = .ok (.aload_n 0, 1) := dk_42 (dk_at dksX16_left_0 10 rfl rfl)
theorem dX16_left_11 : decode cX16_left 11 = .ok (.getfield 11, 3) := dk_180 0 11 (dk_at dksX16_left_0 11 rfl rfl)
theorem dX16_left_14 : decode cX16_left 14 = .ok (.iload_n 3, 1) := dk_29 (dk_at dksX16_left_0 14 rfl rfl)
theorem dX16_left_15 : decode cX16_left 15 = .ok (.aaload, 1) := dk_50 (dk_at dksX16_left_0 15 rfl rfl)
theorem dX16_left_16 : decode cX16_left 16 = .ok (.aload_n 2, 1) := dk_44 (dk_at dksX16_left_0 16 rfl rfl)
theorem dX16_left_17 : decode cX16_left 17 = .ok (.if_acmp .ne 24, 3) := dk_166 0 24 (dk_at dksX16_left_0 17 rfl rfl)
theorem dX16_left_20 : decode cX16_left 20 = .ok (.aload_n 0, 1) := dk_42 (dk_at dksX16_left_0 20 rfl rfl)
theorem dX16_left_21 : decode cX16_left 21 = .ok (.getfield 19, 3) := dk_180 0 19 (dk_at dksX16_left_0 21 rfl rfl)
theorem dX16_left_24 : decode cX16_left 24 = .ok (.iload_n 3, 1) := dk_29 (dk_at dksX16_left_1 0 rfl rfl)
theorem dX16_left_25 : decode cX16_left 25 = .ok (.aaload, 1) := dk_50 (dk_at dksX16_left_1 1 rfl rfl)
theorem dX16_left_26 : decode cX16_left 26 = .ok (.aload_n 1, 1) := dk_43 (dk_at dksX16_left_1 2 rfl rfl)
theorem dX16_left_27 : decode cX16_left 27 = .ok (.aload_n 2, 1) := dk_44 (dk_at dksX16_left_1 3 rfl rfl)
theorem dX16_left_28 : decode cX16_left 28 = .ok (.invokevirtual 40, 3) := dk_182 0 40 (dk_at dksX16_left_1 4 rfl rfl)
theorem dX16_left_31 : decode cX16_left 31 = .ok (.ifCond .ne 10, 3) := dk_154 0 10 (dk_at dksX16_left_1 7 rfl rfl)
theorem dX16_left_34 : decode cX16_left 34 = .ok (.aload_n 0, 1) := dk_42 (dk_at dksX16_left_1 10 rfl rfl)
theorem dX16_left_35 : decode cX16_left 35 = .ok (.getfield 19, 3) := dk_180 0 19 (dk_at dksX16_left_1 11 rfl rfl)
theorem dX16_left_38 : decode cX16_left 38 = .ok (.iload_n 3, 1) := dk_29 (dk_at dksX16_left_1 14 rfl rfl)
theorem dX16_left_39 : decode cX16_left 39 = .ok (.aaload, 1) := dk_50 (dk_at dksX16_left_1 15 rfl rfl)
theorem dX16_left_40 : decode cX16_left 40 = .ok (.areturn, 1) := dk_176 (dk_at dksX16_left_1 16 rfl rfl)
theorem dX16_left_41 : decode cX16_left 41 = .ok (.iinc 3 1, 3) := dk_132 3 1 (dk_at dksX16_left_1 17 rfl rfl)
theorem dX16_left_44 : decode cX16_left 44 = .ok (.goto (-42), 3) := dk_167 255 214 (dk_at dksX16_left_1 20 rfl rfl)
theorem dX16_left_47 : decode cX16_left 47 = .ok (.aconst_null, 1) := dk_1 (dk_at dksX16_left_1 23 rfl rfl)
theorem dX16_left_48 : decode cX16_left 48 = .ok (.areturn, 1) := dk_176 (dk_at dksX16_left_2 0 rfl rfl)
theorem q172 : (Jvm.Cond.initialized "LetterPost$Row") ∈ lw_all := lw_g (lw_at lw_m1 30 rfl) rfl
theorem q1094 : (Jvm.Cond.instantiable "LetterPost$Row" (5 : Nat)) ∈ lw_all := lw_g (lw_at lw_m4 232 rfl) rfl
theorem q1096 : (Jvm.Cond.instanceMethod ({ cls := "LetterPost$Row", name := "<init>", desc := "(LLetterPost$Rule;)V" } : Jvm.MethodName)) ∈ lw_all := lw_g (lw_at lw_m4 234 rfl) rfl
theorem q1097 : (Jvm.Cond.code ({ cls := "LetterPost$Row", name := "<init>", desc := "(LLetterPost$Rule;)V" } : Jvm.MethodName) prog_20_method_1_code (2 : Nat) (Option.none : Option Jvm.ClassFile.FieldType)) ∈ lw_all := lw_g (lw_at lw_m4 235 rfl) rfl
theorem q1098 : (Jvm.Cond.methodLink "LetterPost$Row" (3 : Nat) ({ cls := "java/lang/Object", name := "<init>", desc := "()V" } : Jvm.MethodName)) ∈ lw_all := lw_g (lw_at lw_m4 236 rfl) rfl
theorem q1099 : (Jvm.Cond.classLink "LetterPost$Row" (9 : Nat) "LetterPost$Place") ∈ lw_all := lw_g (lw_at lw_m4 237 rfl) rfl
theorem q1100 : (Jvm.Cond.classLink "LetterPost$Row" (17 : Nat) "LetterPost$Test") ∈ lw_all := lw_g (lw_at lw_m4 238 rfl) rfl
theorem q1102 : (Jvm.Cond.fieldLink "LetterPost$Row" (26 : Nat) "LetterPost$Row" "rule" "LLetterPost$Rule;") ∈ lw_all := lw_g (lw_at lw_m5 0 rfl) rfl
theorem q1107 : (Jvm.Cond.fieldLink "LetterPost$Row" (11 : Nat) "LetterPost$Row" "at" "[LLetterPost$Place;") ∈ lw_all := lw_g (lw_at lw_m5 5 rfl) rfl
theorem q1108 : (Jvm.Cond.fieldLink "LetterPost$Row" (19 : Nat) "LetterPost$Row" "wants" "[LLetterPost$Test;") ∈ lw_all := lw_g (lw_at lw_m5 6 rfl) rfl
theorem q1109 : (Jvm.Cond.fieldLink "LetterPost$Row" (30 : Nat) "LetterPost$Row" "many" "I") ∈ lw_all := lw_g (lw_at lw_m5 7 rfl) rfl
theorem q1110 : (Jvm.Cond.fieldLink "LetterPost$Row" (23 : Nat) "LetterPost$Row" "places" "[LLetterPost$Place;") ∈ lw_all := lw_g (lw_at lw_m5 8 rfl) rfl
theorem q1113 : (Jvm.Cond.laysFinal "LetterPost$Row" "LetterPost$Row" "rule" "LLetterPost$Rule;") ∈ lw_all := lw_g (lw_at lw_m5 11 rfl) rfl
theorem q1114 : (Jvm.Cond.soleField "LetterPost$Row" "rule") ∈ lw_all := lw_g (lw_at lw_m5 12 rfl) rfl
theorem q1115 : (Jvm.Cond.lays "LetterPost$Row" "LetterPost$Row" "at" "[LLetterPost$Place;") ∈ lw_all := lw_g (lw_at lw_m5 13 rfl) rfl
theorem q1116 : (Jvm.Cond.soleField "LetterPost$Row" "at") ∈ lw_all := lw_g (lw_at lw_m5 14 rfl) rfl
theorem q1117 : (Jvm.Cond.lays "LetterPost$Row" "LetterPost$Row" "wants" "[LLetterPost$Test;") ∈ lw_all := lw_g (lw_at lw_m5 15 rfl) rfl
theorem q1118 : (Jvm.Cond.soleField "LetterPost$Row" "wants") ∈ lw_all := lw_g (lw_at lw_m5 16 rfl) rfl
theorem q1119 : (Jvm.Cond.lays "LetterPost$Row" "LetterPost$Row" "many" "I") ∈ lw_all := lw_g (lw_at lw_m5 17 rfl) rfl
theorem q1120 : (Jvm.Cond.soleField "LetterPost$Row" "many") ∈ lw_all := lw_g (lw_at lw_m5 18 rfl) rfl
theorem q1121 : (Jvm.Cond.laysFinal "LetterPost$Row" "LetterPost$Row" "places" "[LLetterPost$Place;") ∈ lw_all := lw_g (lw_at lw_m5 19 rfl) rfl
theorem q1122 : (Jvm.Cond.soleField "LetterPost$Row" "places") ∈ lw_all := lw_g (lw_at lw_m5 20 rfl) rfl
theorem q1123 : (Jvm.Cond.superclass "LetterPost$Row" "java/lang/Object") ∈ lw_all := lw_g (lw_at lw_m5 21 rfl) rfl
theorem q1179 : (Jvm.Cond.instanceMethod ({ cls := "LetterPost$Row", name := "add", desc := "(LLetterPost$Place;LLetterPost$Test;)V" } : Jvm.MethodName)) ∈ lw_all := lw_g (lw_at lw_m5 77 rfl) rfl
theorem q1180 : (Jvm.Cond.selects "LetterPost$Row" ({ cls := "LetterPost$Row", name := "add", desc := "(LLetterPost$Place;LLetterPost$Test;)V" } : Jvm.MethodName) ({ cls := "LetterPost$Row", name := "add", desc := "(LLetterPost$Place;LLetterPost$Test;)V" } : Jvm.MethodName)) ∈ lw_all := lw_g (lw_at lw_m5 78 rfl) rfl
theorem q1181 : (Jvm.Cond.code ({ cls := "LetterPost$Row", name := "add", desc := "(LLetterPost$Place;LLetterPost$Test;)V" } : Jvm.MethodName) prog_20_method_2_code (5 : Nat) (Option.none : Option Jvm.ClassFile.FieldType)) ∈ lw_all := lw_g (lw_at lw_m5 79 rfl) rfl
theorem q1182 : (Jvm.Cond.methodLink "LetterPost$Row" (34 : Nat) ({ cls := "java/lang/System", name := "arraycopy", desc := "(Ljava/lang/Object;ILjava/lang/Object;II)V" } : Jvm.MethodName)) ∈ lw_all := lw_g (lw_at lw_m5 80 rfl) rfl
theorem q1291 : (Jvm.Cond.instanceMethod ({ cls := "LetterPost$Row", name := "isOut", desc := "(LLetterPost$Known;)Z" } : Jvm.MethodName)) ∈ lw_all := lw_g (lw_at lw_m5 189 rfl) rfl
theorem q1292 : (Jvm.Cond.selects "LetterPost$Row" ({ cls := "LetterPost$Row", name := "isOut", desc := "(LLetterPost$Known;)Z" } : Jvm.MethodName) ({ cls := "LetterPost$Row", name := "isOut", desc := "(LLetterPost$Known;)Z" } : Jvm.MethodName)) ∈ lw_all := lw_g (lw_at lw_m5 190 rfl) rfl
theorem q1293 : (Jvm.Cond.code ({ cls := "LetterPost$Row", name := "isOut", desc := "(LLetterPost$Known;)Z" } : Jvm.MethodName) prog_20_method_3_code (4 : Nat) (Option.some Jvm.ClassFile.FieldType.boolean)) ∈ lw_all := lw_g (lw_at lw_m5 191 rfl) rfl
theorem q1294 : (Jvm.Cond.methodLink "LetterPost$Row" (40 : Nat) ({ cls := "LetterPost$Test", name := "by", desc := "(LLetterPost$Known;LLetterPost$Place;)I" } : Jvm.MethodName)) ∈ lw_all := lw_g (lw_at lw_m5 192 rfl) rfl
theorem q1368 : (Jvm.Cond.instanceMethod ({ cls := "LetterPost$Row", name := "asked", desc := "(LLetterPost$Known;[LLetterPost$Place;)I" } : Jvm.MethodName)) ∈ lw_all := lw_g (lw_at lw_m6 26 rfl) rfl
theorem q1369 : (Jvm.Cond.selects "LetterPost$Row" ({ cls := "LetterPost$Row", name := "asked", desc := "(LLetterPost$Known;[LLetterPost$Place;)I" } : Jvm.MethodName) ({ cls := "LetterPost$Row", name := "asked", desc := "(LLetterPost$Known;[LLetterPost$Place;)I" } : Jvm.MethodName)) ∈ lw_all := lw_g (lw_at lw_m6 27 rfl) rfl
theorem q1370 : (Jvm.Cond.code ({ cls := "LetterPost$Row", name := "asked", desc := "(LLetterPost$Known;[LLetterPost$Place;)I" } : Jvm.MethodName) prog_20_method_5_code (7 : Nat) (Option.some Jvm.ClassFile.FieldType.int)) ∈ lw_all := lw_g (lw_at lw_m6 28 rfl) rfl
theorem q1371 : (Jvm.Cond.methodLink "LetterPost$Row" (44 : Nat) ({ cls := "LetterPost$Place", name := "isWithin", desc := "(LLetterPost$Place;)Z" } : Jvm.MethodName)) ∈ lw_all := lw_g (lw_at lw_m6 29 rfl) rfl
theorem q1413 : (Jvm.Cond.instanceMethod ({ cls := "LetterPost$Row", name := "left", desc := "(LLetterPost$Known;LLetterPost$Place;)LLetterPost$Test;" } : Jvm.MethodName)) ∈ lw_all := lw_g (lw_at lw_m6 71 rfl) rfl
theorem q1414 : (Jvm.Cond.selects "LetterPost$Row" ({ cls := "LetterPost$Row", name := "left", desc := "(LLetterPost$Known;LLetterPost$Place;)LLetterPost$Test;" } : Jvm.MethodName) ({ cls := "LetterPost$Row", name := "left", desc := "(LLetterPost$Known;LLetterPost$Place;)LLetterPost$Test;" } : Jvm.MethodName)) ∈ lw_all := lw_g (lw_at lw_m6 72 rfl) rfl
theorem q1415 : (Jvm.Cond.code ({ cls := "LetterPost$Row", name := "left", desc := "(LLetterPost$Known;LLetterPost$Place;)LLetterPost$Test;" } : Jvm.MethodName) prog_20_method_4_code (4 : Nat) (Option.some (Jvm.ClassFile.FieldType.object "LetterPost$Test"))) ∈ lw_all := lw_g (lw_at lw_m6 73 rfl) rfl
theorem in_X16 : ∀ w ∈ wsX160, w ∈ lw_all := lw_in wsX160 [1113, 1115, 1117, 1119, 1121] (by decide +kernel) (by decide +kernel)

/-! LetterPost$Place -/
set_option maxRecDepth 100000
def RX17 : String := "LetterPost$Place"
def TX17 : u_T := fun k => match k with
  | 0 => ("LetterPost$Place", "above", "LLetterPost$Place;", true)
  | 1 => ("LetterPost$Place", "kind", "LLetterPost$Kind;", true)
  | 2 => ("LetterPost$Place", "index", "I", true)
  | 3 => ("LetterPost$Place", "sort", "I", true)
  | 4 => ("LetterPost$Place", "number", "I", true)
  | _ => ("LetterPost$Place", "deep", "I", true)
def tyX17 : Nat → FieldType := fun k => match k with
  | 0 => .object "LetterPost$Place"
  | 1 => .object "LetterPost$Kind"
  | 2 => .int
  | 3 => .int
  | 4 => .int
  | _ => .int
abbrev wsX170 : List Cond := u_ws RX17 TX17 6
theorem nmX17 : ∀ a, a < 6 → ∀ b, b < 6 → a ≠ b → (TX17 a).2.1 ≠ (TX17 b).2.1 := by decide +kernel
theorem tyX17_ok : ∀ k, k < 6 → parseFieldDescriptor (TX17 k).2.2.1 = some (tyX17 k) := by decide +kernel
abbrev cX17_init : ByteArray := prog_18_method_1_code
def yX17_init : MethodName := ⟨RX17, "<init>", "(LLetterPost$Place;LLetterPost$Kind;III)V"⟩
def dkwX17_init_2 : List UInt8 := [181, 0, 27, 177]
abbrev dktX17_init_2 : List UInt8 := dkwX17_init_2 ++ []
def dkwX17_init_1 : List UInt8 := [181, 0, 21, 42, 21, 5, 181, 0, 24, 42, 43, 199, 0, 7, 3, 167, 0, 9, 43, 180, 0, 27, 4, 96]
abbrev dktX17_init_1 : List UInt8 := dkwX17_init_1 ++ dktX17_init_2
def dkwX17_init_0 : List UInt8 := [42, 183, 0, 1, 42, 43, 181, 0, 7, 42, 44, 181, 0, 13, 42, 29, 181, 0, 17, 42, 21, 4]
abbrev dktX17_init_0 : List UInt8 := dkwX17_init_0 ++ dktX17_init_1
theorem dksX17_init_0 : cX17_init.data.toList.drop 0 = dktX17_init_0 := by decide +kernel
theorem dksX17_init_1 : cX17_init.data.toList.drop 22 = dktX17_init_1 := dk_seg dksX17_init_0 22 rfl rfl
theorem dksX17_init_2 : cX17_init.data.toList.drop 46 = dktX17_init_2 := dk_seg dksX17_init_1 24 rfl rfl
theorem dX17_init_0 : decode cX17_init 0 = .ok (.aload_n 0, 1) := dk_42 (dk_at dksX17_init_0 0 rfl rfl)
theorem dX17_init_1 : decode cX17_init 1 = .ok (.invokespecial 1, 3) := dk_183 0 1 (dk_at dksX17_init_0 1 rfl rfl)
theorem dX17_init_4 : decode cX17_init 4 = .ok (.aload_n 0, 1) := dk_42 (dk_at dksX17_init_0 4 rfl rfl)
theorem dX17_init_5 : decode cX17_init 5 = .ok (.aload_n 1, 1) := dk_43 (dk_at dksX17_init_0 5 rfl rfl)
theorem dX17_init_6 : decode cX17_init 6 = .ok (.putfield 7, 3) := dk_181 0 7 (dk_at dksX17_init_0 6 rfl rfl)
theorem dX17_init_9 : decode cX17_init 9 = .ok (.aload_n 0, 1) := dk_42 (dk_at dksX17_init_0 9 rfl rfl)
theorem dX17_init_10 : decode cX17_init 10 = .ok (.aload_n 2, 1) := dk_44 (dk_at dksX17_init_0 10 rfl rfl)
theorem dX17_init_11 : decode cX17_init 11 = .ok (.putfield 13, 3) := dk_181 0 13 (dk_at dksX17_init_0 11 rfl rfl)
theorem dX17_init_14 : decode cX17_init 14 = .ok (.aload_n 0, 1) := dk_42 (dk_at dksX17_init_0 14 rfl rfl)
theorem dX17_init_15 : decode cX17_init 15 = .ok (.iload_n 3, 1) := dk_29 (dk_at dksX17_init_0 15 rfl rfl)
theorem dX17_init_16 : decode cX17_init 16 = .ok (.putfield 17, 3) := dk_181 0 17 (dk_at dksX17_init_0 16 rfl rfl)
theorem dX17_init_19 : decode cX17_init 19 = .ok (.aload_n 0, 1) := dk_42 (dk_at dksX17_init_0 19 rfl rfl)
theorem dX17_init_20 : decode cX17_init 20 = .ok (.iload 4, 2) := dk_21 4 (dk_at dksX17_init_0 20 rfl rfl)
theorem dX17_init_22 : decode cX17_init 22 = .ok (.putfield 21, 3) := dk_181 0 21 (dk_at dksX17_init_1 0 rfl rfl)
theorem dX17_init_25 : decode cX17_init 25 = .ok (.aload_n 0, 1) := dk_42 (dk_at dksX17_init_1 3 rfl rfl)
theorem dX17_init_26 : decode cX17_init 26 = .ok (.iload 5, 2) := dk_21 5 (dk_at dksX17_init_1 4 rfl rfl)
theorem dX17_init_28 : decode cX17_init 28 = .ok (.putfield 24, 3) := dk_181 0 24 (dk_at dksX17_init_1 6 rfl rfl)
theorem dX17_init_31 : decode cX17_init 31 = .ok (.aload_n 0, 1) := dk_42 (dk_at dksX17_init_1 9 rfl rfl)
theorem dX17_init_32 : decode cX17_init 32 = .ok (.aload_n 1, 1) := dk_43 (dk_at dksX17_init_1 10 rfl rfl)
theorem dX17_init_33 : decode cX17_init 33 = .ok (.ifnonnull 7, 3) := dk_199 0 7 (dk_at dksX17_init_1 11 rfl rfl)
theorem dX17_init_36 : decode cX17_init 36 = .ok (.iconst 0, 1) := dk_3 (dk_at dksX17_init_1 14 rfl rfl)
theorem dX17_init_37 : decode cX17_init 37 = .ok (.goto 9, 3) := dk_167 0 9 (dk_at dksX17_init_1 15 rfl rfl)
theorem dX17_init_40 : decode cX17_init 40 = .ok (.aload_n 1, 1) := dk_43 (dk_at dksX17_init_1 18 rfl rfl)
theorem dX17_init_41 : decode cX17_init 41 = .ok (.getfield 27, 3) := dk_180 0 27 (dk_at dksX17_init_1 19 rfl rfl)
theorem dX17_init_44 : decode cX17_init 44 = .ok (.iconst 1, 1) := dk_4 (dk_at dksX17_init_1 22 rfl rfl)
theorem dX17_init_45 : decode cX17_init 45 = .ok (.iadd, 1) := dk_96 (dk_at dksX17_init_1 23 rfl rfl)
theorem dX17_init_46 : decode cX17_init 46 = .ok (.putfield 27, 3) := dk_181 0 27 (dk_at dksX17_init_2 0 rfl rfl)
theorem dX17_init_49 : decode cX17_init 49 = .ok (.return_, 1) := dk_177 (dk_at dksX17_init_2 3 rfl rfl)
abbrev cX17_isWithin : ByteArray := prog_18_method_3_code
def yX17_isWithin : MethodName := ⟨RX17, "isWithin", "(LLetterPost$Place;)Z"⟩
def dkwX17_isWithin_1 : List UInt8 := [198, 0, 7, 4, 167, 0, 4, 3, 172]
abbrev dktX17_isWithin_1 : List UInt8 := dkwX17_isWithin_1 ++ []
def dkwX17_isWithin_0 : List UInt8 := [42, 180, 0, 7, 77, 44, 198, 0, 16, 44, 43, 165, 0, 11, 44, 180, 0, 7, 77, 167, 255, 242, 44]
abbrev dktX17_isWithin_0 : List UInt8 := dkwX17_isWithin_0 ++ dktX17_isWithin_1
theorem dksX17_isWithin_0 : cX17_isWithin.data.toList.drop 0 = dktX17_isWithin_0 := by decide +kernel
theorem dksX17_isWithin_1 : cX17_isWithin.data.toList.drop 23 = dktX17_isWithin_1 := dk_seg dksX17_isWithin_0 23 rfl rfl
theorem dX17_isWithin_0 : decode cX17_isWithin 0 = .ok (.aload_n 0, 1) := dk_42 (dk_at dksX17_isWithin_0 0 rfl rfl)
theorem dX17_isWithin_1 : decode cX17_isWithin 1 = .ok (.getfield 7, 3) := dk_180 0 7 (dk_at dksX17_isWithin_0 1 rfl rfl)
theorem dX17_isWithin_4 : decode cX17_isWithin 4 = .ok (.astore_n 2, 1) := dk_77 (dk_at dksX17_isWithin_0 4 rfl rfl)
theorem dX17_isWithin_5 : decode cX17_isWithin 5 = .ok (.aload_n 2, 1) := dk_44 (dk_at dksX17_isWithin_0 5 rfl rfl)
theorem dX17_isWithin_6 : decode cX17_isWithin 6 = .ok (.ifnull 16, 3) := dk_198 0 16 (dk_at dksX17_isWithin_0 6 rfl rfl)
theorem dX17_isWithin_9 : decode cX17_isWithin 9 = .ok (.aload_n 2, 1) := dk_44 (dk_at dksX17_isWithin_0 9 rfl rfl)
theorem dX17_isWithin_10 : decode cX17_isWithin 10 = .ok (.aload_n 1, 1) := dk_43 (dk_at dksX17_isWithin_0 10 rfl rfl)
theorem dX17_isWithin_11 : decode cX17_isWithin 11 = .ok (.if_acmp .eq 11, 3) := dk_165 0 11 (dk_at dksX17_isWithin_0 11 rfl rfl)
theorem dX17_isWithin_14 : decode cX17_isWithin 14 = .ok (.aload_n 2, 1) := dk_44 (dk_at dksX17_isWithin_0 14 rfl rfl)
theorem dX17_isWithin_15 : decode cX17_isWithin 15 = .ok (.getfield 7, 3) := dk_180 0 7 (dk_at dksX17_isWithin_0 15 rfl rfl)
theorem dX17_isWithin_18 : decode cX17_isWithin 18 = .ok (.astore_n 2, 1) := dk_77 (dk_at dksX17_isWithin_0 18 rfl rfl)
theorem dX17_isWithin_19 : decode cX17_isWithin 19 = .ok (.goto (-14), 3) := dk_167 255 242 (dk_at dksX17_isWithin_0 19 rfl rfl)
theorem dX17_isWithin_22 : decode cX17_isWithin 22 = .ok (.aload_n 2, 1) := dk_44 (dk_at dksX17_isWithin_0 22 rfl rfl)
theorem dX17_isWithin_23 : decode cX17_isWithin 23 = .ok (.ifnull 7, 3) := dk_198 0 7 (dk_at dksX17_isWithin_1 0 rfl rfl)
theorem dX17_isWithin_26 : decode cX17_isWithin 26 = .ok (.iconst 1, 1) := dk_4 (dk_at dksX17_isWithin_1 3 rfl rfl)
theorem dX17_isWithin_27 : decode cX17_isWithin 27 = .ok (.goto 4, 3) := dk_167 0 4 (dk_at dksX17_isWithin_1 4 rfl rfl)
theorem dX17_isWithin_30 : decode cX17_isWithin 30 = .ok (.iconst 0, 1) := dk_3 (dk_at dksX17_isWithin_1 7 rfl rfl)
theorem dX17_isWithin_31 : decode cX17_isWithin 31 = .ok (.ireturn, 1) := dk_172 (dk_at dksX17_isWithin_1 8 rfl rfl)
abbrev cX17_of : ByteArray := prog_18_method_2_code
def yX17_of : MethodName := ⟨RX17, "of", "([LLetterPost$Value;)LLetterPost$Value;"⟩
def dkwX17_of_1 : List UInt8 := [192, 0, 34, 180, 0, 36, 42, 180, 0, 17, 50, 176]
abbrev dktX17_of_1 : List UInt8 := dkwX17_of_1 ++ []
def dkwX17_of_0 : List UInt8 := [42, 180, 0, 7, 199, 0, 12, 43, 42, 180, 0, 17, 50, 167, 0, 22, 42, 180, 0, 7, 43, 182, 0, 30]
abbrev dktX17_of_0 : List UInt8 := dkwX17_of_0 ++ dktX17_of_1
theorem dksX17_of_0 : cX17_of.data.toList.drop 0 = dktX17_of_0 := by decide +kernel
theorem dksX17_of_1 : cX17_of.data.toList.drop 24 = dktX17_of_1 := dk_seg dksX17_of_0 24 rfl rfl
theorem dX17_of_0 : decode cX17_of 0 = .ok (.aload_n 0, 1) := dk_42 (dk_at dksX17_of_0 0 rfl rfl)
theorem dX17_of_1 : decode cX17_of 1 = .ok (.getfield 7, 3) := dk_180 0 7 (dk_at dksX17_of_0 1 rfl rfl)
theorem dX17_of_4 : decode cX17_of 4 = .ok (.ifnonnull 12, 3) := dk_199 0 12 (dk_at dksX17_of_0 4 rfl rfl)
theorem dX17_of_7 : decode cX17_of 7 = .ok (.aload_n 1, 1) := dk_43 (dk_at dksX17_of_0 7 rfl rfl)
theorem dX17_of_8 : decode cX17_of 8 = .ok (.aload_n 0, 1) := dk_42 (dk_at dksX17_of_0 8 rfl rfl)
theorem dX17_of_9 : decode cX17_of 9 = .ok (.getfield 17, 3) := dk_180 0 17 (dk_at dksX17_of_0 9 rfl rfl)
theorem dX17_of_12 : decode cX17_of 12 = .ok (.aaload, 1) := dk_50 (dk_at dksX17_of_0 12 rfl rfl)
theorem dX17_of_13 : decode cX17_of 13 = .ok (.goto 22, 3) := dk_167 0 22 (dk_at dksX17_of_0 13 rfl rfl)
theorem dX17_of_16 : decode cX17_of 16 = .ok (.aload_n 0, 1) := dk_42 (dk_at dksX17_of_0 16 rfl rfl)
theorem dX17_of_17 : decode cX17_of 17 = .ok (.getfield 7, 3) := dk_180 0 7 (dk_at dksX17_of_0 17 rfl rfl)
theorem dX17_of_20 : decode cX17_of 20 = .ok (.aload_n 1, 1) := dk_43 (dk_at dksX17_of_0 20 rfl rfl)
theorem dX17_of_21 : decode cX17_of 21 = .ok (.invokevirtual 30, 3) := dk_182 0 30 (dk_at dksX17_of_0 21 rfl rfl)
theorem dX17_of_24 : decode cX17_of 24 = .ok (.checkcast 34, 3) := dk_192 0 34 (dk_at dksX17_of_1 0 rfl rfl)
theorem dX17_of_27 : decode cX17_of 27 = .ok (.getfield 36, 3) := dk_180 0 36 (dk_at dksX17_of_1 3 rfl rfl)
theorem dX17_of_30 : decode cX17_of 30 = .ok (.aload_n 0, 1) := dk_42 (dk_at dksX17_of_1 6 rfl rfl)
theorem dX17_of_31 : decode cX17_of 31 = .ok (.getfield 17, 3) := dk_180 0 17 (dk_at dksX17_of_1 7 rfl rfl)
theorem dX17_of_34 : decode cX17_of 34 = .ok (.aaload, 1) := dk_50 (dk_at dksX17_of_1 10 rfl rfl)
theorem dX17_of_35 : decode cX17_of 35 = .ok (.areturn, 1) := dk_176 (dk_at dksX17_of_1 11 rfl rfl)
theorem q173 : (Jvm.Cond.initialized "LetterPost$Place") ∈ lw_all := lw_g (lw_at lw_m1 31 rfl) rfl
theorem q1129 : (Jvm.Cond.instantiable "LetterPost$Place" (6 : Nat)) ∈ lw_all := lw_g (lw_at lw_m5 27 rfl) rfl
theorem q1131 : (Jvm.Cond.instanceMethod ({ cls := "LetterPost$Place", name := "<init>", desc := "(LLetterPost$Place;LLetterPost$Kind;III)V" } : Jvm.MethodName)) ∈ lw_all := lw_g (lw_at lw_m5 29 rfl) rfl
theorem q1132 : (Jvm.Cond.code ({ cls := "LetterPost$Place", name := "<init>", desc := "(LLetterPost$Place;LLetterPost$Kind;III)V" } : Jvm.MethodName) prog_18_method_1_code (6 : Nat) (Option.none : Option Jvm.ClassFile.FieldType)) ∈ lw_all := lw_g (lw_at lw_m5 30 rfl) rfl
theorem q1133 : (Jvm.Cond.methodLink "LetterPost$Place" (1 : Nat) ({ cls := "java/lang/Object", name := "<init>", desc := "()V" } : Jvm.MethodName)) ∈ lw_all := lw_g (lw_at lw_m5 31 rfl) rfl
theorem q1134 : (Jvm.Cond.fieldLink "LetterPost$Place" (7 : Nat) "LetterPost$Place" "above" "LLetterPost$Place;") ∈ lw_all := lw_g (lw_at lw_m5 32 rfl) rfl
theorem q1136 : (Jvm.Cond.fieldLink "LetterPost$Place" (13 : Nat) "LetterPost$Place" "kind" "LLetterPost$Kind;") ∈ lw_all := lw_g (lw_at lw_m5 34 rfl) rfl
theorem q1138 : (Jvm.Cond.fieldLink "LetterPost$Place" (17 : Nat) "LetterPost$Place" "index" "I") ∈ lw_all := lw_g (lw_at lw_m5 36 rfl) rfl
theorem q1141 : (Jvm.Cond.fieldLink "LetterPost$Place" (21 : Nat) "LetterPost$Place" "sort" "I") ∈ lw_all := lw_g (lw_at lw_m5 39 rfl) rfl
theorem q1143 : (Jvm.Cond.fieldLink "LetterPost$Place" (24 : Nat) "LetterPost$Place" "number" "I") ∈ lw_all := lw_g (lw_at lw_m5 41 rfl) rfl
theorem q1150 : (Jvm.Cond.fieldLink "LetterPost$Place" (27 : Nat) "LetterPost$Place" "deep" "I") ∈ lw_all := lw_g (lw_at lw_m5 48 rfl) rfl
theorem q1152 : (Jvm.Cond.laysFinal "LetterPost$Place" "LetterPost$Place" "above" "LLetterPost$Place;") ∈ lw_all := lw_g (lw_at lw_m5 50 rfl) rfl
theorem q1153 : (Jvm.Cond.soleField "LetterPost$Place" "above") ∈ lw_all := lw_g (lw_at lw_m5 51 rfl) rfl
theorem q1154 : (Jvm.Cond.laysFinal "LetterPost$Place" "LetterPost$Place" "kind" "LLetterPost$Kind;") ∈ lw_all := lw_g (lw_at lw_m5 52 rfl) rfl
theorem q1155 : (Jvm.Cond.soleField "LetterPost$Place" "kind") ∈ lw_all := lw_g (lw_at lw_m5 53 rfl) rfl
theorem q1156 : (Jvm.Cond.laysFinal "LetterPost$Place" "LetterPost$Place" "index" "I") ∈ lw_all := lw_g (lw_at lw_m5 54 rfl) rfl
theorem q1157 : (Jvm.Cond.soleField "LetterPost$Place" "index") ∈ lw_all := lw_g (lw_at lw_m5 55 rfl) rfl
theorem q1158 : (Jvm.Cond.laysFinal "LetterPost$Place" "LetterPost$Place" "sort" "I") ∈ lw_all := lw_g (lw_at lw_m5 56 rfl) rfl
theorem q1159 : (Jvm.Cond.soleField "LetterPost$Place" "sort") ∈ lw_all := lw_g (lw_at lw_m5 57 rfl) rfl
theorem q1160 : (Jvm.Cond.laysFinal "LetterPost$Place" "LetterPost$Place" "number" "I") ∈ lw_all := lw_g (lw_at lw_m5 58 rfl) rfl
theorem q1161 : (Jvm.Cond.soleField "LetterPost$Place" "number") ∈ lw_all := lw_g (lw_at lw_m5 59 rfl) rfl
theorem q1162 : (Jvm.Cond.laysFinal "LetterPost$Place" "LetterPost$Place" "deep" "I") ∈ lw_all := lw_g (lw_at lw_m5 60 rfl) rfl
theorem q1163 : (Jvm.Cond.soleField "LetterPost$Place" "deep") ∈ lw_all := lw_g (lw_at lw_m5 61 rfl) rfl
theorem q1164 : (Jvm.Cond.superclass "LetterPost$Place" "java/lang/Object") ∈ lw_all := lw_g (lw_at lw_m5 62 rfl) rfl
theorem q1372 : (Jvm.Cond.instanceMethod ({ cls := "LetterPost$Place", name := "isWithin", desc := "(LLetterPost$Place;)Z" } : Jvm.MethodName)) ∈ lw_all := lw_g (lw_at lw_m6 30 rfl) rfl
theorem q1373 : (Jvm.Cond.selects "LetterPost$Place" ({ cls := "LetterPost$Place", name := "isWithin", desc := "(LLetterPost$Place;)Z" } : Jvm.MethodName) ({ cls := "LetterPost$Place", name := "isWithin", desc := "(LLetterPost$Place;)Z" } : Jvm.MethodName)) ∈ lw_all := lw_g (lw_at lw_m6 31 rfl) rfl
theorem q1374 : (Jvm.Cond.code ({ cls := "LetterPost$Place", name := "isWithin", desc := "(LLetterPost$Place;)Z" } : Jvm.MethodName) prog_18_method_3_code (3 : Nat) (Option.some Jvm.ClassFile.FieldType.boolean)) ∈ lw_all := lw_g (lw_at lw_m6 32 rfl) rfl
theorem q1818 : (Jvm.Cond.fieldLink "LetterPost$Place" (36 : Nat) "LetterPost$Letter" "parts" "[LLetterPost$Value;") ∈ lw_all := lw_g (lw_at lw_m7 236 rfl) rfl
theorem q1902 : (Jvm.Cond.instanceMethod ({ cls := "LetterPost$Place", name := "of", desc := "([LLetterPost$Value;)LLetterPost$Value;" } : Jvm.MethodName)) ∈ lw_all := lw_g (lw_at lw_m8 80 rfl) rfl
theorem q1903 : (Jvm.Cond.selects "LetterPost$Place" ({ cls := "LetterPost$Place", name := "of", desc := "([LLetterPost$Value;)LLetterPost$Value;" } : Jvm.MethodName) ({ cls := "LetterPost$Place", name := "of", desc := "([LLetterPost$Value;)LLetterPost$Value;" } : Jvm.MethodName)) ∈ lw_all := lw_g (lw_at lw_m8 81 rfl) rfl
theorem q1904 : (Jvm.Cond.code ({ cls := "LetterPost$Place", name := "of", desc := "([LLetterPost$Value;)LLetterPost$Value;" } : Jvm.MethodName) prog_18_method_2_code (2 : Nat) (Option.some (Jvm.ClassFile.FieldType.object "LetterPost$Value"))) ∈ lw_all := lw_g (lw_at lw_m8 82 rfl) rfl
theorem q1905 : (Jvm.Cond.methodLink "LetterPost$Place" (30 : Nat) ({ cls := "LetterPost$Place", name := "of", desc := "([LLetterPost$Value;)LLetterPost$Value;" } : Jvm.MethodName)) ∈ lw_all := lw_g (lw_at lw_m8 83 rfl) rfl
theorem q1906 : (Jvm.Cond.classLink "LetterPost$Place" (34 : Nat) "LetterPost$Letter") ∈ lw_all := lw_g (lw_at lw_m8 84 rfl) rfl
theorem in_X17 : ∀ w ∈ wsX170, w ∈ lw_all := lw_in wsX170 [1152, 1154, 1156, 1158, 1160, 1162] (by decide +kernel) (by decide +kernel)

/-! LetterPost$Maker -/
set_option maxRecDepth 100000
def RX18 : String := "LetterPost$Maker"
def TX18 : u_T := fun k => match k with
  | 0 => ("LetterPost$Maker", "known", "LLetterPost$Known;", true)
  | 1 => ("LetterPost$Maker", "way", "I", true)
  | 2 => ("LetterPost$Maker", "nodes", "I", false)
  | 3 => ("LetterPost$Maker", "asked", "[LLetterPost$Place;", true)
  | 4 => ("LetterPost$Maker", "textRow", "[J", true)
  | 5 => ("LetterPost$Maker", "borderRow", "[I", true)
  | _ => ("LetterPost$Maker", "this$0", "LLetterPost;", true)
def tyX18 : Nat → FieldType := fun k => match k with
  | 0 => .object "LetterPost$Known"
  | 1 => .int
  | 2 => .int
  | 3 => .array (.object "LetterPost$Place")
  | 4 => .array .long
  | 5 => .array .int
  | _ => .object "LetterPost"
abbrev wsX180 : List Cond := u_ws RX18 TX18 7
theorem nmX18 : ∀ a, a < 7 → ∀ b, b < 7 → a ≠ b → (TX18 a).2.1 ≠ (TX18 b).2.1 := by decide +kernel
theorem tyX18_ok : ∀ k, k < 7 → parseFieldDescriptor (TX18 k).2.2.1 = some (tyX18 k) := by decide +kernel
abbrev cX18_init : ByteArray := prog_13_method_1_code
def yX18_init : MethodName := ⟨RX18, "<init>", "(LLetterPost;LLetterPost$Function;I)V"⟩
def dkwX18_init_2 : List UInt8 := [44, 180, 0, 25, 189, 0, 41, 181, 0, 43, 177]
abbrev dktX18_init_2 : List UInt8 := dkwX18_init_2 ++ []
def dkwX18_init_1 : List UInt8 := [181, 0, 19, 42, 187, 0, 23, 89, 44, 180, 0, 25, 183, 0, 31, 181, 0, 34, 42, 29, 181, 0, 38, 42]
abbrev dktX18_init_1 : List UInt8 := dkwX18_init_1 ++ dktX18_init_2
def dkwX18_init_0 : List UInt8 := [42, 43, 181, 0, 3, 42, 183, 0, 9, 42, 16, 41, 188, 11, 181, 0, 15, 42, 16, 81, 188, 10]
abbrev dktX18_init_0 : List UInt8 := dkwX18_init_0 ++ dktX18_init_1
theorem dksX18_init_0 : cX18_init.data.toList.drop 0 = dktX18_init_0 := by decide +kernel
theorem dksX18_init_1 : cX18_init.data.toList.drop 22 = dktX18_init_1 := dk_seg dksX18_init_0 22 rfl rfl
theorem dksX18_init_2 : cX18_init.data.toList.drop 46 = dktX18_init_2 := dk_seg dksX18_init_1 24 rfl rfl
theorem dX18_init_0 : decode cX18_init 0 = .ok (.aload_n 0, 1) := dk_42 (dk_at dksX18_init_0 0 rfl rfl)
theorem dX18_init_1 : decode cX18_init 1 = .ok (.aload_n 1, 1) := dk_43 (dk_at dksX18_init_0 1 rfl rfl)
theorem dX18_init_2 : decode cX18_init 2 = .ok (.putfield 3, 3) := dk_181 0 3 (dk_at dksX18_init_0 2 rfl rfl)
theorem dX18_init_5 : decode cX18_init 5 = .ok (.aload_n 0, 1) := dk_42 (dk_at dksX18_init_0 5 rfl rfl)
theorem dX18_init_6 : decode cX18_init 6 = .ok (.invokespecial 9, 3) := dk_183 0 9 (dk_at dksX18_init_0 6 rfl rfl)
theorem dX18_init_9 : decode cX18_init 9 = .ok (.aload_n 0, 1) := dk_42 (dk_at dksX18_init_0 9 rfl rfl)
theorem dX18_init_10 : decode cX18_init 10 = .ok (.bipush 41, 2) := dk_16 41 (dk_at dksX18_init_0 10 rfl rfl)
theorem dX18_init_12 : decode cX18_init 12 = .ok (.newarray .long, 2) := dk_188_11 (dk_at dksX18_init_0 12 rfl rfl)
theorem dX18_init_14 : decode cX18_init 14 = .ok (.putfield 15, 3) := dk_181 0 15 (dk_at dksX18_init_0 14 rfl rfl)
theorem dX18_init_17 : decode cX18_init 17 = .ok (.aload_n 0, 1) := dk_42 (dk_at dksX18_init_0 17 rfl rfl)
theorem dX18_init_18 : decode cX18_init 18 = .ok (.bipush 81, 2) := dk_16 81 (dk_at dksX18_init_0 18 rfl rfl)
theorem dX18_init_20 : decode cX18_init 20 = .ok (.newarray .int, 2) := dk_188_10 (dk_at dksX18_init_0 20 rfl rfl)
theorem dX18_init_22 : decode cX18_init 22 = .ok (.putfield 19, 3) := dk_181 0 19 (dk_at dksX18_init_1 0 rfl rfl)
theorem dX18_init_25 : decode cX18_init 25 = .ok (.aload_n 0, 1) := dk_42 (dk_at dksX18_init_1 3 rfl rfl)
theorem dX18_init_26 : decode cX18_init 26 = .ok (.new 23, 3) := dk_187 0 23 (dk_at dksX18_init_1 4 rfl rfl)
theorem dX18_init_29 : decode cX18_init 29 = .ok (.dup, 1) := dk_89 (dk_at dksX18_init_1 7 rfl rfl)
theorem dX18_init_30 : decode cX18_init 30 = .ok (.aload_n 2, 1) := dk_44 (dk_at dksX18_init_1 8 rfl rfl)
theorem dX18_init_31 : decode cX18_init 31 = .ok (.getfield 25, 3) := dk_180 0 25 (dk_at dksX18_init_1 9 rfl rfl)
theorem dX18_init_34 : decode cX18_init 34 = .ok (.invokespecial 31, 3) := dk_183 0 31 (dk_at dksX18_init_1 12 rfl rfl)
theorem dX18_init_37 : decode cX18_init 37 = .ok (.putfield 34, 3) := dk_181 0 34 (dk_at dksX18_init_1 15 rfl rfl)
theorem dX18_init_40 : decode cX18_init 40 = .ok (.aload_n 0, 1) := dk_42 (dk_at dksX18_init_1 18 rfl rfl)
theorem dX18_init_41 : decode cX18_init 41 = .ok (.iload_n 3, 1) := dk_29 (dk_at dksX18_init_1 19 rfl rfl)
theorem dX18_init_42 : decode cX18_init 42 = .ok (.putfield 38, 3) := dk_181 0 38 (dk_at dksX18_init_1 20 rfl rfl)
theorem dX18_init_45 : decode cX18_init 45 = .ok (.aload_n 0, 1) := dk_42 (dk_at dksX18_init_1 23 rfl rfl)
theorem dX18_init_46 : decode cX18_init 46 = .ok (.aload_n 2, 1) := dk_44 (dk_at dksX18_init_2 0 rfl rfl)
theorem dX18_init_47 : decode cX18_init 47 = .ok (.getfield 25, 3) := dk_180 0 25 (dk_at dksX18_init_2 1 rfl rfl)
theorem dX18_init_50 : decode cX18_init 50 = .ok (.anewarray 41, 3) := dk_189 0 41 (dk_at dksX18_init_2 4 rfl rfl)
theorem dX18_init_53 : decode cX18_init 53 = .ok (.putfield 43, 3) := dk_181 0 43 (dk_at dksX18_init_2 7 rfl rfl)
theorem dX18_init_56 : decode cX18_init 56 = .ok (.return_, 1) := dk_177 (dk_at dksX18_init_2 10 rfl rfl)
abbrev cX18_make : ByteArray := prog_13_method_2_code
def yX18_make : MethodName := ⟨RX18, "make", "([LLetterPost$Row;I)LLetterPost$Node;"⟩
def dkwX18_make_9 : List UInt8 := [25, 7, 45, 21, 4, 182, 0, 86, 176]
abbrev dktX18_make_9 : List UInt8 := dkwX18_make_9 ++ []
def dkwX18_make_8 : List UInt8 := [180, 0, 73, 5, 160, 0, 17, 42, 21, 5, 25, 7, 45, 21, 4, 182, 0, 83, 167, 0, 14, 42, 21, 5]
abbrev dktX18_make_8 : List UInt8 := dkwX18_make_8 ++ dktX18_make_9
def dkwX18_make_7 : List UInt8 := [180, 0, 73, 4, 160, 0, 17, 42, 21, 5, 25, 7, 45, 21, 4, 182, 0, 80, 167, 0, 37, 25, 7]
abbrev dktX18_make_7 : List UInt8 := dkwX18_make_7 ++ dktX18_make_8
def dkwX18_make_6 : List UInt8 := [25, 7, 180, 0, 73, 6, 161, 0, 15, 42, 21, 5, 25, 7, 45, 21, 4, 182, 0, 76, 176, 25, 7]
abbrev dktX18_make_6 : List UInt8 := dkwX18_make_6 ++ dktX18_make_7
def dkwX18_make_5 : List UInt8 := [154, 0, 13, 42, 21, 5, 45, 21, 4, 182, 0, 65, 176, 42, 45, 21, 4, 21, 6, 182, 0, 69, 58, 7]
abbrev dktX18_make_5 : List UInt8 := dkwX18_make_5 ++ dktX18_make_6
def dkwX18_make_4 : List UInt8 := [183, 0, 61, 176, 45, 3, 50, 42, 180, 0, 34, 42, 180, 0, 43, 182, 0, 62, 54, 6, 21, 6]
abbrev dktX18_make_4 : List UInt8 := dkwX18_make_4 ++ dktX18_make_5
def dkwX18_make_3 : List UInt8 := [54, 5, 42, 89, 180, 0, 53, 4, 96, 181, 0, 53, 21, 4, 154, 0, 13, 187, 0, 59, 89, 21, 5]
abbrev dktX18_make_3 : List UInt8 := dkwX18_make_3 ++ dktX18_make_4
def dkwX18_make_2 : List UInt8 := [167, 255, 222, 42, 180, 0, 53, 16, 120, 160, 0, 11, 187, 0, 56, 89, 183, 0, 58, 191, 42, 180, 0, 53]
abbrev dktX18_make_2 : List UInt8 := dkwX18_make_2 ++ dktX18_make_3
def dkwX18_make_1 : List UInt8 := [180, 0, 34, 182, 0, 49, 154, 0, 14, 45, 21, 4, 43, 21, 5, 50, 83, 132, 4, 1, 132, 5, 1]
abbrev dktX18_make_1 : List UInt8 := dkwX18_make_1 ++ dktX18_make_2
def dkwX18_make_0 : List UInt8 := [28, 189, 0, 47, 78, 3, 54, 4, 3, 54, 5, 21, 5, 28, 162, 0, 34, 43, 21, 5, 50, 42]
abbrev dktX18_make_0 : List UInt8 := dkwX18_make_0 ++ dktX18_make_1
theorem dksX18_make_0 : cX18_make.data.toList.drop 0 = dktX18_make_0 := by decide +kernel
theorem dksX18_make_1 : cX18_make.data.toList.drop 22 = dktX18_make_1 := dk_seg dksX18_make_0 22 rfl rfl
theorem dksX18_make_2 : cX18_make.data.toList.drop 45 = dktX18_make_2 := dk_seg dksX18_make_1 23 rfl rfl
theorem dksX18_make_3 : cX18_make.data.toList.drop 69 = dktX18_make_3 := dk_seg dksX18_make_2 24 rfl rfl
theorem dksX18_make_4 : cX18_make.data.toList.drop 92 = dktX18_make_4 := dk_seg dksX18_make_3 23 rfl rfl
theorem dksX18_make_5 : cX18_make.data.toList.drop 114 = dktX18_make_5 := dk_seg dksX18_make_4 22 rfl rfl
theorem dksX18_make_6 : cX18_make.data.toList.drop 138 = dktX18_make_6 := dk_seg dksX18_make_5 24 rfl rfl
theorem dksX18_make_7 : cX18_make.data.toList.drop 161 = dktX18_make_7 := dk_seg dksX18_make_6 23 rfl rfl
theorem dksX18_make_8 : cX18_make.data.toList.drop 184 = dktX18_make_8 := dk_seg dksX18_make_7 23 rfl rfl
theorem dksX18_make_9 : cX18_make.data.toList.drop 208 = dktX18_make_9 := dk_seg dksX18_make_8 24 rfl rfl
theorem dX18_make_0 : decode cX18_make 0 = .ok (.iload_n 2, 1) := dk_28 (dk_at dksX18_make_0 0 rfl rfl)
theorem dX18_make_1 : decode cX18_make 1 = .ok (.anewarray 47, 3) := dk_189 0 47 (dk_at dksX18_make_0 1 rfl rfl)
theorem dX18_make_4 : decode cX18_make 4 = .ok (.astore_n 3, 1) := dk_78 (dk_at dksX18_make_0 4 rfl rfl)
theorem dX18_make_5 : decode cX18_make 5 = .ok (.iconst 0, 1) := dk_3 (dk_at dksX18_make_0 5 rfl rfl)
theorem dX18_make_6 : decode cX18_make 6 = .ok (.istore 4, 2) := dk_54 4 (dk_at dksX18_make_0 6 rfl rfl)
theorem dX18_make_8 : decode cX18_make 8 = .ok (.iconst 0, 1) := dk_3 (dk_at dksX18_make_0 8 rfl rfl)
theorem dX18_make_9 : decode cX18_make 9 = .ok (.istore 5, 2) := dk_54 5 (dk_at dksX18_make_0 9 rfl rfl)
theorem dX18_make_11 : decode cX18_make 11 = .ok (.iload 5, 2) := dk_21 5 (dk_at dksX18_make_0 11 rfl rfl)
theorem dX18_make_13 : decode cX18_make 13 = .ok (.iload_n 2, 1) := dk_28 (dk_at dksX18_make_0 13 rfl rfl)
theorem dX18_make_14 : decode cX18_make 14 = .ok (.if_icmp .ge 34, 3) := dk_162 0 34 (dk_at dksX18_make_0 14 rfl rfl)
theorem dX18_make_17 : decode cX18_make 17 = .ok (.aload_n 1, 1) := dk_43 (dk_at dksX18_make_0 17 rfl rfl)
theorem dX18_make_18 : decode cX18_make 18 = .ok (.iload 5, 2) := dk_21 5 (dk_at dksX18_make_0 18 rfl rfl)
theorem dX18_make_20 : decode cX18_make 20 = .ok (.aaload, 1) := dk_50 (dk_at dksX18_make_0 20 rfl rfl)
theorem dX18_make_21 : decode cX18_make 21 = .ok (.aload_n 0, 1) := dk_42 (dk_at dksX18_make_0 21 rfl rfl)
theorem dX18_make_22 : decode cX18_make 22 = .ok (.getfield 34, 3) := dk_180 0 34 (dk_at dksX18_make_1 0 rfl rfl)
theorem dX18_make_25 : decode cX18_make 25 = .ok (.invokevirtual 49, 3) := dk_182 0 49 (dk_at dksX18_make_1 3 rfl rfl)
theorem dX18_make_28 : decode cX18_make 28 = .ok (.ifCond .ne 14, 3) := dk_154 0 14 (dk_at dksX18_make_1 6 rfl rfl)
theorem dX18_make_31 : decode cX18_make 31 = .ok (.aload_n 3, 1) := dk_45 (dk_at dksX18_make_1 9 rfl rfl)
theorem dX18_make_32 : decode cX18_make 32 = .ok (.iload 4, 2) := dk_21 4 (dk_at dksX18_make_1 10 rfl rfl)
theorem dX18_make_34 : decode cX18_make 34 = .ok (.aload_n 1, 1) := dk_43 (dk_at dksX18_make_1 12 rfl rfl)
theorem dX18_make_35 : decode cX18_make 35 = .ok (.iload 5, 2) := dk_21 5 (dk_at dksX18_make_1 13 rfl rfl)
theorem dX18_make_37 : decode cX18_make 37 = .ok (.aaload, 1) := dk_50 (dk_at dksX18_make_1 15 rfl rfl)
theorem dX18_make_38 : decode cX18_make 38 = .ok (.aastore, 1) := dk_83 (dk_at dksX18_make_1 16 rfl rfl)
theorem dX18_make_39 : decode cX18_make 39 = .ok (.iinc 4 1, 3) := dk_132 4 1 (dk_at dksX18_make_1 17 rfl rfl)
theorem dX18_make_42 : decode cX18_make 42 = .ok (.iinc 5 1, 3) := dk_132 5 1 (dk_at dksX18_make_1 20 rfl rfl)
theorem dX18_make_45 : decode cX18_make 45 = .ok (.goto (-34), 3) := dk_167 255 222 (dk_at dksX18_make_2 0 rfl rfl)
theorem dX18_make_48 : decode cX18_make 48 = .ok (.aload_n 0, 1) := dk_42 (dk_at dksX18_make_2 3 rfl rfl)
theorem dX18_make_49 : decode cX18_make 49 = .ok (.getfield 53, 3) := dk_180 0 53 (dk_at dksX18_make_2 4 rfl rfl)
theorem dX18_make_52 : decode cX18_make 52 = .ok (.bipush 120, 2) := dk_16 120 (dk_at dksX18_make_2 7 rfl rfl)
theorem dX18_make_54 : decode cX18_make 54 = .ok (.if_icmp .ne 11, 3) := dk_160 0 11 (dk_at dksX18_make_2 9 rfl rfl)
theorem dX18_make_57 : decode cX18_make 57 = .ok (.new 56, 3) := dk_187 0 56 (dk_at dksX18_make_2 12 rfl rfl)
theorem dX18_make_60 : decode cX18_make 60 = .ok (.dup, 1) := dk_89 (dk_at dksX18_make_2 15 rfl rfl)
theorem dX18_make_61 : decode cX18_make 61 = .ok (.invokespecial 58, 3) := dk_183 0 58 (dk_at dksX18_make_2 16 rfl rfl)
theorem dX18_make_64 : decode cX18_make 64 = .ok (.athrow, 1) := dk_191 (dk_at dksX18_make_2 19 rfl rfl)
theorem dX18_make_65 : decode cX18_make 65 = .ok (.aload_n 0, 1) := dk_42 (dk_at dksX18_make_2 20 rfl rfl)
theorem dX18_make_66 : decode cX18_make 66 = .ok (.getfield 53, 3) := dk_180 0 53 (dk_at dksX18_make_2 21 rfl rfl)
theorem dX18_make_69 : decode cX18_make 69 = .ok (.istore 5, 2) := dk_54 5 (dk_at dksX18_make_3 0 rfl rfl)
theorem dX18_make_71 : decode cX18_make 71 = .ok (.aload_n 0, 1) := dk_42 (dk_at dksX18_make_3 2 rfl rfl)
theorem dX18_make_72 : decode cX18_make 72 = .ok (.dup, 1) := dk_89 (dk_at dksX18_make_3 3 rfl rfl)
theorem dX18_make_73 : decode cX18_make 73 = .ok (.getfield 53, 3) := dk_180 0 53 (dk_at dksX18_make_3 4 rfl rfl)
theorem dX18_make_76 : decode cX18_make 76 = .ok (.iconst 1, 1) := dk_4 (dk_at dksX18_make_3 7 rfl rfl)
theorem dX18_make_77 : decode cX18_make 77 = .ok (.iadd, 1) := dk_96 (dk_at dksX18_make_3 8 rfl rfl)
theorem dX18_make_78 : decode cX18_make 78 = .ok (.putfield 53, 3) := dk_181 0 53 (dk_at dksX18_make_3 9 rfl rfl)
theorem dX18_make_81 : decode cX18_make 81 = .ok (.iload 4, 2) := dk_21 4 (dk_at dksX18_make_3 12 rfl rfl)
theorem dX18_make_83 : decode cX18_make 83 = .ok (.ifCond .ne 13, 3) := dk_154 0 13 (dk_at dksX18_make_3 14 rfl rfl)
theorem dX18_make_86 : decode cX18_make 86 = .ok (.new 59, 3) := dk_187 0 59 (dk_at dksX18_make_3 17 rfl rfl)
theorem dX18_make_89 : decode cX18_make 89 = .ok (.dup, 1) := dk_89 (dk_at dksX18_make_3 20 rfl rfl)
theorem dX18_make_90 : decode cX18_make 90 = .ok (.iload 5, 2) := dk_21 5 (dk_at dksX18_make_3 21 rfl rfl)
theorem dX18_make_92 : decode cX18_make 92 = .ok (.invokespecial 61, 3) := dk_183 0 61 (dk_at dksX18_make_4 0 rfl rfl)
theorem dX18_make_95 : decode cX18_make 95 = .ok (.areturn, 1) := dk_176 (dk_at dksX18_make_4 3 rfl rfl)
theorem dX18_make_96 : decode cX18_make 96 = .ok (.aload_n 3, 1) := dk_45 (dk_at dksX18_make_4 4 rfl rfl)
theorem dX18_make_97 : decode cX18_make 97 = .ok (.iconst 0, 1) := dk_3 (dk_at dksX18_make_4 5 rfl rfl)
theorem dX18_make_98 : decode cX18_make 98 = .ok (.aaload, 1) := dk_50 (dk_at dksX18_make_4 6 rfl rfl)
theorem dX18_make_99 : decode cX18_make 99 = .ok (.aload_n 0, 1) := dk_42 (dk_at dksX18_make_4 7 rfl rfl)
theorem dX18_make_100 : decode cX18_make 100 = .ok (.getfield 34, 3) := dk_180 0 34 (dk_at dksX18_make_4 8 rfl rfl)
theorem dX18_make_103 : decode cX18_make 103 = .ok (.aload_n 0, 1) := dk_42 (dk_at dksX18_make_4 11 rfl rfl)
theorem dX18_make_104 : decode cX18_make 104 = .ok (.getfield 43, 3) := dk_180 0 43 (dk_at dksX18_make_4 12 rfl rfl)
theorem dX18_make_107 : decode cX18_make 107 = .ok (.invokevirtual 62, 3) := dk_182 0 62 (dk_at dksX18_make_4 15 rfl rfl)
theorem dX18_make_110 : decode cX18_make 110 = .ok (.istore 6, 2) := dk_54 6 (dk_at dksX18_make_4 18 rfl rfl)
theorem dX18_make_112 : decode cX18_make 112 = .ok (.iload 6, 2) := dk_21 6 (dk_at dksX18_make_4 20 rfl rfl)
theorem dX18_make_114 : decode cX18_make 114 = .ok (.ifCond .ne 13, 3) := dk_154 0 13 (dk_at dksX18_make_5 0 rfl rfl)
theorem dX18_make_117 : decode cX18_make 117 = .ok (.aload_n 0, 1) := dk_42 (dk_at dksX18_make_5 3 rfl rfl)
theorem dX18_make_118 : decode cX18_make 118 = .ok (.iload 5, 2) := dk_21 5 (dk_at dksX18_make_5 4 rfl rfl)
theorem dX18_make_120 : decode cX18_make 120 = .ok (.aload_n 3, 1) := dk_45 (dk_at dksX18_make_5 6 rfl rfl)
theorem dX18_make_121 : decode cX18_make 121 = .ok (.iload 4, 2) := dk_21 4 (dk_at dksX18_make_5 7 rfl rfl)
theorem dX18_make_123 : decode cX18_make 123 = .ok (.invokevirtual 65, 3) := dk_182 0 65 (dk_at dksX18_make_5 9 rfl rfl)
theorem dX18_make_126 : decode cX18_make 126 = .ok (.areturn, 1) := dk_176 (dk_at dksX18_make_5 12 rfl rfl)
theorem dX18_make_127 : decode cX18_make 127 = .ok (.aload_n 0, 1) := dk_42 (dk_at dksX18_make_5 13 rfl rfl)
theorem dX18_make_128 : decode cX18_make 128 = .ok (.aload_n 3, 1) := dk_45 (dk_at dksX18_make_5 14 rfl rfl)
theorem dX18_make_129 : decode cX18_make 129 = .ok (.iload 4, 2) := dk_21 4 (dk_at dksX18_make_5 15 rfl rfl)
theorem dX18_make_131 : decode cX18_make 131 = .ok (.iload 6, 2) := dk_21 6 (dk_at dksX18_make_5 17 rfl rfl)
theorem dX18_make_133 : decode cX18_make 133 = .ok (.invokevirtual 69, 3) := dk_182 0 69 (dk_at dksX18_make_5 19 rfl rfl)
theorem dX18_make_136 : decode cX18_make 136 = .ok (.astore 7, 2) := dk_58 7 (dk_at dksX18_make_5 22 rfl rfl)
theorem dX18_make_138 : decode cX18_make 138 = .ok (.aload 7, 2) := dk_25 7 (dk_at dksX18_make_6 0 rfl rfl)
theorem dX18_make_140 : decode cX18_make 140 = .ok (.getfield 73, 3) := dk_180 0 73 (dk_at dksX18_make_6 2 rfl rfl)
theorem dX18_make_143 : decode cX18_make 143 = .ok (.iconst 3, 1) := dk_6 (dk_at dksX18_make_6 5 rfl rfl)
theorem dX18_make_144 : decode cX18_make 144 = .ok (.if_icmp .lt 15, 3) := dk_161 0 15 (dk_at dksX18_make_6 6 rfl rfl)
theorem dX18_make_147 : decode cX18_make 147 = .ok (.aload_n 0, 1) := dk_42 (dk_at dksX18_make_6 9 rfl rfl)
theorem dX18_make_148 : decode cX18_make 148 = .ok (.iload 5, 2) := dk_21 5 (dk_at dksX18_make_6 10 rfl rfl)
theorem dX18_make_150 : decode cX18_make 150 = .ok (.aload 7, 2) := dk_25 7 (dk_at dksX18_make_6 12 rfl rfl)
theorem dX18_make_152 : decode cX18_make 152 = .ok (.aload_n 3, 1) := dk_45 (dk_at dksX18_make_6 14 rfl rfl)
theorem dX18_make_153 : decode cX18_make 153 = .ok (.iload 4, 2) := dk_21 4 (dk_at dksX18_make_6 15 rfl rfl)
theorem dX18_make_155 : decode cX18_make 155 = .ok (.invokevirtual 76, 3) := dk_182 0 76 (dk_at dksX18_make_6 17 rfl rfl)
theorem dX18_make_158 : decode cX18_make 158 = .ok (.areturn, 1) := dk_176 (dk_at dksX18_make_6 20 rfl rfl)
theorem dX18_make_159 : decode cX18_make 159 = .ok (.aload 7, 2) := dk_25 7 (dk_at dksX18_make_6 21 rfl rfl)
theorem dX18_make_161 : decode cX18_make 161 = .ok (.getfield 73, 3) := dk_180 0 73 (dk_at dksX18_make_7 0 rfl rfl)
theorem dX18_make_164 : decode cX18_make 164 = .ok (.iconst 1, 1) := dk_4 (dk_at dksX18_make_7 3 rfl rfl)
theorem dX18_make_165 : decode cX18_make 165 = .ok (.if_icmp .ne 17, 3) := dk_160 0 17 (dk_at dksX18_make_7 4 rfl rfl)
theorem dX18_make_168 : decode cX18_make 168 = .ok (.aload_n 0, 1) := dk_42 (dk_at dksX18_make_7 7 rfl rfl)
theorem dX18_make_169 : decode cX18_make 169 = .ok (.iload 5, 2) := dk_21 5 (dk_at dksX18_make_7 8 rfl rfl)
theorem dX18_make_171 : decode cX18_make 171 = .ok (.aload 7, 2) := dk_25 7 (dk_at dksX18_make_7 10 rfl rfl)
theorem dX18_make_173 : decode cX18_make 173 = .ok (.aload_n 3, 1) := dk_45 (dk_at dksX18_make_7 12 rfl rfl)
theorem dX18_make_174 : decode cX18_make 174 = .ok (.iload 4, 2) := dk_21 4 (dk_at dksX18_make_7 13 rfl rfl)
theorem dX18_make_176 : decode cX18_make 176 = .ok (.invokevirtual 80, 3) := dk_182 0 80 (dk_at dksX18_make_7 15 rfl rfl)
theorem dX18_make_179 : decode cX18_make 179 = .ok (.goto 37, 3) := dk_167 0 37 (dk_at dksX18_make_7 18 rfl rfl)
theorem dX18_make_182 : decode cX18_make 182 = .ok (.aload 7, 2) := dk_25 7 (dk_at dksX18_make_7 21 rfl rfl)
theorem dX18_make_184 : decode cX18_make 184 = .ok (.getfield 73, 3) := dk_180 0 73 (dk_at dksX18_make_8 0 rfl rfl)
theorem dX18_make_187 : decode cX18_make 187 = .ok (.iconst 2, 1) := dk_5 (dk_at dksX18_make_8 3 rfl rfl)
theorem dX18_make_188 : decode cX18_make 188 = .ok (.if_icmp .ne 17, 3) := dk_160 0 17 (dk_at dksX18_make_8 4 rfl rfl)
theorem dX18_make_191 : decode cX18_make 191 = .ok (.aload_n 0, 1) := dk_42 (dk_at dksX18_make_8 7 rfl rfl)
theorem dX18_make_192 : decode cX18_make 192 = .ok (.iload 5, 2) := dk_21 5 (dk_at dksX18_make_8 8 rfl rfl)
theorem dX18_make_194 : decode cX18_make 194 = .ok (.aload 7, 2) := dk_25 7 (dk_at dksX18_make_8 10 rfl rfl)
theorem dX18_make_196 : decode cX18_make 196 = .ok (.aload_n 3, 1) := dk_45 (dk_at dksX18_make_8 12 rfl rfl)
theorem dX18_make_197 : decode cX18_make 197 = .ok (.iload 4, 2) := dk_21 4 (dk_at dksX18_make_8 13 rfl rfl)
theorem dX18_make_199 : decode cX18_make 199 = .ok (.invokevirtual 83, 3) := dk_182 0 83 (dk_at dksX18_make_8 15 rfl rfl)
theorem dX18_make_202 : decode cX18_make 202 = .ok (.goto 14, 3) := dk_167 0 14 (dk_at dksX18_make_8 18 rfl rfl)
theorem dX18_make_205 : decode cX18_make 205 = .ok (.aload_n 0, 1) := dk_42 (dk_at dksX18_make_8 21 rfl rfl)
theorem dX18_make_206 : decode cX18_make 206 = .ok (.iload 5, 2) := dk_21 5 (dk_at dksX18_make_8 22 rfl rfl)
theorem dX18_make_208 : decode cX18_make 208 = .ok (.aload 7, 2) := dk_25 7 (dk_at dksX18_make_9 0 rfl rfl)
theorem dX18_make_210 : decode cX18_make 210 = .ok (.aload_n 3, 1) := dk_45 (dk_at dksX18_make_9 2 rfl rfl)
theorem dX18_make_211 : decode cX18_make 211 = .ok (.iload 4, 2) := dk_21 4 (dk_at dksX18_make_9 3 rfl rfl)
theorem dX18_make_213 : decode cX18_make 213 = .ok (.invokevirtual 86, 3) := dk_182 0 86 (dk_at dksX18_make_9 5 rfl rfl)
theorem dX18_make_216 : decode cX18_make 216 = .ok (.areturn, 1) := dk_176 (dk_at dksX18_make_9 8 rfl rfl)
abbrev cX18_ends : ByteArray := prog_13_method_3_code
def yX18_ends : MethodName := ⟨RX18, "ends", "(I[LLetterPost$Row;I)LLetterPost$Node;"⟩
def dkwX18_ends_4 : List UInt8 := [189, 0, 107, 89, 3, 42, 25, 6, 21, 7, 182, 0, 109, 83, 181, 0, 113, 25, 5, 176]
abbrev dktX18_ends_4 : List UInt8 := dkwX18_ends_4 ++ []
def dkwX18_ends_3 : List UInt8 := [165, 0, 15, 25, 6, 21, 7, 44, 21, 8, 50, 83, 132, 7, 1, 132, 8, 1, 167, 255, 220, 25, 5, 4]
abbrev dktX18_ends_3 : List UInt8 := dkwX18_ends_3 ++ dktX18_ends_4
def dkwX18_ends_2 : List UInt8 := [54, 7, 4, 54, 8, 21, 8, 29, 162, 0, 36, 44, 21, 8, 50, 180, 0, 89, 25, 4, 180, 0, 89]
abbrev dktX18_ends_2 : List UInt8 := dkwX18_ends_2 ++ dktX18_ends_3
def dkwX18_ends_1 : List UInt8 := [183, 0, 101, 176, 187, 0, 104, 89, 27, 25, 4, 183, 0, 106, 58, 5, 29, 189, 0, 47, 58, 6, 3]
abbrev dktX18_ends_1 : List UInt8 := dkwX18_ends_1 ++ dktX18_ends_2
def dkwX18_ends_0 : List UInt8 := [44, 3, 50, 58, 4, 25, 4, 180, 0, 89, 180, 0, 93, 199, 0, 14, 187, 0, 99, 89, 27, 25, 4]
abbrev dktX18_ends_0 : List UInt8 := dkwX18_ends_0 ++ dktX18_ends_1
theorem dksX18_ends_0 : cX18_ends.data.toList.drop 0 = dktX18_ends_0 := by decide +kernel
theorem dksX18_ends_1 : cX18_ends.data.toList.drop 23 = dktX18_ends_1 := dk_seg dksX18_ends_0 23 rfl rfl
theorem dksX18_ends_2 : cX18_ends.data.toList.drop 46 = dktX18_ends_2 := dk_seg dksX18_ends_1 23 rfl rfl
theorem dksX18_ends_3 : cX18_ends.data.toList.drop 69 = dktX18_ends_3 := dk_seg dksX18_ends_2 23 rfl rfl
theorem dksX18_ends_4 : cX18_ends.data.toList.drop 93 = dktX18_ends_4 := dk_seg dksX18_ends_3 24 rfl rfl
theorem dX18_ends_0 : decode cX18_ends 0 = .ok (.aload_n 2, 1) := dk_44 (dk_at dksX18_ends_0 0 rfl rfl)
theorem dX18_ends_1 : decode cX18_ends 1 = .ok (.iconst 0, 1) := dk_3 (dk_at dksX18_ends_0 1 rfl rfl)
theorem dX18_ends_2 : decode cX18_ends 2 = .ok (.aaload, 1) := dk_50 (dk_at dksX18_ends_0 2 rfl rfl)
theorem dX18_ends_3 : decode cX18_ends 3 = .ok (.astore 4, 2) := dk_58 4 (dk_at dksX18_ends_0 3 rfl rfl)
theorem dX18_ends_5 : decode cX18_ends 5 = .ok (.aload 4, 2) := dk_25 4 (dk_at dksX18_ends_0 5 rfl rfl)
theorem dX18_ends_7 : decode cX18_ends 7 = .ok (.getfield 89, 3) := dk_180 0 89 (dk_at dksX18_ends_0 7 rfl rfl)
theorem dX18_ends_10 : decode cX18_ends 10 = .ok (.getfield 93, 3) := dk_180 0 93 (dk_at dksX18_ends_0 10 rfl rfl)
theorem dX18_ends_13 : decode cX18_ends 13 = .ok (.ifnonnull 14, 3) := dk_199 0 14 (dk_at dksX18_ends_0 13 rfl rfl)
theorem dX18_ends_16 : decode cX18_ends 16 = .ok (.new 99, 3) := dk_187 0 99 (dk_at dksX18_ends_0 16 rfl rfl)
theorem dX18_ends_19 : decode cX18_ends 19 = .ok (.dup, 1) := dk_89 (dk_at dksX18_ends_0 19 rfl rfl)
theorem dX18_ends_20 : decode cX18_ends 20 = .ok (.iload_n 1, 1) := dk_27 (dk_at dksX18_ends_0 20 rfl rfl)
theorem dX18_ends_21 : decode cX18_ends 21 = .ok (.aload 4, 2) := dk_25 4 (dk_at dksX18_ends_0 21 rfl rfl)
theorem dX18_ends_23 : decode cX18_ends 23 = .ok (.invokespecial 101, 3) := dk_183 0 101 (dk_at dksX18_ends_1 0 rfl rfl)
theorem dX18_ends_26 : decode cX18_ends 26 = .ok (.areturn, 1) := dk_176 (dk_at dksX18_ends_1 3 rfl rfl)
theorem dX18_ends_27 : decode cX18_ends 27 = .ok (.new 104, 3) := dk_187 0 104 (dk_at dksX18_ends_1 4 rfl rfl)
theorem dX18_ends_30 : decode cX18_ends 30 = .ok (.dup, 1) := dk_89 (dk_at dksX18_ends_1 7 rfl rfl)
theorem dX18_ends_31 : decode cX18_ends 31 = .ok (.iload_n 1, 1) := dk_27 (dk_at dksX18_ends_1 8 rfl rfl)
theorem dX18_ends_32 : decode cX18_ends 32 = .ok (.aload 4, 2) := dk_25 4 (dk_at dksX18_ends_1 9 rfl rfl)
theorem dX18_ends_34 : decode cX18_ends 34 = .ok (.invokespecial 106, 3) := dk_183 0 106 (dk_at dksX18_ends_1 11 rfl rfl)
theorem dX18_ends_37 : decode cX18_ends 37 = .ok (.astore 5, 2) := dk_58 5 (dk_at dksX18_ends_1 14 rfl rfl)
theorem dX18_ends_39 : decode cX18_ends 39 = .ok (.iload_n 3, 1) := dk_29 (dk_at dksX18_ends_1 16 rfl rfl)
theorem dX18_ends_40 : decode cX18_ends 40 = .ok (.anewarray 47, 3) := dk_189 0 47 (dk_at dksX18_ends_1 17 rfl rfl)
theorem dX18_ends_43 : decode cX18_ends 43 = .ok (.astore 6, 2) := dk_58 6 (dk_at dksX18_ends_1 20 rfl rfl)
theorem dX18_ends_45 : decode cX18_ends 45 = .ok (.iconst 0, 1) := dk_3 (dk_at dksX18_ends_1 22 rfl rfl)
theorem dX18_ends_46 : decode cX18_ends 46 = .ok (.istore 7, 2) := dk_54 7 (dk_at dksX18_ends_2 0 rfl rfl)
theorem dX18_ends_48 : decode cX18_ends 48 = .ok (.iconst 1, 1) := dk_4 (dk_at dksX18_ends_2 2 rfl rfl)
theorem dX18_ends_49 : decode cX18_ends 49 = .ok (.istore 8, 2) := dk_54 8 (dk_at dksX18_ends_2 3 rfl rfl)
theorem dX18_ends_51 : decode cX18_ends 51 = .ok (.iload 8, 2) := dk_21 8 (dk_at dksX18_ends_2 5 rfl rfl)
theorem dX18_ends_53 : decode cX18_ends 53 = .ok (.iload_n 3, 1) := dk_29 (dk_at dksX18_ends_2 7 rfl rfl)
theorem dX18_ends_54 : decode cX18_ends 54 = .ok (.if_icmp .ge 36, 3) := dk_162 0 36 (dk_at dksX18_ends_2 8 rfl rfl)
theorem dX18_ends_57 : decode cX18_ends 57 = .ok (.aload_n 2, 1) := dk_44 (dk_at dksX18_ends_2 11 rfl rfl)
theorem dX18_ends_58 : decode cX18_ends 58 = .ok (.iload 8, 2) := dk_21 8 (dk_at dksX18_ends_2 12 rfl rfl)
theorem dX18_ends_60 : decode cX18_ends 60 = .ok (.aaload, 1) := dk_50 (dk_at dksX18_ends_2 14 rfl rfl)
theorem dX18_ends_61 : decode cX18_ends 61 = .ok (.getfield 89, 3) := dk_180 0 89 (dk_at dksX18_ends_2 15 rfl rfl)
theorem dX18_ends_64 : decode cX18_ends 64 = .ok (.aload 4, 2) := dk_25 4 (dk_at dksX18_ends_2 18 rfl rfl)
theorem dX18_ends_66 : decode cX18_ends 66 = .ok (.getfield 89, 3) := dk_180 0 89 (dk_at dksX18_ends_2 20 rfl rfl)
theorem dX18_ends_69 : decode cX18_ends 69 = .ok (.if_acmp .eq 15, 3) := dk_165 0 15 (dk_at dksX18_ends_3 0 rfl rfl)
theorem dX18_ends_72 : decode cX18_ends 72 = .ok (.aload 6, 2) := dk_25 6 (dk_at dksX18_ends_3 3 rfl rfl)
theorem dX18_ends_74 : decode cX18_ends 74 = .ok (.iload 7, 2) := dk_21 7 (dk_at dksX18_ends_3 5 rfl rfl)
theorem dX18_ends_76 : decode cX18_ends 76 = .ok (.aload_n 2, 1) := dk_44 (dk_at dksX18_ends_3 7 rfl rfl)
theorem dX18_ends_77 : decode cX18_ends 77 = .ok (.iload 8, 2) := dk_21 8 (dk_at dksX18_ends_3 8 rfl rfl)
theorem dX18_ends_79 : decode cX18_ends 79 = .ok (.aaload, 1) := dk_50 (dk_at dksX18_ends_3 10 rfl rfl)
theorem dX18_ends_80 : decode cX18_ends 80 = .ok (.aastore, 1) := dk_83 (dk_at dksX18_ends_3 11 rfl rfl)
theorem dX18_ends_81 : decode cX18_ends 81 = .ok (.iinc 7 1, 3) := dk_132 7 1 (dk_at dksX18_ends_3 12 rfl rfl)
theorem dX18_ends_84 : decode cX18_ends 84 = .ok (.iinc 8 1, 3) := dk_132 8 1 (dk_at dksX18_ends_3 15 rfl rfl)
theorem dX18_ends_87 : decode cX18_ends 87 = .ok (.goto (-36), 3) := dk_167 255 220 (dk_at dksX18_ends_3 18 rfl rfl)
theorem dX18_ends_90 : decode cX18_ends 90 = .ok (.aload 5, 2) := dk_25 5 (dk_at dksX18_ends_3 21 rfl rfl)
theorem dX18_ends_92 : decode cX18_ends 92 = .ok (.iconst 1, 1) := dk_4 (dk_at dksX18_ends_3 23 rfl rfl)
theorem dX18_ends_93 : decode cX18_ends 93 = .ok (.anewarray 107, 3) := dk_189 0 107 (dk_at dksX18_ends_4 0 rfl rfl)
theorem dX18_ends_96 : decode cX18_ends 96 = .ok (.dup, 1) := dk_89 (dk_at dksX18_ends_4 3 rfl rfl)
theorem dX18_ends_97 : decode cX18_ends 97 = .ok (.iconst 0, 1) := dk_3 (dk_at dksX18_ends_4 4 rfl rfl)
theorem dX18_ends_98 : decode cX18_ends 98 = .ok (.aload_n 0, 1) := dk_42 (dk_at dksX18_ends_4 5 rfl rfl)
theorem dX18_ends_99 : decode cX18_ends 99 = .ok (.aload 6, 2) := dk_25 6 (dk_at dksX18_ends_4 6 rfl rfl)
theorem dX18_ends_101 : decode cX18_ends 101 = .ok (.iload 7, 2) := dk_21 7 (dk_at dksX18_ends_4 8 rfl rfl)
theorem dX18_ends_103 : decode cX18_ends 103 = .ok (.invokevirtual 109, 3) := dk_182 0 109 (dk_at dksX18_ends_4 10 rfl rfl)
theorem dX18_ends_106 : decode cX18_ends 106 = .ok (.aastore, 1) := dk_83 (dk_at dksX18_ends_4 13 rfl rfl)
theorem dX18_ends_107 : decode cX18_ends 107 = .ok (.putfield 113, 3) := dk_181 0 113 (dk_at dksX18_ends_4 14 rfl rfl)
theorem dX18_ends_110 : decode cX18_ends 110 = .ok (.aload 5, 2) := dk_25 5 (dk_at dksX18_ends_4 17 rfl rfl)
theorem dX18_ends_112 : decode cX18_ends 112 = .ok (.areturn, 1) := dk_176 (dk_at dksX18_ends_4 19 rfl rfl)
abbrev cX18_chosen : ByteArray := prog_13_method_4_code
def yX18_chosen : MethodName := ⟨RX18, "chosen", "([LLetterPost$Row;II)LLetterPost$Place;"⟩
def dkwX18_chosen_6 : List UInt8 := [21, 4, 50, 176]
abbrev dktX18_chosen_6 : List UInt8 := dkwX18_chosen_6 ++ []
def dkwX18_chosen_5 : List UInt8 := [21, 6, 153, 0, 8, 21, 5, 167, 0, 5, 21, 4, 54, 4, 132, 5, 1, 167, 255, 145, 42, 180, 0, 43]
abbrev dktX18_chosen_5 : List UInt8 := dkwX18_chosen_5 ++ dktX18_chosen_6
def dkwX18_chosen_4 : List UInt8 := [42, 43, 28, 42, 180, 0, 43, 21, 4, 50, 182, 0, 121, 162, 0, 7, 4, 167, 0, 4, 3, 54, 6]
abbrev dktX18_chosen_4 : List UInt8 := dkwX18_chosen_4 ++ dktX18_chosen_5
def dkwX18_chosen_3 : List UInt8 := [164, 0, 7, 4, 167, 0, 41, 3, 167, 0, 37, 42, 43, 28, 42, 180, 0, 43, 21, 5, 50, 182, 0, 121]
abbrev dktX18_chosen_3 : List UInt8 := dkwX18_chosen_3 ++ dktX18_chosen_4
def dkwX18_chosen_2 : List UInt8 := [42, 180, 0, 43, 21, 5, 50, 182, 0, 117, 42, 43, 28, 42, 180, 0, 43, 21, 4, 50, 182, 0, 117]
abbrev dktX18_chosen_2 : List UInt8 := dkwX18_chosen_2 ++ dktX18_chosen_3
def dkwX18_chosen_1 : List UInt8 := [21, 5, 29, 162, 0, 111, 42, 180, 0, 38, 158, 0, 104, 42, 180, 0, 38, 4, 160, 0, 40, 42, 43, 28]
abbrev dktX18_chosen_1 : List UInt8 := dkwX18_chosen_1 ++ dktX18_chosen_2
def dkwX18_chosen_0 : List UInt8 := [42, 180, 0, 38, 6, 160, 0, 12, 42, 180, 0, 43, 29, 4, 100, 50, 176, 3, 54, 4, 4, 54, 5]
abbrev dktX18_chosen_0 : List UInt8 := dkwX18_chosen_0 ++ dktX18_chosen_1
theorem dksX18_chosen_0 : cX18_chosen.data.toList.drop 0 = dktX18_chosen_0 := by decide +kernel
theorem dksX18_chosen_1 : cX18_chosen.data.toList.drop 23 = dktX18_chosen_1 := dk_seg dksX18_chosen_0 23 rfl rfl
theorem dksX18_chosen_2 : cX18_chosen.data.toList.drop 47 = dktX18_chosen_2 := dk_seg dksX18_chosen_1 24 rfl rfl
theorem dksX18_chosen_3 : cX18_chosen.data.toList.drop 70 = dktX18_chosen_3 := dk_seg dksX18_chosen_2 23 rfl rfl
theorem dksX18_chosen_4 : cX18_chosen.data.toList.drop 94 = dktX18_chosen_4 := dk_seg dksX18_chosen_3 24 rfl rfl
theorem dksX18_chosen_5 : cX18_chosen.data.toList.drop 117 = dktX18_chosen_5 := dk_seg dksX18_chosen_4 23 rfl rfl
theorem dksX18_chosen_6 : cX18_chosen.data.toList.drop 141 = dktX18_chosen_6 := dk_seg dksX18_chosen_5 24 rfl rfl
theorem dX18_chosen_0 : decode cX18_chosen 0 = .ok (.aload_n 0, 1) := dk_42 (dk_at dksX18_chosen_0 0 rfl rfl)
theorem dX18_chosen_1 : decode cX18_chosen 1 = .ok (.getfield 38, 3) := dk_180 0 38 (dk_at dksX18_chosen_0 1 rfl rfl)
theorem dX18_chosen_4 : decode cX18_chosen 4 = .ok (.iconst 3, 1) := dk_6 (dk_at dksX18_chosen_0 4 rfl rfl)
theorem dX18_chosen_5 : decode cX18_chosen 5 = .ok (.if_icmp .ne 12, 3) := dk_160 0 12 (dk_at dksX18_chosen_0 5 rfl rfl)
theorem dX18_chosen_8 : decode cX18_chosen 8 = .ok (.aload_n 0, 1) := dk_42 (dk_at dksX18_chosen_0 8 rfl rfl)
theorem dX18_chosen_9 : decode cX18_chosen 9 = .ok (.getfield 43, 3) := dk_180 0 43 (dk_at dksX18_chosen_0 9 rfl rfl)
theorem dX18_chosen_12 : decode cX18_chosen 12 = .ok (.iload_n 3, 1) := dk_29 (dk_at dksX18_chosen_0 12 rfl rfl)
theorem dX18_chosen_13 : decode cX18_chosen 13 = .ok (.iconst 1, 1) := dk_4 (dk_at dksX18_chosen_0 13 rfl rfl)
theorem dX18_chosen_14 : decode cX18_chosen 14 = .ok (.isub, 1) := dk_100 (dk_at dksX18_chosen_0 14 rfl rfl)
theorem dX18_chosen_15 : decode cX18_chosen 15 = .ok (.aaload, 1) := dk_50 (dk_at dksX18_chosen_0 15 rfl rfl)
theorem dX18_chosen_16 : decode cX18_chosen 16 = .ok (.areturn, 1) := dk_176 (dk_at dksX18_chosen_0 16 rfl rfl)
theorem dX18_chosen_17 : decode cX18_chosen 17 = .ok (.iconst 0, 1) := dk_3 (dk_at dksX18_chosen_0 17 rfl rfl)
theorem dX18_chosen_18 : decode cX18_chosen 18 = .ok (.istore 4, 2) := dk_54 4 (dk_at dksX18_chosen_0 18 rfl rfl)
theorem dX18_chosen_20 : decode cX18_chosen 20 = .ok (.iconst 1, 1) := dk_4 (dk_at dksX18_chosen_0 20 rfl rfl)
theorem dX18_chosen_21 : decode cX18_chosen 21 = .ok (.istore 5, 2) := dk_54 5 (dk_at dksX18_chosen_0 21 rfl rfl)
theorem dX18_chosen_23 : decode cX18_chosen 23 = .ok (.iload 5, 2) := dk_21 5 (dk_at dksX18_chosen_1 0 rfl rfl)
theorem dX18_chosen_25 : decode cX18_chosen 25 = .ok (.iload_n 3, 1) := dk_29 (dk_at dksX18_chosen_1 2 rfl rfl)
theorem dX18_chosen_26 : decode cX18_chosen 26 = .ok (.if_icmp .ge 111, 3) := dk_162 0 111 (dk_at dksX18_chosen_1 3 rfl rfl)
theorem dX18_chosen_29 : decode cX18_chosen 29 = .ok (.aload_n 0, 1) := dk_42 (dk_at dksX18_chosen_1 6 rfl rfl)
theorem dX18_chosen_30 : decode cX18_chosen 30 = .ok (.getfield 38, 3) := dk_180 0 38 (dk_at dksX18_chosen_1 7 rfl rfl)
theorem dX18_chosen_33 : decode cX18_chosen 33 = .ok (.ifCond .le 104, 3) := dk_158 0 104 (dk_at dksX18_chosen_1 10 rfl rfl)
theorem dX18_chosen_36 : decode cX18_chosen 36 = .ok (.aload_n 0, 1) := dk_42 (dk_at dksX18_chosen_1 13 rfl rfl)
theorem dX18_chosen_37 : decode cX18_chosen 37 = .ok (.getfield 38, 3) := dk_180 0 38 (dk_at dksX18_chosen_1 14 rfl rfl)
theorem dX18_chosen_40 : decode cX18_chosen 40 = .ok (.iconst 1, 1) := dk_4 (dk_at dksX18_chosen_1 17 rfl rfl)
theorem dX18_chosen_41 : decode cX18_chosen 41 = .ok (.if_icmp .ne 40, 3) := dk_160 0 40 (dk_at dksX18_chosen_1 18 rfl rfl)
theorem dX18_chosen_44 : decode cX18_chosen 44 = .ok (.aload_n 0, 1) := dk_42 (dk_at dksX18_chosen_1 21 rfl rfl)
theorem dX18_chosen_45 : decode cX18_chosen 45 = .ok (.aload_n 1, 1) := dk_43 (dk_at dksX18_chosen_1 22 rfl rfl)
theorem dX18_chosen_46 : decode cX18_chosen 46 = .ok (.iload_n 2, 1) := dk_28 (dk_at dksX18_chosen_1 23 rfl rfl)
theorem dX18_chosen_47 : decode cX18_chosen 47 = .ok (.aload_n 0, 1) := dk_42 (dk_at dksX18_chosen_2 0 rfl rfl)
theorem dX18_chosen_48 : decode cX18_chosen 48 = .ok (.getfield 43, 3) := dk_180 0 43 (dk_at dksX18_chosen_2 1 rfl rfl)
theorem dX18_chosen_51 : decode cX18_chosen 51 = .ok (.iload 5, 2) := dk_21 5 (dk_at dksX18_chosen_2 4 rfl rfl)
theorem dX18_chosen_53 : decode cX18_chosen 53 = .ok (.aaload, 1) := dk_50 (dk_at dksX18_chosen_2 6 rfl rfl)
theorem dX18_chosen_54 : decode cX18_chosen 54 = .ok (.invokevirtual 117, 3) := dk_182 0 117 (dk_at dksX18_chosen_2 7 rfl rfl)
theorem dX18_chosen_57 : decode cX18_chosen 57 = .ok (.aload_n 0, 1) := dk_42 (dk_at dksX18_chosen_2 10 rfl rfl)
theorem dX18_chosen_58 : decode cX18_chosen 58 = .ok (.aload_n 1, 1) := dk_43 (dk_at dksX18_chosen_2 11 rfl rfl)
theorem dX18_chosen_59 : decode cX18_chosen 59 = .ok (.iload_n 2, 1) := dk_28 (dk_at dksX18_chosen_2 12 rfl rfl)
theorem dX18_chosen_60 : decode cX18_chosen 60 = .ok (.aload_n 0, 1) := dk_42 (dk_at dksX18_chosen_2 13 rfl rfl)
theorem dX18_chosen_61 : decode cX18_chosen 61 = .ok (.getfield 43, 3) := dk_180 0 43 (dk_at dksX18_chosen_2 14 rfl rfl)
theorem dX18_chosen_64 : decode cX18_chosen 64 = .ok (.iload 4, 2) := dk_21 4 (dk_at dksX18_chosen_2 17 rfl rfl)
theorem dX18_chosen_66 : decode cX18_chosen 66 = .ok (.aaload, 1) := dk_50 (dk_at dksX18_chosen_2 19 rfl rfl)
theorem dX18_chosen_67 : decode cX18_chosen 67 = .ok (.invokevirtual 117, 3) := dk_182 0 117 (dk_at dksX18_chosen_2 20 rfl rfl)
theorem dX18_chosen_70 : decode cX18_chosen 70 = .ok (.if_icmp .le 7, 3) := dk_164 0 7 (dk_at dksX18_chosen_3 0 rfl rfl)
theorem dX18_chosen_73 : decode cX18_chosen 73 = .ok (.iconst 1, 1) := dk_4 (dk_at dksX18_chosen_3 3 rfl rfl)
theorem dX18_chosen_74 : decode cX18_chosen 74 = .ok (.goto 41, 3) := dk_167 0 41 (dk_at dksX18_chosen_3 4 rfl rfl)
theorem dX18_chosen_77 : decode cX18_chosen 77 = .ok (.iconst 0, 1) := dk_3 (dk_at dksX18_chosen_3 7 rfl rfl)
theorem dX18_chosen_78 : decode cX18_chosen 78 = .ok (.goto 37, 3) := dk_167 0 37 (dk_at dksX18_chosen_3 8 rfl rfl)
theorem dX18_chosen_81 : decode cX18_chosen 81 = .ok (.aload_n 0, 1) := dk_42 (dk_at dksX18_chosen_3 11 rfl rfl)
theorem dX18_chosen_82 : decode cX18_chosen 82 = .ok (.aload_n 1, 1) := dk_43 (dk_at dksX18_chosen_3 12 rfl rfl)
theorem dX18_chosen_83 : decode cX18_chosen 83 = .ok (.iload_n 2, 1) := dk_28 (dk_at dksX18_chosen_3 13 rfl rfl)
theorem dX18_chosen_84 : decode cX18_chosen 84 = .ok (.aload_n 0, 1) := dk_42 (dk_at dksX18_chosen_3 14 rfl rfl)
theorem dX18_chosen_85 : decode cX18_chosen 85 = .ok (.getfield 43, 3) := dk_180 0 43 (dk_at dksX18_chosen_3 15 rfl rfl)
theorem dX18_chosen_88 : decode cX18_chosen 88 = .ok (.iload 5, 2) := dk_21 5 (dk_at dksX18_chosen_3 18 rfl rfl)
theorem dX18_chosen_90 : decode cX18_chosen 90 = .ok (.aaload, 1) := dk_50 (dk_at dksX18_chosen_3 20 rfl rfl)
theorem dX18_chosen_91 : decode cX18_chosen 91 = .ok (.invokevirtual 121, 3) := dk_182 0 121 (dk_at dksX18_chosen_3 21 rfl rfl)
theorem dX18_chosen_94 : decode cX18_chosen 94 = .ok (.aload_n 0, 1) := dk_42 (dk_at dksX18_chosen_4 0 rfl rfl)
theorem dX18_chosen_95 : decode cX18_chosen 95 = .ok (.aload_n 1, 1) := dk_43 (dk_at dksX18_chosen_4 1 rfl rfl)
theorem dX18_chosen_96 : decode cX18_chosen 96 = .ok (.iload_n 2, 1) := dk_28 (dk_at dksX18_chosen_4 2 rfl rfl)
theorem dX18_chosen_97 : decode cX18_chosen 97 = .ok (.aload_n 0, 1) := dk_42 (dk_at dksX18_chosen_4 3 rfl rfl)
theorem dX18_chosen_98 : decode cX18_chosen 98 = .ok (.getfield 43, 3) := dk_180 0 43 (dk_at dksX18_chosen_4 4 rfl rfl)
theorem dX18_chosen_101 : decode cX18_chosen 101 = .ok (.iload 4, 2) := dk_21 4 (dk_at dksX18_chosen_4 7 rfl rfl)
theorem dX18_chosen_103 : decode cX18_chosen 103 = .ok (.aaload, 1) := dk_50 (dk_at dksX18_chosen_4 9 rfl rfl)
theorem dX18_chosen_104 : decode cX18_chosen 104 = .ok (.invokevirtual 121, 3) := dk_182 0 121 (dk_at dksX18_chosen_4 10 rfl rfl)
theorem dX18_chosen_107 : decode cX18_chosen 107 = .ok (.if_icmp .ge 7, 3) := dk_162 0 7 (dk_at dksX18_chosen_4 13 rfl rfl)
theorem dX18_chosen_110 : decode cX18_chosen 110 = .ok (.iconst 1, 1) := dk_4 (dk_at dksX18_chosen_4 16 rfl rfl)
theorem dX18_chosen_111 : decode cX18_chosen 111 = .ok (.goto 4, 3) := dk_167 0 4 (dk_at dksX18_chosen_4 17 rfl rfl)
theorem dX18_chosen_114 : decode cX18_chosen 114 = .ok (.iconst 0, 1) := dk_3 (dk_at dksX18_chosen_4 20 rfl rfl)
theorem dX18_chosen_115 : decode cX18_chosen 115 = .ok (.istore 6, 2) := dk_54 6 (dk_at dksX18_chosen_4 21 rfl rfl)
theorem dX18_chosen_117 : decode cX18_chosen 117 = .ok (.iload 6, 2) := dk_21 6 (dk_at dksX18_chosen_5 0 rfl rfl)
theorem dX18_chosen_119 : decode cX18_chosen 119 = .ok (.ifCond .eq 8, 3) := dk_153 0 8 (dk_at dksX18_chosen_5 2 rfl rfl)
theorem dX18_chosen_122 : decode cX18_chosen 122 = .ok (.iload 5, 2) := dk_21 5 (dk_at dksX18_chosen_5 5 rfl rfl)
theorem dX18_chosen_124 : decode cX18_chosen 124 = .ok (.goto 5, 3) := dk_167 0 5 (dk_at dksX18_chosen_5 7 rfl rfl)
theorem dX18_chosen_127 : decode cX18_chosen 127 = .ok (.iload 4, 2) := dk_21 4 (dk_at dksX18_chosen_5 10 rfl rfl)
theorem dX18_chosen_129 : decode cX18_chosen 129 = .ok (.istore 4, 2) := dk_54 4 (dk_at dksX18_chosen_5 12 rfl rfl)
theorem dX18_chosen_131 : decode cX18_chosen 131 = .ok (.iinc 5 1, 3) := dk_132 5 1 (dk_at dksX18_chosen_5 14 rfl rfl)
theorem dX18_chosen_134 : decode cX18_chosen 134 = .ok (.goto (-111), 3) := dk_167 255 145 (dk_at dksX18_chosen_5 17 rfl rfl)
theorem dX18_chosen_137 : decode cX18_chosen 137 = .ok (.aload_n 0, 1) := dk_42 (dk_at dksX18_chosen_5 20 rfl rfl)
theorem dX18_chosen_138 : decode cX18_chosen 138 = .ok (.getfield 43, 3) := dk_180 0 43 (dk_at dksX18_chosen_5 21 rfl rfl)
theorem dX18_chosen_141 : decode cX18_chosen 141 = .ok (.iload 4, 2) := dk_21 4 (dk_at dksX18_chosen_6 0 rfl rfl)
theorem dX18_chosen_143 : decode cX18_chosen 143 = .ok (.aaload, 1) := dk_50 (dk_at dksX18_chosen_6 2 rfl rfl)
theorem dX18_chosen_144 : decode cX18_chosen 144 = .ok (.areturn, 1) := dk_176 (dk_at dksX18_chosen_6 3 rfl rfl)
abbrev cX18_wanted : ByteArray := prog_13_method_5_code
def yX18_wanted : MethodName := ⟨RX18, "wanted", "([LLetterPost$Row;ILLetterPost$Place;)I"⟩
def dkwX18_wanted_1 : List UInt8 := [182, 0, 124, 199, 0, 7, 3, 167, 0, 4, 4, 96, 54, 4, 132, 5, 1, 167, 255, 222, 21, 4, 172]
abbrev dktX18_wanted_1 : List UInt8 := dkwX18_wanted_1 ++ []
def dkwX18_wanted_0 : List UInt8 := [3, 54, 4, 3, 54, 5, 21, 5, 28, 162, 0, 34, 21, 4, 43, 21, 5, 50, 42, 180, 0, 34, 45]
abbrev dktX18_wanted_0 : List UInt8 := dkwX18_wanted_0 ++ dktX18_wanted_1
theorem dksX18_wanted_0 : cX18_wanted.data.toList.drop 0 = dktX18_wanted_0 := by decide +kernel
theorem dksX18_wanted_1 : cX18_wanted.data.toList.drop 23 = dktX18_wanted_1 := dk_seg dksX18_wanted_0 23 rfl rfl
theorem dX18_wanted_0 : decode cX18_wanted 0 = .ok (.iconst 0, 1) := dk_3 (dk_at dksX18_wanted_0 0 rfl rfl)
theorem dX18_wanted_1 : decode cX18_wanted 1 = .ok (.istore 4, 2) := dk_54 4 (dk_at dksX18_wanted_0 1 rfl rfl)
theorem dX18_wanted_3 : decode cX18_wanted 3 = .ok (.iconst 0, 1) := dk_3 (dk_at dksX18_wanted_0 3 rfl rfl)
theorem dX18_wanted_4 : decode cX18_wanted 4 = .ok (.istore 5, 2) := dk_54 5 (dk_at dksX18_wanted_0 4 rfl rfl)
theorem dX18_wanted_6 : decode cX18_wanted 6 = .ok (.iload 5, 2) := dk_21 5 (dk_at dksX18_wanted_0 6 rfl rfl)
theorem dX18_wanted_8 : decode cX18_wanted 8 = .ok (.iload_n 2, 1) := dk_28 (dk_at dksX18_wanted_0 8 rfl rfl)
theorem dX18_wanted_9 : decode cX18_wanted 9 = .ok (.if_icmp .ge 34, 3) := dk_162 0 34 (dk_at dksX18_wanted_0 9 rfl rfl)
theorem dX18_wanted_12 : decode cX18_wanted 12 = .ok (.iload 4, 2) := dk_21 4 (dk_at dksX18_wanted_0 12 rfl rfl)
theorem dX18_wanted_14 : decode cX18_wanted 14 = .ok (.aload_n 1, 1) := dk_43 (dk_at dksX18_wanted_0 14 rfl rfl)
theorem dX18_wanted_15 : decode cX18_wanted 15 = .ok (.iload 5, 2) := dk_21 5 (dk_at dksX18_wanted_0 15 rfl rfl)
theorem dX18_wanted_17 : decode cX18_wanted 17 = .ok (.aaload, 1) := dk_50 (dk_at dksX18_wanted_0 17 rfl rfl)
theorem dX18_wanted_18 : decode cX18_wanted 18 = .ok (.aload_n 0, 1) := dk_42 (dk_at dksX18_wanted_0 18 rfl rfl)
theorem dX18_wanted_19 : decode cX18_wanted 19 = .ok (.getfield 34, 3) := dk_180 0 34 (dk_at dksX18_wanted_0 19 rfl rfl)
theorem dX18_wanted_22 : decode cX18_wanted 22 = .ok (.aload_n 3, 1) := dk_45 (dk_at dksX18_wanted_0 22 rfl rfl)
theorem dX18_wanted_23 : decode cX18_wanted 23 = .ok (.invokevirtual 124, 3) := dk_182 0 124 (dk_at dksX18_wanted_1 0 rfl rfl)
theorem dX18_wanted_26 : decode cX18_wanted 26 = .ok (.ifnonnull 7, 3) := dk_199 0 7 (dk_at dksX18_wanted_1 3 rfl rfl)
theorem dX18_wanted_29 : decode cX18_wanted 29 = .ok (.iconst 0, 1) := dk_3 (dk_at dksX18_wanted_1 6 rfl rfl)
theorem dX18_wanted_30 : decode cX18_wanted 30 = .ok (.goto 4, 3) := dk_167 0 4 (dk_at dksX18_wanted_1 7 rfl rfl)
theorem dX18_wanted_33 : decode cX18_wanted 33 = .ok (.iconst 1, 1) := dk_4 (dk_at dksX18_wanted_1 10 rfl rfl)
theorem dX18_wanted_34 : decode cX18_wanted 34 = .ok (.iadd, 1) := dk_96 (dk_at dksX18_wanted_1 11 rfl rfl)
theorem dX18_wanted_35 : decode cX18_wanted 35 = .ok (.istore 4, 2) := dk_54 4 (dk_at dksX18_wanted_1 12 rfl rfl)
theorem dX18_wanted_37 : decode cX18_wanted 37 = .ok (.iinc 5 1, 3) := dk_132 5 1 (dk_at dksX18_wanted_1 14 rfl rfl)
theorem dX18_wanted_40 : decode cX18_wanted 40 = .ok (.goto (-34), 3) := dk_167 255 222 (dk_at dksX18_wanted_1 17 rfl rfl)
theorem dX18_wanted_43 : decode cX18_wanted 43 = .ok (.iload 4, 2) := dk_21 4 (dk_at dksX18_wanted_1 20 rfl rfl)
theorem dX18_wanted_45 : decode cX18_wanted 45 = .ok (.ireturn, 1) := dk_172 (dk_at dksX18_wanted_1 22 rfl rfl)
abbrev cX18_branches : ByteArray := prog_13_method_6_code
def yX18_branches : MethodName := ⟨RX18, "branches", "([LLetterPost$Row;ILLetterPost$Place;)I"⟩
def dkwX18_branches_2 : List UInt8 := [182, 0, 132, 4, 96, 167, 0, 10, 42, 43, 28, 45, 182, 0, 135, 172]
abbrev dktX18_branches_2 : List UInt8 := dkwX18_branches_2 ++ []
def dkwX18_branches_1 : List UInt8 := [180, 0, 73, 4, 160, 0, 7, 5, 167, 0, 30, 45, 180, 0, 73, 5, 160, 0, 15, 42, 43, 28, 45]
abbrev dktX18_branches_1 : List UInt8 := dkwX18_branches_1 ++ dktX18_branches_2
def dkwX18_branches_0 : List UInt8 := [45, 180, 0, 73, 6, 161, 0, 16, 42, 45, 180, 0, 73, 182, 0, 128, 4, 96, 167, 0, 42, 45]
abbrev dktX18_branches_0 : List UInt8 := dkwX18_branches_0 ++ dktX18_branches_1
theorem dksX18_branches_0 : cX18_branches.data.toList.drop 0 = dktX18_branches_0 := by decide +kernel
theorem dksX18_branches_1 : cX18_branches.data.toList.drop 22 = dktX18_branches_1 := dk_seg dksX18_branches_0 22 rfl rfl
theorem dksX18_branches_2 : cX18_branches.data.toList.drop 45 = dktX18_branches_2 := dk_seg dksX18_branches_1 23 rfl rfl
theorem dX18_branches_0 : decode cX18_branches 0 = .ok (.aload_n 3, 1) := dk_45 (dk_at dksX18_branches_0 0 rfl rfl)
theorem dX18_branches_1 : decode cX18_branches 1 = .ok (.getfield 73, 3) := dk_180 0 73 (dk_at dksX18_branches_0 1 rfl rfl)
theorem dX18_branches_4 : decode cX18_branches 4 = .ok (.iconst 3, 1) := dk_6 (dk_at dksX18_branches_0 4 rfl rfl)
theorem dX18_branches_5 : decode cX18_branches 5 = .ok (.if_icmp .lt 16, 3) := dk_161 0 16 (dk_at dksX18_branches_0 5 rfl rfl)
theorem dX18_branches_8 : decode cX18_branches 8 = .ok (.aload_n 0, 1) := dk_42 (dk_at dksX18_branches_0 8 rfl rfl)
theorem dX18_branches_9 : decode cX18_branches 9 = .ok (.aload_n 3, 1) := dk_45 (dk_at dksX18_branches_0 9 rfl rfl)
theorem dX18_branches_10 : decode cX18_branches 10 = .ok (.getfield 73, 3) := dk_180 0 73 (dk_at dksX18_branches_0 10 rfl rfl)
theorem dX18_branches_13 : decode cX18_branches 13 = .ok (.invokevirtual 128, 3) := dk_182 0 128 (dk_at dksX18_branches_0 13 rfl rfl)
theorem dX18_branches_16 : decode cX18_branches 16 = .ok (.iconst 1, 1) := dk_4 (dk_at dksX18_branches_0 16 rfl rfl)
theorem dX18_branches_17 : decode cX18_branches 17 = .ok (.iadd, 1) := dk_96 (dk_at dksX18_branches_0 17 rfl rfl)
theorem dX18_branches_18 : decode cX18_branches 18 = .ok (.goto 42, 3) := dk_167 0 42 (dk_at dksX18_branches_0 18 rfl rfl)
theorem dX18_branches_21 : decode cX18_branches 21 = .ok (.aload_n 3, 1) := dk_45 (dk_at dksX18_branches_0 21 rfl rfl)
theorem dX18_branches_22 : decode cX18_branches 22 = .ok (.getfield 73, 3) := dk_180 0 73 (dk_at dksX18_branches_1 0 rfl rfl)
theorem dX18_branches_25 : decode cX18_branches 25 = .ok (.iconst 1, 1) := dk_4 (dk_at dksX18_branches_1 3 rfl rfl)
theorem dX18_branches_26 : decode cX18_branches 26 = .ok (.if_icmp .ne 7, 3) := dk_160 0 7 (dk_at dksX18_branches_1 4 rfl rfl)
theorem dX18_branches_29 : decode cX18_branches 29 = .ok (.iconst 2, 1) := dk_5 (dk_at dksX18_branches_1 7 rfl rfl)
theorem dX18_branches_30 : decode cX18_branches 30 = .ok (.goto 30, 3) := dk_167 0 30 (dk_at dksX18_branches_1 8 rfl rfl)
theorem dX18_branches_33 : decode cX18_branches 33 = .ok (.aload_n 3, 1) := dk_45 (dk_at dksX18_branches_1 11 rfl rfl)
theorem dX18_branches_34 : decode cX18_branches 34 = .ok (.getfield 73, 3) := dk_180 0 73 (dk_at dksX18_branches_1 12 rfl rfl)
theorem dX18_branches_37 : decode cX18_branches 37 = .ok (.iconst 2, 1) := dk_5 (dk_at dksX18_branches_1 15 rfl rfl)
theorem dX18_branches_38 : decode cX18_branches 38 = .ok (.if_icmp .ne 15, 3) := dk_160 0 15 (dk_at dksX18_branches_1 16 rfl rfl)
theorem dX18_branches_41 : decode cX18_branches 41 = .ok (.aload_n 0, 1) := dk_42 (dk_at dksX18_branches_1 19 rfl rfl)
theorem dX18_branches_42 : decode cX18_branches 42 = .ok (.aload_n 1, 1) := dk_43 (dk_at dksX18_branches_1 20 rfl rfl)
theorem dX18_branches_43 : decode cX18_branches 43 = .ok (.iload_n 2, 1) := dk_28 (dk_at dksX18_branches_1 21 rfl rfl)
theorem dX18_branches_44 : decode cX18_branches 44 = .ok (.aload_n 3, 1) := dk_45 (dk_at dksX18_branches_1 22 rfl rfl)
theorem dX18_branches_45 : decode cX18_branches 45 = .ok (.invokevirtual 132, 3) := dk_182 0 132 (dk_at dksX18_branches_2 0 rfl rfl)
theorem dX18_branches_48 : decode cX18_branches 48 = .ok (.iconst 1, 1) := dk_4 (dk_at dksX18_branches_2 3 rfl rfl)
theorem dX18_branches_49 : decode cX18_branches 49 = .ok (.iadd, 1) := dk_96 (dk_at dksX18_branches_2 4 rfl rfl)
theorem dX18_branches_50 : decode cX18_branches 50 = .ok (.goto 10, 3) := dk_167 0 10 (dk_at dksX18_branches_2 5 rfl rfl)
theorem dX18_branches_53 : decode cX18_branches 53 = .ok (.aload_n 0, 1) := dk_42 (dk_at dksX18_branches_2 8 rfl rfl)
theorem dX18_branches_54 : decode cX18_branches 54 = .ok (.aload_n 1, 1) := dk_43 (dk_at dksX18_branches_2 9 rfl rfl)
theorem dX18_branches_55 : decode cX18_branches 55 = .ok (.iload_n 2, 1) := dk_28 (dk_at dksX18_branches_2 10 rfl rfl)
theorem dX18_branches_56 : decode cX18_branches 56 = .ok (.aload_n 3, 1) := dk_45 (dk_at dksX18_branches_2 11 rfl rfl)
theorem dX18_branches_57 : decode cX18_branches 57 = .ok (.invokevirtual 135, 3) := dk_182 0 135 (dk_at dksX18_branches_2 12 rfl rfl)
theorem dX18_branches_60 : decode cX18_branches 60 = .ok (.ireturn, 1) := dk_172 (dk_at dksX18_branches_2 15 rfl rfl)
abbrev cX18_leafMany : ByteArray := prog_13_method_7_code
def yX18_leafMany : MethodName := ⟨RX18, "leafMany", "(I)I"⟩
def dkwX18_leafMany_2 : List UInt8 := [182, 0, 155, 153, 0, 7, 4, 167, 0, 4, 3, 96, 61, 132, 3, 1, 167, 255, 196, 28, 172]
abbrev dktX18_leafMany_2 : List UInt8 := dkwX18_leafMany_2 ++ []
def dkwX18_leafMany_1 : List UInt8 := [50, 180, 0, 145, 154, 0, 30, 42, 180, 0, 3, 180, 0, 141, 29, 50, 42, 180, 0, 3, 27, 182, 0, 151]
abbrev dktX18_leafMany_1 : List UInt8 := dkwX18_leafMany_1 ++ dktX18_leafMany_2
def dkwX18_leafMany_0 : List UInt8 := [3, 61, 3, 62, 29, 42, 180, 0, 3, 180, 0, 138, 162, 0, 55, 28, 42, 180, 0, 3, 180, 0, 141, 29]
abbrev dktX18_leafMany_0 : List UInt8 := dkwX18_leafMany_0 ++ dktX18_leafMany_1
theorem dksX18_leafMany_0 : cX18_leafMany.data.toList.drop 0 = dktX18_leafMany_0 := by decide +kernel
theorem dksX18_leafMany_1 : cX18_leafMany.data.toList.drop 24 = dktX18_leafMany_1 := dk_seg dksX18_leafMany_0 24 rfl rfl
theorem dksX18_leafMany_2 : cX18_leafMany.data.toList.drop 48 = dktX18_leafMany_2 := dk_seg dksX18_leafMany_1 24 rfl rfl
theorem dX18_leafMany_0 : decode cX18_leafMany 0 = .ok (.iconst 0, 1) := dk_3 (dk_at dksX18_leafMany_0 0 rfl rfl)
theorem dX18_leafMany_1 : decode cX18_leafMany 1 = .ok (.istore_n 2, 1) := dk_61 (dk_at dksX18_leafMany_0 1 rfl rfl)
theorem dX18_leafMany_2 : decode cX18_leafMany 2 = .ok (.iconst 0, 1) := dk_3 (dk_at dksX18_leafMany_0 2 rfl rfl)
theorem dX18_leafMany_3 : decode cX18_leafMany 3 = .ok (.istore_n 3, 1) := dk_62 (dk_at dksX18_leafMany_0 3 rfl rfl)
theorem dX18_leafMany_4 : decode cX18_leafMany 4 = .ok (.iload_n 3, 1) := dk_29 (dk_at dksX18_leafMany_0 4 rfl rfl)
theorem dX18_leafMany_5 : decode cX18_leafMany 5 = .ok (.aload_n 0, 1) := dk_42 (dk_at dksX18_leafMany_0 5 rfl rfl)
theorem dX18_leafMany_6 : decode cX18_leafMany 6 = .ok (.getfield 3, 3) := dk_180 0 3 (dk_at dksX18_leafMany_0 6 rfl rfl)
theorem dX18_leafMany_9 : decode cX18_leafMany 9 = .ok (.getfield 138, 3) := dk_180 0 138 (dk_at dksX18_leafMany_0 9 rfl rfl)
theorem dX18_leafMany_12 : decode cX18_leafMany 12 = .ok (.if_icmp .ge 55, 3) := dk_162 0 55 (dk_at dksX18_leafMany_0 12 rfl rfl)
theorem dX18_leafMany_15 : decode cX18_leafMany 15 = .ok (.iload_n 2, 1) := dk_28 (dk_at dksX18_leafMany_0 15 rfl rfl)
theorem dX18_leafMany_16 : decode cX18_leafMany 16 = .ok (.aload_n 0, 1) := dk_42 (dk_at dksX18_leafMany_0 16 rfl rfl)
theorem dX18_leafMany_17 : decode cX18_leafMany 17 = .ok (.getfield 3, 3) := dk_180 0 3 (dk_at dksX18_leafMany_0 17 rfl rfl)
theorem dX18_leafMany_20 : decode cX18_leafMany 20 = .ok (.getfield 141, 3) := dk_180 0 141 (dk_at dksX18_leafMany_0 20 rfl rfl)
theorem dX18_leafMany_23 : decode cX18_leafMany 23 = .ok (.iload_n 3, 1) := dk_29 (dk_at dksX18_leafMany_0 23 rfl rfl)
theorem dX18_leafMany_24 : decode cX18_leafMany 24 = .ok (.aaload, 1) := dk_50 (dk_at dksX18_leafMany_1 0 rfl rfl)
theorem dX18_leafMany_25 : decode cX18_leafMany 25 = .ok (.getfield 145, 3) := dk_180 0 145 (dk_at dksX18_leafMany_1 1 rfl rfl)
theorem dX18_leafMany_28 : decode cX18_leafMany 28 = .ok (.ifCond .ne 30, 3) := dk_154 0 30 (dk_at dksX18_leafMany_1 4 rfl rfl)
theorem dX18_leafMany_31 : decode cX18_leafMany 31 = .ok (.aload_n 0, 1) := dk_42 (dk_at dksX18_leafMany_1 7 rfl rfl)
theorem dX18_leafMany_32 : decode cX18_leafMany 32 = .ok (.getfield 3, 3) := dk_180 0 3 (dk_at dksX18_leafMany_1 8 rfl rfl)
theorem dX18_leafMany_35 : decode cX18_leafMany 35 = .ok (.getfield 141, 3) := dk_180 0 141 (dk_at dksX18_leafMany_1 11 rfl rfl)
theorem dX18_leafMany_38 : decode cX18_leafMany 38 = .ok (.iload_n 3, 1) := dk_29 (dk_at dksX18_leafMany_1 14 rfl rfl)
theorem dX18_leafMany_39 : decode cX18_leafMany 39 = .ok (.aaload, 1) := dk_50 (dk_at dksX18_leafMany_1 15 rfl rfl)
theorem dX18_leafMany_40 : decode cX18_leafMany 40 = .ok (.aload_n 0, 1) := dk_42 (dk_at dksX18_leafMany_1 16 rfl rfl)
theorem dX18_leafMany_41 : decode cX18_leafMany 41 = .ok (.getfield 3, 3) := dk_180 0 3 (dk_at dksX18_leafMany_1 17 rfl rfl)
theorem dX18_leafMany_44 : decode cX18_leafMany 44 = .ok (.iload_n 1, 1) := dk_27 (dk_at dksX18_leafMany_1 20 rfl rfl)
theorem dX18_leafMany_45 : decode cX18_leafMany 45 = .ok (.invokevirtual 151, 3) := dk_182 0 151 (dk_at dksX18_leafMany_1 21 rfl rfl)
theorem dX18_leafMany_48 : decode cX18_leafMany 48 = .ok (.invokevirtual 155, 3) := dk_182 0 155 (dk_at dksX18_leafMany_2 0 rfl rfl)
theorem dX18_leafMany_51 : decode cX18_leafMany 51 = .ok (.ifCond .eq 7, 3) := dk_153 0 7 (dk_at dksX18_leafMany_2 3 rfl rfl)
theorem dX18_leafMany_54 : decode cX18_leafMany 54 = .ok (.iconst 1, 1) := dk_4 (dk_at dksX18_leafMany_2 6 rfl rfl)
theorem dX18_leafMany_55 : decode cX18_leafMany 55 = .ok (.goto 4, 3) := dk_167 0 4 (dk_at dksX18_leafMany_2 7 rfl rfl)
theorem dX18_leafMany_58 : decode cX18_leafMany 58 = .ok (.iconst 0, 1) := dk_3 (dk_at dksX18_leafMany_2 10 rfl rfl)
theorem dX18_leafMany_59 : decode cX18_leafMany 59 = .ok (.iadd, 1) := dk_96 (dk_at dksX18_leafMany_2 11 rfl rfl)
theorem dX18_leafMany_60 : decode cX18_leafMany 60 = .ok (.istore_n 2, 1) := dk_61 (dk_at dksX18_leafMany_2 12 rfl rfl)
theorem dX18_leafMany_61 : decode cX18_leafMany 61 = .ok (.iinc 3 1, 3) := dk_132 3 1 (dk_at dksX18_leafMany_2 13 rfl rfl)
theorem dX18_leafMany_64 : decode cX18_leafMany 64 = .ok (.goto (-60), 3) := dk_167 255 196 (dk_at dksX18_leafMany_2 16 rfl rfl)
theorem dX18_leafMany_67 : decode cX18_leafMany 67 = .ok (.iload_n 2, 1) := dk_28 (dk_at dksX18_leafMany_2 19 rfl rfl)
theorem dX18_leafMany_68 : decode cX18_leafMany 68 = .ok (.ireturn, 1) := dk_172 (dk_at dksX18_leafMany_2 20 rfl rfl)
abbrev cX18_textMany : ByteArray := prog_13_method_9_code
def yX18_textMany : MethodName := ⟨RX18, "textMany", "([LLetterPost$Row;ILLetterPost$Place;)I"⟩
def dkwX18_textMany_4 : List UInt8 := [21, 9, 153, 0, 7, 4, 167, 0, 4, 3, 96, 54, 4, 132, 5, 1, 167, 255, 152, 21, 4, 172]
abbrev dktX18_textMany_4 : List UInt8 := dkwX18_textMany_4 ++ []
def dkwX18_textMany_3 : List UInt8 := [167, 0, 4, 3, 126, 54, 9, 132, 10, 1, 167, 255, 223, 42, 180, 0, 15, 21, 4, 22, 7, 80, 21, 4]
abbrev dktX18_textMany_3 : List UInt8 := dkwX18_textMany_3 ++ dktX18_textMany_4
def dkwX18_textMany_2 : List UInt8 := [21, 10, 21, 4, 162, 0, 32, 21, 9, 42, 180, 0, 15, 21, 10, 47, 22, 7, 148, 153, 0, 7, 4]
abbrev dktX18_textMany_2 : List UInt8 := dkwX18_textMany_2 ++ dktX18_textMany_3
def dkwX18_textMany_1 : List UInt8 := [58, 6, 25, 6, 198, 0, 79, 25, 6, 192, 0, 159, 180, 0, 161, 55, 7, 4, 54, 9, 3, 54, 10]
abbrev dktX18_textMany_1 : List UInt8 := dkwX18_textMany_1 ++ dktX18_textMany_2
def dkwX18_textMany_0 : List UInt8 := [3, 54, 4, 3, 54, 5, 21, 5, 28, 162, 0, 104, 43, 21, 5, 50, 42, 180, 0, 34, 45, 182, 0, 124]
abbrev dktX18_textMany_0 : List UInt8 := dkwX18_textMany_0 ++ dktX18_textMany_1
theorem dksX18_textMany_0 : cX18_textMany.data.toList.drop 0 = dktX18_textMany_0 := by decide +kernel
theorem dksX18_textMany_1 : cX18_textMany.data.toList.drop 24 = dktX18_textMany_1 := dk_seg dksX18_textMany_0 24 rfl rfl
theorem dksX18_textMany_2 : cX18_textMany.data.toList.drop 47 = dktX18_textMany_2 := dk_seg dksX18_textMany_1 23 rfl rfl
theorem dksX18_textMany_3 : cX18_textMany.data.toList.drop 70 = dktX18_textMany_3 := dk_seg dksX18_textMany_2 23 rfl rfl
theorem dksX18_textMany_4 : cX18_textMany.data.toList.drop 94 = dktX18_textMany_4 := dk_seg dksX18_textMany_3 24 rfl rfl
theorem dX18_textMany_0 : decode cX18_textMany 0 = .ok (.iconst 0, 1) := dk_3 (dk_at dksX18_textMany_0 0 rfl rfl)
theorem dX18_textMany_1 : decode cX18_textMany 1 = .ok (.istore 4, 2) := dk_54 4 (dk_at dksX18_textMany_0 1 rfl rfl)
theorem dX18_textMany_3 : decode cX18_textMany 3 = .ok (.iconst 0, 1) := dk_3 (dk_at dksX18_textMany_0 3 rfl rfl)
theorem dX18_textMany_4 : decode cX18_textMany 4 = .ok (.istore 5, 2) := dk_54 5 (dk_at dksX18_textMany_0 4 rfl rfl)
theorem dX18_textMany_6 : decode cX18_textMany 6 = .ok (.iload 5, 2) := dk_21 5 (dk_at dksX18_textMany_0 6 rfl rfl)
theorem dX18_textMany_8 : decode cX18_textMany 8 = .ok (.iload_n 2, 1) := dk_28 (dk_at dksX18_textMany_0 8 rfl rfl)
theorem dX18_textMany_9 : decode cX18_textMany 9 = .ok (.if_icmp .ge 104, 3) := dk_162 0 104 (dk_at dksX18_textMany_0 9 rfl rfl)
theorem dX18_textMany_12 : decode cX18_textMany 12 = .ok (.aload_n 1, 1) := dk_43 (dk_at dksX18_textMany_0 12 rfl rfl)
theorem dX18_textMany_13 : decode cX18_textMany 13 = .ok (.iload 5, 2) := dk_21 5 (dk_at dksX18_textMany_0 13 rfl rfl)
theorem dX18_textMany_15 : decode cX18_textMany 15 = .ok (.aaload, 1) := dk_50 (dk_at dksX18_textMany_0 15 rfl rfl)
theorem dX18_textMany_16 : decode cX18_textMany 16 = .ok (.aload_n 0, 1) := dk_42 (dk_at dksX18_textMany_0 16 rfl rfl)
theorem dX18_textMany_17 : decode cX18_textMany 17 = .ok (.getfield 34, 3) := dk_180 0 34 (dk_at dksX18_textMany_0 17 rfl rfl)
theorem dX18_textMany_20 : decode cX18_textMany 20 = .ok (.aload_n 3, 1) := dk_45 (dk_at dksX18_textMany_0 20 rfl rfl)
theorem dX18_textMany_21 : decode cX18_textMany 21 = .ok (.invokevirtual 124, 3) := dk_182 0 124 (dk_at dksX18_textMany_0 21 rfl rfl)
theorem dX18_textMany_24 : decode cX18_textMany 24 = .ok (.astore 6, 2) := dk_58 6 (dk_at dksX18_textMany_1 0 rfl rfl)
theorem dX18_textMany_26 : decode cX18_textMany 26 = .ok (.aload 6, 2) := dk_25 6 (dk_at dksX18_textMany_1 2 rfl rfl)
theorem dX18_textMany_28 : decode cX18_textMany 28 = .ok (.ifnull 79, 3) := dk_198 0 79 (dk_at dksX18_textMany_1 4 rfl rfl)
theorem dX18_textMany_31 : decode cX18_textMany 31 = .ok (.aload 6, 2) := dk_25 6 (dk_at dksX18_textMany_1 7 rfl rfl)
theorem dX18_textMany_33 : decode cX18_textMany 33 = .ok (.checkcast 159, 3) := dk_192 0 159 (dk_at dksX18_textMany_1 9 rfl rfl)
theorem dX18_textMany_36 : decode cX18_textMany 36 = .ok (.getfield 161, 3) := dk_180 0 161 (dk_at dksX18_textMany_1 12 rfl rfl)
theorem dX18_textMany_39 : decode cX18_textMany 39 = .ok (.lstore 7, 2) := dk_55 7 (dk_at dksX18_textMany_1 15 rfl rfl)
theorem dX18_textMany_41 : decode cX18_textMany 41 = .ok (.iconst 1, 1) := dk_4 (dk_at dksX18_textMany_1 17 rfl rfl)
theorem dX18_textMany_42 : decode cX18_textMany 42 = .ok (.istore 9, 2) := dk_54 9 (dk_at dksX18_textMany_1 18 rfl rfl)
theorem dX18_textMany_44 : decode cX18_textMany 44 = .ok (.iconst 0, 1) := dk_3 (dk_at dksX18_textMany_1 20 rfl rfl)
theorem dX18_textMany_45 : decode cX18_textMany 45 = .ok (.istore 10, 2) := dk_54 10 (dk_at dksX18_textMany_1 21 rfl rfl)
theorem dX18_textMany_47 : decode cX18_textMany 47 = .ok (.iload 10, 2) := dk_21 10 (dk_at dksX18_textMany_2 0 rfl rfl)
theorem dX18_textMany_49 : decode cX18_textMany 49 = .ok (.iload 4, 2) := dk_21 4 (dk_at dksX18_textMany_2 2 rfl rfl)
theorem dX18_textMany_51 : decode cX18_textMany 51 = .ok (.if_icmp .ge 32, 3) := dk_162 0 32 (dk_at dksX18_textMany_2 4 rfl rfl)
theorem dX18_textMany_54 : decode cX18_textMany 54 = .ok (.iload 9, 2) := dk_21 9 (dk_at dksX18_textMany_2 7 rfl rfl)
theorem dX18_textMany_56 : decode cX18_textMany 56 = .ok (.aload_n 0, 1) := dk_42 (dk_at dksX18_textMany_2 9 rfl rfl)
theorem dX18_textMany_57 : decode cX18_textMany 57 = .ok (.getfield 15, 3) := dk_180 0 15 (dk_at dksX18_textMany_2 10 rfl rfl)
theorem dX18_textMany_60 : decode cX18_textMany 60 = .ok (.iload 10, 2) := dk_21 10 (dk_at dksX18_textMany_2 13 rfl rfl)
theorem dX18_textMany_62 : decode cX18_textMany 62 = .ok (.laload, 1) := dk_47 (dk_at dksX18_textMany_2 15 rfl rfl)
theorem dX18_textMany_63 : decode cX18_textMany 63 = .ok (.lload 7, 2) := dk_22 7 (dk_at dksX18_textMany_2 16 rfl rfl)
theorem dX18_textMany_65 : decode cX18_textMany 65 = .ok (.lcmp, 1) := dk_148 (dk_at dksX18_textMany_2 18 rfl rfl)
theorem dX18_textMany_66 : decode cX18_textMany 66 = .ok (.ifCond .eq 7, 3) := dk_153 0 7 (dk_at dksX18_textMany_2 19 rfl rfl)
theorem dX18_textMany_69 : decode cX18_textMany 69 = .ok (.iconst 1, 1) := dk_4 (dk_at dksX18_textMany_2 22 rfl rfl)
theorem dX18_textMany_70 : decode cX18_textMany 70 = .ok (.goto 4, 3) := dk_167 0 4 (dk_at dksX18_textMany_3 0 rfl rfl)
theorem dX18_textMany_73 : decode cX18_textMany 73 = .ok (.iconst 0, 1) := dk_3 (dk_at dksX18_textMany_3 3 rfl rfl)
theorem dX18_textMany_74 : decode cX18_textMany 74 = .ok (.iand, 1) := dk_126 (dk_at dksX18_textMany_3 4 rfl rfl)
theorem dX18_textMany_75 : decode cX18_textMany 75 = .ok (.istore 9, 2) := dk_54 9 (dk_at dksX18_textMany_3 5 rfl rfl)
theorem dX18_textMany_77 : decode cX18_textMany 77 = .ok (.iinc 10 1, 3) := dk_132 10 1 (dk_at dksX18_textMany_3 7 rfl rfl)
theorem dX18_textMany_80 : decode cX18_textMany 80 = .ok (.goto (-33), 3) := dk_167 255 223 (dk_at dksX18_textMany_3 10 rfl rfl)
theorem dX18_textMany_83 : decode cX18_textMany 83 = .ok (.aload_n 0, 1) := dk_42 (dk_at dksX18_textMany_3 13 rfl rfl)
theorem dX18_textMany_84 : decode cX18_textMany 84 = .ok (.getfield 15, 3) := dk_180 0 15 (dk_at dksX18_textMany_3 14 rfl rfl)
theorem dX18_textMany_87 : decode cX18_textMany 87 = .ok (.iload 4, 2) := dk_21 4 (dk_at dksX18_textMany_3 17 rfl rfl)
theorem dX18_textMany_89 : decode cX18_textMany 89 = .ok (.lload 7, 2) := dk_22 7 (dk_at dksX18_textMany_3 19 rfl rfl)
theorem dX18_textMany_91 : decode cX18_textMany 91 = .ok (.lastore, 1) := dk_80 (dk_at dksX18_textMany_3 21 rfl rfl)
theorem dX18_textMany_92 : decode cX18_textMany 92 = .ok (.iload 4, 2) := dk_21 4 (dk_at dksX18_textMany_3 22 rfl rfl)
theorem dX18_textMany_94 : decode cX18_textMany 94 = .ok (.iload 9, 2) := dk_21 9 (dk_at dksX18_textMany_4 0 rfl rfl)
theorem dX18_textMany_96 : decode cX18_textMany 96 = .ok (.ifCond .eq 7, 3) := dk_153 0 7 (dk_at dksX18_textMany_4 2 rfl rfl)
theorem dX18_textMany_99 : decode cX18_textMany 99 = .ok (.iconst 1, 1) := dk_4 (dk_at dksX18_textMany_4 5 rfl rfl)
theorem dX18_textMany_100 : decode cX18_textMany 100 = .ok (.goto 4, 3) := dk_167 0 4 (dk_at dksX18_textMany_4 6 rfl rfl)
theorem dX18_textMany_103 : decode cX18_textMany 103 = .ok (.iconst 0, 1) := dk_3 (dk_at dksX18_textMany_4 9 rfl rfl)
theorem dX18_textMany_104 : decode cX18_textMany 104 = .ok (.iadd, 1) := dk_96 (dk_at dksX18_textMany_4 10 rfl rfl)
theorem dX18_textMany_105 : decode cX18_textMany 105 = .ok (.istore 4, 2) := dk_54 4 (dk_at dksX18_textMany_4 11 rfl rfl)
theorem dX18_textMany_107 : decode cX18_textMany 107 = .ok (.iinc 5 1, 3) := dk_132 5 1 (dk_at dksX18_textMany_4 13 rfl rfl)
theorem dX18_textMany_110 : decode cX18_textMany 110 = .ok (.goto (-104), 3) := dk_167 255 152 (dk_at dksX18_textMany_4 16 rfl rfl)
theorem dX18_textMany_113 : decode cX18_textMany 113 = .ok (.iload 4, 2) := dk_21 4 (dk_at dksX18_textMany_4 19 rfl rfl)
theorem dX18_textMany_115 : decode cX18_textMany 115 = .ok (.ireturn, 1) := dk_172 (dk_at dksX18_textMany_4 21 rfl rfl)
abbrev cX18_borderMany : ByteArray := prog_13_method_11_code
def yX18_borderMany : MethodName := ⟨RX18, "borderMany", "([LLetterPost$Row;ILLetterPost$Place;)I"⟩
def dkwX18_borderMany_6 : List UInt8 := [182, 0, 184, 172]
abbrev dktX18_borderMany_6 : List UInt8 := dkwX18_borderMany_6 ++ []
def dkwX18_borderMany_5 : List UInt8 := [180, 0, 188, 182, 0, 184, 54, 6, 132, 7, 1, 167, 255, 164, 42, 42, 180, 0, 19, 21, 6, 21, 5]
abbrev dktX18_borderMany_5 : List UInt8 := dkwX18_borderMany_5 ++ dktX18_borderMany_6
def dkwX18_borderMany_4 : List UInt8 := [198, 0, 30, 25, 8, 180, 0, 188, 21, 5, 162, 0, 20, 42, 42, 180, 0, 19, 21, 6, 25, 8]
abbrev dktX18_borderMany_4 : List UInt8 := dkwX18_borderMany_4 ++ dktX18_borderMany_5
def dkwX18_borderMany_3 : List UInt8 := [164, 0, 22, 42, 42, 180, 0, 19, 21, 6, 25, 8, 180, 0, 182, 4, 100, 182, 0, 184, 54, 6, 25, 8]
abbrev dktX18_borderMany_3 : List UInt8 := dkwX18_borderMany_3 ++ dktX18_borderMany_4
def dkwX18_borderMany_2 : List UInt8 := [180, 0, 34, 45, 182, 0, 124, 192, 0, 180, 58, 8, 25, 8, 198, 0, 32, 25, 8, 180, 0, 182, 21, 4]
abbrev dktX18_borderMany_2 : List UInt8 := dkwX18_borderMany_2 ++ dktX18_borderMany_3
def dkwX18_borderMany_1 : List UInt8 := [180, 0, 174, 46, 54, 5, 3, 54, 6, 3, 54, 7, 21, 7, 28, 162, 0, 92, 43, 21, 7, 50, 42]
abbrev dktX18_borderMany_1 : List UInt8 := dkwX18_borderMany_1 ++ dktX18_borderMany_2
def dkwX18_borderMany_0 : List UInt8 := [42, 180, 0, 34, 180, 0, 171, 45, 180, 0, 174, 46, 54, 4, 42, 180, 0, 34, 180, 0, 177, 45]
abbrev dktX18_borderMany_0 : List UInt8 := dkwX18_borderMany_0 ++ dktX18_borderMany_1
theorem dksX18_borderMany_0 : cX18_borderMany.data.toList.drop 0 = dktX18_borderMany_0 := by decide +kernel
theorem dksX18_borderMany_1 : cX18_borderMany.data.toList.drop 22 = dktX18_borderMany_1 := dk_seg dksX18_borderMany_0 22 rfl rfl
theorem dksX18_borderMany_2 : cX18_borderMany.data.toList.drop 45 = dktX18_borderMany_2 := dk_seg dksX18_borderMany_1 23 rfl rfl
theorem dksX18_borderMany_3 : cX18_borderMany.data.toList.drop 69 = dktX18_borderMany_3 := dk_seg dksX18_borderMany_2 24 rfl rfl
theorem dksX18_borderMany_4 : cX18_borderMany.data.toList.drop 93 = dktX18_borderMany_4 := dk_seg dksX18_borderMany_3 24 rfl rfl
theorem dksX18_borderMany_5 : cX18_borderMany.data.toList.drop 115 = dktX18_borderMany_5 := dk_seg dksX18_borderMany_4 22 rfl rfl
theorem dksX18_borderMany_6 : cX18_borderMany.data.toList.drop 138 = dktX18_borderMany_6 := dk_seg dksX18_borderMany_5 23 rfl rfl
theorem dX18_borderMany_0 : decode cX18_borderMany 0 = .ok (.aload_n 0, 1) := dk_42 (dk_at dksX18_borderMany_0 0 rfl rfl)
theorem dX18_borderMany_1 : decode cX18_borderMany 1 = .ok (.getfield 34, 3) := dk_180 0 34 (dk_at dksX18_borderMany_0 1 rfl rfl)
theorem dX18_borderMany_4 : decode cX18_borderMany 4 = .ok (.getfield 171, 3) := dk_180 0 171 (dk_at dksX18_borderMany_0 4 rfl rfl)
theorem dX18_borderMany_7 : decode cX18_borderMany 7 = .ok (.aload_n 3, 1) := dk_45 (dk_at dksX18_borderMany_0 7 rfl rfl)
theorem dX18_borderMany_8 : decode cX18_borderMany 8 = .ok (.getfield 174, 3) := dk_180 0 174 (dk_at dksX18_borderMany_0 8 rfl rfl)
theorem dX18_borderMany_11 : decode cX18_borderMany 11 = .ok (.iaload, 1) := dk_46 (dk_at dksX18_borderMany_0 11 rfl rfl)
theorem dX18_borderMany_12 : decode cX18_borderMany 12 = .ok (.istore 4, 2) := dk_54 4 (dk_at dksX18_borderMany_0 12 rfl rfl)
theorem dX18_borderMany_14 : decode cX18_borderMany 14 = .ok (.aload_n 0, 1) := dk_42 (dk_at dksX18_borderMany_0 14 rfl rfl)
theorem dX18_borderMany_15 : decode cX18_borderMany 15 = .ok (.getfield 34, 3) := dk_180 0 34 (dk_at dksX18_borderMany_0 15 rfl rfl)
theorem dX18_borderMany_18 : decode cX18_borderMany 18 = .ok (.getfield 177, 3) := dk_180 0 177 (dk_at dksX18_borderMany_0 18 rfl rfl)
theorem dX18_borderMany_21 : decode cX18_borderMany 21 = .ok (.aload_n 3, 1) := dk_45 (dk_at dksX18_borderMany_0 21 rfl rfl)
theorem dX18_borderMany_22 : decode cX18_borderMany 22 = .ok (.getfield 174, 3) := dk_180 0 174 (dk_at dksX18_borderMany_1 0 rfl rfl)
theorem dX18_borderMany_25 : decode cX18_borderMany 25 = .ok (.iaload, 1) := dk_46 (dk_at dksX18_borderMany_1 3 rfl rfl)
theorem dX18_borderMany_26 : decode cX18_borderMany 26 = .ok (.istore 5, 2) := dk_54 5 (dk_at dksX18_borderMany_1 4 rfl rfl)
theorem dX18_borderMany_28 : decode cX18_borderMany 28 = .ok (.iconst 0, 1) := dk_3 (dk_at dksX18_borderMany_1 6 rfl rfl)
theorem dX18_borderMany_29 : decode cX18_borderMany 29 = .ok (.istore 6, 2) := dk_54 6 (dk_at dksX18_borderMany_1 7 rfl rfl)
theorem dX18_borderMany_31 : decode cX18_borderMany 31 = .ok (.iconst 0, 1) := dk_3 (dk_at dksX18_borderMany_1 9 rfl rfl)
theorem dX18_borderMany_32 : decode cX18_borderMany 32 = .ok (.istore 7, 2) := dk_54 7 (dk_at dksX18_borderMany_1 10 rfl rfl)
theorem dX18_borderMany_34 : decode cX18_borderMany 34 = .ok (.iload 7, 2) := dk_21 7 (dk_at dksX18_borderMany_1 12 rfl rfl)
theorem dX18_borderMany_36 : decode cX18_borderMany 36 = .ok (.iload_n 2, 1) := dk_28 (dk_at dksX18_borderMany_1 14 rfl rfl)
theorem dX18_borderMany_37 : decode cX18_borderMany 37 = .ok (.if_icmp .ge 92, 3) := dk_162 0 92 (dk_at dksX18_borderMany_1 15 rfl rfl)
theorem dX18_borderMany_40 : decode cX18_borderMany 40 = .ok (.aload_n 1, 1) := dk_43 (dk_at dksX18_borderMany_1 18 rfl rfl)
theorem dX18_borderMany_41 : decode cX18_borderMany 41 = .ok (.iload 7, 2) := dk_21 7 (dk_at dksX18_borderMany_1 19 rfl rfl)
theorem dX18_borderMany_43 : decode cX18_borderMany 43 = .ok (.aaload, 1) := dk_50 (dk_at dksX18_borderMany_1 21 rfl rfl)
theorem dX18_borderMany_44 : decode cX18_borderMany 44 = .ok (.aload_n 0, 1) := dk_42 (dk_at dksX18_borderMany_1 22 rfl rfl)
theorem dX18_borderMany_45 : decode cX18_borderMany 45 = .ok (.getfield 34, 3) := dk_180 0 34 (dk_at dksX18_borderMany_2 0 rfl rfl)
theorem dX18_borderMany_48 : decode cX18_borderMany 48 = .ok (.aload_n 3, 1) := dk_45 (dk_at dksX18_borderMany_2 3 rfl rfl)
theorem dX18_borderMany_49 : decode cX18_borderMany 49 = .ok (.invokevirtual 124, 3) := dk_182 0 124 (dk_at dksX18_borderMany_2 4 rfl rfl)
theorem dX18_borderMany_52 : decode cX18_borderMany 52 = .ok (.checkcast 180, 3) := dk_192 0 180 (dk_at dksX18_borderMany_2 7 rfl rfl)
theorem dX18_borderMany_55 : decode cX18_borderMany 55 = .ok (.astore 8, 2) := dk_58 8 (dk_at dksX18_borderMany_2 10 rfl rfl)
theorem dX18_borderMany_57 : decode cX18_borderMany 57 = .ok (.aload 8, 2) := dk_25 8 (dk_at dksX18_borderMany_2 12 rfl rfl)
theorem dX18_borderMany_59 : decode cX18_borderMany 59 = .ok (.ifnull 32, 3) := dk_198 0 32 (dk_at dksX18_borderMany_2 14 rfl rfl)
theorem dX18_borderMany_62 : decode cX18_borderMany 62 = .ok (.aload 8, 2) := dk_25 8 (dk_at dksX18_borderMany_2 17 rfl rfl)
theorem dX18_borderMany_64 : decode cX18_borderMany 64 = .ok (.getfield 182, 3) := dk_180 0 182 (dk_at dksX18_borderMany_2 19 rfl rfl)
theorem dX18_borderMany_67 : decode cX18_borderMany 67 = .ok (.iload 4, 2) := dk_21 4 (dk_at dksX18_borderMany_2 22 rfl rfl)
theorem dX18_borderMany_69 : decode cX18_borderMany 69 = .ok (.if_icmp .le 22, 3) := dk_164 0 22 (dk_at dksX18_borderMany_3 0 rfl rfl)
theorem dX18_borderMany_72 : decode cX18_borderMany 72 = .ok (.aload_n 0, 1) := dk_42 (dk_at dksX18_borderMany_3 3 rfl rfl)
theorem dX18_borderMany_73 : decode cX18_borderMany 73 = .ok (.aload_n 0, 1) := dk_42 (dk_at dksX18_borderMany_3 4 rfl rfl)
theorem dX18_borderMany_74 : decode cX18_borderMany 74 = .ok (.getfield 19, 3) := dk_180 0 19 (dk_at dksX18_borderMany_3 5 rfl rfl)
theorem dX18_borderMany_77 : decode cX18_borderMany 77 = .ok (.iload 6, 2) := dk_21 6 (dk_at dksX18_borderMany_3 8 rfl rfl)
theorem dX18_borderMany_79 : decode cX18_borderMany 79 = .ok (.aload 8, 2) := dk_25 8 (dk_at dksX18_borderMany_3 10 rfl rfl)
theorem dX18_borderMany_81 : decode cX18_borderMany 81 = .ok (.getfield 182, 3) := dk_180 0 182 (dk_at dksX18_borderMany_3 12 rfl rfl)
theorem dX18_borderMany_84 : decode cX18_borderMany 84 = .ok (.iconst 1, 1) := dk_4 (dk_at dksX18_borderMany_3 15 rfl rfl)
theorem dX18_borderMany_85 : decode cX18_borderMany 85 = .ok (.isub, 1) := dk_100 (dk_at dksX18_borderMany_3 16 rfl rfl)
theorem dX18_borderMany_86 : decode cX18_borderMany 86 = .ok (.invokevirtual 184, 3) := dk_182 0 184 (dk_at dksX18_borderMany_3 17 rfl rfl)
theorem dX18_borderMany_89 : decode cX18_borderMany 89 = .ok (.istore 6, 2) := dk_54 6 (dk_at dksX18_borderMany_3 20 rfl rfl)
theorem dX18_borderMany_91 : decode cX18_borderMany 91 = .ok (.aload 8, 2) := dk_25 8 (dk_at dksX18_borderMany_3 22 rfl rfl)
theorem dX18_borderMany_93 : decode cX18_borderMany 93 = .ok (.ifnull 30, 3) := dk_198 0 30 (dk_at dksX18_borderMany_4 0 rfl rfl)
theorem dX18_borderMany_96 : decode cX18_borderMany 96 = .ok (.aload 8, 2) := dk_25 8 (dk_at dksX18_borderMany_4 3 rfl rfl)
theorem dX18_borderMany_98 : decode cX18_borderMany 98 = .ok (.getfield 188, 3) := dk_180 0 188 (dk_at dksX18_borderMany_4 5 rfl rfl)
theorem dX18_borderMany_101 : decode cX18_borderMany 101 = .ok (.iload 5, 2) := dk_21 5 (dk_at dksX18_borderMany_4 8 rfl rfl)
theorem dX18_borderMany_103 : decode cX18_borderMany 103 = .ok (.if_icmp .ge 20, 3) := dk_162 0 20 (dk_at dksX18_borderMany_4 10 rfl rfl)
theorem dX18_borderMany_106 : decode cX18_borderMany 106 = .ok (.aload_n 0, 1) := dk_42 (dk_at dksX18_borderMany_4 13 rfl rfl)
theorem dX18_borderMany_107 : decode cX18_borderMany 107 = .ok (.aload_n 0, 1) := dk_42 (dk_at dksX18_borderMany_4 14 rfl rfl)
theorem dX18_borderMany_108 : decode cX18_borderMany 108 = .ok (.getfield 19, 3) := dk_180 0 19 (dk_at dksX18_borderMany_4 15 rfl rfl)
theorem dX18_borderMany_111 : decode cX18_borderMany 111 = .ok (.iload 6, 2) := dk_21 6 (dk_at dksX18_borderMany_4 18 rfl rfl)
theorem dX18_borderMany_113 : decode cX18_borderMany 113 = .ok (.aload 8, 2) := dk_25 8 (dk_at dksX18_borderMany_4 20 rfl rfl)
theorem dX18_borderMany_115 : decode cX18_borderMany 115 = .ok (.getfield 188, 3) := dk_180 0 188 (dk_at dksX18_borderMany_5 0 rfl rfl)
theorem dX18_borderMany_118 : decode cX18_borderMany 118 = .ok (.invokevirtual 184, 3) := dk_182 0 184 (dk_at dksX18_borderMany_5 3 rfl rfl)
theorem dX18_borderMany_121 : decode cX18_borderMany 121 = .ok (.istore 6, 2) := dk_54 6 (dk_at dksX18_borderMany_5 6 rfl rfl)
theorem dX18_borderMany_123 : decode cX18_borderMany 123 = .ok (.iinc 7 1, 3) := dk_132 7 1 (dk_at dksX18_borderMany_5 8 rfl rfl)
theorem dX18_borderMany_126 : decode cX18_borderMany 126 = .ok (.goto (-92), 3) := dk_167 255 164 (dk_at dksX18_borderMany_5 11 rfl rfl)
theorem dX18_borderMany_129 : decode cX18_borderMany 129 = .ok (.aload_n 0, 1) := dk_42 (dk_at dksX18_borderMany_5 14 rfl rfl)
theorem dX18_borderMany_130 : decode cX18_borderMany 130 = .ok (.aload_n 0, 1) := dk_42 (dk_at dksX18_borderMany_5 15 rfl rfl)
theorem dX18_borderMany_131 : decode cX18_borderMany 131 = .ok (.getfield 19, 3) := dk_180 0 19 (dk_at dksX18_borderMany_5 16 rfl rfl)
theorem dX18_borderMany_134 : decode cX18_borderMany 134 = .ok (.iload 6, 2) := dk_21 6 (dk_at dksX18_borderMany_5 19 rfl rfl)
theorem dX18_borderMany_136 : decode cX18_borderMany 136 = .ok (.iload 5, 2) := dk_21 5 (dk_at dksX18_borderMany_5 21 rfl rfl)
theorem dX18_borderMany_138 : decode cX18_borderMany 138 = .ok (.invokevirtual 184, 3) := dk_182 0 184 (dk_at dksX18_borderMany_6 0 rfl rfl)
theorem dX18_borderMany_141 : decode cX18_borderMany 141 = .ok (.ireturn, 1) := dk_172 (dk_at dksX18_borderMany_6 3 rfl rfl)
abbrev cX18_put : ByteArray := prog_13_method_13_code
def yX18_put : MethodName := ⟨RX18, "put", "([III)I"⟩
def dkwX18_put_2 : List UInt8 := [96, 28, 21, 4, 100, 184, 0, 165, 43, 21, 4, 29, 79, 28, 4, 96, 172]
abbrev dktX18_put_2 : List UInt8 := dkwX18_put_2 ++ []
def dkwX18_put_1 : List UInt8 := [21, 4, 158, 0, 15, 43, 21, 4, 4, 100, 46, 29, 160, 0, 5, 28, 172, 43, 21, 4, 43, 21, 4, 4]
abbrev dktX18_put_1 : List UInt8 := dkwX18_put_1 ++ dktX18_put_2
def dkwX18_put_0 : List UInt8 := [28, 54, 4, 21, 4, 158, 0, 19, 43, 21, 4, 4, 100, 46, 29, 164, 0, 9, 132, 4, 255, 167, 255, 238]
abbrev dktX18_put_0 : List UInt8 := dkwX18_put_0 ++ dktX18_put_1
theorem dksX18_put_0 : cX18_put.data.toList.drop 0 = dktX18_put_0 := by decide +kernel
theorem dksX18_put_1 : cX18_put.data.toList.drop 24 = dktX18_put_1 := dk_seg dksX18_put_0 24 rfl rfl
theorem dksX18_put_2 : cX18_put.data.toList.drop 48 = dktX18_put_2 := dk_seg dksX18_put_1 24 rfl rfl
theorem dX18_put_0 : decode cX18_put 0 = .ok (.iload_n 2, 1) := dk_28 (dk_at dksX18_put_0 0 rfl rfl)
theorem dX18_put_1 : decode cX18_put 1 = .ok (.istore 4, 2) := dk_54 4 (dk_at dksX18_put_0 1 rfl rfl)
theorem dX18_put_3 : decode cX18_put 3 = .ok (.iload 4, 2) := dk_21 4 (dk_at dksX18_put_0 3 rfl rfl)
theorem dX18_put_5 : decode cX18_put 5 = .ok (.ifCond .le 19, 3) := dk_158 0 19 (dk_at dksX18_put_0 5 rfl rfl)
theorem dX18_put_8 : decode cX18_put 8 = .ok (.aload_n 1, 1) := dk_43 (dk_at dksX18_put_0 8 rfl rfl)
theorem dX18_put_9 : decode cX18_put 9 = .ok (.iload 4, 2) := dk_21 4 (dk_at dksX18_put_0 9 rfl rfl)
theorem dX18_put_11 : decode cX18_put 11 = .ok (.iconst 1, 1) := dk_4 (dk_at dksX18_put_0 11 rfl rfl)
theorem dX18_put_12 : decode cX18_put 12 = .ok (.isub, 1) := dk_100 (dk_at dksX18_put_0 12 rfl rfl)
theorem dX18_put_13 : decode cX18_put 13 = .ok (.iaload, 1) := dk_46 (dk_at dksX18_put_0 13 rfl rfl)
theorem dX18_put_14 : decode cX18_put 14 = .ok (.iload_n 3, 1) := dk_29 (dk_at dksX18_put_0 14 rfl rfl)
theorem dX18_put_15 : decode cX18_put 15 = .ok (.if_icmp .le 9, 3) := dk_164 0 9 (dk_at dksX18_put_0 15 rfl rfl)
theorem dX18_put_18 : decode cX18_put 18 = .ok (.iinc 4 (-1), 3) := dk_132 4 255 (dk_at dksX18_put_0 18 rfl rfl)
theorem dX18_put_21 : decode cX18_put 21 = .ok (.goto (-18), 3) := dk_167 255 238 (dk_at dksX18_put_0 21 rfl rfl)
theorem dX18_put_24 : decode cX18_put 24 = .ok (.iload 4, 2) := dk_21 4 (dk_at dksX18_put_1 0 rfl rfl)
theorem dX18_put_26 : decode cX18_put 26 = .ok (.ifCond .le 15, 3) := dk_158 0 15 (dk_at dksX18_put_1 2 rfl rfl)
theorem dX18_put_29 : decode cX18_put 29 = .ok (.aload_n 1, 1) := dk_43 (dk_at dksX18_put_1 5 rfl rfl)
theorem dX18_put_30 : decode cX18_put 30 = .ok (.iload 4, 2) := dk_21 4 (dk_at dksX18_put_1 6 rfl rfl)
theorem dX18_put_32 : decode cX18_put 32 = .ok (.iconst 1, 1) := dk_4 (dk_at dksX18_put_1 8 rfl rfl)
theorem dX18_put_33 : decode cX18_put 33 = .ok (.isub, 1) := dk_100 (dk_at dksX18_put_1 9 rfl rfl)
theorem dX18_put_34 : decode cX18_put 34 = .ok (.iaload, 1) := dk_46 (dk_at dksX18_put_1 10 rfl rfl)
theorem dX18_put_35 : decode cX18_put 35 = .ok (.iload_n 3, 1) := dk_29 (dk_at dksX18_put_1 11 rfl rfl)
theorem dX18_put_36 : decode cX18_put 36 = .ok (.if_icmp .ne 5, 3) := dk_160 0 5 (dk_at dksX18_put_1 12 rfl rfl)
theorem dX18_put_39 : decode cX18_put 39 = .ok (.iload_n 2, 1) := dk_28 (dk_at dksX18_put_1 15 rfl rfl)
theorem dX18_put_40 : decode cX18_put 40 = .ok (.ireturn, 1) := dk_172 (dk_at dksX18_put_1 16 rfl rfl)
theorem dX18_put_41 : decode cX18_put 41 = .ok (.aload_n 1, 1) := dk_43 (dk_at dksX18_put_1 17 rfl rfl)
theorem dX18_put_42 : decode cX18_put 42 = .ok (.iload 4, 2) := dk_21 4 (dk_at dksX18_put_1 18 rfl rfl)
theorem dX18_put_44 : decode cX18_put 44 = .ok (.aload_n 1, 1) := dk_43 (dk_at dksX18_put_1 20 rfl rfl)
theorem dX18_put_45 : decode cX18_put 45 = .ok (.iload 4, 2) := dk_21 4 (dk_at dksX18_put_1 21 rfl rfl)
theorem dX18_put_47 : decode cX18_put 47 = .ok (.iconst 1, 1) := dk_4 (dk_at dksX18_put_1 23 rfl rfl)
theorem dX18_put_48 : decode cX18_put 48 = .ok (.iadd, 1) := dk_96 (dk_at dksX18_put_2 0 rfl rfl)
theorem dX18_put_49 : decode cX18_put 49 = .ok (.iload_n 2, 1) := dk_28 (dk_at dksX18_put_2 1 rfl rfl)
theorem dX18_put_50 : decode cX18_put 50 = .ok (.iload 4, 2) := dk_21 4 (dk_at dksX18_put_2 2 rfl rfl)
theorem dX18_put_52 : decode cX18_put 52 = .ok (.isub, 1) := dk_100 (dk_at dksX18_put_2 4 rfl rfl)
theorem dX18_put_53 : decode cX18_put 53 = .ok (.invokestatic 165, 3) := dk_184 0 165 (dk_at dksX18_put_2 5 rfl rfl)
theorem dX18_put_56 : decode cX18_put 56 = .ok (.aload_n 1, 1) := dk_43 (dk_at dksX18_put_2 8 rfl rfl)
theorem dX18_put_57 : decode cX18_put 57 = .ok (.iload 4, 2) := dk_21 4 (dk_at dksX18_put_2 9 rfl rfl)
theorem dX18_put_59 : decode cX18_put 59 = .ok (.iload_n 3, 1) := dk_29 (dk_at dksX18_put_2 11 rfl rfl)
theorem dX18_put_60 : decode cX18_put 60 = .ok (.iastore, 1) := dk_79 (dk_at dksX18_put_2 12 rfl rfl)
theorem dX18_put_61 : decode cX18_put 61 = .ok (.iload_n 2, 1) := dk_28 (dk_at dksX18_put_2 13 rfl rfl)
theorem dX18_put_62 : decode cX18_put 62 = .ok (.iconst 1, 1) := dk_4 (dk_at dksX18_put_2 14 rfl rfl)
theorem dX18_put_63 : decode cX18_put 63 = .ok (.iadd, 1) := dk_96 (dk_at dksX18_put_2 15 rfl rfl)
theorem dX18_put_64 : decode cX18_put 64 = .ok (.ireturn, 1) := dk_172 (dk_at dksX18_put_2 16 rfl rfl)
abbrev cX18_byKind : ByteArray := prog_13_method_14_code
def yX18_byKind : MethodName := ⟨RX18, "byKind", "(ILLetterPost$Place;[LLetterPost$Row;I)LLetterPost$Node;"⟩
def dkwX18_byKind_5 : List UInt8 := [182, 0, 109, 83, 132, 7, 1, 167, 255, 178, 42, 180, 0, 34, 180, 0, 202, 21, 6, 3, 79, 25, 5, 176]
abbrev dktX18_byKind_5 : List UInt8 := dkwX18_byKind_5 ++ []
def dkwX18_byKind_4 : List UInt8 := [25, 5, 180, 0, 199, 21, 7, 4, 100, 50, 83, 25, 5, 180, 0, 201, 21, 7, 42, 45, 21, 4]
abbrev dktX18_byKind_4 : List UInt8 := dkwX18_byKind_4 ++ dktX18_byKind_5
def dkwX18_byKind_3 : List UInt8 := [167, 0, 4, 5, 79, 42, 180, 0, 34, 180, 0, 205, 21, 6, 21, 7, 154, 0, 7, 1, 167, 0, 13]
abbrev dktX18_byKind_3 : List UInt8 := dkwX18_byKind_3 ++ dktX18_byKind_4
def dkwX18_byKind_2 : List UInt8 := [25, 5, 180, 0, 201, 190, 162, 0, 73, 42, 180, 0, 34, 180, 0, 202, 21, 6, 21, 7, 154, 0, 7, 4]
abbrev dktX18_byKind_2 : List UInt8 := dkwX18_byKind_2 ++ dktX18_byKind_3
def dkwX18_byKind_1 : List UInt8 := [180, 0, 199, 190, 4, 96, 189, 0, 107, 181, 0, 201, 44, 180, 0, 174, 54, 6, 3, 54, 7, 21, 7]
abbrev dktX18_byKind_1 : List UInt8 := dkwX18_byKind_1 ++ dktX18_byKind_2
def dkwX18_byKind_0 : List UInt8 := [187, 0, 190, 89, 27, 44, 42, 44, 180, 0, 73, 182, 0, 192, 183, 0, 196, 58, 5, 25, 5, 25, 5]
abbrev dktX18_byKind_0 : List UInt8 := dkwX18_byKind_0 ++ dktX18_byKind_1
theorem dksX18_byKind_0 : cX18_byKind.data.toList.drop 0 = dktX18_byKind_0 := by decide +kernel
theorem dksX18_byKind_1 : cX18_byKind.data.toList.drop 23 = dktX18_byKind_1 := dk_seg dksX18_byKind_0 23 rfl rfl
theorem dksX18_byKind_2 : cX18_byKind.data.toList.drop 46 = dktX18_byKind_2 := dk_seg dksX18_byKind_1 23 rfl rfl
theorem dksX18_byKind_3 : cX18_byKind.data.toList.drop 70 = dktX18_byKind_3 := dk_seg dksX18_byKind_2 24 rfl rfl
theorem dksX18_byKind_4 : cX18_byKind.data.toList.drop 93 = dktX18_byKind_4 := dk_seg dksX18_byKind_3 23 rfl rfl
theorem dksX18_byKind_5 : cX18_byKind.data.toList.drop 115 = dktX18_byKind_5 := dk_seg dksX18_byKind_4 22 rfl rfl
theorem dX18_byKind_0 : decode cX18_byKind 0 = .ok (.new 190, 3) := dk_187 0 190 (dk_at dksX18_byKind_0 0 rfl rfl)
theorem dX18_byKind_3 : decode cX18_byKind 3 = .ok (.dup, 1) := dk_89 (dk_at dksX18_byKind_0 3 rfl rfl)
theorem dX18_byKind_4 : decode cX18_byKind 4 = .ok (.iload_n 1, 1) := dk_27 (dk_at dksX18_byKind_0 4 rfl rfl)
theorem dX18_byKind_5 : decode cX18_byKind 5 = .ok (.aload_n 2, 1) := dk_44 (dk_at dksX18_byKind_0 5 rfl rfl)
theorem dX18_byKind_6 : decode cX18_byKind 6 = .ok (.aload_n 0, 1) := dk_42 (dk_at dksX18_byKind_0 6 rfl rfl)
theorem dX18_byKind_7 : decode cX18_byKind 7 = .ok (.aload_n 2, 1) := dk_44 (dk_at dksX18_byKind_0 7 rfl rfl)
theorem dX18_byKind_8 : decode cX18_byKind 8 = .ok (.getfield 73, 3) := dk_180 0 73 (dk_at dksX18_byKind_0 8 rfl rfl)
theorem dX18_byKind_11 : decode cX18_byKind 11 = .ok (.invokevirtual 192, 3) := dk_182 0 192 (dk_at dksX18_byKind_0 11 rfl rfl)
theorem dX18_byKind_14 : decode cX18_byKind 14 = .ok (.invokespecial 196, 3) := dk_183 0 196 (dk_at dksX18_byKind_0 14 rfl rfl)
theorem dX18_byKind_17 : decode cX18_byKind 17 = .ok (.astore 5, 2) := dk_58 5 (dk_at dksX18_byKind_0 17 rfl rfl)
theorem dX18_byKind_19 : decode cX18_byKind 19 = .ok (.aload 5, 2) := dk_25 5 (dk_at dksX18_byKind_0 19 rfl rfl)
theorem dX18_byKind_21 : decode cX18_byKind 21 = .ok (.aload 5, 2) := dk_25 5 (dk_at dksX18_byKind_0 21 rfl rfl)
theorem dX18_byKind_23 : decode cX18_byKind 23 = .ok (.getfield 199, 3) := dk_180 0 199 (dk_at dksX18_byKind_1 0 rfl rfl)
theorem dX18_byKind_26 : decode cX18_byKind 26 = .ok (.arraylength, 1) := dk_190 (dk_at dksX18_byKind_1 3 rfl rfl)
theorem dX18_byKind_27 : decode cX18_byKind 27 = .ok (.iconst 1, 1) := dk_4 (dk_at dksX18_byKind_1 4 rfl rfl)
theorem dX18_byKind_28 : decode cX18_byKind 28 = .ok (.iadd, 1) := dk_96 (dk_at dksX18_byKind_1 5 rfl rfl)
theorem dX18_byKind_29 : decode cX18_byKind 29 = .ok (.anewarray 107, 3) := dk_189 0 107 (dk_at dksX18_byKind_1 6 rfl rfl)
theorem dX18_byKind_32 : decode cX18_byKind 32 = .ok (.putfield 201, 3) := dk_181 0 201 (dk_at dksX18_byKind_1 9 rfl rfl)
theorem dX18_byKind_35 : decode cX18_byKind 35 = .ok (.aload_n 2, 1) := dk_44 (dk_at dksX18_byKind_1 12 rfl rfl)
theorem dX18_byKind_36 : decode cX18_byKind 36 = .ok (.getfield 174, 3) := dk_180 0 174 (dk_at dksX18_byKind_1 13 rfl rfl)
theorem dX18_byKind_39 : decode cX18_byKind 39 = .ok (.istore 6, 2) := dk_54 6 (dk_at dksX18_byKind_1 16 rfl rfl)
theorem dX18_byKind_41 : decode cX18_byKind 41 = .ok (.iconst 0, 1) := dk_3 (dk_at dksX18_byKind_1 18 rfl rfl)
theorem dX18_byKind_42 : decode cX18_byKind 42 = .ok (.istore 7, 2) := dk_54 7 (dk_at dksX18_byKind_1 19 rfl rfl)
theorem dX18_byKind_44 : decode cX18_byKind 44 = .ok (.iload 7, 2) := dk_21 7 (dk_at dksX18_byKind_1 21 rfl rfl)
theorem dX18_byKind_46 : decode cX18_byKind 46 = .ok (.aload 5, 2) := dk_25 5 (dk_at dksX18_byKind_2 0 rfl rfl)
theorem dX18_byKind_48 : decode cX18_byKind 48 = .ok (.getfield 201, 3) := dk_180 0 201 (dk_at dksX18_byKind_2 2 rfl rfl)
theorem dX18_byKind_51 : decode cX18_byKind 51 = .ok (.arraylength, 1) := dk_190 (dk_at dksX18_byKind_2 5 rfl rfl)
theorem dX18_byKind_52 : decode cX18_byKind 52 = .ok (.if_icmp .ge 73, 3) := dk_162 0 73 (dk_at dksX18_byKind_2 6 rfl rfl)
theorem dX18_byKind_55 : decode cX18_byKind 55 = .ok (.aload_n 0, 1) := dk_42 (dk_at dksX18_byKind_2 9 rfl rfl)
theorem dX18_byKind_56 : decode cX18_byKind 56 = .ok (.getfield 34, 3) := dk_180 0 34 (dk_at dksX18_byKind_2 10 rfl rfl)
theorem dX18_byKind_59 : decode cX18_byKind 59 = .ok (.getfield 202, 3) := dk_180 0 202 (dk_at dksX18_byKind_2 13 rfl rfl)
theorem dX18_byKind_62 : decode cX18_byKind 62 = .ok (.iload 6, 2) := dk_21 6 (dk_at dksX18_byKind_2 16 rfl rfl)
theorem dX18_byKind_64 : decode cX18_byKind 64 = .ok (.iload 7, 2) := dk_21 7 (dk_at dksX18_byKind_2 18 rfl rfl)
theorem dX18_byKind_66 : decode cX18_byKind 66 = .ok (.ifCond .ne 7, 3) := dk_154 0 7 (dk_at dksX18_byKind_2 20 rfl rfl)
theorem dX18_byKind_69 : decode cX18_byKind 69 = .ok (.iconst 1, 1) := dk_4 (dk_at dksX18_byKind_2 23 rfl rfl)
theorem dX18_byKind_70 : decode cX18_byKind 70 = .ok (.goto 4, 3) := dk_167 0 4 (dk_at dksX18_byKind_3 0 rfl rfl)
theorem dX18_byKind_73 : decode cX18_byKind 73 = .ok (.iconst 2, 1) := dk_5 (dk_at dksX18_byKind_3 3 rfl rfl)
theorem dX18_byKind_74 : decode cX18_byKind 74 = .ok (.iastore, 1) := dk_79 (dk_at dksX18_byKind_3 4 rfl rfl)
theorem dX18_byKind_75 : decode cX18_byKind 75 = .ok (.aload_n 0, 1) := dk_42 (dk_at dksX18_byKind_3 5 rfl rfl)
theorem dX18_byKind_76 : decode cX18_byKind 76 = .ok (.getfield 34, 3) := dk_180 0 34 (dk_at dksX18_byKind_3 6 rfl rfl)
theorem dX18_byKind_79 : decode cX18_byKind 79 = .ok (.getfield 205, 3) := dk_180 0 205 (dk_at dksX18_byKind_3 9 rfl rfl)
theorem dX18_byKind_82 : decode cX18_byKind 82 = .ok (.iload 6, 2) := dk_21 6 (dk_at dksX18_byKind_3 12 rfl rfl)
theorem dX18_byKind_84 : decode cX18_byKind 84 = .ok (.iload 7, 2) := dk_21 7 (dk_at dksX18_byKind_3 14 rfl rfl)
theorem dX18_byKind_86 : decode cX18_byKind 86 = .ok (.ifCond .ne 7, 3) := dk_154 0 7 (dk_at dksX18_byKind_3 16 rfl rfl)
theorem dX18_byKind_89 : decode cX18_byKind 89 = .ok (.aconst_null, 1) := dk_1 (dk_at dksX18_byKind_3 19 rfl rfl)
theorem dX18_byKind_90 : decode cX18_byKind 90 = .ok (.goto 13, 3) := dk_167 0 13 (dk_at dksX18_byKind_3 20 rfl rfl)
theorem dX18_byKind_93 : decode cX18_byKind 93 = .ok (.aload 5, 2) := dk_25 5 (dk_at dksX18_byKind_4 0 rfl rfl)
theorem dX18_byKind_95 : decode cX18_byKind 95 = .ok (.getfield 199, 3) := dk_180 0 199 (dk_at dksX18_byKind_4 2 rfl rfl)
theorem dX18_byKind_98 : decode cX18_byKind 98 = .ok (.iload 7, 2) := dk_21 7 (dk_at dksX18_byKind_4 5 rfl rfl)
theorem dX18_byKind_100 : decode cX18_byKind 100 = .ok (.iconst 1, 1) := dk_4 (dk_at dksX18_byKind_4 7 rfl rfl)
theorem dX18_byKind_101 : decode cX18_byKind 101 = .ok (.isub, 1) := dk_100 (dk_at dksX18_byKind_4 8 rfl rfl)
theorem dX18_byKind_102 : decode cX18_byKind 102 = .ok (.aaload, 1) := dk_50 (dk_at dksX18_byKind_4 9 rfl rfl)
theorem dX18_byKind_103 : decode cX18_byKind 103 = .ok (.aastore, 1) := dk_83 (dk_at dksX18_byKind_4 10 rfl rfl)
theorem dX18_byKind_104 : decode cX18_byKind 104 = .ok (.aload 5, 2) := dk_25 5 (dk_at dksX18_byKind_4 11 rfl rfl)
theorem dX18_byKind_106 : decode cX18_byKind 106 = .ok (.getfield 201, 3) := dk_180 0 201 (dk_at dksX18_byKind_4 13 rfl rfl)
theorem dX18_byKind_109 : decode cX18_byKind 109 = .ok (.iload 7, 2) := dk_21 7 (dk_at dksX18_byKind_4 16 rfl rfl)
theorem dX18_byKind_111 : decode cX18_byKind 111 = .ok (.aload_n 0, 1) := dk_42 (dk_at dksX18_byKind_4 18 rfl rfl)
theorem dX18_byKind_112 : decode cX18_byKind 112 = .ok (.aload_n 3, 1) := dk_45 (dk_at dksX18_byKind_4 19 rfl rfl)
theorem dX18_byKind_113 : decode cX18_byKind 113 = .ok (.iload 4, 2) := dk_21 4 (dk_at dksX18_byKind_4 20 rfl rfl)
theorem dX18_byKind_115 : decode cX18_byKind 115 = .ok (.invokevirtual 109, 3) := dk_182 0 109 (dk_at dksX18_byKind_5 0 rfl rfl)
theorem dX18_byKind_118 : decode cX18_byKind 118 = .ok (.aastore, 1) := dk_83 (dk_at dksX18_byKind_5 3 rfl rfl)
theorem dX18_byKind_119 : decode cX18_byKind 119 = .ok (.iinc 7 1, 3) := dk_132 7 1 (dk_at dksX18_byKind_5 4 rfl rfl)
theorem dX18_byKind_122 : decode cX18_byKind 122 = .ok (.goto (-78), 3) := dk_167 255 178 (dk_at dksX18_byKind_5 7 rfl rfl)
theorem dX18_byKind_125 : decode cX18_byKind 125 = .ok (.aload_n 0, 1) := dk_42 (dk_at dksX18_byKind_5 10 rfl rfl)
theorem dX18_byKind_126 : decode cX18_byKind 126 = .ok (.getfield 34, 3) := dk_180 0 34 (dk_at dksX18_byKind_5 11 rfl rfl)
theorem dX18_byKind_129 : decode cX18_byKind 129 = .ok (.getfield 202, 3) := dk_180 0 202 (dk_at dksX18_byKind_5 14 rfl rfl)
theorem dX18_byKind_132 : decode cX18_byKind 132 = .ok (.iload 6, 2) := dk_21 6 (dk_at dksX18_byKind_5 17 rfl rfl)
theorem dX18_byKind_134 : decode cX18_byKind 134 = .ok (.iconst 0, 1) := dk_3 (dk_at dksX18_byKind_5 19 rfl rfl)
theorem dX18_byKind_135 : decode cX18_byKind 135 = .ok (.iastore, 1) := dk_79 (dk_at dksX18_byKind_5 20 rfl rfl)
theorem dX18_byKind_136 : decode cX18_byKind 136 = .ok (.aload 5, 2) := dk_25 5 (dk_at dksX18_byKind_5 21 rfl rfl)
theorem dX18_byKind_138 : decode cX18_byKind 138 = .ok (.areturn, 1) := dk_176 (dk_at dksX18_byKind_5 23 rfl rfl)
abbrev cX18_leaves : ByteArray := prog_13_method_8_code
def yX18_leaves : MethodName := ⟨RX18, "leaves", "(I)[LLetterPost$Kind;"⟩
def dkwX18_leaves_3 : List UInt8 := [180, 0, 3, 180, 0, 141, 21, 4, 50, 83, 132, 3, 1, 132, 4, 1, 167, 255, 185, 44, 176]
abbrev dktX18_leaves_3 : List UInt8 := dkwX18_leaves_3 ++ []
def dkwX18_leaves_2 : List UInt8 := [180, 0, 141, 21, 4, 50, 42, 180, 0, 3, 27, 182, 0, 151, 182, 0, 155, 153, 0, 19, 44, 29, 42]
abbrev dktX18_leaves_2 : List UInt8 := dkwX18_leaves_2 ++ dktX18_leaves_3
def dkwX18_leaves_1 : List UInt8 := [162, 0, 65, 42, 180, 0, 3, 180, 0, 141, 21, 4, 50, 180, 0, 145, 154, 0, 43, 42, 180, 0, 3]
abbrev dktX18_leaves_1 : List UInt8 := dkwX18_leaves_1 ++ dktX18_leaves_2
def dkwX18_leaves_0 : List UInt8 := [42, 27, 182, 0, 128, 189, 0, 146, 77, 3, 62, 3, 54, 4, 21, 4, 42, 180, 0, 3, 180, 0, 138]
abbrev dktX18_leaves_0 : List UInt8 := dkwX18_leaves_0 ++ dktX18_leaves_1
theorem dksX18_leaves_0 : cX18_leaves.data.toList.drop 0 = dktX18_leaves_0 := by decide +kernel
theorem dksX18_leaves_1 : cX18_leaves.data.toList.drop 23 = dktX18_leaves_1 := dk_seg dksX18_leaves_0 23 rfl rfl
theorem dksX18_leaves_2 : cX18_leaves.data.toList.drop 46 = dktX18_leaves_2 := dk_seg dksX18_leaves_1 23 rfl rfl
theorem dksX18_leaves_3 : cX18_leaves.data.toList.drop 69 = dktX18_leaves_3 := dk_seg dksX18_leaves_2 23 rfl rfl
theorem dX18_leaves_0 : decode cX18_leaves 0 = .ok (.aload_n 0, 1) := dk_42 (dk_at dksX18_leaves_0 0 rfl rfl)
theorem dX18_leaves_1 : decode cX18_leaves 1 = .ok (.iload_n 1, 1) := dk_27 (dk_at dksX18_leaves_0 1 rfl rfl)
theorem dX18_leaves_2 : decode cX18_leaves 2 = .ok (.invokevirtual 128, 3) := dk_182 0 128 (dk_at dksX18_leaves_0 2 rfl rfl)
theorem dX18_leaves_5 : decode cX18_leaves 5 = .ok (.anewarray 146, 3) := dk_189 0 146 (dk_at dksX18_leaves_0 5 rfl rfl)
theorem dX18_leaves_8 : decode cX18_leaves 8 = .ok (.astore_n 2, 1) := dk_77 (dk_at dksX18_leaves_0 8 rfl rfl)
theorem dX18_leaves_9 : decode cX18_leaves 9 = .ok (.iconst 0, 1) := dk_3 (dk_at dksX18_leaves_0 9 rfl rfl)
theorem dX18_leaves_10 : decode cX18_leaves 10 = .ok (.istore_n 3, 1) := dk_62 (dk_at dksX18_leaves_0 10 rfl rfl)
theorem dX18_leaves_11 : decode cX18_leaves 11 = .ok (.iconst 0, 1) := dk_3 (dk_at dksX18_leaves_0 11 rfl rfl)
theorem dX18_leaves_12 : decode cX18_leaves 12 = .ok (.istore 4, 2) := dk_54 4 (dk_at dksX18_leaves_0 12 rfl rfl)
theorem dX18_leaves_14 : decode cX18_leaves 14 = .ok (.iload 4, 2) := dk_21 4 (dk_at dksX18_leaves_0 14 rfl rfl)
theorem dX18_leaves_16 : decode cX18_leaves 16 = .ok (.aload_n 0, 1) := dk_42 (dk_at dksX18_leaves_0 16 rfl rfl)
theorem dX18_leaves_17 : decode cX18_leaves 17 = .ok (.getfield 3, 3) := dk_180 0 3 (dk_at dksX18_leaves_0 17 rfl rfl)
theorem dX18_leaves_20 : decode cX18_leaves 20 = .ok (.getfield 138, 3) := dk_180 0 138 (dk_at dksX18_leaves_0 20 rfl rfl)
theorem dX18_leaves_23 : decode cX18_leaves 23 = .ok (.if_icmp .ge 65, 3) := dk_162 0 65 (dk_at dksX18_leaves_1 0 rfl rfl)
theorem dX18_leaves_26 : decode cX18_leaves 26 = .ok (.aload_n 0, 1) := dk_42 (dk_at dksX18_leaves_1 3 rfl rfl)
theorem dX18_leaves_27 : decode cX18_leaves 27 = .ok (.getfield 3, 3) := dk_180 0 3 (dk_at dksX18_leaves_1 4 rfl rfl)
theorem dX18_leaves_30 : decode cX18_leaves 30 = .ok (.getfield 141, 3) := dk_180 0 141 (dk_at dksX18_leaves_1 7 rfl rfl)
theorem dX18_leaves_33 : decode cX18_leaves 33 = .ok (.iload 4, 2) := dk_21 4 (dk_at dksX18_leaves_1 10 rfl rfl)
theorem dX18_leaves_35 : decode cX18_leaves 35 = .ok (.aaload, 1) := dk_50 (dk_at dksX18_leaves_1 12 rfl rfl)
theorem dX18_leaves_36 : decode cX18_leaves 36 = .ok (.getfield 145, 3) := dk_180 0 145 (dk_at dksX18_leaves_1 13 rfl rfl)
theorem dX18_leaves_39 : decode cX18_leaves 39 = .ok (.ifCond .ne 43, 3) := dk_154 0 43 (dk_at dksX18_leaves_1 16 rfl rfl)
theorem dX18_leaves_42 : decode cX18_leaves 42 = .ok (.aload_n 0, 1) := dk_42 (dk_at dksX18_leaves_1 19 rfl rfl)
theorem dX18_leaves_43 : decode cX18_leaves 43 = .ok (.getfield 3, 3) := dk_180 0 3 (dk_at dksX18_leaves_1 20 rfl rfl)
theorem dX18_leaves_46 : decode cX18_leaves 46 = .ok (.getfield 141, 3) := dk_180 0 141 (dk_at dksX18_leaves_2 0 rfl rfl)
theorem dX18_leaves_49 : decode cX18_leaves 49 = .ok (.iload 4, 2) := dk_21 4 (dk_at dksX18_leaves_2 3 rfl rfl)
theorem dX18_leaves_51 : decode cX18_leaves 51 = .ok (.aaload, 1) := dk_50 (dk_at dksX18_leaves_2 5 rfl rfl)
theorem dX18_leaves_52 : decode cX18_leaves 52 = .ok (.aload_n 0, 1) := dk_42 (dk_at dksX18_leaves_2 6 rfl rfl)
theorem dX18_leaves_53 : decode cX18_leaves 53 = .ok (.getfield 3, 3) := dk_180 0 3 (dk_at dksX18_leaves_2 7 rfl rfl)
theorem dX18_leaves_56 : decode cX18_leaves 56 = .ok (.iload_n 1, 1) := dk_27 (dk_at dksX18_leaves_2 10 rfl rfl)
theorem dX18_leaves_57 : decode cX18_leaves 57 = .ok (.invokevirtual 151, 3) := dk_182 0 151 (dk_at dksX18_leaves_2 11 rfl rfl)
theorem dX18_leaves_60 : decode cX18_leaves 60 = .ok (.invokevirtual 155, 3) := dk_182 0 155 (dk_at dksX18_leaves_2 14 rfl rfl)
theorem dX18_leaves_63 : decode cX18_leaves 63 = .ok (.ifCond .eq 19, 3) := dk_153 0 19 (dk_at dksX18_leaves_2 17 rfl rfl)
theorem dX18_leaves_66 : decode cX18_leaves 66 = .ok (.aload_n 2, 1) := dk_44 (dk_at dksX18_leaves_2 20 rfl rfl)
theorem dX18_leaves_67 : decode cX18_leaves 67 = .ok (.iload_n 3, 1) := dk_29 (dk_at dksX18_leaves_2 21 rfl rfl)
theorem dX18_leaves_68 : decode cX18_leaves 68 = .ok (.aload_n 0, 1) := dk_42 (dk_at dksX18_leaves_2 22 rfl rfl)
theorem dX18_leaves_69 : decode cX18_leaves 69 = .ok (.getfield 3, 3) := dk_180 0 3 (dk_at dksX18_leaves_3 0 rfl rfl)
theorem dX18_leaves_72 : decode cX18_leaves 72 = .ok (.getfield 141, 3) := dk_180 0 141 (dk_at dksX18_leaves_3 3 rfl rfl)
theorem dX18_leaves_75 : decode cX18_leaves 75 = .ok (.iload 4, 2) := dk_21 4 (dk_at dksX18_leaves_3 6 rfl rfl)
theorem dX18_leaves_77 : decode cX18_leaves 77 = .ok (.aaload, 1) := dk_50 (dk_at dksX18_leaves_3 8 rfl rfl)
theorem dX18_leaves_78 : decode cX18_leaves 78 = .ok (.aastore, 1) := dk_83 (dk_at dksX18_leaves_3 9 rfl rfl)
theorem dX18_leaves_79 : decode cX18_leaves 79 = .ok (.iinc 3 1, 3) := dk_132 3 1 (dk_at dksX18_leaves_3 10 rfl rfl)
theorem dX18_leaves_82 : decode cX18_leaves 82 = .ok (.iinc 4 1, 3) := dk_132 4 1 (dk_at dksX18_leaves_3 13 rfl rfl)
theorem dX18_leaves_85 : decode cX18_leaves 85 = .ok (.goto (-71), 3) := dk_167 255 185 (dk_at dksX18_leaves_3 16 rfl rfl)
theorem dX18_leaves_88 : decode cX18_leaves 88 = .ok (.aload_n 2, 1) := dk_44 (dk_at dksX18_leaves_3 19 rfl rfl)
theorem dX18_leaves_89 : decode cX18_leaves 89 = .ok (.areturn, 1) := dk_176 (dk_at dksX18_leaves_3 20 rfl rfl)
abbrev cX18_byTruth : ByteArray := prog_13_method_15_code
def yX18_byTruth : MethodName := ⟨RX18, "byTruth", "(ILLetterPost$Place;[LLetterPost$Row;I)LLetterPost$Node;"⟩
def dkwX18_byTruth_3 : List UInt8 := [180, 0, 202, 44, 180, 0, 174, 3, 79, 25, 5, 176]
abbrev dktX18_byTruth_3 : List UInt8 := dkwX18_byTruth_3 ++ []
def dkwX18_byTruth_2 : List UInt8 := [180, 0, 211, 21, 6, 42, 45, 21, 4, 182, 0, 109, 83, 132, 6, 1, 167, 255, 216, 42, 180, 0, 34]
abbrev dktX18_byTruth_2 : List UInt8 := dkwX18_byTruth_2 ++ dktX18_byTruth_3
def dkwX18_byTruth_1 : List UInt8 := [21, 6, 5, 162, 0, 40, 42, 180, 0, 34, 180, 0, 202, 44, 180, 0, 174, 21, 6, 4, 96, 79, 25, 5]
abbrev dktX18_byTruth_1 : List UInt8 := dkwX18_byTruth_1 ++ dktX18_byTruth_2
def dkwX18_byTruth_0 : List UInt8 := [187, 0, 206, 89, 27, 44, 183, 0, 208, 58, 5, 25, 5, 5, 189, 0, 107, 181, 0, 211, 3, 54, 6]
abbrev dktX18_byTruth_0 : List UInt8 := dkwX18_byTruth_0 ++ dktX18_byTruth_1
theorem dksX18_byTruth_0 : cX18_byTruth.data.toList.drop 0 = dktX18_byTruth_0 := by decide +kernel
theorem dksX18_byTruth_1 : cX18_byTruth.data.toList.drop 23 = dktX18_byTruth_1 := dk_seg dksX18_byTruth_0 23 rfl rfl
theorem dksX18_byTruth_2 : cX18_byTruth.data.toList.drop 47 = dktX18_byTruth_2 := dk_seg dksX18_byTruth_1 24 rfl rfl
theorem dksX18_byTruth_3 : cX18_byTruth.data.toList.drop 70 = dktX18_byTruth_3 := dk_seg dksX18_byTruth_2 23 rfl rfl
theorem dX18_byTruth_0 : decode cX18_byTruth 0 = .ok (.new 206, 3) := dk_187 0 206 (dk_at dksX18_byTruth_0 0 rfl rfl)
theorem dX18_byTruth_3 : decode cX18_byTruth 3 = .ok (.dup, 1) := dk_89 (dk_at dksX18_byTruth_0 3 rfl rfl)
theorem dX18_byTruth_4 : decode cX18_byTruth 4 = .ok (.iload_n 1, 1) := dk_27 (dk_at dksX18_byTruth_0 4 rfl rfl)
theorem dX18_byTruth_5 : decode cX18_byTruth 5 = .ok (.aload_n 2, 1) := dk_44 (dk_at dksX18_byTruth_0 5 rfl rfl)
theorem dX18_byTruth_6 : decode cX18_byTruth 6 = .ok (.invokespecial 208, 3) := dk_183 0 208 (dk_at dksX18_byTruth_0 6 rfl rfl)
theorem dX18_byTruth_9 : decode cX18_byTruth 9 = .ok (.astore 5, 2) := dk_58 5 (dk_at dksX18_byTruth_0 9 rfl rfl)
theorem dX18_byTruth_11 : decode cX18_byTruth 11 = .ok (.aload 5, 2) := dk_25 5 (dk_at dksX18_byTruth_0 11 rfl rfl)
theorem dX18_byTruth_13 : decode cX18_byTruth 13 = .ok (.iconst 2, 1) := dk_5 (dk_at dksX18_byTruth_0 13 rfl rfl)
theorem dX18_byTruth_14 : decode cX18_byTruth 14 = .ok (.anewarray 107, 3) := dk_189 0 107 (dk_at dksX18_byTruth_0 14 rfl rfl)
theorem dX18_byTruth_17 : decode cX18_byTruth 17 = .ok (.putfield 211, 3) := dk_181 0 211 (dk_at dksX18_byTruth_0 17 rfl rfl)
theorem dX18_byTruth_20 : decode cX18_byTruth 20 = .ok (.iconst 0, 1) := dk_3 (dk_at dksX18_byTruth_0 20 rfl rfl)
theorem dX18_byTruth_21 : decode cX18_byTruth 21 = .ok (.istore 6, 2) := dk_54 6 (dk_at dksX18_byTruth_0 21 rfl rfl)
theorem dX18_byTruth_23 : decode cX18_byTruth 23 = .ok (.iload 6, 2) := dk_21 6 (dk_at dksX18_byTruth_1 0 rfl rfl)
theorem dX18_byTruth_25 : decode cX18_byTruth 25 = .ok (.iconst 2, 1) := dk_5 (dk_at dksX18_byTruth_1 2 rfl rfl)
theorem dX18_byTruth_26 : decode cX18_byTruth 26 = .ok (.if_icmp .ge 40, 3) := dk_162 0 40 (dk_at dksX18_byTruth_1 3 rfl rfl)
theorem dX18_byTruth_29 : decode cX18_byTruth 29 = .ok (.aload_n 0, 1) := dk_42 (dk_at dksX18_byTruth_1 6 rfl rfl)
theorem dX18_byTruth_30 : decode cX18_byTruth 30 = .ok (.getfield 34, 3) := dk_180 0 34 (dk_at dksX18_byTruth_1 7 rfl rfl)
theorem dX18_byTruth_33 : decode cX18_byTruth 33 = .ok (.getfield 202, 3) := dk_180 0 202 (dk_at dksX18_byTruth_1 10 rfl rfl)
theorem dX18_byTruth_36 : decode cX18_byTruth 36 = .ok (.aload_n 2, 1) := dk_44 (dk_at dksX18_byTruth_1 13 rfl rfl)
theorem dX18_byTruth_37 : decode cX18_byTruth 37 = .ok (.getfield 174, 3) := dk_180 0 174 (dk_at dksX18_byTruth_1 14 rfl rfl)
theorem dX18_byTruth_40 : decode cX18_byTruth 40 = .ok (.iload 6, 2) := dk_21 6 (dk_at dksX18_byTruth_1 17 rfl rfl)
theorem dX18_byTruth_42 : decode cX18_byTruth 42 = .ok (.iconst 1, 1) := dk_4 (dk_at dksX18_byTruth_1 19 rfl rfl)
theorem dX18_byTruth_43 : decode cX18_byTruth 43 = .ok (.iadd, 1) := dk_96 (dk_at dksX18_byTruth_1 20 rfl rfl)
theorem dX18_byTruth_44 : decode cX18_byTruth 44 = .ok (.iastore, 1) := dk_79 (dk_at dksX18_byTruth_1 21 rfl rfl)
theorem dX18_byTruth_45 : decode cX18_byTruth 45 = .ok (.aload 5, 2) := dk_25 5 (dk_at dksX18_byTruth_1 22 rfl rfl)
theorem dX18_byTruth_47 : decode cX18_byTruth 47 = .ok (.getfield 211, 3) := dk_180 0 211 (dk_at dksX18_byTruth_2 0 rfl rfl)
theorem dX18_byTruth_50 : decode cX18_byTruth 50 = .ok (.iload 6, 2) := dk_21 6 (dk_at dksX18_byTruth_2 3 rfl rfl)
theorem dX18_byTruth_52 : decode cX18_byTruth 52 = .ok (.aload_n 0, 1) := dk_42 (dk_at dksX18_byTruth_2 5 rfl rfl)
theorem dX18_byTruth_53 : decode cX18_byTruth 53 = .ok (.aload_n 3, 1) := dk_45 (dk_at dksX18_byTruth_2 6 rfl rfl)
theorem dX18_byTruth_54 : decode cX18_byTruth 54 = .ok (.iload 4, 2) := dk_21 4 (dk_at dksX18_byTruth_2 7 rfl rfl)
theorem dX18_byTruth_56 : decode cX18_byTruth 56 = .ok (.invokevirtual 109, 3) := dk_182 0 109 (dk_at dksX18_byTruth_2 9 rfl rfl)
theorem dX18_byTruth_59 : decode cX18_byTruth 59 = .ok (.aastore, 1) := dk_83 (dk_at dksX18_byTruth_2 12 rfl rfl)
theorem dX18_byTruth_60 : decode cX18_byTruth 60 = .ok (.iinc 6 1, 3) := dk_132 6 1 (dk_at dksX18_byTruth_2 13 rfl rfl)
theorem dX18_byTruth_63 : decode cX18_byTruth 63 = .ok (.goto (-40), 3) := dk_167 255 216 (dk_at dksX18_byTruth_2 16 rfl rfl)
theorem dX18_byTruth_66 : decode cX18_byTruth 66 = .ok (.aload_n 0, 1) := dk_42 (dk_at dksX18_byTruth_2 19 rfl rfl)
theorem dX18_byTruth_67 : decode cX18_byTruth 67 = .ok (.getfield 34, 3) := dk_180 0 34 (dk_at dksX18_byTruth_2 20 rfl rfl)
theorem dX18_byTruth_70 : decode cX18_byTruth 70 = .ok (.getfield 202, 3) := dk_180 0 202 (dk_at dksX18_byTruth_3 0 rfl rfl)
theorem dX18_byTruth_73 : decode cX18_byTruth 73 = .ok (.aload_n 2, 1) := dk_44 (dk_at dksX18_byTruth_3 3 rfl rfl)
theorem dX18_byTruth_74 : decode cX18_byTruth 74 = .ok (.getfield 174, 3) := dk_180 0 174 (dk_at dksX18_byTruth_3 4 rfl rfl)
theorem dX18_byTruth_77 : decode cX18_byTruth 77 = .ok (.iconst 0, 1) := dk_3 (dk_at dksX18_byTruth_3 7 rfl rfl)
theorem dX18_byTruth_78 : decode cX18_byTruth 78 = .ok (.iastore, 1) := dk_79 (dk_at dksX18_byTruth_3 8 rfl rfl)
theorem dX18_byTruth_79 : decode cX18_byTruth 79 = .ok (.aload 5, 2) := dk_25 5 (dk_at dksX18_byTruth_3 9 rfl rfl)
theorem dX18_byTruth_81 : decode cX18_byTruth 81 = .ok (.areturn, 1) := dk_176 (dk_at dksX18_byTruth_3 11 rfl rfl)
abbrev cX18_byText : ByteArray := prog_13_method_16_code
def yX18_byText : MethodName := ⟨RX18, "byText", "(ILLetterPost$Place;[LLetterPost$Row;I)LLetterPost$Node;"⟩
def dkwX18_byText_9 : List UInt8 := [42, 180, 0, 34, 21, 7, 181, 0, 226, 25, 5, 176]
abbrev dktX18_byText_9 : List UInt8 := dkwX18_byText_9 ++ []
def dkwX18_byText_8 : List UInt8 := [181, 0, 226, 132, 8, 1, 167, 255, 194, 25, 5, 180, 0, 223, 21, 6, 42, 45, 21, 4, 182, 0, 109, 83]
abbrev dktX18_byText_8 : List UInt8 := dkwX18_byText_8 ++ dktX18_byText_9
def dkwX18_byText_7 : List UInt8 := [180, 0, 226, 25, 5, 180, 0, 221, 21, 8, 47, 80, 42, 180, 0, 34, 89, 180, 0, 226, 4, 96]
abbrev dktX18_byText_7 : List UInt8 := dkwX18_byText_7 ++ dktX18_byText_8
def dkwX18_byText_6 : List UInt8 := [180, 0, 229, 42, 180, 0, 34, 180, 0, 226, 44, 83, 42, 180, 0, 34, 180, 0, 232, 42, 180, 0, 34]
abbrev dktX18_byText_6 : List UInt8 := dkwX18_byText_6 ++ dktX18_byText_7
def dkwX18_byText_5 : List UInt8 := [180, 0, 34, 180, 0, 226, 54, 7, 3, 54, 8, 21, 8, 21, 6, 162, 0, 61, 42, 180, 0, 34]
abbrev dktX18_byText_5 : List UInt8 := dkwX18_byText_5 ++ dktX18_byText_6
def dkwX18_byText_4 : List UInt8 := [182, 0, 109, 83, 132, 7, 1, 167, 255, 198, 42, 180, 0, 34, 180, 0, 202, 44, 180, 0, 174, 3, 79, 42]
abbrev dktX18_byText_4 : List UInt8 := dkwX18_byText_4 ++ dktX18_byText_5
def dkwX18_byText_3 : List UInt8 := [180, 0, 174, 25, 5, 180, 0, 221, 21, 7, 47, 80, 25, 5, 180, 0, 223, 21, 7, 42, 45, 21, 4]
abbrev dktX18_byText_3 : List UInt8 := dkwX18_byText_3 ++ dktX18_byText_4
def dkwX18_byText_2 : List UInt8 := [162, 0, 57, 42, 180, 0, 34, 180, 0, 202, 44, 180, 0, 174, 4, 79, 42, 180, 0, 34, 180, 0, 224, 44]
abbrev dktX18_byText_2 : List UInt8 := dkwX18_byText_2 ++ dktX18_byText_3
def dkwX18_byText_1 : List UInt8 := [190, 54, 6, 25, 5, 21, 6, 4, 96, 189, 0, 107, 181, 0, 223, 3, 54, 7, 21, 7, 21, 6]
abbrev dktX18_byText_1 : List UInt8 := dkwX18_byText_1 ++ dktX18_byText_2
def dkwX18_byText_0 : List UInt8 := [187, 0, 212, 89, 27, 44, 42, 45, 21, 4, 44, 182, 0, 214, 183, 0, 218, 58, 5, 25, 5, 180, 0, 221]
abbrev dktX18_byText_0 : List UInt8 := dkwX18_byText_0 ++ dktX18_byText_1
theorem dksX18_byText_0 : cX18_byText.data.toList.drop 0 = dktX18_byText_0 := by decide +kernel
theorem dksX18_byText_1 : cX18_byText.data.toList.drop 24 = dktX18_byText_1 := dk_seg dksX18_byText_0 24 rfl rfl
theorem dksX18_byText_2 : cX18_byText.data.toList.drop 46 = dktX18_byText_2 := dk_seg dksX18_byText_1 22 rfl rfl
theorem dksX18_byText_3 : cX18_byText.data.toList.drop 70 = dktX18_byText_3 := dk_seg dksX18_byText_2 24 rfl rfl
theorem dksX18_byText_4 : cX18_byText.data.toList.drop 93 = dktX18_byText_4 := dk_seg dksX18_byText_3 23 rfl rfl
theorem dksX18_byText_5 : cX18_byText.data.toList.drop 117 = dktX18_byText_5 := dk_seg dksX18_byText_4 24 rfl rfl
theorem dksX18_byText_6 : cX18_byText.data.toList.drop 139 = dktX18_byText_6 := dk_seg dksX18_byText_5 22 rfl rfl
theorem dksX18_byText_7 : cX18_byText.data.toList.drop 162 = dktX18_byText_7 := dk_seg dksX18_byText_6 23 rfl rfl
theorem dksX18_byText_8 : cX18_byText.data.toList.drop 184 = dktX18_byText_8 := dk_seg dksX18_byText_7 22 rfl rfl
theorem dksX18_byText_9 : cX18_byText.data.toList.drop 208 = dktX18_byText_9 := dk_seg dksX18_byText_8 24 rfl rfl
theorem dX18_byText_0 : decode cX18_byText 0 = .ok (.new 212, 3) := dk_187 0 212 (dk_at dksX18_byText_0 0 rfl rfl)
theorem dX18_byText_3 : decode cX18_byText 3 = .ok (.dup, 1) := dk_89 (dk_at dksX18_byText_0 3 rfl rfl)
theorem dX18_byText_4 : decode cX18_byText 4 = .ok (.iload_n 1, 1) := dk_27 (dk_at dksX18_byText_0 4 rfl rfl)
theorem dX18_byText_5 : decode cX18_byText 5 = .ok (.aload_n 2, 1) := dk_44 (dk_at dksX18_byText_0 5 rfl rfl)
theorem dX18_byText_6 : decode cX18_byText 6 = .ok (.aload_n 0, 1) := dk_42 (dk_at dksX18_byText_0 6 rfl rfl)
theorem dX18_byText_7 : decode cX18_byText 7 = .ok (.aload_n 3, 1) := dk_45 (dk_at dksX18_byText_0 7 rfl rfl)
theorem dX18_byText_8 : decode cX18_byText 8 = .ok (.iload 4, 2) := dk_21 4 (dk_at dksX18_byText_0 8 rfl rfl)
theorem dX18_byText_10 : decode cX18_byText 10 = .ok (.aload_n 2, 1) := dk_44 (dk_at dksX18_byText_0 10 rfl rfl)
theorem dX18_byText_11 : decode cX18_byText 11 = .ok (.invokevirtual 214, 3) := dk_182 0 214 (dk_at dksX18_byText_0 11 rfl rfl)
theorem dX18_byText_14 : decode cX18_byText 14 = .ok (.invokespecial 218, 3) := dk_183 0 218 (dk_at dksX18_byText_0 14 rfl rfl)
theorem dX18_byText_17 : decode cX18_byText 17 = .ok (.astore 5, 2) := dk_58 5 (dk_at dksX18_byText_0 17 rfl rfl)
theorem dX18_byText_19 : decode cX18_byText 19 = .ok (.aload 5, 2) := dk_25 5 (dk_at dksX18_byText_0 19 rfl rfl)
theorem dX18_byText_21 : decode cX18_byText 21 = .ok (.getfield 221, 3) := dk_180 0 221 (dk_at dksX18_byText_0 21 rfl rfl)
theorem dX18_byText_24 : decode cX18_byText 24 = .ok (.arraylength, 1) := dk_190 (dk_at dksX18_byText_1 0 rfl rfl)
theorem dX18_byText_25 : decode cX18_byText 25 = .ok (.istore 6, 2) := dk_54 6 (dk_at dksX18_byText_1 1 rfl rfl)
theorem dX18_byText_27 : decode cX18_byText 27 = .ok (.aload 5, 2) := dk_25 5 (dk_at dksX18_byText_1 3 rfl rfl)
theorem dX18_byText_29 : decode cX18_byText 29 = .ok (.iload 6, 2) := dk_21 6 (dk_at dksX18_byText_1 5 rfl rfl)
theorem dX18_byText_31 : decode cX18_byText 31 = .ok (.iconst 1, 1) := dk_4 (dk_at dksX18_byText_1 7 rfl rfl)
theorem dX18_byText_32 : decode cX18_byText 32 = .ok (.iadd, 1) := dk_96 (dk_at dksX18_byText_1 8 rfl rfl)
theorem dX18_byText_33 : decode cX18_byText 33 = .ok (.anewarray 107, 3) := dk_189 0 107 (dk_at dksX18_byText_1 9 rfl rfl)
theorem dX18_byText_36 : decode cX18_byText 36 = .ok (.putfield 223, 3) := dk_181 0 223 (dk_at dksX18_byText_1 12 rfl rfl)
theorem dX18_byText_39 : decode cX18_byText 39 = .ok (.iconst 0, 1) := dk_3 (dk_at dksX18_byText_1 15 rfl rfl)
theorem dX18_byText_40 : decode cX18_byText 40 = .ok (.istore 7, 2) := dk_54 7 (dk_at dksX18_byText_1 16 rfl rfl)
theorem dX18_byText_42 : decode cX18_byText 42 = .ok (.iload 7, 2) := dk_21 7 (dk_at dksX18_byText_1 18 rfl rfl)
theorem dX18_byText_44 : decode cX18_byText 44 = .ok (.iload 6, 2) := dk_21 6 (dk_at dksX18_byText_1 20 rfl rfl)
theorem dX18_byText_46 : decode cX18_byText 46 = .ok (.if_icmp .ge 57, 3) := dk_162 0 57 (dk_at dksX18_byText_2 0 rfl rfl)
theorem dX18_byText_49 : decode cX18_byText 49 = .ok (.aload_n 0, 1) := dk_42 (dk_at dksX18_byText_2 3 rfl rfl)
theorem dX18_byText_50 : decode cX18_byText 50 = .ok (.getfield 34, 3) := dk_180 0 34 (dk_at dksX18_byText_2 4 rfl rfl)
theorem dX18_byText_53 : decode cX18_byText 53 = .ok (.getfield 202, 3) := dk_180 0 202 (dk_at dksX18_byText_2 7 rfl rfl)
theorem dX18_byText_56 : decode cX18_byText 56 = .ok (.aload_n 2, 1) := dk_44 (dk_at dksX18_byText_2 10 rfl rfl)
theorem dX18_byText_57 : decode cX18_byText 57 = .ok (.getfield 174, 3) := dk_180 0 174 (dk_at dksX18_byText_2 11 rfl rfl)
theorem dX18_byText_60 : decode cX18_byText 60 = .ok (.iconst 1, 1) := dk_4 (dk_at dksX18_byText_2 14 rfl rfl)
theorem dX18_byText_61 : decode cX18_byText 61 = .ok (.iastore, 1) := dk_79 (dk_at dksX18_byText_2 15 rfl rfl)
theorem dX18_byText_62 : decode cX18_byText 62 = .ok (.aload_n 0, 1) := dk_42 (dk_at dksX18_byText_2 16 rfl rfl)
theorem dX18_byText_63 : decode cX18_byText 63 = .ok (.getfield 34, 3) := dk_180 0 34 (dk_at dksX18_byText_2 17 rfl rfl)
theorem dX18_byText_66 : decode cX18_byText 66 = .ok (.getfield 224, 3) := dk_180 0 224 (dk_at dksX18_byText_2 20 rfl rfl)
theorem dX18_byText_69 : decode cX18_byText 69 = .ok (.aload_n 2, 1) := dk_44 (dk_at dksX18_byText_2 23 rfl rfl)
theorem dX18_byText_70 : decode cX18_byText 70 = .ok (.getfield 174, 3) := dk_180 0 174 (dk_at dksX18_byText_3 0 rfl rfl)
theorem dX18_byText_73 : decode cX18_byText 73 = .ok (.aload 5, 2) := dk_25 5 (dk_at dksX18_byText_3 3 rfl rfl)
theorem dX18_byText_75 : decode cX18_byText 75 = .ok (.getfield 221, 3) := dk_180 0 221 (dk_at dksX18_byText_3 5 rfl rfl)
theorem dX18_byText_78 : decode cX18_byText 78 = .ok (.iload 7, 2) := dk_21 7 (dk_at dksX18_byText_3 8 rfl rfl)
theorem dX18_byText_80 : decode cX18_byText 80 = .ok (.laload, 1) := dk_47 (dk_at dksX18_byText_3 10 rfl rfl)
theorem dX18_byText_81 : decode cX18_byText 81 = .ok (.lastore, 1) := dk_80 (dk_at dksX18_byText_3 11 rfl rfl)
theorem dX18_byText_82 : decode cX18_byText 82 = .ok (.aload 5, 2) := dk_25 5 (dk_at dksX18_byText_3 12 rfl rfl)
theorem dX18_byText_84 : decode cX18_byText 84 = .ok (.getfield 223, 3) := dk_180 0 223 (dk_at dksX18_byText_3 14 rfl rfl)
theorem dX18_byText_87 : decode cX18_byText 87 = .ok (.iload 7, 2) := dk_21 7 (dk_at dksX18_byText_3 17 rfl rfl)
theorem dX18_byText_89 : decode cX18_byText 89 = .ok (.aload_n 0, 1) := dk_42 (dk_at dksX18_byText_3 19 rfl rfl)
theorem dX18_byText_90 : decode cX18_byText 90 = .ok (.aload_n 3, 1) := dk_45 (dk_at dksX18_byText_3 20 rfl rfl)
theorem dX18_byText_91 : decode cX18_byText 91 = .ok (.iload 4, 2) := dk_21 4 (dk_at dksX18_byText_3 21 rfl rfl)
theorem dX18_byText_93 : decode cX18_byText 93 = .ok (.invokevirtual 109, 3) := dk_182 0 109 (dk_at dksX18_byText_4 0 rfl rfl)
theorem dX18_byText_96 : decode cX18_byText 96 = .ok (.aastore, 1) := dk_83 (dk_at dksX18_byText_4 3 rfl rfl)
theorem dX18_byText_97 : decode cX18_byText 97 = .ok (.iinc 7 1, 3) := dk_132 7 1 (dk_at dksX18_byText_4 4 rfl rfl)
theorem dX18_byText_100 : decode cX18_byText 100 = .ok (.goto (-58), 3) := dk_167 255 198 (dk_at dksX18_byText_4 7 rfl rfl)
theorem dX18_byText_103 : decode cX18_byText 103 = .ok (.aload_n 0, 1) := dk_42 (dk_at dksX18_byText_4 10 rfl rfl)
theorem dX18_byText_104 : decode cX18_byText 104 = .ok (.getfield 34, 3) := dk_180 0 34 (dk_at dksX18_byText_4 11 rfl rfl)
theorem dX18_byText_107 : decode cX18_byText 107 = .ok (.getfield 202, 3) := dk_180 0 202 (dk_at dksX18_byText_4 14 rfl rfl)
theorem dX18_byText_110 : decode cX18_byText 110 = .ok (.aload_n 2, 1) := dk_44 (dk_at dksX18_byText_4 17 rfl rfl)
theorem dX18_byText_111 : decode cX18_byText 111 = .ok (.getfield 174, 3) := dk_180 0 174 (dk_at dksX18_byText_4 18 rfl rfl)
theorem dX18_byText_114 : decode cX18_byText 114 = .ok (.iconst 0, 1) := dk_3 (dk_at dksX18_byText_4 21 rfl rfl)
theorem dX18_byText_115 : decode cX18_byText 115 = .ok (.iastore, 1) := dk_79 (dk_at dksX18_byText_4 22 rfl rfl)
theorem dX18_byText_116 : decode cX18_byText 116 = .ok (.aload_n 0, 1) := dk_42 (dk_at dksX18_byText_4 23 rfl rfl)
theorem dX18_byText_117 : decode cX18_byText 117 = .ok (.getfield 34, 3) := dk_180 0 34 (dk_at dksX18_byText_5 0 rfl rfl)
theorem dX18_byText_120 : decode cX18_byText 120 = .ok (.getfield 226, 3) := dk_180 0 226 (dk_at dksX18_byText_5 3 rfl rfl)
theorem dX18_byText_123 : decode cX18_byText 123 = .ok (.istore 7, 2) := dk_54 7 (dk_at dksX18_byText_5 6 rfl rfl)
theorem dX18_byText_125 : decode cX18_byText 125 = .ok (.iconst 0, 1) := dk_3 (dk_at dksX18_byText_5 8 rfl rfl)
theorem dX18_byText_126 : decode cX18_byText 126 = .ok (.istore 8, 2) := dk_54 8 (dk_at dksX18_byText_5 9 rfl rfl)
theorem dX18_byText_128 : decode cX18_byText 128 = .ok (.iload 8, 2) := dk_21 8 (dk_at dksX18_byText_5 11 rfl rfl)
theorem dX18_byText_130 : decode cX18_byText 130 = .ok (.iload 6, 2) := dk_21 6 (dk_at dksX18_byText_5 13 rfl rfl)
theorem dX18_byText_132 : decode cX18_byText 132 = .ok (.if_icmp .ge 61, 3) := dk_162 0 61 (dk_at dksX18_byText_5 15 rfl rfl)
theorem dX18_byText_135 : decode cX18_byText 135 = .ok (.aload_n 0, 1) := dk_42 (dk_at dksX18_byText_5 18 rfl rfl)
theorem dX18_byText_136 : decode cX18_byText 136 = .ok (.getfield 34, 3) := dk_180 0 34 (dk_at dksX18_byText_5 19 rfl rfl)
theorem dX18_byText_139 : decode cX18_byText 139 = .ok (.getfield 229, 3) := dk_180 0 229 (dk_at dksX18_byText_6 0 rfl rfl)
theorem dX18_byText_142 : decode cX18_byText 142 = .ok (.aload_n 0, 1) := dk_42 (dk_at dksX18_byText_6 3 rfl rfl)
theorem dX18_byText_143 : decode cX18_byText 143 = .ok (.getfield 34, 3) := dk_180 0 34 (dk_at dksX18_byText_6 4 rfl rfl)
theorem dX18_byText_146 : decode cX18_byText 146 = .ok (.getfield 226, 3) := dk_180 0 226 (dk_at dksX18_byText_6 7 rfl rfl)
theorem dX18_byText_149 : decode cX18_byText 149 = .ok (.aload_n 2, 1) := dk_44 (dk_at dksX18_byText_6 10 rfl rfl)
theorem dX18_byText_150 : decode cX18_byText 150 = .ok (.aastore, 1) := dk_83 (dk_at dksX18_byText_6 11 rfl rfl)
theorem dX18_byText_151 : decode cX18_byText 151 = .ok (.aload_n 0, 1) := dk_42 (dk_at dksX18_byText_6 12 rfl rfl)
theorem dX18_byText_152 : decode cX18_byText 152 = .ok (.getfield 34, 3) := dk_180 0 34 (dk_at dksX18_byText_6 13 rfl rfl)
theorem dX18_byText_155 : decode cX18_byText 155 = .ok (.getfield 232, 3) := dk_180 0 232 (dk_at dksX18_byText_6 16 rfl rfl)
theorem dX18_byText_158 : decode cX18_byText 158 = .ok (.aload_n 0, 1) := dk_42 (dk_at dksX18_byText_6 19 rfl rfl)
theorem dX18_byText_159 : decode cX18_byText 159 = .ok (.getfield 34, 3) := dk_180 0 34 (dk_at dksX18_byText_6 20 rfl rfl)
theorem dX18_byText_162 : decode cX18_byText 162 = .ok (.getfield 226, 3) := dk_180 0 226 (dk_at dksX18_byText_7 0 rfl rfl)
theorem dX18_byText_165 : decode cX18_byText 165 = .ok (.aload 5, 2) := dk_25 5 (dk_at dksX18_byText_7 3 rfl rfl)
theorem dX18_byText_167 : decode cX18_byText 167 = .ok (.getfield 221, 3) := dk_180 0 221 (dk_at dksX18_byText_7 5 rfl rfl)
theorem dX18_byText_170 : decode cX18_byText 170 = .ok (.iload 8, 2) := dk_21 8 (dk_at dksX18_byText_7 8 rfl rfl)
theorem dX18_byText_172 : decode cX18_byText 172 = .ok (.laload, 1) := dk_47 (dk_at dksX18_byText_7 10 rfl rfl)
theorem dX18_byText_173 : decode cX18_byText 173 = .ok (.lastore, 1) := dk_80 (dk_at dksX18_byText_7 11 rfl rfl)
theorem dX18_byText_174 : decode cX18_byText 174 = .ok (.aload_n 0, 1) := dk_42 (dk_at dksX18_byText_7 12 rfl rfl)
theorem dX18_byText_175 : decode cX18_byText 175 = .ok (.getfield 34, 3) := dk_180 0 34 (dk_at dksX18_byText_7 13 rfl rfl)
theorem dX18_byText_178 : decode cX18_byText 178 = .ok (.dup, 1) := dk_89 (dk_at dksX18_byText_7 16 rfl rfl)
theorem dX18_byText_179 : decode cX18_byText 179 = .ok (.getfield 226, 3) := dk_180 0 226 (dk_at dksX18_byText_7 17 rfl rfl)
theorem dX18_byText_182 : decode cX18_byText 182 = .ok (.iconst 1, 1) := dk_4 (dk_at dksX18_byText_7 20 rfl rfl)
theorem dX18_byText_183 : decode cX18_byText 183 = .ok (.iadd, 1) := dk_96 (dk_at dksX18_byText_7 21 rfl rfl)
theorem dX18_byText_184 : decode cX18_byText 184 = .ok (.putfield 226, 3) := dk_181 0 226 (dk_at dksX18_byText_8 0 rfl rfl)
theorem dX18_byText_187 : decode cX18_byText 187 = .ok (.iinc 8 1, 3) := dk_132 8 1 (dk_at dksX18_byText_8 3 rfl rfl)
theorem dX18_byText_190 : decode cX18_byText 190 = .ok (.goto (-62), 3) := dk_167 255 194 (dk_at dksX18_byText_8 6 rfl rfl)
theorem dX18_byText_193 : decode cX18_byText 193 = .ok (.aload 5, 2) := dk_25 5 (dk_at dksX18_byText_8 9 rfl rfl)
theorem dX18_byText_195 : decode cX18_byText 195 = .ok (.getfield 223, 3) := dk_180 0 223 (dk_at dksX18_byText_8 11 rfl rfl)
theorem dX18_byText_198 : decode cX18_byText 198 = .ok (.iload 6, 2) := dk_21 6 (dk_at dksX18_byText_8 14 rfl rfl)
theorem dX18_byText_200 : decode cX18_byText 200 = .ok (.aload_n 0, 1) := dk_42 (dk_at dksX18_byText_8 16 rfl rfl)
theorem dX18_byText_201 : decode cX18_byText 201 = .ok (.aload_n 3, 1) := dk_45 (dk_at dksX18_byText_8 17 rfl rfl)
theorem dX18_byText_202 : decode cX18_byText 202 = .ok (.iload 4, 2) := dk_21 4 (dk_at dksX18_byText_8 18 rfl rfl)
theorem dX18_byText_204 : decode cX18_byText 204 = .ok (.invokevirtual 109, 3) := dk_182 0 109 (dk_at dksX18_byText_8 20 rfl rfl)
theorem dX18_byText_207 : decode cX18_byText 207 = .ok (.aastore, 1) := dk_83 (dk_at dksX18_byText_8 23 rfl rfl)
theorem dX18_byText_208 : decode cX18_byText 208 = .ok (.aload_n 0, 1) := dk_42 (dk_at dksX18_byText_9 0 rfl rfl)
theorem dX18_byText_209 : decode cX18_byText 209 = .ok (.getfield 34, 3) := dk_180 0 34 (dk_at dksX18_byText_9 1 rfl rfl)
theorem dX18_byText_212 : decode cX18_byText 212 = .ok (.iload 7, 2) := dk_21 7 (dk_at dksX18_byText_9 4 rfl rfl)
theorem dX18_byText_214 : decode cX18_byText 214 = .ok (.putfield 226, 3) := dk_181 0 226 (dk_at dksX18_byText_9 6 rfl rfl)
theorem dX18_byText_217 : decode cX18_byText 217 = .ok (.aload 5, 2) := dk_25 5 (dk_at dksX18_byText_9 9 rfl rfl)
theorem dX18_byText_219 : decode cX18_byText 219 = .ok (.areturn, 1) := dk_176 (dk_at dksX18_byText_9 11 rfl rfl)
abbrev cX18_texts : ByteArray := prog_13_method_10_code
def yX18_texts : MethodName := ⟨RX18, "texts", "([LLetterPost$Row;ILLetterPost$Place;)[J"⟩
def dkwX18_texts_1 : List UInt8 := [184, 0, 165, 25, 4, 176]
abbrev dktX18_texts_1 : List UInt8 := dkwX18_texts_1 ++ []
def dkwX18_texts_0 : List UInt8 := [42, 43, 28, 45, 182, 0, 132, 188, 11, 58, 4, 42, 180, 0, 15, 3, 25, 4, 3, 25, 4, 190]
abbrev dktX18_texts_0 : List UInt8 := dkwX18_texts_0 ++ dktX18_texts_1
theorem dksX18_texts_0 : cX18_texts.data.toList.drop 0 = dktX18_texts_0 := by decide +kernel
theorem dksX18_texts_1 : cX18_texts.data.toList.drop 22 = dktX18_texts_1 := dk_seg dksX18_texts_0 22 rfl rfl
theorem dX18_texts_0 : decode cX18_texts 0 = .ok (.aload_n 0, 1) := dk_42 (dk_at dksX18_texts_0 0 rfl rfl)
theorem dX18_texts_1 : decode cX18_texts 1 = .ok (.aload_n 1, 1) := dk_43 (dk_at dksX18_texts_0 1 rfl rfl)
theorem dX18_texts_2 : decode cX18_texts 2 = .ok (.iload_n 2, 1) := dk_28 (dk_at dksX18_texts_0 2 rfl rfl)
theorem dX18_texts_3 : decode cX18_texts 3 = .ok (.aload_n 3, 1) := dk_45 (dk_at dksX18_texts_0 3 rfl rfl)
theorem dX18_texts_4 : decode cX18_texts 4 = .ok (.invokevirtual 132, 3) := dk_182 0 132 (dk_at dksX18_texts_0 4 rfl rfl)
theorem dX18_texts_7 : decode cX18_texts 7 = .ok (.newarray .long, 2) := dk_188_11 (dk_at dksX18_texts_0 7 rfl rfl)
theorem dX18_texts_9 : decode cX18_texts 9 = .ok (.astore 4, 2) := dk_58 4 (dk_at dksX18_texts_0 9 rfl rfl)
theorem dX18_texts_11 : decode cX18_texts 11 = .ok (.aload_n 0, 1) := dk_42 (dk_at dksX18_texts_0 11 rfl rfl)
theorem dX18_texts_12 : decode cX18_texts 12 = .ok (.getfield 15, 3) := dk_180 0 15 (dk_at dksX18_texts_0 12 rfl rfl)
theorem dX18_texts_15 : decode cX18_texts 15 = .ok (.iconst 0, 1) := dk_3 (dk_at dksX18_texts_0 15 rfl rfl)
theorem dX18_texts_16 : decode cX18_texts 16 = .ok (.aload 4, 2) := dk_25 4 (dk_at dksX18_texts_0 16 rfl rfl)
theorem dX18_texts_18 : decode cX18_texts 18 = .ok (.iconst 0, 1) := dk_3 (dk_at dksX18_texts_0 18 rfl rfl)
theorem dX18_texts_19 : decode cX18_texts 19 = .ok (.aload 4, 2) := dk_25 4 (dk_at dksX18_texts_0 19 rfl rfl)
theorem dX18_texts_21 : decode cX18_texts 21 = .ok (.arraylength, 1) := dk_190 (dk_at dksX18_texts_0 21 rfl rfl)
theorem dX18_texts_22 : decode cX18_texts 22 = .ok (.invokestatic 165, 3) := dk_184 0 165 (dk_at dksX18_texts_1 0 rfl rfl)
theorem dX18_texts_25 : decode cX18_texts 25 = .ok (.aload 4, 2) := dk_25 4 (dk_at dksX18_texts_1 3 rfl rfl)
theorem dX18_texts_27 : decode cX18_texts 27 = .ok (.areturn, 1) := dk_176 (dk_at dksX18_texts_1 5 rfl rfl)
abbrev cX18_byWhole : ByteArray := prog_13_method_17_code
def yX18_byWhole : MethodName := ⟨RX18, "byWhole", "(ILLetterPost$Place;[LLetterPost$Row;I)LLetterPost$Node;"⟩
def dkwX18_byWhole_7 : List UInt8 := [42, 180, 0, 34, 180, 0, 177, 44, 180, 0, 174, 21, 7, 79, 25, 5, 176]
abbrev dktX18_byWhole_7 : List UInt8 := dkwX18_byWhole_7 ++ []
def dkwX18_byWhole_6 : List UInt8 := [182, 0, 109, 83, 132, 8, 1, 167, 255, 173, 42, 180, 0, 34, 180, 0, 171, 44, 180, 0, 174, 21, 6, 79]
abbrev dktX18_byWhole_6 : List UInt8 := dkwX18_byWhole_6 ++ dktX18_byWhole_7
def dkwX18_byWhole_5 : List UInt8 := [180, 0, 174, 25, 5, 180, 0, 244, 21, 8, 46, 79, 25, 5, 180, 0, 247, 21, 8, 42, 45, 21, 4]
abbrev dktX18_byWhole_5 : List UInt8 := dkwX18_byWhole_5 ++ dktX18_byWhole_6
def dkwX18_byWhole_4 : List UInt8 := [167, 0, 15, 25, 5, 180, 0, 244, 21, 8, 4, 100, 46, 4, 96, 79, 42, 180, 0, 34, 180, 0, 177, 44]
abbrev dktX18_byWhole_4 : List UInt8 := dkwX18_byWhole_4 ++ dktX18_byWhole_5
def dkwX18_byWhole_3 : List UInt8 := [190, 162, 0, 78, 42, 180, 0, 34, 180, 0, 171, 44, 180, 0, 174, 21, 8, 154, 0, 8, 21, 6]
abbrev dktX18_byWhole_3 : List UInt8 := dkwX18_byWhole_3 ++ dktX18_byWhole_4
def dkwX18_byWhole_2 : List UInt8 := [25, 5, 25, 5, 180, 0, 244, 190, 189, 0, 107, 181, 0, 247, 3, 54, 8, 21, 8, 25, 5, 180, 0, 247]
abbrev dktX18_byWhole_2 : List UInt8 := dkwX18_byWhole_2 ++ dktX18_byWhole_3
def dkwX18_byWhole_1 : List UInt8 := [180, 0, 171, 44, 180, 0, 174, 46, 54, 6, 42, 180, 0, 34, 180, 0, 177, 44, 180, 0, 174, 46, 54, 7]
abbrev dktX18_byWhole_1 : List UInt8 := dkwX18_byWhole_1 ++ dktX18_byWhole_2
def dkwX18_byWhole_0 : List UInt8 := [187, 0, 235, 89, 27, 44, 42, 45, 21, 4, 44, 182, 0, 237, 183, 0, 241, 58, 5, 42, 180, 0, 34]
abbrev dktX18_byWhole_0 : List UInt8 := dkwX18_byWhole_0 ++ dktX18_byWhole_1
theorem dksX18_byWhole_0 : cX18_byWhole.data.toList.drop 0 = dktX18_byWhole_0 := by decide +kernel
theorem dksX18_byWhole_1 : cX18_byWhole.data.toList.drop 23 = dktX18_byWhole_1 := dk_seg dksX18_byWhole_0 23 rfl rfl
theorem dksX18_byWhole_2 : cX18_byWhole.data.toList.drop 47 = dktX18_byWhole_2 := dk_seg dksX18_byWhole_1 24 rfl rfl
theorem dksX18_byWhole_3 : cX18_byWhole.data.toList.drop 71 = dktX18_byWhole_3 := dk_seg dksX18_byWhole_2 24 rfl rfl
theorem dksX18_byWhole_4 : cX18_byWhole.data.toList.drop 93 = dktX18_byWhole_4 := dk_seg dksX18_byWhole_3 22 rfl rfl
theorem dksX18_byWhole_5 : cX18_byWhole.data.toList.drop 117 = dktX18_byWhole_5 := dk_seg dksX18_byWhole_4 24 rfl rfl
theorem dksX18_byWhole_6 : cX18_byWhole.data.toList.drop 140 = dktX18_byWhole_6 := dk_seg dksX18_byWhole_5 23 rfl rfl
theorem dksX18_byWhole_7 : cX18_byWhole.data.toList.drop 164 = dktX18_byWhole_7 := dk_seg dksX18_byWhole_6 24 rfl rfl
theorem dX18_byWhole_0 : decode cX18_byWhole 0 = .ok (.new 235, 3) := dk_187 0 235 (dk_at dksX18_byWhole_0 0 rfl rfl)
theorem dX18_byWhole_3 : decode cX18_byWhole 3 = .ok (.dup, 1) := dk_89 (dk_at dksX18_byWhole_0 3 rfl rfl)
theorem dX18_byWhole_4 : decode cX18_byWhole 4 = .ok (.iload_n 1, 1) := dk_27 (dk_at dksX18_byWhole_0 4 rfl rfl)
theorem dX18_byWhole_5 : decode cX18_byWhole 5 = .ok (.aload_n 2, 1) := dk_44 (dk_at dksX18_byWhole_0 5 rfl rfl)
theorem dX18_byWhole_6 : decode cX18_byWhole 6 = .ok (.aload_n 0, 1) := dk_42 (dk_at dksX18_byWhole_0 6 rfl rfl)
theorem dX18_byWhole_7 : decode cX18_byWhole 7 = .ok (.aload_n 3, 1) := dk_45 (dk_at dksX18_byWhole_0 7 rfl rfl)
theorem dX18_byWhole_8 : decode cX18_byWhole 8 = .ok (.iload 4, 2) := dk_21 4 (dk_at dksX18_byWhole_0 8 rfl rfl)
theorem dX18_byWhole_10 : decode cX18_byWhole 10 = .ok (.aload_n 2, 1) := dk_44 (dk_at dksX18_byWhole_0 10 rfl rfl)
theorem dX18_byWhole_11 : decode cX18_byWhole 11 = .ok (.invokevirtual 237, 3) := dk_182 0 237 (dk_at dksX18_byWhole_0 11 rfl rfl)
theorem dX18_byWhole_14 : decode cX18_byWhole 14 = .ok (.invokespecial 241, 3) := dk_183 0 241 (dk_at dksX18_byWhole_0 14 rfl rfl)
theorem dX18_byWhole_17 : decode cX18_byWhole 17 = .ok (.astore 5, 2) := dk_58 5 (dk_at dksX18_byWhole_0 17 rfl rfl)
theorem dX18_byWhole_19 : decode cX18_byWhole 19 = .ok (.aload_n 0, 1) := dk_42 (dk_at dksX18_byWhole_0 19 rfl rfl)
theorem dX18_byWhole_20 : decode cX18_byWhole 20 = .ok (.getfield 34, 3) := dk_180 0 34 (dk_at dksX18_byWhole_0 20 rfl rfl)
theorem dX18_byWhole_23 : decode cX18_byWhole 23 = .ok (.getfield 171, 3) := dk_180 0 171 (dk_at dksX18_byWhole_1 0 rfl rfl)
theorem dX18_byWhole_26 : decode cX18_byWhole 26 = .ok (.aload_n 2, 1) := dk_44 (dk_at dksX18_byWhole_1 3 rfl rfl)
theorem dX18_byWhole_27 : decode cX18_byWhole 27 = .ok (.getfield 174, 3) := dk_180 0 174 (dk_at dksX18_byWhole_1 4 rfl rfl)
theorem dX18_byWhole_30 : decode cX18_byWhole 30 = .ok (.iaload, 1) := dk_46 (dk_at dksX18_byWhole_1 7 rfl rfl)
theorem dX18_byWhole_31 : decode cX18_byWhole 31 = .ok (.istore 6, 2) := dk_54 6 (dk_at dksX18_byWhole_1 8 rfl rfl)
theorem dX18_byWhole_33 : decode cX18_byWhole 33 = .ok (.aload_n 0, 1) := dk_42 (dk_at dksX18_byWhole_1 10 rfl rfl)
theorem dX18_byWhole_34 : decode cX18_byWhole 34 = .ok (.getfield 34, 3) := dk_180 0 34 (dk_at dksX18_byWhole_1 11 rfl rfl)
theorem dX18_byWhole_37 : decode cX18_byWhole 37 = .ok (.getfield 177, 3) := dk_180 0 177 (dk_at dksX18_byWhole_1 14 rfl rfl)
theorem dX18_byWhole_40 : decode cX18_byWhole 40 = .ok (.aload_n 2, 1) := dk_44 (dk_at dksX18_byWhole_1 17 rfl rfl)
theorem dX18_byWhole_41 : decode cX18_byWhole 41 = .ok (.getfield 174, 3) := dk_180 0 174 (dk_at dksX18_byWhole_1 18 rfl rfl)
theorem dX18_byWhole_44 : decode cX18_byWhole 44 = .ok (.iaload, 1) := dk_46 (dk_at dksX18_byWhole_1 21 rfl rfl)
theorem dX18_byWhole_45 : decode cX18_byWhole 45 = .ok (.istore 7, 2) := dk_54 7 (dk_at dksX18_byWhole_1 22 rfl rfl)
theorem dX18_byWhole_47 : decode cX18_byWhole 47 = .ok (.aload 5, 2) := dk_25 5 (dk_at dksX18_byWhole_2 0 rfl rfl)
theorem dX18_byWhole_49 : decode cX18_byWhole 49 = .ok (.aload 5, 2) := dk_25 5 (dk_at dksX18_byWhole_2 2 rfl rfl)
theorem dX18_byWhole_51 : decode cX18_byWhole 51 = .ok (.getfield 244, 3) := dk_180 0 244 (dk_at dksX18_byWhole_2 4 rfl rfl)
theorem dX18_byWhole_54 : decode cX18_byWhole 54 = .ok (.arraylength, 1) := dk_190 (dk_at dksX18_byWhole_2 7 rfl rfl)
theorem dX18_byWhole_55 : decode cX18_byWhole 55 = .ok (.anewarray 107, 3) := dk_189 0 107 (dk_at dksX18_byWhole_2 8 rfl rfl)
theorem dX18_byWhole_58 : decode cX18_byWhole 58 = .ok (.putfield 247, 3) := dk_181 0 247 (dk_at dksX18_byWhole_2 11 rfl rfl)
theorem dX18_byWhole_61 : decode cX18_byWhole 61 = .ok (.iconst 0, 1) := dk_3 (dk_at dksX18_byWhole_2 14 rfl rfl)
theorem dX18_byWhole_62 : decode cX18_byWhole 62 = .ok (.istore 8, 2) := dk_54 8 (dk_at dksX18_byWhole_2 15 rfl rfl)
theorem dX18_byWhole_64 : decode cX18_byWhole 64 = .ok (.iload 8, 2) := dk_21 8 (dk_at dksX18_byWhole_2 17 rfl rfl)
theorem dX18_byWhole_66 : decode cX18_byWhole 66 = .ok (.aload 5, 2) := dk_25 5 (dk_at dksX18_byWhole_2 19 rfl rfl)
theorem dX18_byWhole_68 : decode cX18_byWhole 68 = .ok (.getfield 247, 3) := dk_180 0 247 (dk_at dksX18_byWhole_2 21 rfl rfl)
theorem dX18_byWhole_71 : decode cX18_byWhole 71 = .ok (.arraylength, 1) := dk_190 (dk_at dksX18_byWhole_3 0 rfl rfl)
theorem dX18_byWhole_72 : decode cX18_byWhole 72 = .ok (.if_icmp .ge 78, 3) := dk_162 0 78 (dk_at dksX18_byWhole_3 1 rfl rfl)
theorem dX18_byWhole_75 : decode cX18_byWhole 75 = .ok (.aload_n 0, 1) := dk_42 (dk_at dksX18_byWhole_3 4 rfl rfl)
theorem dX18_byWhole_76 : decode cX18_byWhole 76 = .ok (.getfield 34, 3) := dk_180 0 34 (dk_at dksX18_byWhole_3 5 rfl rfl)
theorem dX18_byWhole_79 : decode cX18_byWhole 79 = .ok (.getfield 171, 3) := dk_180 0 171 (dk_at dksX18_byWhole_3 8 rfl rfl)
theorem dX18_byWhole_82 : decode cX18_byWhole 82 = .ok (.aload_n 2, 1) := dk_44 (dk_at dksX18_byWhole_3 11 rfl rfl)
theorem dX18_byWhole_83 : decode cX18_byWhole 83 = .ok (.getfield 174, 3) := dk_180 0 174 (dk_at dksX18_byWhole_3 12 rfl rfl)
theorem dX18_byWhole_86 : decode cX18_byWhole 86 = .ok (.iload 8, 2) := dk_21 8 (dk_at dksX18_byWhole_3 15 rfl rfl)
theorem dX18_byWhole_88 : decode cX18_byWhole 88 = .ok (.ifCond .ne 8, 3) := dk_154 0 8 (dk_at dksX18_byWhole_3 17 rfl rfl)
theorem dX18_byWhole_91 : decode cX18_byWhole 91 = .ok (.iload 6, 2) := dk_21 6 (dk_at dksX18_byWhole_3 20 rfl rfl)
theorem dX18_byWhole_93 : decode cX18_byWhole 93 = .ok (.goto 15, 3) := dk_167 0 15 (dk_at dksX18_byWhole_4 0 rfl rfl)
theorem dX18_byWhole_96 : decode cX18_byWhole 96 = .ok (.aload 5, 2) := dk_25 5 (dk_at dksX18_byWhole_4 3 rfl rfl)
theorem dX18_byWhole_98 : decode cX18_byWhole 98 = .ok (.getfield 244, 3) := dk_180 0 244 (dk_at dksX18_byWhole_4 5 rfl rfl)
theorem dX18_byWhole_101 : decode cX18_byWhole 101 = .ok (.iload 8, 2) := dk_21 8 (dk_at dksX18_byWhole_4 8 rfl rfl)
theorem dX18_byWhole_103 : decode cX18_byWhole 103 = .ok (.iconst 1, 1) := dk_4 (dk_at dksX18_byWhole_4 10 rfl rfl)
theorem dX18_byWhole_104 : decode cX18_byWhole 104 = .ok (.isub, 1) := dk_100 (dk_at dksX18_byWhole_4 11 rfl rfl)
theorem dX18_byWhole_105 : decode cX18_byWhole 105 = .ok (.iaload, 1) := dk_46 (dk_at dksX18_byWhole_4 12 rfl rfl)
theorem dX18_byWhole_106 : decode cX18_byWhole 106 = .ok (.iconst 1, 1) := dk_4 (dk_at dksX18_byWhole_4 13 rfl rfl)
theorem dX18_byWhole_107 : decode cX18_byWhole 107 = .ok (.iadd, 1) := dk_96 (dk_at dksX18_byWhole_4 14 rfl rfl)
theorem dX18_byWhole_108 : decode cX18_byWhole 108 = .ok (.iastore, 1) := dk_79 (dk_at dksX18_byWhole_4 15 rfl rfl)
theorem dX18_byWhole_109 : decode cX18_byWhole 109 = .ok (.aload_n 0, 1) := dk_42 (dk_at dksX18_byWhole_4 16 rfl rfl)
theorem dX18_byWhole_110 : decode cX18_byWhole 110 = .ok (.getfield 34, 3) := dk_180 0 34 (dk_at dksX18_byWhole_4 17 rfl rfl)
theorem dX18_byWhole_113 : decode cX18_byWhole 113 = .ok (.getfield 177, 3) := dk_180 0 177 (dk_at dksX18_byWhole_4 20 rfl rfl)
theorem dX18_byWhole_116 : decode cX18_byWhole 116 = .ok (.aload_n 2, 1) := dk_44 (dk_at dksX18_byWhole_4 23 rfl rfl)
theorem dX18_byWhole_117 : decode cX18_byWhole 117 = .ok (.getfield 174, 3) := dk_180 0 174 (dk_at dksX18_byWhole_5 0 rfl rfl)
theorem dX18_byWhole_120 : decode cX18_byWhole 120 = .ok (.aload 5, 2) := dk_25 5 (dk_at dksX18_byWhole_5 3 rfl rfl)
theorem dX18_byWhole_122 : decode cX18_byWhole 122 = .ok (.getfield 244, 3) := dk_180 0 244 (dk_at dksX18_byWhole_5 5 rfl rfl)
theorem dX18_byWhole_125 : decode cX18_byWhole 125 = .ok (.iload 8, 2) := dk_21 8 (dk_at dksX18_byWhole_5 8 rfl rfl)
theorem dX18_byWhole_127 : decode cX18_byWhole 127 = .ok (.iaload, 1) := dk_46 (dk_at dksX18_byWhole_5 10 rfl rfl)
theorem dX18_byWhole_128 : decode cX18_byWhole 128 = .ok (.iastore, 1) := dk_79 (dk_at dksX18_byWhole_5 11 rfl rfl)
theorem dX18_byWhole_129 : decode cX18_byWhole 129 = .ok (.aload 5, 2) := dk_25 5 (dk_at dksX18_byWhole_5 12 rfl rfl)
theorem dX18_byWhole_131 : decode cX18_byWhole 131 = .ok (.getfield 247, 3) := dk_180 0 247 (dk_at dksX18_byWhole_5 14 rfl rfl)
theorem dX18_byWhole_134 : decode cX18_byWhole 134 = .ok (.iload 8, 2) := dk_21 8 (dk_at dksX18_byWhole_5 17 rfl rfl)
theorem dX18_byWhole_136 : decode cX18_byWhole 136 = .ok (.aload_n 0, 1) := dk_42 (dk_at dksX18_byWhole_5 19 rfl rfl)
theorem dX18_byWhole_137 : decode cX18_byWhole 137 = .ok (.aload_n 3, 1) := dk_45 (dk_at dksX18_byWhole_5 20 rfl rfl)
theorem dX18_byWhole_138 : decode cX18_byWhole 138 = .ok (.iload 4, 2) := dk_21 4 (dk_at dksX18_byWhole_5 21 rfl rfl)
theorem dX18_byWhole_140 : decode cX18_byWhole 140 = .ok (.invokevirtual 109, 3) := dk_182 0 109 (dk_at dksX18_byWhole_6 0 rfl rfl)
theorem dX18_byWhole_143 : decode cX18_byWhole 143 = .ok (.aastore, 1) := dk_83 (dk_at dksX18_byWhole_6 3 rfl rfl)
theorem dX18_byWhole_144 : decode cX18_byWhole 144 = .ok (.iinc 8 1, 3) := dk_132 8 1 (dk_at dksX18_byWhole_6 4 rfl rfl)
theorem dX18_byWhole_147 : decode cX18_byWhole 147 = .ok (.goto (-83), 3) := dk_167 255 173 (dk_at dksX18_byWhole_6 7 rfl rfl)
theorem dX18_byWhole_150 : decode cX18_byWhole 150 = .ok (.aload_n 0, 1) := dk_42 (dk_at dksX18_byWhole_6 10 rfl rfl)
theorem dX18_byWhole_151 : decode cX18_byWhole 151 = .ok (.getfield 34, 3) := dk_180 0 34 (dk_at dksX18_byWhole_6 11 rfl rfl)
theorem dX18_byWhole_154 : decode cX18_byWhole 154 = .ok (.getfield 171, 3) := dk_180 0 171 (dk_at dksX18_byWhole_6 14 rfl rfl)
theorem dX18_byWhole_157 : decode cX18_byWhole 157 = .ok (.aload_n 2, 1) := dk_44 (dk_at dksX18_byWhole_6 17 rfl rfl)
theorem dX18_byWhole_158 : decode cX18_byWhole 158 = .ok (.getfield 174, 3) := dk_180 0 174 (dk_at dksX18_byWhole_6 18 rfl rfl)
theorem dX18_byWhole_161 : decode cX18_byWhole 161 = .ok (.iload 6, 2) := dk_21 6 (dk_at dksX18_byWhole_6 21 rfl rfl)
theorem dX18_byWhole_163 : decode cX18_byWhole 163 = .ok (.iastore, 1) := dk_79 (dk_at dksX18_byWhole_6 23 rfl rfl)
theorem dX18_byWhole_164 : decode cX18_byWhole 164 = .ok (.aload_n 0, 1) := dk_42 (dk_at dksX18_byWhole_7 0 rfl rfl)
theorem dX18_byWhole_165 : decode cX18_byWhole 165 = .ok (.getfield 34, 3) := dk_180 0 34 (dk_at dksX18_byWhole_7 1 rfl rfl)
theorem dX18_byWhole_168 : decode cX18_byWhole 168 = .ok (.getfield 177, 3) := dk_180 0 177 (dk_at dksX18_byWhole_7 4 rfl rfl)
theorem dX18_byWhole_171 : decode cX18_byWhole 171 = .ok (.aload_n 2, 1) := dk_44 (dk_at dksX18_byWhole_7 7 rfl rfl)
theorem dX18_byWhole_172 : decode cX18_byWhole 172 = .ok (.getfield 174, 3) := dk_180 0 174 (dk_at dksX18_byWhole_7 8 rfl rfl)
theorem dX18_byWhole_175 : decode cX18_byWhole 175 = .ok (.iload 7, 2) := dk_21 7 (dk_at dksX18_byWhole_7 11 rfl rfl)
theorem dX18_byWhole_177 : decode cX18_byWhole 177 = .ok (.iastore, 1) := dk_79 (dk_at dksX18_byWhole_7 13 rfl rfl)
theorem dX18_byWhole_178 : decode cX18_byWhole 178 = .ok (.aload 5, 2) := dk_25 5 (dk_at dksX18_byWhole_7 14 rfl rfl)
theorem dX18_byWhole_180 : decode cX18_byWhole 180 = .ok (.areturn, 1) := dk_176 (dk_at dksX18_byWhole_7 16 rfl rfl)
abbrev cX18_borders : ByteArray := prog_13_method_12_code
def yX18_borders : MethodName := ⟨RX18, "borders", "([LLetterPost$Row;ILLetterPost$Place;)[I"⟩
def dkwX18_borders_1 : List UInt8 := [184, 0, 165, 25, 4, 176]
abbrev dktX18_borders_1 : List UInt8 := dkwX18_borders_1 ++ []
def dkwX18_borders_0 : List UInt8 := [42, 43, 28, 45, 182, 0, 135, 188, 10, 58, 4, 42, 180, 0, 19, 3, 25, 4, 3, 25, 4, 190]
abbrev dktX18_borders_0 : List UInt8 := dkwX18_borders_0 ++ dktX18_borders_1
theorem dksX18_borders_0 : cX18_borders.data.toList.drop 0 = dktX18_borders_0 := by decide +kernel
theorem dksX18_borders_1 : cX18_borders.data.toList.drop 22 = dktX18_borders_1 := dk_seg dksX18_borders_0 22 rfl rfl
theorem dX18_borders_0 : decode cX18_borders 0 = .ok (.aload_n 0, 1) := dk_42 (dk_at dksX18_borders_0 0 rfl rfl)
theorem dX18_borders_1 : decode cX18_borders 1 = .ok (.aload_n 1, 1) := dk_43 (dk_at dksX18_borders_0 1 rfl rfl)
theorem dX18_borders_2 : decode cX18_borders 2 = .ok (.iload_n 2, 1) := dk_28 (dk_at dksX18_borders_0 2 rfl rfl)
theorem dX18_borders_3 : decode cX18_borders 3 = .ok (.aload_n 3, 1) := dk_45 (dk_at dksX18_borders_0 3 rfl rfl)
theorem dX18_borders_4 : decode cX18_borders 4 = .ok (.invokevirtual 135, 3) := dk_182 0 135 (dk_at dksX18_borders_0 4 rfl rfl)
theorem dX18_borders_7 : decode cX18_borders 7 = .ok (.newarray .int, 2) := dk_188_10 (dk_at dksX18_borders_0 7 rfl rfl)
theorem dX18_borders_9 : decode cX18_borders 9 = .ok (.astore 4, 2) := dk_58 4 (dk_at dksX18_borders_0 9 rfl rfl)
theorem dX18_borders_11 : decode cX18_borders 11 = .ok (.aload_n 0, 1) := dk_42 (dk_at dksX18_borders_0 11 rfl rfl)
theorem dX18_borders_12 : decode cX18_borders 12 = .ok (.getfield 19, 3) := dk_180 0 19 (dk_at dksX18_borders_0 12 rfl rfl)
theorem dX18_borders_15 : decode cX18_borders 15 = .ok (.iconst 0, 1) := dk_3 (dk_at dksX18_borders_0 15 rfl rfl)
theorem dX18_borders_16 : decode cX18_borders 16 = .ok (.aload 4, 2) := dk_25 4 (dk_at dksX18_borders_0 16 rfl rfl)
theorem dX18_borders_18 : decode cX18_borders 18 = .ok (.iconst 0, 1) := dk_3 (dk_at dksX18_borders_0 18 rfl rfl)
theorem dX18_borders_19 : decode cX18_borders 19 = .ok (.aload 4, 2) := dk_25 4 (dk_at dksX18_borders_0 19 rfl rfl)
theorem dX18_borders_21 : decode cX18_borders 21 = .ok (.arraylength, 1) := dk_190 (dk_at dksX18_borders_0 21 rfl rfl)
theorem dX18_borders_22 : decode cX18_borders 22 = .ok (.invokestatic 165, 3) := dk_184 0 165 (dk_at dksX18_borders_1 0 rfl rfl)
theorem dX18_borders_25 : decode cX18_borders 25 = .ok (.aload 4, 2) := dk_25 4 (dk_at dksX18_borders_1 3 rfl rfl)
theorem dX18_borders_27 : decode cX18_borders 27 = .ok (.areturn, 1) := dk_176 (dk_at dksX18_borders_1 5 rfl rfl)
theorem q174 : (Jvm.Cond.initialized "LetterPost$Maker") ∈ lw_all := lw_g (lw_at lw_m1 32 rfl) rfl
theorem q689 : (Jvm.Cond.fieldLink "LetterPost$Maker" (145 : Nat) "LetterPost$Kind" "isSealed" "Z") ∈ lw_all := lw_g (lw_at lw_m3 67 rfl) rfl
theorem q758 : (Jvm.Cond.fieldLink "LetterPost$Maker" (25 : Nat) "LetterPost$Function" "placeMany" "I") ∈ lw_all := lw_g (lw_at lw_m3 136 rfl) rfl
theorem q810 : (Jvm.Cond.fieldLink "LetterPost$Maker" (93 : Nat) "LetterPost$Rule" "guard" "LLetterPost$Guard;") ∈ lw_all := lw_g (lw_at lw_m3 188 rfl) rfl
theorem q907 : (Jvm.Cond.fieldLink "LetterPost$Maker" (182 : Nat) "LetterPost$Range" "low" "I") ∈ lw_all := lw_g (lw_at lw_m4 45 rfl) rfl
theorem q909 : (Jvm.Cond.fieldLink "LetterPost$Maker" (188 : Nat) "LetterPost$Range" "high" "I") ∈ lw_all := lw_g (lw_at lw_m4 47 rfl) rfl
theorem q968 : (Jvm.Cond.fieldLink "LetterPost$Maker" (161 : Nat) "LetterPost$Word" "letters" "J") ∈ lw_all := lw_g (lw_at lw_m4 106 rfl) rfl
theorem q1104 : (Jvm.Cond.fieldLink "LetterPost$Maker" (89 : Nat) "LetterPost$Row" "rule" "LLetterPost$Rule;") ∈ lw_all := lw_g (lw_at lw_m5 2 rfl) rfl
theorem q1142 : (Jvm.Cond.fieldLink "LetterPost$Maker" (73 : Nat) "LetterPost$Place" "sort" "I") ∈ lw_all := lw_g (lw_at lw_m5 40 rfl) rfl
theorem q1149 : (Jvm.Cond.fieldLink "LetterPost$Maker" (174 : Nat) "LetterPost$Place" "number" "I") ∈ lw_all := lw_g (lw_at lw_m5 47 rfl) rfl
theorem q1204 : (Jvm.Cond.instantiable "LetterPost$Maker" (7 : Nat)) ∈ lw_all := lw_g (lw_at lw_m5 102 rfl) rfl
theorem q1206 : (Jvm.Cond.instanceMethod ({ cls := "LetterPost$Maker", name := "<init>", desc := "(LLetterPost;LLetterPost$Function;I)V" } : Jvm.MethodName)) ∈ lw_all := lw_g (lw_at lw_m5 104 rfl) rfl
theorem q1207 : (Jvm.Cond.code ({ cls := "LetterPost$Maker", name := "<init>", desc := "(LLetterPost;LLetterPost$Function;I)V" } : Jvm.MethodName) prog_13_method_1_code (4 : Nat) (Option.none : Option Jvm.ClassFile.FieldType)) ∈ lw_all := lw_g (lw_at lw_m5 105 rfl) rfl
theorem q1208 : (Jvm.Cond.methodLink "LetterPost$Maker" (9 : Nat) ({ cls := "java/lang/Object", name := "<init>", desc := "()V" } : Jvm.MethodName)) ∈ lw_all := lw_g (lw_at lw_m5 106 rfl) rfl
theorem q1209 : (Jvm.Cond.classLink "LetterPost$Maker" (23 : Nat) "LetterPost$Known") ∈ lw_all := lw_g (lw_at lw_m5 107 rfl) rfl
theorem q1211 : (Jvm.Cond.methodLink "LetterPost$Maker" (31 : Nat) ({ cls := "LetterPost$Known", name := "<init>", desc := "(I)V" } : Jvm.MethodName)) ∈ lw_all := lw_g (lw_at lw_m5 109 rfl) rfl
theorem q1225 : (Jvm.Cond.fieldLink "LetterPost$Maker" (202 : Nat) "LetterPost$Known" "state" "[I") ∈ lw_all := lw_g (lw_at lw_m5 123 rfl) rfl
theorem q1228 : (Jvm.Cond.fieldLink "LetterPost$Maker" (205 : Nat) "LetterPost$Known" "kinds" "[LLetterPost$Kind;") ∈ lw_all := lw_g (lw_at lw_m5 126 rfl) rfl
theorem q1231 : (Jvm.Cond.fieldLink "LetterPost$Maker" (224 : Nat) "LetterPost$Known" "letters" "[J") ∈ lw_all := lw_g (lw_at lw_m5 129 rfl) rfl
theorem q1234 : (Jvm.Cond.fieldLink "LetterPost$Maker" (171 : Nat) "LetterPost$Known" "low" "[I") ∈ lw_all := lw_g (lw_at lw_m5 132 rfl) rfl
theorem q1237 : (Jvm.Cond.fieldLink "LetterPost$Maker" (177 : Nat) "LetterPost$Known" "high" "[I") ∈ lw_all := lw_g (lw_at lw_m5 135 rfl) rfl
theorem q1239 : (Jvm.Cond.fieldLink "LetterPost$Maker" (229 : Nat) "LetterPost$Known" "where" "[LLetterPost$Place;") ∈ lw_all := lw_g (lw_at lw_m5 137 rfl) rfl
theorem q1241 : (Jvm.Cond.fieldLink "LetterPost$Maker" (232 : Nat) "LetterPost$Known" "out" "[J") ∈ lw_all := lw_g (lw_at lw_m5 139 rfl) rfl
theorem q1243 : (Jvm.Cond.fieldLink "LetterPost$Maker" (226 : Nat) "LetterPost$Known" "outs" "I") ∈ lw_all := lw_g (lw_at lw_m5 141 rfl) rfl
theorem q1262 : (Jvm.Cond.classLink "LetterPost$Maker" (41 : Nat) "LetterPost$Place") ∈ lw_all := lw_g (lw_at lw_m5 160 rfl) rfl
theorem q1263 : (Jvm.Cond.fieldLink "LetterPost$Maker" (34 : Nat) "LetterPost$Maker" "known" "LLetterPost$Known;") ∈ lw_all := lw_g (lw_at lw_m5 161 rfl) rfl
theorem q1264 : (Jvm.Cond.fieldLink "LetterPost$Maker" (38 : Nat) "LetterPost$Maker" "way" "I") ∈ lw_all := lw_g (lw_at lw_m5 162 rfl) rfl
theorem q1265 : (Jvm.Cond.fieldLink "LetterPost$Maker" (53 : Nat) "LetterPost$Maker" "nodes" "I") ∈ lw_all := lw_g (lw_at lw_m5 163 rfl) rfl
theorem q1266 : (Jvm.Cond.fieldLink "LetterPost$Maker" (43 : Nat) "LetterPost$Maker" "asked" "[LLetterPost$Place;") ∈ lw_all := lw_g (lw_at lw_m5 164 rfl) rfl
theorem q1267 : (Jvm.Cond.fieldLink "LetterPost$Maker" (15 : Nat) "LetterPost$Maker" "textRow" "[J") ∈ lw_all := lw_g (lw_at lw_m5 165 rfl) rfl
theorem q1268 : (Jvm.Cond.fieldLink "LetterPost$Maker" (19 : Nat) "LetterPost$Maker" "borderRow" "[I") ∈ lw_all := lw_g (lw_at lw_m5 166 rfl) rfl
theorem q1269 : (Jvm.Cond.fieldLink "LetterPost$Maker" (3 : Nat) "LetterPost$Maker" "this$0" "LLetterPost;") ∈ lw_all := lw_g (lw_at lw_m5 167 rfl) rfl
theorem q1270 : (Jvm.Cond.laysFinal "LetterPost$Maker" "LetterPost$Maker" "known" "LLetterPost$Known;") ∈ lw_all := lw_g (lw_at lw_m5 168 rfl) rfl
theorem q1271 : (Jvm.Cond.soleField "LetterPost$Maker" "known") ∈ lw_all := lw_g (lw_at lw_m5 169 rfl) rfl
theorem q1272 : (Jvm.Cond.laysFinal "LetterPost$Maker" "LetterPost$Maker" "way" "I") ∈ lw_all := lw_g (lw_at lw_m5 170 rfl) rfl
theorem q1273 : (Jvm.Cond.soleField "LetterPost$Maker" "way") ∈ lw_all := lw_g (lw_at lw_m5 171 rfl) rfl
theorem q1274 : (Jvm.Cond.lays "LetterPost$Maker" "LetterPost$Maker" "nodes" "I") ∈ lw_all := lw_g (lw_at lw_m5 172 rfl) rfl
theorem q1275 : (Jvm.Cond.soleField "LetterPost$Maker" "nodes") ∈ lw_all := lw_g (lw_at lw_m5 173 rfl) rfl
theorem q1276 : (Jvm.Cond.laysFinal "LetterPost$Maker" "LetterPost$Maker" "asked" "[LLetterPost$Place;") ∈ lw_all := lw_g (lw_at lw_m5 174 rfl) rfl
theorem q1277 : (Jvm.Cond.soleField "LetterPost$Maker" "asked") ∈ lw_all := lw_g (lw_at lw_m5 175 rfl) rfl
theorem q1278 : (Jvm.Cond.laysFinal "LetterPost$Maker" "LetterPost$Maker" "textRow" "[J") ∈ lw_all := lw_g (lw_at lw_m5 176 rfl) rfl
theorem q1279 : (Jvm.Cond.soleField "LetterPost$Maker" "textRow") ∈ lw_all := lw_g (lw_at lw_m5 177 rfl) rfl
theorem q1280 : (Jvm.Cond.laysFinal "LetterPost$Maker" "LetterPost$Maker" "borderRow" "[I") ∈ lw_all := lw_g (lw_at lw_m5 178 rfl) rfl
theorem q1281 : (Jvm.Cond.soleField "LetterPost$Maker" "borderRow") ∈ lw_all := lw_g (lw_at lw_m5 179 rfl) rfl
theorem q1282 : (Jvm.Cond.laysFinal "LetterPost$Maker" "LetterPost$Maker" "this$0" "LLetterPost;") ∈ lw_all := lw_g (lw_at lw_m5 180 rfl) rfl
theorem q1283 : (Jvm.Cond.soleField "LetterPost$Maker" "this$0") ∈ lw_all := lw_g (lw_at lw_m5 181 rfl) rfl
theorem q1284 : (Jvm.Cond.superclass "LetterPost$Maker" "java/lang/Object") ∈ lw_all := lw_g (lw_at lw_m5 182 rfl) rfl
theorem q1286 : (Jvm.Cond.instanceMethod ({ cls := "LetterPost$Maker", name := "make", desc := "([LLetterPost$Row;I)LLetterPost$Node;" } : Jvm.MethodName)) ∈ lw_all := lw_g (lw_at lw_m5 184 rfl) rfl
theorem q1287 : (Jvm.Cond.selects "LetterPost$Maker" ({ cls := "LetterPost$Maker", name := "make", desc := "([LLetterPost$Row;I)LLetterPost$Node;" } : Jvm.MethodName) ({ cls := "LetterPost$Maker", name := "make", desc := "([LLetterPost$Row;I)LLetterPost$Node;" } : Jvm.MethodName)) ∈ lw_all := lw_g (lw_at lw_m5 185 rfl) rfl
theorem q1288 : (Jvm.Cond.code ({ cls := "LetterPost$Maker", name := "make", desc := "([LLetterPost$Row;I)LLetterPost$Node;" } : Jvm.MethodName) prog_13_method_2_code (8 : Nat) (Option.some (Jvm.ClassFile.FieldType.object "LetterPost$Node"))) ∈ lw_all := lw_g (lw_at lw_m5 186 rfl) rfl
theorem q1289 : (Jvm.Cond.classLink "LetterPost$Maker" (47 : Nat) "LetterPost$Row") ∈ lw_all := lw_g (lw_at lw_m5 187 rfl) rfl
theorem q1290 : (Jvm.Cond.methodLink "LetterPost$Maker" (49 : Nat) ({ cls := "LetterPost$Row", name := "isOut", desc := "(LLetterPost$Known;)Z" } : Jvm.MethodName)) ∈ lw_all := lw_g (lw_at lw_m5 188 rfl) rfl
theorem q1317 : (Jvm.Cond.classLink "LetterPost$Maker" (56 : Nat) "LetterPost$TooMany") ∈ lw_all := lw_g (lw_at lw_m5 215 rfl) rfl
theorem q1326 : (Jvm.Cond.methodLink "LetterPost$Maker" (58 : Nat) ({ cls := "LetterPost$TooMany", name := "<init>", desc := "()V" } : Jvm.MethodName)) ∈ lw_all := lw_g (lw_at lw_m5 224 rfl) rfl
theorem q1332 : (Jvm.Cond.classLink "LetterPost$Maker" (59 : Nat) "LetterPost$Unfitted") ∈ lw_all := lw_g (lw_at lw_m5 230 rfl) rfl
theorem q1334 : (Jvm.Cond.methodLink "LetterPost$Maker" (61 : Nat) ({ cls := "LetterPost$Unfitted", name := "<init>", desc := "(I)V" } : Jvm.MethodName)) ∈ lw_all := lw_g (lw_at lw_m5 232 rfl) rfl
theorem q1356 : (Jvm.Cond.fieldLink "LetterPost$Maker" (113 : Nat) "LetterPost$Guarded" "next" "[LLetterPost$Node;") ∈ lw_all := lw_g (lw_at lw_m6 14 rfl) rfl
theorem q1357 : (Jvm.Cond.fieldLink "LetterPost$Maker" (201 : Nat) "LetterPost$KindTest" "next" "[LLetterPost$Node;") ∈ lw_all := lw_g (lw_at lw_m6 15 rfl) rfl
theorem q1358 : (Jvm.Cond.fieldLink "LetterPost$Maker" (211 : Nat) "LetterPost$TruthTest" "next" "[LLetterPost$Node;") ∈ lw_all := lw_g (lw_at lw_m6 16 rfl) rfl
theorem q1359 : (Jvm.Cond.fieldLink "LetterPost$Maker" (223 : Nat) "LetterPost$TextTest" "next" "[LLetterPost$Node;") ∈ lw_all := lw_g (lw_at lw_m6 17 rfl) rfl
theorem q1360 : (Jvm.Cond.fieldLink "LetterPost$Maker" (247 : Nat) "LetterPost$WholeTest" "next" "[LLetterPost$Node;") ∈ lw_all := lw_g (lw_at lw_m6 18 rfl) rfl
theorem q1367 : (Jvm.Cond.methodLink "LetterPost$Maker" (62 : Nat) ({ cls := "LetterPost$Row", name := "asked", desc := "(LLetterPost$Known;[LLetterPost$Place;)I" } : Jvm.MethodName)) ∈ lw_all := lw_g (lw_at lw_m6 25 rfl) rfl
theorem q1375 : (Jvm.Cond.methodLink "LetterPost$Maker" (65 : Nat) ({ cls := "LetterPost$Maker", name := "ends", desc := "(I[LLetterPost$Row;I)LLetterPost$Node;" } : Jvm.MethodName)) ∈ lw_all := lw_g (lw_at lw_m6 33 rfl) rfl
theorem q1376 : (Jvm.Cond.privateMethod ({ cls := "LetterPost$Maker", name := "ends", desc := "(I[LLetterPost$Row;I)LLetterPost$Node;" } : Jvm.MethodName)) ∈ lw_tbl := lw_at lw_m6 34 rfl
theorem q1377 : (Jvm.Cond.instanceMethod ({ cls := "LetterPost$Maker", name := "ends", desc := "(I[LLetterPost$Row;I)LLetterPost$Node;" } : Jvm.MethodName)) ∈ lw_all := lw_g (lw_at lw_m6 35 rfl) rfl
theorem q1378 : (Jvm.Cond.code ({ cls := "LetterPost$Maker", name := "ends", desc := "(I[LLetterPost$Row;I)LLetterPost$Node;" } : Jvm.MethodName) prog_13_method_3_code (9 : Nat) (Option.some (Jvm.ClassFile.FieldType.object "LetterPost$Node"))) ∈ lw_all := lw_g (lw_at lw_m6 36 rfl) rfl
theorem q1379 : (Jvm.Cond.classLink "LetterPost$Maker" (99 : Nat) "LetterPost$Answering") ∈ lw_all := lw_g (lw_at lw_m6 37 rfl) rfl
theorem q1381 : (Jvm.Cond.methodLink "LetterPost$Maker" (101 : Nat) ({ cls := "LetterPost$Answering", name := "<init>", desc := "(ILLetterPost$Row;)V" } : Jvm.MethodName)) ∈ lw_all := lw_g (lw_at lw_m6 39 rfl) rfl
theorem q1392 : (Jvm.Cond.classLink "LetterPost$Maker" (104 : Nat) "LetterPost$Guarded") ∈ lw_all := lw_g (lw_at lw_m6 50 rfl) rfl
theorem q1394 : (Jvm.Cond.methodLink "LetterPost$Maker" (106 : Nat) ({ cls := "LetterPost$Guarded", name := "<init>", desc := "(ILLetterPost$Row;)V" } : Jvm.MethodName)) ∈ lw_all := lw_g (lw_at lw_m6 52 rfl) rfl
theorem q1402 : (Jvm.Cond.classLink "LetterPost$Maker" (107 : Nat) "LetterPost$Node") ∈ lw_all := lw_g (lw_at lw_m6 60 rfl) rfl
theorem q1403 : (Jvm.Cond.methodLink "LetterPost$Maker" (109 : Nat) ({ cls := "LetterPost$Maker", name := "make", desc := "([LLetterPost$Row;I)LLetterPost$Node;" } : Jvm.MethodName)) ∈ lw_all := lw_g (lw_at lw_m6 61 rfl) rfl
theorem q1404 : (Jvm.Cond.methodLink "LetterPost$Maker" (69 : Nat) ({ cls := "LetterPost$Maker", name := "chosen", desc := "([LLetterPost$Row;II)LLetterPost$Place;" } : Jvm.MethodName)) ∈ lw_all := lw_g (lw_at lw_m6 62 rfl) rfl
theorem q1405 : (Jvm.Cond.privateMethod ({ cls := "LetterPost$Maker", name := "chosen", desc := "([LLetterPost$Row;II)LLetterPost$Place;" } : Jvm.MethodName)) ∈ lw_tbl := lw_at lw_m6 63 rfl
theorem q1406 : (Jvm.Cond.instanceMethod ({ cls := "LetterPost$Maker", name := "chosen", desc := "([LLetterPost$Row;II)LLetterPost$Place;" } : Jvm.MethodName)) ∈ lw_all := lw_g (lw_at lw_m6 64 rfl) rfl
theorem q1407 : (Jvm.Cond.code ({ cls := "LetterPost$Maker", name := "chosen", desc := "([LLetterPost$Row;II)LLetterPost$Place;" } : Jvm.MethodName) prog_13_method_4_code (7 : Nat) (Option.some (Jvm.ClassFile.FieldType.object "LetterPost$Place"))) ∈ lw_all := lw_g (lw_at lw_m6 65 rfl) rfl
theorem q1408 : (Jvm.Cond.methodLink "LetterPost$Maker" (117 : Nat) ({ cls := "LetterPost$Maker", name := "wanted", desc := "([LLetterPost$Row;ILLetterPost$Place;)I" } : Jvm.MethodName)) ∈ lw_all := lw_g (lw_at lw_m6 66 rfl) rfl
theorem q1409 : (Jvm.Cond.privateMethod ({ cls := "LetterPost$Maker", name := "wanted", desc := "([LLetterPost$Row;ILLetterPost$Place;)I" } : Jvm.MethodName)) ∈ lw_tbl := lw_at lw_m6 67 rfl
theorem q1410 : (Jvm.Cond.instanceMethod ({ cls := "LetterPost$Maker", name := "wanted", desc := "([LLetterPost$Row;ILLetterPost$Place;)I" } : Jvm.MethodName)) ∈ lw_all := lw_g (lw_at lw_m6 68 rfl) rfl
theorem q1411 : (Jvm.Cond.code ({ cls := "LetterPost$Maker", name := "wanted", desc := "([LLetterPost$Row;ILLetterPost$Place;)I" } : Jvm.MethodName) prog_13_method_5_code (6 : Nat) (Option.some Jvm.ClassFile.FieldType.int)) ∈ lw_all := lw_g (lw_at lw_m6 69 rfl) rfl
theorem q1412 : (Jvm.Cond.methodLink "LetterPost$Maker" (124 : Nat) ({ cls := "LetterPost$Row", name := "left", desc := "(LLetterPost$Known;LLetterPost$Place;)LLetterPost$Test;" } : Jvm.MethodName)) ∈ lw_all := lw_g (lw_at lw_m6 70 rfl) rfl
theorem q1416 : (Jvm.Cond.methodLink "LetterPost$Maker" (121 : Nat) ({ cls := "LetterPost$Maker", name := "branches", desc := "([LLetterPost$Row;ILLetterPost$Place;)I" } : Jvm.MethodName)) ∈ lw_all := lw_g (lw_at lw_m6 74 rfl) rfl
theorem q1417 : (Jvm.Cond.privateMethod ({ cls := "LetterPost$Maker", name := "branches", desc := "([LLetterPost$Row;ILLetterPost$Place;)I" } : Jvm.MethodName)) ∈ lw_tbl := lw_at lw_m6 75 rfl
theorem q1418 : (Jvm.Cond.instanceMethod ({ cls := "LetterPost$Maker", name := "branches", desc := "([LLetterPost$Row;ILLetterPost$Place;)I" } : Jvm.MethodName)) ∈ lw_all := lw_g (lw_at lw_m6 76 rfl) rfl
theorem q1419 : (Jvm.Cond.code ({ cls := "LetterPost$Maker", name := "branches", desc := "([LLetterPost$Row;ILLetterPost$Place;)I" } : Jvm.MethodName) prog_13_method_6_code (4 : Nat) (Option.some Jvm.ClassFile.FieldType.int)) ∈ lw_all := lw_g (lw_at lw_m6 77 rfl) rfl
theorem q1420 : (Jvm.Cond.methodLink "LetterPost$Maker" (128 : Nat) ({ cls := "LetterPost$Maker", name := "leafMany", desc := "(I)I" } : Jvm.MethodName)) ∈ lw_all := lw_g (lw_at lw_m6 78 rfl) rfl
theorem q1421 : (Jvm.Cond.privateMethod ({ cls := "LetterPost$Maker", name := "leafMany", desc := "(I)I" } : Jvm.MethodName)) ∈ lw_tbl := lw_at lw_m6 79 rfl
theorem q1422 : (Jvm.Cond.instanceMethod ({ cls := "LetterPost$Maker", name := "leafMany", desc := "(I)I" } : Jvm.MethodName)) ∈ lw_all := lw_g (lw_at lw_m6 80 rfl) rfl
theorem q1423 : (Jvm.Cond.code ({ cls := "LetterPost$Maker", name := "leafMany", desc := "(I)I" } : Jvm.MethodName) prog_13_method_7_code (4 : Nat) (Option.some Jvm.ClassFile.FieldType.int)) ∈ lw_all := lw_g (lw_at lw_m6 81 rfl) rfl
theorem q1424 : (Jvm.Cond.methodLinkNest "LetterPost$Maker" (151 : Nat) ({ cls := "LetterPost", name := "kindOf", desc := "(I)LLetterPost$Kind;" } : Jvm.MethodName) "LetterPost") ∈ lw_tbl := lw_at lw_m6 82 rfl
theorem q1425 : (Jvm.Cond.methodLink "LetterPost$Maker" (155 : Nat) ({ cls := "LetterPost$Kind", name := "is", desc := "(LLetterPost$Kind;)Z" } : Jvm.MethodName)) ∈ lw_all := lw_g (lw_at lw_m6 83 rfl) rfl
theorem q1426 : (Jvm.Cond.methodLink "LetterPost$Maker" (132 : Nat) ({ cls := "LetterPost$Maker", name := "textMany", desc := "([LLetterPost$Row;ILLetterPost$Place;)I" } : Jvm.MethodName)) ∈ lw_all := lw_g (lw_at lw_m6 84 rfl) rfl
theorem q1427 : (Jvm.Cond.privateMethod ({ cls := "LetterPost$Maker", name := "textMany", desc := "([LLetterPost$Row;ILLetterPost$Place;)I" } : Jvm.MethodName)) ∈ lw_tbl := lw_at lw_m6 85 rfl
theorem q1428 : (Jvm.Cond.instanceMethod ({ cls := "LetterPost$Maker", name := "textMany", desc := "([LLetterPost$Row;ILLetterPost$Place;)I" } : Jvm.MethodName)) ∈ lw_all := lw_g (lw_at lw_m6 86 rfl) rfl
theorem q1429 : (Jvm.Cond.code ({ cls := "LetterPost$Maker", name := "textMany", desc := "([LLetterPost$Row;ILLetterPost$Place;)I" } : Jvm.MethodName) prog_13_method_9_code (11 : Nat) (Option.some Jvm.ClassFile.FieldType.int)) ∈ lw_all := lw_g (lw_at lw_m6 87 rfl) rfl
theorem q1430 : (Jvm.Cond.classLink "LetterPost$Maker" (159 : Nat) "LetterPost$Word") ∈ lw_all := lw_g (lw_at lw_m6 88 rfl) rfl
theorem q1431 : (Jvm.Cond.methodLink "LetterPost$Maker" (135 : Nat) ({ cls := "LetterPost$Maker", name := "borderMany", desc := "([LLetterPost$Row;ILLetterPost$Place;)I" } : Jvm.MethodName)) ∈ lw_all := lw_g (lw_at lw_m6 89 rfl) rfl
theorem q1432 : (Jvm.Cond.privateMethod ({ cls := "LetterPost$Maker", name := "borderMany", desc := "([LLetterPost$Row;ILLetterPost$Place;)I" } : Jvm.MethodName)) ∈ lw_tbl := lw_at lw_m6 90 rfl
theorem q1433 : (Jvm.Cond.instanceMethod ({ cls := "LetterPost$Maker", name := "borderMany", desc := "([LLetterPost$Row;ILLetterPost$Place;)I" } : Jvm.MethodName)) ∈ lw_all := lw_g (lw_at lw_m6 91 rfl) rfl
theorem q1434 : (Jvm.Cond.code ({ cls := "LetterPost$Maker", name := "borderMany", desc := "([LLetterPost$Row;ILLetterPost$Place;)I" } : Jvm.MethodName) prog_13_method_11_code (9 : Nat) (Option.some Jvm.ClassFile.FieldType.int)) ∈ lw_all := lw_g (lw_at lw_m6 92 rfl) rfl
theorem q1435 : (Jvm.Cond.classLink "LetterPost$Maker" (180 : Nat) "LetterPost$Range") ∈ lw_all := lw_g (lw_at lw_m6 93 rfl) rfl
theorem q1436 : (Jvm.Cond.methodLink "LetterPost$Maker" (184 : Nat) ({ cls := "LetterPost$Maker", name := "put", desc := "([III)I" } : Jvm.MethodName)) ∈ lw_all := lw_g (lw_at lw_m6 94 rfl) rfl
theorem q1437 : (Jvm.Cond.privateMethod ({ cls := "LetterPost$Maker", name := "put", desc := "([III)I" } : Jvm.MethodName)) ∈ lw_tbl := lw_at lw_m6 95 rfl
theorem q1438 : (Jvm.Cond.instanceMethod ({ cls := "LetterPost$Maker", name := "put", desc := "([III)I" } : Jvm.MethodName)) ∈ lw_all := lw_g (lw_at lw_m6 96 rfl) rfl
theorem q1439 : (Jvm.Cond.code ({ cls := "LetterPost$Maker", name := "put", desc := "([III)I" } : Jvm.MethodName) prog_13_method_13_code (5 : Nat) (Option.some Jvm.ClassFile.FieldType.int)) ∈ lw_all := lw_g (lw_at lw_m6 97 rfl) rfl
theorem q1440 : (Jvm.Cond.methodLink "LetterPost$Maker" (165 : Nat) ({ cls := "java/lang/System", name := "arraycopy", desc := "(Ljava/lang/Object;ILjava/lang/Object;II)V" } : Jvm.MethodName)) ∈ lw_all := lw_g (lw_at lw_m6 98 rfl) rfl
theorem q1441 : (Jvm.Cond.methodLink "LetterPost$Maker" (76 : Nat) ({ cls := "LetterPost$Maker", name := "byKind", desc := "(ILLetterPost$Place;[LLetterPost$Row;I)LLetterPost$Node;" } : Jvm.MethodName)) ∈ lw_all := lw_g (lw_at lw_m6 99 rfl) rfl
theorem q1442 : (Jvm.Cond.privateMethod ({ cls := "LetterPost$Maker", name := "byKind", desc := "(ILLetterPost$Place;[LLetterPost$Row;I)LLetterPost$Node;" } : Jvm.MethodName)) ∈ lw_tbl := lw_at lw_m6 100 rfl
theorem q1443 : (Jvm.Cond.instanceMethod ({ cls := "LetterPost$Maker", name := "byKind", desc := "(ILLetterPost$Place;[LLetterPost$Row;I)LLetterPost$Node;" } : Jvm.MethodName)) ∈ lw_all := lw_g (lw_at lw_m6 101 rfl) rfl
theorem q1444 : (Jvm.Cond.code ({ cls := "LetterPost$Maker", name := "byKind", desc := "(ILLetterPost$Place;[LLetterPost$Row;I)LLetterPost$Node;" } : Jvm.MethodName) prog_13_method_14_code (8 : Nat) (Option.some (Jvm.ClassFile.FieldType.object "LetterPost$Node"))) ∈ lw_all := lw_g (lw_at lw_m6 102 rfl) rfl
theorem q1445 : (Jvm.Cond.classLink "LetterPost$Maker" (190 : Nat) "LetterPost$KindTest") ∈ lw_all := lw_g (lw_at lw_m6 103 rfl) rfl
theorem q1447 : (Jvm.Cond.methodLink "LetterPost$Maker" (192 : Nat) ({ cls := "LetterPost$Maker", name := "leaves", desc := "(I)[LLetterPost$Kind;" } : Jvm.MethodName)) ∈ lw_all := lw_g (lw_at lw_m6 105 rfl) rfl
theorem q1448 : (Jvm.Cond.privateMethod ({ cls := "LetterPost$Maker", name := "leaves", desc := "(I)[LLetterPost$Kind;" } : Jvm.MethodName)) ∈ lw_tbl := lw_at lw_m6 106 rfl
theorem q1449 : (Jvm.Cond.instanceMethod ({ cls := "LetterPost$Maker", name := "leaves", desc := "(I)[LLetterPost$Kind;" } : Jvm.MethodName)) ∈ lw_all := lw_g (lw_at lw_m6 107 rfl) rfl
theorem q1450 : (Jvm.Cond.code ({ cls := "LetterPost$Maker", name := "leaves", desc := "(I)[LLetterPost$Kind;" } : Jvm.MethodName) prog_13_method_8_code (5 : Nat) (Option.some (Jvm.ClassFile.FieldType.array (Jvm.ClassFile.FieldType.object "LetterPost$Kind")))) ∈ lw_all := lw_g (lw_at lw_m6 108 rfl) rfl
theorem q1451 : (Jvm.Cond.classLink "LetterPost$Maker" (146 : Nat) "LetterPost$Kind") ∈ lw_all := lw_g (lw_at lw_m6 109 rfl) rfl
theorem q1452 : (Jvm.Cond.methodLink "LetterPost$Maker" (196 : Nat) ({ cls := "LetterPost$KindTest", name := "<init>", desc := "(ILLetterPost$Place;[LLetterPost$Kind;)V" } : Jvm.MethodName)) ∈ lw_all := lw_g (lw_at lw_m6 110 rfl) rfl
theorem q1460 : (Jvm.Cond.fieldLink "LetterPost$Maker" (199 : Nat) "LetterPost$KindTest" "leaves" "[LLetterPost$Kind;") ∈ lw_all := lw_g (lw_at lw_m6 118 rfl) rfl
theorem q1477 : (Jvm.Cond.methodLink "LetterPost$Maker" (80 : Nat) ({ cls := "LetterPost$Maker", name := "byTruth", desc := "(ILLetterPost$Place;[LLetterPost$Row;I)LLetterPost$Node;" } : Jvm.MethodName)) ∈ lw_all := lw_g (lw_at lw_m6 135 rfl) rfl
theorem q1478 : (Jvm.Cond.privateMethod ({ cls := "LetterPost$Maker", name := "byTruth", desc := "(ILLetterPost$Place;[LLetterPost$Row;I)LLetterPost$Node;" } : Jvm.MethodName)) ∈ lw_tbl := lw_at lw_m6 136 rfl
theorem q1479 : (Jvm.Cond.instanceMethod ({ cls := "LetterPost$Maker", name := "byTruth", desc := "(ILLetterPost$Place;[LLetterPost$Row;I)LLetterPost$Node;" } : Jvm.MethodName)) ∈ lw_all := lw_g (lw_at lw_m6 137 rfl) rfl
theorem q1480 : (Jvm.Cond.code ({ cls := "LetterPost$Maker", name := "byTruth", desc := "(ILLetterPost$Place;[LLetterPost$Row;I)LLetterPost$Node;" } : Jvm.MethodName) prog_13_method_15_code (7 : Nat) (Option.some (Jvm.ClassFile.FieldType.object "LetterPost$Node"))) ∈ lw_all := lw_g (lw_at lw_m6 138 rfl) rfl
theorem q1481 : (Jvm.Cond.classLink "LetterPost$Maker" (206 : Nat) "LetterPost$TruthTest") ∈ lw_all := lw_g (lw_at lw_m6 139 rfl) rfl
theorem q1483 : (Jvm.Cond.methodLink "LetterPost$Maker" (208 : Nat) ({ cls := "LetterPost$TruthTest", name := "<init>", desc := "(ILLetterPost$Place;)V" } : Jvm.MethodName)) ∈ lw_all := lw_g (lw_at lw_m6 141 rfl) rfl
theorem q1491 : (Jvm.Cond.methodLink "LetterPost$Maker" (83 : Nat) ({ cls := "LetterPost$Maker", name := "byText", desc := "(ILLetterPost$Place;[LLetterPost$Row;I)LLetterPost$Node;" } : Jvm.MethodName)) ∈ lw_all := lw_g (lw_at lw_m6 149 rfl) rfl
theorem q1492 : (Jvm.Cond.privateMethod ({ cls := "LetterPost$Maker", name := "byText", desc := "(ILLetterPost$Place;[LLetterPost$Row;I)LLetterPost$Node;" } : Jvm.MethodName)) ∈ lw_tbl := lw_at lw_m6 150 rfl
theorem q1493 : (Jvm.Cond.instanceMethod ({ cls := "LetterPost$Maker", name := "byText", desc := "(ILLetterPost$Place;[LLetterPost$Row;I)LLetterPost$Node;" } : Jvm.MethodName)) ∈ lw_all := lw_g (lw_at lw_m6 151 rfl) rfl
theorem q1494 : (Jvm.Cond.code ({ cls := "LetterPost$Maker", name := "byText", desc := "(ILLetterPost$Place;[LLetterPost$Row;I)LLetterPost$Node;" } : Jvm.MethodName) prog_13_method_16_code (9 : Nat) (Option.some (Jvm.ClassFile.FieldType.object "LetterPost$Node"))) ∈ lw_all := lw_g (lw_at lw_m6 152 rfl) rfl
theorem q1495 : (Jvm.Cond.classLink "LetterPost$Maker" (212 : Nat) "LetterPost$TextTest") ∈ lw_all := lw_g (lw_at lw_m6 153 rfl) rfl
theorem q1497 : (Jvm.Cond.methodLink "LetterPost$Maker" (214 : Nat) ({ cls := "LetterPost$Maker", name := "texts", desc := "([LLetterPost$Row;ILLetterPost$Place;)[J" } : Jvm.MethodName)) ∈ lw_all := lw_g (lw_at lw_m6 155 rfl) rfl
theorem q1498 : (Jvm.Cond.privateMethod ({ cls := "LetterPost$Maker", name := "texts", desc := "([LLetterPost$Row;ILLetterPost$Place;)[J" } : Jvm.MethodName)) ∈ lw_tbl := lw_at lw_m6 156 rfl
theorem q1499 : (Jvm.Cond.instanceMethod ({ cls := "LetterPost$Maker", name := "texts", desc := "([LLetterPost$Row;ILLetterPost$Place;)[J" } : Jvm.MethodName)) ∈ lw_all := lw_g (lw_at lw_m6 157 rfl) rfl
theorem q1500 : (Jvm.Cond.code ({ cls := "LetterPost$Maker", name := "texts", desc := "([LLetterPost$Row;ILLetterPost$Place;)[J" } : Jvm.MethodName) prog_13_method_10_code (5 : Nat) (Option.some (Jvm.ClassFile.FieldType.array Jvm.ClassFile.FieldType.long))) ∈ lw_all := lw_g (lw_at lw_m6 158 rfl) rfl
theorem q1501 : (Jvm.Cond.methodLink "LetterPost$Maker" (218 : Nat) ({ cls := "LetterPost$TextTest", name := "<init>", desc := "(ILLetterPost$Place;[J)V" } : Jvm.MethodName)) ∈ lw_all := lw_g (lw_at lw_m6 159 rfl) rfl
theorem q1506 : (Jvm.Cond.fieldLink "LetterPost$Maker" (221 : Nat) "LetterPost$TextTest" "texts" "[J") ∈ lw_all := lw_g (lw_at lw_m6 164 rfl) rfl
theorem q1513 : (Jvm.Cond.methodLink "LetterPost$Maker" (86 : Nat) ({ cls := "LetterPost$Maker", name := "byWhole", desc := "(ILLetterPost$Place;[LLetterPost$Row;I)LLetterPost$Node;" } : Jvm.MethodName)) ∈ lw_all := lw_g (lw_at lw_m6 171 rfl) rfl
theorem q1514 : (Jvm.Cond.privateMethod ({ cls := "LetterPost$Maker", name := "byWhole", desc := "(ILLetterPost$Place;[LLetterPost$Row;I)LLetterPost$Node;" } : Jvm.MethodName)) ∈ lw_tbl := lw_at lw_m6 172 rfl
theorem q1515 : (Jvm.Cond.instanceMethod ({ cls := "LetterPost$Maker", name := "byWhole", desc := "(ILLetterPost$Place;[LLetterPost$Row;I)LLetterPost$Node;" } : Jvm.MethodName)) ∈ lw_all := lw_g (lw_at lw_m6 173 rfl) rfl
theorem q1516 : (Jvm.Cond.code ({ cls := "LetterPost$Maker", name := "byWhole", desc := "(ILLetterPost$Place;[LLetterPost$Row;I)LLetterPost$Node;" } : Jvm.MethodName) prog_13_method_17_code (9 : Nat) (Option.some (Jvm.ClassFile.FieldType.object "LetterPost$Node"))) ∈ lw_all := lw_g (lw_at lw_m6 174 rfl) rfl
theorem q1517 : (Jvm.Cond.classLink "LetterPost$Maker" (235 : Nat) "LetterPost$WholeTest") ∈ lw_all := lw_g (lw_at lw_m6 175 rfl) rfl
theorem q1519 : (Jvm.Cond.methodLink "LetterPost$Maker" (237 : Nat) ({ cls := "LetterPost$Maker", name := "borders", desc := "([LLetterPost$Row;ILLetterPost$Place;)[I" } : Jvm.MethodName)) ∈ lw_all := lw_g (lw_at lw_m6 177 rfl) rfl
theorem q1520 : (Jvm.Cond.privateMethod ({ cls := "LetterPost$Maker", name := "borders", desc := "([LLetterPost$Row;ILLetterPost$Place;)[I" } : Jvm.MethodName)) ∈ lw_tbl := lw_at lw_m6 178 rfl
theorem q1521 : (Jvm.Cond.instanceMethod ({ cls := "LetterPost$Maker", name := "borders", desc := "([LLetterPost$Row;ILLetterPost$Place;)[I" } : Jvm.MethodName)) ∈ lw_all := lw_g (lw_at lw_m6 179 rfl) rfl
theorem q1522 : (Jvm.Cond.code ({ cls := "LetterPost$Maker", name := "borders", desc := "([LLetterPost$Row;ILLetterPost$Place;)[I" } : Jvm.MethodName) prog_13_method_12_code (5 : Nat) (Option.some (Jvm.ClassFile.FieldType.array Jvm.ClassFile.FieldType.int))) ∈ lw_all := lw_g (lw_at lw_m6 180 rfl) rfl
theorem q1523 : (Jvm.Cond.methodLink "LetterPost$Maker" (241 : Nat) ({ cls := "LetterPost$WholeTest", name := "<init>", desc := "(ILLetterPost$Place;[I)V" } : Jvm.MethodName)) ∈ lw_all := lw_g (lw_at lw_m6 181 rfl) rfl
theorem q1528 : (Jvm.Cond.fieldLink "LetterPost$Maker" (244 : Nat) "LetterPost$WholeTest" "most" "[I") ∈ lw_all := lw_g (lw_at lw_m6 186 rfl) rfl
theorem q2054 : (Jvm.Cond.fieldLinkNest "LetterPost$Maker" (141 : Nat) "LetterPost" "kinds" "[LLetterPost$Kind;" "LetterPost") ∈ lw_tbl := lw_at lw_m8 232 rfl
theorem q2057 : (Jvm.Cond.fieldLinkNest "LetterPost$Maker" (138 : Nat) "LetterPost" "kindMany" "I" "LetterPost") ∈ lw_tbl := lw_at lw_m8 235 rfl
theorem in_X18 : ∀ w ∈ wsX180, w ∈ lw_all := lw_in wsX180 [1270, 1272, 1274, 1276, 1278, 1280, 1282] (by decide +kernel) (by decide +kernel)
