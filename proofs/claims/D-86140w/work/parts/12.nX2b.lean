/-! LetterPost$Known -/
set_option maxRecDepth 100000
def RX19 : String := "LetterPost$Known"
def TX19 : u_T := fun k => match k with
  | 0 => ("LetterPost$Known", "state", "[I", true)
  | 1 => ("LetterPost$Known", "kinds", "[LLetterPost$Kind;", true)
  | 2 => ("LetterPost$Known", "letters", "[J", true)
  | 3 => ("LetterPost$Known", "low", "[I", true)
  | 4 => ("LetterPost$Known", "high", "[I", true)
  | 5 => ("LetterPost$Known", "where", "[LLetterPost$Place;", true)
  | 6 => ("LetterPost$Known", "out", "[J", true)
  | _ => ("LetterPost$Known", "outs", "I", false)
def tyX19 : Nat → FieldType := fun k => match k with
  | 0 => .array .int
  | 1 => .array (.object "LetterPost$Kind")
  | 2 => .array .long
  | 3 => .array .int
  | 4 => .array .int
  | 5 => .array (.object "LetterPost$Place")
  | 6 => .array .long
  | _ => .int
abbrev wsX190 : List Cond := u_ws RX19 TX19 8
theorem nmX19 : ∀ a, a < 8 → ∀ b, b < 8 → a ≠ b → (TX19 a).2.1 ≠ (TX19 b).2.1 := by decide +kernel
theorem tyX19_ok : ∀ k, k < 8 → parseFieldDescriptor (TX19 k).2.2.1 = some (tyX19 k) := by decide +kernel
abbrev cX19_init : ByteArray := prog_11_method_1_code
def yX19_init : MethodName := ⟨RX19, "<init>", "(I)V"⟩
def dkwX19_init_3 : List UInt8 := [79, 42, 180, 0, 37, 28, 18, 43, 79, 132, 2, 1, 167, 255, 232, 177]
abbrev dktX19_init_3 : List UInt8 := dkwX19_init_3 ++ []
def dkwX19_init_2 : List UInt8 := [181, 0, 34, 42, 27, 188, 10, 181, 0, 37, 3, 61, 28, 27, 162, 0, 25, 42, 180, 0, 34, 28, 18, 42]
abbrev dktX19_init_2 : List UInt8 := dkwX19_init_2 ++ dktX19_init_3
def dkwX19_init_1 : List UInt8 := [188, 10, 181, 0, 21, 42, 27, 189, 0, 25, 181, 0, 27, 42, 27, 188, 11, 181, 0, 31, 42, 27, 188, 10]
abbrev dktX19_init_1 : List UInt8 := dkwX19_init_1 ++ dktX19_init_2
def dkwX19_init_0 : List UInt8 := [42, 183, 0, 3, 42, 16, 120, 189, 0, 9, 181, 0, 11, 42, 16, 120, 188, 11, 181, 0, 17, 42, 27]
abbrev dktX19_init_0 : List UInt8 := dkwX19_init_0 ++ dktX19_init_1
theorem dksX19_init_0 : cX19_init.data.toList.drop 0 = dktX19_init_0 := by decide +kernel
theorem dksX19_init_1 : cX19_init.data.toList.drop 23 = dktX19_init_1 := dk_seg dksX19_init_0 23 rfl rfl
theorem dksX19_init_2 : cX19_init.data.toList.drop 47 = dktX19_init_2 := dk_seg dksX19_init_1 24 rfl rfl
theorem dksX19_init_3 : cX19_init.data.toList.drop 71 = dktX19_init_3 := dk_seg dksX19_init_2 24 rfl rfl
theorem dX19_init_0 : decode cX19_init 0 = .ok (.aload_n 0, 1) := dk_42 (dk_at dksX19_init_0 0 rfl rfl)
theorem dX19_init_1 : decode cX19_init 1 = .ok (.invokespecial 3, 3) := dk_183 0 3 (dk_at dksX19_init_0 1 rfl rfl)
theorem dX19_init_4 : decode cX19_init 4 = .ok (.aload_n 0, 1) := dk_42 (dk_at dksX19_init_0 4 rfl rfl)
theorem dX19_init_5 : decode cX19_init 5 = .ok (.bipush 120, 2) := dk_16 120 (dk_at dksX19_init_0 5 rfl rfl)
theorem dX19_init_7 : decode cX19_init 7 = .ok (.anewarray 9, 3) := dk_189 0 9 (dk_at dksX19_init_0 7 rfl rfl)
theorem dX19_init_10 : decode cX19_init 10 = .ok (.putfield 11, 3) := dk_181 0 11 (dk_at dksX19_init_0 10 rfl rfl)
theorem dX19_init_13 : decode cX19_init 13 = .ok (.aload_n 0, 1) := dk_42 (dk_at dksX19_init_0 13 rfl rfl)
theorem dX19_init_14 : decode cX19_init 14 = .ok (.bipush 120, 2) := dk_16 120 (dk_at dksX19_init_0 14 rfl rfl)
theorem dX19_init_16 : decode cX19_init 16 = .ok (.newarray .long, 2) := dk_188_11 (dk_at dksX19_init_0 16 rfl rfl)
theorem dX19_init_18 : decode cX19_init 18 = .ok (.putfield 17, 3) := dk_181 0 17 (dk_at dksX19_init_0 18 rfl rfl)
theorem dX19_init_21 : decode cX19_init 21 = .ok (.aload_n 0, 1) := dk_42 (dk_at dksX19_init_0 21 rfl rfl)
theorem dX19_init_22 : decode cX19_init 22 = .ok (.iload_n 1, 1) := dk_27 (dk_at dksX19_init_0 22 rfl rfl)
theorem dX19_init_23 : decode cX19_init 23 = .ok (.newarray .int, 2) := dk_188_10 (dk_at dksX19_init_1 0 rfl rfl)
theorem dX19_init_25 : decode cX19_init 25 = .ok (.putfield 21, 3) := dk_181 0 21 (dk_at dksX19_init_1 2 rfl rfl)
theorem dX19_init_28 : decode cX19_init 28 = .ok (.aload_n 0, 1) := dk_42 (dk_at dksX19_init_1 5 rfl rfl)
theorem dX19_init_29 : decode cX19_init 29 = .ok (.iload_n 1, 1) := dk_27 (dk_at dksX19_init_1 6 rfl rfl)
theorem dX19_init_30 : decode cX19_init 30 = .ok (.anewarray 25, 3) := dk_189 0 25 (dk_at dksX19_init_1 7 rfl rfl)
theorem dX19_init_33 : decode cX19_init 33 = .ok (.putfield 27, 3) := dk_181 0 27 (dk_at dksX19_init_1 10 rfl rfl)
theorem dX19_init_36 : decode cX19_init 36 = .ok (.aload_n 0, 1) := dk_42 (dk_at dksX19_init_1 13 rfl rfl)
theorem dX19_init_37 : decode cX19_init 37 = .ok (.iload_n 1, 1) := dk_27 (dk_at dksX19_init_1 14 rfl rfl)
theorem dX19_init_38 : decode cX19_init 38 = .ok (.newarray .long, 2) := dk_188_11 (dk_at dksX19_init_1 15 rfl rfl)
theorem dX19_init_40 : decode cX19_init 40 = .ok (.putfield 31, 3) := dk_181 0 31 (dk_at dksX19_init_1 17 rfl rfl)
theorem dX19_init_43 : decode cX19_init 43 = .ok (.aload_n 0, 1) := dk_42 (dk_at dksX19_init_1 20 rfl rfl)
theorem dX19_init_44 : decode cX19_init 44 = .ok (.iload_n 1, 1) := dk_27 (dk_at dksX19_init_1 21 rfl rfl)
theorem dX19_init_45 : decode cX19_init 45 = .ok (.newarray .int, 2) := dk_188_10 (dk_at dksX19_init_1 22 rfl rfl)
theorem dX19_init_47 : decode cX19_init 47 = .ok (.putfield 34, 3) := dk_181 0 34 (dk_at dksX19_init_2 0 rfl rfl)
theorem dX19_init_50 : decode cX19_init 50 = .ok (.aload_n 0, 1) := dk_42 (dk_at dksX19_init_2 3 rfl rfl)
theorem dX19_init_51 : decode cX19_init 51 = .ok (.iload_n 1, 1) := dk_27 (dk_at dksX19_init_2 4 rfl rfl)
theorem dX19_init_52 : decode cX19_init 52 = .ok (.newarray .int, 2) := dk_188_10 (dk_at dksX19_init_2 5 rfl rfl)
theorem dX19_init_54 : decode cX19_init 54 = .ok (.putfield 37, 3) := dk_181 0 37 (dk_at dksX19_init_2 7 rfl rfl)
theorem dX19_init_57 : decode cX19_init 57 = .ok (.iconst 0, 1) := dk_3 (dk_at dksX19_init_2 10 rfl rfl)
theorem dX19_init_58 : decode cX19_init 58 = .ok (.istore_n 2, 1) := dk_61 (dk_at dksX19_init_2 11 rfl rfl)
theorem dX19_init_59 : decode cX19_init 59 = .ok (.iload_n 2, 1) := dk_28 (dk_at dksX19_init_2 12 rfl rfl)
theorem dX19_init_60 : decode cX19_init 60 = .ok (.iload_n 1, 1) := dk_27 (dk_at dksX19_init_2 13 rfl rfl)
theorem dX19_init_61 : decode cX19_init 61 = .ok (.if_icmp .ge 25, 3) := dk_162 0 25 (dk_at dksX19_init_2 14 rfl rfl)
theorem dX19_init_64 : decode cX19_init 64 = .ok (.aload_n 0, 1) := dk_42 (dk_at dksX19_init_2 17 rfl rfl)
theorem dX19_init_65 : decode cX19_init 65 = .ok (.getfield 34, 3) := dk_180 0 34 (dk_at dksX19_init_2 18 rfl rfl)
theorem dX19_init_68 : decode cX19_init 68 = .ok (.iload_n 2, 1) := dk_28 (dk_at dksX19_init_2 21 rfl rfl)
theorem dX19_init_69 : decode cX19_init 69 = .ok (.ldc 42, 2) := dk_18 42 (dk_at dksX19_init_2 22 rfl rfl)
theorem dX19_init_71 : decode cX19_init 71 = .ok (.iastore, 1) := dk_79 (dk_at dksX19_init_3 0 rfl rfl)
theorem dX19_init_72 : decode cX19_init 72 = .ok (.aload_n 0, 1) := dk_42 (dk_at dksX19_init_3 1 rfl rfl)
theorem dX19_init_73 : decode cX19_init 73 = .ok (.getfield 37, 3) := dk_180 0 37 (dk_at dksX19_init_3 2 rfl rfl)
theorem dX19_init_76 : decode cX19_init 76 = .ok (.iload_n 2, 1) := dk_28 (dk_at dksX19_init_3 5 rfl rfl)
theorem dX19_init_77 : decode cX19_init 77 = .ok (.ldc 43, 2) := dk_18 43 (dk_at dksX19_init_3 6 rfl rfl)
theorem dX19_init_79 : decode cX19_init 79 = .ok (.iastore, 1) := dk_79 (dk_at dksX19_init_3 8 rfl rfl)
theorem dX19_init_80 : decode cX19_init 80 = .ok (.iinc 2 1, 3) := dk_132 2 1 (dk_at dksX19_init_3 9 rfl rfl)
theorem dX19_init_83 : decode cX19_init 83 = .ok (.goto (-24), 3) := dk_167 255 232 (dk_at dksX19_init_3 12 rfl rfl)
theorem dX19_init_86 : decode cX19_init 86 = .ok (.return_, 1) := dk_177 (dk_at dksX19_init_3 15 rfl rfl)
abbrev cX19_isOut : ByteArray := prog_11_method_2_code
def yX19_isOut : MethodName := ⟨RX19, "isOut", "(LLetterPost$Place;J)Z"⟩
def dkwX19_isOut_2 : List UInt8 := [132, 5, 1, 167, 255, 211, 21, 4, 172]
abbrev dktX19_isOut_2 : List UInt8 := dkwX19_isOut_2 ++ []
def dkwX19_isOut_1 : List UInt8 := [43, 166, 0, 19, 42, 180, 0, 17, 21, 5, 47, 32, 148, 154, 0, 7, 4, 167, 0, 4, 3, 128, 54, 4]
abbrev dktX19_isOut_1 : List UInt8 := dkwX19_isOut_1 ++ dktX19_isOut_2
def dkwX19_isOut_0 : List UInt8 := [3, 54, 4, 3, 54, 5, 21, 5, 42, 180, 0, 44, 162, 0, 42, 21, 4, 42, 180, 0, 11, 21, 5, 50]
abbrev dktX19_isOut_0 : List UInt8 := dkwX19_isOut_0 ++ dktX19_isOut_1
theorem dksX19_isOut_0 : cX19_isOut.data.toList.drop 0 = dktX19_isOut_0 := by decide +kernel
theorem dksX19_isOut_1 : cX19_isOut.data.toList.drop 24 = dktX19_isOut_1 := dk_seg dksX19_isOut_0 24 rfl rfl
theorem dksX19_isOut_2 : cX19_isOut.data.toList.drop 48 = dktX19_isOut_2 := dk_seg dksX19_isOut_1 24 rfl rfl
theorem dX19_isOut_0 : decode cX19_isOut 0 = .ok (.iconst 0, 1) := dk_3 (dk_at dksX19_isOut_0 0 rfl rfl)
theorem dX19_isOut_1 : decode cX19_isOut 1 = .ok (.istore 4, 2) := dk_54 4 (dk_at dksX19_isOut_0 1 rfl rfl)
theorem dX19_isOut_3 : decode cX19_isOut 3 = .ok (.iconst 0, 1) := dk_3 (dk_at dksX19_isOut_0 3 rfl rfl)
theorem dX19_isOut_4 : decode cX19_isOut 4 = .ok (.istore 5, 2) := dk_54 5 (dk_at dksX19_isOut_0 4 rfl rfl)
theorem dX19_isOut_6 : decode cX19_isOut 6 = .ok (.iload 5, 2) := dk_21 5 (dk_at dksX19_isOut_0 6 rfl rfl)
theorem dX19_isOut_8 : decode cX19_isOut 8 = .ok (.aload_n 0, 1) := dk_42 (dk_at dksX19_isOut_0 8 rfl rfl)
theorem dX19_isOut_9 : decode cX19_isOut 9 = .ok (.getfield 44, 3) := dk_180 0 44 (dk_at dksX19_isOut_0 9 rfl rfl)
theorem dX19_isOut_12 : decode cX19_isOut 12 = .ok (.if_icmp .ge 42, 3) := dk_162 0 42 (dk_at dksX19_isOut_0 12 rfl rfl)
theorem dX19_isOut_15 : decode cX19_isOut 15 = .ok (.iload 4, 2) := dk_21 4 (dk_at dksX19_isOut_0 15 rfl rfl)
theorem dX19_isOut_17 : decode cX19_isOut 17 = .ok (.aload_n 0, 1) := dk_42 (dk_at dksX19_isOut_0 17 rfl rfl)
theorem dX19_isOut_18 : decode cX19_isOut 18 = .ok (.getfield 11, 3) := dk_180 0 11 (dk_at dksX19_isOut_0 18 rfl rfl)
theorem dX19_isOut_21 : decode cX19_isOut 21 = .ok (.iload 5, 2) := dk_21 5 (dk_at dksX19_isOut_0 21 rfl rfl)
theorem dX19_isOut_23 : decode cX19_isOut 23 = .ok (.aaload, 1) := dk_50 (dk_at dksX19_isOut_0 23 rfl rfl)
theorem dX19_isOut_24 : decode cX19_isOut 24 = .ok (.aload_n 1, 1) := dk_43 (dk_at dksX19_isOut_1 0 rfl rfl)
theorem dX19_isOut_25 : decode cX19_isOut 25 = .ok (.if_acmp .ne 19, 3) := dk_166 0 19 (dk_at dksX19_isOut_1 1 rfl rfl)
theorem dX19_isOut_28 : decode cX19_isOut 28 = .ok (.aload_n 0, 1) := dk_42 (dk_at dksX19_isOut_1 4 rfl rfl)
theorem dX19_isOut_29 : decode cX19_isOut 29 = .ok (.getfield 17, 3) := dk_180 0 17 (dk_at dksX19_isOut_1 5 rfl rfl)
theorem dX19_isOut_32 : decode cX19_isOut 32 = .ok (.iload 5, 2) := dk_21 5 (dk_at dksX19_isOut_1 8 rfl rfl)
theorem dX19_isOut_34 : decode cX19_isOut 34 = .ok (.laload, 1) := dk_47 (dk_at dksX19_isOut_1 10 rfl rfl)
theorem dX19_isOut_35 : decode cX19_isOut 35 = .ok (.lload_n 2, 1) := dk_32 (dk_at dksX19_isOut_1 11 rfl rfl)
theorem dX19_isOut_36 : decode cX19_isOut 36 = .ok (.lcmp, 1) := dk_148 (dk_at dksX19_isOut_1 12 rfl rfl)
theorem dX19_isOut_37 : decode cX19_isOut 37 = .ok (.ifCond .ne 7, 3) := dk_154 0 7 (dk_at dksX19_isOut_1 13 rfl rfl)
theorem dX19_isOut_40 : decode cX19_isOut 40 = .ok (.iconst 1, 1) := dk_4 (dk_at dksX19_isOut_1 16 rfl rfl)
theorem dX19_isOut_41 : decode cX19_isOut 41 = .ok (.goto 4, 3) := dk_167 0 4 (dk_at dksX19_isOut_1 17 rfl rfl)
theorem dX19_isOut_44 : decode cX19_isOut 44 = .ok (.iconst 0, 1) := dk_3 (dk_at dksX19_isOut_1 20 rfl rfl)
theorem dX19_isOut_45 : decode cX19_isOut 45 = .ok (.ior, 1) := dk_128 (dk_at dksX19_isOut_1 21 rfl rfl)
theorem dX19_isOut_46 : decode cX19_isOut 46 = .ok (.istore 4, 2) := dk_54 4 (dk_at dksX19_isOut_1 22 rfl rfl)
theorem dX19_isOut_48 : decode cX19_isOut 48 = .ok (.iinc 5 1, 3) := dk_132 5 1 (dk_at dksX19_isOut_2 0 rfl rfl)
theorem dX19_isOut_51 : decode cX19_isOut 51 = .ok (.goto (-45), 3) := dk_167 255 211 (dk_at dksX19_isOut_2 3 rfl rfl)
theorem dX19_isOut_54 : decode cX19_isOut 54 = .ok (.iload 4, 2) := dk_21 4 (dk_at dksX19_isOut_2 6 rfl rfl)
theorem dX19_isOut_56 : decode cX19_isOut 56 = .ok (.ireturn, 1) := dk_172 (dk_at dksX19_isOut_2 8 rfl rfl)
theorem q175 : (Jvm.Cond.initialized "LetterPost$Known") ∈ lw_all := lw_g (lw_at lw_m1 33 rfl) rfl
theorem q1210 : (Jvm.Cond.instantiable "LetterPost$Known" (8 : Nat)) ∈ lw_all := lw_g (lw_at lw_m5 108 rfl) rfl
theorem q1212 : (Jvm.Cond.instanceMethod ({ cls := "LetterPost$Known", name := "<init>", desc := "(I)V" } : Jvm.MethodName)) ∈ lw_all := lw_g (lw_at lw_m5 110 rfl) rfl
theorem q1213 : (Jvm.Cond.code ({ cls := "LetterPost$Known", name := "<init>", desc := "(I)V" } : Jvm.MethodName) prog_11_method_1_code (3 : Nat) (Option.none : Option Jvm.ClassFile.FieldType)) ∈ lw_all := lw_g (lw_at lw_m5 111 rfl) rfl
theorem q1214 : (Jvm.Cond.methodLink "LetterPost$Known" (3 : Nat) ({ cls := "java/lang/Object", name := "<init>", desc := "()V" } : Jvm.MethodName)) ∈ lw_all := lw_g (lw_at lw_m5 112 rfl) rfl
theorem q1215 : (Jvm.Cond.classLink "LetterPost$Known" (9 : Nat) "LetterPost$Place") ∈ lw_all := lw_g (lw_at lw_m5 113 rfl) rfl
theorem q1216 : (Jvm.Cond.classLink "LetterPost$Known" (25 : Nat) "LetterPost$Kind") ∈ lw_all := lw_g (lw_at lw_m5 114 rfl) rfl
theorem q1218 : (Jvm.Cond.constant "LetterPost$Known" (42 : Nat) (-2147483648 : Int32)) ∈ lw_all := lw_g (lw_at lw_m5 116 rfl) rfl
theorem q1219 : (Jvm.Cond.constant "LetterPost$Known" (43 : Nat) (2147483647 : Int32)) ∈ lw_all := lw_g (lw_at lw_m5 117 rfl) rfl
theorem q1220 : (Jvm.Cond.fieldLink "LetterPost$Known" (21 : Nat) "LetterPost$Known" "state" "[I") ∈ lw_all := lw_g (lw_at lw_m5 118 rfl) rfl
theorem q1226 : (Jvm.Cond.fieldLink "LetterPost$Known" (27 : Nat) "LetterPost$Known" "kinds" "[LLetterPost$Kind;") ∈ lw_all := lw_g (lw_at lw_m5 124 rfl) rfl
theorem q1229 : (Jvm.Cond.fieldLink "LetterPost$Known" (31 : Nat) "LetterPost$Known" "letters" "[J") ∈ lw_all := lw_g (lw_at lw_m5 127 rfl) rfl
theorem q1232 : (Jvm.Cond.fieldLink "LetterPost$Known" (34 : Nat) "LetterPost$Known" "low" "[I") ∈ lw_all := lw_g (lw_at lw_m5 130 rfl) rfl
theorem q1235 : (Jvm.Cond.fieldLink "LetterPost$Known" (37 : Nat) "LetterPost$Known" "high" "[I") ∈ lw_all := lw_g (lw_at lw_m5 133 rfl) rfl
theorem q1238 : (Jvm.Cond.fieldLink "LetterPost$Known" (11 : Nat) "LetterPost$Known" "where" "[LLetterPost$Place;") ∈ lw_all := lw_g (lw_at lw_m5 136 rfl) rfl
theorem q1240 : (Jvm.Cond.fieldLink "LetterPost$Known" (17 : Nat) "LetterPost$Known" "out" "[J") ∈ lw_all := lw_g (lw_at lw_m5 138 rfl) rfl
theorem q1242 : (Jvm.Cond.fieldLink "LetterPost$Known" (44 : Nat) "LetterPost$Known" "outs" "I") ∈ lw_all := lw_g (lw_at lw_m5 140 rfl) rfl
theorem q1244 : (Jvm.Cond.laysFinal "LetterPost$Known" "LetterPost$Known" "state" "[I") ∈ lw_all := lw_g (lw_at lw_m5 142 rfl) rfl
theorem q1245 : (Jvm.Cond.soleField "LetterPost$Known" "state") ∈ lw_all := lw_g (lw_at lw_m5 143 rfl) rfl
theorem q1246 : (Jvm.Cond.laysFinal "LetterPost$Known" "LetterPost$Known" "kinds" "[LLetterPost$Kind;") ∈ lw_all := lw_g (lw_at lw_m5 144 rfl) rfl
theorem q1247 : (Jvm.Cond.soleField "LetterPost$Known" "kinds") ∈ lw_all := lw_g (lw_at lw_m5 145 rfl) rfl
theorem q1248 : (Jvm.Cond.laysFinal "LetterPost$Known" "LetterPost$Known" "letters" "[J") ∈ lw_all := lw_g (lw_at lw_m5 146 rfl) rfl
theorem q1249 : (Jvm.Cond.soleField "LetterPost$Known" "letters") ∈ lw_all := lw_g (lw_at lw_m5 147 rfl) rfl
theorem q1250 : (Jvm.Cond.laysFinal "LetterPost$Known" "LetterPost$Known" "low" "[I") ∈ lw_all := lw_g (lw_at lw_m5 148 rfl) rfl
theorem q1251 : (Jvm.Cond.soleField "LetterPost$Known" "low") ∈ lw_all := lw_g (lw_at lw_m5 149 rfl) rfl
theorem q1252 : (Jvm.Cond.laysFinal "LetterPost$Known" "LetterPost$Known" "high" "[I") ∈ lw_all := lw_g (lw_at lw_m5 150 rfl) rfl
theorem q1253 : (Jvm.Cond.soleField "LetterPost$Known" "high") ∈ lw_all := lw_g (lw_at lw_m5 151 rfl) rfl
theorem q1254 : (Jvm.Cond.laysFinal "LetterPost$Known" "LetterPost$Known" "where" "[LLetterPost$Place;") ∈ lw_all := lw_g (lw_at lw_m5 152 rfl) rfl
theorem q1255 : (Jvm.Cond.soleField "LetterPost$Known" "where") ∈ lw_all := lw_g (lw_at lw_m5 153 rfl) rfl
theorem q1256 : (Jvm.Cond.laysFinal "LetterPost$Known" "LetterPost$Known" "out" "[J") ∈ lw_all := lw_g (lw_at lw_m5 154 rfl) rfl
theorem q1257 : (Jvm.Cond.soleField "LetterPost$Known" "out") ∈ lw_all := lw_g (lw_at lw_m5 155 rfl) rfl
theorem q1258 : (Jvm.Cond.lays "LetterPost$Known" "LetterPost$Known" "outs" "I") ∈ lw_all := lw_g (lw_at lw_m5 156 rfl) rfl
theorem q1259 : (Jvm.Cond.soleField "LetterPost$Known" "outs") ∈ lw_all := lw_g (lw_at lw_m5 157 rfl) rfl
theorem q1260 : (Jvm.Cond.superclass "LetterPost$Known" "java/lang/Object") ∈ lw_all := lw_g (lw_at lw_m5 158 rfl) rfl
theorem q1314 : (Jvm.Cond.instanceMethod ({ cls := "LetterPost$Known", name := "isOut", desc := "(LLetterPost$Place;J)Z" } : Jvm.MethodName)) ∈ lw_all := lw_g (lw_at lw_m5 212 rfl) rfl
theorem q1315 : (Jvm.Cond.selects "LetterPost$Known" ({ cls := "LetterPost$Known", name := "isOut", desc := "(LLetterPost$Place;J)Z" } : Jvm.MethodName) ({ cls := "LetterPost$Known", name := "isOut", desc := "(LLetterPost$Place;J)Z" } : Jvm.MethodName)) ∈ lw_all := lw_g (lw_at lw_m5 213 rfl) rfl
theorem q1316 : (Jvm.Cond.code ({ cls := "LetterPost$Known", name := "isOut", desc := "(LLetterPost$Place;J)Z" } : Jvm.MethodName) prog_11_method_2_code (6 : Nat) (Option.some Jvm.ClassFile.FieldType.boolean)) ∈ lw_all := lw_g (lw_at lw_m5 214 rfl) rfl
theorem in_X19 : ∀ w ∈ wsX190, w ∈ lw_all := lw_in wsX190 [1244, 1246, 1248, 1250, 1252, 1254, 1256, 1258] (by decide +kernel) (by decide +kernel)

/-! LetterPost$TooMany -/
set_option maxRecDepth 100000
def RX20 : String := "LetterPost$TooMany"
def TX20 : u_T := fun k => match k with
  | 0 => ("java/lang/Throwable", "cause", "Ljava/lang/Throwable;", false)
  | 1 => ("java/lang/Throwable", "stackTrace", "[Ljava/lang/StackTraceElement;", false)
  | 2 => ("java/lang/Throwable", "suppressedExceptions", "Ljava/util/List;", false)
  | 3 => ("java/lang/Throwable", "detailMessage", "Ljava/lang/String;", false)
  | 4 => ("java/lang/Throwable", "backtrace", "Ljava/lang/Object;", false)
  | _ => ("java/lang/Throwable", "depth", "I", false)
def tyX20 : Nat → FieldType := fun k => match k with
  | 0 => .object "java/lang/Throwable"
  | 1 => .array (.object "java/lang/StackTraceElement")
  | 2 => .object "java/util/List"
  | 3 => .object "java/lang/String"
  | 4 => .object "java/lang/Object"
  | _ => .int
abbrev wsX200 : List Cond := u_ws RX20 TX20 6
theorem nmX20 : ∀ a, a < 6 → ∀ b, b < 6 → a ≠ b → (TX20 a).2.1 ≠ (TX20 b).2.1 := by decide +kernel
theorem tyX20_ok : ∀ k, k < 6 → parseFieldDescriptor (TX20 k).2.2.1 = some (tyX20 k) := by decide +kernel
abbrev cX20_init : ByteArray := prog_27_method_1_code
def yX20_init : MethodName := ⟨RX20, "<init>", "()V"⟩
def dkwX20_init_0 : List UInt8 := [42, 1, 1, 3, 3, 183, 0, 1, 177]
abbrev dktX20_init_0 : List UInt8 := dkwX20_init_0 ++ []
theorem dksX20_init_0 : cX20_init.data.toList.drop 0 = dktX20_init_0 := by decide +kernel
theorem dX20_init_0 : decode cX20_init 0 = .ok (.aload_n 0, 1) := dk_42 (dk_at dksX20_init_0 0 rfl rfl)
theorem dX20_init_1 : decode cX20_init 1 = .ok (.aconst_null, 1) := dk_1 (dk_at dksX20_init_0 1 rfl rfl)
theorem dX20_init_2 : decode cX20_init 2 = .ok (.aconst_null, 1) := dk_1 (dk_at dksX20_init_0 2 rfl rfl)
theorem dX20_init_3 : decode cX20_init 3 = .ok (.iconst 0, 1) := dk_3 (dk_at dksX20_init_0 3 rfl rfl)
theorem dX20_init_4 : decode cX20_init 4 = .ok (.iconst 0, 1) := dk_3 (dk_at dksX20_init_0 4 rfl rfl)
theorem dX20_init_5 : decode cX20_init 5 = .ok (.invokespecial 1, 3) := dk_183 0 1 (dk_at dksX20_init_0 5 rfl rfl)
theorem dX20_init_8 : decode cX20_init 8 = .ok (.return_, 1) := dk_177 (dk_at dksX20_init_0 8 rfl rfl)
theorem q176 : (Jvm.Cond.initialized "LetterPost$TooMany") ∈ lw_all := lw_g (lw_at lw_m1 34 rfl) rfl
theorem q271 : (Jvm.Cond.selects "LetterPost$TooMany" ({ cls := "java/lang/Throwable", name := "fillInStackTrace", desc := "()Ljava/lang/Throwable;" } : Jvm.MethodName) ({ cls := "java/lang/Throwable", name := "fillInStackTrace", desc := "()Ljava/lang/Throwable;" } : Jvm.MethodName)) ∈ lw_all := lw_g (lw_at lw_m1 129 rfl) rfl
theorem q1318 : (Jvm.Cond.instantiable "LetterPost$TooMany" (6 : Nat)) ∈ lw_all := lw_g (lw_at lw_m5 216 rfl) rfl
theorem q1319 : (Jvm.Cond.castable "LetterPost$TooMany" "LetterPost$TooMany") ∈ lw_tbl := lw_at lw_m5 217 rfl
theorem q1320 : (Jvm.Cond.selects "LetterPost$TooMany" ({ cls := "java/lang/Throwable", name := "fillInStackTrace", desc := "(I)Ljava/lang/Throwable;" } : Jvm.MethodName) ({ cls := "java/lang/Throwable", name := "fillInStackTrace", desc := "(I)Ljava/lang/Throwable;" } : Jvm.MethodName)) ∈ lw_all := lw_g (lw_at lw_m5 218 rfl) rfl
theorem q1321 : (Jvm.Cond.lays "LetterPost$TooMany" "java/lang/Throwable" "cause" "Ljava/lang/Throwable;") ∈ lw_all := lw_g (lw_at lw_m5 219 rfl) rfl
theorem q1322 : (Jvm.Cond.lays "LetterPost$TooMany" "java/lang/Throwable" "stackTrace" "[Ljava/lang/StackTraceElement;") ∈ lw_all := lw_g (lw_at lw_m5 220 rfl) rfl
theorem q1323 : (Jvm.Cond.lays "LetterPost$TooMany" "java/lang/Throwable" "suppressedExceptions" "Ljava/util/List;") ∈ lw_all := lw_g (lw_at lw_m5 221 rfl) rfl
theorem q1324 : (Jvm.Cond.lays "LetterPost$TooMany" "java/lang/Throwable" "detailMessage" "Ljava/lang/String;") ∈ lw_all := lw_g (lw_at lw_m5 222 rfl) rfl
theorem q1325 : (Jvm.Cond.lays "LetterPost$TooMany" "java/lang/Throwable" "backtrace" "Ljava/lang/Object;") ∈ lw_all := lw_g (lw_at lw_m5 223 rfl) rfl
theorem q1327 : (Jvm.Cond.instanceMethod ({ cls := "LetterPost$TooMany", name := "<init>", desc := "()V" } : Jvm.MethodName)) ∈ lw_all := lw_g (lw_at lw_m5 225 rfl) rfl
theorem q1328 : (Jvm.Cond.code ({ cls := "LetterPost$TooMany", name := "<init>", desc := "()V" } : Jvm.MethodName) prog_27_method_1_code (1 : Nat) (Option.none : Option Jvm.ClassFile.FieldType)) ∈ lw_all := lw_g (lw_at lw_m5 226 rfl) rfl
theorem q1329 : (Jvm.Cond.methodLink "LetterPost$TooMany" (1 : Nat) ({ cls := "java/lang/Exception", name := "<init>", desc := "(Ljava/lang/String;Ljava/lang/Throwable;ZZ)V" } : Jvm.MethodName)) ∈ lw_all := lw_g (lw_at lw_m5 227 rfl) rfl
theorem q1330 : (Jvm.Cond.lays "LetterPost$TooMany" "java/lang/Throwable" "depth" "I") ∈ lw_all := lw_g (lw_at lw_m5 228 rfl) rfl
theorem q1331 : (Jvm.Cond.superclass "LetterPost$TooMany" "java/lang/Exception") ∈ lw_all := lw_g (lw_at lw_m5 229 rfl) rfl
theorem in_X20 : ∀ w ∈ wsX200, w ∈ lw_all := lw_in wsX200 [1321, 1322, 1323, 1324, 1325, 1330] (by decide +kernel) (by decide +kernel)

/-! LetterPost$Node -/
set_option maxRecDepth 100000
def RX21 : String := "LetterPost$Node"
abbrev cX21_init : ByteArray := prog_14_method_1_code
def yX21_init : MethodName := ⟨RX21, "<init>", "(I)V"⟩
def dkwX21_init_0 : List UInt8 := [42, 183, 0, 1, 42, 3, 189, 0, 7, 181, 0, 9, 42, 27, 181, 0, 13, 177]
abbrev dktX21_init_0 : List UInt8 := dkwX21_init_0 ++ []
theorem dksX21_init_0 : cX21_init.data.toList.drop 0 = dktX21_init_0 := by decide +kernel
theorem dX21_init_0 : decode cX21_init 0 = .ok (.aload_n 0, 1) := dk_42 (dk_at dksX21_init_0 0 rfl rfl)
theorem dX21_init_1 : decode cX21_init 1 = .ok (.invokespecial 1, 3) := dk_183 0 1 (dk_at dksX21_init_0 1 rfl rfl)
theorem dX21_init_4 : decode cX21_init 4 = .ok (.aload_n 0, 1) := dk_42 (dk_at dksX21_init_0 4 rfl rfl)
theorem dX21_init_5 : decode cX21_init 5 = .ok (.iconst 0, 1) := dk_3 (dk_at dksX21_init_0 5 rfl rfl)
theorem dX21_init_6 : decode cX21_init 6 = .ok (.anewarray 7, 3) := dk_189 0 7 (dk_at dksX21_init_0 6 rfl rfl)
theorem dX21_init_9 : decode cX21_init 9 = .ok (.putfield 9, 3) := dk_181 0 9 (dk_at dksX21_init_0 9 rfl rfl)
theorem dX21_init_12 : decode cX21_init 12 = .ok (.aload_n 0, 1) := dk_42 (dk_at dksX21_init_0 12 rfl rfl)
theorem dX21_init_13 : decode cX21_init 13 = .ok (.iload_n 1, 1) := dk_27 (dk_at dksX21_init_0 13 rfl rfl)
theorem dX21_init_14 : decode cX21_init 14 = .ok (.putfield 13, 3) := dk_181 0 13 (dk_at dksX21_init_0 14 rfl rfl)
theorem dX21_init_17 : decode cX21_init 17 = .ok (.return_, 1) := dk_177 (dk_at dksX21_init_0 17 rfl rfl)
abbrev cX21_many : ByteArray := prog_14_method_7_code
def yX21_many : MethodName := ⟨RX21, "many", "()I"⟩
def dkwX21_many_1 : List UInt8 := [58, 5, 27, 25, 5, 182, 0, 27, 96, 60, 132, 4, 1, 167, 255, 233, 27, 172]
abbrev dktX21_many_1 : List UInt8 := dkwX21_many_1 ++ []
def dkwX21_many_0 : List UInt8 := [4, 60, 42, 180, 0, 9, 77, 44, 190, 62, 3, 54, 4, 21, 4, 29, 162, 0, 23, 44, 21, 4, 50]
abbrev dktX21_many_0 : List UInt8 := dkwX21_many_0 ++ dktX21_many_1
theorem dksX21_many_0 : cX21_many.data.toList.drop 0 = dktX21_many_0 := by decide +kernel
theorem dksX21_many_1 : cX21_many.data.toList.drop 23 = dktX21_many_1 := dk_seg dksX21_many_0 23 rfl rfl
theorem dX21_many_0 : decode cX21_many 0 = .ok (.iconst 1, 1) := dk_4 (dk_at dksX21_many_0 0 rfl rfl)
theorem dX21_many_1 : decode cX21_many 1 = .ok (.istore_n 1, 1) := dk_60 (dk_at dksX21_many_0 1 rfl rfl)
theorem dX21_many_2 : decode cX21_many 2 = .ok (.aload_n 0, 1) := dk_42 (dk_at dksX21_many_0 2 rfl rfl)
theorem dX21_many_3 : decode cX21_many 3 = .ok (.getfield 9, 3) := dk_180 0 9 (dk_at dksX21_many_0 3 rfl rfl)
theorem dX21_many_6 : decode cX21_many 6 = .ok (.astore_n 2, 1) := dk_77 (dk_at dksX21_many_0 6 rfl rfl)
theorem dX21_many_7 : decode cX21_many 7 = .ok (.aload_n 2, 1) := dk_44 (dk_at dksX21_many_0 7 rfl rfl)
theorem dX21_many_8 : decode cX21_many 8 = .ok (.arraylength, 1) := dk_190 (dk_at dksX21_many_0 8 rfl rfl)
theorem dX21_many_9 : decode cX21_many 9 = .ok (.istore_n 3, 1) := dk_62 (dk_at dksX21_many_0 9 rfl rfl)
theorem dX21_many_10 : decode cX21_many 10 = .ok (.iconst 0, 1) := dk_3 (dk_at dksX21_many_0 10 rfl rfl)
theorem dX21_many_11 : decode cX21_many 11 = .ok (.istore 4, 2) := dk_54 4 (dk_at dksX21_many_0 11 rfl rfl)
theorem dX21_many_13 : decode cX21_many 13 = .ok (.iload 4, 2) := dk_21 4 (dk_at dksX21_many_0 13 rfl rfl)
theorem dX21_many_15 : decode cX21_many 15 = .ok (.iload_n 3, 1) := dk_29 (dk_at dksX21_many_0 15 rfl rfl)
theorem dX21_many_16 : decode cX21_many 16 = .ok (.if_icmp .ge 23, 3) := dk_162 0 23 (dk_at dksX21_many_0 16 rfl rfl)
theorem dX21_many_19 : decode cX21_many 19 = .ok (.aload_n 2, 1) := dk_44 (dk_at dksX21_many_0 19 rfl rfl)
theorem dX21_many_20 : decode cX21_many 20 = .ok (.iload 4, 2) := dk_21 4 (dk_at dksX21_many_0 20 rfl rfl)
theorem dX21_many_22 : decode cX21_many 22 = .ok (.aaload, 1) := dk_50 (dk_at dksX21_many_0 22 rfl rfl)
theorem dX21_many_23 : decode cX21_many 23 = .ok (.astore 5, 2) := dk_58 5 (dk_at dksX21_many_1 0 rfl rfl)
theorem dX21_many_25 : decode cX21_many 25 = .ok (.iload_n 1, 1) := dk_27 (dk_at dksX21_many_1 2 rfl rfl)
theorem dX21_many_26 : decode cX21_many 26 = .ok (.aload 5, 2) := dk_25 5 (dk_at dksX21_many_1 3 rfl rfl)
theorem dX21_many_28 : decode cX21_many 28 = .ok (.invokevirtual 27, 3) := dk_182 0 27 (dk_at dksX21_many_1 5 rfl rfl)
theorem dX21_many_31 : decode cX21_many 31 = .ok (.iadd, 1) := dk_96 (dk_at dksX21_many_1 8 rfl rfl)
theorem dX21_many_32 : decode cX21_many 32 = .ok (.istore_n 1, 1) := dk_60 (dk_at dksX21_many_1 9 rfl rfl)
theorem dX21_many_33 : decode cX21_many 33 = .ok (.iinc 4 1, 3) := dk_132 4 1 (dk_at dksX21_many_1 10 rfl rfl)
theorem dX21_many_36 : decode cX21_many 36 = .ok (.goto (-23), 3) := dk_167 255 233 (dk_at dksX21_many_1 13 rfl rfl)
theorem dX21_many_39 : decode cX21_many 39 = .ok (.iload_n 1, 1) := dk_27 (dk_at dksX21_many_1 16 rfl rfl)
theorem dX21_many_40 : decode cX21_many 40 = .ok (.ireturn, 1) := dk_172 (dk_at dksX21_many_1 17 rfl rfl)
abbrev cX21_depth : ByteArray := prog_14_method_6_code
def yX21_depth : MethodName := ⟨RX21, "depth", "()I"⟩
def dkwX21_depth_1 : List UInt8 := [58, 5, 27, 25, 5, 182, 0, 17, 184, 0, 21, 60, 132, 4, 1, 167, 255, 231, 27, 4, 96, 172]
abbrev dktX21_depth_1 : List UInt8 := dkwX21_depth_1 ++ []
def dkwX21_depth_0 : List UInt8 := [3, 60, 42, 180, 0, 9, 77, 44, 190, 62, 3, 54, 4, 21, 4, 29, 162, 0, 25, 44, 21, 4, 50]
abbrev dktX21_depth_0 : List UInt8 := dkwX21_depth_0 ++ dktX21_depth_1
theorem dksX21_depth_0 : cX21_depth.data.toList.drop 0 = dktX21_depth_0 := by decide +kernel
theorem dksX21_depth_1 : cX21_depth.data.toList.drop 23 = dktX21_depth_1 := dk_seg dksX21_depth_0 23 rfl rfl
theorem dX21_depth_0 : decode cX21_depth 0 = .ok (.iconst 0, 1) := dk_3 (dk_at dksX21_depth_0 0 rfl rfl)
theorem dX21_depth_1 : decode cX21_depth 1 = .ok (.istore_n 1, 1) := dk_60 (dk_at dksX21_depth_0 1 rfl rfl)
theorem dX21_depth_2 : decode cX21_depth 2 = .ok (.aload_n 0, 1) := dk_42 (dk_at dksX21_depth_0 2 rfl rfl)
theorem dX21_depth_3 : decode cX21_depth 3 = .ok (.getfield 9, 3) := dk_180 0 9 (dk_at dksX21_depth_0 3 rfl rfl)
theorem dX21_depth_6 : decode cX21_depth 6 = .ok (.astore_n 2, 1) := dk_77 (dk_at dksX21_depth_0 6 rfl rfl)
theorem dX21_depth_7 : decode cX21_depth 7 = .ok (.aload_n 2, 1) := dk_44 (dk_at dksX21_depth_0 7 rfl rfl)
theorem dX21_depth_8 : decode cX21_depth 8 = .ok (.arraylength, 1) := dk_190 (dk_at dksX21_depth_0 8 rfl rfl)
theorem dX21_depth_9 : decode cX21_depth 9 = .ok (.istore_n 3, 1) := dk_62 (dk_at dksX21_depth_0 9 rfl rfl)
theorem dX21_depth_10 : decode cX21_depth 10 = .ok (.iconst 0, 1) := dk_3 (dk_at dksX21_depth_0 10 rfl rfl)
theorem dX21_depth_11 : decode cX21_depth 11 = .ok (.istore 4, 2) := dk_54 4 (dk_at dksX21_depth_0 11 rfl rfl)
theorem dX21_depth_13 : decode cX21_depth 13 = .ok (.iload 4, 2) := dk_21 4 (dk_at dksX21_depth_0 13 rfl rfl)
theorem dX21_depth_15 : decode cX21_depth 15 = .ok (.iload_n 3, 1) := dk_29 (dk_at dksX21_depth_0 15 rfl rfl)
theorem dX21_depth_16 : decode cX21_depth 16 = .ok (.if_icmp .ge 25, 3) := dk_162 0 25 (dk_at dksX21_depth_0 16 rfl rfl)
theorem dX21_depth_19 : decode cX21_depth 19 = .ok (.aload_n 2, 1) := dk_44 (dk_at dksX21_depth_0 19 rfl rfl)
theorem dX21_depth_20 : decode cX21_depth 20 = .ok (.iload 4, 2) := dk_21 4 (dk_at dksX21_depth_0 20 rfl rfl)
theorem dX21_depth_22 : decode cX21_depth 22 = .ok (.aaload, 1) := dk_50 (dk_at dksX21_depth_0 22 rfl rfl)
theorem dX21_depth_23 : decode cX21_depth 23 = .ok (.astore 5, 2) := dk_58 5 (dk_at dksX21_depth_1 0 rfl rfl)
theorem dX21_depth_25 : decode cX21_depth 25 = .ok (.iload_n 1, 1) := dk_27 (dk_at dksX21_depth_1 2 rfl rfl)
theorem dX21_depth_26 : decode cX21_depth 26 = .ok (.aload 5, 2) := dk_25 5 (dk_at dksX21_depth_1 3 rfl rfl)
theorem dX21_depth_28 : decode cX21_depth 28 = .ok (.invokevirtual 17, 3) := dk_182 0 17 (dk_at dksX21_depth_1 5 rfl rfl)
theorem dX21_depth_31 : decode cX21_depth 31 = .ok (.invokestatic 21, 3) := dk_184 0 21 (dk_at dksX21_depth_1 8 rfl rfl)
theorem dX21_depth_34 : decode cX21_depth 34 = .ok (.istore_n 1, 1) := dk_60 (dk_at dksX21_depth_1 11 rfl rfl)
theorem dX21_depth_35 : decode cX21_depth 35 = .ok (.iinc 4 1, 3) := dk_132 4 1 (dk_at dksX21_depth_1 12 rfl rfl)
theorem dX21_depth_38 : decode cX21_depth 38 = .ok (.goto (-25), 3) := dk_167 255 231 (dk_at dksX21_depth_1 15 rfl rfl)
theorem dX21_depth_41 : decode cX21_depth 41 = .ok (.iload_n 1, 1) := dk_27 (dk_at dksX21_depth_1 18 rfl rfl)
theorem dX21_depth_42 : decode cX21_depth 42 = .ok (.iconst 1, 1) := dk_4 (dk_at dksX21_depth_1 19 rfl rfl)
theorem dX21_depth_43 : decode cX21_depth 43 = .ok (.iadd, 1) := dk_96 (dk_at dksX21_depth_1 20 rfl rfl)
theorem dX21_depth_44 : decode cX21_depth 44 = .ok (.ireturn, 1) := dk_172 (dk_at dksX21_depth_1 21 rfl rfl)
abbrev cX21_find : ByteArray := prog_14_method_8_code
def yX21_find : MethodName := ⟨RX21, "find", "(I)LLetterPost$Node;"⟩
def dkwX21_find_2 : List UInt8 := [29, 50, 77, 167, 255, 207, 44, 176]
abbrev dktX21_find_2 : List UInt8 := dkwX21_find_2 ++ []
def dkwX21_find_1 : List UInt8 := [180, 0, 9, 29, 4, 96, 50, 180, 0, 13, 27, 163, 0, 9, 132, 3, 1, 167, 255, 227, 44, 180, 0, 9]
abbrev dktX21_find_1 : List UInt8 := dkwX21_find_1 ++ dktX21_find_2
def dkwX21_find_0 : List UInt8 := [42, 77, 44, 180, 0, 13, 27, 159, 0, 47, 3, 62, 29, 4, 96, 44, 180, 0, 9, 190, 162, 0, 24, 44]
abbrev dktX21_find_0 : List UInt8 := dkwX21_find_0 ++ dktX21_find_1
theorem dksX21_find_0 : cX21_find.data.toList.drop 0 = dktX21_find_0 := by decide +kernel
theorem dksX21_find_1 : cX21_find.data.toList.drop 24 = dktX21_find_1 := dk_seg dksX21_find_0 24 rfl rfl
theorem dksX21_find_2 : cX21_find.data.toList.drop 48 = dktX21_find_2 := dk_seg dksX21_find_1 24 rfl rfl
theorem dX21_find_0 : decode cX21_find 0 = .ok (.aload_n 0, 1) := dk_42 (dk_at dksX21_find_0 0 rfl rfl)
theorem dX21_find_1 : decode cX21_find 1 = .ok (.astore_n 2, 1) := dk_77 (dk_at dksX21_find_0 1 rfl rfl)
theorem dX21_find_2 : decode cX21_find 2 = .ok (.aload_n 2, 1) := dk_44 (dk_at dksX21_find_0 2 rfl rfl)
theorem dX21_find_3 : decode cX21_find 3 = .ok (.getfield 13, 3) := dk_180 0 13 (dk_at dksX21_find_0 3 rfl rfl)
theorem dX21_find_6 : decode cX21_find 6 = .ok (.iload_n 1, 1) := dk_27 (dk_at dksX21_find_0 6 rfl rfl)
theorem dX21_find_7 : decode cX21_find 7 = .ok (.if_icmp .eq 47, 3) := dk_159 0 47 (dk_at dksX21_find_0 7 rfl rfl)
theorem dX21_find_10 : decode cX21_find 10 = .ok (.iconst 0, 1) := dk_3 (dk_at dksX21_find_0 10 rfl rfl)
theorem dX21_find_11 : decode cX21_find 11 = .ok (.istore_n 3, 1) := dk_62 (dk_at dksX21_find_0 11 rfl rfl)
theorem dX21_find_12 : decode cX21_find 12 = .ok (.iload_n 3, 1) := dk_29 (dk_at dksX21_find_0 12 rfl rfl)
theorem dX21_find_13 : decode cX21_find 13 = .ok (.iconst 1, 1) := dk_4 (dk_at dksX21_find_0 13 rfl rfl)
theorem dX21_find_14 : decode cX21_find 14 = .ok (.iadd, 1) := dk_96 (dk_at dksX21_find_0 14 rfl rfl)
theorem dX21_find_15 : decode cX21_find 15 = .ok (.aload_n 2, 1) := dk_44 (dk_at dksX21_find_0 15 rfl rfl)
theorem dX21_find_16 : decode cX21_find 16 = .ok (.getfield 9, 3) := dk_180 0 9 (dk_at dksX21_find_0 16 rfl rfl)
theorem dX21_find_19 : decode cX21_find 19 = .ok (.arraylength, 1) := dk_190 (dk_at dksX21_find_0 19 rfl rfl)
theorem dX21_find_20 : decode cX21_find 20 = .ok (.if_icmp .ge 24, 3) := dk_162 0 24 (dk_at dksX21_find_0 20 rfl rfl)
theorem dX21_find_23 : decode cX21_find 23 = .ok (.aload_n 2, 1) := dk_44 (dk_at dksX21_find_0 23 rfl rfl)
theorem dX21_find_24 : decode cX21_find 24 = .ok (.getfield 9, 3) := dk_180 0 9 (dk_at dksX21_find_1 0 rfl rfl)
theorem dX21_find_27 : decode cX21_find 27 = .ok (.iload_n 3, 1) := dk_29 (dk_at dksX21_find_1 3 rfl rfl)
theorem dX21_find_28 : decode cX21_find 28 = .ok (.iconst 1, 1) := dk_4 (dk_at dksX21_find_1 4 rfl rfl)
theorem dX21_find_29 : decode cX21_find 29 = .ok (.iadd, 1) := dk_96 (dk_at dksX21_find_1 5 rfl rfl)
theorem dX21_find_30 : decode cX21_find 30 = .ok (.aaload, 1) := dk_50 (dk_at dksX21_find_1 6 rfl rfl)
theorem dX21_find_31 : decode cX21_find 31 = .ok (.getfield 13, 3) := dk_180 0 13 (dk_at dksX21_find_1 7 rfl rfl)
theorem dX21_find_34 : decode cX21_find 34 = .ok (.iload_n 1, 1) := dk_27 (dk_at dksX21_find_1 10 rfl rfl)
theorem dX21_find_35 : decode cX21_find 35 = .ok (.if_icmp .gt 9, 3) := dk_163 0 9 (dk_at dksX21_find_1 11 rfl rfl)
theorem dX21_find_38 : decode cX21_find 38 = .ok (.iinc 3 1, 3) := dk_132 3 1 (dk_at dksX21_find_1 14 rfl rfl)
theorem dX21_find_41 : decode cX21_find 41 = .ok (.goto (-29), 3) := dk_167 255 227 (dk_at dksX21_find_1 17 rfl rfl)
theorem dX21_find_44 : decode cX21_find 44 = .ok (.aload_n 2, 1) := dk_44 (dk_at dksX21_find_1 20 rfl rfl)
theorem dX21_find_45 : decode cX21_find 45 = .ok (.getfield 9, 3) := dk_180 0 9 (dk_at dksX21_find_1 21 rfl rfl)
theorem dX21_find_48 : decode cX21_find 48 = .ok (.iload_n 3, 1) := dk_29 (dk_at dksX21_find_2 0 rfl rfl)
theorem dX21_find_49 : decode cX21_find 49 = .ok (.aaload, 1) := dk_50 (dk_at dksX21_find_2 1 rfl rfl)
theorem dX21_find_50 : decode cX21_find 50 = .ok (.astore_n 2, 1) := dk_77 (dk_at dksX21_find_2 2 rfl rfl)
theorem dX21_find_51 : decode cX21_find 51 = .ok (.goto (-49), 3) := dk_167 255 207 (dk_at dksX21_find_2 3 rfl rfl)
theorem dX21_find_54 : decode cX21_find 54 = .ok (.aload_n 2, 1) := dk_44 (dk_at dksX21_find_2 6 rfl rfl)
theorem dX21_find_55 : decode cX21_find 55 = .ok (.areturn, 1) := dk_176 (dk_at dksX21_find_2 7 rfl rfl)
abbrev cX21_what : ByteArray := prog_14_method_2_code
def yX21_what : MethodName := ⟨RX21, "what", "()I"⟩
theorem dX21_what_0 : decode cX21_what 0 = .ok (.iconst 0, 1) := by decide +kernel
theorem dX21_what_1 : decode cX21_what 1 = .ok (.ireturn, 1) := by decide +kernel
abbrev cX21_rule : ByteArray := prog_14_method_3_code
def yX21_rule : MethodName := ⟨RX21, "rule", "()LLetterPost$Rule;"⟩
theorem dX21_rule_0 : decode cX21_rule 0 = .ok (.aconst_null, 1) := by decide +kernel
theorem dX21_rule_1 : decode cX21_rule 1 = .ok (.areturn, 1) := by decide +kernel
abbrev cX21_place : ByteArray := prog_14_method_4_code
def yX21_place : MethodName := ⟨RX21, "place", "()LLetterPost$Place;"⟩
theorem dX21_place_0 : decode cX21_place 0 = .ok (.aconst_null, 1) := by decide +kernel
theorem dX21_place_1 : decode cX21_place 1 = .ok (.areturn, 1) := by decide +kernel
abbrev cX21_has : ByteArray := prog_14_method_9_code
def yX21_has : MethodName := ⟨RX21, "has", "(LLetterPost$Rule;)Z"⟩
def dkwX21_has_2 : List UInt8 := [154, 0, 20, 42, 180, 0, 9, 29, 50, 43, 182, 0, 34, 61, 132, 3, 1, 167, 255, 229, 28, 172]
abbrev dktX21_has_2 : List UInt8 := dkwX21_has_2 ++ []
def dkwX21_has_1 : List UInt8 := [43, 166, 0, 7, 4, 167, 0, 4, 3, 61, 3, 62, 29, 42, 180, 0, 9, 190, 162, 0, 24, 28]
abbrev dktX21_has_1 : List UInt8 := dkwX21_has_1 ++ dktX21_has_2
def dkwX21_has_0 : List UInt8 := [42, 182, 0, 30, 43, 166, 0, 11, 42, 180, 0, 9, 190, 153, 0, 15, 43, 198, 0, 15, 42, 182, 0, 30]
abbrev dktX21_has_0 : List UInt8 := dkwX21_has_0 ++ dktX21_has_1
theorem dksX21_has_0 : cX21_has.data.toList.drop 0 = dktX21_has_0 := by decide +kernel
theorem dksX21_has_1 : cX21_has.data.toList.drop 24 = dktX21_has_1 := dk_seg dksX21_has_0 24 rfl rfl
theorem dksX21_has_2 : cX21_has.data.toList.drop 46 = dktX21_has_2 := dk_seg dksX21_has_1 22 rfl rfl
theorem dX21_has_0 : decode cX21_has 0 = .ok (.aload_n 0, 1) := dk_42 (dk_at dksX21_has_0 0 rfl rfl)
theorem dX21_has_1 : decode cX21_has 1 = .ok (.invokevirtual 30, 3) := dk_182 0 30 (dk_at dksX21_has_0 1 rfl rfl)
theorem dX21_has_4 : decode cX21_has 4 = .ok (.aload_n 1, 1) := dk_43 (dk_at dksX21_has_0 4 rfl rfl)
theorem dX21_has_5 : decode cX21_has 5 = .ok (.if_acmp .ne 11, 3) := dk_166 0 11 (dk_at dksX21_has_0 5 rfl rfl)
theorem dX21_has_8 : decode cX21_has 8 = .ok (.aload_n 0, 1) := dk_42 (dk_at dksX21_has_0 8 rfl rfl)
theorem dX21_has_9 : decode cX21_has 9 = .ok (.getfield 9, 3) := dk_180 0 9 (dk_at dksX21_has_0 9 rfl rfl)
theorem dX21_has_12 : decode cX21_has 12 = .ok (.arraylength, 1) := dk_190 (dk_at dksX21_has_0 12 rfl rfl)
theorem dX21_has_13 : decode cX21_has 13 = .ok (.ifCond .eq 15, 3) := dk_153 0 15 (dk_at dksX21_has_0 13 rfl rfl)
theorem dX21_has_16 : decode cX21_has 16 = .ok (.aload_n 1, 1) := dk_43 (dk_at dksX21_has_0 16 rfl rfl)
theorem dX21_has_17 : decode cX21_has 17 = .ok (.ifnull 15, 3) := dk_198 0 15 (dk_at dksX21_has_0 17 rfl rfl)
theorem dX21_has_20 : decode cX21_has 20 = .ok (.aload_n 0, 1) := dk_42 (dk_at dksX21_has_0 20 rfl rfl)
theorem dX21_has_21 : decode cX21_has 21 = .ok (.invokevirtual 30, 3) := dk_182 0 30 (dk_at dksX21_has_0 21 rfl rfl)
theorem dX21_has_24 : decode cX21_has 24 = .ok (.aload_n 1, 1) := dk_43 (dk_at dksX21_has_1 0 rfl rfl)
theorem dX21_has_25 : decode cX21_has 25 = .ok (.if_acmp .ne 7, 3) := dk_166 0 7 (dk_at dksX21_has_1 1 rfl rfl)
theorem dX21_has_28 : decode cX21_has 28 = .ok (.iconst 1, 1) := dk_4 (dk_at dksX21_has_1 4 rfl rfl)
theorem dX21_has_29 : decode cX21_has 29 = .ok (.goto 4, 3) := dk_167 0 4 (dk_at dksX21_has_1 5 rfl rfl)
theorem dX21_has_32 : decode cX21_has 32 = .ok (.iconst 0, 1) := dk_3 (dk_at dksX21_has_1 8 rfl rfl)
theorem dX21_has_33 : decode cX21_has 33 = .ok (.istore_n 2, 1) := dk_61 (dk_at dksX21_has_1 9 rfl rfl)
theorem dX21_has_34 : decode cX21_has 34 = .ok (.iconst 0, 1) := dk_3 (dk_at dksX21_has_1 10 rfl rfl)
theorem dX21_has_35 : decode cX21_has 35 = .ok (.istore_n 3, 1) := dk_62 (dk_at dksX21_has_1 11 rfl rfl)
theorem dX21_has_36 : decode cX21_has 36 = .ok (.iload_n 3, 1) := dk_29 (dk_at dksX21_has_1 12 rfl rfl)
theorem dX21_has_37 : decode cX21_has 37 = .ok (.aload_n 0, 1) := dk_42 (dk_at dksX21_has_1 13 rfl rfl)
theorem dX21_has_38 : decode cX21_has 38 = .ok (.getfield 9, 3) := dk_180 0 9 (dk_at dksX21_has_1 14 rfl rfl)
theorem dX21_has_41 : decode cX21_has 41 = .ok (.arraylength, 1) := dk_190 (dk_at dksX21_has_1 17 rfl rfl)
theorem dX21_has_42 : decode cX21_has 42 = .ok (.if_icmp .ge 24, 3) := dk_162 0 24 (dk_at dksX21_has_1 18 rfl rfl)
theorem dX21_has_45 : decode cX21_has 45 = .ok (.iload_n 2, 1) := dk_28 (dk_at dksX21_has_1 21 rfl rfl)
theorem dX21_has_46 : decode cX21_has 46 = .ok (.ifCond .ne 20, 3) := dk_154 0 20 (dk_at dksX21_has_2 0 rfl rfl)
theorem dX21_has_49 : decode cX21_has 49 = .ok (.aload_n 0, 1) := dk_42 (dk_at dksX21_has_2 3 rfl rfl)
theorem dX21_has_50 : decode cX21_has 50 = .ok (.getfield 9, 3) := dk_180 0 9 (dk_at dksX21_has_2 4 rfl rfl)
theorem dX21_has_53 : decode cX21_has 53 = .ok (.iload_n 3, 1) := dk_29 (dk_at dksX21_has_2 7 rfl rfl)
theorem dX21_has_54 : decode cX21_has 54 = .ok (.aaload, 1) := dk_50 (dk_at dksX21_has_2 8 rfl rfl)
theorem dX21_has_55 : decode cX21_has 55 = .ok (.aload_n 1, 1) := dk_43 (dk_at dksX21_has_2 9 rfl rfl)
theorem dX21_has_56 : decode cX21_has 56 = .ok (.invokevirtual 34, 3) := dk_182 0 34 (dk_at dksX21_has_2 10 rfl rfl)
theorem dX21_has_59 : decode cX21_has 59 = .ok (.istore_n 2, 1) := dk_61 (dk_at dksX21_has_2 13 rfl rfl)
theorem dX21_has_60 : decode cX21_has 60 = .ok (.iinc 3 1, 3) := dk_132 3 1 (dk_at dksX21_has_2 14 rfl rfl)
theorem dX21_has_63 : decode cX21_has 63 = .ok (.goto (-27), 3) := dk_167 255 229 (dk_at dksX21_has_2 17 rfl rfl)
theorem dX21_has_66 : decode cX21_has 66 = .ok (.iload_n 2, 1) := dk_28 (dk_at dksX21_has_2 20 rfl rfl)
theorem dX21_has_67 : decode cX21_has 67 = .ok (.ireturn, 1) := dk_172 (dk_at dksX21_has_2 21 rfl rfl)
abbrev cX21_go : ByteArray := prog_14_method_5_code
def yX21_go : MethodName := ⟨RX21, "go", "([LLetterPost$Value;)LLetterPost$Node;"⟩
theorem dX21_go_0 : decode cX21_go 0 = .ok (.aconst_null, 1) := by decide +kernel
theorem dX21_go_1 : decode cX21_go 1 = .ok (.areturn, 1) := by decide +kernel
theorem q177 : (Jvm.Cond.initialized "LetterPost$Node") ∈ lw_all := lw_g (lw_at lw_m1 35 rfl) rfl
theorem q1338 : (Jvm.Cond.instanceMethod ({ cls := "LetterPost$Node", name := "<init>", desc := "(I)V" } : Jvm.MethodName)) ∈ lw_all := lw_g (lw_at lw_m5 236 rfl) rfl
theorem q1339 : (Jvm.Cond.code ({ cls := "LetterPost$Node", name := "<init>", desc := "(I)V" } : Jvm.MethodName) prog_14_method_1_code (2 : Nat) (Option.none : Option Jvm.ClassFile.FieldType)) ∈ lw_all := lw_g (lw_at lw_m5 237 rfl) rfl
theorem q1340 : (Jvm.Cond.methodLink "LetterPost$Node" (1 : Nat) ({ cls := "java/lang/Object", name := "<init>", desc := "()V" } : Jvm.MethodName)) ∈ lw_all := lw_g (lw_at lw_m5 238 rfl) rfl
theorem q1341 : (Jvm.Cond.classLink "LetterPost$Node" (7 : Nat) "LetterPost$Node") ∈ lw_all := lw_g (lw_at lw_m5 239 rfl) rfl
theorem q1343 : (Jvm.Cond.fieldLink "LetterPost$Node" (13 : Nat) "LetterPost$Node" "number" "I") ∈ lw_all := lw_g (lw_at lw_m6 1 rfl) rfl
theorem q1345 : (Jvm.Cond.fieldLink "LetterPost$Node" (9 : Nat) "LetterPost$Node" "next" "[LLetterPost$Node;") ∈ lw_all := lw_g (lw_at lw_m6 3 rfl) rfl
theorem q1363 : (Jvm.Cond.soleField "LetterPost$Node" "number") ∈ lw_all := lw_g (lw_at lw_m6 21 rfl) rfl
theorem q1365 : (Jvm.Cond.soleField "LetterPost$Node" "next") ∈ lw_all := lw_g (lw_at lw_m6 23 rfl) rfl
theorem q1557 : (Jvm.Cond.instanceMethod ({ cls := "LetterPost$Node", name := "many", desc := "()I" } : Jvm.MethodName)) ∈ lw_all := lw_g (lw_at lw_m6 215 rfl) rfl
theorem q1558 : (Jvm.Cond.sameMethod "LetterPost$Node" "LetterPost$Node" "many" "()I") ∈ lw_all := lw_g (lw_at lw_m6 216 rfl) rfl
theorem q1566 : (Jvm.Cond.code ({ cls := "LetterPost$Node", name := "many", desc := "()I" } : Jvm.MethodName) prog_14_method_7_code (6 : Nat) (Option.some Jvm.ClassFile.FieldType.int)) ∈ lw_all := lw_g (lw_at lw_m6 224 rfl) rfl
theorem q1567 : (Jvm.Cond.methodLink "LetterPost$Node" (27 : Nat) ({ cls := "LetterPost$Node", name := "many", desc := "()I" } : Jvm.MethodName)) ∈ lw_all := lw_g (lw_at lw_m6 225 rfl) rfl
theorem q1582 : (Jvm.Cond.instanceMethod ({ cls := "LetterPost$Node", name := "depth", desc := "()I" } : Jvm.MethodName)) ∈ lw_all := lw_g (lw_at lw_m7 0 rfl) rfl
theorem q1583 : (Jvm.Cond.sameMethod "LetterPost$Node" "LetterPost$Node" "depth" "()I") ∈ lw_all := lw_g (lw_at lw_m7 1 rfl) rfl
theorem q1591 : (Jvm.Cond.code ({ cls := "LetterPost$Node", name := "depth", desc := "()I" } : Jvm.MethodName) prog_14_method_6_code (6 : Nat) (Option.some Jvm.ClassFile.FieldType.int)) ∈ lw_all := lw_g (lw_at lw_m7 9 rfl) rfl
theorem q1592 : (Jvm.Cond.methodLink "LetterPost$Node" (17 : Nat) ({ cls := "LetterPost$Node", name := "depth", desc := "()I" } : Jvm.MethodName)) ∈ lw_all := lw_g (lw_at lw_m7 10 rfl) rfl
theorem q1593 : (Jvm.Cond.methodLink "LetterPost$Node" (21 : Nat) ({ cls := "java/lang/Math", name := "max", desc := "(II)I" } : Jvm.MethodName)) ∈ lw_all := lw_g (lw_at lw_m7 11 rfl) rfl
theorem q1604 : (Jvm.Cond.instanceMethod ({ cls := "LetterPost$Node", name := "find", desc := "(I)LLetterPost$Node;" } : Jvm.MethodName)) ∈ lw_all := lw_g (lw_at lw_m7 22 rfl) rfl
theorem q1605 : (Jvm.Cond.sameMethod "LetterPost$Node" "LetterPost$Node" "find" "(I)LLetterPost$Node;") ∈ lw_all := lw_g (lw_at lw_m7 23 rfl) rfl
theorem q1613 : (Jvm.Cond.code ({ cls := "LetterPost$Node", name := "find", desc := "(I)LLetterPost$Node;" } : Jvm.MethodName) prog_14_method_8_code (4 : Nat) (Option.some (Jvm.ClassFile.FieldType.object "LetterPost$Node"))) ∈ lw_all := lw_g (lw_at lw_m7 31 rfl) rfl
theorem q1615 : (Jvm.Cond.instanceMethod ({ cls := "LetterPost$Node", name := "what", desc := "()I" } : Jvm.MethodName)) ∈ lw_all := lw_g (lw_at lw_m7 33 rfl) rfl
theorem q1616 : (Jvm.Cond.sameMethod "LetterPost$Node" "LetterPost$Node" "what" "()I") ∈ lw_all := lw_g (lw_at lw_m7 34 rfl) rfl
theorem q1636 : (Jvm.Cond.code ({ cls := "LetterPost$Node", name := "what", desc := "()I" } : Jvm.MethodName) prog_14_method_2_code (1 : Nat) (Option.some Jvm.ClassFile.FieldType.int)) ∈ lw_all := lw_g (lw_at lw_m7 54 rfl) rfl
theorem q1638 : (Jvm.Cond.instanceMethod ({ cls := "LetterPost$Node", name := "rule", desc := "()LLetterPost$Rule;" } : Jvm.MethodName)) ∈ lw_all := lw_g (lw_at lw_m7 56 rfl) rfl
theorem q1639 : (Jvm.Cond.sameMethod "LetterPost$Node" "LetterPost$Node" "rule" "()LLetterPost$Rule;") ∈ lw_all := lw_g (lw_at lw_m7 57 rfl) rfl
theorem q1649 : (Jvm.Cond.code ({ cls := "LetterPost$Node", name := "rule", desc := "()LLetterPost$Rule;" } : Jvm.MethodName) prog_14_method_3_code (1 : Nat) (Option.some (Jvm.ClassFile.FieldType.object "LetterPost$Rule"))) ∈ lw_all := lw_g (lw_at lw_m7 67 rfl) rfl
theorem q1651 : (Jvm.Cond.instanceMethod ({ cls := "LetterPost$Node", name := "place", desc := "()LLetterPost$Place;" } : Jvm.MethodName)) ∈ lw_all := lw_g (lw_at lw_m7 69 rfl) rfl
theorem q1652 : (Jvm.Cond.sameMethod "LetterPost$Node" "LetterPost$Node" "place" "()LLetterPost$Place;") ∈ lw_all := lw_g (lw_at lw_m7 70 rfl) rfl
theorem q1662 : (Jvm.Cond.code ({ cls := "LetterPost$Node", name := "place", desc := "()LLetterPost$Place;" } : Jvm.MethodName) prog_14_method_4_code (1 : Nat) (Option.some (Jvm.ClassFile.FieldType.object "LetterPost$Place"))) ∈ lw_all := lw_g (lw_at lw_m7 80 rfl) rfl
theorem q1673 : (Jvm.Cond.instanceMethod ({ cls := "LetterPost$Node", name := "has", desc := "(LLetterPost$Rule;)Z" } : Jvm.MethodName)) ∈ lw_all := lw_g (lw_at lw_m7 91 rfl) rfl
theorem q1674 : (Jvm.Cond.sameMethod "LetterPost$Node" "LetterPost$Node" "has" "(LLetterPost$Rule;)Z") ∈ lw_all := lw_g (lw_at lw_m7 92 rfl) rfl
theorem q1682 : (Jvm.Cond.code ({ cls := "LetterPost$Node", name := "has", desc := "(LLetterPost$Rule;)Z" } : Jvm.MethodName) prog_14_method_9_code (4 : Nat) (Option.some Jvm.ClassFile.FieldType.boolean)) ∈ lw_all := lw_g (lw_at lw_m7 100 rfl) rfl
theorem q1683 : (Jvm.Cond.methodLink "LetterPost$Node" (30 : Nat) ({ cls := "LetterPost$Node", name := "rule", desc := "()LLetterPost$Rule;" } : Jvm.MethodName)) ∈ lw_all := lw_g (lw_at lw_m7 101 rfl) rfl
theorem q1684 : (Jvm.Cond.methodLink "LetterPost$Node" (34 : Nat) ({ cls := "LetterPost$Node", name := "has", desc := "(LLetterPost$Rule;)Z" } : Jvm.MethodName)) ∈ lw_all := lw_g (lw_at lw_m7 102 rfl) rfl
theorem q1951 : (Jvm.Cond.declares ({ cls := "LetterPost$Node", name := "go", desc := "([LLetterPost$Value;)LLetterPost$Node;" } : Jvm.MethodName)) ∈ lw_tbl := lw_at lw_m8 129 rfl
theorem q1956 : (Jvm.Cond.instanceMethod ({ cls := "LetterPost$Node", name := "go", desc := "([LLetterPost$Value;)LLetterPost$Node;" } : Jvm.MethodName)) ∈ lw_all := lw_g (lw_at lw_m8 134 rfl) rfl
theorem q1957 : (Jvm.Cond.code ({ cls := "LetterPost$Node", name := "go", desc := "([LLetterPost$Value;)LLetterPost$Node;" } : Jvm.MethodName) prog_14_method_5_code (2 : Nat) (Option.some (Jvm.ClassFile.FieldType.object "LetterPost$Node"))) ∈ lw_all := lw_g (lw_at lw_m8 135 rfl) rfl
theorem q3008 : (Jvm.Cond.sameMethod "LetterPost$Node" "LetterPost$Node" "go" "([LLetterPost$Value;)LLetterPost$Node;") ∈ lw_all := lw_g (lw_at lw_m12 226 rfl) rfl

/-! LetterPost$Unfitted -/
set_option maxRecDepth 100000
def RX22 : String := "LetterPost$Unfitted"
def TX22 : u_T := fun k => match k with
  | 0 => ("LetterPost$Node", "number", "I", true)
  | _ => ("LetterPost$Node", "next", "[LLetterPost$Node;", false)
def tyX22 : Nat → FieldType := fun k => match k with
  | 0 => .int
  | _ => .array (.object "LetterPost$Node")
abbrev wsX220 : List Cond := u_ws RX22 TX22 2
theorem nmX22 : ∀ a, a < 2 → ∀ b, b < 2 → a ≠ b → (TX22 a).2.1 ≠ (TX22 b).2.1 := by decide +kernel
theorem tyX22_ok : ∀ k, k < 2 → parseFieldDescriptor (TX22 k).2.2.1 = some (tyX22 k) := by decide +kernel
abbrev cX22_init : ByteArray := prog_30_method_1_code
def yX22_init : MethodName := ⟨RX22, "<init>", "(I)V"⟩
def dkwX22_init_0 : List UInt8 := [42, 27, 183, 0, 1, 177]
abbrev dktX22_init_0 : List UInt8 := dkwX22_init_0 ++ []
theorem dksX22_init_0 : cX22_init.data.toList.drop 0 = dktX22_init_0 := by decide +kernel
theorem dX22_init_0 : decode cX22_init 0 = .ok (.aload_n 0, 1) := dk_42 (dk_at dksX22_init_0 0 rfl rfl)
theorem dX22_init_1 : decode cX22_init 1 = .ok (.iload_n 1, 1) := dk_27 (dk_at dksX22_init_0 1 rfl rfl)
theorem dX22_init_2 : decode cX22_init 2 = .ok (.invokespecial 1, 3) := dk_183 0 1 (dk_at dksX22_init_0 2 rfl rfl)
theorem dX22_init_5 : decode cX22_init 5 = .ok (.return_, 1) := dk_177 (dk_at dksX22_init_0 5 rfl rfl)
theorem q178 : (Jvm.Cond.initialized "LetterPost$Unfitted") ∈ lw_all := lw_g (lw_at lw_m1 36 rfl) rfl
theorem q1333 : (Jvm.Cond.instantiable "LetterPost$Unfitted" (2 : Nat)) ∈ lw_all := lw_g (lw_at lw_m5 231 rfl) rfl
theorem q1335 : (Jvm.Cond.instanceMethod ({ cls := "LetterPost$Unfitted", name := "<init>", desc := "(I)V" } : Jvm.MethodName)) ∈ lw_all := lw_g (lw_at lw_m5 233 rfl) rfl
theorem q1336 : (Jvm.Cond.code ({ cls := "LetterPost$Unfitted", name := "<init>", desc := "(I)V" } : Jvm.MethodName) prog_30_method_1_code (2 : Nat) (Option.none : Option Jvm.ClassFile.FieldType)) ∈ lw_all := lw_g (lw_at lw_m5 234 rfl) rfl
theorem q1337 : (Jvm.Cond.methodLink "LetterPost$Unfitted" (1 : Nat) ({ cls := "LetterPost$Node", name := "<init>", desc := "(I)V" } : Jvm.MethodName)) ∈ lw_all := lw_g (lw_at lw_m5 235 rfl) rfl
theorem q1362 : (Jvm.Cond.laysFinal "LetterPost$Unfitted" "LetterPost$Node" "number" "I") ∈ lw_all := lw_g (lw_at lw_m6 20 rfl) rfl
theorem q1364 : (Jvm.Cond.lays "LetterPost$Unfitted" "LetterPost$Node" "next" "[LLetterPost$Node;") ∈ lw_all := lw_g (lw_at lw_m6 22 rfl) rfl
theorem q1366 : (Jvm.Cond.superclass "LetterPost$Unfitted" "LetterPost$Node") ∈ lw_all := lw_g (lw_at lw_m6 24 rfl) rfl
theorem q1564 : (Jvm.Cond.selects "LetterPost$Unfitted" ({ cls := "LetterPost$Node", name := "many", desc := "()I" } : Jvm.MethodName) ({ cls := "LetterPost$Node", name := "many", desc := "()I" } : Jvm.MethodName)) ∈ lw_all := lw_g (lw_at lw_m6 222 rfl) rfl
theorem q1589 : (Jvm.Cond.selects "LetterPost$Unfitted" ({ cls := "LetterPost$Node", name := "depth", desc := "()I" } : Jvm.MethodName) ({ cls := "LetterPost$Node", name := "depth", desc := "()I" } : Jvm.MethodName)) ∈ lw_all := lw_g (lw_at lw_m7 7 rfl) rfl
theorem q1611 : (Jvm.Cond.selects "LetterPost$Unfitted" ({ cls := "LetterPost$Node", name := "find", desc := "(I)LLetterPost$Node;" } : Jvm.MethodName) ({ cls := "LetterPost$Node", name := "find", desc := "(I)LLetterPost$Node;" } : Jvm.MethodName)) ∈ lw_all := lw_g (lw_at lw_m7 29 rfl) rfl
theorem q1632 : (Jvm.Cond.selects "LetterPost$Unfitted" ({ cls := "LetterPost$Node", name := "what", desc := "()I" } : Jvm.MethodName) ({ cls := "LetterPost$Node", name := "what", desc := "()I" } : Jvm.MethodName)) ∈ lw_all := lw_g (lw_at lw_m7 50 rfl) rfl
theorem q1647 : (Jvm.Cond.selects "LetterPost$Unfitted" ({ cls := "LetterPost$Node", name := "rule", desc := "()LLetterPost$Rule;" } : Jvm.MethodName) ({ cls := "LetterPost$Node", name := "rule", desc := "()LLetterPost$Rule;" } : Jvm.MethodName)) ∈ lw_all := lw_g (lw_at lw_m7 65 rfl) rfl
theorem q1660 : (Jvm.Cond.selects "LetterPost$Unfitted" ({ cls := "LetterPost$Node", name := "place", desc := "()LLetterPost$Place;" } : Jvm.MethodName) ({ cls := "LetterPost$Node", name := "place", desc := "()LLetterPost$Place;" } : Jvm.MethodName)) ∈ lw_all := lw_g (lw_at lw_m7 78 rfl) rfl
theorem q1680 : (Jvm.Cond.selects "LetterPost$Unfitted" ({ cls := "LetterPost$Node", name := "has", desc := "(LLetterPost$Rule;)Z" } : Jvm.MethodName) ({ cls := "LetterPost$Node", name := "has", desc := "(LLetterPost$Rule;)Z" } : Jvm.MethodName)) ∈ lw_all := lw_g (lw_at lw_m7 98 rfl) rfl
theorem q3014 : (Jvm.Cond.selects "LetterPost$Unfitted" ({ cls := "LetterPost$Node", name := "go", desc := "([LLetterPost$Value;)LLetterPost$Node;" } : Jvm.MethodName) ({ cls := "LetterPost$Node", name := "go", desc := "([LLetterPost$Value;)LLetterPost$Node;" } : Jvm.MethodName)) ∈ lw_all := lw_g (lw_at lw_m12 232 rfl) rfl
theorem q3035 : (Jvm.Cond.castable "LetterPost$Unfitted" "LetterPost$Node") ∈ lw_tbl := lw_at lw_m13 13 rfl
theorem in_X22 : ∀ w ∈ wsX220, w ∈ lw_all := lw_in wsX220 [1362, 1364] (by decide +kernel) (by decide +kernel)

/-! LetterPost$Answering -/
set_option maxRecDepth 100000
def RX23 : String := "LetterPost$Answering"
def TX23 : u_T := fun k => match k with
  | 0 => ("LetterPost$Node", "number", "I", true)
  | 1 => ("LetterPost$Node", "next", "[LLetterPost$Node;", false)
  | _ => ("LetterPost$Answering", "row", "LLetterPost$Row;", true)
def tyX23 : Nat → FieldType := fun k => match k with
  | 0 => .int
  | 1 => .array (.object "LetterPost$Node")
  | _ => .object "LetterPost$Row"
abbrev wsX230 : List Cond := u_ws RX23 TX23 3
theorem nmX23 : ∀ a, a < 3 → ∀ b, b < 3 → a ≠ b → (TX23 a).2.1 ≠ (TX23 b).2.1 := by decide +kernel
theorem tyX23_ok : ∀ k, k < 3 → parseFieldDescriptor (TX23 k).2.2.1 = some (tyX23 k) := by decide +kernel
abbrev cX23_init : ByteArray := prog_2_method_1_code
def yX23_init : MethodName := ⟨RX23, "<init>", "(ILLetterPost$Row;)V"⟩
def dkwX23_init_0 : List UInt8 := [42, 27, 183, 0, 3, 42, 44, 181, 0, 9, 177]
abbrev dktX23_init_0 : List UInt8 := dkwX23_init_0 ++ []
theorem dksX23_init_0 : cX23_init.data.toList.drop 0 = dktX23_init_0 := by decide +kernel
theorem dX23_init_0 : decode cX23_init 0 = .ok (.aload_n 0, 1) := dk_42 (dk_at dksX23_init_0 0 rfl rfl)
theorem dX23_init_1 : decode cX23_init 1 = .ok (.iload_n 1, 1) := dk_27 (dk_at dksX23_init_0 1 rfl rfl)
theorem dX23_init_2 : decode cX23_init 2 = .ok (.invokespecial 3, 3) := dk_183 0 3 (dk_at dksX23_init_0 2 rfl rfl)
theorem dX23_init_5 : decode cX23_init 5 = .ok (.aload_n 0, 1) := dk_42 (dk_at dksX23_init_0 5 rfl rfl)
theorem dX23_init_6 : decode cX23_init 6 = .ok (.aload_n 2, 1) := dk_44 (dk_at dksX23_init_0 6 rfl rfl)
theorem dX23_init_7 : decode cX23_init 7 = .ok (.putfield 9, 3) := dk_181 0 9 (dk_at dksX23_init_0 7 rfl rfl)
theorem dX23_init_10 : decode cX23_init 10 = .ok (.return_, 1) := dk_177 (dk_at dksX23_init_0 10 rfl rfl)
abbrev cX23_what : ByteArray := prog_2_method_2_code
def yX23_what : MethodName := ⟨RX23, "what", "()I"⟩
theorem dX23_what_0 : decode cX23_what 0 = .ok (.iconst 1, 1) := by decide +kernel
theorem dX23_what_1 : decode cX23_what 1 = .ok (.ireturn, 1) := by decide +kernel
abbrev cX23_rule : ByteArray := prog_2_method_3_code
def yX23_rule : MethodName := ⟨RX23, "rule", "()LLetterPost$Rule;"⟩
def dkwX23_rule_0 : List UInt8 := [42, 180, 0, 9, 180, 0, 15, 176]
abbrev dktX23_rule_0 : List UInt8 := dkwX23_rule_0 ++ []
theorem dksX23_rule_0 : cX23_rule.data.toList.drop 0 = dktX23_rule_0 := by decide +kernel
theorem dX23_rule_0 : decode cX23_rule 0 = .ok (.aload_n 0, 1) := dk_42 (dk_at dksX23_rule_0 0 rfl rfl)
theorem dX23_rule_1 : decode cX23_rule 1 = .ok (.getfield 9, 3) := dk_180 0 9 (dk_at dksX23_rule_0 1 rfl rfl)
theorem dX23_rule_4 : decode cX23_rule 4 = .ok (.getfield 15, 3) := dk_180 0 15 (dk_at dksX23_rule_0 4 rfl rfl)
theorem dX23_rule_7 : decode cX23_rule 7 = .ok (.areturn, 1) := dk_176 (dk_at dksX23_rule_0 7 rfl rfl)
abbrev cX23_binds : ByteArray := prog_2_method_4_code
def yX23_binds : MethodName := ⟨RX23, "binds", "([LLetterPost$Value;[LLetterPost$Value;)V"⟩
def dkwX23_binds_1 : List UInt8 := [167, 0, 16, 42, 180, 0, 9, 180, 0, 21, 29, 50, 43, 182, 0, 25, 83, 132, 3, 1, 167, 255, 215, 177]
abbrev dktX23_binds_1 : List UInt8 := dkwX23_binds_1 ++ []
def dkwX23_binds_0 : List UInt8 := [3, 62, 29, 16, 8, 162, 0, 41, 44, 29, 42, 180, 0, 9, 180, 0, 21, 29, 50, 199, 0, 7, 1]
abbrev dktX23_binds_0 : List UInt8 := dkwX23_binds_0 ++ dktX23_binds_1
theorem dksX23_binds_0 : cX23_binds.data.toList.drop 0 = dktX23_binds_0 := by decide +kernel
theorem dksX23_binds_1 : cX23_binds.data.toList.drop 23 = dktX23_binds_1 := dk_seg dksX23_binds_0 23 rfl rfl
theorem dX23_binds_0 : decode cX23_binds 0 = .ok (.iconst 0, 1) := dk_3 (dk_at dksX23_binds_0 0 rfl rfl)
theorem dX23_binds_1 : decode cX23_binds 1 = .ok (.istore_n 3, 1) := dk_62 (dk_at dksX23_binds_0 1 rfl rfl)
theorem dX23_binds_2 : decode cX23_binds 2 = .ok (.iload_n 3, 1) := dk_29 (dk_at dksX23_binds_0 2 rfl rfl)
theorem dX23_binds_3 : decode cX23_binds 3 = .ok (.bipush 8, 2) := dk_16 8 (dk_at dksX23_binds_0 3 rfl rfl)
theorem dX23_binds_5 : decode cX23_binds 5 = .ok (.if_icmp .ge 41, 3) := dk_162 0 41 (dk_at dksX23_binds_0 5 rfl rfl)
theorem dX23_binds_8 : decode cX23_binds 8 = .ok (.aload_n 2, 1) := dk_44 (dk_at dksX23_binds_0 8 rfl rfl)
theorem dX23_binds_9 : decode cX23_binds 9 = .ok (.iload_n 3, 1) := dk_29 (dk_at dksX23_binds_0 9 rfl rfl)
theorem dX23_binds_10 : decode cX23_binds 10 = .ok (.aload_n 0, 1) := dk_42 (dk_at dksX23_binds_0 10 rfl rfl)
theorem dX23_binds_11 : decode cX23_binds 11 = .ok (.getfield 9, 3) := dk_180 0 9 (dk_at dksX23_binds_0 11 rfl rfl)
theorem dX23_binds_14 : decode cX23_binds 14 = .ok (.getfield 21, 3) := dk_180 0 21 (dk_at dksX23_binds_0 14 rfl rfl)
theorem dX23_binds_17 : decode cX23_binds 17 = .ok (.iload_n 3, 1) := dk_29 (dk_at dksX23_binds_0 17 rfl rfl)
theorem dX23_binds_18 : decode cX23_binds 18 = .ok (.aaload, 1) := dk_50 (dk_at dksX23_binds_0 18 rfl rfl)
theorem dX23_binds_19 : decode cX23_binds 19 = .ok (.ifnonnull 7, 3) := dk_199 0 7 (dk_at dksX23_binds_0 19 rfl rfl)
theorem dX23_binds_22 : decode cX23_binds 22 = .ok (.aconst_null, 1) := dk_1 (dk_at dksX23_binds_0 22 rfl rfl)
theorem dX23_binds_23 : decode cX23_binds 23 = .ok (.goto 16, 3) := dk_167 0 16 (dk_at dksX23_binds_1 0 rfl rfl)
theorem dX23_binds_26 : decode cX23_binds 26 = .ok (.aload_n 0, 1) := dk_42 (dk_at dksX23_binds_1 3 rfl rfl)
theorem dX23_binds_27 : decode cX23_binds 27 = .ok (.getfield 9, 3) := dk_180 0 9 (dk_at dksX23_binds_1 4 rfl rfl)
theorem dX23_binds_30 : decode cX23_binds 30 = .ok (.getfield 21, 3) := dk_180 0 21 (dk_at dksX23_binds_1 7 rfl rfl)
theorem dX23_binds_33 : decode cX23_binds 33 = .ok (.iload_n 3, 1) := dk_29 (dk_at dksX23_binds_1 10 rfl rfl)
theorem dX23_binds_34 : decode cX23_binds 34 = .ok (.aaload, 1) := dk_50 (dk_at dksX23_binds_1 11 rfl rfl)
theorem dX23_binds_35 : decode cX23_binds 35 = .ok (.aload_n 1, 1) := dk_43 (dk_at dksX23_binds_1 12 rfl rfl)
theorem dX23_binds_36 : decode cX23_binds 36 = .ok (.invokevirtual 25, 3) := dk_182 0 25 (dk_at dksX23_binds_1 13 rfl rfl)
theorem dX23_binds_39 : decode cX23_binds 39 = .ok (.aastore, 1) := dk_83 (dk_at dksX23_binds_1 16 rfl rfl)
theorem dX23_binds_40 : decode cX23_binds 40 = .ok (.iinc 3 1, 3) := dk_132 3 1 (dk_at dksX23_binds_1 17 rfl rfl)
theorem dX23_binds_43 : decode cX23_binds 43 = .ok (.goto (-41), 3) := dk_167 255 215 (dk_at dksX23_binds_1 20 rfl rfl)
theorem dX23_binds_46 : decode cX23_binds 46 = .ok (.return_, 1) := dk_177 (dk_at dksX23_binds_1 23 rfl rfl)
theorem q179 : (Jvm.Cond.initialized "LetterPost$Answering") ∈ lw_all := lw_g (lw_at lw_m1 37 rfl) rfl
theorem q1103 : (Jvm.Cond.fieldLink "LetterPost$Answering" (15 : Nat) "LetterPost$Row" "rule" "LLetterPost$Rule;") ∈ lw_all := lw_g (lw_at lw_m5 1 rfl) rfl
theorem q1111 : (Jvm.Cond.fieldLink "LetterPost$Answering" (21 : Nat) "LetterPost$Row" "places" "[LLetterPost$Place;") ∈ lw_all := lw_g (lw_at lw_m5 9 rfl) rfl
theorem q1380 : (Jvm.Cond.instantiable "LetterPost$Answering" (3 : Nat)) ∈ lw_all := lw_g (lw_at lw_m6 38 rfl) rfl
theorem q1382 : (Jvm.Cond.instanceMethod ({ cls := "LetterPost$Answering", name := "<init>", desc := "(ILLetterPost$Row;)V" } : Jvm.MethodName)) ∈ lw_all := lw_g (lw_at lw_m6 40 rfl) rfl
theorem q1383 : (Jvm.Cond.code ({ cls := "LetterPost$Answering", name := "<init>", desc := "(ILLetterPost$Row;)V" } : Jvm.MethodName) prog_2_method_1_code (3 : Nat) (Option.none : Option Jvm.ClassFile.FieldType)) ∈ lw_all := lw_g (lw_at lw_m6 41 rfl) rfl
theorem q1384 : (Jvm.Cond.methodLink "LetterPost$Answering" (3 : Nat) ({ cls := "LetterPost$Node", name := "<init>", desc := "(I)V" } : Jvm.MethodName)) ∈ lw_all := lw_g (lw_at lw_m6 42 rfl) rfl
theorem q1385 : (Jvm.Cond.fieldLink "LetterPost$Answering" (9 : Nat) "LetterPost$Answering" "row" "LLetterPost$Row;") ∈ lw_all := lw_g (lw_at lw_m6 43 rfl) rfl
theorem q1387 : (Jvm.Cond.laysFinal "LetterPost$Answering" "LetterPost$Answering" "row" "LLetterPost$Row;") ∈ lw_all := lw_g (lw_at lw_m6 45 rfl) rfl
theorem q1388 : (Jvm.Cond.soleField "LetterPost$Answering" "row") ∈ lw_all := lw_g (lw_at lw_m6 46 rfl) rfl
theorem q1389 : (Jvm.Cond.laysFinal "LetterPost$Answering" "LetterPost$Node" "number" "I") ∈ lw_all := lw_g (lw_at lw_m6 47 rfl) rfl
theorem q1390 : (Jvm.Cond.lays "LetterPost$Answering" "LetterPost$Node" "next" "[LLetterPost$Node;") ∈ lw_all := lw_g (lw_at lw_m6 48 rfl) rfl
theorem q1391 : (Jvm.Cond.superclass "LetterPost$Answering" "LetterPost$Node") ∈ lw_all := lw_g (lw_at lw_m6 49 rfl) rfl
theorem q1559 : (Jvm.Cond.selects "LetterPost$Answering" ({ cls := "LetterPost$Node", name := "many", desc := "()I" } : Jvm.MethodName) ({ cls := "LetterPost$Node", name := "many", desc := "()I" } : Jvm.MethodName)) ∈ lw_all := lw_g (lw_at lw_m6 217 rfl) rfl
theorem q1584 : (Jvm.Cond.selects "LetterPost$Answering" ({ cls := "LetterPost$Node", name := "depth", desc := "()I" } : Jvm.MethodName) ({ cls := "LetterPost$Node", name := "depth", desc := "()I" } : Jvm.MethodName)) ∈ lw_all := lw_g (lw_at lw_m7 2 rfl) rfl
theorem q1606 : (Jvm.Cond.selects "LetterPost$Answering" ({ cls := "LetterPost$Node", name := "find", desc := "(I)LLetterPost$Node;" } : Jvm.MethodName) ({ cls := "LetterPost$Node", name := "find", desc := "(I)LLetterPost$Node;" } : Jvm.MethodName)) ∈ lw_all := lw_g (lw_at lw_m7 24 rfl) rfl
theorem q1617 : (Jvm.Cond.selects "LetterPost$Answering" ({ cls := "LetterPost$Node", name := "what", desc := "()I" } : Jvm.MethodName) ({ cls := "LetterPost$Answering", name := "what", desc := "()I" } : Jvm.MethodName)) ∈ lw_all := lw_g (lw_at lw_m7 35 rfl) rfl
theorem q1618 : (Jvm.Cond.instanceMethod ({ cls := "LetterPost$Answering", name := "what", desc := "()I" } : Jvm.MethodName)) ∈ lw_all := lw_g (lw_at lw_m7 36 rfl) rfl
theorem q1619 : (Jvm.Cond.code ({ cls := "LetterPost$Answering", name := "what", desc := "()I" } : Jvm.MethodName) prog_2_method_2_code (1 : Nat) (Option.some Jvm.ClassFile.FieldType.int)) ∈ lw_all := lw_g (lw_at lw_m7 37 rfl) rfl
theorem q1640 : (Jvm.Cond.selects "LetterPost$Answering" ({ cls := "LetterPost$Node", name := "rule", desc := "()LLetterPost$Rule;" } : Jvm.MethodName) ({ cls := "LetterPost$Answering", name := "rule", desc := "()LLetterPost$Rule;" } : Jvm.MethodName)) ∈ lw_all := lw_g (lw_at lw_m7 58 rfl) rfl
theorem q1641 : (Jvm.Cond.instanceMethod ({ cls := "LetterPost$Answering", name := "rule", desc := "()LLetterPost$Rule;" } : Jvm.MethodName)) ∈ lw_all := lw_g (lw_at lw_m7 59 rfl) rfl
theorem q1642 : (Jvm.Cond.code ({ cls := "LetterPost$Answering", name := "rule", desc := "()LLetterPost$Rule;" } : Jvm.MethodName) prog_2_method_3_code (1 : Nat) (Option.some (Jvm.ClassFile.FieldType.object "LetterPost$Rule"))) ∈ lw_all := lw_g (lw_at lw_m7 60 rfl) rfl
theorem q1653 : (Jvm.Cond.selects "LetterPost$Answering" ({ cls := "LetterPost$Node", name := "place", desc := "()LLetterPost$Place;" } : Jvm.MethodName) ({ cls := "LetterPost$Node", name := "place", desc := "()LLetterPost$Place;" } : Jvm.MethodName)) ∈ lw_all := lw_g (lw_at lw_m7 71 rfl) rfl
theorem q1675 : (Jvm.Cond.selects "LetterPost$Answering" ({ cls := "LetterPost$Node", name := "has", desc := "(LLetterPost$Rule;)Z" } : Jvm.MethodName) ({ cls := "LetterPost$Node", name := "has", desc := "(LLetterPost$Rule;)Z" } : Jvm.MethodName)) ∈ lw_all := lw_g (lw_at lw_m7 93 rfl) rfl
theorem q1896 : (Jvm.Cond.instanceMethod ({ cls := "LetterPost$Answering", name := "binds", desc := "([LLetterPost$Value;[LLetterPost$Value;)V" } : Jvm.MethodName)) ∈ lw_all := lw_g (lw_at lw_m8 74 rfl) rfl
theorem q1897 : (Jvm.Cond.selects "LetterPost$Answering" ({ cls := "LetterPost$Answering", name := "binds", desc := "([LLetterPost$Value;[LLetterPost$Value;)V" } : Jvm.MethodName) ({ cls := "LetterPost$Answering", name := "binds", desc := "([LLetterPost$Value;[LLetterPost$Value;)V" } : Jvm.MethodName)) ∈ lw_all := lw_g (lw_at lw_m8 75 rfl) rfl
theorem q1898 : (Jvm.Cond.sameMethod "LetterPost$Answering" "LetterPost$Answering" "binds" "([LLetterPost$Value;[LLetterPost$Value;)V") ∈ lw_all := lw_g (lw_at lw_m8 76 rfl) rfl
theorem q1900 : (Jvm.Cond.code ({ cls := "LetterPost$Answering", name := "binds", desc := "([LLetterPost$Value;[LLetterPost$Value;)V" } : Jvm.MethodName) prog_2_method_4_code (4 : Nat) (Option.none : Option Jvm.ClassFile.FieldType)) ∈ lw_all := lw_g (lw_at lw_m8 78 rfl) rfl
theorem q1901 : (Jvm.Cond.methodLink "LetterPost$Answering" (25 : Nat) ({ cls := "LetterPost$Place", name := "of", desc := "([LLetterPost$Value;)LLetterPost$Value;" } : Jvm.MethodName)) ∈ lw_all := lw_g (lw_at lw_m8 79 rfl) rfl
theorem q1950 : (Jvm.Cond.sameMethod "LetterPost$Answering" "LetterPost$Node" "go" "([LLetterPost$Value;)LLetterPost$Node;") ∈ lw_all := lw_g (lw_at lw_m8 128 rfl) rfl
theorem q1952 : (Jvm.Cond.selects "LetterPost$Answering" ({ cls := "LetterPost$Answering", name := "go", desc := "([LLetterPost$Value;)LLetterPost$Node;" } : Jvm.MethodName) ({ cls := "LetterPost$Node", name := "go", desc := "([LLetterPost$Value;)LLetterPost$Node;" } : Jvm.MethodName)) ∈ lw_all := lw_g (lw_at lw_m8 130 rfl) rfl
theorem q3009 : (Jvm.Cond.selects "LetterPost$Answering" ({ cls := "LetterPost$Node", name := "go", desc := "([LLetterPost$Value;)LLetterPost$Node;" } : Jvm.MethodName) ({ cls := "LetterPost$Node", name := "go", desc := "([LLetterPost$Value;)LLetterPost$Node;" } : Jvm.MethodName)) ∈ lw_all := lw_g (lw_at lw_m12 227 rfl) rfl
theorem q3036 : (Jvm.Cond.castable "LetterPost$Answering" "LetterPost$Node") ∈ lw_tbl := lw_at lw_m13 14 rfl
theorem in_X23 : ∀ w ∈ wsX230, w ∈ lw_all := lw_in wsX230 [1389, 1390, 1387] (by decide +kernel) (by decide +kernel)

/-! LetterPost$Guarded -/
set_option maxRecDepth 100000
def RX24 : String := "LetterPost$Guarded"
def TX24 : u_T := fun k => match k with
  | 0 => ("LetterPost$Node", "number", "I", true)
  | 1 => ("LetterPost$Node", "next", "[LLetterPost$Node;", false)
  | _ => ("LetterPost$Answering", "row", "LLetterPost$Row;", true)
def tyX24 : Nat → FieldType := fun k => match k with
  | 0 => .int
  | 1 => .array (.object "LetterPost$Node")
  | _ => .object "LetterPost$Row"
abbrev wsX240 : List Cond := u_ws RX24 TX24 3
theorem nmX24 : ∀ a, a < 3 → ∀ b, b < 3 → a ≠ b → (TX24 a).2.1 ≠ (TX24 b).2.1 := by decide +kernel
theorem tyX24_ok : ∀ k, k < 3 → parseFieldDescriptor (TX24 k).2.2.1 = some (tyX24 k) := by decide +kernel
abbrev cX24_init : ByteArray := prog_7_method_1_code
def yX24_init : MethodName := ⟨RX24, "<init>", "(ILLetterPost$Row;)V"⟩
def dkwX24_init_0 : List UInt8 := [42, 27, 44, 183, 0, 1, 177]
abbrev dktX24_init_0 : List UInt8 := dkwX24_init_0 ++ []
theorem dksX24_init_0 : cX24_init.data.toList.drop 0 = dktX24_init_0 := by decide +kernel
theorem dX24_init_0 : decode cX24_init 0 = .ok (.aload_n 0, 1) := dk_42 (dk_at dksX24_init_0 0 rfl rfl)
theorem dX24_init_1 : decode cX24_init 1 = .ok (.iload_n 1, 1) := dk_27 (dk_at dksX24_init_0 1 rfl rfl)
theorem dX24_init_2 : decode cX24_init 2 = .ok (.aload_n 2, 1) := dk_44 (dk_at dksX24_init_0 2 rfl rfl)
theorem dX24_init_3 : decode cX24_init 3 = .ok (.invokespecial 1, 3) := dk_183 0 1 (dk_at dksX24_init_0 3 rfl rfl)
theorem dX24_init_6 : decode cX24_init 6 = .ok (.return_, 1) := dk_177 (dk_at dksX24_init_0 6 rfl rfl)
abbrev cX24_what : ByteArray := prog_7_method_2_code
def yX24_what : MethodName := ⟨RX24, "what", "()I"⟩
theorem dX24_what_0 : decode cX24_what 0 = .ok (.iconst 2, 1) := by decide +kernel
theorem dX24_what_1 : decode cX24_what 1 = .ok (.ireturn, 1) := by decide +kernel
abbrev cX24_go : ByteArray := prog_7_method_3_code
def yX24_go : MethodName := ⟨RX24, "go", "([LLetterPost$Value;)LLetterPost$Node;"⟩
def dkwX24_go_0 : List UInt8 := [42, 180, 0, 7, 3, 50, 176]
abbrev dktX24_go_0 : List UInt8 := dkwX24_go_0 ++ []
theorem dksX24_go_0 : cX24_go.data.toList.drop 0 = dktX24_go_0 := by decide +kernel
theorem dX24_go_0 : decode cX24_go 0 = .ok (.aload_n 0, 1) := dk_42 (dk_at dksX24_go_0 0 rfl rfl)
theorem dX24_go_1 : decode cX24_go 1 = .ok (.getfield 7, 3) := dk_180 0 7 (dk_at dksX24_go_0 1 rfl rfl)
theorem dX24_go_4 : decode cX24_go 4 = .ok (.iconst 0, 1) := dk_3 (dk_at dksX24_go_0 4 rfl rfl)
theorem dX24_go_5 : decode cX24_go 5 = .ok (.aaload, 1) := dk_50 (dk_at dksX24_go_0 5 rfl rfl)
theorem dX24_go_6 : decode cX24_go 6 = .ok (.areturn, 1) := dk_176 (dk_at dksX24_go_0 6 rfl rfl)
theorem q180 : (Jvm.Cond.initialized "LetterPost$Guarded") ∈ lw_all := lw_g (lw_at lw_m1 38 rfl) rfl
theorem q1346 : (Jvm.Cond.fieldLink "LetterPost$Guarded" (7 : Nat) "LetterPost$Guarded" "next" "[LLetterPost$Node;") ∈ lw_all := lw_g (lw_at lw_m6 4 rfl) rfl
theorem q1347 : (Jvm.Cond.sameField "LetterPost$Guarded" "LetterPost$Node" "next" "[LLetterPost$Node;") ∈ lw_all := lw_g (lw_at lw_m6 5 rfl) rfl
theorem q1393 : (Jvm.Cond.instantiable "LetterPost$Guarded" (3 : Nat)) ∈ lw_all := lw_g (lw_at lw_m6 51 rfl) rfl
theorem q1395 : (Jvm.Cond.instanceMethod ({ cls := "LetterPost$Guarded", name := "<init>", desc := "(ILLetterPost$Row;)V" } : Jvm.MethodName)) ∈ lw_all := lw_g (lw_at lw_m6 53 rfl) rfl
theorem q1396 : (Jvm.Cond.code ({ cls := "LetterPost$Guarded", name := "<init>", desc := "(ILLetterPost$Row;)V" } : Jvm.MethodName) prog_7_method_1_code (3 : Nat) (Option.none : Option Jvm.ClassFile.FieldType)) ∈ lw_all := lw_g (lw_at lw_m6 54 rfl) rfl
theorem q1397 : (Jvm.Cond.methodLink "LetterPost$Guarded" (1 : Nat) ({ cls := "LetterPost$Answering", name := "<init>", desc := "(ILLetterPost$Row;)V" } : Jvm.MethodName)) ∈ lw_all := lw_g (lw_at lw_m6 55 rfl) rfl
theorem q1398 : (Jvm.Cond.laysFinal "LetterPost$Guarded" "LetterPost$Answering" "row" "LLetterPost$Row;") ∈ lw_all := lw_g (lw_at lw_m6 56 rfl) rfl
theorem q1399 : (Jvm.Cond.laysFinal "LetterPost$Guarded" "LetterPost$Node" "number" "I") ∈ lw_all := lw_g (lw_at lw_m6 57 rfl) rfl
theorem q1400 : (Jvm.Cond.lays "LetterPost$Guarded" "LetterPost$Node" "next" "[LLetterPost$Node;") ∈ lw_all := lw_g (lw_at lw_m6 58 rfl) rfl
theorem q1401 : (Jvm.Cond.superclass "LetterPost$Guarded" "LetterPost$Answering") ∈ lw_all := lw_g (lw_at lw_m6 59 rfl) rfl
theorem q1560 : (Jvm.Cond.selects "LetterPost$Guarded" ({ cls := "LetterPost$Node", name := "many", desc := "()I" } : Jvm.MethodName) ({ cls := "LetterPost$Node", name := "many", desc := "()I" } : Jvm.MethodName)) ∈ lw_all := lw_g (lw_at lw_m6 218 rfl) rfl
theorem q1585 : (Jvm.Cond.selects "LetterPost$Guarded" ({ cls := "LetterPost$Node", name := "depth", desc := "()I" } : Jvm.MethodName) ({ cls := "LetterPost$Node", name := "depth", desc := "()I" } : Jvm.MethodName)) ∈ lw_all := lw_g (lw_at lw_m7 3 rfl) rfl
theorem q1607 : (Jvm.Cond.selects "LetterPost$Guarded" ({ cls := "LetterPost$Node", name := "find", desc := "(I)LLetterPost$Node;" } : Jvm.MethodName) ({ cls := "LetterPost$Node", name := "find", desc := "(I)LLetterPost$Node;" } : Jvm.MethodName)) ∈ lw_all := lw_g (lw_at lw_m7 25 rfl) rfl
theorem q1620 : (Jvm.Cond.selects "LetterPost$Guarded" ({ cls := "LetterPost$Node", name := "what", desc := "()I" } : Jvm.MethodName) ({ cls := "LetterPost$Guarded", name := "what", desc := "()I" } : Jvm.MethodName)) ∈ lw_all := lw_g (lw_at lw_m7 38 rfl) rfl
theorem q1621 : (Jvm.Cond.instanceMethod ({ cls := "LetterPost$Guarded", name := "what", desc := "()I" } : Jvm.MethodName)) ∈ lw_all := lw_g (lw_at lw_m7 39 rfl) rfl
theorem q1622 : (Jvm.Cond.code ({ cls := "LetterPost$Guarded", name := "what", desc := "()I" } : Jvm.MethodName) prog_7_method_2_code (1 : Nat) (Option.some Jvm.ClassFile.FieldType.int)) ∈ lw_all := lw_g (lw_at lw_m7 40 rfl) rfl
theorem q1643 : (Jvm.Cond.selects "LetterPost$Guarded" ({ cls := "LetterPost$Node", name := "rule", desc := "()LLetterPost$Rule;" } : Jvm.MethodName) ({ cls := "LetterPost$Answering", name := "rule", desc := "()LLetterPost$Rule;" } : Jvm.MethodName)) ∈ lw_all := lw_g (lw_at lw_m7 61 rfl) rfl
theorem q1654 : (Jvm.Cond.selects "LetterPost$Guarded" ({ cls := "LetterPost$Node", name := "place", desc := "()LLetterPost$Place;" } : Jvm.MethodName) ({ cls := "LetterPost$Node", name := "place", desc := "()LLetterPost$Place;" } : Jvm.MethodName)) ∈ lw_all := lw_g (lw_at lw_m7 72 rfl) rfl
theorem q1676 : (Jvm.Cond.selects "LetterPost$Guarded" ({ cls := "LetterPost$Node", name := "has", desc := "(LLetterPost$Rule;)Z" } : Jvm.MethodName) ({ cls := "LetterPost$Node", name := "has", desc := "(LLetterPost$Rule;)Z" } : Jvm.MethodName)) ∈ lw_all := lw_g (lw_at lw_m7 94 rfl) rfl
theorem q1899 : (Jvm.Cond.selects "LetterPost$Guarded" ({ cls := "LetterPost$Answering", name := "binds", desc := "([LLetterPost$Value;[LLetterPost$Value;)V" } : Jvm.MethodName) ({ cls := "LetterPost$Answering", name := "binds", desc := "([LLetterPost$Value;[LLetterPost$Value;)V" } : Jvm.MethodName)) ∈ lw_all := lw_g (lw_at lw_m8 77 rfl) rfl
theorem q1953 : (Jvm.Cond.selects "LetterPost$Guarded" ({ cls := "LetterPost$Answering", name := "go", desc := "([LLetterPost$Value;)LLetterPost$Node;" } : Jvm.MethodName) ({ cls := "LetterPost$Guarded", name := "go", desc := "([LLetterPost$Value;)LLetterPost$Node;" } : Jvm.MethodName)) ∈ lw_all := lw_g (lw_at lw_m8 131 rfl) rfl
theorem q1954 : (Jvm.Cond.instanceMethod ({ cls := "LetterPost$Guarded", name := "go", desc := "([LLetterPost$Value;)LLetterPost$Node;" } : Jvm.MethodName)) ∈ lw_all := lw_g (lw_at lw_m8 132 rfl) rfl
theorem q1955 : (Jvm.Cond.code ({ cls := "LetterPost$Guarded", name := "go", desc := "([LLetterPost$Value;)LLetterPost$Node;" } : Jvm.MethodName) prog_7_method_3_code (2 : Nat) (Option.some (Jvm.ClassFile.FieldType.object "LetterPost$Node"))) ∈ lw_all := lw_g (lw_at lw_m8 133 rfl) rfl
theorem q3010 : (Jvm.Cond.selects "LetterPost$Guarded" ({ cls := "LetterPost$Node", name := "go", desc := "([LLetterPost$Value;)LLetterPost$Node;" } : Jvm.MethodName) ({ cls := "LetterPost$Guarded", name := "go", desc := "([LLetterPost$Value;)LLetterPost$Node;" } : Jvm.MethodName)) ∈ lw_all := lw_g (lw_at lw_m12 228 rfl) rfl
theorem q3018 : (Jvm.Cond.castable "LetterPost$Guarded" "LetterPost$Answering") ∈ lw_tbl := lw_at lw_m12 236 rfl
theorem q3037 : (Jvm.Cond.castable "LetterPost$Guarded" "LetterPost$Node") ∈ lw_tbl := lw_at lw_m13 15 rfl
theorem in_X24 : ∀ w ∈ wsX240, w ∈ lw_all := lw_in wsX240 [1399, 1400, 1398] (by decide +kernel) (by decide +kernel)

/-! LetterPost$Testing -/
set_option maxRecDepth 100000
def RX25 : String := "LetterPost$Testing"
abbrev cX25_init : ByteArray := prog_24_method_1_code
def yX25_init : MethodName := ⟨RX25, "<init>", "(ILLetterPost$Place;)V"⟩
def dkwX25_init_0 : List UInt8 := [42, 27, 183, 0, 1, 42, 44, 181, 0, 7, 177]
abbrev dktX25_init_0 : List UInt8 := dkwX25_init_0 ++ []
theorem dksX25_init_0 : cX25_init.data.toList.drop 0 = dktX25_init_0 := by decide +kernel
theorem dX25_init_0 : decode cX25_init 0 = .ok (.aload_n 0, 1) := dk_42 (dk_at dksX25_init_0 0 rfl rfl)
theorem dX25_init_1 : decode cX25_init 1 = .ok (.iload_n 1, 1) := dk_27 (dk_at dksX25_init_0 1 rfl rfl)
theorem dX25_init_2 : decode cX25_init 2 = .ok (.invokespecial 1, 3) := dk_183 0 1 (dk_at dksX25_init_0 2 rfl rfl)
theorem dX25_init_5 : decode cX25_init 5 = .ok (.aload_n 0, 1) := dk_42 (dk_at dksX25_init_0 5 rfl rfl)
theorem dX25_init_6 : decode cX25_init 6 = .ok (.aload_n 2, 1) := dk_44 (dk_at dksX25_init_0 6 rfl rfl)
theorem dX25_init_7 : decode cX25_init 7 = .ok (.putfield 7, 3) := dk_181 0 7 (dk_at dksX25_init_0 7 rfl rfl)
theorem dX25_init_10 : decode cX25_init 10 = .ok (.return_, 1) := dk_177 (dk_at dksX25_init_0 10 rfl rfl)
abbrev cX25_place : ByteArray := prog_24_method_2_code
def yX25_place : MethodName := ⟨RX25, "place", "()LLetterPost$Place;"⟩
theorem dX25_place_0 : decode cX25_place 0 = .ok (.aload_n 0, 1) := by decide +kernel
theorem dX25_place_1 : decode cX25_place 1 = .ok (.getfield 7, 3) := by decide +kernel
theorem dX25_place_4 : decode cX25_place 4 = .ok (.areturn, 1) := by decide +kernel
theorem q181 : (Jvm.Cond.initialized "LetterPost$Testing") ∈ lw_all := lw_g (lw_at lw_m1 39 rfl) rfl
theorem q1456 : (Jvm.Cond.instanceMethod ({ cls := "LetterPost$Testing", name := "<init>", desc := "(ILLetterPost$Place;)V" } : Jvm.MethodName)) ∈ lw_all := lw_g (lw_at lw_m6 114 rfl) rfl
theorem q1457 : (Jvm.Cond.code ({ cls := "LetterPost$Testing", name := "<init>", desc := "(ILLetterPost$Place;)V" } : Jvm.MethodName) prog_24_method_1_code (3 : Nat) (Option.none : Option Jvm.ClassFile.FieldType)) ∈ lw_all := lw_g (lw_at lw_m6 115 rfl) rfl
theorem q1458 : (Jvm.Cond.methodLink "LetterPost$Testing" (1 : Nat) ({ cls := "LetterPost$Node", name := "<init>", desc := "(I)V" } : Jvm.MethodName)) ∈ lw_all := lw_g (lw_at lw_m6 116 rfl) rfl
theorem q1461 : (Jvm.Cond.fieldLink "LetterPost$Testing" (7 : Nat) "LetterPost$Testing" "place" "LLetterPost$Place;") ∈ lw_all := lw_g (lw_at lw_m6 119 rfl) rfl
theorem q1473 : (Jvm.Cond.soleField "LetterPost$Testing" "place") ∈ lw_all := lw_g (lw_at lw_m6 131 rfl) rfl
theorem q1656 : (Jvm.Cond.instanceMethod ({ cls := "LetterPost$Testing", name := "place", desc := "()LLetterPost$Place;" } : Jvm.MethodName)) ∈ lw_all := lw_g (lw_at lw_m7 74 rfl) rfl
theorem q1657 : (Jvm.Cond.code ({ cls := "LetterPost$Testing", name := "place", desc := "()LLetterPost$Place;" } : Jvm.MethodName) prog_24_method_2_code (1 : Nat) (Option.some (Jvm.ClassFile.FieldType.object "LetterPost$Place"))) ∈ lw_all := lw_g (lw_at lw_m7 75 rfl) rfl

/-! LetterPost$KindTest -/
set_option maxRecDepth 100000
def RX26 : String := "LetterPost$KindTest"
def TX26 : u_T := fun k => match k with
  | 0 => ("LetterPost$Testing", "place", "LLetterPost$Place;", true)
  | 1 => ("LetterPost$Node", "number", "I", true)
  | 2 => ("LetterPost$Node", "next", "[LLetterPost$Node;", false)
  | _ => ("LetterPost$KindTest", "leaves", "[LLetterPost$Kind;", true)
def tyX26 : Nat → FieldType := fun k => match k with
  | 0 => .object "LetterPost$Place"
  | 1 => .int
  | 2 => .array (.object "LetterPost$Node")
  | _ => .array (.object "LetterPost$Kind")
abbrev wsX260 : List Cond := u_ws RX26 TX26 4
theorem nmX26 : ∀ a, a < 4 → ∀ b, b < 4 → a ≠ b → (TX26 a).2.1 ≠ (TX26 b).2.1 := by decide +kernel
theorem tyX26_ok : ∀ k, k < 4 → parseFieldDescriptor (TX26 k).2.2.1 = some (tyX26 k) := by decide +kernel
abbrev cX26_init : ByteArray := prog_9_method_1_code
def yX26_init : MethodName := ⟨RX26, "<init>", "(ILLetterPost$Place;[LLetterPost$Kind;)V"⟩
def dkwX26_init_0 : List UInt8 := [42, 27, 44, 183, 0, 1, 42, 45, 181, 0, 7, 177]
abbrev dktX26_init_0 : List UInt8 := dkwX26_init_0 ++ []
theorem dksX26_init_0 : cX26_init.data.toList.drop 0 = dktX26_init_0 := by decide +kernel
theorem dX26_init_0 : decode cX26_init 0 = .ok (.aload_n 0, 1) := dk_42 (dk_at dksX26_init_0 0 rfl rfl)
theorem dX26_init_1 : decode cX26_init 1 = .ok (.iload_n 1, 1) := dk_27 (dk_at dksX26_init_0 1 rfl rfl)
theorem dX26_init_2 : decode cX26_init 2 = .ok (.aload_n 2, 1) := dk_44 (dk_at dksX26_init_0 2 rfl rfl)
theorem dX26_init_3 : decode cX26_init 3 = .ok (.invokespecial 1, 3) := dk_183 0 1 (dk_at dksX26_init_0 3 rfl rfl)
theorem dX26_init_6 : decode cX26_init 6 = .ok (.aload_n 0, 1) := dk_42 (dk_at dksX26_init_0 6 rfl rfl)
theorem dX26_init_7 : decode cX26_init 7 = .ok (.aload_n 3, 1) := dk_45 (dk_at dksX26_init_0 7 rfl rfl)
theorem dX26_init_8 : decode cX26_init 8 = .ok (.putfield 7, 3) := dk_181 0 7 (dk_at dksX26_init_0 8 rfl rfl)
theorem dX26_init_11 : decode cX26_init 11 = .ok (.return_, 1) := dk_177 (dk_at dksX26_init_0 11 rfl rfl)
abbrev cX26_what : ByteArray := prog_9_method_2_code
def yX26_what : MethodName := ⟨RX26, "what", "()I"⟩
theorem dX26_what_0 : decode cX26_what 0 = .ok (.iconst 3, 1) := by decide +kernel
theorem dX26_what_1 : decode cX26_what 1 = .ok (.ireturn, 1) := by decide +kernel
abbrev cX26_go : ByteArray := prog_9_method_3_code
def yX26_go : MethodName := ⟨RX26, "go", "([LLetterPost$Value;)LLetterPost$Node;"⟩
def dkwX26_go_2 : List UInt8 := [29, 4, 96, 50, 176, 132, 3, 1, 167, 255, 225, 1, 176]
abbrev dktX26_go_2 : List UInt8 := dkwX26_go_2 ++ []
def dkwX26_go_1 : List UInt8 := [62, 29, 42, 180, 0, 7, 190, 162, 0, 28, 42, 180, 0, 7, 29, 50, 44, 166, 0, 12, 42, 180, 0, 29]
abbrev dktX26_go_1 : List UInt8 := dkwX26_go_1 ++ dktX26_go_2
def dkwX26_go_0 : List UInt8 := [42, 180, 0, 13, 43, 182, 0, 17, 182, 0, 23, 77, 44, 199, 0, 10, 42, 180, 0, 29, 3, 50, 176, 3]
abbrev dktX26_go_0 : List UInt8 := dkwX26_go_0 ++ dktX26_go_1
theorem dksX26_go_0 : cX26_go.data.toList.drop 0 = dktX26_go_0 := by decide +kernel
theorem dksX26_go_1 : cX26_go.data.toList.drop 24 = dktX26_go_1 := dk_seg dksX26_go_0 24 rfl rfl
theorem dksX26_go_2 : cX26_go.data.toList.drop 48 = dktX26_go_2 := dk_seg dksX26_go_1 24 rfl rfl
theorem dX26_go_0 : decode cX26_go 0 = .ok (.aload_n 0, 1) := dk_42 (dk_at dksX26_go_0 0 rfl rfl)
theorem dX26_go_1 : decode cX26_go 1 = .ok (.getfield 13, 3) := dk_180 0 13 (dk_at dksX26_go_0 1 rfl rfl)
theorem dX26_go_4 : decode cX26_go 4 = .ok (.aload_n 1, 1) := dk_43 (dk_at dksX26_go_0 4 rfl rfl)
theorem dX26_go_5 : decode cX26_go 5 = .ok (.invokevirtual 17, 3) := dk_182 0 17 (dk_at dksX26_go_0 5 rfl rfl)
theorem dX26_go_8 : decode cX26_go 8 = .ok (.invokevirtual 23, 3) := dk_182 0 23 (dk_at dksX26_go_0 8 rfl rfl)
theorem dX26_go_11 : decode cX26_go 11 = .ok (.astore_n 2, 1) := dk_77 (dk_at dksX26_go_0 11 rfl rfl)
theorem dX26_go_12 : decode cX26_go 12 = .ok (.aload_n 2, 1) := dk_44 (dk_at dksX26_go_0 12 rfl rfl)
theorem dX26_go_13 : decode cX26_go 13 = .ok (.ifnonnull 10, 3) := dk_199 0 10 (dk_at dksX26_go_0 13 rfl rfl)
theorem dX26_go_16 : decode cX26_go 16 = .ok (.aload_n 0, 1) := dk_42 (dk_at dksX26_go_0 16 rfl rfl)
theorem dX26_go_17 : decode cX26_go 17 = .ok (.getfield 29, 3) := dk_180 0 29 (dk_at dksX26_go_0 17 rfl rfl)
theorem dX26_go_20 : decode cX26_go 20 = .ok (.iconst 0, 1) := dk_3 (dk_at dksX26_go_0 20 rfl rfl)
theorem dX26_go_21 : decode cX26_go 21 = .ok (.aaload, 1) := dk_50 (dk_at dksX26_go_0 21 rfl rfl)
theorem dX26_go_22 : decode cX26_go 22 = .ok (.areturn, 1) := dk_176 (dk_at dksX26_go_0 22 rfl rfl)
theorem dX26_go_23 : decode cX26_go 23 = .ok (.iconst 0, 1) := dk_3 (dk_at dksX26_go_0 23 rfl rfl)
theorem dX26_go_24 : decode cX26_go 24 = .ok (.istore_n 3, 1) := dk_62 (dk_at dksX26_go_1 0 rfl rfl)
theorem dX26_go_25 : decode cX26_go 25 = .ok (.iload_n 3, 1) := dk_29 (dk_at dksX26_go_1 1 rfl rfl)
theorem dX26_go_26 : decode cX26_go 26 = .ok (.aload_n 0, 1) := dk_42 (dk_at dksX26_go_1 2 rfl rfl)
theorem dX26_go_27 : decode cX26_go 27 = .ok (.getfield 7, 3) := dk_180 0 7 (dk_at dksX26_go_1 3 rfl rfl)
theorem dX26_go_30 : decode cX26_go 30 = .ok (.arraylength, 1) := dk_190 (dk_at dksX26_go_1 6 rfl rfl)
theorem dX26_go_31 : decode cX26_go 31 = .ok (.if_icmp .ge 28, 3) := dk_162 0 28 (dk_at dksX26_go_1 7 rfl rfl)
theorem dX26_go_34 : decode cX26_go 34 = .ok (.aload_n 0, 1) := dk_42 (dk_at dksX26_go_1 10 rfl rfl)
theorem dX26_go_35 : decode cX26_go 35 = .ok (.getfield 7, 3) := dk_180 0 7 (dk_at dksX26_go_1 11 rfl rfl)
theorem dX26_go_38 : decode cX26_go 38 = .ok (.iload_n 3, 1) := dk_29 (dk_at dksX26_go_1 14 rfl rfl)
theorem dX26_go_39 : decode cX26_go 39 = .ok (.aaload, 1) := dk_50 (dk_at dksX26_go_1 15 rfl rfl)
theorem dX26_go_40 : decode cX26_go 40 = .ok (.aload_n 2, 1) := dk_44 (dk_at dksX26_go_1 16 rfl rfl)
theorem dX26_go_41 : decode cX26_go 41 = .ok (.if_acmp .ne 12, 3) := dk_166 0 12 (dk_at dksX26_go_1 17 rfl rfl)
theorem dX26_go_44 : decode cX26_go 44 = .ok (.aload_n 0, 1) := dk_42 (dk_at dksX26_go_1 20 rfl rfl)
theorem dX26_go_45 : decode cX26_go 45 = .ok (.getfield 29, 3) := dk_180 0 29 (dk_at dksX26_go_1 21 rfl rfl)
theorem dX26_go_48 : decode cX26_go 48 = .ok (.iload_n 3, 1) := dk_29 (dk_at dksX26_go_2 0 rfl rfl)
theorem dX26_go_49 : decode cX26_go 49 = .ok (.iconst 1, 1) := dk_4 (dk_at dksX26_go_2 1 rfl rfl)
theorem dX26_go_50 : decode cX26_go 50 = .ok (.iadd, 1) := dk_96 (dk_at dksX26_go_2 2 rfl rfl)
theorem dX26_go_51 : decode cX26_go 51 = .ok (.aaload, 1) := dk_50 (dk_at dksX26_go_2 3 rfl rfl)
theorem dX26_go_52 : decode cX26_go 52 = .ok (.areturn, 1) := dk_176 (dk_at dksX26_go_2 4 rfl rfl)
theorem dX26_go_53 : decode cX26_go 53 = .ok (.iinc 3 1, 3) := dk_132 3 1 (dk_at dksX26_go_2 5 rfl rfl)
theorem dX26_go_56 : decode cX26_go 56 = .ok (.goto (-31), 3) := dk_167 255 225 (dk_at dksX26_go_2 8 rfl rfl)
theorem dX26_go_59 : decode cX26_go 59 = .ok (.aconst_null, 1) := dk_1 (dk_at dksX26_go_2 11 rfl rfl)
theorem dX26_go_60 : decode cX26_go 60 = .ok (.areturn, 1) := dk_176 (dk_at dksX26_go_2 12 rfl rfl)
theorem q182 : (Jvm.Cond.initialized "LetterPost$KindTest") ∈ lw_all := lw_g (lw_at lw_m1 40 rfl) rfl
theorem q1350 : (Jvm.Cond.fieldLink "LetterPost$KindTest" (29 : Nat) "LetterPost$KindTest" "next" "[LLetterPost$Node;") ∈ lw_all := lw_g (lw_at lw_m6 8 rfl) rfl
theorem q1351 : (Jvm.Cond.sameField "LetterPost$KindTest" "LetterPost$Node" "next" "[LLetterPost$Node;") ∈ lw_all := lw_g (lw_at lw_m6 9 rfl) rfl
theorem q1446 : (Jvm.Cond.instantiable "LetterPost$KindTest" (4 : Nat)) ∈ lw_all := lw_g (lw_at lw_m6 104 rfl) rfl
theorem q1453 : (Jvm.Cond.instanceMethod ({ cls := "LetterPost$KindTest", name := "<init>", desc := "(ILLetterPost$Place;[LLetterPost$Kind;)V" } : Jvm.MethodName)) ∈ lw_all := lw_g (lw_at lw_m6 111 rfl) rfl
theorem q1454 : (Jvm.Cond.code ({ cls := "LetterPost$KindTest", name := "<init>", desc := "(ILLetterPost$Place;[LLetterPost$Kind;)V" } : Jvm.MethodName) prog_9_method_1_code (4 : Nat) (Option.none : Option Jvm.ClassFile.FieldType)) ∈ lw_all := lw_g (lw_at lw_m6 112 rfl) rfl
theorem q1455 : (Jvm.Cond.methodLink "LetterPost$KindTest" (1 : Nat) ({ cls := "LetterPost$Testing", name := "<init>", desc := "(ILLetterPost$Place;)V" } : Jvm.MethodName)) ∈ lw_all := lw_g (lw_at lw_m6 113 rfl) rfl
theorem q1459 : (Jvm.Cond.fieldLink "LetterPost$KindTest" (7 : Nat) "LetterPost$KindTest" "leaves" "[LLetterPost$Kind;") ∈ lw_all := lw_g (lw_at lw_m6 117 rfl) rfl
theorem q1462 : (Jvm.Cond.fieldLink "LetterPost$KindTest" (13 : Nat) "LetterPost$KindTest" "place" "LLetterPost$Place;") ∈ lw_all := lw_g (lw_at lw_m6 120 rfl) rfl
theorem q1463 : (Jvm.Cond.sameField "LetterPost$KindTest" "LetterPost$Testing" "place" "LLetterPost$Place;") ∈ lw_all := lw_g (lw_at lw_m6 121 rfl) rfl
theorem q1470 : (Jvm.Cond.laysFinal "LetterPost$KindTest" "LetterPost$KindTest" "leaves" "[LLetterPost$Kind;") ∈ lw_all := lw_g (lw_at lw_m6 128 rfl) rfl
theorem q1471 : (Jvm.Cond.soleField "LetterPost$KindTest" "leaves") ∈ lw_all := lw_g (lw_at lw_m6 129 rfl) rfl
theorem q1472 : (Jvm.Cond.laysFinal "LetterPost$KindTest" "LetterPost$Testing" "place" "LLetterPost$Place;") ∈ lw_all := lw_g (lw_at lw_m6 130 rfl) rfl
theorem q1474 : (Jvm.Cond.laysFinal "LetterPost$KindTest" "LetterPost$Node" "number" "I") ∈ lw_all := lw_g (lw_at lw_m6 132 rfl) rfl
theorem q1475 : (Jvm.Cond.lays "LetterPost$KindTest" "LetterPost$Node" "next" "[LLetterPost$Node;") ∈ lw_all := lw_g (lw_at lw_m6 133 rfl) rfl
theorem q1476 : (Jvm.Cond.superclass "LetterPost$KindTest" "LetterPost$Testing") ∈ lw_all := lw_g (lw_at lw_m6 134 rfl) rfl
theorem q1561 : (Jvm.Cond.selects "LetterPost$KindTest" ({ cls := "LetterPost$Node", name := "many", desc := "()I" } : Jvm.MethodName) ({ cls := "LetterPost$Node", name := "many", desc := "()I" } : Jvm.MethodName)) ∈ lw_all := lw_g (lw_at lw_m6 219 rfl) rfl
theorem q1586 : (Jvm.Cond.selects "LetterPost$KindTest" ({ cls := "LetterPost$Node", name := "depth", desc := "()I" } : Jvm.MethodName) ({ cls := "LetterPost$Node", name := "depth", desc := "()I" } : Jvm.MethodName)) ∈ lw_all := lw_g (lw_at lw_m7 4 rfl) rfl
theorem q1608 : (Jvm.Cond.selects "LetterPost$KindTest" ({ cls := "LetterPost$Node", name := "find", desc := "(I)LLetterPost$Node;" } : Jvm.MethodName) ({ cls := "LetterPost$Node", name := "find", desc := "(I)LLetterPost$Node;" } : Jvm.MethodName)) ∈ lw_all := lw_g (lw_at lw_m7 26 rfl) rfl
theorem q1623 : (Jvm.Cond.selects "LetterPost$KindTest" ({ cls := "LetterPost$Node", name := "what", desc := "()I" } : Jvm.MethodName) ({ cls := "LetterPost$KindTest", name := "what", desc := "()I" } : Jvm.MethodName)) ∈ lw_all := lw_g (lw_at lw_m7 41 rfl) rfl
theorem q1624 : (Jvm.Cond.instanceMethod ({ cls := "LetterPost$KindTest", name := "what", desc := "()I" } : Jvm.MethodName)) ∈ lw_all := lw_g (lw_at lw_m7 42 rfl) rfl
theorem q1625 : (Jvm.Cond.code ({ cls := "LetterPost$KindTest", name := "what", desc := "()I" } : Jvm.MethodName) prog_9_method_2_code (1 : Nat) (Option.some Jvm.ClassFile.FieldType.int)) ∈ lw_all := lw_g (lw_at lw_m7 43 rfl) rfl
theorem q1644 : (Jvm.Cond.selects "LetterPost$KindTest" ({ cls := "LetterPost$Node", name := "rule", desc := "()LLetterPost$Rule;" } : Jvm.MethodName) ({ cls := "LetterPost$Node", name := "rule", desc := "()LLetterPost$Rule;" } : Jvm.MethodName)) ∈ lw_all := lw_g (lw_at lw_m7 62 rfl) rfl
theorem q1655 : (Jvm.Cond.selects "LetterPost$KindTest" ({ cls := "LetterPost$Node", name := "place", desc := "()LLetterPost$Place;" } : Jvm.MethodName) ({ cls := "LetterPost$Testing", name := "place", desc := "()LLetterPost$Place;" } : Jvm.MethodName)) ∈ lw_all := lw_g (lw_at lw_m7 73 rfl) rfl
theorem q1677 : (Jvm.Cond.selects "LetterPost$KindTest" ({ cls := "LetterPost$Node", name := "has", desc := "(LLetterPost$Rule;)Z" } : Jvm.MethodName) ({ cls := "LetterPost$Node", name := "has", desc := "(LLetterPost$Rule;)Z" } : Jvm.MethodName)) ∈ lw_all := lw_g (lw_at lw_m7 95 rfl) rfl
theorem q1960 : (Jvm.Cond.instanceMethod ({ cls := "LetterPost$KindTest", name := "go", desc := "([LLetterPost$Value;)LLetterPost$Node;" } : Jvm.MethodName)) ∈ lw_all := lw_g (lw_at lw_m8 138 rfl) rfl
theorem q1961 : (Jvm.Cond.code ({ cls := "LetterPost$KindTest", name := "go", desc := "([LLetterPost$Value;)LLetterPost$Node;" } : Jvm.MethodName) prog_9_method_3_code (4 : Nat) (Option.some (Jvm.ClassFile.FieldType.object "LetterPost$Node"))) ∈ lw_all := lw_g (lw_at lw_m8 139 rfl) rfl
theorem q1962 : (Jvm.Cond.methodLink "LetterPost$KindTest" (17 : Nat) ({ cls := "LetterPost$Place", name := "of", desc := "([LLetterPost$Value;)LLetterPost$Value;" } : Jvm.MethodName)) ∈ lw_all := lw_g (lw_at lw_m8 140 rfl) rfl
theorem q1963 : (Jvm.Cond.methodLink "LetterPost$KindTest" (23 : Nat) ({ cls := "LetterPost$Value", name := "kind", desc := "()LLetterPost$Kind;" } : Jvm.MethodName)) ∈ lw_all := lw_g (lw_at lw_m8 141 rfl) rfl
theorem q3011 : (Jvm.Cond.selects "LetterPost$KindTest" ({ cls := "LetterPost$Node", name := "go", desc := "([LLetterPost$Value;)LLetterPost$Node;" } : Jvm.MethodName) ({ cls := "LetterPost$KindTest", name := "go", desc := "([LLetterPost$Value;)LLetterPost$Node;" } : Jvm.MethodName)) ∈ lw_all := lw_g (lw_at lw_m12 229 rfl) rfl
theorem q3019 : (Jvm.Cond.castable "LetterPost$KindTest" "LetterPost$Testing") ∈ lw_tbl := lw_at lw_m12 237 rfl
theorem q3038 : (Jvm.Cond.castable "LetterPost$KindTest" "LetterPost$Node") ∈ lw_tbl := lw_at lw_m13 16 rfl
theorem in_X26 : ∀ w ∈ wsX260, w ∈ lw_all := lw_in wsX260 [1472, 1474, 1475, 1470] (by decide +kernel) (by decide +kernel)

/-! LetterPost$TruthTest -/
set_option maxRecDepth 100000
def RX27 : String := "LetterPost$TruthTest"
def TX27 : u_T := fun k => match k with
  | 0 => ("LetterPost$Testing", "place", "LLetterPost$Place;", true)
  | 1 => ("LetterPost$Node", "number", "I", true)
  | _ => ("LetterPost$Node", "next", "[LLetterPost$Node;", false)
def tyX27 : Nat → FieldType := fun k => match k with
  | 0 => .object "LetterPost$Place"
  | 1 => .int
  | _ => .array (.object "LetterPost$Node")
abbrev wsX270 : List Cond := u_ws RX27 TX27 3
theorem nmX27 : ∀ a, a < 3 → ∀ b, b < 3 → a ≠ b → (TX27 a).2.1 ≠ (TX27 b).2.1 := by decide +kernel
theorem tyX27_ok : ∀ k, k < 3 → parseFieldDescriptor (TX27 k).2.2.1 = some (tyX27 k) := by decide +kernel
abbrev cX27_init : ByteArray := prog_29_method_1_code
def yX27_init : MethodName := ⟨RX27, "<init>", "(ILLetterPost$Place;)V"⟩
def dkwX27_init_0 : List UInt8 := [42, 27, 44, 183, 0, 1, 177]
abbrev dktX27_init_0 : List UInt8 := dkwX27_init_0 ++ []
theorem dksX27_init_0 : cX27_init.data.toList.drop 0 = dktX27_init_0 := by decide +kernel
theorem dX27_init_0 : decode cX27_init 0 = .ok (.aload_n 0, 1) := dk_42 (dk_at dksX27_init_0 0 rfl rfl)
theorem dX27_init_1 : decode cX27_init 1 = .ok (.iload_n 1, 1) := dk_27 (dk_at dksX27_init_0 1 rfl rfl)
theorem dX27_init_2 : decode cX27_init 2 = .ok (.aload_n 2, 1) := dk_44 (dk_at dksX27_init_0 2 rfl rfl)
theorem dX27_init_3 : decode cX27_init 3 = .ok (.invokespecial 1, 3) := dk_183 0 1 (dk_at dksX27_init_0 3 rfl rfl)
theorem dX27_init_6 : decode cX27_init 6 = .ok (.return_, 1) := dk_177 (dk_at dksX27_init_0 6 rfl rfl)
abbrev cX27_what : ByteArray := prog_29_method_2_code
def yX27_what : MethodName := ⟨RX27, "what", "()I"⟩
theorem dX27_what_0 : decode cX27_what 0 = .ok (.iconst 4, 1) := by decide +kernel
theorem dX27_what_1 : decode cX27_what 1 = .ok (.ireturn, 1) := by decide +kernel
abbrev cX27_go : ByteArray := prog_29_method_3_code
def yX27_go : MethodName := ⟨RX27, "go", "([LLetterPost$Value;)LLetterPost$Node;"⟩
def dkwX27_go_0 : List UInt8 := [42, 180, 0, 7, 42, 180, 0, 13, 43, 182, 0, 17, 182, 0, 23, 50, 176]
abbrev dktX27_go_0 : List UInt8 := dkwX27_go_0 ++ []
theorem dksX27_go_0 : cX27_go.data.toList.drop 0 = dktX27_go_0 := by decide +kernel
theorem dX27_go_0 : decode cX27_go 0 = .ok (.aload_n 0, 1) := dk_42 (dk_at dksX27_go_0 0 rfl rfl)
theorem dX27_go_1 : decode cX27_go 1 = .ok (.getfield 7, 3) := dk_180 0 7 (dk_at dksX27_go_0 1 rfl rfl)
theorem dX27_go_4 : decode cX27_go 4 = .ok (.aload_n 0, 1) := dk_42 (dk_at dksX27_go_0 4 rfl rfl)
theorem dX27_go_5 : decode cX27_go 5 = .ok (.getfield 13, 3) := dk_180 0 13 (dk_at dksX27_go_0 5 rfl rfl)
theorem dX27_go_8 : decode cX27_go 8 = .ok (.aload_n 1, 1) := dk_43 (dk_at dksX27_go_0 8 rfl rfl)
theorem dX27_go_9 : decode cX27_go 9 = .ok (.invokevirtual 17, 3) := dk_182 0 17 (dk_at dksX27_go_0 9 rfl rfl)
theorem dX27_go_12 : decode cX27_go 12 = .ok (.invokevirtual 23, 3) := dk_182 0 23 (dk_at dksX27_go_0 12 rfl rfl)
theorem dX27_go_15 : decode cX27_go 15 = .ok (.aaload, 1) := dk_50 (dk_at dksX27_go_0 15 rfl rfl)
theorem dX27_go_16 : decode cX27_go 16 = .ok (.areturn, 1) := dk_176 (dk_at dksX27_go_0 16 rfl rfl)
theorem q183 : (Jvm.Cond.initialized "LetterPost$TruthTest") ∈ lw_all := lw_g (lw_at lw_m1 41 rfl) rfl
theorem q1348 : (Jvm.Cond.fieldLink "LetterPost$TruthTest" (7 : Nat) "LetterPost$TruthTest" "next" "[LLetterPost$Node;") ∈ lw_all := lw_g (lw_at lw_m6 6 rfl) rfl
theorem q1349 : (Jvm.Cond.sameField "LetterPost$TruthTest" "LetterPost$Node" "next" "[LLetterPost$Node;") ∈ lw_all := lw_g (lw_at lw_m6 7 rfl) rfl
theorem q1468 : (Jvm.Cond.fieldLink "LetterPost$TruthTest" (13 : Nat) "LetterPost$TruthTest" "place" "LLetterPost$Place;") ∈ lw_all := lw_g (lw_at lw_m6 126 rfl) rfl
theorem q1469 : (Jvm.Cond.sameField "LetterPost$TruthTest" "LetterPost$Testing" "place" "LLetterPost$Place;") ∈ lw_all := lw_g (lw_at lw_m6 127 rfl) rfl
theorem q1482 : (Jvm.Cond.instantiable "LetterPost$TruthTest" (3 : Nat)) ∈ lw_all := lw_g (lw_at lw_m6 140 rfl) rfl
theorem q1484 : (Jvm.Cond.instanceMethod ({ cls := "LetterPost$TruthTest", name := "<init>", desc := "(ILLetterPost$Place;)V" } : Jvm.MethodName)) ∈ lw_all := lw_g (lw_at lw_m6 142 rfl) rfl
theorem q1485 : (Jvm.Cond.code ({ cls := "LetterPost$TruthTest", name := "<init>", desc := "(ILLetterPost$Place;)V" } : Jvm.MethodName) prog_29_method_1_code (3 : Nat) (Option.none : Option Jvm.ClassFile.FieldType)) ∈ lw_all := lw_g (lw_at lw_m6 143 rfl) rfl
theorem q1486 : (Jvm.Cond.methodLink "LetterPost$TruthTest" (1 : Nat) ({ cls := "LetterPost$Testing", name := "<init>", desc := "(ILLetterPost$Place;)V" } : Jvm.MethodName)) ∈ lw_all := lw_g (lw_at lw_m6 144 rfl) rfl
theorem q1487 : (Jvm.Cond.laysFinal "LetterPost$TruthTest" "LetterPost$Testing" "place" "LLetterPost$Place;") ∈ lw_all := lw_g (lw_at lw_m6 145 rfl) rfl
theorem q1488 : (Jvm.Cond.laysFinal "LetterPost$TruthTest" "LetterPost$Node" "number" "I") ∈ lw_all := lw_g (lw_at lw_m6 146 rfl) rfl
theorem q1489 : (Jvm.Cond.lays "LetterPost$TruthTest" "LetterPost$Node" "next" "[LLetterPost$Node;") ∈ lw_all := lw_g (lw_at lw_m6 147 rfl) rfl
theorem q1490 : (Jvm.Cond.superclass "LetterPost$TruthTest" "LetterPost$Testing") ∈ lw_all := lw_g (lw_at lw_m6 148 rfl) rfl
theorem q1563 : (Jvm.Cond.selects "LetterPost$TruthTest" ({ cls := "LetterPost$Node", name := "many", desc := "()I" } : Jvm.MethodName) ({ cls := "LetterPost$Node", name := "many", desc := "()I" } : Jvm.MethodName)) ∈ lw_all := lw_g (lw_at lw_m6 221 rfl) rfl
theorem q1588 : (Jvm.Cond.selects "LetterPost$TruthTest" ({ cls := "LetterPost$Node", name := "depth", desc := "()I" } : Jvm.MethodName) ({ cls := "LetterPost$Node", name := "depth", desc := "()I" } : Jvm.MethodName)) ∈ lw_all := lw_g (lw_at lw_m7 6 rfl) rfl
theorem q1610 : (Jvm.Cond.selects "LetterPost$TruthTest" ({ cls := "LetterPost$Node", name := "find", desc := "(I)LLetterPost$Node;" } : Jvm.MethodName) ({ cls := "LetterPost$Node", name := "find", desc := "(I)LLetterPost$Node;" } : Jvm.MethodName)) ∈ lw_all := lw_g (lw_at lw_m7 28 rfl) rfl
theorem q1629 : (Jvm.Cond.selects "LetterPost$TruthTest" ({ cls := "LetterPost$Node", name := "what", desc := "()I" } : Jvm.MethodName) ({ cls := "LetterPost$TruthTest", name := "what", desc := "()I" } : Jvm.MethodName)) ∈ lw_all := lw_g (lw_at lw_m7 47 rfl) rfl
theorem q1630 : (Jvm.Cond.instanceMethod ({ cls := "LetterPost$TruthTest", name := "what", desc := "()I" } : Jvm.MethodName)) ∈ lw_all := lw_g (lw_at lw_m7 48 rfl) rfl
theorem q1631 : (Jvm.Cond.code ({ cls := "LetterPost$TruthTest", name := "what", desc := "()I" } : Jvm.MethodName) prog_29_method_2_code (1 : Nat) (Option.some Jvm.ClassFile.FieldType.int)) ∈ lw_all := lw_g (lw_at lw_m7 49 rfl) rfl
theorem q1646 : (Jvm.Cond.selects "LetterPost$TruthTest" ({ cls := "LetterPost$Node", name := "rule", desc := "()LLetterPost$Rule;" } : Jvm.MethodName) ({ cls := "LetterPost$Node", name := "rule", desc := "()LLetterPost$Rule;" } : Jvm.MethodName)) ∈ lw_all := lw_g (lw_at lw_m7 64 rfl) rfl
theorem q1659 : (Jvm.Cond.selects "LetterPost$TruthTest" ({ cls := "LetterPost$Node", name := "place", desc := "()LLetterPost$Place;" } : Jvm.MethodName) ({ cls := "LetterPost$Testing", name := "place", desc := "()LLetterPost$Place;" } : Jvm.MethodName)) ∈ lw_all := lw_g (lw_at lw_m7 77 rfl) rfl
theorem q1679 : (Jvm.Cond.selects "LetterPost$TruthTest" ({ cls := "LetterPost$Node", name := "has", desc := "(LLetterPost$Rule;)Z" } : Jvm.MethodName) ({ cls := "LetterPost$Node", name := "has", desc := "(LLetterPost$Rule;)Z" } : Jvm.MethodName)) ∈ lw_all := lw_g (lw_at lw_m7 97 rfl) rfl
theorem q1968 : (Jvm.Cond.instanceMethod ({ cls := "LetterPost$TruthTest", name := "go", desc := "([LLetterPost$Value;)LLetterPost$Node;" } : Jvm.MethodName)) ∈ lw_all := lw_g (lw_at lw_m8 146 rfl) rfl
theorem q1969 : (Jvm.Cond.code ({ cls := "LetterPost$TruthTest", name := "go", desc := "([LLetterPost$Value;)LLetterPost$Node;" } : Jvm.MethodName) prog_29_method_3_code (2 : Nat) (Option.some (Jvm.ClassFile.FieldType.object "LetterPost$Node"))) ∈ lw_all := lw_g (lw_at lw_m8 147 rfl) rfl
theorem q1970 : (Jvm.Cond.methodLink "LetterPost$TruthTest" (17 : Nat) ({ cls := "LetterPost$Place", name := "of", desc := "([LLetterPost$Value;)LLetterPost$Value;" } : Jvm.MethodName)) ∈ lw_all := lw_g (lw_at lw_m8 148 rfl) rfl
theorem q1971 : (Jvm.Cond.methodLink "LetterPost$TruthTest" (23 : Nat) ({ cls := "LetterPost$Value", name := "told", desc := "()I" } : Jvm.MethodName)) ∈ lw_all := lw_g (lw_at lw_m8 149 rfl) rfl
theorem q3013 : (Jvm.Cond.selects "LetterPost$TruthTest" ({ cls := "LetterPost$Node", name := "go", desc := "([LLetterPost$Value;)LLetterPost$Node;" } : Jvm.MethodName) ({ cls := "LetterPost$TruthTest", name := "go", desc := "([LLetterPost$Value;)LLetterPost$Node;" } : Jvm.MethodName)) ∈ lw_all := lw_g (lw_at lw_m12 231 rfl) rfl
theorem q3021 : (Jvm.Cond.castable "LetterPost$TruthTest" "LetterPost$Testing") ∈ lw_tbl := lw_at lw_m12 239 rfl
theorem q3039 : (Jvm.Cond.castable "LetterPost$TruthTest" "LetterPost$Node") ∈ lw_tbl := lw_at lw_m13 17 rfl
theorem in_X27 : ∀ w ∈ wsX270, w ∈ lw_all := lw_in wsX270 [1487, 1488, 1489] (by decide +kernel) (by decide +kernel)

/-! LetterPost$TextTest -/
set_option maxRecDepth 100000
def RX28 : String := "LetterPost$TextTest"
def TX28 : u_T := fun k => match k with
  | 0 => ("LetterPost$Testing", "place", "LLetterPost$Place;", true)
  | 1 => ("LetterPost$Node", "number", "I", true)
  | 2 => ("LetterPost$Node", "next", "[LLetterPost$Node;", false)
  | _ => ("LetterPost$TextTest", "texts", "[J", true)
def tyX28 : Nat → FieldType := fun k => match k with
  | 0 => .object "LetterPost$Place"
  | 1 => .int
  | 2 => .array (.object "LetterPost$Node")
  | _ => .array .long
abbrev wsX280 : List Cond := u_ws RX28 TX28 4
theorem nmX28 : ∀ a, a < 4 → ∀ b, b < 4 → a ≠ b → (TX28 a).2.1 ≠ (TX28 b).2.1 := by decide +kernel
theorem tyX28_ok : ∀ k, k < 4 → parseFieldDescriptor (TX28 k).2.2.1 = some (tyX28 k) := by decide +kernel
abbrev cX28_init : ByteArray := prog_26_method_1_code
def yX28_init : MethodName := ⟨RX28, "<init>", "(ILLetterPost$Place;[J)V"⟩
def dkwX28_init_0 : List UInt8 := [42, 27, 44, 183, 0, 1, 42, 45, 181, 0, 7, 177]
abbrev dktX28_init_0 : List UInt8 := dkwX28_init_0 ++ []
theorem dksX28_init_0 : cX28_init.data.toList.drop 0 = dktX28_init_0 := by decide +kernel
theorem dX28_init_0 : decode cX28_init 0 = .ok (.aload_n 0, 1) := dk_42 (dk_at dksX28_init_0 0 rfl rfl)
theorem dX28_init_1 : decode cX28_init 1 = .ok (.iload_n 1, 1) := dk_27 (dk_at dksX28_init_0 1 rfl rfl)
theorem dX28_init_2 : decode cX28_init 2 = .ok (.aload_n 2, 1) := dk_44 (dk_at dksX28_init_0 2 rfl rfl)
theorem dX28_init_3 : decode cX28_init 3 = .ok (.invokespecial 1, 3) := dk_183 0 1 (dk_at dksX28_init_0 3 rfl rfl)
theorem dX28_init_6 : decode cX28_init 6 = .ok (.aload_n 0, 1) := dk_42 (dk_at dksX28_init_0 6 rfl rfl)
theorem dX28_init_7 : decode cX28_init 7 = .ok (.aload_n 3, 1) := dk_45 (dk_at dksX28_init_0 7 rfl rfl)
theorem dX28_init_8 : decode cX28_init 8 = .ok (.putfield 7, 3) := dk_181 0 7 (dk_at dksX28_init_0 8 rfl rfl)
theorem dX28_init_11 : decode cX28_init 11 = .ok (.return_, 1) := dk_177 (dk_at dksX28_init_0 11 rfl rfl)
abbrev cX28_what : ByteArray := prog_26_method_2_code
def yX28_what : MethodName := ⟨RX28, "what", "()I"⟩
theorem dX28_what_0 : decode cX28_what 0 = .ok (.iconst 5, 1) := by decide +kernel
theorem dX28_what_1 : decode cX28_what 1 = .ok (.ireturn, 1) := by decide +kernel
abbrev cX28_go : ByteArray := prog_26_method_3_code
def yX28_go : MethodName := ⟨RX28, "go", "([LLetterPost$Value;)LLetterPost$Node;"⟩
def dkwX28_go_2 : List UInt8 := [180, 0, 29, 21, 4, 50, 176]
abbrev dktX28_go_2 : List UInt8 := dkwX28_go_2 ++ []
def dkwX28_go_1 : List UInt8 := [190, 162, 0, 21, 42, 180, 0, 7, 21, 4, 47, 32, 148, 153, 0, 9, 132, 4, 1, 167, 255, 231, 42]
abbrev dktX28_go_1 : List UInt8 := dkwX28_go_1 ++ dktX28_go_2
def dkwX28_go_0 : List UInt8 := [42, 180, 0, 13, 43, 182, 0, 17, 192, 0, 23, 180, 0, 25, 65, 3, 54, 4, 21, 4, 42, 180, 0, 7]
abbrev dktX28_go_0 : List UInt8 := dkwX28_go_0 ++ dktX28_go_1
theorem dksX28_go_0 : cX28_go.data.toList.drop 0 = dktX28_go_0 := by decide +kernel
theorem dksX28_go_1 : cX28_go.data.toList.drop 24 = dktX28_go_1 := dk_seg dksX28_go_0 24 rfl rfl
theorem dksX28_go_2 : cX28_go.data.toList.drop 47 = dktX28_go_2 := dk_seg dksX28_go_1 23 rfl rfl
theorem dX28_go_0 : decode cX28_go 0 = .ok (.aload_n 0, 1) := dk_42 (dk_at dksX28_go_0 0 rfl rfl)
theorem dX28_go_1 : decode cX28_go 1 = .ok (.getfield 13, 3) := dk_180 0 13 (dk_at dksX28_go_0 1 rfl rfl)
theorem dX28_go_4 : decode cX28_go 4 = .ok (.aload_n 1, 1) := dk_43 (dk_at dksX28_go_0 4 rfl rfl)
theorem dX28_go_5 : decode cX28_go 5 = .ok (.invokevirtual 17, 3) := dk_182 0 17 (dk_at dksX28_go_0 5 rfl rfl)
theorem dX28_go_8 : decode cX28_go 8 = .ok (.checkcast 23, 3) := dk_192 0 23 (dk_at dksX28_go_0 8 rfl rfl)
theorem dX28_go_11 : decode cX28_go 11 = .ok (.getfield 25, 3) := dk_180 0 25 (dk_at dksX28_go_0 11 rfl rfl)
theorem dX28_go_14 : decode cX28_go 14 = .ok (.lstore_n 2, 1) := dk_65 (dk_at dksX28_go_0 14 rfl rfl)
theorem dX28_go_15 : decode cX28_go 15 = .ok (.iconst 0, 1) := dk_3 (dk_at dksX28_go_0 15 rfl rfl)
theorem dX28_go_16 : decode cX28_go 16 = .ok (.istore 4, 2) := dk_54 4 (dk_at dksX28_go_0 16 rfl rfl)
theorem dX28_go_18 : decode cX28_go 18 = .ok (.iload 4, 2) := dk_21 4 (dk_at dksX28_go_0 18 rfl rfl)
theorem dX28_go_20 : decode cX28_go 20 = .ok (.aload_n 0, 1) := dk_42 (dk_at dksX28_go_0 20 rfl rfl)
theorem dX28_go_21 : decode cX28_go 21 = .ok (.getfield 7, 3) := dk_180 0 7 (dk_at dksX28_go_0 21 rfl rfl)
theorem dX28_go_24 : decode cX28_go 24 = .ok (.arraylength, 1) := dk_190 (dk_at dksX28_go_1 0 rfl rfl)
theorem dX28_go_25 : decode cX28_go 25 = .ok (.if_icmp .ge 21, 3) := dk_162 0 21 (dk_at dksX28_go_1 1 rfl rfl)
theorem dX28_go_28 : decode cX28_go 28 = .ok (.aload_n 0, 1) := dk_42 (dk_at dksX28_go_1 4 rfl rfl)
theorem dX28_go_29 : decode cX28_go 29 = .ok (.getfield 7, 3) := dk_180 0 7 (dk_at dksX28_go_1 5 rfl rfl)
theorem dX28_go_32 : decode cX28_go 32 = .ok (.iload 4, 2) := dk_21 4 (dk_at dksX28_go_1 8 rfl rfl)
theorem dX28_go_34 : decode cX28_go 34 = .ok (.laload, 1) := dk_47 (dk_at dksX28_go_1 10 rfl rfl)
theorem dX28_go_35 : decode cX28_go 35 = .ok (.lload_n 2, 1) := dk_32 (dk_at dksX28_go_1 11 rfl rfl)
theorem dX28_go_36 : decode cX28_go 36 = .ok (.lcmp, 1) := dk_148 (dk_at dksX28_go_1 12 rfl rfl)
theorem dX28_go_37 : decode cX28_go 37 = .ok (.ifCond .eq 9, 3) := dk_153 0 9 (dk_at dksX28_go_1 13 rfl rfl)
theorem dX28_go_40 : decode cX28_go 40 = .ok (.iinc 4 1, 3) := dk_132 4 1 (dk_at dksX28_go_1 16 rfl rfl)
theorem dX28_go_43 : decode cX28_go 43 = .ok (.goto (-25), 3) := dk_167 255 231 (dk_at dksX28_go_1 19 rfl rfl)
theorem dX28_go_46 : decode cX28_go 46 = .ok (.aload_n 0, 1) := dk_42 (dk_at dksX28_go_1 22 rfl rfl)
theorem dX28_go_47 : decode cX28_go 47 = .ok (.getfield 29, 3) := dk_180 0 29 (dk_at dksX28_go_2 0 rfl rfl)
theorem dX28_go_50 : decode cX28_go 50 = .ok (.iload 4, 2) := dk_21 4 (dk_at dksX28_go_2 3 rfl rfl)
theorem dX28_go_52 : decode cX28_go 52 = .ok (.aaload, 1) := dk_50 (dk_at dksX28_go_2 5 rfl rfl)
theorem dX28_go_53 : decode cX28_go 53 = .ok (.areturn, 1) := dk_176 (dk_at dksX28_go_2 6 rfl rfl)
theorem q184 : (Jvm.Cond.initialized "LetterPost$TextTest") ∈ lw_all := lw_g (lw_at lw_m1 42 rfl) rfl
theorem q1354 : (Jvm.Cond.fieldLink "LetterPost$TextTest" (29 : Nat) "LetterPost$TextTest" "next" "[LLetterPost$Node;") ∈ lw_all := lw_g (lw_at lw_m6 12 rfl) rfl
theorem q1355 : (Jvm.Cond.sameField "LetterPost$TextTest" "LetterPost$Node" "next" "[LLetterPost$Node;") ∈ lw_all := lw_g (lw_at lw_m6 13 rfl) rfl
theorem q1464 : (Jvm.Cond.fieldLink "LetterPost$TextTest" (13 : Nat) "LetterPost$TextTest" "place" "LLetterPost$Place;") ∈ lw_all := lw_g (lw_at lw_m6 122 rfl) rfl
theorem q1465 : (Jvm.Cond.sameField "LetterPost$TextTest" "LetterPost$Testing" "place" "LLetterPost$Place;") ∈ lw_all := lw_g (lw_at lw_m6 123 rfl) rfl
theorem q1496 : (Jvm.Cond.instantiable "LetterPost$TextTest" (4 : Nat)) ∈ lw_all := lw_g (lw_at lw_m6 154 rfl) rfl
theorem q1502 : (Jvm.Cond.instanceMethod ({ cls := "LetterPost$TextTest", name := "<init>", desc := "(ILLetterPost$Place;[J)V" } : Jvm.MethodName)) ∈ lw_all := lw_g (lw_at lw_m6 160 rfl) rfl
theorem q1503 : (Jvm.Cond.code ({ cls := "LetterPost$TextTest", name := "<init>", desc := "(ILLetterPost$Place;[J)V" } : Jvm.MethodName) prog_26_method_1_code (4 : Nat) (Option.none : Option Jvm.ClassFile.FieldType)) ∈ lw_all := lw_g (lw_at lw_m6 161 rfl) rfl
theorem q1504 : (Jvm.Cond.methodLink "LetterPost$TextTest" (1 : Nat) ({ cls := "LetterPost$Testing", name := "<init>", desc := "(ILLetterPost$Place;)V" } : Jvm.MethodName)) ∈ lw_all := lw_g (lw_at lw_m6 162 rfl) rfl
theorem q1505 : (Jvm.Cond.fieldLink "LetterPost$TextTest" (7 : Nat) "LetterPost$TextTest" "texts" "[J") ∈ lw_all := lw_g (lw_at lw_m6 163 rfl) rfl
theorem q1507 : (Jvm.Cond.laysFinal "LetterPost$TextTest" "LetterPost$TextTest" "texts" "[J") ∈ lw_all := lw_g (lw_at lw_m6 165 rfl) rfl
theorem q1508 : (Jvm.Cond.soleField "LetterPost$TextTest" "texts") ∈ lw_all := lw_g (lw_at lw_m6 166 rfl) rfl
theorem q1509 : (Jvm.Cond.laysFinal "LetterPost$TextTest" "LetterPost$Testing" "place" "LLetterPost$Place;") ∈ lw_all := lw_g (lw_at lw_m6 167 rfl) rfl
theorem q1510 : (Jvm.Cond.laysFinal "LetterPost$TextTest" "LetterPost$Node" "number" "I") ∈ lw_all := lw_g (lw_at lw_m6 168 rfl) rfl
theorem q1511 : (Jvm.Cond.lays "LetterPost$TextTest" "LetterPost$Node" "next" "[LLetterPost$Node;") ∈ lw_all := lw_g (lw_at lw_m6 169 rfl) rfl
theorem q1512 : (Jvm.Cond.superclass "LetterPost$TextTest" "LetterPost$Testing") ∈ lw_all := lw_g (lw_at lw_m6 170 rfl) rfl
theorem q1562 : (Jvm.Cond.selects "LetterPost$TextTest" ({ cls := "LetterPost$Node", name := "many", desc := "()I" } : Jvm.MethodName) ({ cls := "LetterPost$Node", name := "many", desc := "()I" } : Jvm.MethodName)) ∈ lw_all := lw_g (lw_at lw_m6 220 rfl) rfl
theorem q1587 : (Jvm.Cond.selects "LetterPost$TextTest" ({ cls := "LetterPost$Node", name := "depth", desc := "()I" } : Jvm.MethodName) ({ cls := "LetterPost$Node", name := "depth", desc := "()I" } : Jvm.MethodName)) ∈ lw_all := lw_g (lw_at lw_m7 5 rfl) rfl
theorem q1609 : (Jvm.Cond.selects "LetterPost$TextTest" ({ cls := "LetterPost$Node", name := "find", desc := "(I)LLetterPost$Node;" } : Jvm.MethodName) ({ cls := "LetterPost$Node", name := "find", desc := "(I)LLetterPost$Node;" } : Jvm.MethodName)) ∈ lw_all := lw_g (lw_at lw_m7 27 rfl) rfl
theorem q1626 : (Jvm.Cond.selects "LetterPost$TextTest" ({ cls := "LetterPost$Node", name := "what", desc := "()I" } : Jvm.MethodName) ({ cls := "LetterPost$TextTest", name := "what", desc := "()I" } : Jvm.MethodName)) ∈ lw_all := lw_g (lw_at lw_m7 44 rfl) rfl
theorem q1627 : (Jvm.Cond.instanceMethod ({ cls := "LetterPost$TextTest", name := "what", desc := "()I" } : Jvm.MethodName)) ∈ lw_all := lw_g (lw_at lw_m7 45 rfl) rfl
theorem q1628 : (Jvm.Cond.code ({ cls := "LetterPost$TextTest", name := "what", desc := "()I" } : Jvm.MethodName) prog_26_method_2_code (1 : Nat) (Option.some Jvm.ClassFile.FieldType.int)) ∈ lw_all := lw_g (lw_at lw_m7 46 rfl) rfl
theorem q1645 : (Jvm.Cond.selects "LetterPost$TextTest" ({ cls := "LetterPost$Node", name := "rule", desc := "()LLetterPost$Rule;" } : Jvm.MethodName) ({ cls := "LetterPost$Node", name := "rule", desc := "()LLetterPost$Rule;" } : Jvm.MethodName)) ∈ lw_all := lw_g (lw_at lw_m7 63 rfl) rfl
theorem q1658 : (Jvm.Cond.selects "LetterPost$TextTest" ({ cls := "LetterPost$Node", name := "place", desc := "()LLetterPost$Place;" } : Jvm.MethodName) ({ cls := "LetterPost$Testing", name := "place", desc := "()LLetterPost$Place;" } : Jvm.MethodName)) ∈ lw_all := lw_g (lw_at lw_m7 76 rfl) rfl
theorem q1678 : (Jvm.Cond.selects "LetterPost$TextTest" ({ cls := "LetterPost$Node", name := "has", desc := "(LLetterPost$Rule;)Z" } : Jvm.MethodName) ({ cls := "LetterPost$Node", name := "has", desc := "(LLetterPost$Rule;)Z" } : Jvm.MethodName)) ∈ lw_all := lw_g (lw_at lw_m7 96 rfl) rfl
theorem q1748 : (Jvm.Cond.fieldLink "LetterPost$TextTest" (25 : Nat) "LetterPost$Text" "letters" "J") ∈ lw_all := lw_g (lw_at lw_m7 166 rfl) rfl
theorem q1964 : (Jvm.Cond.instanceMethod ({ cls := "LetterPost$TextTest", name := "go", desc := "([LLetterPost$Value;)LLetterPost$Node;" } : Jvm.MethodName)) ∈ lw_all := lw_g (lw_at lw_m8 142 rfl) rfl
theorem q1965 : (Jvm.Cond.code ({ cls := "LetterPost$TextTest", name := "go", desc := "([LLetterPost$Value;)LLetterPost$Node;" } : Jvm.MethodName) prog_26_method_3_code (5 : Nat) (Option.some (Jvm.ClassFile.FieldType.object "LetterPost$Node"))) ∈ lw_all := lw_g (lw_at lw_m8 143 rfl) rfl
theorem q1966 : (Jvm.Cond.methodLink "LetterPost$TextTest" (17 : Nat) ({ cls := "LetterPost$Place", name := "of", desc := "([LLetterPost$Value;)LLetterPost$Value;" } : Jvm.MethodName)) ∈ lw_all := lw_g (lw_at lw_m8 144 rfl) rfl
theorem q1967 : (Jvm.Cond.classLink "LetterPost$TextTest" (23 : Nat) "LetterPost$Text") ∈ lw_all := lw_g (lw_at lw_m8 145 rfl) rfl
theorem q3012 : (Jvm.Cond.selects "LetterPost$TextTest" ({ cls := "LetterPost$Node", name := "go", desc := "([LLetterPost$Value;)LLetterPost$Node;" } : Jvm.MethodName) ({ cls := "LetterPost$TextTest", name := "go", desc := "([LLetterPost$Value;)LLetterPost$Node;" } : Jvm.MethodName)) ∈ lw_all := lw_g (lw_at lw_m12 230 rfl) rfl
theorem q3020 : (Jvm.Cond.castable "LetterPost$TextTest" "LetterPost$Testing") ∈ lw_tbl := lw_at lw_m12 238 rfl
theorem q3040 : (Jvm.Cond.castable "LetterPost$TextTest" "LetterPost$Node") ∈ lw_tbl := lw_at lw_m13 18 rfl
theorem in_X28 : ∀ w ∈ wsX280, w ∈ lw_all := lw_in wsX280 [1509, 1510, 1511, 1507] (by decide +kernel) (by decide +kernel)

/-! LetterPost$WholeTest -/
set_option maxRecDepth 100000
def RX29 : String := "LetterPost$WholeTest"
def TX29 : u_T := fun k => match k with
  | 0 => ("LetterPost$Testing", "place", "LLetterPost$Place;", true)
  | 1 => ("LetterPost$Node", "number", "I", true)
  | 2 => ("LetterPost$Node", "next", "[LLetterPost$Node;", false)
  | _ => ("LetterPost$WholeTest", "most", "[I", true)
def tyX29 : Nat → FieldType := fun k => match k with
  | 0 => .object "LetterPost$Place"
  | 1 => .int
  | 2 => .array (.object "LetterPost$Node")
  | _ => .array .int
abbrev wsX290 : List Cond := u_ws RX29 TX29 4
theorem nmX29 : ∀ a, a < 4 → ∀ b, b < 4 → a ≠ b → (TX29 a).2.1 ≠ (TX29 b).2.1 := by decide +kernel
theorem tyX29_ok : ∀ k, k < 4 → parseFieldDescriptor (TX29 k).2.2.1 = some (tyX29 k) := by decide +kernel
abbrev cX29_init : ByteArray := prog_33_method_1_code
def yX29_init : MethodName := ⟨RX29, "<init>", "(ILLetterPost$Place;[I)V"⟩
def dkwX29_init_0 : List UInt8 := [42, 27, 44, 183, 0, 1, 42, 45, 181, 0, 7, 177]
abbrev dktX29_init_0 : List UInt8 := dkwX29_init_0 ++ []
theorem dksX29_init_0 : cX29_init.data.toList.drop 0 = dktX29_init_0 := by decide +kernel
theorem dX29_init_0 : decode cX29_init 0 = .ok (.aload_n 0, 1) := dk_42 (dk_at dksX29_init_0 0 rfl rfl)
theorem dX29_init_1 : decode cX29_init 1 = .ok (.iload_n 1, 1) := dk_27 (dk_at dksX29_init_0 1 rfl rfl)
theorem dX29_init_2 : decode cX29_init 2 = .ok (.aload_n 2, 1) := dk_44 (dk_at dksX29_init_0 2 rfl rfl)
theorem dX29_init_3 : decode cX29_init 3 = .ok (.invokespecial 1, 3) := dk_183 0 1 (dk_at dksX29_init_0 3 rfl rfl)
theorem dX29_init_6 : decode cX29_init 6 = .ok (.aload_n 0, 1) := dk_42 (dk_at dksX29_init_0 6 rfl rfl)
theorem dX29_init_7 : decode cX29_init 7 = .ok (.aload_n 3, 1) := dk_45 (dk_at dksX29_init_0 7 rfl rfl)
theorem dX29_init_8 : decode cX29_init 8 = .ok (.putfield 7, 3) := dk_181 0 7 (dk_at dksX29_init_0 8 rfl rfl)
theorem dX29_init_11 : decode cX29_init 11 = .ok (.return_, 1) := dk_177 (dk_at dksX29_init_0 11 rfl rfl)
abbrev cX29_what : ByteArray := prog_33_method_2_code
def yX29_what : MethodName := ⟨RX29, "what", "()I"⟩
theorem dX29_what_0 : decode cX29_what 0 = .ok (.bipush 6, 2) := by decide +kernel
theorem dX29_what_2 : decode cX29_what 2 = .ok (.ireturn, 1) := by decide +kernel
abbrev cX29_go : ByteArray := prog_33_method_3_code
def yX29_go : MethodName := ⟨RX29, "go", "([LLetterPost$Value;)LLetterPost$Node;"⟩
def dkwX29_go_1 : List UInt8 := [164, 0, 9, 132, 3, 1, 167, 255, 243, 42, 180, 0, 29, 29, 50, 176]
abbrev dktX29_go_1 : List UInt8 := dkwX29_go_1 ++ []
def dkwX29_go_0 : List UInt8 := [42, 180, 0, 13, 43, 182, 0, 17, 192, 0, 23, 180, 0, 25, 61, 3, 62, 28, 42, 180, 0, 7, 29, 46]
abbrev dktX29_go_0 : List UInt8 := dkwX29_go_0 ++ dktX29_go_1
theorem dksX29_go_0 : cX29_go.data.toList.drop 0 = dktX29_go_0 := by decide +kernel
theorem dksX29_go_1 : cX29_go.data.toList.drop 24 = dktX29_go_1 := dk_seg dksX29_go_0 24 rfl rfl
theorem dX29_go_0 : decode cX29_go 0 = .ok (.aload_n 0, 1) := dk_42 (dk_at dksX29_go_0 0 rfl rfl)
theorem dX29_go_1 : decode cX29_go 1 = .ok (.getfield 13, 3) := dk_180 0 13 (dk_at dksX29_go_0 1 rfl rfl)
theorem dX29_go_4 : decode cX29_go 4 = .ok (.aload_n 1, 1) := dk_43 (dk_at dksX29_go_0 4 rfl rfl)
theorem dX29_go_5 : decode cX29_go 5 = .ok (.invokevirtual 17, 3) := dk_182 0 17 (dk_at dksX29_go_0 5 rfl rfl)
theorem dX29_go_8 : decode cX29_go 8 = .ok (.checkcast 23, 3) := dk_192 0 23 (dk_at dksX29_go_0 8 rfl rfl)
theorem dX29_go_11 : decode cX29_go 11 = .ok (.getfield 25, 3) := dk_180 0 25 (dk_at dksX29_go_0 11 rfl rfl)
theorem dX29_go_14 : decode cX29_go 14 = .ok (.istore_n 2, 1) := dk_61 (dk_at dksX29_go_0 14 rfl rfl)
theorem dX29_go_15 : decode cX29_go 15 = .ok (.iconst 0, 1) := dk_3 (dk_at dksX29_go_0 15 rfl rfl)
theorem dX29_go_16 : decode cX29_go 16 = .ok (.istore_n 3, 1) := dk_62 (dk_at dksX29_go_0 16 rfl rfl)
theorem dX29_go_17 : decode cX29_go 17 = .ok (.iload_n 2, 1) := dk_28 (dk_at dksX29_go_0 17 rfl rfl)
theorem dX29_go_18 : decode cX29_go 18 = .ok (.aload_n 0, 1) := dk_42 (dk_at dksX29_go_0 18 rfl rfl)
theorem dX29_go_19 : decode cX29_go 19 = .ok (.getfield 7, 3) := dk_180 0 7 (dk_at dksX29_go_0 19 rfl rfl)
theorem dX29_go_22 : decode cX29_go 22 = .ok (.iload_n 3, 1) := dk_29 (dk_at dksX29_go_0 22 rfl rfl)
theorem dX29_go_23 : decode cX29_go 23 = .ok (.iaload, 1) := dk_46 (dk_at dksX29_go_0 23 rfl rfl)
theorem dX29_go_24 : decode cX29_go 24 = .ok (.if_icmp .le 9, 3) := dk_164 0 9 (dk_at dksX29_go_1 0 rfl rfl)
theorem dX29_go_27 : decode cX29_go 27 = .ok (.iinc 3 1, 3) := dk_132 3 1 (dk_at dksX29_go_1 3 rfl rfl)
theorem dX29_go_30 : decode cX29_go 30 = .ok (.goto (-13), 3) := dk_167 255 243 (dk_at dksX29_go_1 6 rfl rfl)
theorem dX29_go_33 : decode cX29_go 33 = .ok (.aload_n 0, 1) := dk_42 (dk_at dksX29_go_1 9 rfl rfl)
theorem dX29_go_34 : decode cX29_go 34 = .ok (.getfield 29, 3) := dk_180 0 29 (dk_at dksX29_go_1 10 rfl rfl)
theorem dX29_go_37 : decode cX29_go 37 = .ok (.iload_n 3, 1) := dk_29 (dk_at dksX29_go_1 13 rfl rfl)
theorem dX29_go_38 : decode cX29_go 38 = .ok (.aaload, 1) := dk_50 (dk_at dksX29_go_1 14 rfl rfl)
theorem dX29_go_39 : decode cX29_go 39 = .ok (.areturn, 1) := dk_176 (dk_at dksX29_go_1 15 rfl rfl)
theorem q185 : (Jvm.Cond.initialized "LetterPost$WholeTest") ∈ lw_all := lw_g (lw_at lw_m1 43 rfl) rfl
theorem q1352 : (Jvm.Cond.fieldLink "LetterPost$WholeTest" (29 : Nat) "LetterPost$WholeTest" "next" "[LLetterPost$Node;") ∈ lw_all := lw_g (lw_at lw_m6 10 rfl) rfl
theorem q1353 : (Jvm.Cond.sameField "LetterPost$WholeTest" "LetterPost$Node" "next" "[LLetterPost$Node;") ∈ lw_all := lw_g (lw_at lw_m6 11 rfl) rfl
theorem q1466 : (Jvm.Cond.fieldLink "LetterPost$WholeTest" (13 : Nat) "LetterPost$WholeTest" "place" "LLetterPost$Place;") ∈ lw_all := lw_g (lw_at lw_m6 124 rfl) rfl
theorem q1467 : (Jvm.Cond.sameField "LetterPost$WholeTest" "LetterPost$Testing" "place" "LLetterPost$Place;") ∈ lw_all := lw_g (lw_at lw_m6 125 rfl) rfl
theorem q1518 : (Jvm.Cond.instantiable "LetterPost$WholeTest" (4 : Nat)) ∈ lw_all := lw_g (lw_at lw_m6 176 rfl) rfl
theorem q1524 : (Jvm.Cond.instanceMethod ({ cls := "LetterPost$WholeTest", name := "<init>", desc := "(ILLetterPost$Place;[I)V" } : Jvm.MethodName)) ∈ lw_all := lw_g (lw_at lw_m6 182 rfl) rfl
theorem q1525 : (Jvm.Cond.code ({ cls := "LetterPost$WholeTest", name := "<init>", desc := "(ILLetterPost$Place;[I)V" } : Jvm.MethodName) prog_33_method_1_code (4 : Nat) (Option.none : Option Jvm.ClassFile.FieldType)) ∈ lw_all := lw_g (lw_at lw_m6 183 rfl) rfl
theorem q1526 : (Jvm.Cond.methodLink "LetterPost$WholeTest" (1 : Nat) ({ cls := "LetterPost$Testing", name := "<init>", desc := "(ILLetterPost$Place;)V" } : Jvm.MethodName)) ∈ lw_all := lw_g (lw_at lw_m6 184 rfl) rfl
theorem q1527 : (Jvm.Cond.fieldLink "LetterPost$WholeTest" (7 : Nat) "LetterPost$WholeTest" "most" "[I") ∈ lw_all := lw_g (lw_at lw_m6 185 rfl) rfl
theorem q1529 : (Jvm.Cond.laysFinal "LetterPost$WholeTest" "LetterPost$WholeTest" "most" "[I") ∈ lw_all := lw_g (lw_at lw_m6 187 rfl) rfl
theorem q1530 : (Jvm.Cond.soleField "LetterPost$WholeTest" "most") ∈ lw_all := lw_g (lw_at lw_m6 188 rfl) rfl
theorem q1531 : (Jvm.Cond.laysFinal "LetterPost$WholeTest" "LetterPost$Testing" "place" "LLetterPost$Place;") ∈ lw_all := lw_g (lw_at lw_m6 189 rfl) rfl
theorem q1532 : (Jvm.Cond.laysFinal "LetterPost$WholeTest" "LetterPost$Node" "number" "I") ∈ lw_all := lw_g (lw_at lw_m6 190 rfl) rfl
theorem q1533 : (Jvm.Cond.lays "LetterPost$WholeTest" "LetterPost$Node" "next" "[LLetterPost$Node;") ∈ lw_all := lw_g (lw_at lw_m6 191 rfl) rfl
theorem q1534 : (Jvm.Cond.superclass "LetterPost$WholeTest" "LetterPost$Testing") ∈ lw_all := lw_g (lw_at lw_m6 192 rfl) rfl
theorem q1565 : (Jvm.Cond.selects "LetterPost$WholeTest" ({ cls := "LetterPost$Node", name := "many", desc := "()I" } : Jvm.MethodName) ({ cls := "LetterPost$Node", name := "many", desc := "()I" } : Jvm.MethodName)) ∈ lw_all := lw_g (lw_at lw_m6 223 rfl) rfl
theorem q1590 : (Jvm.Cond.selects "LetterPost$WholeTest" ({ cls := "LetterPost$Node", name := "depth", desc := "()I" } : Jvm.MethodName) ({ cls := "LetterPost$Node", name := "depth", desc := "()I" } : Jvm.MethodName)) ∈ lw_all := lw_g (lw_at lw_m7 8 rfl) rfl
theorem q1612 : (Jvm.Cond.selects "LetterPost$WholeTest" ({ cls := "LetterPost$Node", name := "find", desc := "(I)LLetterPost$Node;" } : Jvm.MethodName) ({ cls := "LetterPost$Node", name := "find", desc := "(I)LLetterPost$Node;" } : Jvm.MethodName)) ∈ lw_all := lw_g (lw_at lw_m7 30 rfl) rfl
theorem q1633 : (Jvm.Cond.selects "LetterPost$WholeTest" ({ cls := "LetterPost$Node", name := "what", desc := "()I" } : Jvm.MethodName) ({ cls := "LetterPost$WholeTest", name := "what", desc := "()I" } : Jvm.MethodName)) ∈ lw_all := lw_g (lw_at lw_m7 51 rfl) rfl
theorem q1634 : (Jvm.Cond.instanceMethod ({ cls := "LetterPost$WholeTest", name := "what", desc := "()I" } : Jvm.MethodName)) ∈ lw_all := lw_g (lw_at lw_m7 52 rfl) rfl
theorem q1635 : (Jvm.Cond.code ({ cls := "LetterPost$WholeTest", name := "what", desc := "()I" } : Jvm.MethodName) prog_33_method_2_code (1 : Nat) (Option.some Jvm.ClassFile.FieldType.int)) ∈ lw_all := lw_g (lw_at lw_m7 53 rfl) rfl
theorem q1648 : (Jvm.Cond.selects "LetterPost$WholeTest" ({ cls := "LetterPost$Node", name := "rule", desc := "()LLetterPost$Rule;" } : Jvm.MethodName) ({ cls := "LetterPost$Node", name := "rule", desc := "()LLetterPost$Rule;" } : Jvm.MethodName)) ∈ lw_all := lw_g (lw_at lw_m7 66 rfl) rfl
theorem q1661 : (Jvm.Cond.selects "LetterPost$WholeTest" ({ cls := "LetterPost$Node", name := "place", desc := "()LLetterPost$Place;" } : Jvm.MethodName) ({ cls := "LetterPost$Testing", name := "place", desc := "()LLetterPost$Place;" } : Jvm.MethodName)) ∈ lw_all := lw_g (lw_at lw_m7 79 rfl) rfl
theorem q1681 : (Jvm.Cond.selects "LetterPost$WholeTest" ({ cls := "LetterPost$Node", name := "has", desc := "(LLetterPost$Rule;)Z" } : Jvm.MethodName) ({ cls := "LetterPost$Node", name := "has", desc := "(LLetterPost$Rule;)Z" } : Jvm.MethodName)) ∈ lw_all := lw_g (lw_at lw_m7 99 rfl) rfl
theorem q1705 : (Jvm.Cond.fieldLink "LetterPost$WholeTest" (25 : Nat) "LetterPost$Whole" "v" "I") ∈ lw_all := lw_g (lw_at lw_m7 123 rfl) rfl
theorem q1972 : (Jvm.Cond.instanceMethod ({ cls := "LetterPost$WholeTest", name := "go", desc := "([LLetterPost$Value;)LLetterPost$Node;" } : Jvm.MethodName)) ∈ lw_all := lw_g (lw_at lw_m8 150 rfl) rfl
theorem q1973 : (Jvm.Cond.code ({ cls := "LetterPost$WholeTest", name := "go", desc := "([LLetterPost$Value;)LLetterPost$Node;" } : Jvm.MethodName) prog_33_method_3_code (4 : Nat) (Option.some (Jvm.ClassFile.FieldType.object "LetterPost$Node"))) ∈ lw_all := lw_g (lw_at lw_m8 151 rfl) rfl
theorem q1974 : (Jvm.Cond.methodLink "LetterPost$WholeTest" (17 : Nat) ({ cls := "LetterPost$Place", name := "of", desc := "([LLetterPost$Value;)LLetterPost$Value;" } : Jvm.MethodName)) ∈ lw_all := lw_g (lw_at lw_m8 152 rfl) rfl
theorem q1975 : (Jvm.Cond.classLink "LetterPost$WholeTest" (23 : Nat) "LetterPost$Whole") ∈ lw_all := lw_g (lw_at lw_m8 153 rfl) rfl
theorem q3015 : (Jvm.Cond.selects "LetterPost$WholeTest" ({ cls := "LetterPost$Node", name := "go", desc := "([LLetterPost$Value;)LLetterPost$Node;" } : Jvm.MethodName) ({ cls := "LetterPost$WholeTest", name := "go", desc := "([LLetterPost$Value;)LLetterPost$Node;" } : Jvm.MethodName)) ∈ lw_all := lw_g (lw_at lw_m12 233 rfl) rfl
theorem q3022 : (Jvm.Cond.castable "LetterPost$WholeTest" "LetterPost$Testing") ∈ lw_tbl := lw_at lw_m13 0 rfl
theorem q3041 : (Jvm.Cond.castable "LetterPost$WholeTest" "LetterPost$Node") ∈ lw_tbl := lw_at lw_m13 19 rfl
theorem in_X29 : ∀ w ∈ wsX290, w ∈ lw_all := lw_in wsX290 [1531, 1532, 1533, 1529] (by decide +kernel) (by decide +kernel)

/-! LetterPost$Value -/
set_option maxRecDepth 100000
def RX30 : String := "LetterPost$Value"
abbrev cX30_init : ByteArray := prog_31_method_1_code
def yX30_init : MethodName := ⟨RX30, "<init>", "(II)V"⟩
def dkwX30_init_0 : List UInt8 := [42, 183, 0, 3, 42, 27, 181, 0, 9, 42, 28, 181, 0, 15, 177]
abbrev dktX30_init_0 : List UInt8 := dkwX30_init_0 ++ []
theorem dksX30_init_0 : cX30_init.data.toList.drop 0 = dktX30_init_0 := by decide +kernel
theorem dX30_init_0 : decode cX30_init 0 = .ok (.aload_n 0, 1) := dk_42 (dk_at dksX30_init_0 0 rfl rfl)
theorem dX30_init_1 : decode cX30_init 1 = .ok (.invokespecial 3, 3) := dk_183 0 3 (dk_at dksX30_init_0 1 rfl rfl)
theorem dX30_init_4 : decode cX30_init 4 = .ok (.aload_n 0, 1) := dk_42 (dk_at dksX30_init_0 4 rfl rfl)
theorem dX30_init_5 : decode cX30_init 5 = .ok (.iload_n 1, 1) := dk_27 (dk_at dksX30_init_0 5 rfl rfl)
theorem dX30_init_6 : decode cX30_init 6 = .ok (.putfield 9, 3) := dk_181 0 9 (dk_at dksX30_init_0 6 rfl rfl)
theorem dX30_init_9 : decode cX30_init 9 = .ok (.aload_n 0, 1) := dk_42 (dk_at dksX30_init_0 9 rfl rfl)
theorem dX30_init_10 : decode cX30_init 10 = .ok (.iload_n 2, 1) := dk_28 (dk_at dksX30_init_0 10 rfl rfl)
theorem dX30_init_11 : decode cX30_init 11 = .ok (.putfield 15, 3) := dk_181 0 15 (dk_at dksX30_init_0 11 rfl rfl)
theorem dX30_init_14 : decode cX30_init 14 = .ok (.return_, 1) := dk_177 (dk_at dksX30_init_0 14 rfl rfl)
abbrev cX30_kind : ByteArray := prog_31_method_4_code
def yX30_kind : MethodName := ⟨RX30, "kind", "()LLetterPost$Kind;"⟩
theorem dX30_kind_0 : decode cX30_kind 0 = .ok (.aconst_null, 1) := by decide +kernel
theorem dX30_kind_1 : decode cX30_kind 1 = .ok (.areturn, 1) := by decide +kernel
abbrev cX30_told : ByteArray := prog_31_method_5_code
def yX30_told : MethodName := ⟨RX30, "told", "()I"⟩
theorem dX30_told_0 : decode cX30_told 0 = .ok (.bipush (-4), 2) := by decide +kernel
theorem dX30_told_2 : decode cX30_told 2 = .ok (.ireturn, 1) := by decide +kernel
theorem q186 : (Jvm.Cond.initialized "LetterPost$Value") ∈ lw_all := lw_g (lw_at lw_m1 44 rfl) rfl
theorem q1699 : (Jvm.Cond.instanceMethod ({ cls := "LetterPost$Value", name := "<init>", desc := "(II)V" } : Jvm.MethodName)) ∈ lw_all := lw_g (lw_at lw_m7 117 rfl) rfl
theorem q1700 : (Jvm.Cond.code ({ cls := "LetterPost$Value", name := "<init>", desc := "(II)V" } : Jvm.MethodName) prog_31_method_1_code (3 : Nat) (Option.none : Option Jvm.ClassFile.FieldType)) ∈ lw_all := lw_g (lw_at lw_m7 118 rfl) rfl
theorem q1701 : (Jvm.Cond.methodLink "LetterPost$Value" (3 : Nat) ({ cls := "java/lang/Object", name := "<init>", desc := "()V" } : Jvm.MethodName)) ∈ lw_all := lw_g (lw_at lw_m7 119 rfl) rfl
theorem q1707 : (Jvm.Cond.fieldLink "LetterPost$Value" (9 : Nat) "LetterPost$Value" "number" "I") ∈ lw_all := lw_g (lw_at lw_m7 125 rfl) rfl
theorem q1709 : (Jvm.Cond.fieldLink "LetterPost$Value" (15 : Nat) "LetterPost$Value" "size" "I") ∈ lw_all := lw_g (lw_at lw_m7 127 rfl) rfl
theorem q1714 : (Jvm.Cond.soleField "LetterPost$Value" "number") ∈ lw_all := lw_g (lw_at lw_m7 132 rfl) rfl
theorem q1716 : (Jvm.Cond.soleField "LetterPost$Value" "size") ∈ lw_all := lw_g (lw_at lw_m7 134 rfl) rfl
theorem q1782 : (Jvm.Cond.declares ({ cls := "LetterPost$Value", name := "what", desc := "()I" } : Jvm.MethodName)) ∈ lw_tbl := lw_at lw_m7 200 rfl
theorem q1783 : (Jvm.Cond.sameMethod "LetterPost$Value" "LetterPost$Value" "what" "()I") ∈ lw_all := lw_g (lw_at lw_m7 201 rfl) rfl
theorem q1800 : (Jvm.Cond.instanceMethod ({ cls := "LetterPost$Value", name := "kind", desc := "()LLetterPost$Kind;" } : Jvm.MethodName)) ∈ lw_all := lw_g (lw_at lw_m7 218 rfl) rfl
theorem q1801 : (Jvm.Cond.sameMethod "LetterPost$Value" "LetterPost$Value" "kind" "()LLetterPost$Kind;") ∈ lw_all := lw_g (lw_at lw_m7 219 rfl) rfl
theorem q1809 : (Jvm.Cond.code ({ cls := "LetterPost$Value", name := "kind", desc := "()LLetterPost$Kind;" } : Jvm.MethodName) prog_31_method_4_code (1 : Nat) (Option.some (Jvm.ClassFile.FieldType.object "LetterPost$Kind"))) ∈ lw_all := lw_g (lw_at lw_m7 227 rfl) rfl
theorem q1834 : (Jvm.Cond.instanceMethod ({ cls := "LetterPost$Value", name := "told", desc := "()I" } : Jvm.MethodName)) ∈ lw_all := lw_g (lw_at lw_m8 12 rfl) rfl
theorem q1835 : (Jvm.Cond.sameMethod "LetterPost$Value" "LetterPost$Value" "told" "()I") ∈ lw_all := lw_g (lw_at lw_m8 13 rfl) rfl
theorem q1847 : (Jvm.Cond.code ({ cls := "LetterPost$Value", name := "told", desc := "()I" } : Jvm.MethodName) prog_31_method_5_code (1 : Nat) (Option.some Jvm.ClassFile.FieldType.int)) ∈ lw_all := lw_g (lw_at lw_m8 25 rfl) rfl
theorem q1853 : (Jvm.Cond.declares ({ cls := "LetterPost$Value", name := "isLike", desc := "(LLetterPost$Value;)Z" } : Jvm.MethodName)) ∈ lw_tbl := lw_at lw_m8 31 rfl
theorem q1854 : (Jvm.Cond.sameMethod "LetterPost$Value" "LetterPost$Value" "isLike" "(LLetterPost$Value;)Z") ∈ lw_all := lw_g (lw_at lw_m8 32 rfl) rfl

/-! LetterPost$Whole -/
set_option maxRecDepth 100000
def RX31 : String := "LetterPost$Whole"
def TX31 : u_T := fun k => match k with
  | 0 => ("LetterPost$Value", "number", "I", true)
  | 1 => ("LetterPost$Value", "size", "I", true)
  | _ => ("LetterPost$Whole", "v", "I", true)
def tyX31 : Nat → FieldType := fun k => match k with
  | 0 => .int
  | 1 => .int
  | _ => .int
abbrev wsX310 : List Cond := u_ws RX31 TX31 3
theorem nmX31 : ∀ a, a < 3 → ∀ b, b < 3 → a ≠ b → (TX31 a).2.1 ≠ (TX31 b).2.1 := by decide +kernel
theorem tyX31_ok : ∀ k, k < 3 → parseFieldDescriptor (TX31 k).2.2.1 = some (tyX31 k) := by decide +kernel
abbrev cX31_init : ByteArray := prog_32_method_1_code
def yX31_init : MethodName := ⟨RX31, "<init>", "(II)V"⟩
def dkwX31_init_0 : List UInt8 := [42, 27, 4, 183, 0, 1, 42, 28, 181, 0, 7, 177]
abbrev dktX31_init_0 : List UInt8 := dkwX31_init_0 ++ []
theorem dksX31_init_0 : cX31_init.data.toList.drop 0 = dktX31_init_0 := by decide +kernel
theorem dX31_init_0 : decode cX31_init 0 = .ok (.aload_n 0, 1) := dk_42 (dk_at dksX31_init_0 0 rfl rfl)
theorem dX31_init_1 : decode cX31_init 1 = .ok (.iload_n 1, 1) := dk_27 (dk_at dksX31_init_0 1 rfl rfl)
theorem dX31_init_2 : decode cX31_init 2 = .ok (.iconst 1, 1) := dk_4 (dk_at dksX31_init_0 2 rfl rfl)
theorem dX31_init_3 : decode cX31_init 3 = .ok (.invokespecial 1, 3) := dk_183 0 1 (dk_at dksX31_init_0 3 rfl rfl)
theorem dX31_init_6 : decode cX31_init 6 = .ok (.aload_n 0, 1) := dk_42 (dk_at dksX31_init_0 6 rfl rfl)
theorem dX31_init_7 : decode cX31_init 7 = .ok (.iload_n 2, 1) := dk_28 (dk_at dksX31_init_0 7 rfl rfl)
theorem dX31_init_8 : decode cX31_init 8 = .ok (.putfield 7, 3) := dk_181 0 7 (dk_at dksX31_init_0 8 rfl rfl)
theorem dX31_init_11 : decode cX31_init 11 = .ok (.return_, 1) := dk_177 (dk_at dksX31_init_0 11 rfl rfl)
abbrev cX31_what : ByteArray := prog_32_method_2_code
def yX31_what : MethodName := ⟨RX31, "what", "()I"⟩
theorem dX31_what_0 : decode cX31_what 0 = .ok (.iconst 0, 1) := by decide +kernel
theorem dX31_what_1 : decode cX31_what 1 = .ok (.ireturn, 1) := by decide +kernel
abbrev cX31_told : ByteArray := prog_32_method_4_code
def yX31_told : MethodName := ⟨RX31, "told", "()I"⟩
theorem dX31_told_0 : decode cX31_told 0 = .ok (.aload_n 0, 1) := by decide +kernel
theorem dX31_told_1 : decode cX31_told 1 = .ok (.getfield 7, 3) := by decide +kernel
theorem dX31_told_4 : decode cX31_told 4 = .ok (.ireturn, 1) := by decide +kernel
abbrev cX31_isLike : ByteArray := prog_32_method_3_code
def yX31_isLike : MethodName := ⟨RX31, "isLike", "(LLetterPost$Value;)Z"⟩
def dkwX31_isLike_1 : List UInt8 := [160, 0, 7, 4, 167, 0, 4, 3, 172]
abbrev dktX31_isLike_1 : List UInt8 := dkwX31_isLike_1 ++ []
def dkwX31_isLike_0 : List UInt8 := [42, 182, 0, 13, 43, 182, 0, 17, 160, 0, 21, 42, 180, 0, 7, 43, 192, 0, 8, 180, 0, 7]
abbrev dktX31_isLike_0 : List UInt8 := dkwX31_isLike_0 ++ dktX31_isLike_1
theorem dksX31_isLike_0 : cX31_isLike.data.toList.drop 0 = dktX31_isLike_0 := by decide +kernel
theorem dksX31_isLike_1 : cX31_isLike.data.toList.drop 22 = dktX31_isLike_1 := dk_seg dksX31_isLike_0 22 rfl rfl
theorem dX31_isLike_0 : decode cX31_isLike 0 = .ok (.aload_n 0, 1) := dk_42 (dk_at dksX31_isLike_0 0 rfl rfl)
theorem dX31_isLike_1 : decode cX31_isLike 1 = .ok (.invokevirtual 13, 3) := dk_182 0 13 (dk_at dksX31_isLike_0 1 rfl rfl)
theorem dX31_isLike_4 : decode cX31_isLike 4 = .ok (.aload_n 1, 1) := dk_43 (dk_at dksX31_isLike_0 4 rfl rfl)
theorem dX31_isLike_5 : decode cX31_isLike 5 = .ok (.invokevirtual 17, 3) := dk_182 0 17 (dk_at dksX31_isLike_0 5 rfl rfl)
theorem dX31_isLike_8 : decode cX31_isLike 8 = .ok (.if_icmp .ne 21, 3) := dk_160 0 21 (dk_at dksX31_isLike_0 8 rfl rfl)
theorem dX31_isLike_11 : decode cX31_isLike 11 = .ok (.aload_n 0, 1) := dk_42 (dk_at dksX31_isLike_0 11 rfl rfl)
theorem dX31_isLike_12 : decode cX31_isLike 12 = .ok (.getfield 7, 3) := dk_180 0 7 (dk_at dksX31_isLike_0 12 rfl rfl)
theorem dX31_isLike_15 : decode cX31_isLike 15 = .ok (.aload_n 1, 1) := dk_43 (dk_at dksX31_isLike_0 15 rfl rfl)
theorem dX31_isLike_16 : decode cX31_isLike 16 = .ok (.checkcast 8, 3) := dk_192 0 8 (dk_at dksX31_isLike_0 16 rfl rfl)
theorem dX31_isLike_19 : decode cX31_isLike 19 = .ok (.getfield 7, 3) := dk_180 0 7 (dk_at dksX31_isLike_0 19 rfl rfl)
theorem dX31_isLike_22 : decode cX31_isLike 22 = .ok (.if_icmp .ne 7, 3) := dk_160 0 7 (dk_at dksX31_isLike_1 0 rfl rfl)
theorem dX31_isLike_25 : decode cX31_isLike 25 = .ok (.iconst 1, 1) := dk_4 (dk_at dksX31_isLike_1 3 rfl rfl)
theorem dX31_isLike_26 : decode cX31_isLike 26 = .ok (.goto 4, 3) := dk_167 0 4 (dk_at dksX31_isLike_1 4 rfl rfl)
theorem dX31_isLike_29 : decode cX31_isLike 29 = .ok (.iconst 0, 1) := dk_3 (dk_at dksX31_isLike_1 7 rfl rfl)
theorem dX31_isLike_30 : decode cX31_isLike 30 = .ok (.ireturn, 1) := dk_172 (dk_at dksX31_isLike_1 8 rfl rfl)
theorem q187 : (Jvm.Cond.initialized "LetterPost$Whole") ∈ lw_all := lw_g (lw_at lw_m1 45 rfl) rfl
theorem q1694 : (Jvm.Cond.instantiable "LetterPost$Whole" (3 : Nat)) ∈ lw_all := lw_g (lw_at lw_m7 112 rfl) rfl
theorem q1696 : (Jvm.Cond.instanceMethod ({ cls := "LetterPost$Whole", name := "<init>", desc := "(II)V" } : Jvm.MethodName)) ∈ lw_all := lw_g (lw_at lw_m7 114 rfl) rfl
theorem q1697 : (Jvm.Cond.code ({ cls := "LetterPost$Whole", name := "<init>", desc := "(II)V" } : Jvm.MethodName) prog_32_method_1_code (3 : Nat) (Option.none : Option Jvm.ClassFile.FieldType)) ∈ lw_all := lw_g (lw_at lw_m7 115 rfl) rfl
theorem q1698 : (Jvm.Cond.methodLink "LetterPost$Whole" (1 : Nat) ({ cls := "LetterPost$Value", name := "<init>", desc := "(II)V" } : Jvm.MethodName)) ∈ lw_all := lw_g (lw_at lw_m7 116 rfl) rfl
theorem q1702 : (Jvm.Cond.fieldLink "LetterPost$Whole" (7 : Nat) "LetterPost$Whole" "v" "I") ∈ lw_all := lw_g (lw_at lw_m7 120 rfl) rfl
theorem q1711 : (Jvm.Cond.laysFinal "LetterPost$Whole" "LetterPost$Whole" "v" "I") ∈ lw_all := lw_g (lw_at lw_m7 129 rfl) rfl
theorem q1712 : (Jvm.Cond.soleField "LetterPost$Whole" "v") ∈ lw_all := lw_g (lw_at lw_m7 130 rfl) rfl
theorem q1713 : (Jvm.Cond.laysFinal "LetterPost$Whole" "LetterPost$Value" "number" "I") ∈ lw_all := lw_g (lw_at lw_m7 131 rfl) rfl
theorem q1715 : (Jvm.Cond.laysFinal "LetterPost$Whole" "LetterPost$Value" "size" "I") ∈ lw_all := lw_g (lw_at lw_m7 133 rfl) rfl
theorem q1717 : (Jvm.Cond.superclass "LetterPost$Whole" "LetterPost$Value") ∈ lw_all := lw_g (lw_at lw_m7 135 rfl) rfl
theorem q1796 : (Jvm.Cond.selects "LetterPost$Whole" ({ cls := "LetterPost$Value", name := "what", desc := "()I" } : Jvm.MethodName) ({ cls := "LetterPost$Whole", name := "what", desc := "()I" } : Jvm.MethodName)) ∈ lw_all := lw_g (lw_at lw_m7 214 rfl) rfl
theorem q1797 : (Jvm.Cond.instanceMethod ({ cls := "LetterPost$Whole", name := "what", desc := "()I" } : Jvm.MethodName)) ∈ lw_all := lw_g (lw_at lw_m7 215 rfl) rfl
theorem q1798 : (Jvm.Cond.code ({ cls := "LetterPost$Whole", name := "what", desc := "()I" } : Jvm.MethodName) prog_32_method_2_code (1 : Nat) (Option.some Jvm.ClassFile.FieldType.int)) ∈ lw_all := lw_g (lw_at lw_m7 216 rfl) rfl
theorem q1808 : (Jvm.Cond.selects "LetterPost$Whole" ({ cls := "LetterPost$Value", name := "kind", desc := "()LLetterPost$Kind;" } : Jvm.MethodName) ({ cls := "LetterPost$Value", name := "kind", desc := "()LLetterPost$Kind;" } : Jvm.MethodName)) ∈ lw_all := lw_g (lw_at lw_m7 226 rfl) rfl
theorem q1844 : (Jvm.Cond.instanceMethod ({ cls := "LetterPost$Whole", name := "told", desc := "()I" } : Jvm.MethodName)) ∈ lw_all := lw_g (lw_at lw_m8 22 rfl) rfl
theorem q1845 : (Jvm.Cond.code ({ cls := "LetterPost$Whole", name := "told", desc := "()I" } : Jvm.MethodName) prog_32_method_4_code (1 : Nat) (Option.some Jvm.ClassFile.FieldType.int)) ∈ lw_all := lw_g (lw_at lw_m8 23 rfl) rfl
theorem q1846 : (Jvm.Cond.selects "LetterPost$Whole" ({ cls := "LetterPost$Value", name := "told", desc := "()I" } : Jvm.MethodName) ({ cls := "LetterPost$Whole", name := "told", desc := "()I" } : Jvm.MethodName)) ∈ lw_all := lw_g (lw_at lw_m8 24 rfl) rfl
theorem q1869 : (Jvm.Cond.instanceMethod ({ cls := "LetterPost$Whole", name := "isLike", desc := "(LLetterPost$Value;)Z" } : Jvm.MethodName)) ∈ lw_all := lw_g (lw_at lw_m8 47 rfl) rfl
theorem q1870 : (Jvm.Cond.code ({ cls := "LetterPost$Whole", name := "isLike", desc := "(LLetterPost$Value;)Z" } : Jvm.MethodName) prog_32_method_3_code (2 : Nat) (Option.some Jvm.ClassFile.FieldType.boolean)) ∈ lw_all := lw_g (lw_at lw_m8 48 rfl) rfl
theorem q1871 : (Jvm.Cond.methodLink "LetterPost$Whole" (13 : Nat) ({ cls := "LetterPost$Whole", name := "what", desc := "()I" } : Jvm.MethodName)) ∈ lw_all := lw_g (lw_at lw_m8 49 rfl) rfl
theorem q1872 : (Jvm.Cond.methodLink "LetterPost$Whole" (17 : Nat) ({ cls := "LetterPost$Value", name := "what", desc := "()I" } : Jvm.MethodName)) ∈ lw_all := lw_g (lw_at lw_m8 50 rfl) rfl
theorem q1873 : (Jvm.Cond.classLink "LetterPost$Whole" (8 : Nat) "LetterPost$Whole") ∈ lw_all := lw_g (lw_at lw_m8 51 rfl) rfl
theorem q1877 : (Jvm.Cond.selects "LetterPost$Whole" ({ cls := "LetterPost$Value", name := "isLike", desc := "(LLetterPost$Value;)Z" } : Jvm.MethodName) ({ cls := "LetterPost$Whole", name := "isLike", desc := "(LLetterPost$Value;)Z" } : Jvm.MethodName)) ∈ lw_all := lw_g (lw_at lw_m8 55 rfl) rfl
theorem q3005 : (Jvm.Cond.sameMethod "LetterPost$Whole" "LetterPost$Whole" "what" "()I") ∈ lw_all := lw_g (lw_at lw_m12 223 rfl) rfl
theorem q3007 : (Jvm.Cond.selects "LetterPost$Whole" ({ cls := "LetterPost$Whole", name := "what", desc := "()I" } : Jvm.MethodName) ({ cls := "LetterPost$Whole", name := "what", desc := "()I" } : Jvm.MethodName)) ∈ lw_all := lw_g (lw_at lw_m12 225 rfl) rfl
theorem q3042 : (Jvm.Cond.castable "LetterPost$Whole" "LetterPost$Value") ∈ lw_tbl := lw_at lw_m13 20 rfl
theorem in_X31 : ∀ w ∈ wsX310, w ∈ lw_all := lw_in wsX310 [1713, 1715, 1711] (by decide +kernel) (by decide +kernel)

/-! LetterPost$Truth -/
set_option maxRecDepth 100000
def RX32 : String := "LetterPost$Truth"
def TX32 : u_T := fun k => match k with
  | 0 => ("LetterPost$Value", "number", "I", true)
  | 1 => ("LetterPost$Value", "size", "I", true)
  | _ => ("LetterPost$Whole", "v", "I", true)
def tyX32 : Nat → FieldType := fun k => match k with
  | 0 => .int
  | 1 => .int
  | _ => .int
abbrev wsX320 : List Cond := u_ws RX32 TX32 3
theorem nmX32 : ∀ a, a < 3 → ∀ b, b < 3 → a ≠ b → (TX32 a).2.1 ≠ (TX32 b).2.1 := by decide +kernel
theorem tyX32_ok : ∀ k, k < 3 → parseFieldDescriptor (TX32 k).2.2.1 = some (tyX32 k) := by decide +kernel
abbrev cX32_init : ByteArray := prog_28_method_1_code
def yX32_init : MethodName := ⟨RX32, "<init>", "(IZ)V"⟩
def dkwX32_init_0 : List UInt8 := [42, 27, 28, 153, 0, 7, 4, 167, 0, 4, 3, 183, 0, 1, 177]
abbrev dktX32_init_0 : List UInt8 := dkwX32_init_0 ++ []
theorem dksX32_init_0 : cX32_init.data.toList.drop 0 = dktX32_init_0 := by decide +kernel
theorem dX32_init_0 : decode cX32_init 0 = .ok (.aload_n 0, 1) := dk_42 (dk_at dksX32_init_0 0 rfl rfl)
theorem dX32_init_1 : decode cX32_init 1 = .ok (.iload_n 1, 1) := dk_27 (dk_at dksX32_init_0 1 rfl rfl)
theorem dX32_init_2 : decode cX32_init 2 = .ok (.iload_n 2, 1) := dk_28 (dk_at dksX32_init_0 2 rfl rfl)
theorem dX32_init_3 : decode cX32_init 3 = .ok (.ifCond .eq 7, 3) := dk_153 0 7 (dk_at dksX32_init_0 3 rfl rfl)
theorem dX32_init_6 : decode cX32_init 6 = .ok (.iconst 1, 1) := dk_4 (dk_at dksX32_init_0 6 rfl rfl)
theorem dX32_init_7 : decode cX32_init 7 = .ok (.goto 4, 3) := dk_167 0 4 (dk_at dksX32_init_0 7 rfl rfl)
theorem dX32_init_10 : decode cX32_init 10 = .ok (.iconst 0, 1) := dk_3 (dk_at dksX32_init_0 10 rfl rfl)
theorem dX32_init_11 : decode cX32_init 11 = .ok (.invokespecial 1, 3) := dk_183 0 1 (dk_at dksX32_init_0 11 rfl rfl)
theorem dX32_init_14 : decode cX32_init 14 = .ok (.return_, 1) := dk_177 (dk_at dksX32_init_0 14 rfl rfl)
abbrev cX32_what : ByteArray := prog_28_method_2_code
def yX32_what : MethodName := ⟨RX32, "what", "()I"⟩
theorem dX32_what_0 : decode cX32_what 0 = .ok (.iconst 1, 1) := by decide +kernel
theorem dX32_what_1 : decode cX32_what 1 = .ok (.ireturn, 1) := by decide +kernel
theorem q188 : (Jvm.Cond.initialized "LetterPost$Truth") ∈ lw_all := lw_g (lw_at lw_m1 46 rfl) rfl
theorem q1727 : (Jvm.Cond.instantiable "LetterPost$Truth" (3 : Nat)) ∈ lw_all := lw_g (lw_at lw_m7 145 rfl) rfl
theorem q1729 : (Jvm.Cond.instanceMethod ({ cls := "LetterPost$Truth", name := "<init>", desc := "(IZ)V" } : Jvm.MethodName)) ∈ lw_all := lw_g (lw_at lw_m7 147 rfl) rfl
theorem q1730 : (Jvm.Cond.code ({ cls := "LetterPost$Truth", name := "<init>", desc := "(IZ)V" } : Jvm.MethodName) prog_28_method_1_code (3 : Nat) (Option.none : Option Jvm.ClassFile.FieldType)) ∈ lw_all := lw_g (lw_at lw_m7 148 rfl) rfl
theorem q1731 : (Jvm.Cond.methodLink "LetterPost$Truth" (1 : Nat) ({ cls := "LetterPost$Whole", name := "<init>", desc := "(II)V" } : Jvm.MethodName)) ∈ lw_all := lw_g (lw_at lw_m7 149 rfl) rfl
theorem q1732 : (Jvm.Cond.laysFinal "LetterPost$Truth" "LetterPost$Whole" "v" "I") ∈ lw_all := lw_g (lw_at lw_m7 150 rfl) rfl
theorem q1733 : (Jvm.Cond.laysFinal "LetterPost$Truth" "LetterPost$Value" "number" "I") ∈ lw_all := lw_g (lw_at lw_m7 151 rfl) rfl
theorem q1734 : (Jvm.Cond.laysFinal "LetterPost$Truth" "LetterPost$Value" "size" "I") ∈ lw_all := lw_g (lw_at lw_m7 152 rfl) rfl
theorem q1735 : (Jvm.Cond.superclass "LetterPost$Truth" "LetterPost$Whole") ∈ lw_all := lw_g (lw_at lw_m7 153 rfl) rfl
theorem q1793 : (Jvm.Cond.selects "LetterPost$Truth" ({ cls := "LetterPost$Value", name := "what", desc := "()I" } : Jvm.MethodName) ({ cls := "LetterPost$Truth", name := "what", desc := "()I" } : Jvm.MethodName)) ∈ lw_all := lw_g (lw_at lw_m7 211 rfl) rfl
theorem q1794 : (Jvm.Cond.instanceMethod ({ cls := "LetterPost$Truth", name := "what", desc := "()I" } : Jvm.MethodName)) ∈ lw_all := lw_g (lw_at lw_m7 212 rfl) rfl
theorem q1795 : (Jvm.Cond.code ({ cls := "LetterPost$Truth", name := "what", desc := "()I" } : Jvm.MethodName) prog_28_method_2_code (1 : Nat) (Option.some Jvm.ClassFile.FieldType.int)) ∈ lw_all := lw_g (lw_at lw_m7 213 rfl) rfl
theorem q1807 : (Jvm.Cond.selects "LetterPost$Truth" ({ cls := "LetterPost$Value", name := "kind", desc := "()LLetterPost$Kind;" } : Jvm.MethodName) ({ cls := "LetterPost$Value", name := "kind", desc := "()LLetterPost$Kind;" } : Jvm.MethodName)) ∈ lw_all := lw_g (lw_at lw_m7 225 rfl) rfl
theorem q1843 : (Jvm.Cond.selects "LetterPost$Truth" ({ cls := "LetterPost$Value", name := "told", desc := "()I" } : Jvm.MethodName) ({ cls := "LetterPost$Whole", name := "told", desc := "()I" } : Jvm.MethodName)) ∈ lw_all := lw_g (lw_at lw_m8 21 rfl) rfl
theorem q1876 : (Jvm.Cond.selects "LetterPost$Truth" ({ cls := "LetterPost$Value", name := "isLike", desc := "(LLetterPost$Value;)Z" } : Jvm.MethodName) ({ cls := "LetterPost$Whole", name := "isLike", desc := "(LLetterPost$Value;)Z" } : Jvm.MethodName)) ∈ lw_all := lw_g (lw_at lw_m8 54 rfl) rfl
theorem q3006 : (Jvm.Cond.selects "LetterPost$Truth" ({ cls := "LetterPost$Whole", name := "what", desc := "()I" } : Jvm.MethodName) ({ cls := "LetterPost$Truth", name := "what", desc := "()I" } : Jvm.MethodName)) ∈ lw_all := lw_g (lw_at lw_m12 224 rfl) rfl
theorem q3017 : (Jvm.Cond.castable "LetterPost$Truth" "LetterPost$Whole") ∈ lw_tbl := lw_at lw_m12 235 rfl
theorem q3043 : (Jvm.Cond.castable "LetterPost$Truth" "LetterPost$Value") ∈ lw_tbl := lw_at lw_m13 21 rfl
theorem in_X32 : ∀ w ∈ wsX320, w ∈ lw_all := lw_in wsX320 [1733, 1734, 1732] (by decide +kernel) (by decide +kernel)

/-! LetterPost$Text -/
set_option maxRecDepth 100000
def RX33 : String := "LetterPost$Text"
def TX33 : u_T := fun k => match k with
  | 0 => ("LetterPost$Value", "number", "I", true)
  | 1 => ("LetterPost$Value", "size", "I", true)
  | _ => ("LetterPost$Text", "letters", "J", true)
def tyX33 : Nat → FieldType := fun k => match k with
  | 0 => .int
  | 1 => .int
  | _ => .long
abbrev wsX330 : List Cond := u_ws RX33 TX33 3
theorem nmX33 : ∀ a, a < 3 → ∀ b, b < 3 → a ≠ b → (TX33 a).2.1 ≠ (TX33 b).2.1 := by decide +kernel
theorem tyX33_ok : ∀ k, k < 3 → parseFieldDescriptor (TX33 k).2.2.1 = some (tyX33 k) := by decide +kernel
abbrev cX33_init : ByteArray := prog_25_method_1_code
def yX33_init : MethodName := ⟨RX33, "<init>", "(IJ)V"⟩
def dkwX33_init_0 : List UInt8 := [42, 27, 4, 183, 0, 1, 42, 32, 181, 0, 7, 177]
abbrev dktX33_init_0 : List UInt8 := dkwX33_init_0 ++ []
theorem dksX33_init_0 : cX33_init.data.toList.drop 0 = dktX33_init_0 := by decide +kernel
theorem dX33_init_0 : decode cX33_init 0 = .ok (.aload_n 0, 1) := dk_42 (dk_at dksX33_init_0 0 rfl rfl)
theorem dX33_init_1 : decode cX33_init 1 = .ok (.iload_n 1, 1) := dk_27 (dk_at dksX33_init_0 1 rfl rfl)
theorem dX33_init_2 : decode cX33_init 2 = .ok (.iconst 1, 1) := dk_4 (dk_at dksX33_init_0 2 rfl rfl)
theorem dX33_init_3 : decode cX33_init 3 = .ok (.invokespecial 1, 3) := dk_183 0 1 (dk_at dksX33_init_0 3 rfl rfl)
theorem dX33_init_6 : decode cX33_init 6 = .ok (.aload_n 0, 1) := dk_42 (dk_at dksX33_init_0 6 rfl rfl)
theorem dX33_init_7 : decode cX33_init 7 = .ok (.lload_n 2, 1) := dk_32 (dk_at dksX33_init_0 7 rfl rfl)
theorem dX33_init_8 : decode cX33_init 8 = .ok (.putfield 7, 3) := dk_181 0 7 (dk_at dksX33_init_0 8 rfl rfl)
theorem dX33_init_11 : decode cX33_init 11 = .ok (.return_, 1) := dk_177 (dk_at dksX33_init_0 11 rfl rfl)
abbrev cX33_what : ByteArray := prog_25_method_2_code
def yX33_what : MethodName := ⟨RX33, "what", "()I"⟩
theorem dX33_what_0 : decode cX33_what 0 = .ok (.iconst 2, 1) := by decide +kernel
theorem dX33_what_1 : decode cX33_what 1 = .ok (.ireturn, 1) := by decide +kernel
abbrev cX33_told : ByteArray := prog_25_method_4_code
def yX33_told : MethodName := ⟨RX33, "told", "()I"⟩
def dkwX33_told_1 : List UInt8 := [27, 172]
abbrev dktX33_told_1 : List UInt8 := dkwX33_told_1 ++ []
def dkwX33_told_0 : List UInt8 := [3, 60, 42, 180, 0, 7, 65, 32, 9, 148, 153, 0, 14, 132, 1, 1, 32, 16, 8, 125, 65, 167, 255, 242]
abbrev dktX33_told_0 : List UInt8 := dkwX33_told_0 ++ dktX33_told_1
theorem dksX33_told_0 : cX33_told.data.toList.drop 0 = dktX33_told_0 := by decide +kernel
theorem dksX33_told_1 : cX33_told.data.toList.drop 24 = dktX33_told_1 := dk_seg dksX33_told_0 24 rfl rfl
theorem dX33_told_0 : decode cX33_told 0 = .ok (.iconst 0, 1) := dk_3 (dk_at dksX33_told_0 0 rfl rfl)
theorem dX33_told_1 : decode cX33_told 1 = .ok (.istore_n 1, 1) := dk_60 (dk_at dksX33_told_0 1 rfl rfl)
theorem dX33_told_2 : decode cX33_told 2 = .ok (.aload_n 0, 1) := dk_42 (dk_at dksX33_told_0 2 rfl rfl)
theorem dX33_told_3 : decode cX33_told 3 = .ok (.getfield 7, 3) := dk_180 0 7 (dk_at dksX33_told_0 3 rfl rfl)
theorem dX33_told_6 : decode cX33_told 6 = .ok (.lstore_n 2, 1) := dk_65 (dk_at dksX33_told_0 6 rfl rfl)
theorem dX33_told_7 : decode cX33_told 7 = .ok (.lload_n 2, 1) := dk_32 (dk_at dksX33_told_0 7 rfl rfl)
theorem dX33_told_8 : decode cX33_told 8 = .ok (.lconst 0, 1) := dk_9 (dk_at dksX33_told_0 8 rfl rfl)
theorem dX33_told_9 : decode cX33_told 9 = .ok (.lcmp, 1) := dk_148 (dk_at dksX33_told_0 9 rfl rfl)
theorem dX33_told_10 : decode cX33_told 10 = .ok (.ifCond .eq 14, 3) := dk_153 0 14 (dk_at dksX33_told_0 10 rfl rfl)
theorem dX33_told_13 : decode cX33_told 13 = .ok (.iinc 1 1, 3) := dk_132 1 1 (dk_at dksX33_told_0 13 rfl rfl)
theorem dX33_told_16 : decode cX33_told 16 = .ok (.lload_n 2, 1) := dk_32 (dk_at dksX33_told_0 16 rfl rfl)
theorem dX33_told_17 : decode cX33_told 17 = .ok (.bipush 8, 2) := dk_16 8 (dk_at dksX33_told_0 17 rfl rfl)
theorem dX33_told_19 : decode cX33_told 19 = .ok (.lushr, 1) := dk_125 (dk_at dksX33_told_0 19 rfl rfl)
theorem dX33_told_20 : decode cX33_told 20 = .ok (.lstore_n 2, 1) := dk_65 (dk_at dksX33_told_0 20 rfl rfl)
theorem dX33_told_21 : decode cX33_told 21 = .ok (.goto (-14), 3) := dk_167 255 242 (dk_at dksX33_told_0 21 rfl rfl)
theorem dX33_told_24 : decode cX33_told 24 = .ok (.iload_n 1, 1) := dk_27 (dk_at dksX33_told_1 0 rfl rfl)
theorem dX33_told_25 : decode cX33_told 25 = .ok (.ireturn, 1) := dk_172 (dk_at dksX33_told_1 1 rfl rfl)
abbrev cX33_isLike : ByteArray := prog_25_method_3_code
def yX33_isLike : MethodName := ⟨RX33, "isLike", "(LLetterPost$Value;)Z"⟩
def dkwX33_isLike_1 : List UInt8 := [167, 0, 4, 3, 172]
abbrev dktX33_isLike_1 : List UInt8 := dkwX33_isLike_1 ++ []
def dkwX33_isLike_0 : List UInt8 := [43, 193, 0, 8, 153, 0, 22, 42, 180, 0, 7, 43, 192, 0, 8, 180, 0, 7, 148, 154, 0, 7, 4]
abbrev dktX33_isLike_0 : List UInt8 := dkwX33_isLike_0 ++ dktX33_isLike_1
theorem dksX33_isLike_0 : cX33_isLike.data.toList.drop 0 = dktX33_isLike_0 := by decide +kernel
theorem dksX33_isLike_1 : cX33_isLike.data.toList.drop 23 = dktX33_isLike_1 := dk_seg dksX33_isLike_0 23 rfl rfl
theorem dX33_isLike_0 : decode cX33_isLike 0 = .ok (.aload_n 1, 1) := dk_43 (dk_at dksX33_isLike_0 0 rfl rfl)
theorem dX33_isLike_1 : decode cX33_isLike 1 = .ok (.instanceof 8, 3) := dk_193 0 8 (dk_at dksX33_isLike_0 1 rfl rfl)
theorem dX33_isLike_4 : decode cX33_isLike 4 = .ok (.ifCond .eq 22, 3) := dk_153 0 22 (dk_at dksX33_isLike_0 4 rfl rfl)
theorem dX33_isLike_7 : decode cX33_isLike 7 = .ok (.aload_n 0, 1) := dk_42 (dk_at dksX33_isLike_0 7 rfl rfl)
theorem dX33_isLike_8 : decode cX33_isLike 8 = .ok (.getfield 7, 3) := dk_180 0 7 (dk_at dksX33_isLike_0 8 rfl rfl)
theorem dX33_isLike_11 : decode cX33_isLike 11 = .ok (.aload_n 1, 1) := dk_43 (dk_at dksX33_isLike_0 11 rfl rfl)
theorem dX33_isLike_12 : decode cX33_isLike 12 = .ok (.checkcast 8, 3) := dk_192 0 8 (dk_at dksX33_isLike_0 12 rfl rfl)
theorem dX33_isLike_15 : decode cX33_isLike 15 = .ok (.getfield 7, 3) := dk_180 0 7 (dk_at dksX33_isLike_0 15 rfl rfl)
theorem dX33_isLike_18 : decode cX33_isLike 18 = .ok (.lcmp, 1) := dk_148 (dk_at dksX33_isLike_0 18 rfl rfl)
theorem dX33_isLike_19 : decode cX33_isLike 19 = .ok (.ifCond .ne 7, 3) := dk_154 0 7 (dk_at dksX33_isLike_0 19 rfl rfl)
theorem dX33_isLike_22 : decode cX33_isLike 22 = .ok (.iconst 1, 1) := dk_4 (dk_at dksX33_isLike_0 22 rfl rfl)
theorem dX33_isLike_23 : decode cX33_isLike 23 = .ok (.goto 4, 3) := dk_167 0 4 (dk_at dksX33_isLike_1 0 rfl rfl)
theorem dX33_isLike_26 : decode cX33_isLike 26 = .ok (.iconst 0, 1) := dk_3 (dk_at dksX33_isLike_1 3 rfl rfl)
theorem dX33_isLike_27 : decode cX33_isLike 27 = .ok (.ireturn, 1) := dk_172 (dk_at dksX33_isLike_1 4 rfl rfl)
theorem q189 : (Jvm.Cond.initialized "LetterPost$Text") ∈ lw_all := lw_g (lw_at lw_m1 47 rfl) rfl
theorem q1741 : (Jvm.Cond.instantiable "LetterPost$Text" (3 : Nat)) ∈ lw_all := lw_g (lw_at lw_m7 159 rfl) rfl
theorem q1743 : (Jvm.Cond.instanceMethod ({ cls := "LetterPost$Text", name := "<init>", desc := "(IJ)V" } : Jvm.MethodName)) ∈ lw_all := lw_g (lw_at lw_m7 161 rfl) rfl
theorem q1744 : (Jvm.Cond.code ({ cls := "LetterPost$Text", name := "<init>", desc := "(IJ)V" } : Jvm.MethodName) prog_25_method_1_code (4 : Nat) (Option.none : Option Jvm.ClassFile.FieldType)) ∈ lw_all := lw_g (lw_at lw_m7 162 rfl) rfl
theorem q1745 : (Jvm.Cond.methodLink "LetterPost$Text" (1 : Nat) ({ cls := "LetterPost$Value", name := "<init>", desc := "(II)V" } : Jvm.MethodName)) ∈ lw_all := lw_g (lw_at lw_m7 163 rfl) rfl
theorem q1746 : (Jvm.Cond.fieldLink "LetterPost$Text" (7 : Nat) "LetterPost$Text" "letters" "J") ∈ lw_all := lw_g (lw_at lw_m7 164 rfl) rfl
theorem q1749 : (Jvm.Cond.laysFinal "LetterPost$Text" "LetterPost$Text" "letters" "J") ∈ lw_all := lw_g (lw_at lw_m7 167 rfl) rfl
theorem q1750 : (Jvm.Cond.soleField "LetterPost$Text" "letters") ∈ lw_all := lw_g (lw_at lw_m7 168 rfl) rfl
theorem q1751 : (Jvm.Cond.laysFinal "LetterPost$Text" "LetterPost$Value" "number" "I") ∈ lw_all := lw_g (lw_at lw_m7 169 rfl) rfl
theorem q1752 : (Jvm.Cond.laysFinal "LetterPost$Text" "LetterPost$Value" "size" "I") ∈ lw_all := lw_g (lw_at lw_m7 170 rfl) rfl
theorem q1753 : (Jvm.Cond.superclass "LetterPost$Text" "LetterPost$Value") ∈ lw_all := lw_g (lw_at lw_m7 171 rfl) rfl
theorem q1790 : (Jvm.Cond.selects "LetterPost$Text" ({ cls := "LetterPost$Value", name := "what", desc := "()I" } : Jvm.MethodName) ({ cls := "LetterPost$Text", name := "what", desc := "()I" } : Jvm.MethodName)) ∈ lw_all := lw_g (lw_at lw_m7 208 rfl) rfl
theorem q1791 : (Jvm.Cond.instanceMethod ({ cls := "LetterPost$Text", name := "what", desc := "()I" } : Jvm.MethodName)) ∈ lw_all := lw_g (lw_at lw_m7 209 rfl) rfl
theorem q1792 : (Jvm.Cond.code ({ cls := "LetterPost$Text", name := "what", desc := "()I" } : Jvm.MethodName) prog_25_method_2_code (1 : Nat) (Option.some Jvm.ClassFile.FieldType.int)) ∈ lw_all := lw_g (lw_at lw_m7 210 rfl) rfl
theorem q1806 : (Jvm.Cond.selects "LetterPost$Text" ({ cls := "LetterPost$Value", name := "kind", desc := "()LLetterPost$Kind;" } : Jvm.MethodName) ({ cls := "LetterPost$Value", name := "kind", desc := "()LLetterPost$Kind;" } : Jvm.MethodName)) ∈ lw_all := lw_g (lw_at lw_m7 224 rfl) rfl
theorem q1840 : (Jvm.Cond.selects "LetterPost$Text" ({ cls := "LetterPost$Value", name := "told", desc := "()I" } : Jvm.MethodName) ({ cls := "LetterPost$Text", name := "told", desc := "()I" } : Jvm.MethodName)) ∈ lw_all := lw_g (lw_at lw_m8 18 rfl) rfl
theorem q1841 : (Jvm.Cond.instanceMethod ({ cls := "LetterPost$Text", name := "told", desc := "()I" } : Jvm.MethodName)) ∈ lw_all := lw_g (lw_at lw_m8 19 rfl) rfl
theorem q1842 : (Jvm.Cond.code ({ cls := "LetterPost$Text", name := "told", desc := "()I" } : Jvm.MethodName) prog_25_method_4_code (4 : Nat) (Option.some Jvm.ClassFile.FieldType.int)) ∈ lw_all := lw_g (lw_at lw_m8 20 rfl) rfl
theorem q1866 : (Jvm.Cond.instanceMethod ({ cls := "LetterPost$Text", name := "isLike", desc := "(LLetterPost$Value;)Z" } : Jvm.MethodName)) ∈ lw_all := lw_g (lw_at lw_m8 44 rfl) rfl
theorem q1867 : (Jvm.Cond.code ({ cls := "LetterPost$Text", name := "isLike", desc := "(LLetterPost$Value;)Z" } : Jvm.MethodName) prog_25_method_3_code (2 : Nat) (Option.some Jvm.ClassFile.FieldType.boolean)) ∈ lw_all := lw_g (lw_at lw_m8 45 rfl) rfl
theorem q1868 : (Jvm.Cond.classLink "LetterPost$Text" (8 : Nat) "LetterPost$Text") ∈ lw_all := lw_g (lw_at lw_m8 46 rfl) rfl
theorem q1875 : (Jvm.Cond.selects "LetterPost$Text" ({ cls := "LetterPost$Value", name := "isLike", desc := "(LLetterPost$Value;)Z" } : Jvm.MethodName) ({ cls := "LetterPost$Text", name := "isLike", desc := "(LLetterPost$Value;)Z" } : Jvm.MethodName)) ∈ lw_all := lw_g (lw_at lw_m8 53 rfl) rfl
theorem q3044 : (Jvm.Cond.castable "LetterPost$Text" "LetterPost$Value") ∈ lw_tbl := lw_at lw_m13 22 rfl
theorem in_X33 : ∀ w ∈ wsX330, w ∈ lw_all := lw_in wsX330 [1751, 1752, 1749] (by decide +kernel) (by decide +kernel)

/-! LetterPost$Nothing -/
set_option maxRecDepth 100000
def RX34 : String := "LetterPost$Nothing"
def TX34 : u_T := fun k => match k with
  | 0 => ("LetterPost$Value", "number", "I", true)
  | _ => ("LetterPost$Value", "size", "I", true)
def tyX34 : Nat → FieldType := fun k => match k with
  | 0 => .int
  | _ => .int
abbrev wsX340 : List Cond := u_ws RX34 TX34 2
theorem nmX34 : ∀ a, a < 2 → ∀ b, b < 2 → a ≠ b → (TX34 a).2.1 ≠ (TX34 b).2.1 := by decide +kernel
theorem tyX34_ok : ∀ k, k < 2 → parseFieldDescriptor (TX34 k).2.2.1 = some (tyX34 k) := by decide +kernel
abbrev cX34_init : ByteArray := prog_16_method_1_code
def yX34_init : MethodName := ⟨RX34, "<init>", "(II)V"⟩
def dkwX34_init_0 : List UInt8 := [42, 27, 28, 183, 0, 1, 177]
abbrev dktX34_init_0 : List UInt8 := dkwX34_init_0 ++ []
theorem dksX34_init_0 : cX34_init.data.toList.drop 0 = dktX34_init_0 := by decide +kernel
theorem dX34_init_0 : decode cX34_init 0 = .ok (.aload_n 0, 1) := dk_42 (dk_at dksX34_init_0 0 rfl rfl)
theorem dX34_init_1 : decode cX34_init 1 = .ok (.iload_n 1, 1) := dk_27 (dk_at dksX34_init_0 1 rfl rfl)
theorem dX34_init_2 : decode cX34_init 2 = .ok (.iload_n 2, 1) := dk_28 (dk_at dksX34_init_0 2 rfl rfl)
theorem dX34_init_3 : decode cX34_init 3 = .ok (.invokespecial 1, 3) := dk_183 0 1 (dk_at dksX34_init_0 3 rfl rfl)
theorem dX34_init_6 : decode cX34_init 6 = .ok (.return_, 1) := dk_177 (dk_at dksX34_init_0 6 rfl rfl)
abbrev cX34_what : ByteArray := prog_16_method_2_code
def yX34_what : MethodName := ⟨RX34, "what", "()I"⟩
theorem dX34_what_0 : decode cX34_what 0 = .ok (.iconst 3, 1) := by decide +kernel
theorem dX34_what_1 : decode cX34_what 1 = .ok (.ireturn, 1) := by decide +kernel
abbrev cX34_isLike : ByteArray := prog_16_method_3_code
def yX34_isLike : MethodName := ⟨RX34, "isLike", "(LLetterPost$Value;)Z"⟩
def dkwX34_isLike_0 : List UInt8 := [42, 182, 0, 7, 43, 182, 0, 13, 160, 0, 7, 4, 167, 0, 4, 3, 172]
abbrev dktX34_isLike_0 : List UInt8 := dkwX34_isLike_0 ++ []
theorem dksX34_isLike_0 : cX34_isLike.data.toList.drop 0 = dktX34_isLike_0 := by decide +kernel
theorem dX34_isLike_0 : decode cX34_isLike 0 = .ok (.aload_n 0, 1) := dk_42 (dk_at dksX34_isLike_0 0 rfl rfl)
theorem dX34_isLike_1 : decode cX34_isLike 1 = .ok (.invokevirtual 7, 3) := dk_182 0 7 (dk_at dksX34_isLike_0 1 rfl rfl)
theorem dX34_isLike_4 : decode cX34_isLike 4 = .ok (.aload_n 1, 1) := dk_43 (dk_at dksX34_isLike_0 4 rfl rfl)
theorem dX34_isLike_5 : decode cX34_isLike 5 = .ok (.invokevirtual 13, 3) := dk_182 0 13 (dk_at dksX34_isLike_0 5 rfl rfl)
theorem dX34_isLike_8 : decode cX34_isLike 8 = .ok (.if_icmp .ne 7, 3) := dk_160 0 7 (dk_at dksX34_isLike_0 8 rfl rfl)
theorem dX34_isLike_11 : decode cX34_isLike 11 = .ok (.iconst 1, 1) := dk_4 (dk_at dksX34_isLike_0 11 rfl rfl)
theorem dX34_isLike_12 : decode cX34_isLike 12 = .ok (.goto 4, 3) := dk_167 0 4 (dk_at dksX34_isLike_0 12 rfl rfl)
theorem dX34_isLike_15 : decode cX34_isLike 15 = .ok (.iconst 0, 1) := dk_3 (dk_at dksX34_isLike_0 15 rfl rfl)
theorem dX34_isLike_16 : decode cX34_isLike 16 = .ok (.ireturn, 1) := dk_172 (dk_at dksX34_isLike_0 16 rfl rfl)
theorem q190 : (Jvm.Cond.initialized "LetterPost$Nothing") ∈ lw_all := lw_g (lw_at lw_m1 48 rfl) rfl
theorem q1759 : (Jvm.Cond.instantiable "LetterPost$Nothing" (2 : Nat)) ∈ lw_all := lw_g (lw_at lw_m7 177 rfl) rfl
theorem q1761 : (Jvm.Cond.instanceMethod ({ cls := "LetterPost$Nothing", name := "<init>", desc := "(II)V" } : Jvm.MethodName)) ∈ lw_all := lw_g (lw_at lw_m7 179 rfl) rfl
theorem q1762 : (Jvm.Cond.code ({ cls := "LetterPost$Nothing", name := "<init>", desc := "(II)V" } : Jvm.MethodName) prog_16_method_1_code (3 : Nat) (Option.none : Option Jvm.ClassFile.FieldType)) ∈ lw_all := lw_g (lw_at lw_m7 180 rfl) rfl
theorem q1763 : (Jvm.Cond.methodLink "LetterPost$Nothing" (1 : Nat) ({ cls := "LetterPost$Value", name := "<init>", desc := "(II)V" } : Jvm.MethodName)) ∈ lw_all := lw_g (lw_at lw_m7 181 rfl) rfl
theorem q1764 : (Jvm.Cond.laysFinal "LetterPost$Nothing" "LetterPost$Value" "number" "I") ∈ lw_all := lw_g (lw_at lw_m7 182 rfl) rfl
theorem q1765 : (Jvm.Cond.laysFinal "LetterPost$Nothing" "LetterPost$Value" "size" "I") ∈ lw_all := lw_g (lw_at lw_m7 183 rfl) rfl
theorem q1766 : (Jvm.Cond.superclass "LetterPost$Nothing" "LetterPost$Value") ∈ lw_all := lw_g (lw_at lw_m7 184 rfl) rfl
theorem q1787 : (Jvm.Cond.selects "LetterPost$Nothing" ({ cls := "LetterPost$Value", name := "what", desc := "()I" } : Jvm.MethodName) ({ cls := "LetterPost$Nothing", name := "what", desc := "()I" } : Jvm.MethodName)) ∈ lw_all := lw_g (lw_at lw_m7 205 rfl) rfl
theorem q1788 : (Jvm.Cond.instanceMethod ({ cls := "LetterPost$Nothing", name := "what", desc := "()I" } : Jvm.MethodName)) ∈ lw_all := lw_g (lw_at lw_m7 206 rfl) rfl
theorem q1789 : (Jvm.Cond.code ({ cls := "LetterPost$Nothing", name := "what", desc := "()I" } : Jvm.MethodName) prog_16_method_2_code (1 : Nat) (Option.some Jvm.ClassFile.FieldType.int)) ∈ lw_all := lw_g (lw_at lw_m7 207 rfl) rfl
theorem q1805 : (Jvm.Cond.selects "LetterPost$Nothing" ({ cls := "LetterPost$Value", name := "kind", desc := "()LLetterPost$Kind;" } : Jvm.MethodName) ({ cls := "LetterPost$Value", name := "kind", desc := "()LLetterPost$Kind;" } : Jvm.MethodName)) ∈ lw_all := lw_g (lw_at lw_m7 223 rfl) rfl
theorem q1839 : (Jvm.Cond.selects "LetterPost$Nothing" ({ cls := "LetterPost$Value", name := "told", desc := "()I" } : Jvm.MethodName) ({ cls := "LetterPost$Value", name := "told", desc := "()I" } : Jvm.MethodName)) ∈ lw_all := lw_g (lw_at lw_m8 17 rfl) rfl
theorem q1859 : (Jvm.Cond.instanceMethod ({ cls := "LetterPost$Nothing", name := "isLike", desc := "(LLetterPost$Value;)Z" } : Jvm.MethodName)) ∈ lw_all := lw_g (lw_at lw_m8 37 rfl) rfl
theorem q1860 : (Jvm.Cond.code ({ cls := "LetterPost$Nothing", name := "isLike", desc := "(LLetterPost$Value;)Z" } : Jvm.MethodName) prog_16_method_3_code (2 : Nat) (Option.some Jvm.ClassFile.FieldType.boolean)) ∈ lw_all := lw_g (lw_at lw_m8 38 rfl) rfl
theorem q1861 : (Jvm.Cond.methodLink "LetterPost$Nothing" (7 : Nat) ({ cls := "LetterPost$Nothing", name := "what", desc := "()I" } : Jvm.MethodName)) ∈ lw_all := lw_g (lw_at lw_m8 39 rfl) rfl
theorem q1862 : (Jvm.Cond.methodLink "LetterPost$Nothing" (13 : Nat) ({ cls := "LetterPost$Value", name := "what", desc := "()I" } : Jvm.MethodName)) ∈ lw_all := lw_g (lw_at lw_m8 40 rfl) rfl
theorem q1874 : (Jvm.Cond.selects "LetterPost$Nothing" ({ cls := "LetterPost$Value", name := "isLike", desc := "(LLetterPost$Value;)Z" } : Jvm.MethodName) ({ cls := "LetterPost$Nothing", name := "isLike", desc := "(LLetterPost$Value;)Z" } : Jvm.MethodName)) ∈ lw_all := lw_g (lw_at lw_m8 52 rfl) rfl
theorem q3001 : (Jvm.Cond.sameMethod "LetterPost$Nothing" "LetterPost$Nothing" "isLike" "(LLetterPost$Value;)Z") ∈ lw_all := lw_g (lw_at lw_m12 219 rfl) rfl
theorem q3002 : (Jvm.Cond.sameMethod "LetterPost$Nothing" "LetterPost$Nothing" "what" "()I") ∈ lw_all := lw_g (lw_at lw_m12 220 rfl) rfl
theorem q3004 : (Jvm.Cond.selects "LetterPost$Nothing" ({ cls := "LetterPost$Nothing", name := "what", desc := "()I" } : Jvm.MethodName) ({ cls := "LetterPost$Nothing", name := "what", desc := "()I" } : Jvm.MethodName)) ∈ lw_all := lw_g (lw_at lw_m12 222 rfl) rfl
theorem q3045 : (Jvm.Cond.castable "LetterPost$Nothing" "LetterPost$Value") ∈ lw_tbl := lw_at lw_m13 23 rfl
theorem in_X34 : ∀ w ∈ wsX340, w ∈ lw_all := lw_in wsX340 [1764, 1765] (by decide +kernel) (by decide +kernel)

/-! LetterPost$Letter -/
set_option maxRecDepth 100000
def RX35 : String := "LetterPost$Letter"
def TX35 : u_T := fun k => match k with
  | 0 => ("LetterPost$Value", "number", "I", true)
  | 1 => ("LetterPost$Value", "size", "I", true)
  | 2 => ("LetterPost$Letter", "kind", "LLetterPost$Kind;", true)
  | _ => ("LetterPost$Letter", "parts", "[LLetterPost$Value;", true)
def tyX35 : Nat → FieldType := fun k => match k with
  | 0 => .int
  | 1 => .int
  | 2 => .object "LetterPost$Kind"
  | _ => .array (.object "LetterPost$Value")
abbrev wsX350 : List Cond := u_ws RX35 TX35 4
theorem nmX35 : ∀ a, a < 4 → ∀ b, b < 4 → a ≠ b → (TX35 a).2.1 ≠ (TX35 b).2.1 := by decide +kernel
theorem tyX35_ok : ∀ k, k < 4 → parseFieldDescriptor (TX35 k).2.2.1 = some (tyX35 k) := by decide +kernel
abbrev cX35_what : ByteArray := prog_12_method_2_code
def yX35_what : MethodName := ⟨RX35, "what", "()I"⟩
theorem dX35_what_0 : decode cX35_what 0 = .ok (.iconst 4, 1) := by decide +kernel
theorem dX35_what_1 : decode cX35_what 1 = .ok (.ireturn, 1) := by decide +kernel
abbrev cX35_kind : ByteArray := prog_12_method_3_code
def yX35_kind : MethodName := ⟨RX35, "kind", "()LLetterPost$Kind;"⟩
theorem dX35_kind_0 : decode cX35_kind 0 = .ok (.aload_n 0, 1) := by decide +kernel
theorem dX35_kind_1 : decode cX35_kind 1 = .ok (.getfield 7, 3) := by decide +kernel
theorem dX35_kind_4 : decode cX35_kind 4 = .ok (.areturn, 1) := by decide +kernel
abbrev cX35_init : ByteArray := prog_12_method_1_code
def yX35_init : MethodName := ⟨RX35, "<init>", "(IILLetterPost$Kind;[LLetterPost$Value;)V"⟩
def dkwX35_init_0 : List UInt8 := [42, 27, 28, 183, 0, 1, 42, 45, 181, 0, 7, 42, 25, 4, 181, 0, 13, 177]
abbrev dktX35_init_0 : List UInt8 := dkwX35_init_0 ++ []
theorem dksX35_init_0 : cX35_init.data.toList.drop 0 = dktX35_init_0 := by decide +kernel
theorem dX35_init_0 : decode cX35_init 0 = .ok (.aload_n 0, 1) := dk_42 (dk_at dksX35_init_0 0 rfl rfl)
theorem dX35_init_1 : decode cX35_init 1 = .ok (.iload_n 1, 1) := dk_27 (dk_at dksX35_init_0 1 rfl rfl)
theorem dX35_init_2 : decode cX35_init 2 = .ok (.iload_n 2, 1) := dk_28 (dk_at dksX35_init_0 2 rfl rfl)
theorem dX35_init_3 : decode cX35_init 3 = .ok (.invokespecial 1, 3) := dk_183 0 1 (dk_at dksX35_init_0 3 rfl rfl)
theorem dX35_init_6 : decode cX35_init 6 = .ok (.aload_n 0, 1) := dk_42 (dk_at dksX35_init_0 6 rfl rfl)
theorem dX35_init_7 : decode cX35_init 7 = .ok (.aload_n 3, 1) := dk_45 (dk_at dksX35_init_0 7 rfl rfl)
theorem dX35_init_8 : decode cX35_init 8 = .ok (.putfield 7, 3) := dk_181 0 7 (dk_at dksX35_init_0 8 rfl rfl)
theorem dX35_init_11 : decode cX35_init 11 = .ok (.aload_n 0, 1) := dk_42 (dk_at dksX35_init_0 11 rfl rfl)
theorem dX35_init_12 : decode cX35_init 12 = .ok (.aload 4, 2) := dk_25 4 (dk_at dksX35_init_0 12 rfl rfl)
theorem dX35_init_14 : decode cX35_init 14 = .ok (.putfield 13, 3) := dk_181 0 13 (dk_at dksX35_init_0 14 rfl rfl)
theorem dX35_init_17 : decode cX35_init 17 = .ok (.return_, 1) := dk_177 (dk_at dksX35_init_0 17 rfl rfl)
abbrev cX35_told : ByteArray := prog_12_method_4_code
def yX35_told : MethodName := ⟨RX35, "told", "()I"⟩
def dkwX35_told_0 : List UInt8 := [42, 180, 0, 7, 180, 0, 17, 172]
abbrev dktX35_told_0 : List UInt8 := dkwX35_told_0 ++ []
theorem dksX35_told_0 : cX35_told.data.toList.drop 0 = dktX35_told_0 := by decide +kernel
theorem dX35_told_0 : decode cX35_told 0 = .ok (.aload_n 0, 1) := dk_42 (dk_at dksX35_told_0 0 rfl rfl)
theorem dX35_told_1 : decode cX35_told 1 = .ok (.getfield 7, 3) := dk_180 0 7 (dk_at dksX35_told_0 1 rfl rfl)
theorem dX35_told_4 : decode cX35_told 4 = .ok (.getfield 17, 3) := dk_180 0 17 (dk_at dksX35_told_0 4 rfl rfl)
theorem dX35_told_7 : decode cX35_told 7 = .ok (.ireturn, 1) := dk_172 (dk_at dksX35_told_0 7 rfl rfl)
abbrev cX35_isLike : ByteArray := prog_12_method_5_code
def yX35_isLike : MethodName := ⟨RX35, "isLike", "(LLetterPost$Value;)Z"⟩
def dkwX35_isLike_2 : List UInt8 := [192, 0, 8, 180, 0, 13, 29, 50, 182, 0, 32, 61, 132, 3, 1, 167, 255, 221, 28, 172]
abbrev dktX35_isLike_2 : List UInt8 := dkwX35_isLike_2 ++ []
def dkwX35_isLike_1 : List UInt8 := [61, 3, 62, 28, 153, 0, 37, 29, 42, 180, 0, 13, 190, 162, 0, 28, 42, 180, 0, 13, 29, 50, 43]
abbrev dktX35_isLike_1 : List UInt8 := dkwX35_isLike_1 ++ dktX35_isLike_2
def dkwX35_isLike_0 : List UInt8 := [42, 43, 183, 0, 23, 153, 0, 18, 42, 180, 0, 7, 43, 182, 0, 27, 166, 0, 7, 4, 167, 0, 4, 3]
abbrev dktX35_isLike_0 : List UInt8 := dkwX35_isLike_0 ++ dktX35_isLike_1
theorem dksX35_isLike_0 : cX35_isLike.data.toList.drop 0 = dktX35_isLike_0 := by decide +kernel
theorem dksX35_isLike_1 : cX35_isLike.data.toList.drop 24 = dktX35_isLike_1 := dk_seg dksX35_isLike_0 24 rfl rfl
theorem dksX35_isLike_2 : cX35_isLike.data.toList.drop 47 = dktX35_isLike_2 := dk_seg dksX35_isLike_1 23 rfl rfl
theorem dX35_isLike_0 : decode cX35_isLike 0 = .ok (.aload_n 0, 1) := dk_42 (dk_at dksX35_isLike_0 0 rfl rfl)
theorem dX35_isLike_1 : decode cX35_isLike 1 = .ok (.aload_n 1, 1) := dk_43 (dk_at dksX35_isLike_0 1 rfl rfl)
theorem dX35_isLike_2 : decode cX35_isLike 2 = .ok (.invokespecial 23, 3) := dk_183 0 23 (dk_at dksX35_isLike_0 2 rfl rfl)
theorem dX35_isLike_5 : decode cX35_isLike 5 = .ok (.ifCond .eq 18, 3) := dk_153 0 18 (dk_at dksX35_isLike_0 5 rfl rfl)
theorem dX35_isLike_8 : decode cX35_isLike 8 = .ok (.aload_n 0, 1) := dk_42 (dk_at dksX35_isLike_0 8 rfl rfl)
theorem dX35_isLike_9 : decode cX35_isLike 9 = .ok (.getfield 7, 3) := dk_180 0 7 (dk_at dksX35_isLike_0 9 rfl rfl)
theorem dX35_isLike_12 : decode cX35_isLike 12 = .ok (.aload_n 1, 1) := dk_43 (dk_at dksX35_isLike_0 12 rfl rfl)
theorem dX35_isLike_13 : decode cX35_isLike 13 = .ok (.invokevirtual 27, 3) := dk_182 0 27 (dk_at dksX35_isLike_0 13 rfl rfl)
theorem dX35_isLike_16 : decode cX35_isLike 16 = .ok (.if_acmp .ne 7, 3) := dk_166 0 7 (dk_at dksX35_isLike_0 16 rfl rfl)
theorem dX35_isLike_19 : decode cX35_isLike 19 = .ok (.iconst 1, 1) := dk_4 (dk_at dksX35_isLike_0 19 rfl rfl)
theorem dX35_isLike_20 : decode cX35_isLike 20 = .ok (.goto 4, 3) := dk_167 0 4 (dk_at dksX35_isLike_0 20 rfl rfl)
theorem dX35_isLike_23 : decode cX35_isLike 23 = .ok (.iconst 0, 1) := dk_3 (dk_at dksX35_isLike_0 23 rfl rfl)
theorem dX35_isLike_24 : decode cX35_isLike 24 = .ok (.istore_n 2, 1) := dk_61 (dk_at dksX35_isLike_1 0 rfl rfl)
theorem dX35_isLike_25 : decode cX35_isLike 25 = .ok (.iconst 0, 1) := dk_3 (dk_at dksX35_isLike_1 1 rfl rfl)
theorem dX35_isLike_26 : decode cX35_isLike 26 = .ok (.istore_n 3, 1) := dk_62 (dk_at dksX35_isLike_1 2 rfl rfl)
theorem dX35_isLike_27 : decode cX35_isLike 27 = .ok (.iload_n 2, 1) := dk_28 (dk_at dksX35_isLike_1 3 rfl rfl)
theorem dX35_isLike_28 : decode cX35_isLike 28 = .ok (.ifCond .eq 37, 3) := dk_153 0 37 (dk_at dksX35_isLike_1 4 rfl rfl)
theorem dX35_isLike_31 : decode cX35_isLike 31 = .ok (.iload_n 3, 1) := dk_29 (dk_at dksX35_isLike_1 7 rfl rfl)
theorem dX35_isLike_32 : decode cX35_isLike 32 = .ok (.aload_n 0, 1) := dk_42 (dk_at dksX35_isLike_1 8 rfl rfl)
theorem dX35_isLike_33 : decode cX35_isLike 33 = .ok (.getfield 13, 3) := dk_180 0 13 (dk_at dksX35_isLike_1 9 rfl rfl)
theorem dX35_isLike_36 : decode cX35_isLike 36 = .ok (.arraylength, 1) := dk_190 (dk_at dksX35_isLike_1 12 rfl rfl)
theorem dX35_isLike_37 : decode cX35_isLike 37 = .ok (.if_icmp .ge 28, 3) := dk_162 0 28 (dk_at dksX35_isLike_1 13 rfl rfl)
theorem dX35_isLike_40 : decode cX35_isLike 40 = .ok (.aload_n 0, 1) := dk_42 (dk_at dksX35_isLike_1 16 rfl rfl)
theorem dX35_isLike_41 : decode cX35_isLike 41 = .ok (.getfield 13, 3) := dk_180 0 13 (dk_at dksX35_isLike_1 17 rfl rfl)
theorem dX35_isLike_44 : decode cX35_isLike 44 = .ok (.iload_n 3, 1) := dk_29 (dk_at dksX35_isLike_1 20 rfl rfl)
theorem dX35_isLike_45 : decode cX35_isLike 45 = .ok (.aaload, 1) := dk_50 (dk_at dksX35_isLike_1 21 rfl rfl)
theorem dX35_isLike_46 : decode cX35_isLike 46 = .ok (.aload_n 1, 1) := dk_43 (dk_at dksX35_isLike_1 22 rfl rfl)
theorem dX35_isLike_47 : decode cX35_isLike 47 = .ok (.checkcast 8, 3) := dk_192 0 8 (dk_at dksX35_isLike_2 0 rfl rfl)
theorem dX35_isLike_50 : decode cX35_isLike 50 = .ok (.getfield 13, 3) := dk_180 0 13 (dk_at dksX35_isLike_2 3 rfl rfl)
theorem dX35_isLike_53 : decode cX35_isLike 53 = .ok (.iload_n 3, 1) := dk_29 (dk_at dksX35_isLike_2 6 rfl rfl)
theorem dX35_isLike_54 : decode cX35_isLike 54 = .ok (.aaload, 1) := dk_50 (dk_at dksX35_isLike_2 7 rfl rfl)
theorem dX35_isLike_55 : decode cX35_isLike 55 = .ok (.invokevirtual 32, 3) := dk_182 0 32 (dk_at dksX35_isLike_2 8 rfl rfl)
theorem dX35_isLike_58 : decode cX35_isLike 58 = .ok (.istore_n 2, 1) := dk_61 (dk_at dksX35_isLike_2 11 rfl rfl)
theorem dX35_isLike_59 : decode cX35_isLike 59 = .ok (.iinc 3 1, 3) := dk_132 3 1 (dk_at dksX35_isLike_2 12 rfl rfl)
theorem dX35_isLike_62 : decode cX35_isLike 62 = .ok (.goto (-35), 3) := dk_167 255 221 (dk_at dksX35_isLike_2 15 rfl rfl)
theorem dX35_isLike_65 : decode cX35_isLike 65 = .ok (.iload_n 2, 1) := dk_28 (dk_at dksX35_isLike_2 18 rfl rfl)
theorem dX35_isLike_66 : decode cX35_isLike 66 = .ok (.ireturn, 1) := dk_172 (dk_at dksX35_isLike_2 19 rfl rfl)
theorem q191 : (Jvm.Cond.initialized "LetterPost$Letter") ∈ lw_all := lw_g (lw_at lw_m1 49 rfl) rfl
theorem q683 : (Jvm.Cond.fieldLink "LetterPost$Letter" (17 : Nat) "LetterPost$Kind" "number" "I") ∈ lw_all := lw_g (lw_at lw_m3 61 rfl) rfl
theorem q1784 : (Jvm.Cond.selects "LetterPost$Letter" ({ cls := "LetterPost$Value", name := "what", desc := "()I" } : Jvm.MethodName) ({ cls := "LetterPost$Letter", name := "what", desc := "()I" } : Jvm.MethodName)) ∈ lw_all := lw_g (lw_at lw_m7 202 rfl) rfl
theorem q1785 : (Jvm.Cond.instanceMethod ({ cls := "LetterPost$Letter", name := "what", desc := "()I" } : Jvm.MethodName)) ∈ lw_all := lw_g (lw_at lw_m7 203 rfl) rfl
theorem q1786 : (Jvm.Cond.code ({ cls := "LetterPost$Letter", name := "what", desc := "()I" } : Jvm.MethodName) prog_12_method_2_code (1 : Nat) (Option.some Jvm.ClassFile.FieldType.int)) ∈ lw_all := lw_g (lw_at lw_m7 204 rfl) rfl
theorem q1802 : (Jvm.Cond.selects "LetterPost$Letter" ({ cls := "LetterPost$Value", name := "kind", desc := "()LLetterPost$Kind;" } : Jvm.MethodName) ({ cls := "LetterPost$Letter", name := "kind", desc := "()LLetterPost$Kind;" } : Jvm.MethodName)) ∈ lw_all := lw_g (lw_at lw_m7 220 rfl) rfl
theorem q1803 : (Jvm.Cond.instanceMethod ({ cls := "LetterPost$Letter", name := "kind", desc := "()LLetterPost$Kind;" } : Jvm.MethodName)) ∈ lw_all := lw_g (lw_at lw_m7 221 rfl) rfl
theorem q1804 : (Jvm.Cond.code ({ cls := "LetterPost$Letter", name := "kind", desc := "()LLetterPost$Kind;" } : Jvm.MethodName) prog_12_method_3_code (1 : Nat) (Option.some (Jvm.ClassFile.FieldType.object "LetterPost$Kind"))) ∈ lw_all := lw_g (lw_at lw_m7 222 rfl) rfl
theorem q1811 : (Jvm.Cond.instantiable "LetterPost$Letter" (4 : Nat)) ∈ lw_all := lw_g (lw_at lw_m7 229 rfl) rfl
theorem q1813 : (Jvm.Cond.instanceMethod ({ cls := "LetterPost$Letter", name := "<init>", desc := "(IILLetterPost$Kind;[LLetterPost$Value;)V" } : Jvm.MethodName)) ∈ lw_all := lw_g (lw_at lw_m7 231 rfl) rfl
theorem q1814 : (Jvm.Cond.code ({ cls := "LetterPost$Letter", name := "<init>", desc := "(IILLetterPost$Kind;[LLetterPost$Value;)V" } : Jvm.MethodName) prog_12_method_1_code (5 : Nat) (Option.none : Option Jvm.ClassFile.FieldType)) ∈ lw_all := lw_g (lw_at lw_m7 232 rfl) rfl
theorem q1815 : (Jvm.Cond.methodLink "LetterPost$Letter" (1 : Nat) ({ cls := "LetterPost$Nothing", name := "<init>", desc := "(II)V" } : Jvm.MethodName)) ∈ lw_all := lw_g (lw_at lw_m7 233 rfl) rfl
theorem q1816 : (Jvm.Cond.fieldLink "LetterPost$Letter" (7 : Nat) "LetterPost$Letter" "kind" "LLetterPost$Kind;") ∈ lw_all := lw_g (lw_at lw_m7 234 rfl) rfl
theorem q1817 : (Jvm.Cond.fieldLink "LetterPost$Letter" (13 : Nat) "LetterPost$Letter" "parts" "[LLetterPost$Value;") ∈ lw_all := lw_g (lw_at lw_m7 235 rfl) rfl
theorem q1821 : (Jvm.Cond.laysFinal "LetterPost$Letter" "LetterPost$Letter" "kind" "LLetterPost$Kind;") ∈ lw_all := lw_g (lw_at lw_m7 239 rfl) rfl
theorem q1822 : (Jvm.Cond.soleField "LetterPost$Letter" "kind") ∈ lw_all := lw_g (lw_at lw_m8 0 rfl) rfl
theorem q1823 : (Jvm.Cond.laysFinal "LetterPost$Letter" "LetterPost$Letter" "parts" "[LLetterPost$Value;") ∈ lw_all := lw_g (lw_at lw_m8 1 rfl) rfl
theorem q1824 : (Jvm.Cond.soleField "LetterPost$Letter" "parts") ∈ lw_all := lw_g (lw_at lw_m8 2 rfl) rfl
theorem q1825 : (Jvm.Cond.laysFinal "LetterPost$Letter" "LetterPost$Value" "number" "I") ∈ lw_all := lw_g (lw_at lw_m8 3 rfl) rfl
theorem q1826 : (Jvm.Cond.laysFinal "LetterPost$Letter" "LetterPost$Value" "size" "I") ∈ lw_all := lw_g (lw_at lw_m8 4 rfl) rfl
theorem q1827 : (Jvm.Cond.superclass "LetterPost$Letter" "LetterPost$Nothing") ∈ lw_all := lw_g (lw_at lw_m8 5 rfl) rfl
theorem q1836 : (Jvm.Cond.selects "LetterPost$Letter" ({ cls := "LetterPost$Value", name := "told", desc := "()I" } : Jvm.MethodName) ({ cls := "LetterPost$Letter", name := "told", desc := "()I" } : Jvm.MethodName)) ∈ lw_all := lw_g (lw_at lw_m8 14 rfl) rfl
theorem q1837 : (Jvm.Cond.instanceMethod ({ cls := "LetterPost$Letter", name := "told", desc := "()I" } : Jvm.MethodName)) ∈ lw_all := lw_g (lw_at lw_m8 15 rfl) rfl
theorem q1838 : (Jvm.Cond.code ({ cls := "LetterPost$Letter", name := "told", desc := "()I" } : Jvm.MethodName) prog_12_method_4_code (1 : Nat) (Option.some Jvm.ClassFile.FieldType.int)) ∈ lw_all := lw_g (lw_at lw_m8 16 rfl) rfl
theorem q1855 : (Jvm.Cond.selects "LetterPost$Letter" ({ cls := "LetterPost$Value", name := "isLike", desc := "(LLetterPost$Value;)Z" } : Jvm.MethodName) ({ cls := "LetterPost$Letter", name := "isLike", desc := "(LLetterPost$Value;)Z" } : Jvm.MethodName)) ∈ lw_all := lw_g (lw_at lw_m8 33 rfl) rfl
theorem q1856 : (Jvm.Cond.instanceMethod ({ cls := "LetterPost$Letter", name := "isLike", desc := "(LLetterPost$Value;)Z" } : Jvm.MethodName)) ∈ lw_all := lw_g (lw_at lw_m8 34 rfl) rfl
theorem q1857 : (Jvm.Cond.code ({ cls := "LetterPost$Letter", name := "isLike", desc := "(LLetterPost$Value;)Z" } : Jvm.MethodName) prog_12_method_5_code (4 : Nat) (Option.some Jvm.ClassFile.FieldType.boolean)) ∈ lw_all := lw_g (lw_at lw_m8 35 rfl) rfl
theorem q1858 : (Jvm.Cond.methodLink "LetterPost$Letter" (23 : Nat) ({ cls := "LetterPost$Nothing", name := "isLike", desc := "(LLetterPost$Value;)Z" } : Jvm.MethodName)) ∈ lw_all := lw_g (lw_at lw_m8 36 rfl) rfl
theorem q1863 : (Jvm.Cond.methodLink "LetterPost$Letter" (27 : Nat) ({ cls := "LetterPost$Value", name := "kind", desc := "()LLetterPost$Kind;" } : Jvm.MethodName)) ∈ lw_all := lw_g (lw_at lw_m8 41 rfl) rfl
theorem q1864 : (Jvm.Cond.classLink "LetterPost$Letter" (8 : Nat) "LetterPost$Letter") ∈ lw_all := lw_g (lw_at lw_m8 42 rfl) rfl
theorem q1865 : (Jvm.Cond.methodLink "LetterPost$Letter" (32 : Nat) ({ cls := "LetterPost$Value", name := "isLike", desc := "(LLetterPost$Value;)Z" } : Jvm.MethodName)) ∈ lw_all := lw_g (lw_at lw_m8 43 rfl) rfl
theorem q3003 : (Jvm.Cond.selects "LetterPost$Letter" ({ cls := "LetterPost$Nothing", name := "what", desc := "()I" } : Jvm.MethodName) ({ cls := "LetterPost$Letter", name := "what", desc := "()I" } : Jvm.MethodName)) ∈ lw_all := lw_g (lw_at lw_m12 221 rfl) rfl
theorem q3016 : (Jvm.Cond.castable "LetterPost$Letter" "LetterPost$Nothing") ∈ lw_tbl := lw_at lw_m12 234 rfl
theorem q3046 : (Jvm.Cond.castable "LetterPost$Letter" "LetterPost$Value") ∈ lw_tbl := lw_at lw_m13 24 rfl
theorem in_X35 : ∀ w ∈ wsX350, w ∈ lw_all := lw_in wsX350 [1825, 1826, 1821, 1823] (by decide +kernel) (by decide +kernel)
