/-! LetterPost -/
set_option maxRecDepth 100000
def RX0 : String := "LetterPost"
def TX0 : u_T := fun k => match k with
  | 0 => ("LetterPost", "kinds", "[LLetterPost$Kind;", false)
  | 1 => ("LetterPost", "kindMany", "I", false)
  | 2 => ("LetterPost", "lateMany", "I", false)
  | 3 => ("LetterPost", "values", "[LLetterPost$Value;", true)
  | 4 => ("LetterPost", "valueMany", "I", false)
  | 5 => ("LetterPost", "functions", "[LLetterPost$Function;", false)
  | 6 => ("LetterPost", "functionMany", "I", false)
  | 7 => ("LetterPost", "tape", "[B", true)
  | 8 => ("LetterPost", "size", "I", false)
  | 9 => ("LetterPost", "at", "I", false)
  | 10 => ("LetterPost", "type", "I", false)
  | 11 => ("LetterPost", "place", "I", false)
  | 12 => ("LetterPost", "word", "J", false)
  | 13 => ("LetterPost", "number", "I", false)
  | 14 => ("LetterPost", "sign", "I", false)
  | 15 => ("LetterPost", "names", "[J", true)
  | 16 => ("LetterPost", "nameSorts", "[I", true)
  | 17 => ("LetterPost", "nameMany", "I", false)
  | 18 => ("LetterPost", "bound", "I", false)
  | 19 => ("LetterPost", "within", "I", false)
  | 20 => ("LetterPost", "isMuch", "Z", false)
  | 21 => ("LetterPost", "fault", "I", false)
  | 22 => ("LetterPost", "isRead", "Z", false)
  | 23 => ("LetterPost", "told", "[I", true)
  | 24 => ("LetterPost", "guards", "[I", true)
  | 25 => ("LetterPost", "taken", "LLetterPost$Rule;", false)
  | 26 => ("LetterPost", "takenBound", "[LLetterPost$Value;", false)
  | 27 => ("LetterPost", "how", "I", false)
  | _ => ("LetterPost", "threw", "LLetterPost$Rule;", false)
def tyX0 : Nat → FieldType := fun k => match k with
  | 0 => .array (.object "LetterPost$Kind")
  | 1 => .int
  | 2 => .int
  | 3 => .array (.object "LetterPost$Value")
  | 4 => .int
  | 5 => .array (.object "LetterPost$Function")
  | 6 => .int
  | 7 => .array .byte
  | 8 => .int
  | 9 => .int
  | 10 => .int
  | 11 => .int
  | 12 => .long
  | 13 => .int
  | 14 => .int
  | 15 => .array .long
  | 16 => .array .int
  | 17 => .int
  | 18 => .int
  | 19 => .int
  | 20 => .boolean
  | 21 => .int
  | 22 => .boolean
  | 23 => .array .int
  | 24 => .array .int
  | 25 => .object "LetterPost$Rule"
  | 26 => .array (.object "LetterPost$Value")
  | 27 => .int
  | _ => .object "LetterPost$Rule"
abbrev wsX00 : List Cond := u_ws RX0 TX0 29
set_option maxRecDepth 100000 in
theorem nmX0 : ∀ a, a < 29 → ∀ b, b < 29 → a ≠ b → (TX0 a).2.1 ≠ (TX0 b).2.1 := by decide +kernel
set_option maxRecDepth 100000 in
theorem tyX0_ok : ∀ k, k < 29 → parseFieldDescriptor (TX0 k).2.2.1 = some (tyX0 k) := by decide +kernel
abbrev cX0_feed : ByteArray := prog_1_method_6_code
def yX0_feed : MethodName := ⟨RX0, "feed", "(JI)I"⟩
def dkwX0_feed_3 : List UInt8 := [167, 255, 220, 42, 180, 0, 54, 172]
abbrev dktX0_feed_3 : List UInt8 := dkwX0_feed_3 ++ []
def dkwX0_feed_2 : List UInt8 := [31, 16, 8, 21, 4, 104, 123, 136, 145, 84, 42, 89, 180, 0, 54, 4, 96, 181, 0, 54, 132, 4, 255]
abbrev dktX0_feed_2 : List UInt8 := dkwX0_feed_2 ++ dktX0_feed_3
def dkwX0_feed_1 : List UInt8 := [164, 0, 6, 16, 253, 172, 29, 4, 100, 54, 4, 21, 4, 155, 0, 37, 42, 180, 0, 57, 42, 180, 0, 54]
abbrev dktX0_feed_1 : List UInt8 := dkwX0_feed_1 ++ dktX0_feed_2
def dkwX0_feed_0 : List UInt8 := [29, 133, 10, 20, 0, 48, 184, 0, 50, 154, 0, 5, 2, 172, 42, 180, 0, 54, 29, 96, 17, 6, 64]
abbrev dktX0_feed_0 : List UInt8 := dkwX0_feed_0 ++ dktX0_feed_1
theorem dksX0_feed_0 : cX0_feed.data.toList.drop 0 = dktX0_feed_0 := by decide +kernel
theorem dksX0_feed_1 : cX0_feed.data.toList.drop 23 = dktX0_feed_1 := dk_seg dksX0_feed_0 23 rfl rfl
theorem dksX0_feed_2 : cX0_feed.data.toList.drop 47 = dktX0_feed_2 := dk_seg dksX0_feed_1 24 rfl rfl
theorem dksX0_feed_3 : cX0_feed.data.toList.drop 70 = dktX0_feed_3 := dk_seg dksX0_feed_2 23 rfl rfl
theorem dX0_feed_0 : decode cX0_feed 0 = .ok (.iload_n 3, 1) := dk_29 (dk_at dksX0_feed_0 0 rfl rfl)
theorem dX0_feed_1 : decode cX0_feed 1 = .ok (.i2l, 1) := dk_133 (dk_at dksX0_feed_0 1 rfl rfl)
theorem dX0_feed_2 : decode cX0_feed 2 = .ok (.lconst 1, 1) := dk_10 (dk_at dksX0_feed_0 2 rfl rfl)
theorem dX0_feed_3 : decode cX0_feed 3 = .ok (.ldc2_w 48, 3) := dk_20 0 48 (dk_at dksX0_feed_0 3 rfl rfl)
theorem dX0_feed_6 : decode cX0_feed 6 = .ok (.invokestatic 50, 3) := dk_184 0 50 (dk_at dksX0_feed_0 6 rfl rfl)
theorem dX0_feed_9 : decode cX0_feed 9 = .ok (.ifCond .ne 5, 3) := dk_154 0 5 (dk_at dksX0_feed_0 9 rfl rfl)
theorem dX0_feed_12 : decode cX0_feed 12 = .ok (.iconst (-1), 1) := dk_2 (dk_at dksX0_feed_0 12 rfl rfl)
theorem dX0_feed_13 : decode cX0_feed 13 = .ok (.ireturn, 1) := dk_172 (dk_at dksX0_feed_0 13 rfl rfl)
theorem dX0_feed_14 : decode cX0_feed 14 = .ok (.aload_n 0, 1) := dk_42 (dk_at dksX0_feed_0 14 rfl rfl)
theorem dX0_feed_15 : decode cX0_feed 15 = .ok (.getfield 54, 3) := dk_180 0 54 (dk_at dksX0_feed_0 15 rfl rfl)
theorem dX0_feed_18 : decode cX0_feed 18 = .ok (.iload_n 3, 1) := dk_29 (dk_at dksX0_feed_0 18 rfl rfl)
theorem dX0_feed_19 : decode cX0_feed 19 = .ok (.iadd, 1) := dk_96 (dk_at dksX0_feed_0 19 rfl rfl)
theorem dX0_feed_20 : decode cX0_feed 20 = .ok (.sipush 1600, 3) := dk_17 6 64 (dk_at dksX0_feed_0 20 rfl rfl)
theorem dX0_feed_23 : decode cX0_feed 23 = .ok (.if_icmp .le 6, 3) := dk_164 0 6 (dk_at dksX0_feed_1 0 rfl rfl)
theorem dX0_feed_26 : decode cX0_feed 26 = .ok (.bipush (-3), 2) := dk_16 253 (dk_at dksX0_feed_1 3 rfl rfl)
theorem dX0_feed_28 : decode cX0_feed 28 = .ok (.ireturn, 1) := dk_172 (dk_at dksX0_feed_1 5 rfl rfl)
theorem dX0_feed_29 : decode cX0_feed 29 = .ok (.iload_n 3, 1) := dk_29 (dk_at dksX0_feed_1 6 rfl rfl)
theorem dX0_feed_30 : decode cX0_feed 30 = .ok (.iconst 1, 1) := dk_4 (dk_at dksX0_feed_1 7 rfl rfl)
theorem dX0_feed_31 : decode cX0_feed 31 = .ok (.isub, 1) := dk_100 (dk_at dksX0_feed_1 8 rfl rfl)
theorem dX0_feed_32 : decode cX0_feed 32 = .ok (.istore 4, 2) := dk_54 4 (dk_at dksX0_feed_1 9 rfl rfl)
theorem dX0_feed_34 : decode cX0_feed 34 = .ok (.iload 4, 2) := dk_21 4 (dk_at dksX0_feed_1 11 rfl rfl)
theorem dX0_feed_36 : decode cX0_feed 36 = .ok (.ifCond .lt 37, 3) := dk_155 0 37 (dk_at dksX0_feed_1 13 rfl rfl)
theorem dX0_feed_39 : decode cX0_feed 39 = .ok (.aload_n 0, 1) := dk_42 (dk_at dksX0_feed_1 16 rfl rfl)
theorem dX0_feed_40 : decode cX0_feed 40 = .ok (.getfield 57, 3) := dk_180 0 57 (dk_at dksX0_feed_1 17 rfl rfl)
theorem dX0_feed_43 : decode cX0_feed 43 = .ok (.aload_n 0, 1) := dk_42 (dk_at dksX0_feed_1 20 rfl rfl)
theorem dX0_feed_44 : decode cX0_feed 44 = .ok (.getfield 54, 3) := dk_180 0 54 (dk_at dksX0_feed_1 21 rfl rfl)
theorem dX0_feed_47 : decode cX0_feed 47 = .ok (.lload_n 1, 1) := dk_31 (dk_at dksX0_feed_2 0 rfl rfl)
theorem dX0_feed_48 : decode cX0_feed 48 = .ok (.bipush 8, 2) := dk_16 8 (dk_at dksX0_feed_2 1 rfl rfl)
theorem dX0_feed_50 : decode cX0_feed 50 = .ok (.iload 4, 2) := dk_21 4 (dk_at dksX0_feed_2 3 rfl rfl)
theorem dX0_feed_52 : decode cX0_feed 52 = .ok (.imul, 1) := dk_104 (dk_at dksX0_feed_2 5 rfl rfl)
theorem dX0_feed_53 : decode cX0_feed 53 = .ok (.lshr, 1) := dk_123 (dk_at dksX0_feed_2 6 rfl rfl)
theorem dX0_feed_54 : decode cX0_feed 54 = .ok (.l2i, 1) := dk_136 (dk_at dksX0_feed_2 7 rfl rfl)
theorem dX0_feed_55 : decode cX0_feed 55 = .ok (.i2b, 1) := dk_145 (dk_at dksX0_feed_2 8 rfl rfl)
theorem dX0_feed_56 : decode cX0_feed 56 = .ok (.bastore, 1) := dk_84 (dk_at dksX0_feed_2 9 rfl rfl)
theorem dX0_feed_57 : decode cX0_feed 57 = .ok (.aload_n 0, 1) := dk_42 (dk_at dksX0_feed_2 10 rfl rfl)
theorem dX0_feed_58 : decode cX0_feed 58 = .ok (.dup, 1) := dk_89 (dk_at dksX0_feed_2 11 rfl rfl)
theorem dX0_feed_59 : decode cX0_feed 59 = .ok (.getfield 54, 3) := dk_180 0 54 (dk_at dksX0_feed_2 12 rfl rfl)
theorem dX0_feed_62 : decode cX0_feed 62 = .ok (.iconst 1, 1) := dk_4 (dk_at dksX0_feed_2 15 rfl rfl)
theorem dX0_feed_63 : decode cX0_feed 63 = .ok (.iadd, 1) := dk_96 (dk_at dksX0_feed_2 16 rfl rfl)
theorem dX0_feed_64 : decode cX0_feed 64 = .ok (.putfield 54, 3) := dk_181 0 54 (dk_at dksX0_feed_2 17 rfl rfl)
theorem dX0_feed_67 : decode cX0_feed 67 = .ok (.iinc 4 (-1), 3) := dk_132 4 255 (dk_at dksX0_feed_2 20 rfl rfl)
theorem dX0_feed_70 : decode cX0_feed 70 = .ok (.goto (-36), 3) := dk_167 255 220 (dk_at dksX0_feed_3 0 rfl rfl)
theorem dX0_feed_73 : decode cX0_feed 73 = .ok (.aload_n 0, 1) := dk_42 (dk_at dksX0_feed_3 3 rfl rfl)
theorem dX0_feed_74 : decode cX0_feed 74 = .ok (.getfield 54, 3) := dk_180 0 54 (dk_at dksX0_feed_3 4 rfl rfl)
theorem dX0_feed_77 : decode cX0_feed 77 = .ok (.ireturn, 1) := dk_172 (dk_at dksX0_feed_3 7 rfl rfl)
abbrev cX0_isIn : ByteArray := prog_1_method_1_code
def yX0_isIn : MethodName := ⟨RX0, "isIn", "(JJJ)Z"⟩
def dkwX0_isIn_0 : List UInt8 := [30, 32, 148, 155, 0, 14, 30, 22, 4, 148, 157, 0, 7, 4, 167, 0, 4, 3, 172]
abbrev dktX0_isIn_0 : List UInt8 := dkwX0_isIn_0 ++ []
theorem dksX0_isIn_0 : cX0_isIn.data.toList.drop 0 = dktX0_isIn_0 := by decide +kernel
theorem dX0_isIn_0 : decode cX0_isIn 0 = .ok (.lload_n 0, 1) := dk_30 (dk_at dksX0_isIn_0 0 rfl rfl)
theorem dX0_isIn_1 : decode cX0_isIn 1 = .ok (.lload_n 2, 1) := dk_32 (dk_at dksX0_isIn_0 1 rfl rfl)
theorem dX0_isIn_2 : decode cX0_isIn 2 = .ok (.lcmp, 1) := dk_148 (dk_at dksX0_isIn_0 2 rfl rfl)
theorem dX0_isIn_3 : decode cX0_isIn 3 = .ok (.ifCond .lt 14, 3) := dk_155 0 14 (dk_at dksX0_isIn_0 3 rfl rfl)
theorem dX0_isIn_6 : decode cX0_isIn 6 = .ok (.lload_n 0, 1) := dk_30 (dk_at dksX0_isIn_0 6 rfl rfl)
theorem dX0_isIn_7 : decode cX0_isIn 7 = .ok (.lload 4, 2) := dk_22 4 (dk_at dksX0_isIn_0 7 rfl rfl)
theorem dX0_isIn_9 : decode cX0_isIn 9 = .ok (.lcmp, 1) := dk_148 (dk_at dksX0_isIn_0 9 rfl rfl)
theorem dX0_isIn_10 : decode cX0_isIn 10 = .ok (.ifCond .gt 7, 3) := dk_157 0 7 (dk_at dksX0_isIn_0 10 rfl rfl)
theorem dX0_isIn_13 : decode cX0_isIn 13 = .ok (.iconst 1, 1) := dk_4 (dk_at dksX0_isIn_0 13 rfl rfl)
theorem dX0_isIn_14 : decode cX0_isIn 14 = .ok (.goto 4, 3) := dk_167 0 4 (dk_at dksX0_isIn_0 14 rfl rfl)
theorem dX0_isIn_17 : decode cX0_isIn 17 = .ok (.iconst 0, 1) := dk_3 (dk_at dksX0_isIn_0 17 rfl rfl)
theorem dX0_isIn_18 : decode cX0_isIn 18 = .ok (.ireturn, 1) := dk_172 (dk_at dksX0_isIn_0 18 rfl rfl)
abbrev cX0_read : ByteArray := prog_1_method_46_code
def yX0_read : MethodName := ⟨RX0, "read", "()I"⟩
def dkwX0_read_7 : List UInt8 := [181, 0, 54, 27, 172]
abbrev dktX0_read_7 : List UInt8 := dkwX0_read_7 ++ []
def dkwX0_read_6 : List UInt8 := [182, 1, 183, 16, 246, 44, 180, 1, 186, 100, 60, 167, 0, 11, 77, 42, 182, 1, 183, 16, 253, 60, 42, 3]
abbrev dktX0_read_6 : List UInt8 := dkwX0_read_6 ++ dktX0_read_7
def dkwX0_read_5 : List UInt8 := [42, 4, 181, 1, 153, 42, 180, 1, 123, 60, 167, 0, 35, 77, 42, 44, 180, 1, 180, 181, 1, 156, 42]
abbrev dktX0_read_5 : List UInt8 := dkwX0_read_5 ++ dktX0_read_6
def dkwX0_read_4 : List UInt8 := [180, 1, 126, 28, 50, 182, 1, 174, 42, 180, 1, 126, 28, 50, 3, 182, 1, 177, 132, 2, 1, 167, 255, 226]
abbrev dktX0_read_4 : List UInt8 := dkwX0_read_4 ++ dktX0_read_5
def dkwX0_read_3 : List UInt8 := [4, 167, 0, 4, 3, 182, 0, 149, 42, 182, 1, 171, 3, 61, 28, 42, 180, 1, 123, 162, 0, 28, 42]
abbrev dktX0_read_3 : List UInt8 := dkwX0_read_3 ++ dktX0_read_4
def dkwX0_read_2 : List UInt8 := [19, 1, 166, 182, 0, 162, 153, 0, 10, 42, 182, 1, 168, 167, 255, 242, 42, 42, 180, 0, 81, 154, 0, 7]
abbrev dktX0_read_2 : List UInt8 := dkwX0_read_2 ++ dktX0_read_3
def dkwX0_read_1 : List UInt8 := [182, 0, 162, 153, 0, 19, 42, 182, 0, 152, 42, 3, 182, 1, 163, 42, 182, 0, 152, 167, 255, 233, 42]
abbrev dktX0_read_1 : List UInt8 := dkwX0_read_1 ++ dktX0_read_2
def dkwX0_read_0 : List UInt8 := [42, 180, 1, 153, 153, 0, 6, 16, 254, 172, 42, 3, 181, 1, 156, 42, 182, 1, 159, 42, 19, 1, 162]
abbrev dktX0_read_0 : List UInt8 := dkwX0_read_0 ++ dktX0_read_1
theorem dksX0_read_0 : cX0_read.data.toList.drop 0 = dktX0_read_0 := by decide +kernel
theorem dksX0_read_1 : cX0_read.data.toList.drop 23 = dktX0_read_1 := dk_seg dksX0_read_0 23 rfl rfl
theorem dksX0_read_2 : cX0_read.data.toList.drop 46 = dktX0_read_2 := dk_seg dksX0_read_1 23 rfl rfl
theorem dksX0_read_3 : cX0_read.data.toList.drop 70 = dktX0_read_3 := dk_seg dksX0_read_2 24 rfl rfl
theorem dksX0_read_4 : cX0_read.data.toList.drop 93 = dktX0_read_4 := dk_seg dksX0_read_3 23 rfl rfl
theorem dksX0_read_5 : cX0_read.data.toList.drop 117 = dktX0_read_5 := dk_seg dksX0_read_4 24 rfl rfl
theorem dksX0_read_6 : cX0_read.data.toList.drop 140 = dktX0_read_6 := dk_seg dksX0_read_5 23 rfl rfl
theorem dksX0_read_7 : cX0_read.data.toList.drop 164 = dktX0_read_7 := dk_seg dksX0_read_6 24 rfl rfl
theorem dX0_read_0 : decode cX0_read 0 = .ok (.aload_n 0, 1) := dk_42 (dk_at dksX0_read_0 0 rfl rfl)
theorem dX0_read_1 : decode cX0_read 1 = .ok (.getfield 409, 3) := dk_180 1 153 (dk_at dksX0_read_0 1 rfl rfl)
theorem dX0_read_4 : decode cX0_read 4 = .ok (.ifCond .eq 6, 3) := dk_153 0 6 (dk_at dksX0_read_0 4 rfl rfl)
theorem dX0_read_7 : decode cX0_read 7 = .ok (.bipush (-2), 2) := dk_16 254 (dk_at dksX0_read_0 7 rfl rfl)
theorem dX0_read_9 : decode cX0_read 9 = .ok (.ireturn, 1) := dk_172 (dk_at dksX0_read_0 9 rfl rfl)
theorem dX0_read_10 : decode cX0_read 10 = .ok (.aload_n 0, 1) := dk_42 (dk_at dksX0_read_0 10 rfl rfl)
theorem dX0_read_11 : decode cX0_read 11 = .ok (.iconst 0, 1) := dk_3 (dk_at dksX0_read_0 11 rfl rfl)
theorem dX0_read_12 : decode cX0_read 12 = .ok (.putfield 412, 3) := dk_181 1 156 (dk_at dksX0_read_0 12 rfl rfl)
theorem dX0_read_15 : decode cX0_read 15 = .ok (.aload_n 0, 1) := dk_42 (dk_at dksX0_read_0 15 rfl rfl)
theorem dX0_read_16 : decode cX0_read 16 = .ok (.invokevirtual 415, 3) := dk_182 1 159 (dk_at dksX0_read_0 16 rfl rfl)
theorem dX0_read_19 : decode cX0_read 19 = .ok (.aload_n 0, 1) := dk_42 (dk_at dksX0_read_0 19 rfl rfl)
theorem dX0_read_20 : decode cX0_read 20 = .ok (.ldc_w 418, 3) := dk_19 1 162 (dk_at dksX0_read_0 20 rfl rfl)
theorem dX0_read_23 : decode cX0_read 23 = .ok (.invokevirtual 162, 3) := dk_182 0 162 (dk_at dksX0_read_1 0 rfl rfl)
theorem dX0_read_26 : decode cX0_read 26 = .ok (.ifCond .eq 19, 3) := dk_153 0 19 (dk_at dksX0_read_1 3 rfl rfl)
theorem dX0_read_29 : decode cX0_read 29 = .ok (.aload_n 0, 1) := dk_42 (dk_at dksX0_read_1 6 rfl rfl)
theorem dX0_read_30 : decode cX0_read 30 = .ok (.invokevirtual 152, 3) := dk_182 0 152 (dk_at dksX0_read_1 7 rfl rfl)
theorem dX0_read_33 : decode cX0_read 33 = .ok (.aload_n 0, 1) := dk_42 (dk_at dksX0_read_1 10 rfl rfl)
theorem dX0_read_34 : decode cX0_read 34 = .ok (.iconst 0, 1) := dk_3 (dk_at dksX0_read_1 11 rfl rfl)
theorem dX0_read_35 : decode cX0_read 35 = .ok (.invokevirtual 419, 3) := dk_182 1 163 (dk_at dksX0_read_1 12 rfl rfl)
theorem dX0_read_38 : decode cX0_read 38 = .ok (.aload_n 0, 1) := dk_42 (dk_at dksX0_read_1 15 rfl rfl)
theorem dX0_read_39 : decode cX0_read 39 = .ok (.invokevirtual 152, 3) := dk_182 0 152 (dk_at dksX0_read_1 16 rfl rfl)
theorem dX0_read_42 : decode cX0_read 42 = .ok (.goto (-23), 3) := dk_167 255 233 (dk_at dksX0_read_1 19 rfl rfl)
theorem dX0_read_45 : decode cX0_read 45 = .ok (.aload_n 0, 1) := dk_42 (dk_at dksX0_read_1 22 rfl rfl)
theorem dX0_read_46 : decode cX0_read 46 = .ok (.ldc_w 422, 3) := dk_19 1 166 (dk_at dksX0_read_2 0 rfl rfl)
theorem dX0_read_49 : decode cX0_read 49 = .ok (.invokevirtual 162, 3) := dk_182 0 162 (dk_at dksX0_read_2 3 rfl rfl)
theorem dX0_read_52 : decode cX0_read 52 = .ok (.ifCond .eq 10, 3) := dk_153 0 10 (dk_at dksX0_read_2 6 rfl rfl)
theorem dX0_read_55 : decode cX0_read 55 = .ok (.aload_n 0, 1) := dk_42 (dk_at dksX0_read_2 9 rfl rfl)
theorem dX0_read_56 : decode cX0_read 56 = .ok (.invokevirtual 424, 3) := dk_182 1 168 (dk_at dksX0_read_2 10 rfl rfl)
theorem dX0_read_59 : decode cX0_read 59 = .ok (.goto (-14), 3) := dk_167 255 242 (dk_at dksX0_read_2 13 rfl rfl)
theorem dX0_read_62 : decode cX0_read 62 = .ok (.aload_n 0, 1) := dk_42 (dk_at dksX0_read_2 16 rfl rfl)
theorem dX0_read_63 : decode cX0_read 63 = .ok (.aload_n 0, 1) := dk_42 (dk_at dksX0_read_2 17 rfl rfl)
theorem dX0_read_64 : decode cX0_read 64 = .ok (.getfield 81, 3) := dk_180 0 81 (dk_at dksX0_read_2 18 rfl rfl)
theorem dX0_read_67 : decode cX0_read 67 = .ok (.ifCond .ne 7, 3) := dk_154 0 7 (dk_at dksX0_read_2 21 rfl rfl)
theorem dX0_read_70 : decode cX0_read 70 = .ok (.iconst 1, 1) := dk_4 (dk_at dksX0_read_3 0 rfl rfl)
theorem dX0_read_71 : decode cX0_read 71 = .ok (.goto 4, 3) := dk_167 0 4 (dk_at dksX0_read_3 1 rfl rfl)
theorem dX0_read_74 : decode cX0_read 74 = .ok (.iconst 0, 1) := dk_3 (dk_at dksX0_read_3 4 rfl rfl)
theorem dX0_read_75 : decode cX0_read 75 = .ok (.invokevirtual 149, 3) := dk_182 0 149 (dk_at dksX0_read_3 5 rfl rfl)
theorem dX0_read_78 : decode cX0_read 78 = .ok (.aload_n 0, 1) := dk_42 (dk_at dksX0_read_3 8 rfl rfl)
theorem dX0_read_79 : decode cX0_read 79 = .ok (.invokevirtual 427, 3) := dk_182 1 171 (dk_at dksX0_read_3 9 rfl rfl)
theorem dX0_read_82 : decode cX0_read 82 = .ok (.iconst 0, 1) := dk_3 (dk_at dksX0_read_3 12 rfl rfl)
theorem dX0_read_83 : decode cX0_read 83 = .ok (.istore_n 2, 1) := dk_61 (dk_at dksX0_read_3 13 rfl rfl)
theorem dX0_read_84 : decode cX0_read 84 = .ok (.iload_n 2, 1) := dk_28 (dk_at dksX0_read_3 14 rfl rfl)
theorem dX0_read_85 : decode cX0_read 85 = .ok (.aload_n 0, 1) := dk_42 (dk_at dksX0_read_3 15 rfl rfl)
theorem dX0_read_86 : decode cX0_read 86 = .ok (.getfield 379, 3) := dk_180 1 123 (dk_at dksX0_read_3 16 rfl rfl)
theorem dX0_read_89 : decode cX0_read 89 = .ok (.if_icmp .ge 28, 3) := dk_162 0 28 (dk_at dksX0_read_3 19 rfl rfl)
theorem dX0_read_92 : decode cX0_read 92 = .ok (.aload_n 0, 1) := dk_42 (dk_at dksX0_read_3 22 rfl rfl)
theorem dX0_read_93 : decode cX0_read 93 = .ok (.getfield 382, 3) := dk_180 1 126 (dk_at dksX0_read_4 0 rfl rfl)
theorem dX0_read_96 : decode cX0_read 96 = .ok (.iload_n 2, 1) := dk_28 (dk_at dksX0_read_4 3 rfl rfl)
theorem dX0_read_97 : decode cX0_read 97 = .ok (.aaload, 1) := dk_50 (dk_at dksX0_read_4 4 rfl rfl)
theorem dX0_read_98 : decode cX0_read 98 = .ok (.invokevirtual 430, 3) := dk_182 1 174 (dk_at dksX0_read_4 5 rfl rfl)
theorem dX0_read_101 : decode cX0_read 101 = .ok (.aload_n 0, 1) := dk_42 (dk_at dksX0_read_4 8 rfl rfl)
theorem dX0_read_102 : decode cX0_read 102 = .ok (.getfield 382, 3) := dk_180 1 126 (dk_at dksX0_read_4 9 rfl rfl)
theorem dX0_read_105 : decode cX0_read 105 = .ok (.iload_n 2, 1) := dk_28 (dk_at dksX0_read_4 12 rfl rfl)
theorem dX0_read_106 : decode cX0_read 106 = .ok (.aaload, 1) := dk_50 (dk_at dksX0_read_4 13 rfl rfl)
theorem dX0_read_107 : decode cX0_read 107 = .ok (.iconst 0, 1) := dk_3 (dk_at dksX0_read_4 14 rfl rfl)
theorem dX0_read_108 : decode cX0_read 108 = .ok (.invokevirtual 433, 3) := dk_182 1 177 (dk_at dksX0_read_4 15 rfl rfl)
theorem dX0_read_111 : decode cX0_read 111 = .ok (.iinc 2 1, 3) := dk_132 2 1 (dk_at dksX0_read_4 18 rfl rfl)
theorem dX0_read_114 : decode cX0_read 114 = .ok (.goto (-30), 3) := dk_167 255 226 (dk_at dksX0_read_4 21 rfl rfl)
theorem dX0_read_117 : decode cX0_read 117 = .ok (.aload_n 0, 1) := dk_42 (dk_at dksX0_read_5 0 rfl rfl)
theorem dX0_read_118 : decode cX0_read 118 = .ok (.iconst 1, 1) := dk_4 (dk_at dksX0_read_5 1 rfl rfl)
theorem dX0_read_119 : decode cX0_read 119 = .ok (.putfield 409, 3) := dk_181 1 153 (dk_at dksX0_read_5 2 rfl rfl)
theorem dX0_read_122 : decode cX0_read 122 = .ok (.aload_n 0, 1) := dk_42 (dk_at dksX0_read_5 5 rfl rfl)
theorem dX0_read_123 : decode cX0_read 123 = .ok (.getfield 379, 3) := dk_180 1 123 (dk_at dksX0_read_5 6 rfl rfl)
theorem dX0_read_126 : decode cX0_read 126 = .ok (.istore_n 1, 1) := dk_60 (dk_at dksX0_read_5 9 rfl rfl)
theorem dX0_read_127 : decode cX0_read 127 = .ok (.goto 35, 3) := dk_167 0 35 (dk_at dksX0_read_5 10 rfl rfl)
theorem dX0_read_130 : decode cX0_read 130 = .ok (.astore_n 2, 1) := dk_77 (dk_at dksX0_read_5 13 rfl rfl)
theorem dX0_read_131 : decode cX0_read 131 = .ok (.aload_n 0, 1) := dk_42 (dk_at dksX0_read_5 14 rfl rfl)
theorem dX0_read_132 : decode cX0_read 132 = .ok (.aload_n 2, 1) := dk_44 (dk_at dksX0_read_5 15 rfl rfl)
theorem dX0_read_133 : decode cX0_read 133 = .ok (.getfield 436, 3) := dk_180 1 180 (dk_at dksX0_read_5 16 rfl rfl)
theorem dX0_read_136 : decode cX0_read 136 = .ok (.putfield 412, 3) := dk_181 1 156 (dk_at dksX0_read_5 19 rfl rfl)
theorem dX0_read_139 : decode cX0_read 139 = .ok (.aload_n 0, 1) := dk_42 (dk_at dksX0_read_5 22 rfl rfl)
theorem dX0_read_140 : decode cX0_read 140 = .ok (.invokevirtual 439, 3) := dk_182 1 183 (dk_at dksX0_read_6 0 rfl rfl)
theorem dX0_read_143 : decode cX0_read 143 = .ok (.bipush (-10), 2) := dk_16 246 (dk_at dksX0_read_6 3 rfl rfl)
theorem dX0_read_145 : decode cX0_read 145 = .ok (.aload_n 2, 1) := dk_44 (dk_at dksX0_read_6 5 rfl rfl)
theorem dX0_read_146 : decode cX0_read 146 = .ok (.getfield 442, 3) := dk_180 1 186 (dk_at dksX0_read_6 6 rfl rfl)
theorem dX0_read_149 : decode cX0_read 149 = .ok (.isub, 1) := dk_100 (dk_at dksX0_read_6 9 rfl rfl)
theorem dX0_read_150 : decode cX0_read 150 = .ok (.istore_n 1, 1) := dk_60 (dk_at dksX0_read_6 10 rfl rfl)
theorem dX0_read_151 : decode cX0_read 151 = .ok (.goto 11, 3) := dk_167 0 11 (dk_at dksX0_read_6 11 rfl rfl)
theorem dX0_read_154 : decode cX0_read 154 = .ok (.astore_n 2, 1) := dk_77 (dk_at dksX0_read_6 14 rfl rfl)
theorem dX0_read_155 : decode cX0_read 155 = .ok (.aload_n 0, 1) := dk_42 (dk_at dksX0_read_6 15 rfl rfl)
theorem dX0_read_156 : decode cX0_read 156 = .ok (.invokevirtual 439, 3) := dk_182 1 183 (dk_at dksX0_read_6 16 rfl rfl)
theorem dX0_read_159 : decode cX0_read 159 = .ok (.bipush (-3), 2) := dk_16 253 (dk_at dksX0_read_6 19 rfl rfl)
theorem dX0_read_161 : decode cX0_read 161 = .ok (.istore_n 1, 1) := dk_60 (dk_at dksX0_read_6 21 rfl rfl)
theorem dX0_read_162 : decode cX0_read 162 = .ok (.aload_n 0, 1) := dk_42 (dk_at dksX0_read_6 22 rfl rfl)
theorem dX0_read_163 : decode cX0_read 163 = .ok (.iconst 0, 1) := dk_3 (dk_at dksX0_read_6 23 rfl rfl)
theorem dX0_read_164 : decode cX0_read 164 = .ok (.putfield 54, 3) := dk_181 0 54 (dk_at dksX0_read_7 0 rfl rfl)
theorem dX0_read_167 : decode cX0_read 167 = .ok (.iload_n 1, 1) := dk_27 (dk_at dksX0_read_7 3 rfl rfl)
theorem dX0_read_168 : decode cX0_read 168 = .ok (.ireturn, 1) := dk_172 (dk_at dksX0_read_7 4 rfl rfl)
abbrev cX0_begin : ByteArray := prog_1_method_44_code
def yX0_begin : MethodName := ⟨RX0, "begin", "()V"⟩
def dkwX0_begin_0 : List UInt8 := [42, 3, 181, 0, 67, 42, 182, 0, 152, 177]
abbrev dktX0_begin_0 : List UInt8 := dkwX0_begin_0 ++ []
theorem dksX0_begin_0 : cX0_begin.data.toList.drop 0 = dktX0_begin_0 := by decide +kernel
theorem dX0_begin_0 : decode cX0_begin 0 = .ok (.aload_n 0, 1) := dk_42 (dk_at dksX0_begin_0 0 rfl rfl)
theorem dX0_begin_1 : decode cX0_begin 1 = .ok (.iconst 0, 1) := dk_3 (dk_at dksX0_begin_0 1 rfl rfl)
theorem dX0_begin_2 : decode cX0_begin 2 = .ok (.putfield 67, 3) := dk_181 0 67 (dk_at dksX0_begin_0 2 rfl rfl)
theorem dX0_begin_5 : decode cX0_begin 5 = .ok (.aload_n 0, 1) := dk_42 (dk_at dksX0_begin_0 5 rfl rfl)
theorem dX0_begin_6 : decode cX0_begin 6 = .ok (.invokevirtual 152, 3) := dk_182 0 152 (dk_at dksX0_begin_0 6 rfl rfl)
theorem dX0_begin_9 : decode cX0_begin 9 = .ok (.return_, 1) := dk_177 (dk_at dksX0_begin_0 9 rfl rfl)
abbrev cX0_next : ByteArray := prog_1_method_12_code
def yX0_next : MethodName := ⟨RX0, "next", "()V"⟩
def dkwX0_next_11 : List UInt8 := [96, 181, 0, 67, 177]
abbrev dktX0_next_11 : List UInt8 := dkwX0_next_11 ++ []
def dkwX0_next_10 : List UInt8 := [181, 0, 81, 42, 27, 181, 0, 112, 42, 89, 180, 0, 67, 27, 16, 46, 160, 0, 7, 5, 167, 0, 4, 4]
abbrev dktX0_next_10 : List UInt8 := dkwX0_next_10 ++ dktX0_next_11
def dkwX0_next_9 : List UInt8 := [96, 182, 0, 70, 16, 46, 160, 0, 7, 4, 167, 0, 4, 3, 4, 42, 180, 0, 78, 182, 0, 98, 42, 8]
abbrev dktX0_next_9 : List UInt8 := dkwX0_next_9 ++ dktX0_next_10
def dkwX0_next_8 : List UInt8 := [158, 0, 37, 18, 105, 27, 182, 0, 107, 155, 0, 28, 27, 16, 46, 160, 0, 18, 42, 42, 180, 0, 67, 4]
abbrev dktX0_next_8 : List UInt8 := dkwX0_next_8 ++ dktX0_next_9
def dkwX0_next_7 : List UInt8 := [181, 0, 67, 167, 255, 186, 167, 0, 94, 27, 16, 39, 160, 0, 10, 42, 182, 0, 102, 167, 0, 81, 42, 27]
abbrev dktX0_next_7 : List UInt8 := dkwX0_next_7 ++ dktX0_next_8
def dkwX0_next_6 : List UInt8 := [180, 0, 67, 182, 0, 70, 96, 16, 48, 100, 181, 0, 95, 132, 2, 1, 42, 89, 180, 0, 67, 4, 96]
abbrev dktX0_next_6 : List UInt8 := dkwX0_next_6 ++ dktX0_next_7
def dkwX0_next_5 : List UInt8 := [167, 0, 4, 3, 4, 42, 180, 0, 78, 182, 0, 98, 42, 16, 10, 42, 180, 0, 95, 104, 42, 42]
abbrev dktX0_next_5 : List UInt8 := dkwX0_next_5 ++ dktX0_next_6
def dkwX0_next_4 : List UInt8 := [61, 42, 42, 180, 0, 67, 182, 0, 70, 184, 0, 92, 153, 0, 62, 42, 28, 16, 9, 162, 0, 7, 4]
abbrev dktX0_next_4 : List UInt8 := dkwX0_next_4 ++ dktX0_next_5
def dkwX0_next_3 : List UInt8 := [182, 0, 88, 167, 0, 189, 27, 184, 0, 92, 153, 0, 91, 42, 6, 181, 0, 81, 42, 3, 181, 0, 95, 3]
abbrev dktX0_next_3 : List UInt8 := dkwX0_next_3 ++ dktX0_next_4
def dkwX0_next_2 : List UInt8 := [184, 0, 84, 154, 0, 15, 27, 16, 65, 161, 0, 20, 27, 16, 90, 163, 0, 14, 42, 27, 184, 0, 84]
abbrev dktX0_next_2 : List UInt8 := dkwX0_next_2 ++ dktX0_next_3
def dkwX0_next_1 : List UInt8 := [156, 0, 22, 42, 180, 0, 67, 42, 180, 0, 54, 160, 0, 11, 42, 3, 181, 0, 81, 167, 0, 219, 27]
abbrev dktX0_next_1 : List UInt8 := dkwX0_next_1 ++ dktX0_next_2
def dkwX0_next_0 : List UInt8 := [42, 182, 0, 74, 42, 42, 180, 0, 67, 181, 0, 78, 42, 42, 180, 0, 67, 182, 0, 70, 60, 27]
abbrev dktX0_next_0 : List UInt8 := dkwX0_next_0 ++ dktX0_next_1
theorem dksX0_next_0 : cX0_next.data.toList.drop 0 = dktX0_next_0 := by decide +kernel
theorem dksX0_next_1 : cX0_next.data.toList.drop 22 = dktX0_next_1 := dk_seg dksX0_next_0 22 rfl rfl
theorem dksX0_next_2 : cX0_next.data.toList.drop 45 = dktX0_next_2 := dk_seg dksX0_next_1 23 rfl rfl
theorem dksX0_next_3 : cX0_next.data.toList.drop 68 = dktX0_next_3 := dk_seg dksX0_next_2 23 rfl rfl
theorem dksX0_next_4 : cX0_next.data.toList.drop 92 = dktX0_next_4 := dk_seg dksX0_next_3 24 rfl rfl
theorem dksX0_next_5 : cX0_next.data.toList.drop 115 = dktX0_next_5 := dk_seg dksX0_next_4 23 rfl rfl
theorem dksX0_next_6 : cX0_next.data.toList.drop 137 = dktX0_next_6 := dk_seg dksX0_next_5 22 rfl rfl
theorem dksX0_next_7 : cX0_next.data.toList.drop 160 = dktX0_next_7 := dk_seg dksX0_next_6 23 rfl rfl
theorem dksX0_next_8 : cX0_next.data.toList.drop 184 = dktX0_next_8 := dk_seg dksX0_next_7 24 rfl rfl
theorem dksX0_next_9 : cX0_next.data.toList.drop 208 = dktX0_next_9 := dk_seg dksX0_next_8 24 rfl rfl
theorem dksX0_next_10 : cX0_next.data.toList.drop 232 = dktX0_next_10 := dk_seg dksX0_next_9 24 rfl rfl
theorem dksX0_next_11 : cX0_next.data.toList.drop 256 = dktX0_next_11 := dk_seg dksX0_next_10 24 rfl rfl
theorem dX0_next_0 : decode cX0_next 0 = .ok (.aload_n 0, 1) := dk_42 (dk_at dksX0_next_0 0 rfl rfl)
theorem dX0_next_1 : decode cX0_next 1 = .ok (.invokevirtual 74, 3) := dk_182 0 74 (dk_at dksX0_next_0 1 rfl rfl)
theorem dX0_next_4 : decode cX0_next 4 = .ok (.aload_n 0, 1) := dk_42 (dk_at dksX0_next_0 4 rfl rfl)
theorem dX0_next_5 : decode cX0_next 5 = .ok (.aload_n 0, 1) := dk_42 (dk_at dksX0_next_0 5 rfl rfl)
theorem dX0_next_6 : decode cX0_next 6 = .ok (.getfield 67, 3) := dk_180 0 67 (dk_at dksX0_next_0 6 rfl rfl)
theorem dX0_next_9 : decode cX0_next 9 = .ok (.putfield 78, 3) := dk_181 0 78 (dk_at dksX0_next_0 9 rfl rfl)
theorem dX0_next_12 : decode cX0_next 12 = .ok (.aload_n 0, 1) := dk_42 (dk_at dksX0_next_0 12 rfl rfl)
theorem dX0_next_13 : decode cX0_next 13 = .ok (.aload_n 0, 1) := dk_42 (dk_at dksX0_next_0 13 rfl rfl)
theorem dX0_next_14 : decode cX0_next 14 = .ok (.getfield 67, 3) := dk_180 0 67 (dk_at dksX0_next_0 14 rfl rfl)
theorem dX0_next_17 : decode cX0_next 17 = .ok (.invokevirtual 70, 3) := dk_182 0 70 (dk_at dksX0_next_0 17 rfl rfl)
theorem dX0_next_20 : decode cX0_next 20 = .ok (.istore_n 1, 1) := dk_60 (dk_at dksX0_next_0 20 rfl rfl)
theorem dX0_next_21 : decode cX0_next 21 = .ok (.iload_n 1, 1) := dk_27 (dk_at dksX0_next_0 21 rfl rfl)
theorem dX0_next_22 : decode cX0_next 22 = .ok (.ifCond .ge 22, 3) := dk_156 0 22 (dk_at dksX0_next_1 0 rfl rfl)
theorem dX0_next_25 : decode cX0_next 25 = .ok (.aload_n 0, 1) := dk_42 (dk_at dksX0_next_1 3 rfl rfl)
theorem dX0_next_26 : decode cX0_next 26 = .ok (.getfield 67, 3) := dk_180 0 67 (dk_at dksX0_next_1 4 rfl rfl)
theorem dX0_next_29 : decode cX0_next 29 = .ok (.aload_n 0, 1) := dk_42 (dk_at dksX0_next_1 7 rfl rfl)
theorem dX0_next_30 : decode cX0_next 30 = .ok (.getfield 54, 3) := dk_180 0 54 (dk_at dksX0_next_1 8 rfl rfl)
theorem dX0_next_33 : decode cX0_next 33 = .ok (.if_icmp .ne 11, 3) := dk_160 0 11 (dk_at dksX0_next_1 11 rfl rfl)
theorem dX0_next_36 : decode cX0_next 36 = .ok (.aload_n 0, 1) := dk_42 (dk_at dksX0_next_1 14 rfl rfl)
theorem dX0_next_37 : decode cX0_next 37 = .ok (.iconst 0, 1) := dk_3 (dk_at dksX0_next_1 15 rfl rfl)
theorem dX0_next_38 : decode cX0_next 38 = .ok (.putfield 81, 3) := dk_181 0 81 (dk_at dksX0_next_1 16 rfl rfl)
theorem dX0_next_41 : decode cX0_next 41 = .ok (.goto 219, 3) := dk_167 0 219 (dk_at dksX0_next_1 19 rfl rfl)
theorem dX0_next_44 : decode cX0_next 44 = .ok (.iload_n 1, 1) := dk_27 (dk_at dksX0_next_1 22 rfl rfl)
theorem dX0_next_45 : decode cX0_next 45 = .ok (.invokestatic 84, 3) := dk_184 0 84 (dk_at dksX0_next_2 0 rfl rfl)
theorem dX0_next_48 : decode cX0_next 48 = .ok (.ifCond .ne 15, 3) := dk_154 0 15 (dk_at dksX0_next_2 3 rfl rfl)
theorem dX0_next_51 : decode cX0_next 51 = .ok (.iload_n 1, 1) := dk_27 (dk_at dksX0_next_2 6 rfl rfl)
theorem dX0_next_52 : decode cX0_next 52 = .ok (.bipush 65, 2) := dk_16 65 (dk_at dksX0_next_2 7 rfl rfl)
theorem dX0_next_54 : decode cX0_next 54 = .ok (.if_icmp .lt 20, 3) := dk_161 0 20 (dk_at dksX0_next_2 9 rfl rfl)
theorem dX0_next_57 : decode cX0_next 57 = .ok (.iload_n 1, 1) := dk_27 (dk_at dksX0_next_2 12 rfl rfl)
theorem dX0_next_58 : decode cX0_next 58 = .ok (.bipush 90, 2) := dk_16 90 (dk_at dksX0_next_2 13 rfl rfl)
theorem dX0_next_60 : decode cX0_next 60 = .ok (.if_icmp .gt 14, 3) := dk_163 0 14 (dk_at dksX0_next_2 15 rfl rfl)
theorem dX0_next_63 : decode cX0_next 63 = .ok (.aload_n 0, 1) := dk_42 (dk_at dksX0_next_2 18 rfl rfl)
theorem dX0_next_64 : decode cX0_next 64 = .ok (.iload_n 1, 1) := dk_27 (dk_at dksX0_next_2 19 rfl rfl)
theorem dX0_next_65 : decode cX0_next 65 = .ok (.invokestatic 84, 3) := dk_184 0 84 (dk_at dksX0_next_2 20 rfl rfl)
theorem dX0_next_68 : decode cX0_next 68 = .ok (.invokevirtual 88, 3) := dk_182 0 88 (dk_at dksX0_next_3 0 rfl rfl)
theorem dX0_next_71 : decode cX0_next 71 = .ok (.goto 189, 3) := dk_167 0 189 (dk_at dksX0_next_3 3 rfl rfl)
theorem dX0_next_74 : decode cX0_next 74 = .ok (.iload_n 1, 1) := dk_27 (dk_at dksX0_next_3 6 rfl rfl)
theorem dX0_next_75 : decode cX0_next 75 = .ok (.invokestatic 92, 3) := dk_184 0 92 (dk_at dksX0_next_3 7 rfl rfl)
theorem dX0_next_78 : decode cX0_next 78 = .ok (.ifCond .eq 91, 3) := dk_153 0 91 (dk_at dksX0_next_3 10 rfl rfl)
theorem dX0_next_81 : decode cX0_next 81 = .ok (.aload_n 0, 1) := dk_42 (dk_at dksX0_next_3 13 rfl rfl)
theorem dX0_next_82 : decode cX0_next 82 = .ok (.iconst 3, 1) := dk_6 (dk_at dksX0_next_3 14 rfl rfl)
theorem dX0_next_83 : decode cX0_next 83 = .ok (.putfield 81, 3) := dk_181 0 81 (dk_at dksX0_next_3 15 rfl rfl)
theorem dX0_next_86 : decode cX0_next 86 = .ok (.aload_n 0, 1) := dk_42 (dk_at dksX0_next_3 18 rfl rfl)
theorem dX0_next_87 : decode cX0_next 87 = .ok (.iconst 0, 1) := dk_3 (dk_at dksX0_next_3 19 rfl rfl)
theorem dX0_next_88 : decode cX0_next 88 = .ok (.putfield 95, 3) := dk_181 0 95 (dk_at dksX0_next_3 20 rfl rfl)
theorem dX0_next_91 : decode cX0_next 91 = .ok (.iconst 0, 1) := dk_3 (dk_at dksX0_next_3 23 rfl rfl)
theorem dX0_next_92 : decode cX0_next 92 = .ok (.istore_n 2, 1) := dk_61 (dk_at dksX0_next_4 0 rfl rfl)
theorem dX0_next_93 : decode cX0_next 93 = .ok (.aload_n 0, 1) := dk_42 (dk_at dksX0_next_4 1 rfl rfl)
theorem dX0_next_94 : decode cX0_next 94 = .ok (.aload_n 0, 1) := dk_42 (dk_at dksX0_next_4 2 rfl rfl)
theorem dX0_next_95 : decode cX0_next 95 = .ok (.getfield 67, 3) := dk_180 0 67 (dk_at dksX0_next_4 3 rfl rfl)
theorem dX0_next_98 : decode cX0_next 98 = .ok (.invokevirtual 70, 3) := dk_182 0 70 (dk_at dksX0_next_4 6 rfl rfl)
theorem dX0_next_101 : decode cX0_next 101 = .ok (.invokestatic 92, 3) := dk_184 0 92 (dk_at dksX0_next_4 9 rfl rfl)
theorem dX0_next_104 : decode cX0_next 104 = .ok (.ifCond .eq 62, 3) := dk_153 0 62 (dk_at dksX0_next_4 12 rfl rfl)
theorem dX0_next_107 : decode cX0_next 107 = .ok (.aload_n 0, 1) := dk_42 (dk_at dksX0_next_4 15 rfl rfl)
theorem dX0_next_108 : decode cX0_next 108 = .ok (.iload_n 2, 1) := dk_28 (dk_at dksX0_next_4 16 rfl rfl)
theorem dX0_next_109 : decode cX0_next 109 = .ok (.bipush 9, 2) := dk_16 9 (dk_at dksX0_next_4 17 rfl rfl)
theorem dX0_next_111 : decode cX0_next 111 = .ok (.if_icmp .ge 7, 3) := dk_162 0 7 (dk_at dksX0_next_4 19 rfl rfl)
theorem dX0_next_114 : decode cX0_next 114 = .ok (.iconst 1, 1) := dk_4 (dk_at dksX0_next_4 22 rfl rfl)
theorem dX0_next_115 : decode cX0_next 115 = .ok (.goto 4, 3) := dk_167 0 4 (dk_at dksX0_next_5 0 rfl rfl)
theorem dX0_next_118 : decode cX0_next 118 = .ok (.iconst 0, 1) := dk_3 (dk_at dksX0_next_5 3 rfl rfl)
theorem dX0_next_119 : decode cX0_next 119 = .ok (.iconst 1, 1) := dk_4 (dk_at dksX0_next_5 4 rfl rfl)
theorem dX0_next_120 : decode cX0_next 120 = .ok (.aload_n 0, 1) := dk_42 (dk_at dksX0_next_5 5 rfl rfl)
theorem dX0_next_121 : decode cX0_next 121 = .ok (.getfield 78, 3) := dk_180 0 78 (dk_at dksX0_next_5 6 rfl rfl)
theorem dX0_next_124 : decode cX0_next 124 = .ok (.invokevirtual 98, 3) := dk_182 0 98 (dk_at dksX0_next_5 9 rfl rfl)
theorem dX0_next_127 : decode cX0_next 127 = .ok (.aload_n 0, 1) := dk_42 (dk_at dksX0_next_5 12 rfl rfl)
theorem dX0_next_128 : decode cX0_next 128 = .ok (.bipush 10, 2) := dk_16 10 (dk_at dksX0_next_5 13 rfl rfl)
theorem dX0_next_130 : decode cX0_next 130 = .ok (.aload_n 0, 1) := dk_42 (dk_at dksX0_next_5 15 rfl rfl)
theorem dX0_next_131 : decode cX0_next 131 = .ok (.getfield 95, 3) := dk_180 0 95 (dk_at dksX0_next_5 16 rfl rfl)
theorem dX0_next_134 : decode cX0_next 134 = .ok (.imul, 1) := dk_104 (dk_at dksX0_next_5 19 rfl rfl)
theorem dX0_next_135 : decode cX0_next 135 = .ok (.aload_n 0, 1) := dk_42 (dk_at dksX0_next_5 20 rfl rfl)
theorem dX0_next_136 : decode cX0_next 136 = .ok (.aload_n 0, 1) := dk_42 (dk_at dksX0_next_5 21 rfl rfl)
theorem dX0_next_137 : decode cX0_next 137 = .ok (.getfield 67, 3) := dk_180 0 67 (dk_at dksX0_next_6 0 rfl rfl)
theorem dX0_next_140 : decode cX0_next 140 = .ok (.invokevirtual 70, 3) := dk_182 0 70 (dk_at dksX0_next_6 3 rfl rfl)
theorem dX0_next_143 : decode cX0_next 143 = .ok (.iadd, 1) := dk_96 (dk_at dksX0_next_6 6 rfl rfl)
theorem dX0_next_144 : decode cX0_next 144 = .ok (.bipush 48, 2) := dk_16 48 (dk_at dksX0_next_6 7 rfl rfl)
theorem dX0_next_146 : decode cX0_next 146 = .ok (.isub, 1) := dk_100 (dk_at dksX0_next_6 9 rfl rfl)
theorem dX0_next_147 : decode cX0_next 147 = .ok (.putfield 95, 3) := dk_181 0 95 (dk_at dksX0_next_6 10 rfl rfl)
theorem dX0_next_150 : decode cX0_next 150 = .ok (.iinc 2 1, 3) := dk_132 2 1 (dk_at dksX0_next_6 13 rfl rfl)
theorem dX0_next_153 : decode cX0_next 153 = .ok (.aload_n 0, 1) := dk_42 (dk_at dksX0_next_6 16 rfl rfl)
theorem dX0_next_154 : decode cX0_next 154 = .ok (.dup, 1) := dk_89 (dk_at dksX0_next_6 17 rfl rfl)
theorem dX0_next_155 : decode cX0_next 155 = .ok (.getfield 67, 3) := dk_180 0 67 (dk_at dksX0_next_6 18 rfl rfl)
theorem dX0_next_158 : decode cX0_next 158 = .ok (.iconst 1, 1) := dk_4 (dk_at dksX0_next_6 21 rfl rfl)
theorem dX0_next_159 : decode cX0_next 159 = .ok (.iadd, 1) := dk_96 (dk_at dksX0_next_6 22 rfl rfl)
theorem dX0_next_160 : decode cX0_next 160 = .ok (.putfield 67, 3) := dk_181 0 67 (dk_at dksX0_next_7 0 rfl rfl)
theorem dX0_next_163 : decode cX0_next 163 = .ok (.goto (-70), 3) := dk_167 255 186 (dk_at dksX0_next_7 3 rfl rfl)
theorem dX0_next_166 : decode cX0_next 166 = .ok (.goto 94, 3) := dk_167 0 94 (dk_at dksX0_next_7 6 rfl rfl)
theorem dX0_next_169 : decode cX0_next 169 = .ok (.iload_n 1, 1) := dk_27 (dk_at dksX0_next_7 9 rfl rfl)
theorem dX0_next_170 : decode cX0_next 170 = .ok (.bipush 39, 2) := dk_16 39 (dk_at dksX0_next_7 10 rfl rfl)
theorem dX0_next_172 : decode cX0_next 172 = .ok (.if_icmp .ne 10, 3) := dk_160 0 10 (dk_at dksX0_next_7 12 rfl rfl)
theorem dX0_next_175 : decode cX0_next 175 = .ok (.aload_n 0, 1) := dk_42 (dk_at dksX0_next_7 15 rfl rfl)
theorem dX0_next_176 : decode cX0_next 176 = .ok (.invokevirtual 102, 3) := dk_182 0 102 (dk_at dksX0_next_7 16 rfl rfl)
theorem dX0_next_179 : decode cX0_next 179 = .ok (.goto 81, 3) := dk_167 0 81 (dk_at dksX0_next_7 19 rfl rfl)
theorem dX0_next_182 : decode cX0_next 182 = .ok (.aload_n 0, 1) := dk_42 (dk_at dksX0_next_7 22 rfl rfl)
theorem dX0_next_183 : decode cX0_next 183 = .ok (.iload_n 1, 1) := dk_27 (dk_at dksX0_next_7 23 rfl rfl)
theorem dX0_next_184 : decode cX0_next 184 = .ok (.ifCond .le 37, 3) := dk_158 0 37 (dk_at dksX0_next_8 0 rfl rfl)
theorem dX0_next_187 : decode cX0_next 187 = .ok (.ldc 105, 2) := dk_18 105 (dk_at dksX0_next_8 3 rfl rfl)
theorem dX0_next_189 : decode cX0_next 189 = .ok (.iload_n 1, 1) := dk_27 (dk_at dksX0_next_8 5 rfl rfl)
theorem dX0_next_190 : decode cX0_next 190 = .ok (.invokevirtual 107, 3) := dk_182 0 107 (dk_at dksX0_next_8 6 rfl rfl)
theorem dX0_next_193 : decode cX0_next 193 = .ok (.ifCond .lt 28, 3) := dk_155 0 28 (dk_at dksX0_next_8 9 rfl rfl)
theorem dX0_next_196 : decode cX0_next 196 = .ok (.iload_n 1, 1) := dk_27 (dk_at dksX0_next_8 12 rfl rfl)
theorem dX0_next_197 : decode cX0_next 197 = .ok (.bipush 46, 2) := dk_16 46 (dk_at dksX0_next_8 13 rfl rfl)
theorem dX0_next_199 : decode cX0_next 199 = .ok (.if_icmp .ne 18, 3) := dk_160 0 18 (dk_at dksX0_next_8 15 rfl rfl)
theorem dX0_next_202 : decode cX0_next 202 = .ok (.aload_n 0, 1) := dk_42 (dk_at dksX0_next_8 18 rfl rfl)
theorem dX0_next_203 : decode cX0_next 203 = .ok (.aload_n 0, 1) := dk_42 (dk_at dksX0_next_8 19 rfl rfl)
theorem dX0_next_204 : decode cX0_next 204 = .ok (.getfield 67, 3) := dk_180 0 67 (dk_at dksX0_next_8 20 rfl rfl)
theorem dX0_next_207 : decode cX0_next 207 = .ok (.iconst 1, 1) := dk_4 (dk_at dksX0_next_8 23 rfl rfl)
theorem dX0_next_208 : decode cX0_next 208 = .ok (.iadd, 1) := dk_96 (dk_at dksX0_next_9 0 rfl rfl)
theorem dX0_next_209 : decode cX0_next 209 = .ok (.invokevirtual 70, 3) := dk_182 0 70 (dk_at dksX0_next_9 1 rfl rfl)
theorem dX0_next_212 : decode cX0_next 212 = .ok (.bipush 46, 2) := dk_16 46 (dk_at dksX0_next_9 4 rfl rfl)
theorem dX0_next_214 : decode cX0_next 214 = .ok (.if_icmp .ne 7, 3) := dk_160 0 7 (dk_at dksX0_next_9 6 rfl rfl)
theorem dX0_next_217 : decode cX0_next 217 = .ok (.iconst 1, 1) := dk_4 (dk_at dksX0_next_9 9 rfl rfl)
theorem dX0_next_218 : decode cX0_next 218 = .ok (.goto 4, 3) := dk_167 0 4 (dk_at dksX0_next_9 10 rfl rfl)
theorem dX0_next_221 : decode cX0_next 221 = .ok (.iconst 0, 1) := dk_3 (dk_at dksX0_next_9 13 rfl rfl)
theorem dX0_next_222 : decode cX0_next 222 = .ok (.iconst 1, 1) := dk_4 (dk_at dksX0_next_9 14 rfl rfl)
theorem dX0_next_223 : decode cX0_next 223 = .ok (.aload_n 0, 1) := dk_42 (dk_at dksX0_next_9 15 rfl rfl)
theorem dX0_next_224 : decode cX0_next 224 = .ok (.getfield 78, 3) := dk_180 0 78 (dk_at dksX0_next_9 16 rfl rfl)
theorem dX0_next_227 : decode cX0_next 227 = .ok (.invokevirtual 98, 3) := dk_182 0 98 (dk_at dksX0_next_9 19 rfl rfl)
theorem dX0_next_230 : decode cX0_next 230 = .ok (.aload_n 0, 1) := dk_42 (dk_at dksX0_next_9 22 rfl rfl)
theorem dX0_next_231 : decode cX0_next 231 = .ok (.iconst 5, 1) := dk_8 (dk_at dksX0_next_9 23 rfl rfl)
theorem dX0_next_232 : decode cX0_next 232 = .ok (.putfield 81, 3) := dk_181 0 81 (dk_at dksX0_next_10 0 rfl rfl)
theorem dX0_next_235 : decode cX0_next 235 = .ok (.aload_n 0, 1) := dk_42 (dk_at dksX0_next_10 3 rfl rfl)
theorem dX0_next_236 : decode cX0_next 236 = .ok (.iload_n 1, 1) := dk_27 (dk_at dksX0_next_10 4 rfl rfl)
theorem dX0_next_237 : decode cX0_next 237 = .ok (.putfield 112, 3) := dk_181 0 112 (dk_at dksX0_next_10 5 rfl rfl)
theorem dX0_next_240 : decode cX0_next 240 = .ok (.aload_n 0, 1) := dk_42 (dk_at dksX0_next_10 8 rfl rfl)
theorem dX0_next_241 : decode cX0_next 241 = .ok (.dup, 1) := dk_89 (dk_at dksX0_next_10 9 rfl rfl)
theorem dX0_next_242 : decode cX0_next 242 = .ok (.getfield 67, 3) := dk_180 0 67 (dk_at dksX0_next_10 10 rfl rfl)
theorem dX0_next_245 : decode cX0_next 245 = .ok (.iload_n 1, 1) := dk_27 (dk_at dksX0_next_10 13 rfl rfl)
theorem dX0_next_246 : decode cX0_next 246 = .ok (.bipush 46, 2) := dk_16 46 (dk_at dksX0_next_10 14 rfl rfl)
theorem dX0_next_248 : decode cX0_next 248 = .ok (.if_icmp .ne 7, 3) := dk_160 0 7 (dk_at dksX0_next_10 16 rfl rfl)
theorem dX0_next_251 : decode cX0_next 251 = .ok (.iconst 2, 1) := dk_5 (dk_at dksX0_next_10 19 rfl rfl)
theorem dX0_next_252 : decode cX0_next 252 = .ok (.goto 4, 3) := dk_167 0 4 (dk_at dksX0_next_10 20 rfl rfl)
theorem dX0_next_255 : decode cX0_next 255 = .ok (.iconst 1, 1) := dk_4 (dk_at dksX0_next_10 23 rfl rfl)
theorem dX0_next_256 : decode cX0_next 256 = .ok (.iadd, 1) := dk_96 (dk_at dksX0_next_11 0 rfl rfl)
theorem dX0_next_257 : decode cX0_next 257 = .ok (.putfield 67, 3) := dk_181 0 67 (dk_at dksX0_next_11 1 rfl rfl)
theorem dX0_next_260 : decode cX0_next 260 = .ok (.return_, 1) := dk_177 (dk_at dksX0_next_11 4 rfl rfl)
abbrev cX0_blanks : ByteArray := prog_1_method_11_code
def yX0_blanks : MethodName := ⟨RX0, "blanks", "()V"⟩
def dkwX0_blanks_1 : List UInt8 := [160, 0, 16, 42, 89, 180, 0, 67, 4, 96, 181, 0, 67, 167, 255, 220, 177]
abbrev dktX0_blanks_1 : List UInt8 := dkwX0_blanks_1 ++ []
def dkwX0_blanks_0 : List UInt8 := [42, 42, 180, 0, 67, 182, 0, 70, 16, 32, 159, 0, 16, 42, 42, 180, 0, 67, 182, 0, 70, 16, 10]
abbrev dktX0_blanks_0 : List UInt8 := dkwX0_blanks_0 ++ dktX0_blanks_1
theorem dksX0_blanks_0 : cX0_blanks.data.toList.drop 0 = dktX0_blanks_0 := by decide +kernel
theorem dksX0_blanks_1 : cX0_blanks.data.toList.drop 23 = dktX0_blanks_1 := dk_seg dksX0_blanks_0 23 rfl rfl
theorem dX0_blanks_0 : decode cX0_blanks 0 = .ok (.aload_n 0, 1) := dk_42 (dk_at dksX0_blanks_0 0 rfl rfl)
theorem dX0_blanks_1 : decode cX0_blanks 1 = .ok (.aload_n 0, 1) := dk_42 (dk_at dksX0_blanks_0 1 rfl rfl)
theorem dX0_blanks_2 : decode cX0_blanks 2 = .ok (.getfield 67, 3) := dk_180 0 67 (dk_at dksX0_blanks_0 2 rfl rfl)
theorem dX0_blanks_5 : decode cX0_blanks 5 = .ok (.invokevirtual 70, 3) := dk_182 0 70 (dk_at dksX0_blanks_0 5 rfl rfl)
theorem dX0_blanks_8 : decode cX0_blanks 8 = .ok (.bipush 32, 2) := dk_16 32 (dk_at dksX0_blanks_0 8 rfl rfl)
theorem dX0_blanks_10 : decode cX0_blanks 10 = .ok (.if_icmp .eq 16, 3) := dk_159 0 16 (dk_at dksX0_blanks_0 10 rfl rfl)
theorem dX0_blanks_13 : decode cX0_blanks 13 = .ok (.aload_n 0, 1) := dk_42 (dk_at dksX0_blanks_0 13 rfl rfl)
theorem dX0_blanks_14 : decode cX0_blanks 14 = .ok (.aload_n 0, 1) := dk_42 (dk_at dksX0_blanks_0 14 rfl rfl)
theorem dX0_blanks_15 : decode cX0_blanks 15 = .ok (.getfield 67, 3) := dk_180 0 67 (dk_at dksX0_blanks_0 15 rfl rfl)
theorem dX0_blanks_18 : decode cX0_blanks 18 = .ok (.invokevirtual 70, 3) := dk_182 0 70 (dk_at dksX0_blanks_0 18 rfl rfl)
theorem dX0_blanks_21 : decode cX0_blanks 21 = .ok (.bipush 10, 2) := dk_16 10 (dk_at dksX0_blanks_0 21 rfl rfl)
theorem dX0_blanks_23 : decode cX0_blanks 23 = .ok (.if_icmp .ne 16, 3) := dk_160 0 16 (dk_at dksX0_blanks_1 0 rfl rfl)
theorem dX0_blanks_26 : decode cX0_blanks 26 = .ok (.aload_n 0, 1) := dk_42 (dk_at dksX0_blanks_1 3 rfl rfl)
theorem dX0_blanks_27 : decode cX0_blanks 27 = .ok (.dup, 1) := dk_89 (dk_at dksX0_blanks_1 4 rfl rfl)
theorem dX0_blanks_28 : decode cX0_blanks 28 = .ok (.getfield 67, 3) := dk_180 0 67 (dk_at dksX0_blanks_1 5 rfl rfl)
theorem dX0_blanks_31 : decode cX0_blanks 31 = .ok (.iconst 1, 1) := dk_4 (dk_at dksX0_blanks_1 8 rfl rfl)
theorem dX0_blanks_32 : decode cX0_blanks 32 = .ok (.iadd, 1) := dk_96 (dk_at dksX0_blanks_1 9 rfl rfl)
theorem dX0_blanks_33 : decode cX0_blanks 33 = .ok (.putfield 67, 3) := dk_181 0 67 (dk_at dksX0_blanks_1 10 rfl rfl)
theorem dX0_blanks_36 : decode cX0_blanks 36 = .ok (.goto (-36), 3) := dk_167 255 220 (dk_at dksX0_blanks_1 13 rfl rfl)
theorem dX0_blanks_39 : decode cX0_blanks 39 = .ok (.return_, 1) := dk_177 (dk_at dksX0_blanks_1 16 rfl rfl)
abbrev cX0_unit : ByteArray := prog_1_method_7_code
def yX0_unit : MethodName := ⟨RX0, "unit", "(I)I"⟩
def dkwX0_unit_0 : List UInt8 := [27, 42, 180, 0, 54, 162, 0, 12, 42, 180, 0, 57, 27, 51, 167, 0, 4, 2, 172]
abbrev dktX0_unit_0 : List UInt8 := dkwX0_unit_0 ++ []
theorem dksX0_unit_0 : cX0_unit.data.toList.drop 0 = dktX0_unit_0 := by decide +kernel
theorem dX0_unit_0 : decode cX0_unit 0 = .ok (.iload_n 1, 1) := dk_27 (dk_at dksX0_unit_0 0 rfl rfl)
theorem dX0_unit_1 : decode cX0_unit 1 = .ok (.aload_n 0, 1) := dk_42 (dk_at dksX0_unit_0 1 rfl rfl)
theorem dX0_unit_2 : decode cX0_unit 2 = .ok (.getfield 54, 3) := dk_180 0 54 (dk_at dksX0_unit_0 2 rfl rfl)
theorem dX0_unit_5 : decode cX0_unit 5 = .ok (.if_icmp .ge 12, 3) := dk_162 0 12 (dk_at dksX0_unit_0 5 rfl rfl)
theorem dX0_unit_8 : decode cX0_unit 8 = .ok (.aload_n 0, 1) := dk_42 (dk_at dksX0_unit_0 8 rfl rfl)
theorem dX0_unit_9 : decode cX0_unit 9 = .ok (.getfield 57, 3) := dk_180 0 57 (dk_at dksX0_unit_0 9 rfl rfl)
theorem dX0_unit_12 : decode cX0_unit 12 = .ok (.iload_n 1, 1) := dk_27 (dk_at dksX0_unit_0 12 rfl rfl)
theorem dX0_unit_13 : decode cX0_unit 13 = .ok (.baload, 1) := dk_51 (dk_at dksX0_unit_0 13 rfl rfl)
theorem dX0_unit_14 : decode cX0_unit 14 = .ok (.goto 4, 3) := dk_167 0 4 (dk_at dksX0_unit_0 14 rfl rfl)
theorem dX0_unit_17 : decode cX0_unit 17 = .ok (.iconst (-1), 1) := dk_2 (dk_at dksX0_unit_0 17 rfl rfl)
theorem dX0_unit_18 : decode cX0_unit 18 = .ok (.ireturn, 1) := dk_172 (dk_at dksX0_unit_0 18 rfl rfl)
abbrev cX0_isSmall : ByteArray := prog_1_method_8_code
def yX0_isSmall : MethodName := ⟨RX0, "isSmall", "(I)Z"⟩
def dkwX0_isSmall_0 : List UInt8 := [26, 16, 97, 161, 0, 13, 26, 16, 122, 163, 0, 7, 4, 167, 0, 4, 3, 172]
abbrev dktX0_isSmall_0 : List UInt8 := dkwX0_isSmall_0 ++ []
theorem dksX0_isSmall_0 : cX0_isSmall.data.toList.drop 0 = dktX0_isSmall_0 := by decide +kernel
theorem dX0_isSmall_0 : decode cX0_isSmall 0 = .ok (.iload_n 0, 1) := dk_26 (dk_at dksX0_isSmall_0 0 rfl rfl)
theorem dX0_isSmall_1 : decode cX0_isSmall 1 = .ok (.bipush 97, 2) := dk_16 97 (dk_at dksX0_isSmall_0 1 rfl rfl)
theorem dX0_isSmall_3 : decode cX0_isSmall 3 = .ok (.if_icmp .lt 13, 3) := dk_161 0 13 (dk_at dksX0_isSmall_0 3 rfl rfl)
theorem dX0_isSmall_6 : decode cX0_isSmall 6 = .ok (.iload_n 0, 1) := dk_26 (dk_at dksX0_isSmall_0 6 rfl rfl)
theorem dX0_isSmall_7 : decode cX0_isSmall 7 = .ok (.bipush 122, 2) := dk_16 122 (dk_at dksX0_isSmall_0 7 rfl rfl)
theorem dX0_isSmall_9 : decode cX0_isSmall 9 = .ok (.if_icmp .gt 7, 3) := dk_163 0 7 (dk_at dksX0_isSmall_0 9 rfl rfl)
theorem dX0_isSmall_12 : decode cX0_isSmall 12 = .ok (.iconst 1, 1) := dk_4 (dk_at dksX0_isSmall_0 12 rfl rfl)
theorem dX0_isSmall_13 : decode cX0_isSmall 13 = .ok (.goto 4, 3) := dk_167 0 4 (dk_at dksX0_isSmall_0 13 rfl rfl)
theorem dX0_isSmall_16 : decode cX0_isSmall 16 = .ok (.iconst 0, 1) := dk_3 (dk_at dksX0_isSmall_0 16 rfl rfl)
theorem dX0_isSmall_17 : decode cX0_isSmall 17 = .ok (.ireturn, 1) := dk_172 (dk_at dksX0_isSmall_0 17 rfl rfl)
abbrev cX0_readLetters : ByteArray := prog_1_method_13_code
def yX0_readLetters : MethodName := ⟨RX0, "readLetters", "(Z)V"⟩
def dkwX0_readLetters_7 : List UInt8 := [182, 0, 125, 182, 0, 131, 182, 0, 135, 153, 0, 8, 16, 6, 167, 0, 4, 4, 181, 0, 81, 177]
abbrev dktX0_readLetters_7 : List UInt8 := dkwX0_readLetters_7 ++ []
def dkwX0_readLetters_6 : List UInt8 := [180, 0, 57, 21, 4, 51, 146, 182, 0, 125, 87, 132, 4, 1, 167, 255, 231, 42, 18, 129, 45, 16, 124]
abbrev dktX0_readLetters_6 : List UInt8 := dkwX0_readLetters_6 ++ dktX0_readLetters_7
def dkwX0_readLetters_5 : List UInt8 := [18, 120, 183, 0, 122, 78, 42, 180, 0, 78, 54, 4, 21, 4, 42, 180, 0, 67, 162, 0, 22, 45, 42]
abbrev dktX0_readLetters_5 : List UInt8 := dkwX0_readLetters_5 ++ dktX0_readLetters_6
def dkwX0_readLetters_4 : List UInt8 := [167, 255, 170, 42, 27, 153, 0, 7, 4, 167, 0, 4, 5, 181, 0, 81, 27, 153, 0, 74, 187, 0, 118, 89]
abbrev dktX0_readLetters_4 : List UInt8 := dkwX0_readLetters_4 ++ dktX0_readLetters_5
def dkwX0_readLetters_3 : List UInt8 := [180, 0, 67, 182, 0, 70, 133, 129, 181, 0, 115, 132, 2, 1, 42, 89, 180, 0, 67, 4, 96, 181, 0, 67]
abbrev dktX0_readLetters_3 : List UInt8 := dkwX0_readLetters_3 ++ dktX0_readLetters_4
def dkwX0_readLetters_2 : List UInt8 := [167, 0, 4, 3, 4, 42, 180, 0, 78, 182, 0, 98, 42, 42, 180, 0, 115, 16, 8, 121, 42, 42]
abbrev dktX0_readLetters_2 : List UInt8 := dkwX0_readLetters_2 ++ dktX0_readLetters_3
def dkwX0_readLetters_1 : List UInt8 := [180, 0, 67, 182, 0, 70, 184, 0, 92, 154, 0, 7, 28, 154, 0, 60, 42, 28, 16, 8, 162, 0, 7, 4]
abbrev dktX0_readLetters_1 : List UInt8 := dkwX0_readLetters_1 ++ dktX0_readLetters_2
def dkwX0_readLetters_0 : List UInt8 := [42, 9, 181, 0, 115, 3, 61, 42, 42, 180, 0, 67, 182, 0, 70, 184, 0, 84, 154, 0, 21, 42, 42]
abbrev dktX0_readLetters_0 : List UInt8 := dkwX0_readLetters_0 ++ dktX0_readLetters_1
theorem dksX0_readLetters_0 : cX0_readLetters.data.toList.drop 0 = dktX0_readLetters_0 := by decide +kernel
theorem dksX0_readLetters_1 : cX0_readLetters.data.toList.drop 23 = dktX0_readLetters_1 := dk_seg dksX0_readLetters_0 23 rfl rfl
theorem dksX0_readLetters_2 : cX0_readLetters.data.toList.drop 47 = dktX0_readLetters_2 := dk_seg dksX0_readLetters_1 24 rfl rfl
theorem dksX0_readLetters_3 : cX0_readLetters.data.toList.drop 69 = dktX0_readLetters_3 := dk_seg dksX0_readLetters_2 22 rfl rfl
theorem dksX0_readLetters_4 : cX0_readLetters.data.toList.drop 93 = dktX0_readLetters_4 := dk_seg dksX0_readLetters_3 24 rfl rfl
theorem dksX0_readLetters_5 : cX0_readLetters.data.toList.drop 117 = dktX0_readLetters_5 := dk_seg dksX0_readLetters_4 24 rfl rfl
theorem dksX0_readLetters_6 : cX0_readLetters.data.toList.drop 140 = dktX0_readLetters_6 := dk_seg dksX0_readLetters_5 23 rfl rfl
theorem dksX0_readLetters_7 : cX0_readLetters.data.toList.drop 163 = dktX0_readLetters_7 := dk_seg dksX0_readLetters_6 23 rfl rfl
theorem dX0_readLetters_0 : decode cX0_readLetters 0 = .ok (.aload_n 0, 1) := dk_42 (dk_at dksX0_readLetters_0 0 rfl rfl)
theorem dX0_readLetters_1 : decode cX0_readLetters 1 = .ok (.lconst 0, 1) := dk_9 (dk_at dksX0_readLetters_0 1 rfl rfl)
theorem dX0_readLetters_2 : decode cX0_readLetters 2 = .ok (.putfield 115, 3) := dk_181 0 115 (dk_at dksX0_readLetters_0 2 rfl rfl)
theorem dX0_readLetters_5 : decode cX0_readLetters 5 = .ok (.iconst 0, 1) := dk_3 (dk_at dksX0_readLetters_0 5 rfl rfl)
theorem dX0_readLetters_6 : decode cX0_readLetters 6 = .ok (.istore_n 2, 1) := dk_61 (dk_at dksX0_readLetters_0 6 rfl rfl)
theorem dX0_readLetters_7 : decode cX0_readLetters 7 = .ok (.aload_n 0, 1) := dk_42 (dk_at dksX0_readLetters_0 7 rfl rfl)
theorem dX0_readLetters_8 : decode cX0_readLetters 8 = .ok (.aload_n 0, 1) := dk_42 (dk_at dksX0_readLetters_0 8 rfl rfl)
theorem dX0_readLetters_9 : decode cX0_readLetters 9 = .ok (.getfield 67, 3) := dk_180 0 67 (dk_at dksX0_readLetters_0 9 rfl rfl)
theorem dX0_readLetters_12 : decode cX0_readLetters 12 = .ok (.invokevirtual 70, 3) := dk_182 0 70 (dk_at dksX0_readLetters_0 12 rfl rfl)
theorem dX0_readLetters_15 : decode cX0_readLetters 15 = .ok (.invokestatic 84, 3) := dk_184 0 84 (dk_at dksX0_readLetters_0 15 rfl rfl)
theorem dX0_readLetters_18 : decode cX0_readLetters 18 = .ok (.ifCond .ne 21, 3) := dk_154 0 21 (dk_at dksX0_readLetters_0 18 rfl rfl)
theorem dX0_readLetters_21 : decode cX0_readLetters 21 = .ok (.aload_n 0, 1) := dk_42 (dk_at dksX0_readLetters_0 21 rfl rfl)
theorem dX0_readLetters_22 : decode cX0_readLetters 22 = .ok (.aload_n 0, 1) := dk_42 (dk_at dksX0_readLetters_0 22 rfl rfl)
theorem dX0_readLetters_23 : decode cX0_readLetters 23 = .ok (.getfield 67, 3) := dk_180 0 67 (dk_at dksX0_readLetters_1 0 rfl rfl)
theorem dX0_readLetters_26 : decode cX0_readLetters 26 = .ok (.invokevirtual 70, 3) := dk_182 0 70 (dk_at dksX0_readLetters_1 3 rfl rfl)
theorem dX0_readLetters_29 : decode cX0_readLetters 29 = .ok (.invokestatic 92, 3) := dk_184 0 92 (dk_at dksX0_readLetters_1 6 rfl rfl)
theorem dX0_readLetters_32 : decode cX0_readLetters 32 = .ok (.ifCond .ne 7, 3) := dk_154 0 7 (dk_at dksX0_readLetters_1 9 rfl rfl)
theorem dX0_readLetters_35 : decode cX0_readLetters 35 = .ok (.iload_n 2, 1) := dk_28 (dk_at dksX0_readLetters_1 12 rfl rfl)
theorem dX0_readLetters_36 : decode cX0_readLetters 36 = .ok (.ifCond .ne 60, 3) := dk_154 0 60 (dk_at dksX0_readLetters_1 13 rfl rfl)
theorem dX0_readLetters_39 : decode cX0_readLetters 39 = .ok (.aload_n 0, 1) := dk_42 (dk_at dksX0_readLetters_1 16 rfl rfl)
theorem dX0_readLetters_40 : decode cX0_readLetters 40 = .ok (.iload_n 2, 1) := dk_28 (dk_at dksX0_readLetters_1 17 rfl rfl)
theorem dX0_readLetters_41 : decode cX0_readLetters 41 = .ok (.bipush 8, 2) := dk_16 8 (dk_at dksX0_readLetters_1 18 rfl rfl)
theorem dX0_readLetters_43 : decode cX0_readLetters 43 = .ok (.if_icmp .ge 7, 3) := dk_162 0 7 (dk_at dksX0_readLetters_1 20 rfl rfl)
theorem dX0_readLetters_46 : decode cX0_readLetters 46 = .ok (.iconst 1, 1) := dk_4 (dk_at dksX0_readLetters_1 23 rfl rfl)
theorem dX0_readLetters_47 : decode cX0_readLetters 47 = .ok (.goto 4, 3) := dk_167 0 4 (dk_at dksX0_readLetters_2 0 rfl rfl)
theorem dX0_readLetters_50 : decode cX0_readLetters 50 = .ok (.iconst 0, 1) := dk_3 (dk_at dksX0_readLetters_2 3 rfl rfl)
theorem dX0_readLetters_51 : decode cX0_readLetters 51 = .ok (.iconst 1, 1) := dk_4 (dk_at dksX0_readLetters_2 4 rfl rfl)
theorem dX0_readLetters_52 : decode cX0_readLetters 52 = .ok (.aload_n 0, 1) := dk_42 (dk_at dksX0_readLetters_2 5 rfl rfl)
theorem dX0_readLetters_53 : decode cX0_readLetters 53 = .ok (.getfield 78, 3) := dk_180 0 78 (dk_at dksX0_readLetters_2 6 rfl rfl)
theorem dX0_readLetters_56 : decode cX0_readLetters 56 = .ok (.invokevirtual 98, 3) := dk_182 0 98 (dk_at dksX0_readLetters_2 9 rfl rfl)
theorem dX0_readLetters_59 : decode cX0_readLetters 59 = .ok (.aload_n 0, 1) := dk_42 (dk_at dksX0_readLetters_2 12 rfl rfl)
theorem dX0_readLetters_60 : decode cX0_readLetters 60 = .ok (.aload_n 0, 1) := dk_42 (dk_at dksX0_readLetters_2 13 rfl rfl)
theorem dX0_readLetters_61 : decode cX0_readLetters 61 = .ok (.getfield 115, 3) := dk_180 0 115 (dk_at dksX0_readLetters_2 14 rfl rfl)
theorem dX0_readLetters_64 : decode cX0_readLetters 64 = .ok (.bipush 8, 2) := dk_16 8 (dk_at dksX0_readLetters_2 17 rfl rfl)
theorem dX0_readLetters_66 : decode cX0_readLetters 66 = .ok (.lshl, 1) := dk_121 (dk_at dksX0_readLetters_2 19 rfl rfl)
theorem dX0_readLetters_67 : decode cX0_readLetters 67 = .ok (.aload_n 0, 1) := dk_42 (dk_at dksX0_readLetters_2 20 rfl rfl)
theorem dX0_readLetters_68 : decode cX0_readLetters 68 = .ok (.aload_n 0, 1) := dk_42 (dk_at dksX0_readLetters_2 21 rfl rfl)
theorem dX0_readLetters_69 : decode cX0_readLetters 69 = .ok (.getfield 67, 3) := dk_180 0 67 (dk_at dksX0_readLetters_3 0 rfl rfl)
theorem dX0_readLetters_72 : decode cX0_readLetters 72 = .ok (.invokevirtual 70, 3) := dk_182 0 70 (dk_at dksX0_readLetters_3 3 rfl rfl)
theorem dX0_readLetters_75 : decode cX0_readLetters 75 = .ok (.i2l, 1) := dk_133 (dk_at dksX0_readLetters_3 6 rfl rfl)
theorem dX0_readLetters_76 : decode cX0_readLetters 76 = .ok (.lor, 1) := dk_129 (dk_at dksX0_readLetters_3 7 rfl rfl)
theorem dX0_readLetters_77 : decode cX0_readLetters 77 = .ok (.putfield 115, 3) := dk_181 0 115 (dk_at dksX0_readLetters_3 8 rfl rfl)
theorem dX0_readLetters_80 : decode cX0_readLetters 80 = .ok (.iinc 2 1, 3) := dk_132 2 1 (dk_at dksX0_readLetters_3 11 rfl rfl)
theorem dX0_readLetters_83 : decode cX0_readLetters 83 = .ok (.aload_n 0, 1) := dk_42 (dk_at dksX0_readLetters_3 14 rfl rfl)
theorem dX0_readLetters_84 : decode cX0_readLetters 84 = .ok (.dup, 1) := dk_89 (dk_at dksX0_readLetters_3 15 rfl rfl)
theorem dX0_readLetters_85 : decode cX0_readLetters 85 = .ok (.getfield 67, 3) := dk_180 0 67 (dk_at dksX0_readLetters_3 16 rfl rfl)
theorem dX0_readLetters_88 : decode cX0_readLetters 88 = .ok (.iconst 1, 1) := dk_4 (dk_at dksX0_readLetters_3 19 rfl rfl)
theorem dX0_readLetters_89 : decode cX0_readLetters 89 = .ok (.iadd, 1) := dk_96 (dk_at dksX0_readLetters_3 20 rfl rfl)
theorem dX0_readLetters_90 : decode cX0_readLetters 90 = .ok (.putfield 67, 3) := dk_181 0 67 (dk_at dksX0_readLetters_3 21 rfl rfl)
theorem dX0_readLetters_93 : decode cX0_readLetters 93 = .ok (.goto (-86), 3) := dk_167 255 170 (dk_at dksX0_readLetters_4 0 rfl rfl)
theorem dX0_readLetters_96 : decode cX0_readLetters 96 = .ok (.aload_n 0, 1) := dk_42 (dk_at dksX0_readLetters_4 3 rfl rfl)
theorem dX0_readLetters_97 : decode cX0_readLetters 97 = .ok (.iload_n 1, 1) := dk_27 (dk_at dksX0_readLetters_4 4 rfl rfl)
theorem dX0_readLetters_98 : decode cX0_readLetters 98 = .ok (.ifCond .eq 7, 3) := dk_153 0 7 (dk_at dksX0_readLetters_4 5 rfl rfl)
theorem dX0_readLetters_101 : decode cX0_readLetters 101 = .ok (.iconst 1, 1) := dk_4 (dk_at dksX0_readLetters_4 8 rfl rfl)
theorem dX0_readLetters_102 : decode cX0_readLetters 102 = .ok (.goto 4, 3) := dk_167 0 4 (dk_at dksX0_readLetters_4 9 rfl rfl)
theorem dX0_readLetters_105 : decode cX0_readLetters 105 = .ok (.iconst 2, 1) := dk_5 (dk_at dksX0_readLetters_4 12 rfl rfl)
theorem dX0_readLetters_106 : decode cX0_readLetters 106 = .ok (.putfield 81, 3) := dk_181 0 81 (dk_at dksX0_readLetters_4 13 rfl rfl)
theorem dX0_readLetters_109 : decode cX0_readLetters 109 = .ok (.iload_n 1, 1) := dk_27 (dk_at dksX0_readLetters_4 16 rfl rfl)
theorem dX0_readLetters_110 : decode cX0_readLetters 110 = .ok (.ifCond .eq 74, 3) := dk_153 0 74 (dk_at dksX0_readLetters_4 17 rfl rfl)
theorem dX0_readLetters_113 : decode cX0_readLetters 113 = .ok (.new 118, 3) := dk_187 0 118 (dk_at dksX0_readLetters_4 20 rfl rfl)
theorem dX0_readLetters_116 : decode cX0_readLetters 116 = .ok (.dup, 1) := dk_89 (dk_at dksX0_readLetters_4 23 rfl rfl)
theorem dX0_readLetters_117 : decode cX0_readLetters 117 = .ok (.ldc 120, 2) := dk_18 120 (dk_at dksX0_readLetters_5 0 rfl rfl)
theorem dX0_readLetters_119 : decode cX0_readLetters 119 = .ok (.invokespecial 122, 3) := dk_183 0 122 (dk_at dksX0_readLetters_5 2 rfl rfl)
theorem dX0_readLetters_122 : decode cX0_readLetters 122 = .ok (.astore_n 3, 1) := dk_78 (dk_at dksX0_readLetters_5 5 rfl rfl)
theorem dX0_readLetters_123 : decode cX0_readLetters 123 = .ok (.aload_n 0, 1) := dk_42 (dk_at dksX0_readLetters_5 6 rfl rfl)
theorem dX0_readLetters_124 : decode cX0_readLetters 124 = .ok (.getfield 78, 3) := dk_180 0 78 (dk_at dksX0_readLetters_5 7 rfl rfl)
theorem dX0_readLetters_127 : decode cX0_readLetters 127 = .ok (.istore 4, 2) := dk_54 4 (dk_at dksX0_readLetters_5 10 rfl rfl)
theorem dX0_readLetters_129 : decode cX0_readLetters 129 = .ok (.iload 4, 2) := dk_21 4 (dk_at dksX0_readLetters_5 12 rfl rfl)
theorem dX0_readLetters_131 : decode cX0_readLetters 131 = .ok (.aload_n 0, 1) := dk_42 (dk_at dksX0_readLetters_5 14 rfl rfl)
theorem dX0_readLetters_132 : decode cX0_readLetters 132 = .ok (.getfield 67, 3) := dk_180 0 67 (dk_at dksX0_readLetters_5 15 rfl rfl)
theorem dX0_readLetters_135 : decode cX0_readLetters 135 = .ok (.if_icmp .ge 22, 3) := dk_162 0 22 (dk_at dksX0_readLetters_5 18 rfl rfl)
theorem dX0_readLetters_138 : decode cX0_readLetters 138 = .ok (.aload_n 3, 1) := dk_45 (dk_at dksX0_readLetters_5 21 rfl rfl)
theorem dX0_readLetters_139 : decode cX0_readLetters 139 = .ok (.aload_n 0, 1) := dk_42 (dk_at dksX0_readLetters_5 22 rfl rfl)
theorem dX0_readLetters_140 : decode cX0_readLetters 140 = .ok (.getfield 57, 3) := dk_180 0 57 (dk_at dksX0_readLetters_6 0 rfl rfl)
theorem dX0_readLetters_143 : decode cX0_readLetters 143 = .ok (.iload 4, 2) := dk_21 4 (dk_at dksX0_readLetters_6 3 rfl rfl)
theorem dX0_readLetters_145 : decode cX0_readLetters 145 = .ok (.baload, 1) := dk_51 (dk_at dksX0_readLetters_6 5 rfl rfl)
theorem dX0_readLetters_146 : decode cX0_readLetters 146 = .ok (.i2c, 1) := dk_146 (dk_at dksX0_readLetters_6 6 rfl rfl)
theorem dX0_readLetters_147 : decode cX0_readLetters 147 = .ok (.invokevirtual 125, 3) := dk_182 0 125 (dk_at dksX0_readLetters_6 7 rfl rfl)
theorem dX0_readLetters_150 : decode cX0_readLetters 150 = .ok (.pop, 1) := dk_87 (dk_at dksX0_readLetters_6 10 rfl rfl)
theorem dX0_readLetters_151 : decode cX0_readLetters 151 = .ok (.iinc 4 1, 3) := dk_132 4 1 (dk_at dksX0_readLetters_6 11 rfl rfl)
theorem dX0_readLetters_154 : decode cX0_readLetters 154 = .ok (.goto (-25), 3) := dk_167 255 231 (dk_at dksX0_readLetters_6 14 rfl rfl)
theorem dX0_readLetters_157 : decode cX0_readLetters 157 = .ok (.aload_n 0, 1) := dk_42 (dk_at dksX0_readLetters_6 17 rfl rfl)
theorem dX0_readLetters_158 : decode cX0_readLetters 158 = .ok (.ldc 129, 2) := dk_18 129 (dk_at dksX0_readLetters_6 18 rfl rfl)
theorem dX0_readLetters_160 : decode cX0_readLetters 160 = .ok (.aload_n 3, 1) := dk_45 (dk_at dksX0_readLetters_6 20 rfl rfl)
theorem dX0_readLetters_161 : decode cX0_readLetters 161 = .ok (.bipush 124, 2) := dk_16 124 (dk_at dksX0_readLetters_6 21 rfl rfl)
theorem dX0_readLetters_163 : decode cX0_readLetters 163 = .ok (.invokevirtual 125, 3) := dk_182 0 125 (dk_at dksX0_readLetters_7 0 rfl rfl)
theorem dX0_readLetters_166 : decode cX0_readLetters 166 = .ok (.invokevirtual 131, 3) := dk_182 0 131 (dk_at dksX0_readLetters_7 3 rfl rfl)
theorem dX0_readLetters_169 : decode cX0_readLetters 169 = .ok (.invokevirtual 135, 3) := dk_182 0 135 (dk_at dksX0_readLetters_7 6 rfl rfl)
theorem dX0_readLetters_172 : decode cX0_readLetters 172 = .ok (.ifCond .eq 8, 3) := dk_153 0 8 (dk_at dksX0_readLetters_7 9 rfl rfl)
theorem dX0_readLetters_175 : decode cX0_readLetters 175 = .ok (.bipush 6, 2) := dk_16 6 (dk_at dksX0_readLetters_7 12 rfl rfl)
theorem dX0_readLetters_177 : decode cX0_readLetters 177 = .ok (.goto 4, 3) := dk_167 0 4 (dk_at dksX0_readLetters_7 14 rfl rfl)
theorem dX0_readLetters_180 : decode cX0_readLetters 180 = .ok (.iconst 1, 1) := dk_4 (dk_at dksX0_readLetters_7 17 rfl rfl)
theorem dX0_readLetters_181 : decode cX0_readLetters 181 = .ok (.putfield 81, 3) := dk_181 0 81 (dk_at dksX0_readLetters_7 18 rfl rfl)
theorem dX0_readLetters_184 : decode cX0_readLetters 184 = .ok (.return_, 1) := dk_177 (dk_at dksX0_readLetters_7 21 rfl rfl)
abbrev cX0_isFigure : ByteArray := prog_1_method_9_code
def yX0_isFigure : MethodName := ⟨RX0, "isFigure", "(I)Z"⟩
def dkwX0_isFigure_0 : List UInt8 := [26, 16, 48, 161, 0, 13, 26, 16, 57, 163, 0, 7, 4, 167, 0, 4, 3, 172]
abbrev dktX0_isFigure_0 : List UInt8 := dkwX0_isFigure_0 ++ []
theorem dksX0_isFigure_0 : cX0_isFigure.data.toList.drop 0 = dktX0_isFigure_0 := by decide +kernel
theorem dX0_isFigure_0 : decode cX0_isFigure 0 = .ok (.iload_n 0, 1) := dk_26 (dk_at dksX0_isFigure_0 0 rfl rfl)
theorem dX0_isFigure_1 : decode cX0_isFigure 1 = .ok (.bipush 48, 2) := dk_16 48 (dk_at dksX0_isFigure_0 1 rfl rfl)
theorem dX0_isFigure_3 : decode cX0_isFigure 3 = .ok (.if_icmp .lt 13, 3) := dk_161 0 13 (dk_at dksX0_isFigure_0 3 rfl rfl)
theorem dX0_isFigure_6 : decode cX0_isFigure 6 = .ok (.iload_n 0, 1) := dk_26 (dk_at dksX0_isFigure_0 6 rfl rfl)
theorem dX0_isFigure_7 : decode cX0_isFigure 7 = .ok (.bipush 57, 2) := dk_16 57 (dk_at dksX0_isFigure_0 7 rfl rfl)
theorem dX0_isFigure_9 : decode cX0_isFigure 9 = .ok (.if_icmp .gt 7, 3) := dk_163 0 7 (dk_at dksX0_isFigure_0 9 rfl rfl)
theorem dX0_isFigure_12 : decode cX0_isFigure 12 = .ok (.iconst 1, 1) := dk_4 (dk_at dksX0_isFigure_0 12 rfl rfl)
theorem dX0_isFigure_13 : decode cX0_isFigure 13 = .ok (.goto 4, 3) := dk_167 0 4 (dk_at dksX0_isFigure_0 13 rfl rfl)
theorem dX0_isFigure_16 : decode cX0_isFigure 16 = .ok (.iconst 0, 1) := dk_3 (dk_at dksX0_isFigure_0 16 rfl rfl)
theorem dX0_isFigure_17 : decode cX0_isFigure 17 = .ok (.ireturn, 1) := dk_172 (dk_at dksX0_isFigure_0 17 rfl rfl)
abbrev cX0_need : ByteArray := prog_1_method_10_code
def yX0_need : MethodName := ⟨RX0, "need", "(ZII)V"⟩
def dkwX0_need_0 : List UInt8 := [27, 154, 0, 13, 187, 0, 61, 89, 28, 29, 183, 0, 63, 191, 177]
abbrev dktX0_need_0 : List UInt8 := dkwX0_need_0 ++ []
theorem dksX0_need_0 : cX0_need.data.toList.drop 0 = dktX0_need_0 := by decide +kernel
theorem dX0_need_0 : decode cX0_need 0 = .ok (.iload_n 1, 1) := dk_27 (dk_at dksX0_need_0 0 rfl rfl)
theorem dX0_need_1 : decode cX0_need 1 = .ok (.ifCond .ne 13, 3) := dk_154 0 13 (dk_at dksX0_need_0 1 rfl rfl)
theorem dX0_need_4 : decode cX0_need 4 = .ok (.new 61, 3) := dk_187 0 61 (dk_at dksX0_need_0 4 rfl rfl)
theorem dX0_need_7 : decode cX0_need 7 = .ok (.dup, 1) := dk_89 (dk_at dksX0_need_0 7 rfl rfl)
theorem dX0_need_8 : decode cX0_need 8 = .ok (.iload_n 2, 1) := dk_28 (dk_at dksX0_need_0 8 rfl rfl)
theorem dX0_need_9 : decode cX0_need 9 = .ok (.iload_n 3, 1) := dk_29 (dk_at dksX0_need_0 9 rfl rfl)
theorem dX0_need_10 : decode cX0_need 10 = .ok (.invokespecial 63, 3) := dk_183 0 63 (dk_at dksX0_need_0 10 rfl rfl)
theorem dX0_need_13 : decode cX0_need 13 = .ok (.athrow, 1) := dk_191 (dk_at dksX0_need_0 13 rfl rfl)
theorem dX0_need_14 : decode cX0_need 14 = .ok (.return_, 1) := dk_177 (dk_at dksX0_need_0 14 rfl rfl)
abbrev cX0_quoted : ByteArray := prog_1_method_14_code
def yX0_quoted : MethodName := ⟨RX0, "quoted", "()V"⟩
def dkwX0_quoted_4 : List UInt8 := [4, 96, 181, 0, 67, 167, 255, 175, 42, 89, 180, 0, 67, 4, 96, 181, 0, 67, 42, 7, 181, 0, 81, 177]
abbrev dktX0_quoted_4 : List UInt8 := dkwX0_quoted_4 ++ []
def dkwX0_quoted_3 : List UInt8 := [16, 8, 121, 42, 42, 180, 0, 67, 182, 0, 70, 133, 129, 181, 0, 115, 132, 1, 1, 42, 89, 180, 0, 67]
abbrev dktX0_quoted_3 : List UInt8 := dkwX0_quoted_3 ++ dktX0_quoted_4
def dkwX0_quoted_2 : List UInt8 := [184, 0, 84, 153, 0, 7, 4, 167, 0, 4, 3, 4, 42, 180, 0, 78, 182, 0, 98, 42, 42, 180, 0, 115]
abbrev dktX0_quoted_2 : List UInt8 := dkwX0_quoted_2 ++ dktX0_quoted_3
def dkwX0_quoted_1 : List UInt8 := [182, 0, 70, 16, 39, 159, 0, 74, 42, 27, 16, 8, 162, 0, 21, 42, 42, 180, 0, 67, 182, 0, 70]
abbrev dktX0_quoted_1 : List UInt8 := dkwX0_quoted_1 ++ dktX0_quoted_2
def dkwX0_quoted_0 : List UInt8 := [42, 89, 180, 0, 67, 4, 96, 181, 0, 67, 42, 9, 181, 0, 115, 3, 60, 42, 42, 180, 0, 67]
abbrev dktX0_quoted_0 : List UInt8 := dkwX0_quoted_0 ++ dktX0_quoted_1
theorem dksX0_quoted_0 : cX0_quoted.data.toList.drop 0 = dktX0_quoted_0 := by decide +kernel
theorem dksX0_quoted_1 : cX0_quoted.data.toList.drop 22 = dktX0_quoted_1 := dk_seg dksX0_quoted_0 22 rfl rfl
theorem dksX0_quoted_2 : cX0_quoted.data.toList.drop 45 = dktX0_quoted_2 := dk_seg dksX0_quoted_1 23 rfl rfl
theorem dksX0_quoted_3 : cX0_quoted.data.toList.drop 69 = dktX0_quoted_3 := dk_seg dksX0_quoted_2 24 rfl rfl
theorem dksX0_quoted_4 : cX0_quoted.data.toList.drop 93 = dktX0_quoted_4 := dk_seg dksX0_quoted_3 24 rfl rfl
theorem dX0_quoted_0 : decode cX0_quoted 0 = .ok (.aload_n 0, 1) := dk_42 (dk_at dksX0_quoted_0 0 rfl rfl)
theorem dX0_quoted_1 : decode cX0_quoted 1 = .ok (.dup, 1) := dk_89 (dk_at dksX0_quoted_0 1 rfl rfl)
theorem dX0_quoted_2 : decode cX0_quoted 2 = .ok (.getfield 67, 3) := dk_180 0 67 (dk_at dksX0_quoted_0 2 rfl rfl)
theorem dX0_quoted_5 : decode cX0_quoted 5 = .ok (.iconst 1, 1) := dk_4 (dk_at dksX0_quoted_0 5 rfl rfl)
theorem dX0_quoted_6 : decode cX0_quoted 6 = .ok (.iadd, 1) := dk_96 (dk_at dksX0_quoted_0 6 rfl rfl)
theorem dX0_quoted_7 : decode cX0_quoted 7 = .ok (.putfield 67, 3) := dk_181 0 67 (dk_at dksX0_quoted_0 7 rfl rfl)
theorem dX0_quoted_10 : decode cX0_quoted 10 = .ok (.aload_n 0, 1) := dk_42 (dk_at dksX0_quoted_0 10 rfl rfl)
theorem dX0_quoted_11 : decode cX0_quoted 11 = .ok (.lconst 0, 1) := dk_9 (dk_at dksX0_quoted_0 11 rfl rfl)
theorem dX0_quoted_12 : decode cX0_quoted 12 = .ok (.putfield 115, 3) := dk_181 0 115 (dk_at dksX0_quoted_0 12 rfl rfl)
theorem dX0_quoted_15 : decode cX0_quoted 15 = .ok (.iconst 0, 1) := dk_3 (dk_at dksX0_quoted_0 15 rfl rfl)
theorem dX0_quoted_16 : decode cX0_quoted 16 = .ok (.istore_n 1, 1) := dk_60 (dk_at dksX0_quoted_0 16 rfl rfl)
theorem dX0_quoted_17 : decode cX0_quoted 17 = .ok (.aload_n 0, 1) := dk_42 (dk_at dksX0_quoted_0 17 rfl rfl)
theorem dX0_quoted_18 : decode cX0_quoted 18 = .ok (.aload_n 0, 1) := dk_42 (dk_at dksX0_quoted_0 18 rfl rfl)
theorem dX0_quoted_19 : decode cX0_quoted 19 = .ok (.getfield 67, 3) := dk_180 0 67 (dk_at dksX0_quoted_0 19 rfl rfl)
theorem dX0_quoted_22 : decode cX0_quoted 22 = .ok (.invokevirtual 70, 3) := dk_182 0 70 (dk_at dksX0_quoted_1 0 rfl rfl)
theorem dX0_quoted_25 : decode cX0_quoted 25 = .ok (.bipush 39, 2) := dk_16 39 (dk_at dksX0_quoted_1 3 rfl rfl)
theorem dX0_quoted_27 : decode cX0_quoted 27 = .ok (.if_icmp .eq 74, 3) := dk_159 0 74 (dk_at dksX0_quoted_1 5 rfl rfl)
theorem dX0_quoted_30 : decode cX0_quoted 30 = .ok (.aload_n 0, 1) := dk_42 (dk_at dksX0_quoted_1 8 rfl rfl)
theorem dX0_quoted_31 : decode cX0_quoted 31 = .ok (.iload_n 1, 1) := dk_27 (dk_at dksX0_quoted_1 9 rfl rfl)
theorem dX0_quoted_32 : decode cX0_quoted 32 = .ok (.bipush 8, 2) := dk_16 8 (dk_at dksX0_quoted_1 10 rfl rfl)
theorem dX0_quoted_34 : decode cX0_quoted 34 = .ok (.if_icmp .ge 21, 3) := dk_162 0 21 (dk_at dksX0_quoted_1 12 rfl rfl)
theorem dX0_quoted_37 : decode cX0_quoted 37 = .ok (.aload_n 0, 1) := dk_42 (dk_at dksX0_quoted_1 15 rfl rfl)
theorem dX0_quoted_38 : decode cX0_quoted 38 = .ok (.aload_n 0, 1) := dk_42 (dk_at dksX0_quoted_1 16 rfl rfl)
theorem dX0_quoted_39 : decode cX0_quoted 39 = .ok (.getfield 67, 3) := dk_180 0 67 (dk_at dksX0_quoted_1 17 rfl rfl)
theorem dX0_quoted_42 : decode cX0_quoted 42 = .ok (.invokevirtual 70, 3) := dk_182 0 70 (dk_at dksX0_quoted_1 20 rfl rfl)
theorem dX0_quoted_45 : decode cX0_quoted 45 = .ok (.invokestatic 84, 3) := dk_184 0 84 (dk_at dksX0_quoted_2 0 rfl rfl)
theorem dX0_quoted_48 : decode cX0_quoted 48 = .ok (.ifCond .eq 7, 3) := dk_153 0 7 (dk_at dksX0_quoted_2 3 rfl rfl)
theorem dX0_quoted_51 : decode cX0_quoted 51 = .ok (.iconst 1, 1) := dk_4 (dk_at dksX0_quoted_2 6 rfl rfl)
theorem dX0_quoted_52 : decode cX0_quoted 52 = .ok (.goto 4, 3) := dk_167 0 4 (dk_at dksX0_quoted_2 7 rfl rfl)
theorem dX0_quoted_55 : decode cX0_quoted 55 = .ok (.iconst 0, 1) := dk_3 (dk_at dksX0_quoted_2 10 rfl rfl)
theorem dX0_quoted_56 : decode cX0_quoted 56 = .ok (.iconst 1, 1) := dk_4 (dk_at dksX0_quoted_2 11 rfl rfl)
theorem dX0_quoted_57 : decode cX0_quoted 57 = .ok (.aload_n 0, 1) := dk_42 (dk_at dksX0_quoted_2 12 rfl rfl)
theorem dX0_quoted_58 : decode cX0_quoted 58 = .ok (.getfield 78, 3) := dk_180 0 78 (dk_at dksX0_quoted_2 13 rfl rfl)
theorem dX0_quoted_61 : decode cX0_quoted 61 = .ok (.invokevirtual 98, 3) := dk_182 0 98 (dk_at dksX0_quoted_2 16 rfl rfl)
theorem dX0_quoted_64 : decode cX0_quoted 64 = .ok (.aload_n 0, 1) := dk_42 (dk_at dksX0_quoted_2 19 rfl rfl)
theorem dX0_quoted_65 : decode cX0_quoted 65 = .ok (.aload_n 0, 1) := dk_42 (dk_at dksX0_quoted_2 20 rfl rfl)
theorem dX0_quoted_66 : decode cX0_quoted 66 = .ok (.getfield 115, 3) := dk_180 0 115 (dk_at dksX0_quoted_2 21 rfl rfl)
theorem dX0_quoted_69 : decode cX0_quoted 69 = .ok (.bipush 8, 2) := dk_16 8 (dk_at dksX0_quoted_3 0 rfl rfl)
theorem dX0_quoted_71 : decode cX0_quoted 71 = .ok (.lshl, 1) := dk_121 (dk_at dksX0_quoted_3 2 rfl rfl)
theorem dX0_quoted_72 : decode cX0_quoted 72 = .ok (.aload_n 0, 1) := dk_42 (dk_at dksX0_quoted_3 3 rfl rfl)
theorem dX0_quoted_73 : decode cX0_quoted 73 = .ok (.aload_n 0, 1) := dk_42 (dk_at dksX0_quoted_3 4 rfl rfl)
theorem dX0_quoted_74 : decode cX0_quoted 74 = .ok (.getfield 67, 3) := dk_180 0 67 (dk_at dksX0_quoted_3 5 rfl rfl)
theorem dX0_quoted_77 : decode cX0_quoted 77 = .ok (.invokevirtual 70, 3) := dk_182 0 70 (dk_at dksX0_quoted_3 8 rfl rfl)
theorem dX0_quoted_80 : decode cX0_quoted 80 = .ok (.i2l, 1) := dk_133 (dk_at dksX0_quoted_3 11 rfl rfl)
theorem dX0_quoted_81 : decode cX0_quoted 81 = .ok (.lor, 1) := dk_129 (dk_at dksX0_quoted_3 12 rfl rfl)
theorem dX0_quoted_82 : decode cX0_quoted 82 = .ok (.putfield 115, 3) := dk_181 0 115 (dk_at dksX0_quoted_3 13 rfl rfl)
theorem dX0_quoted_85 : decode cX0_quoted 85 = .ok (.iinc 1 1, 3) := dk_132 1 1 (dk_at dksX0_quoted_3 16 rfl rfl)
theorem dX0_quoted_88 : decode cX0_quoted 88 = .ok (.aload_n 0, 1) := dk_42 (dk_at dksX0_quoted_3 19 rfl rfl)
theorem dX0_quoted_89 : decode cX0_quoted 89 = .ok (.dup, 1) := dk_89 (dk_at dksX0_quoted_3 20 rfl rfl)
theorem dX0_quoted_90 : decode cX0_quoted 90 = .ok (.getfield 67, 3) := dk_180 0 67 (dk_at dksX0_quoted_3 21 rfl rfl)
theorem dX0_quoted_93 : decode cX0_quoted 93 = .ok (.iconst 1, 1) := dk_4 (dk_at dksX0_quoted_4 0 rfl rfl)
theorem dX0_quoted_94 : decode cX0_quoted 94 = .ok (.iadd, 1) := dk_96 (dk_at dksX0_quoted_4 1 rfl rfl)
theorem dX0_quoted_95 : decode cX0_quoted 95 = .ok (.putfield 67, 3) := dk_181 0 67 (dk_at dksX0_quoted_4 2 rfl rfl)
theorem dX0_quoted_98 : decode cX0_quoted 98 = .ok (.goto (-81), 3) := dk_167 255 175 (dk_at dksX0_quoted_4 5 rfl rfl)
theorem dX0_quoted_101 : decode cX0_quoted 101 = .ok (.aload_n 0, 1) := dk_42 (dk_at dksX0_quoted_4 8 rfl rfl)
theorem dX0_quoted_102 : decode cX0_quoted 102 = .ok (.dup, 1) := dk_89 (dk_at dksX0_quoted_4 9 rfl rfl)
theorem dX0_quoted_103 : decode cX0_quoted 103 = .ok (.getfield 67, 3) := dk_180 0 67 (dk_at dksX0_quoted_4 10 rfl rfl)
theorem dX0_quoted_106 : decode cX0_quoted 106 = .ok (.iconst 1, 1) := dk_4 (dk_at dksX0_quoted_4 13 rfl rfl)
theorem dX0_quoted_107 : decode cX0_quoted 107 = .ok (.iadd, 1) := dk_96 (dk_at dksX0_quoted_4 14 rfl rfl)
theorem dX0_quoted_108 : decode cX0_quoted 108 = .ok (.putfield 67, 3) := dk_181 0 67 (dk_at dksX0_quoted_4 15 rfl rfl)
theorem dX0_quoted_111 : decode cX0_quoted 111 = .ok (.aload_n 0, 1) := dk_42 (dk_at dksX0_quoted_4 18 rfl rfl)
theorem dX0_quoted_112 : decode cX0_quoted 112 = .ok (.iconst 4, 1) := dk_7 (dk_at dksX0_quoted_4 19 rfl rfl)
theorem dX0_quoted_113 : decode cX0_quoted 113 = .ok (.putfield 81, 3) := dk_181 0 81 (dk_at dksX0_quoted_4 20 rfl rfl)
theorem dX0_quoted_116 : decode cX0_quoted 116 = .ok (.return_, 1) := dk_177 (dk_at dksX0_quoted_4 23 rfl rfl)
abbrev cX0_isWord : ByteArray := prog_1_method_16_code
def yX0_isWord : MethodName := ⟨RX0, "isWord", "(Ljava/lang/String;)Z"⟩
def dkwX0_isWord_3 : List UInt8 := [132, 3, 1, 167, 255, 216, 28, 172]
abbrev dktX0_isWord_3 : List UInt8 := dkwX0_isWord_3 ++ []
def dkwX0_isWord_2 : List UInt8 := [180, 0, 57, 42, 180, 0, 78, 29, 96, 51, 43, 29, 182, 0, 142, 160, 0, 7, 4, 167, 0, 4, 3, 61]
abbrev dktX0_isWord_2 : List UInt8 := dkwX0_isWord_2 ++ dktX0_isWord_3
def dkwX0_isWord_1 : List UInt8 := [160, 0, 7, 4, 167, 0, 4, 3, 61, 3, 62, 28, 153, 0, 42, 29, 43, 182, 0, 139, 162, 0, 34, 42]
abbrev dktX0_isWord_1 : List UInt8 := dkwX0_isWord_1 ++ dktX0_isWord_2
def dkwX0_isWord_0 : List UInt8 := [42, 180, 0, 81, 16, 6, 160, 0, 23, 42, 180, 0, 67, 42, 180, 0, 78, 100, 43, 182, 0, 139]
abbrev dktX0_isWord_0 : List UInt8 := dkwX0_isWord_0 ++ dktX0_isWord_1
theorem dksX0_isWord_0 : cX0_isWord.data.toList.drop 0 = dktX0_isWord_0 := by decide +kernel
theorem dksX0_isWord_1 : cX0_isWord.data.toList.drop 22 = dktX0_isWord_1 := dk_seg dksX0_isWord_0 22 rfl rfl
theorem dksX0_isWord_2 : cX0_isWord.data.toList.drop 46 = dktX0_isWord_2 := dk_seg dksX0_isWord_1 24 rfl rfl
theorem dksX0_isWord_3 : cX0_isWord.data.toList.drop 70 = dktX0_isWord_3 := dk_seg dksX0_isWord_2 24 rfl rfl
theorem dX0_isWord_0 : decode cX0_isWord 0 = .ok (.aload_n 0, 1) := dk_42 (dk_at dksX0_isWord_0 0 rfl rfl)
theorem dX0_isWord_1 : decode cX0_isWord 1 = .ok (.getfield 81, 3) := dk_180 0 81 (dk_at dksX0_isWord_0 1 rfl rfl)
theorem dX0_isWord_4 : decode cX0_isWord 4 = .ok (.bipush 6, 2) := dk_16 6 (dk_at dksX0_isWord_0 4 rfl rfl)
theorem dX0_isWord_6 : decode cX0_isWord 6 = .ok (.if_icmp .ne 23, 3) := dk_160 0 23 (dk_at dksX0_isWord_0 6 rfl rfl)
theorem dX0_isWord_9 : decode cX0_isWord 9 = .ok (.aload_n 0, 1) := dk_42 (dk_at dksX0_isWord_0 9 rfl rfl)
theorem dX0_isWord_10 : decode cX0_isWord 10 = .ok (.getfield 67, 3) := dk_180 0 67 (dk_at dksX0_isWord_0 10 rfl rfl)
theorem dX0_isWord_13 : decode cX0_isWord 13 = .ok (.aload_n 0, 1) := dk_42 (dk_at dksX0_isWord_0 13 rfl rfl)
theorem dX0_isWord_14 : decode cX0_isWord 14 = .ok (.getfield 78, 3) := dk_180 0 78 (dk_at dksX0_isWord_0 14 rfl rfl)
theorem dX0_isWord_17 : decode cX0_isWord 17 = .ok (.isub, 1) := dk_100 (dk_at dksX0_isWord_0 17 rfl rfl)
theorem dX0_isWord_18 : decode cX0_isWord 18 = .ok (.aload_n 1, 1) := dk_43 (dk_at dksX0_isWord_0 18 rfl rfl)
theorem dX0_isWord_19 : decode cX0_isWord 19 = .ok (.invokevirtual 139, 3) := dk_182 0 139 (dk_at dksX0_isWord_0 19 rfl rfl)
theorem dX0_isWord_22 : decode cX0_isWord 22 = .ok (.if_icmp .ne 7, 3) := dk_160 0 7 (dk_at dksX0_isWord_1 0 rfl rfl)
theorem dX0_isWord_25 : decode cX0_isWord 25 = .ok (.iconst 1, 1) := dk_4 (dk_at dksX0_isWord_1 3 rfl rfl)
theorem dX0_isWord_26 : decode cX0_isWord 26 = .ok (.goto 4, 3) := dk_167 0 4 (dk_at dksX0_isWord_1 4 rfl rfl)
theorem dX0_isWord_29 : decode cX0_isWord 29 = .ok (.iconst 0, 1) := dk_3 (dk_at dksX0_isWord_1 7 rfl rfl)
theorem dX0_isWord_30 : decode cX0_isWord 30 = .ok (.istore_n 2, 1) := dk_61 (dk_at dksX0_isWord_1 8 rfl rfl)
theorem dX0_isWord_31 : decode cX0_isWord 31 = .ok (.iconst 0, 1) := dk_3 (dk_at dksX0_isWord_1 9 rfl rfl)
theorem dX0_isWord_32 : decode cX0_isWord 32 = .ok (.istore_n 3, 1) := dk_62 (dk_at dksX0_isWord_1 10 rfl rfl)
theorem dX0_isWord_33 : decode cX0_isWord 33 = .ok (.iload_n 2, 1) := dk_28 (dk_at dksX0_isWord_1 11 rfl rfl)
theorem dX0_isWord_34 : decode cX0_isWord 34 = .ok (.ifCond .eq 42, 3) := dk_153 0 42 (dk_at dksX0_isWord_1 12 rfl rfl)
theorem dX0_isWord_37 : decode cX0_isWord 37 = .ok (.iload_n 3, 1) := dk_29 (dk_at dksX0_isWord_1 15 rfl rfl)
theorem dX0_isWord_38 : decode cX0_isWord 38 = .ok (.aload_n 1, 1) := dk_43 (dk_at dksX0_isWord_1 16 rfl rfl)
theorem dX0_isWord_39 : decode cX0_isWord 39 = .ok (.invokevirtual 139, 3) := dk_182 0 139 (dk_at dksX0_isWord_1 17 rfl rfl)
theorem dX0_isWord_42 : decode cX0_isWord 42 = .ok (.if_icmp .ge 34, 3) := dk_162 0 34 (dk_at dksX0_isWord_1 20 rfl rfl)
theorem dX0_isWord_45 : decode cX0_isWord 45 = .ok (.aload_n 0, 1) := dk_42 (dk_at dksX0_isWord_1 23 rfl rfl)
theorem dX0_isWord_46 : decode cX0_isWord 46 = .ok (.getfield 57, 3) := dk_180 0 57 (dk_at dksX0_isWord_2 0 rfl rfl)
theorem dX0_isWord_49 : decode cX0_isWord 49 = .ok (.aload_n 0, 1) := dk_42 (dk_at dksX0_isWord_2 3 rfl rfl)
theorem dX0_isWord_50 : decode cX0_isWord 50 = .ok (.getfield 78, 3) := dk_180 0 78 (dk_at dksX0_isWord_2 4 rfl rfl)
theorem dX0_isWord_53 : decode cX0_isWord 53 = .ok (.iload_n 3, 1) := dk_29 (dk_at dksX0_isWord_2 7 rfl rfl)
theorem dX0_isWord_54 : decode cX0_isWord 54 = .ok (.iadd, 1) := dk_96 (dk_at dksX0_isWord_2 8 rfl rfl)
theorem dX0_isWord_55 : decode cX0_isWord 55 = .ok (.baload, 1) := dk_51 (dk_at dksX0_isWord_2 9 rfl rfl)
theorem dX0_isWord_56 : decode cX0_isWord 56 = .ok (.aload_n 1, 1) := dk_43 (dk_at dksX0_isWord_2 10 rfl rfl)
theorem dX0_isWord_57 : decode cX0_isWord 57 = .ok (.iload_n 3, 1) := dk_29 (dk_at dksX0_isWord_2 11 rfl rfl)
theorem dX0_isWord_58 : decode cX0_isWord 58 = .ok (.invokevirtual 142, 3) := dk_182 0 142 (dk_at dksX0_isWord_2 12 rfl rfl)
theorem dX0_isWord_61 : decode cX0_isWord 61 = .ok (.if_icmp .ne 7, 3) := dk_160 0 7 (dk_at dksX0_isWord_2 15 rfl rfl)
theorem dX0_isWord_64 : decode cX0_isWord 64 = .ok (.iconst 1, 1) := dk_4 (dk_at dksX0_isWord_2 18 rfl rfl)
theorem dX0_isWord_65 : decode cX0_isWord 65 = .ok (.goto 4, 3) := dk_167 0 4 (dk_at dksX0_isWord_2 19 rfl rfl)
theorem dX0_isWord_68 : decode cX0_isWord 68 = .ok (.iconst 0, 1) := dk_3 (dk_at dksX0_isWord_2 22 rfl rfl)
theorem dX0_isWord_69 : decode cX0_isWord 69 = .ok (.istore_n 2, 1) := dk_61 (dk_at dksX0_isWord_2 23 rfl rfl)
theorem dX0_isWord_70 : decode cX0_isWord 70 = .ok (.iinc 3 1, 3) := dk_132 3 1 (dk_at dksX0_isWord_3 0 rfl rfl)
theorem dX0_isWord_73 : decode cX0_isWord 73 = .ok (.goto (-40), 3) := dk_167 255 216 (dk_at dksX0_isWord_3 3 rfl rfl)
theorem dX0_isWord_76 : decode cX0_isWord 76 = .ok (.iload_n 2, 1) := dk_28 (dk_at dksX0_isWord_3 6 rfl rfl)
theorem dX0_isWord_77 : decode cX0_isWord 77 = .ok (.ireturn, 1) := dk_172 (dk_at dksX0_isWord_3 7 rfl rfl)
abbrev cX0_readKind : ByteArray := prog_1_method_20_code
def yX0_readKind : MethodName := ⟨RX0, "readKind", "(Z)V"⟩
def dkwX0_readKind_14 : List UInt8 := [182, 0, 146, 182, 0, 149, 25, 4, 198, 0, 9, 25, 4, 4, 181, 0, 175, 177]
abbrev dktX0_readKind_14 : List UInt8 := dkwX0_readKind_14 ++ []
def dkwX0_readKind_13 : List UInt8 := [42, 182, 0, 152, 42, 16, 44, 182, 0, 146, 154, 255, 188, 42, 16, 41, 182, 0, 189, 42, 42, 16, 59]
abbrev dktX0_readKind_13 : List UInt8 := dkwX0_readKind_13 ++ dktX0_readKind_14
def dkwX0_readKind_12 : List UInt8 := [25, 5, 180, 0, 185, 25, 5, 180, 0, 172, 21, 6, 79, 25, 5, 89, 180, 0, 172, 4, 96, 181, 0, 172]
abbrev dktX0_readKind_12 : List UInt8 := dkwX0_readKind_12 ++ dktX0_readKind_13
def dkwX0_readKind_11 : List UInt8 := [25, 5, 180, 0, 172, 7, 162, 0, 7, 4, 167, 0, 4, 3, 16, 9, 42, 180, 0, 78, 182, 0, 98]
abbrev dktX0_readKind_11 : List UInt8 := dkwX0_readKind_11 ++ dktX0_readKind_12
def dkwX0_readKind_10 : List UInt8 := [181, 0, 7, 42, 16, 40, 182, 0, 146, 153, 0, 80, 42, 182, 0, 152, 42, 182, 0, 182, 54, 6, 42]
abbrev dktX0_readKind_10 : List UInt8 := dkwX0_readKind_10 ++ dktX0_readKind_11
def dkwX0_readKind_9 : List UInt8 := [183, 0, 179, 58, 5, 42, 180, 0, 1, 42, 180, 0, 7, 25, 5, 83, 42, 89, 180, 0, 7, 4, 96]
abbrev dktX0_readKind_9 : List UInt8 := dkwX0_readKind_9 ++ dktX0_readKind_10
def dkwX0_readKind_8 : List UInt8 := [42, 180, 0, 78, 182, 0, 98, 42, 182, 0, 152, 187, 0, 12, 89, 42, 180, 0, 7, 32, 25, 4]
abbrev dktX0_readKind_8 : List UInt8 := dkwX0_readKind_8 ++ dktX0_readKind_9
def dkwX0_readKind_7 : List UInt8 := [180, 0, 172, 154, 0, 19, 27, 153, 0, 11, 25, 4, 180, 0, 175, 153, 0, 7, 4, 167, 0, 4, 3, 8]
abbrev dktX0_readKind_7 : List UInt8 := dkwX0_readKind_7 ++ dktX0_readKind_8
def dkwX0_readKind_6 : List UInt8 := [58, 4, 42, 25, 4, 198, 0, 7, 4, 167, 0, 4, 3, 7, 42, 180, 0, 78, 182, 0, 98, 42, 25, 4]
abbrev dktX0_readKind_6 : List UInt8 := dkwX0_readKind_6 ++ dktX0_readKind_7
def dkwX0_readKind_5 : List UInt8 := [180, 0, 81, 5, 160, 0, 7, 4, 167, 0, 4, 3, 182, 0, 149, 42, 42, 180, 0, 115, 182, 0, 155]
abbrev dktX0_readKind_5 : List UInt8 := dkwX0_readKind_5 ++ dktX0_readKind_6
def dkwX0_readKind_4 : List UInt8 := [167, 0, 4, 3, 182, 0, 149, 42, 18, 170, 182, 0, 162, 153, 0, 91, 42, 182, 0, 152, 42, 42]
abbrev dktX0_readKind_4 : List UInt8 := dkwX0_readKind_4 ++ dktX0_readKind_5
def dkwX0_readKind_3 : List UInt8 := [42, 182, 0, 152, 1, 58, 4, 42, 27, 153, 0, 12, 42, 18, 170, 182, 0, 162, 153, 0, 7, 4]
abbrev dktX0_readKind_3 : List UInt8 := dkwX0_readKind_3 ++ dktX0_readKind_4
def dkwX0_readKind_2 : List UInt8 := [16, 24, 162, 0, 7, 4, 167, 0, 4, 3, 16, 9, 42, 180, 0, 78, 182, 0, 98, 42, 180, 0, 115, 65]
abbrev dktX0_readKind_2 : List UInt8 := dkwX0_readKind_2 ++ dktX0_readKind_3
def dkwX0_readKind_1 : List UInt8 := [182, 0, 155, 199, 0, 7, 4, 167, 0, 4, 3, 6, 42, 180, 0, 78, 182, 0, 98, 42, 42, 180, 0, 7]
abbrev dktX0_readKind_1 : List UInt8 := dkwX0_readKind_1 ++ dktX0_readKind_2
def dkwX0_readKind_0 : List UInt8 := [42, 42, 180, 0, 81, 5, 160, 0, 7, 4, 167, 0, 4, 3, 182, 0, 149, 42, 42, 42, 180, 0, 115]
abbrev dktX0_readKind_0 : List UInt8 := dkwX0_readKind_0 ++ dktX0_readKind_1
theorem dksX0_readKind_0 : cX0_readKind.data.toList.drop 0 = dktX0_readKind_0 := by decide +kernel
theorem dksX0_readKind_1 : cX0_readKind.data.toList.drop 23 = dktX0_readKind_1 := dk_seg dksX0_readKind_0 23 rfl rfl
theorem dksX0_readKind_2 : cX0_readKind.data.toList.drop 47 = dktX0_readKind_2 := dk_seg dksX0_readKind_1 24 rfl rfl
theorem dksX0_readKind_3 : cX0_readKind.data.toList.drop 71 = dktX0_readKind_3 := dk_seg dksX0_readKind_2 24 rfl rfl
theorem dksX0_readKind_4 : cX0_readKind.data.toList.drop 93 = dktX0_readKind_4 := dk_seg dksX0_readKind_3 22 rfl rfl
theorem dksX0_readKind_5 : cX0_readKind.data.toList.drop 115 = dktX0_readKind_5 := dk_seg dksX0_readKind_4 22 rfl rfl
theorem dksX0_readKind_6 : cX0_readKind.data.toList.drop 138 = dktX0_readKind_6 := dk_seg dksX0_readKind_5 23 rfl rfl
theorem dksX0_readKind_7 : cX0_readKind.data.toList.drop 162 = dktX0_readKind_7 := dk_seg dksX0_readKind_6 24 rfl rfl
theorem dksX0_readKind_8 : cX0_readKind.data.toList.drop 186 = dktX0_readKind_8 := dk_seg dksX0_readKind_7 24 rfl rfl
theorem dksX0_readKind_9 : cX0_readKind.data.toList.drop 208 = dktX0_readKind_9 := dk_seg dksX0_readKind_8 22 rfl rfl
theorem dksX0_readKind_10 : cX0_readKind.data.toList.drop 231 = dktX0_readKind_10 := dk_seg dksX0_readKind_9 23 rfl rfl
theorem dksX0_readKind_11 : cX0_readKind.data.toList.drop 254 = dktX0_readKind_11 := dk_seg dksX0_readKind_10 23 rfl rfl
theorem dksX0_readKind_12 : cX0_readKind.data.toList.drop 277 = dktX0_readKind_12 := dk_seg dksX0_readKind_11 23 rfl rfl
theorem dksX0_readKind_13 : cX0_readKind.data.toList.drop 301 = dktX0_readKind_13 := dk_seg dksX0_readKind_12 24 rfl rfl
theorem dksX0_readKind_14 : cX0_readKind.data.toList.drop 324 = dktX0_readKind_14 := dk_seg dksX0_readKind_13 23 rfl rfl
theorem dX0_readKind_0 : decode cX0_readKind 0 = .ok (.aload_n 0, 1) := dk_42 (dk_at dksX0_readKind_0 0 rfl rfl)
theorem dX0_readKind_1 : decode cX0_readKind 1 = .ok (.aload_n 0, 1) := dk_42 (dk_at dksX0_readKind_0 1 rfl rfl)
theorem dX0_readKind_2 : decode cX0_readKind 2 = .ok (.getfield 81, 3) := dk_180 0 81 (dk_at dksX0_readKind_0 2 rfl rfl)
theorem dX0_readKind_5 : decode cX0_readKind 5 = .ok (.iconst 2, 1) := dk_5 (dk_at dksX0_readKind_0 5 rfl rfl)
theorem dX0_readKind_6 : decode cX0_readKind 6 = .ok (.if_icmp .ne 7, 3) := dk_160 0 7 (dk_at dksX0_readKind_0 6 rfl rfl)
theorem dX0_readKind_9 : decode cX0_readKind 9 = .ok (.iconst 1, 1) := dk_4 (dk_at dksX0_readKind_0 9 rfl rfl)
theorem dX0_readKind_10 : decode cX0_readKind 10 = .ok (.goto 4, 3) := dk_167 0 4 (dk_at dksX0_readKind_0 10 rfl rfl)
theorem dX0_readKind_13 : decode cX0_readKind 13 = .ok (.iconst 0, 1) := dk_3 (dk_at dksX0_readKind_0 13 rfl rfl)
theorem dX0_readKind_14 : decode cX0_readKind 14 = .ok (.invokevirtual 149, 3) := dk_182 0 149 (dk_at dksX0_readKind_0 14 rfl rfl)
theorem dX0_readKind_17 : decode cX0_readKind 17 = .ok (.aload_n 0, 1) := dk_42 (dk_at dksX0_readKind_0 17 rfl rfl)
theorem dX0_readKind_18 : decode cX0_readKind 18 = .ok (.aload_n 0, 1) := dk_42 (dk_at dksX0_readKind_0 18 rfl rfl)
theorem dX0_readKind_19 : decode cX0_readKind 19 = .ok (.aload_n 0, 1) := dk_42 (dk_at dksX0_readKind_0 19 rfl rfl)
theorem dX0_readKind_20 : decode cX0_readKind 20 = .ok (.getfield 115, 3) := dk_180 0 115 (dk_at dksX0_readKind_0 20 rfl rfl)
theorem dX0_readKind_23 : decode cX0_readKind 23 = .ok (.invokevirtual 155, 3) := dk_182 0 155 (dk_at dksX0_readKind_1 0 rfl rfl)
theorem dX0_readKind_26 : decode cX0_readKind 26 = .ok (.ifnonnull 7, 3) := dk_199 0 7 (dk_at dksX0_readKind_1 3 rfl rfl)
theorem dX0_readKind_29 : decode cX0_readKind 29 = .ok (.iconst 1, 1) := dk_4 (dk_at dksX0_readKind_1 6 rfl rfl)
theorem dX0_readKind_30 : decode cX0_readKind 30 = .ok (.goto 4, 3) := dk_167 0 4 (dk_at dksX0_readKind_1 7 rfl rfl)
theorem dX0_readKind_33 : decode cX0_readKind 33 = .ok (.iconst 0, 1) := dk_3 (dk_at dksX0_readKind_1 10 rfl rfl)
theorem dX0_readKind_34 : decode cX0_readKind 34 = .ok (.iconst 3, 1) := dk_6 (dk_at dksX0_readKind_1 11 rfl rfl)
theorem dX0_readKind_35 : decode cX0_readKind 35 = .ok (.aload_n 0, 1) := dk_42 (dk_at dksX0_readKind_1 12 rfl rfl)
theorem dX0_readKind_36 : decode cX0_readKind 36 = .ok (.getfield 78, 3) := dk_180 0 78 (dk_at dksX0_readKind_1 13 rfl rfl)
theorem dX0_readKind_39 : decode cX0_readKind 39 = .ok (.invokevirtual 98, 3) := dk_182 0 98 (dk_at dksX0_readKind_1 16 rfl rfl)
theorem dX0_readKind_42 : decode cX0_readKind 42 = .ok (.aload_n 0, 1) := dk_42 (dk_at dksX0_readKind_1 19 rfl rfl)
theorem dX0_readKind_43 : decode cX0_readKind 43 = .ok (.aload_n 0, 1) := dk_42 (dk_at dksX0_readKind_1 20 rfl rfl)
theorem dX0_readKind_44 : decode cX0_readKind 44 = .ok (.getfield 7, 3) := dk_180 0 7 (dk_at dksX0_readKind_1 21 rfl rfl)
theorem dX0_readKind_47 : decode cX0_readKind 47 = .ok (.bipush 24, 2) := dk_16 24 (dk_at dksX0_readKind_2 0 rfl rfl)
theorem dX0_readKind_49 : decode cX0_readKind 49 = .ok (.if_icmp .ge 7, 3) := dk_162 0 7 (dk_at dksX0_readKind_2 2 rfl rfl)
theorem dX0_readKind_52 : decode cX0_readKind 52 = .ok (.iconst 1, 1) := dk_4 (dk_at dksX0_readKind_2 5 rfl rfl)
theorem dX0_readKind_53 : decode cX0_readKind 53 = .ok (.goto 4, 3) := dk_167 0 4 (dk_at dksX0_readKind_2 6 rfl rfl)
theorem dX0_readKind_56 : decode cX0_readKind 56 = .ok (.iconst 0, 1) := dk_3 (dk_at dksX0_readKind_2 9 rfl rfl)
theorem dX0_readKind_57 : decode cX0_readKind 57 = .ok (.bipush 9, 2) := dk_16 9 (dk_at dksX0_readKind_2 10 rfl rfl)
theorem dX0_readKind_59 : decode cX0_readKind 59 = .ok (.aload_n 0, 1) := dk_42 (dk_at dksX0_readKind_2 12 rfl rfl)
theorem dX0_readKind_60 : decode cX0_readKind 60 = .ok (.getfield 78, 3) := dk_180 0 78 (dk_at dksX0_readKind_2 13 rfl rfl)
theorem dX0_readKind_63 : decode cX0_readKind 63 = .ok (.invokevirtual 98, 3) := dk_182 0 98 (dk_at dksX0_readKind_2 16 rfl rfl)
theorem dX0_readKind_66 : decode cX0_readKind 66 = .ok (.aload_n 0, 1) := dk_42 (dk_at dksX0_readKind_2 19 rfl rfl)
theorem dX0_readKind_67 : decode cX0_readKind 67 = .ok (.getfield 115, 3) := dk_180 0 115 (dk_at dksX0_readKind_2 20 rfl rfl)
theorem dX0_readKind_70 : decode cX0_readKind 70 = .ok (.lstore_n 2, 1) := dk_65 (dk_at dksX0_readKind_2 23 rfl rfl)
theorem dX0_readKind_71 : decode cX0_readKind 71 = .ok (.aload_n 0, 1) := dk_42 (dk_at dksX0_readKind_3 0 rfl rfl)
theorem dX0_readKind_72 : decode cX0_readKind 72 = .ok (.invokevirtual 152, 3) := dk_182 0 152 (dk_at dksX0_readKind_3 1 rfl rfl)
theorem dX0_readKind_75 : decode cX0_readKind 75 = .ok (.aconst_null, 1) := dk_1 (dk_at dksX0_readKind_3 4 rfl rfl)
theorem dX0_readKind_76 : decode cX0_readKind 76 = .ok (.astore 4, 2) := dk_58 4 (dk_at dksX0_readKind_3 5 rfl rfl)
theorem dX0_readKind_78 : decode cX0_readKind 78 = .ok (.aload_n 0, 1) := dk_42 (dk_at dksX0_readKind_3 7 rfl rfl)
theorem dX0_readKind_79 : decode cX0_readKind 79 = .ok (.iload_n 1, 1) := dk_27 (dk_at dksX0_readKind_3 8 rfl rfl)
theorem dX0_readKind_80 : decode cX0_readKind 80 = .ok (.ifCond .eq 12, 3) := dk_153 0 12 (dk_at dksX0_readKind_3 9 rfl rfl)
theorem dX0_readKind_83 : decode cX0_readKind 83 = .ok (.aload_n 0, 1) := dk_42 (dk_at dksX0_readKind_3 12 rfl rfl)
theorem dX0_readKind_84 : decode cX0_readKind 84 = .ok (.ldc 170, 2) := dk_18 170 (dk_at dksX0_readKind_3 13 rfl rfl)
theorem dX0_readKind_86 : decode cX0_readKind 86 = .ok (.invokevirtual 162, 3) := dk_182 0 162 (dk_at dksX0_readKind_3 15 rfl rfl)
theorem dX0_readKind_89 : decode cX0_readKind 89 = .ok (.ifCond .eq 7, 3) := dk_153 0 7 (dk_at dksX0_readKind_3 18 rfl rfl)
theorem dX0_readKind_92 : decode cX0_readKind 92 = .ok (.iconst 1, 1) := dk_4 (dk_at dksX0_readKind_3 21 rfl rfl)
theorem dX0_readKind_93 : decode cX0_readKind 93 = .ok (.goto 4, 3) := dk_167 0 4 (dk_at dksX0_readKind_4 0 rfl rfl)
theorem dX0_readKind_96 : decode cX0_readKind 96 = .ok (.iconst 0, 1) := dk_3 (dk_at dksX0_readKind_4 3 rfl rfl)
theorem dX0_readKind_97 : decode cX0_readKind 97 = .ok (.invokevirtual 149, 3) := dk_182 0 149 (dk_at dksX0_readKind_4 4 rfl rfl)
theorem dX0_readKind_100 : decode cX0_readKind 100 = .ok (.aload_n 0, 1) := dk_42 (dk_at dksX0_readKind_4 7 rfl rfl)
theorem dX0_readKind_101 : decode cX0_readKind 101 = .ok (.ldc 170, 2) := dk_18 170 (dk_at dksX0_readKind_4 8 rfl rfl)
theorem dX0_readKind_103 : decode cX0_readKind 103 = .ok (.invokevirtual 162, 3) := dk_182 0 162 (dk_at dksX0_readKind_4 10 rfl rfl)
theorem dX0_readKind_106 : decode cX0_readKind 106 = .ok (.ifCond .eq 91, 3) := dk_153 0 91 (dk_at dksX0_readKind_4 13 rfl rfl)
theorem dX0_readKind_109 : decode cX0_readKind 109 = .ok (.aload_n 0, 1) := dk_42 (dk_at dksX0_readKind_4 16 rfl rfl)
theorem dX0_readKind_110 : decode cX0_readKind 110 = .ok (.invokevirtual 152, 3) := dk_182 0 152 (dk_at dksX0_readKind_4 17 rfl rfl)
theorem dX0_readKind_113 : decode cX0_readKind 113 = .ok (.aload_n 0, 1) := dk_42 (dk_at dksX0_readKind_4 20 rfl rfl)
theorem dX0_readKind_114 : decode cX0_readKind 114 = .ok (.aload_n 0, 1) := dk_42 (dk_at dksX0_readKind_4 21 rfl rfl)
theorem dX0_readKind_115 : decode cX0_readKind 115 = .ok (.getfield 81, 3) := dk_180 0 81 (dk_at dksX0_readKind_5 0 rfl rfl)
theorem dX0_readKind_118 : decode cX0_readKind 118 = .ok (.iconst 2, 1) := dk_5 (dk_at dksX0_readKind_5 3 rfl rfl)
theorem dX0_readKind_119 : decode cX0_readKind 119 = .ok (.if_icmp .ne 7, 3) := dk_160 0 7 (dk_at dksX0_readKind_5 4 rfl rfl)
theorem dX0_readKind_122 : decode cX0_readKind 122 = .ok (.iconst 1, 1) := dk_4 (dk_at dksX0_readKind_5 7 rfl rfl)
theorem dX0_readKind_123 : decode cX0_readKind 123 = .ok (.goto 4, 3) := dk_167 0 4 (dk_at dksX0_readKind_5 8 rfl rfl)
theorem dX0_readKind_126 : decode cX0_readKind 126 = .ok (.iconst 0, 1) := dk_3 (dk_at dksX0_readKind_5 11 rfl rfl)
theorem dX0_readKind_127 : decode cX0_readKind 127 = .ok (.invokevirtual 149, 3) := dk_182 0 149 (dk_at dksX0_readKind_5 12 rfl rfl)
theorem dX0_readKind_130 : decode cX0_readKind 130 = .ok (.aload_n 0, 1) := dk_42 (dk_at dksX0_readKind_5 15 rfl rfl)
theorem dX0_readKind_131 : decode cX0_readKind 131 = .ok (.aload_n 0, 1) := dk_42 (dk_at dksX0_readKind_5 16 rfl rfl)
theorem dX0_readKind_132 : decode cX0_readKind 132 = .ok (.getfield 115, 3) := dk_180 0 115 (dk_at dksX0_readKind_5 17 rfl rfl)
theorem dX0_readKind_135 : decode cX0_readKind 135 = .ok (.invokevirtual 155, 3) := dk_182 0 155 (dk_at dksX0_readKind_5 20 rfl rfl)
theorem dX0_readKind_138 : decode cX0_readKind 138 = .ok (.astore 4, 2) := dk_58 4 (dk_at dksX0_readKind_6 0 rfl rfl)
theorem dX0_readKind_140 : decode cX0_readKind 140 = .ok (.aload_n 0, 1) := dk_42 (dk_at dksX0_readKind_6 2 rfl rfl)
theorem dX0_readKind_141 : decode cX0_readKind 141 = .ok (.aload 4, 2) := dk_25 4 (dk_at dksX0_readKind_6 3 rfl rfl)
theorem dX0_readKind_143 : decode cX0_readKind 143 = .ok (.ifnull 7, 3) := dk_198 0 7 (dk_at dksX0_readKind_6 5 rfl rfl)
theorem dX0_readKind_146 : decode cX0_readKind 146 = .ok (.iconst 1, 1) := dk_4 (dk_at dksX0_readKind_6 8 rfl rfl)
theorem dX0_readKind_147 : decode cX0_readKind 147 = .ok (.goto 4, 3) := dk_167 0 4 (dk_at dksX0_readKind_6 9 rfl rfl)
theorem dX0_readKind_150 : decode cX0_readKind 150 = .ok (.iconst 0, 1) := dk_3 (dk_at dksX0_readKind_6 12 rfl rfl)
theorem dX0_readKind_151 : decode cX0_readKind 151 = .ok (.iconst 4, 1) := dk_7 (dk_at dksX0_readKind_6 13 rfl rfl)
theorem dX0_readKind_152 : decode cX0_readKind 152 = .ok (.aload_n 0, 1) := dk_42 (dk_at dksX0_readKind_6 14 rfl rfl)
theorem dX0_readKind_153 : decode cX0_readKind 153 = .ok (.getfield 78, 3) := dk_180 0 78 (dk_at dksX0_readKind_6 15 rfl rfl)
theorem dX0_readKind_156 : decode cX0_readKind 156 = .ok (.invokevirtual 98, 3) := dk_182 0 98 (dk_at dksX0_readKind_6 18 rfl rfl)
theorem dX0_readKind_159 : decode cX0_readKind 159 = .ok (.aload_n 0, 1) := dk_42 (dk_at dksX0_readKind_6 21 rfl rfl)
theorem dX0_readKind_160 : decode cX0_readKind 160 = .ok (.aload 4, 2) := dk_25 4 (dk_at dksX0_readKind_6 22 rfl rfl)
theorem dX0_readKind_162 : decode cX0_readKind 162 = .ok (.getfield 172, 3) := dk_180 0 172 (dk_at dksX0_readKind_7 0 rfl rfl)
theorem dX0_readKind_165 : decode cX0_readKind 165 = .ok (.ifCond .ne 19, 3) := dk_154 0 19 (dk_at dksX0_readKind_7 3 rfl rfl)
theorem dX0_readKind_168 : decode cX0_readKind 168 = .ok (.iload_n 1, 1) := dk_27 (dk_at dksX0_readKind_7 6 rfl rfl)
theorem dX0_readKind_169 : decode cX0_readKind 169 = .ok (.ifCond .eq 11, 3) := dk_153 0 11 (dk_at dksX0_readKind_7 7 rfl rfl)
theorem dX0_readKind_172 : decode cX0_readKind 172 = .ok (.aload 4, 2) := dk_25 4 (dk_at dksX0_readKind_7 10 rfl rfl)
theorem dX0_readKind_174 : decode cX0_readKind 174 = .ok (.getfield 175, 3) := dk_180 0 175 (dk_at dksX0_readKind_7 12 rfl rfl)
theorem dX0_readKind_177 : decode cX0_readKind 177 = .ok (.ifCond .eq 7, 3) := dk_153 0 7 (dk_at dksX0_readKind_7 15 rfl rfl)
theorem dX0_readKind_180 : decode cX0_readKind 180 = .ok (.iconst 1, 1) := dk_4 (dk_at dksX0_readKind_7 18 rfl rfl)
theorem dX0_readKind_181 : decode cX0_readKind 181 = .ok (.goto 4, 3) := dk_167 0 4 (dk_at dksX0_readKind_7 19 rfl rfl)
theorem dX0_readKind_184 : decode cX0_readKind 184 = .ok (.iconst 0, 1) := dk_3 (dk_at dksX0_readKind_7 22 rfl rfl)
theorem dX0_readKind_185 : decode cX0_readKind 185 = .ok (.iconst 5, 1) := dk_8 (dk_at dksX0_readKind_7 23 rfl rfl)
theorem dX0_readKind_186 : decode cX0_readKind 186 = .ok (.aload_n 0, 1) := dk_42 (dk_at dksX0_readKind_8 0 rfl rfl)
theorem dX0_readKind_187 : decode cX0_readKind 187 = .ok (.getfield 78, 3) := dk_180 0 78 (dk_at dksX0_readKind_8 1 rfl rfl)
theorem dX0_readKind_190 : decode cX0_readKind 190 = .ok (.invokevirtual 98, 3) := dk_182 0 98 (dk_at dksX0_readKind_8 4 rfl rfl)
theorem dX0_readKind_193 : decode cX0_readKind 193 = .ok (.aload_n 0, 1) := dk_42 (dk_at dksX0_readKind_8 7 rfl rfl)
theorem dX0_readKind_194 : decode cX0_readKind 194 = .ok (.invokevirtual 152, 3) := dk_182 0 152 (dk_at dksX0_readKind_8 8 rfl rfl)
theorem dX0_readKind_197 : decode cX0_readKind 197 = .ok (.new 12, 3) := dk_187 0 12 (dk_at dksX0_readKind_8 11 rfl rfl)
theorem dX0_readKind_200 : decode cX0_readKind 200 = .ok (.dup, 1) := dk_89 (dk_at dksX0_readKind_8 14 rfl rfl)
theorem dX0_readKind_201 : decode cX0_readKind 201 = .ok (.aload_n 0, 1) := dk_42 (dk_at dksX0_readKind_8 15 rfl rfl)
theorem dX0_readKind_202 : decode cX0_readKind 202 = .ok (.getfield 7, 3) := dk_180 0 7 (dk_at dksX0_readKind_8 16 rfl rfl)
theorem dX0_readKind_205 : decode cX0_readKind 205 = .ok (.lload_n 2, 1) := dk_32 (dk_at dksX0_readKind_8 19 rfl rfl)
theorem dX0_readKind_206 : decode cX0_readKind 206 = .ok (.aload 4, 2) := dk_25 4 (dk_at dksX0_readKind_8 20 rfl rfl)
theorem dX0_readKind_208 : decode cX0_readKind 208 = .ok (.invokespecial 179, 3) := dk_183 0 179 (dk_at dksX0_readKind_9 0 rfl rfl)
theorem dX0_readKind_211 : decode cX0_readKind 211 = .ok (.astore 5, 2) := dk_58 5 (dk_at dksX0_readKind_9 3 rfl rfl)
theorem dX0_readKind_213 : decode cX0_readKind 213 = .ok (.aload_n 0, 1) := dk_42 (dk_at dksX0_readKind_9 5 rfl rfl)
theorem dX0_readKind_214 : decode cX0_readKind 214 = .ok (.getfield 1, 3) := dk_180 0 1 (dk_at dksX0_readKind_9 6 rfl rfl)
theorem dX0_readKind_217 : decode cX0_readKind 217 = .ok (.aload_n 0, 1) := dk_42 (dk_at dksX0_readKind_9 9 rfl rfl)
theorem dX0_readKind_218 : decode cX0_readKind 218 = .ok (.getfield 7, 3) := dk_180 0 7 (dk_at dksX0_readKind_9 10 rfl rfl)
theorem dX0_readKind_221 : decode cX0_readKind 221 = .ok (.aload 5, 2) := dk_25 5 (dk_at dksX0_readKind_9 13 rfl rfl)
theorem dX0_readKind_223 : decode cX0_readKind 223 = .ok (.aastore, 1) := dk_83 (dk_at dksX0_readKind_9 15 rfl rfl)
theorem dX0_readKind_224 : decode cX0_readKind 224 = .ok (.aload_n 0, 1) := dk_42 (dk_at dksX0_readKind_9 16 rfl rfl)
theorem dX0_readKind_225 : decode cX0_readKind 225 = .ok (.dup, 1) := dk_89 (dk_at dksX0_readKind_9 17 rfl rfl)
theorem dX0_readKind_226 : decode cX0_readKind 226 = .ok (.getfield 7, 3) := dk_180 0 7 (dk_at dksX0_readKind_9 18 rfl rfl)
theorem dX0_readKind_229 : decode cX0_readKind 229 = .ok (.iconst 1, 1) := dk_4 (dk_at dksX0_readKind_9 21 rfl rfl)
theorem dX0_readKind_230 : decode cX0_readKind 230 = .ok (.iadd, 1) := dk_96 (dk_at dksX0_readKind_9 22 rfl rfl)
theorem dX0_readKind_231 : decode cX0_readKind 231 = .ok (.putfield 7, 3) := dk_181 0 7 (dk_at dksX0_readKind_10 0 rfl rfl)
theorem dX0_readKind_234 : decode cX0_readKind 234 = .ok (.aload_n 0, 1) := dk_42 (dk_at dksX0_readKind_10 3 rfl rfl)
theorem dX0_readKind_235 : decode cX0_readKind 235 = .ok (.bipush 40, 2) := dk_16 40 (dk_at dksX0_readKind_10 4 rfl rfl)
theorem dX0_readKind_237 : decode cX0_readKind 237 = .ok (.invokevirtual 146, 3) := dk_182 0 146 (dk_at dksX0_readKind_10 6 rfl rfl)
theorem dX0_readKind_240 : decode cX0_readKind 240 = .ok (.ifCond .eq 80, 3) := dk_153 0 80 (dk_at dksX0_readKind_10 9 rfl rfl)
theorem dX0_readKind_243 : decode cX0_readKind 243 = .ok (.aload_n 0, 1) := dk_42 (dk_at dksX0_readKind_10 12 rfl rfl)
theorem dX0_readKind_244 : decode cX0_readKind 244 = .ok (.invokevirtual 152, 3) := dk_182 0 152 (dk_at dksX0_readKind_10 13 rfl rfl)
theorem dX0_readKind_247 : decode cX0_readKind 247 = .ok (.aload_n 0, 1) := dk_42 (dk_at dksX0_readKind_10 16 rfl rfl)
theorem dX0_readKind_248 : decode cX0_readKind 248 = .ok (.invokevirtual 182, 3) := dk_182 0 182 (dk_at dksX0_readKind_10 17 rfl rfl)
theorem dX0_readKind_251 : decode cX0_readKind 251 = .ok (.istore 6, 2) := dk_54 6 (dk_at dksX0_readKind_10 20 rfl rfl)
theorem dX0_readKind_253 : decode cX0_readKind 253 = .ok (.aload_n 0, 1) := dk_42 (dk_at dksX0_readKind_10 22 rfl rfl)
theorem dX0_readKind_254 : decode cX0_readKind 254 = .ok (.aload 5, 2) := dk_25 5 (dk_at dksX0_readKind_11 0 rfl rfl)
theorem dX0_readKind_256 : decode cX0_readKind 256 = .ok (.getfield 172, 3) := dk_180 0 172 (dk_at dksX0_readKind_11 2 rfl rfl)
theorem dX0_readKind_259 : decode cX0_readKind 259 = .ok (.iconst 4, 1) := dk_7 (dk_at dksX0_readKind_11 5 rfl rfl)
theorem dX0_readKind_260 : decode cX0_readKind 260 = .ok (.if_icmp .ge 7, 3) := dk_162 0 7 (dk_at dksX0_readKind_11 6 rfl rfl)
theorem dX0_readKind_263 : decode cX0_readKind 263 = .ok (.iconst 1, 1) := dk_4 (dk_at dksX0_readKind_11 9 rfl rfl)
theorem dX0_readKind_264 : decode cX0_readKind 264 = .ok (.goto 4, 3) := dk_167 0 4 (dk_at dksX0_readKind_11 10 rfl rfl)
theorem dX0_readKind_267 : decode cX0_readKind 267 = .ok (.iconst 0, 1) := dk_3 (dk_at dksX0_readKind_11 13 rfl rfl)
theorem dX0_readKind_268 : decode cX0_readKind 268 = .ok (.bipush 9, 2) := dk_16 9 (dk_at dksX0_readKind_11 14 rfl rfl)
theorem dX0_readKind_270 : decode cX0_readKind 270 = .ok (.aload_n 0, 1) := dk_42 (dk_at dksX0_readKind_11 16 rfl rfl)
theorem dX0_readKind_271 : decode cX0_readKind 271 = .ok (.getfield 78, 3) := dk_180 0 78 (dk_at dksX0_readKind_11 17 rfl rfl)
theorem dX0_readKind_274 : decode cX0_readKind 274 = .ok (.invokevirtual 98, 3) := dk_182 0 98 (dk_at dksX0_readKind_11 20 rfl rfl)
theorem dX0_readKind_277 : decode cX0_readKind 277 = .ok (.aload 5, 2) := dk_25 5 (dk_at dksX0_readKind_12 0 rfl rfl)
theorem dX0_readKind_279 : decode cX0_readKind 279 = .ok (.getfield 185, 3) := dk_180 0 185 (dk_at dksX0_readKind_12 2 rfl rfl)
theorem dX0_readKind_282 : decode cX0_readKind 282 = .ok (.aload 5, 2) := dk_25 5 (dk_at dksX0_readKind_12 5 rfl rfl)
theorem dX0_readKind_284 : decode cX0_readKind 284 = .ok (.getfield 172, 3) := dk_180 0 172 (dk_at dksX0_readKind_12 7 rfl rfl)
theorem dX0_readKind_287 : decode cX0_readKind 287 = .ok (.iload 6, 2) := dk_21 6 (dk_at dksX0_readKind_12 10 rfl rfl)
theorem dX0_readKind_289 : decode cX0_readKind 289 = .ok (.iastore, 1) := dk_79 (dk_at dksX0_readKind_12 12 rfl rfl)
theorem dX0_readKind_290 : decode cX0_readKind 290 = .ok (.aload 5, 2) := dk_25 5 (dk_at dksX0_readKind_12 13 rfl rfl)
theorem dX0_readKind_292 : decode cX0_readKind 292 = .ok (.dup, 1) := dk_89 (dk_at dksX0_readKind_12 15 rfl rfl)
theorem dX0_readKind_293 : decode cX0_readKind 293 = .ok (.getfield 172, 3) := dk_180 0 172 (dk_at dksX0_readKind_12 16 rfl rfl)
theorem dX0_readKind_296 : decode cX0_readKind 296 = .ok (.iconst 1, 1) := dk_4 (dk_at dksX0_readKind_12 19 rfl rfl)
theorem dX0_readKind_297 : decode cX0_readKind 297 = .ok (.iadd, 1) := dk_96 (dk_at dksX0_readKind_12 20 rfl rfl)
theorem dX0_readKind_298 : decode cX0_readKind 298 = .ok (.putfield 172, 3) := dk_181 0 172 (dk_at dksX0_readKind_12 21 rfl rfl)
theorem dX0_readKind_301 : decode cX0_readKind 301 = .ok (.aload_n 0, 1) := dk_42 (dk_at dksX0_readKind_13 0 rfl rfl)
theorem dX0_readKind_302 : decode cX0_readKind 302 = .ok (.invokevirtual 152, 3) := dk_182 0 152 (dk_at dksX0_readKind_13 1 rfl rfl)
theorem dX0_readKind_305 : decode cX0_readKind 305 = .ok (.aload_n 0, 1) := dk_42 (dk_at dksX0_readKind_13 4 rfl rfl)
theorem dX0_readKind_306 : decode cX0_readKind 306 = .ok (.bipush 44, 2) := dk_16 44 (dk_at dksX0_readKind_13 5 rfl rfl)
theorem dX0_readKind_308 : decode cX0_readKind 308 = .ok (.invokevirtual 146, 3) := dk_182 0 146 (dk_at dksX0_readKind_13 7 rfl rfl)
theorem dX0_readKind_311 : decode cX0_readKind 311 = .ok (.ifCond .ne (-68), 3) := dk_154 255 188 (dk_at dksX0_readKind_13 10 rfl rfl)
theorem dX0_readKind_314 : decode cX0_readKind 314 = .ok (.aload_n 0, 1) := dk_42 (dk_at dksX0_readKind_13 13 rfl rfl)
theorem dX0_readKind_315 : decode cX0_readKind 315 = .ok (.bipush 41, 2) := dk_16 41 (dk_at dksX0_readKind_13 14 rfl rfl)
theorem dX0_readKind_317 : decode cX0_readKind 317 = .ok (.invokevirtual 189, 3) := dk_182 0 189 (dk_at dksX0_readKind_13 16 rfl rfl)
theorem dX0_readKind_320 : decode cX0_readKind 320 = .ok (.aload_n 0, 1) := dk_42 (dk_at dksX0_readKind_13 19 rfl rfl)
theorem dX0_readKind_321 : decode cX0_readKind 321 = .ok (.aload_n 0, 1) := dk_42 (dk_at dksX0_readKind_13 20 rfl rfl)
theorem dX0_readKind_322 : decode cX0_readKind 322 = .ok (.bipush 59, 2) := dk_16 59 (dk_at dksX0_readKind_13 21 rfl rfl)
theorem dX0_readKind_324 : decode cX0_readKind 324 = .ok (.invokevirtual 146, 3) := dk_182 0 146 (dk_at dksX0_readKind_14 0 rfl rfl)
theorem dX0_readKind_327 : decode cX0_readKind 327 = .ok (.invokevirtual 149, 3) := dk_182 0 149 (dk_at dksX0_readKind_14 3 rfl rfl)
theorem dX0_readKind_330 : decode cX0_readKind 330 = .ok (.aload 4, 2) := dk_25 4 (dk_at dksX0_readKind_14 6 rfl rfl)
theorem dX0_readKind_332 : decode cX0_readKind 332 = .ok (.ifnull 9, 3) := dk_198 0 9 (dk_at dksX0_readKind_14 8 rfl rfl)
theorem dX0_readKind_335 : decode cX0_readKind 335 = .ok (.aload 4, 2) := dk_25 4 (dk_at dksX0_readKind_14 11 rfl rfl)
theorem dX0_readKind_337 : decode cX0_readKind 337 = .ok (.iconst 1, 1) := dk_4 (dk_at dksX0_readKind_14 13 rfl rfl)
theorem dX0_readKind_338 : decode cX0_readKind 338 = .ok (.putfield 175, 3) := dk_181 0 175 (dk_at dksX0_readKind_14 14 rfl rfl)
theorem dX0_readKind_341 : decode cX0_readKind 341 = .ok (.return_, 1) := dk_177 (dk_at dksX0_readKind_14 17 rfl rfl)
abbrev cX0_want : ByteArray := prog_1_method_17_code
def yX0_want : MethodName := ⟨RX0, "want", "(Z)V"⟩
def dkwX0_want_0 : List UInt8 := [42, 27, 5, 42, 180, 0, 78, 182, 0, 98, 177]
abbrev dktX0_want_0 : List UInt8 := dkwX0_want_0 ++ []
theorem dksX0_want_0 : cX0_want.data.toList.drop 0 = dktX0_want_0 := by decide +kernel
theorem dX0_want_0 : decode cX0_want 0 = .ok (.aload_n 0, 1) := dk_42 (dk_at dksX0_want_0 0 rfl rfl)
theorem dX0_want_1 : decode cX0_want 1 = .ok (.iload_n 1, 1) := dk_27 (dk_at dksX0_want_0 1 rfl rfl)
theorem dX0_want_2 : decode cX0_want 2 = .ok (.iconst 2, 1) := dk_5 (dk_at dksX0_want_0 2 rfl rfl)
theorem dX0_want_3 : decode cX0_want 3 = .ok (.aload_n 0, 1) := dk_42 (dk_at dksX0_want_0 3 rfl rfl)
theorem dX0_want_4 : decode cX0_want 4 = .ok (.getfield 78, 3) := dk_180 0 78 (dk_at dksX0_want_0 4 rfl rfl)
theorem dX0_want_7 : decode cX0_want 7 = .ok (.invokevirtual 98, 3) := dk_182 0 98 (dk_at dksX0_want_0 7 rfl rfl)
theorem dX0_want_10 : decode cX0_want 10 = .ok (.return_, 1) := dk_177 (dk_at dksX0_want_0 10 rfl rfl)
abbrev cX0_named : ByteArray := prog_1_method_3_code
def yX0_named : MethodName := ⟨RX0, "named", "(J)LLetterPost$Kind;"⟩
def dkwX0_named_1 : List UInt8 := [42, 180, 0, 1, 29, 50, 176, 132, 3, 1, 167, 255, 224, 1, 176]
abbrev dktX0_named_1 : List UInt8 := dkwX0_named_1 ++ []
def dkwX0_named_0 : List UInt8 := [3, 62, 29, 42, 180, 0, 7, 162, 0, 30, 42, 180, 0, 1, 29, 50, 180, 0, 11, 31, 148, 154, 0, 10]
abbrev dktX0_named_0 : List UInt8 := dkwX0_named_0 ++ dktX0_named_1
theorem dksX0_named_0 : cX0_named.data.toList.drop 0 = dktX0_named_0 := by decide +kernel
theorem dksX0_named_1 : cX0_named.data.toList.drop 24 = dktX0_named_1 := dk_seg dksX0_named_0 24 rfl rfl
theorem dX0_named_0 : decode cX0_named 0 = .ok (.iconst 0, 1) := dk_3 (dk_at dksX0_named_0 0 rfl rfl)
theorem dX0_named_1 : decode cX0_named 1 = .ok (.istore_n 3, 1) := dk_62 (dk_at dksX0_named_0 1 rfl rfl)
theorem dX0_named_2 : decode cX0_named 2 = .ok (.iload_n 3, 1) := dk_29 (dk_at dksX0_named_0 2 rfl rfl)
theorem dX0_named_3 : decode cX0_named 3 = .ok (.aload_n 0, 1) := dk_42 (dk_at dksX0_named_0 3 rfl rfl)
theorem dX0_named_4 : decode cX0_named 4 = .ok (.getfield 7, 3) := dk_180 0 7 (dk_at dksX0_named_0 4 rfl rfl)
theorem dX0_named_7 : decode cX0_named 7 = .ok (.if_icmp .ge 30, 3) := dk_162 0 30 (dk_at dksX0_named_0 7 rfl rfl)
theorem dX0_named_10 : decode cX0_named 10 = .ok (.aload_n 0, 1) := dk_42 (dk_at dksX0_named_0 10 rfl rfl)
theorem dX0_named_11 : decode cX0_named 11 = .ok (.getfield 1, 3) := dk_180 0 1 (dk_at dksX0_named_0 11 rfl rfl)
theorem dX0_named_14 : decode cX0_named 14 = .ok (.iload_n 3, 1) := dk_29 (dk_at dksX0_named_0 14 rfl rfl)
theorem dX0_named_15 : decode cX0_named 15 = .ok (.aaload, 1) := dk_50 (dk_at dksX0_named_0 15 rfl rfl)
theorem dX0_named_16 : decode cX0_named 16 = .ok (.getfield 11, 3) := dk_180 0 11 (dk_at dksX0_named_0 16 rfl rfl)
theorem dX0_named_19 : decode cX0_named 19 = .ok (.lload_n 1, 1) := dk_31 (dk_at dksX0_named_0 19 rfl rfl)
theorem dX0_named_20 : decode cX0_named 20 = .ok (.lcmp, 1) := dk_148 (dk_at dksX0_named_0 20 rfl rfl)
theorem dX0_named_21 : decode cX0_named 21 = .ok (.ifCond .ne 10, 3) := dk_154 0 10 (dk_at dksX0_named_0 21 rfl rfl)
theorem dX0_named_24 : decode cX0_named 24 = .ok (.aload_n 0, 1) := dk_42 (dk_at dksX0_named_1 0 rfl rfl)
theorem dX0_named_25 : decode cX0_named 25 = .ok (.getfield 1, 3) := dk_180 0 1 (dk_at dksX0_named_1 1 rfl rfl)
theorem dX0_named_28 : decode cX0_named 28 = .ok (.iload_n 3, 1) := dk_29 (dk_at dksX0_named_1 4 rfl rfl)
theorem dX0_named_29 : decode cX0_named 29 = .ok (.aaload, 1) := dk_50 (dk_at dksX0_named_1 5 rfl rfl)
theorem dX0_named_30 : decode cX0_named 30 = .ok (.areturn, 1) := dk_176 (dk_at dksX0_named_1 6 rfl rfl)
theorem dX0_named_31 : decode cX0_named 31 = .ok (.iinc 3 1, 3) := dk_132 3 1 (dk_at dksX0_named_1 7 rfl rfl)
theorem dX0_named_34 : decode cX0_named 34 = .ok (.goto (-32), 3) := dk_167 255 224 (dk_at dksX0_named_1 10 rfl rfl)
theorem dX0_named_37 : decode cX0_named 37 = .ok (.aconst_null, 1) := dk_1 (dk_at dksX0_named_1 13 rfl rfl)
theorem dX0_named_38 : decode cX0_named 38 = .ok (.areturn, 1) := dk_176 (dk_at dksX0_named_1 14 rfl rfl)
abbrev cX0_isSign : ByteArray := prog_1_method_15_code
def yX0_isSign : MethodName := ⟨RX0, "isSign", "(I)Z"⟩
def dkwX0_isSign_0 : List UInt8 := [42, 180, 0, 81, 8, 160, 0, 15, 42, 180, 0, 112, 27, 160, 0, 7, 4, 167, 0, 4, 3, 172]
abbrev dktX0_isSign_0 : List UInt8 := dkwX0_isSign_0 ++ []
theorem dksX0_isSign_0 : cX0_isSign.data.toList.drop 0 = dktX0_isSign_0 := by decide +kernel
theorem dX0_isSign_0 : decode cX0_isSign 0 = .ok (.aload_n 0, 1) := dk_42 (dk_at dksX0_isSign_0 0 rfl rfl)
theorem dX0_isSign_1 : decode cX0_isSign 1 = .ok (.getfield 81, 3) := dk_180 0 81 (dk_at dksX0_isSign_0 1 rfl rfl)
theorem dX0_isSign_4 : decode cX0_isSign 4 = .ok (.iconst 5, 1) := dk_8 (dk_at dksX0_isSign_0 4 rfl rfl)
theorem dX0_isSign_5 : decode cX0_isSign 5 = .ok (.if_icmp .ne 15, 3) := dk_160 0 15 (dk_at dksX0_isSign_0 5 rfl rfl)
theorem dX0_isSign_8 : decode cX0_isSign 8 = .ok (.aload_n 0, 1) := dk_42 (dk_at dksX0_isSign_0 8 rfl rfl)
theorem dX0_isSign_9 : decode cX0_isSign 9 = .ok (.getfield 112, 3) := dk_180 0 112 (dk_at dksX0_isSign_0 9 rfl rfl)
theorem dX0_isSign_12 : decode cX0_isSign 12 = .ok (.iload_n 1, 1) := dk_27 (dk_at dksX0_isSign_0 12 rfl rfl)
theorem dX0_isSign_13 : decode cX0_isSign 13 = .ok (.if_icmp .ne 7, 3) := dk_160 0 7 (dk_at dksX0_isSign_0 13 rfl rfl)
theorem dX0_isSign_16 : decode cX0_isSign 16 = .ok (.iconst 1, 1) := dk_4 (dk_at dksX0_isSign_0 16 rfl rfl)
theorem dX0_isSign_17 : decode cX0_isSign 17 = .ok (.goto 4, 3) := dk_167 0 4 (dk_at dksX0_isSign_0 17 rfl rfl)
theorem dX0_isSign_20 : decode cX0_isSign 20 = .ok (.iconst 0, 1) := dk_3 (dk_at dksX0_isSign_0 20 rfl rfl)
theorem dX0_isSign_21 : decode cX0_isSign 21 = .ok (.ireturn, 1) := dk_172 (dk_at dksX0_isSign_0 21 rfl rfl)
abbrev cX0_readSort : ByteArray := prog_1_method_19_code
def yX0_readSort : MethodName := ⟨RX0, "readSort", "()I"⟩
def dkwX0_readSort_4 : List UInt8 := [42, 18, 166, 182, 0, 162, 153, 0, 7, 4, 167, 0, 4, 5, 60, 27, 172]
abbrev dktX0_readSort_4 : List UInt8 := dkwX0_readSort_4 ++ []
def dkwX0_readSort_3 : List UInt8 := [153, 0, 7, 4, 167, 0, 4, 3, 182, 0, 149, 42, 18, 160, 182, 0, 162, 153, 0, 7, 3, 167, 0, 17]
abbrev dktX0_readSort_3 : List UInt8 := dkwX0_readSort_3 ++ dktX0_readSort_4
def dkwX0_readSort_2 : List UInt8 := [18, 160, 182, 0, 162, 154, 0, 21, 42, 18, 166, 182, 0, 162, 154, 0, 12, 42, 18, 168, 182, 0, 162]
abbrev dktX0_readSort_2 : List UInt8 := dkwX0_readSort_2 ++ dktX0_readSort_3
def dkwX0_readSort_1 : List UInt8 := [167, 0, 4, 3, 7, 42, 180, 0, 78, 182, 0, 98, 6, 44, 180, 0, 159, 96, 60, 167, 0, 67, 42, 42]
abbrev dktX0_readSort_1 : List UInt8 := dkwX0_readSort_1 ++ dktX0_readSort_2
def dkwX0_readSort_0 : List UInt8 := [42, 180, 0, 81, 5, 160, 0, 40, 42, 42, 180, 0, 115, 182, 0, 155, 77, 42, 44, 198, 0, 7, 4]
abbrev dktX0_readSort_0 : List UInt8 := dkwX0_readSort_0 ++ dktX0_readSort_1
theorem dksX0_readSort_0 : cX0_readSort.data.toList.drop 0 = dktX0_readSort_0 := by decide +kernel
theorem dksX0_readSort_1 : cX0_readSort.data.toList.drop 23 = dktX0_readSort_1 := dk_seg dksX0_readSort_0 23 rfl rfl
theorem dksX0_readSort_2 : cX0_readSort.data.toList.drop 47 = dktX0_readSort_2 := dk_seg dksX0_readSort_1 24 rfl rfl
theorem dksX0_readSort_3 : cX0_readSort.data.toList.drop 70 = dktX0_readSort_3 := dk_seg dksX0_readSort_2 23 rfl rfl
theorem dksX0_readSort_4 : cX0_readSort.data.toList.drop 94 = dktX0_readSort_4 := dk_seg dksX0_readSort_3 24 rfl rfl
theorem dX0_readSort_0 : decode cX0_readSort 0 = .ok (.aload_n 0, 1) := dk_42 (dk_at dksX0_readSort_0 0 rfl rfl)
theorem dX0_readSort_1 : decode cX0_readSort 1 = .ok (.getfield 81, 3) := dk_180 0 81 (dk_at dksX0_readSort_0 1 rfl rfl)
theorem dX0_readSort_4 : decode cX0_readSort 4 = .ok (.iconst 2, 1) := dk_5 (dk_at dksX0_readSort_0 4 rfl rfl)
theorem dX0_readSort_5 : decode cX0_readSort 5 = .ok (.if_icmp .ne 40, 3) := dk_160 0 40 (dk_at dksX0_readSort_0 5 rfl rfl)
theorem dX0_readSort_8 : decode cX0_readSort 8 = .ok (.aload_n 0, 1) := dk_42 (dk_at dksX0_readSort_0 8 rfl rfl)
theorem dX0_readSort_9 : decode cX0_readSort 9 = .ok (.aload_n 0, 1) := dk_42 (dk_at dksX0_readSort_0 9 rfl rfl)
theorem dX0_readSort_10 : decode cX0_readSort 10 = .ok (.getfield 115, 3) := dk_180 0 115 (dk_at dksX0_readSort_0 10 rfl rfl)
theorem dX0_readSort_13 : decode cX0_readSort 13 = .ok (.invokevirtual 155, 3) := dk_182 0 155 (dk_at dksX0_readSort_0 13 rfl rfl)
theorem dX0_readSort_16 : decode cX0_readSort 16 = .ok (.astore_n 2, 1) := dk_77 (dk_at dksX0_readSort_0 16 rfl rfl)
theorem dX0_readSort_17 : decode cX0_readSort 17 = .ok (.aload_n 0, 1) := dk_42 (dk_at dksX0_readSort_0 17 rfl rfl)
theorem dX0_readSort_18 : decode cX0_readSort 18 = .ok (.aload_n 2, 1) := dk_44 (dk_at dksX0_readSort_0 18 rfl rfl)
theorem dX0_readSort_19 : decode cX0_readSort 19 = .ok (.ifnull 7, 3) := dk_198 0 7 (dk_at dksX0_readSort_0 19 rfl rfl)
theorem dX0_readSort_22 : decode cX0_readSort 22 = .ok (.iconst 1, 1) := dk_4 (dk_at dksX0_readSort_0 22 rfl rfl)
theorem dX0_readSort_23 : decode cX0_readSort 23 = .ok (.goto 4, 3) := dk_167 0 4 (dk_at dksX0_readSort_1 0 rfl rfl)
theorem dX0_readSort_26 : decode cX0_readSort 26 = .ok (.iconst 0, 1) := dk_3 (dk_at dksX0_readSort_1 3 rfl rfl)
theorem dX0_readSort_27 : decode cX0_readSort 27 = .ok (.iconst 4, 1) := dk_7 (dk_at dksX0_readSort_1 4 rfl rfl)
theorem dX0_readSort_28 : decode cX0_readSort 28 = .ok (.aload_n 0, 1) := dk_42 (dk_at dksX0_readSort_1 5 rfl rfl)
theorem dX0_readSort_29 : decode cX0_readSort 29 = .ok (.getfield 78, 3) := dk_180 0 78 (dk_at dksX0_readSort_1 6 rfl rfl)
theorem dX0_readSort_32 : decode cX0_readSort 32 = .ok (.invokevirtual 98, 3) := dk_182 0 98 (dk_at dksX0_readSort_1 9 rfl rfl)
theorem dX0_readSort_35 : decode cX0_readSort 35 = .ok (.iconst 3, 1) := dk_6 (dk_at dksX0_readSort_1 12 rfl rfl)
theorem dX0_readSort_36 : decode cX0_readSort 36 = .ok (.aload_n 2, 1) := dk_44 (dk_at dksX0_readSort_1 13 rfl rfl)
theorem dX0_readSort_37 : decode cX0_readSort 37 = .ok (.getfield 159, 3) := dk_180 0 159 (dk_at dksX0_readSort_1 14 rfl rfl)
theorem dX0_readSort_40 : decode cX0_readSort 40 = .ok (.iadd, 1) := dk_96 (dk_at dksX0_readSort_1 17 rfl rfl)
theorem dX0_readSort_41 : decode cX0_readSort 41 = .ok (.istore_n 1, 1) := dk_60 (dk_at dksX0_readSort_1 18 rfl rfl)
theorem dX0_readSort_42 : decode cX0_readSort 42 = .ok (.goto 67, 3) := dk_167 0 67 (dk_at dksX0_readSort_1 19 rfl rfl)
theorem dX0_readSort_45 : decode cX0_readSort 45 = .ok (.aload_n 0, 1) := dk_42 (dk_at dksX0_readSort_1 22 rfl rfl)
theorem dX0_readSort_46 : decode cX0_readSort 46 = .ok (.aload_n 0, 1) := dk_42 (dk_at dksX0_readSort_1 23 rfl rfl)
theorem dX0_readSort_47 : decode cX0_readSort 47 = .ok (.ldc 160, 2) := dk_18 160 (dk_at dksX0_readSort_2 0 rfl rfl)
theorem dX0_readSort_49 : decode cX0_readSort 49 = .ok (.invokevirtual 162, 3) := dk_182 0 162 (dk_at dksX0_readSort_2 2 rfl rfl)
theorem dX0_readSort_52 : decode cX0_readSort 52 = .ok (.ifCond .ne 21, 3) := dk_154 0 21 (dk_at dksX0_readSort_2 5 rfl rfl)
theorem dX0_readSort_55 : decode cX0_readSort 55 = .ok (.aload_n 0, 1) := dk_42 (dk_at dksX0_readSort_2 8 rfl rfl)
theorem dX0_readSort_56 : decode cX0_readSort 56 = .ok (.ldc 166, 2) := dk_18 166 (dk_at dksX0_readSort_2 9 rfl rfl)
theorem dX0_readSort_58 : decode cX0_readSort 58 = .ok (.invokevirtual 162, 3) := dk_182 0 162 (dk_at dksX0_readSort_2 11 rfl rfl)
theorem dX0_readSort_61 : decode cX0_readSort 61 = .ok (.ifCond .ne 12, 3) := dk_154 0 12 (dk_at dksX0_readSort_2 14 rfl rfl)
theorem dX0_readSort_64 : decode cX0_readSort 64 = .ok (.aload_n 0, 1) := dk_42 (dk_at dksX0_readSort_2 17 rfl rfl)
theorem dX0_readSort_65 : decode cX0_readSort 65 = .ok (.ldc 168, 2) := dk_18 168 (dk_at dksX0_readSort_2 18 rfl rfl)
theorem dX0_readSort_67 : decode cX0_readSort 67 = .ok (.invokevirtual 162, 3) := dk_182 0 162 (dk_at dksX0_readSort_2 20 rfl rfl)
theorem dX0_readSort_70 : decode cX0_readSort 70 = .ok (.ifCond .eq 7, 3) := dk_153 0 7 (dk_at dksX0_readSort_3 0 rfl rfl)
theorem dX0_readSort_73 : decode cX0_readSort 73 = .ok (.iconst 1, 1) := dk_4 (dk_at dksX0_readSort_3 3 rfl rfl)
theorem dX0_readSort_74 : decode cX0_readSort 74 = .ok (.goto 4, 3) := dk_167 0 4 (dk_at dksX0_readSort_3 4 rfl rfl)
theorem dX0_readSort_77 : decode cX0_readSort 77 = .ok (.iconst 0, 1) := dk_3 (dk_at dksX0_readSort_3 7 rfl rfl)
theorem dX0_readSort_78 : decode cX0_readSort 78 = .ok (.invokevirtual 149, 3) := dk_182 0 149 (dk_at dksX0_readSort_3 8 rfl rfl)
theorem dX0_readSort_81 : decode cX0_readSort 81 = .ok (.aload_n 0, 1) := dk_42 (dk_at dksX0_readSort_3 11 rfl rfl)
theorem dX0_readSort_82 : decode cX0_readSort 82 = .ok (.ldc 160, 2) := dk_18 160 (dk_at dksX0_readSort_3 12 rfl rfl)
theorem dX0_readSort_84 : decode cX0_readSort 84 = .ok (.invokevirtual 162, 3) := dk_182 0 162 (dk_at dksX0_readSort_3 14 rfl rfl)
theorem dX0_readSort_87 : decode cX0_readSort 87 = .ok (.ifCond .eq 7, 3) := dk_153 0 7 (dk_at dksX0_readSort_3 17 rfl rfl)
theorem dX0_readSort_90 : decode cX0_readSort 90 = .ok (.iconst 0, 1) := dk_3 (dk_at dksX0_readSort_3 20 rfl rfl)
theorem dX0_readSort_91 : decode cX0_readSort 91 = .ok (.goto 17, 3) := dk_167 0 17 (dk_at dksX0_readSort_3 21 rfl rfl)
theorem dX0_readSort_94 : decode cX0_readSort 94 = .ok (.aload_n 0, 1) := dk_42 (dk_at dksX0_readSort_4 0 rfl rfl)
theorem dX0_readSort_95 : decode cX0_readSort 95 = .ok (.ldc 166, 2) := dk_18 166 (dk_at dksX0_readSort_4 1 rfl rfl)
theorem dX0_readSort_97 : decode cX0_readSort 97 = .ok (.invokevirtual 162, 3) := dk_182 0 162 (dk_at dksX0_readSort_4 3 rfl rfl)
theorem dX0_readSort_100 : decode cX0_readSort 100 = .ok (.ifCond .eq 7, 3) := dk_153 0 7 (dk_at dksX0_readSort_4 6 rfl rfl)
theorem dX0_readSort_103 : decode cX0_readSort 103 = .ok (.iconst 1, 1) := dk_4 (dk_at dksX0_readSort_4 9 rfl rfl)
theorem dX0_readSort_104 : decode cX0_readSort 104 = .ok (.goto 4, 3) := dk_167 0 4 (dk_at dksX0_readSort_4 10 rfl rfl)
theorem dX0_readSort_107 : decode cX0_readSort 107 = .ok (.iconst 2, 1) := dk_5 (dk_at dksX0_readSort_4 13 rfl rfl)
theorem dX0_readSort_108 : decode cX0_readSort 108 = .ok (.istore_n 1, 1) := dk_60 (dk_at dksX0_readSort_4 14 rfl rfl)
theorem dX0_readSort_109 : decode cX0_readSort 109 = .ok (.iload_n 1, 1) := dk_27 (dk_at dksX0_readSort_4 15 rfl rfl)
theorem dX0_readSort_110 : decode cX0_readSort 110 = .ok (.ireturn, 1) := dk_172 (dk_at dksX0_readSort_4 16 rfl rfl)
abbrev cX0_skip : ByteArray := prog_1_method_18_code
def yX0_skip : MethodName := ⟨RX0, "skip", "(I)V"⟩
def dkwX0_skip_0 : List UInt8 := [42, 42, 27, 182, 0, 146, 182, 0, 149, 42, 182, 0, 152, 177]
abbrev dktX0_skip_0 : List UInt8 := dkwX0_skip_0 ++ []
theorem dksX0_skip_0 : cX0_skip.data.toList.drop 0 = dktX0_skip_0 := by decide +kernel
theorem dX0_skip_0 : decode cX0_skip 0 = .ok (.aload_n 0, 1) := dk_42 (dk_at dksX0_skip_0 0 rfl rfl)
theorem dX0_skip_1 : decode cX0_skip 1 = .ok (.aload_n 0, 1) := dk_42 (dk_at dksX0_skip_0 1 rfl rfl)
theorem dX0_skip_2 : decode cX0_skip 2 = .ok (.iload_n 1, 1) := dk_27 (dk_at dksX0_skip_0 2 rfl rfl)
theorem dX0_skip_3 : decode cX0_skip 3 = .ok (.invokevirtual 146, 3) := dk_182 0 146 (dk_at dksX0_skip_0 3 rfl rfl)
theorem dX0_skip_6 : decode cX0_skip 6 = .ok (.invokevirtual 149, 3) := dk_182 0 149 (dk_at dksX0_skip_0 6 rfl rfl)
theorem dX0_skip_9 : decode cX0_skip 9 = .ok (.aload_n 0, 1) := dk_42 (dk_at dksX0_skip_0 9 rfl rfl)
theorem dX0_skip_10 : decode cX0_skip 10 = .ok (.invokevirtual 152, 3) := dk_182 0 152 (dk_at dksX0_skip_0 10 rfl rfl)
theorem dX0_skip_13 : decode cX0_skip 13 = .ok (.return_, 1) := dk_177 (dk_at dksX0_skip_0 13 rfl rfl)
abbrev cX0_readFunction : ByteArray := prog_1_method_41_code
def yX0_readFunction : MethodName := ⟨RX0, "readFunction", "()V"⟩
def dkwX0_readFunction_9 : List UInt8 := [182, 0, 146, 154, 0, 11, 42, 43, 182, 1, 138, 167, 255, 242, 42, 182, 0, 152, 177]
abbrev dktX0_readFunction_9 : List UInt8 := dkwX0_readFunction_9 ++ []
def dkwX0_readFunction_8 : List UInt8 := [16, 41, 182, 0, 189, 42, 42, 16, 123, 182, 0, 146, 182, 0, 149, 42, 182, 0, 152, 42, 16, 125]
abbrev dktX0_readFunction_8 : List UInt8 := dkwX0_readFunction_8 ++ dktX0_readFunction_9
def dkwX0_readFunction_7 : List UInt8 := [43, 89, 180, 1, 98, 4, 96, 181, 1, 98, 42, 182, 0, 152, 42, 16, 44, 182, 0, 146, 154, 255, 194, 42]
abbrev dktX0_readFunction_7 : List UInt8 := dkwX0_readFunction_7 ++ dktX0_readFunction_8
def dkwX0_readFunction_6 : List UInt8 := [4, 167, 0, 4, 3, 16, 9, 42, 180, 0, 78, 182, 0, 98, 43, 180, 1, 105, 43, 180, 1, 98, 28, 79]
abbrev dktX0_readFunction_6 : List UInt8 := dkwX0_readFunction_6 ++ dktX0_readFunction_7
def dkwX0_readFunction_5 : List UInt8 := [182, 0, 146, 182, 0, 149, 42, 182, 0, 152, 42, 182, 0, 182, 61, 42, 43, 180, 1, 98, 6, 162, 0, 7]
abbrev dktX0_readFunction_5 : List UInt8 := dkwX0_readFunction_5 ++ dktX0_readFunction_6
def dkwX0_readFunction_4 : List UInt8 := [180, 1, 123, 43, 83, 42, 89, 180, 1, 123, 4, 96, 181, 1, 123, 42, 182, 0, 152, 42, 42, 16, 40]
abbrev dktX0_readFunction_4 : List UInt8 := dkwX0_readFunction_4 ++ dktX0_readFunction_5
def dkwX0_readFunction_3 : List UInt8 := [187, 1, 93, 89, 42, 42, 180, 1, 123, 42, 180, 0, 115, 183, 1, 135, 76, 42, 180, 1, 126, 42]
abbrev dktX0_readFunction_3 : List UInt8 := dkwX0_readFunction_3 ++ dktX0_readFunction_4
def dkwX0_readFunction_2 : List UInt8 := [180, 1, 123, 16, 12, 162, 0, 7, 4, 167, 0, 4, 3, 16, 9, 42, 180, 0, 78, 182, 0, 98]
abbrev dktX0_readFunction_2 : List UInt8 := dkwX0_readFunction_2 ++ dktX0_readFunction_3
def dkwX0_readFunction_1 : List UInt8 := [180, 0, 115, 182, 1, 131, 199, 0, 7, 4, 167, 0, 4, 3, 6, 42, 180, 0, 78, 182, 0, 98, 42, 42]
abbrev dktX0_readFunction_1 : List UInt8 := dkwX0_readFunction_1 ++ dktX0_readFunction_2
def dkwX0_readFunction_0 : List UInt8 := [42, 182, 0, 152, 42, 42, 180, 0, 81, 4, 160, 0, 7, 4, 167, 0, 4, 3, 182, 0, 149, 42, 42, 42]
abbrev dktX0_readFunction_0 : List UInt8 := dkwX0_readFunction_0 ++ dktX0_readFunction_1
theorem dksX0_readFunction_0 : cX0_readFunction.data.toList.drop 0 = dktX0_readFunction_0 := by decide +kernel
theorem dksX0_readFunction_1 : cX0_readFunction.data.toList.drop 24 = dktX0_readFunction_1 := dk_seg dksX0_readFunction_0 24 rfl rfl
theorem dksX0_readFunction_2 : cX0_readFunction.data.toList.drop 48 = dktX0_readFunction_2 := dk_seg dksX0_readFunction_1 24 rfl rfl
theorem dksX0_readFunction_3 : cX0_readFunction.data.toList.drop 70 = dktX0_readFunction_3 := dk_seg dksX0_readFunction_2 22 rfl rfl
theorem dksX0_readFunction_4 : cX0_readFunction.data.toList.drop 92 = dktX0_readFunction_4 := dk_seg dksX0_readFunction_3 22 rfl rfl
theorem dksX0_readFunction_5 : cX0_readFunction.data.toList.drop 115 = dktX0_readFunction_5 := dk_seg dksX0_readFunction_4 23 rfl rfl
theorem dksX0_readFunction_6 : cX0_readFunction.data.toList.drop 139 = dktX0_readFunction_6 := dk_seg dksX0_readFunction_5 24 rfl rfl
theorem dksX0_readFunction_7 : cX0_readFunction.data.toList.drop 163 = dktX0_readFunction_7 := dk_seg dksX0_readFunction_6 24 rfl rfl
theorem dksX0_readFunction_8 : cX0_readFunction.data.toList.drop 187 = dktX0_readFunction_8 := dk_seg dksX0_readFunction_7 24 rfl rfl
theorem dksX0_readFunction_9 : cX0_readFunction.data.toList.drop 209 = dktX0_readFunction_9 := dk_seg dksX0_readFunction_8 22 rfl rfl
theorem dX0_readFunction_0 : decode cX0_readFunction 0 = .ok (.aload_n 0, 1) := dk_42 (dk_at dksX0_readFunction_0 0 rfl rfl)
theorem dX0_readFunction_1 : decode cX0_readFunction 1 = .ok (.invokevirtual 152, 3) := dk_182 0 152 (dk_at dksX0_readFunction_0 1 rfl rfl)
theorem dX0_readFunction_4 : decode cX0_readFunction 4 = .ok (.aload_n 0, 1) := dk_42 (dk_at dksX0_readFunction_0 4 rfl rfl)
theorem dX0_readFunction_5 : decode cX0_readFunction 5 = .ok (.aload_n 0, 1) := dk_42 (dk_at dksX0_readFunction_0 5 rfl rfl)
theorem dX0_readFunction_6 : decode cX0_readFunction 6 = .ok (.getfield 81, 3) := dk_180 0 81 (dk_at dksX0_readFunction_0 6 rfl rfl)
theorem dX0_readFunction_9 : decode cX0_readFunction 9 = .ok (.iconst 1, 1) := dk_4 (dk_at dksX0_readFunction_0 9 rfl rfl)
theorem dX0_readFunction_10 : decode cX0_readFunction 10 = .ok (.if_icmp .ne 7, 3) := dk_160 0 7 (dk_at dksX0_readFunction_0 10 rfl rfl)
theorem dX0_readFunction_13 : decode cX0_readFunction 13 = .ok (.iconst 1, 1) := dk_4 (dk_at dksX0_readFunction_0 13 rfl rfl)
theorem dX0_readFunction_14 : decode cX0_readFunction 14 = .ok (.goto 4, 3) := dk_167 0 4 (dk_at dksX0_readFunction_0 14 rfl rfl)
theorem dX0_readFunction_17 : decode cX0_readFunction 17 = .ok (.iconst 0, 1) := dk_3 (dk_at dksX0_readFunction_0 17 rfl rfl)
theorem dX0_readFunction_18 : decode cX0_readFunction 18 = .ok (.invokevirtual 149, 3) := dk_182 0 149 (dk_at dksX0_readFunction_0 18 rfl rfl)
theorem dX0_readFunction_21 : decode cX0_readFunction 21 = .ok (.aload_n 0, 1) := dk_42 (dk_at dksX0_readFunction_0 21 rfl rfl)
theorem dX0_readFunction_22 : decode cX0_readFunction 22 = .ok (.aload_n 0, 1) := dk_42 (dk_at dksX0_readFunction_0 22 rfl rfl)
theorem dX0_readFunction_23 : decode cX0_readFunction 23 = .ok (.aload_n 0, 1) := dk_42 (dk_at dksX0_readFunction_0 23 rfl rfl)
theorem dX0_readFunction_24 : decode cX0_readFunction 24 = .ok (.getfield 115, 3) := dk_180 0 115 (dk_at dksX0_readFunction_1 0 rfl rfl)
theorem dX0_readFunction_27 : decode cX0_readFunction 27 = .ok (.invokevirtual 387, 3) := dk_182 1 131 (dk_at dksX0_readFunction_1 3 rfl rfl)
theorem dX0_readFunction_30 : decode cX0_readFunction 30 = .ok (.ifnonnull 7, 3) := dk_199 0 7 (dk_at dksX0_readFunction_1 6 rfl rfl)
theorem dX0_readFunction_33 : decode cX0_readFunction 33 = .ok (.iconst 1, 1) := dk_4 (dk_at dksX0_readFunction_1 9 rfl rfl)
theorem dX0_readFunction_34 : decode cX0_readFunction 34 = .ok (.goto 4, 3) := dk_167 0 4 (dk_at dksX0_readFunction_1 10 rfl rfl)
theorem dX0_readFunction_37 : decode cX0_readFunction 37 = .ok (.iconst 0, 1) := dk_3 (dk_at dksX0_readFunction_1 13 rfl rfl)
theorem dX0_readFunction_38 : decode cX0_readFunction 38 = .ok (.iconst 3, 1) := dk_6 (dk_at dksX0_readFunction_1 14 rfl rfl)
theorem dX0_readFunction_39 : decode cX0_readFunction 39 = .ok (.aload_n 0, 1) := dk_42 (dk_at dksX0_readFunction_1 15 rfl rfl)
theorem dX0_readFunction_40 : decode cX0_readFunction 40 = .ok (.getfield 78, 3) := dk_180 0 78 (dk_at dksX0_readFunction_1 16 rfl rfl)
theorem dX0_readFunction_43 : decode cX0_readFunction 43 = .ok (.invokevirtual 98, 3) := dk_182 0 98 (dk_at dksX0_readFunction_1 19 rfl rfl)
theorem dX0_readFunction_46 : decode cX0_readFunction 46 = .ok (.aload_n 0, 1) := dk_42 (dk_at dksX0_readFunction_1 22 rfl rfl)
theorem dX0_readFunction_47 : decode cX0_readFunction 47 = .ok (.aload_n 0, 1) := dk_42 (dk_at dksX0_readFunction_1 23 rfl rfl)
theorem dX0_readFunction_48 : decode cX0_readFunction 48 = .ok (.getfield 379, 3) := dk_180 1 123 (dk_at dksX0_readFunction_2 0 rfl rfl)
theorem dX0_readFunction_51 : decode cX0_readFunction 51 = .ok (.bipush 12, 2) := dk_16 12 (dk_at dksX0_readFunction_2 3 rfl rfl)
theorem dX0_readFunction_53 : decode cX0_readFunction 53 = .ok (.if_icmp .ge 7, 3) := dk_162 0 7 (dk_at dksX0_readFunction_2 5 rfl rfl)
theorem dX0_readFunction_56 : decode cX0_readFunction 56 = .ok (.iconst 1, 1) := dk_4 (dk_at dksX0_readFunction_2 8 rfl rfl)
theorem dX0_readFunction_57 : decode cX0_readFunction 57 = .ok (.goto 4, 3) := dk_167 0 4 (dk_at dksX0_readFunction_2 9 rfl rfl)
theorem dX0_readFunction_60 : decode cX0_readFunction 60 = .ok (.iconst 0, 1) := dk_3 (dk_at dksX0_readFunction_2 12 rfl rfl)
theorem dX0_readFunction_61 : decode cX0_readFunction 61 = .ok (.bipush 9, 2) := dk_16 9 (dk_at dksX0_readFunction_2 13 rfl rfl)
theorem dX0_readFunction_63 : decode cX0_readFunction 63 = .ok (.aload_n 0, 1) := dk_42 (dk_at dksX0_readFunction_2 15 rfl rfl)
theorem dX0_readFunction_64 : decode cX0_readFunction 64 = .ok (.getfield 78, 3) := dk_180 0 78 (dk_at dksX0_readFunction_2 16 rfl rfl)
theorem dX0_readFunction_67 : decode cX0_readFunction 67 = .ok (.invokevirtual 98, 3) := dk_182 0 98 (dk_at dksX0_readFunction_2 19 rfl rfl)
theorem dX0_readFunction_70 : decode cX0_readFunction 70 = .ok (.new 349, 3) := dk_187 1 93 (dk_at dksX0_readFunction_3 0 rfl rfl)
theorem dX0_readFunction_73 : decode cX0_readFunction 73 = .ok (.dup, 1) := dk_89 (dk_at dksX0_readFunction_3 3 rfl rfl)
theorem dX0_readFunction_74 : decode cX0_readFunction 74 = .ok (.aload_n 0, 1) := dk_42 (dk_at dksX0_readFunction_3 4 rfl rfl)
theorem dX0_readFunction_75 : decode cX0_readFunction 75 = .ok (.aload_n 0, 1) := dk_42 (dk_at dksX0_readFunction_3 5 rfl rfl)
theorem dX0_readFunction_76 : decode cX0_readFunction 76 = .ok (.getfield 379, 3) := dk_180 1 123 (dk_at dksX0_readFunction_3 6 rfl rfl)
theorem dX0_readFunction_79 : decode cX0_readFunction 79 = .ok (.aload_n 0, 1) := dk_42 (dk_at dksX0_readFunction_3 9 rfl rfl)
theorem dX0_readFunction_80 : decode cX0_readFunction 80 = .ok (.getfield 115, 3) := dk_180 0 115 (dk_at dksX0_readFunction_3 10 rfl rfl)
theorem dX0_readFunction_83 : decode cX0_readFunction 83 = .ok (.invokespecial 391, 3) := dk_183 1 135 (dk_at dksX0_readFunction_3 13 rfl rfl)
theorem dX0_readFunction_86 : decode cX0_readFunction 86 = .ok (.astore_n 1, 1) := dk_76 (dk_at dksX0_readFunction_3 16 rfl rfl)
theorem dX0_readFunction_87 : decode cX0_readFunction 87 = .ok (.aload_n 0, 1) := dk_42 (dk_at dksX0_readFunction_3 17 rfl rfl)
theorem dX0_readFunction_88 : decode cX0_readFunction 88 = .ok (.getfield 382, 3) := dk_180 1 126 (dk_at dksX0_readFunction_3 18 rfl rfl)
theorem dX0_readFunction_91 : decode cX0_readFunction 91 = .ok (.aload_n 0, 1) := dk_42 (dk_at dksX0_readFunction_3 21 rfl rfl)
theorem dX0_readFunction_92 : decode cX0_readFunction 92 = .ok (.getfield 379, 3) := dk_180 1 123 (dk_at dksX0_readFunction_4 0 rfl rfl)
theorem dX0_readFunction_95 : decode cX0_readFunction 95 = .ok (.aload_n 1, 1) := dk_43 (dk_at dksX0_readFunction_4 3 rfl rfl)
theorem dX0_readFunction_96 : decode cX0_readFunction 96 = .ok (.aastore, 1) := dk_83 (dk_at dksX0_readFunction_4 4 rfl rfl)
theorem dX0_readFunction_97 : decode cX0_readFunction 97 = .ok (.aload_n 0, 1) := dk_42 (dk_at dksX0_readFunction_4 5 rfl rfl)
theorem dX0_readFunction_98 : decode cX0_readFunction 98 = .ok (.dup, 1) := dk_89 (dk_at dksX0_readFunction_4 6 rfl rfl)
theorem dX0_readFunction_99 : decode cX0_readFunction 99 = .ok (.getfield 379, 3) := dk_180 1 123 (dk_at dksX0_readFunction_4 7 rfl rfl)
theorem dX0_readFunction_102 : decode cX0_readFunction 102 = .ok (.iconst 1, 1) := dk_4 (dk_at dksX0_readFunction_4 10 rfl rfl)
theorem dX0_readFunction_103 : decode cX0_readFunction 103 = .ok (.iadd, 1) := dk_96 (dk_at dksX0_readFunction_4 11 rfl rfl)
theorem dX0_readFunction_104 : decode cX0_readFunction 104 = .ok (.putfield 379, 3) := dk_181 1 123 (dk_at dksX0_readFunction_4 12 rfl rfl)
theorem dX0_readFunction_107 : decode cX0_readFunction 107 = .ok (.aload_n 0, 1) := dk_42 (dk_at dksX0_readFunction_4 15 rfl rfl)
theorem dX0_readFunction_108 : decode cX0_readFunction 108 = .ok (.invokevirtual 152, 3) := dk_182 0 152 (dk_at dksX0_readFunction_4 16 rfl rfl)
theorem dX0_readFunction_111 : decode cX0_readFunction 111 = .ok (.aload_n 0, 1) := dk_42 (dk_at dksX0_readFunction_4 19 rfl rfl)
theorem dX0_readFunction_112 : decode cX0_readFunction 112 = .ok (.aload_n 0, 1) := dk_42 (dk_at dksX0_readFunction_4 20 rfl rfl)
theorem dX0_readFunction_113 : decode cX0_readFunction 113 = .ok (.bipush 40, 2) := dk_16 40 (dk_at dksX0_readFunction_4 21 rfl rfl)
theorem dX0_readFunction_115 : decode cX0_readFunction 115 = .ok (.invokevirtual 146, 3) := dk_182 0 146 (dk_at dksX0_readFunction_5 0 rfl rfl)
theorem dX0_readFunction_118 : decode cX0_readFunction 118 = .ok (.invokevirtual 149, 3) := dk_182 0 149 (dk_at dksX0_readFunction_5 3 rfl rfl)
theorem dX0_readFunction_121 : decode cX0_readFunction 121 = .ok (.aload_n 0, 1) := dk_42 (dk_at dksX0_readFunction_5 6 rfl rfl)
theorem dX0_readFunction_122 : decode cX0_readFunction 122 = .ok (.invokevirtual 152, 3) := dk_182 0 152 (dk_at dksX0_readFunction_5 7 rfl rfl)
theorem dX0_readFunction_125 : decode cX0_readFunction 125 = .ok (.aload_n 0, 1) := dk_42 (dk_at dksX0_readFunction_5 10 rfl rfl)
theorem dX0_readFunction_126 : decode cX0_readFunction 126 = .ok (.invokevirtual 182, 3) := dk_182 0 182 (dk_at dksX0_readFunction_5 11 rfl rfl)
theorem dX0_readFunction_129 : decode cX0_readFunction 129 = .ok (.istore_n 2, 1) := dk_61 (dk_at dksX0_readFunction_5 14 rfl rfl)
theorem dX0_readFunction_130 : decode cX0_readFunction 130 = .ok (.aload_n 0, 1) := dk_42 (dk_at dksX0_readFunction_5 15 rfl rfl)
theorem dX0_readFunction_131 : decode cX0_readFunction 131 = .ok (.aload_n 1, 1) := dk_43 (dk_at dksX0_readFunction_5 16 rfl rfl)
theorem dX0_readFunction_132 : decode cX0_readFunction 132 = .ok (.getfield 354, 3) := dk_180 1 98 (dk_at dksX0_readFunction_5 17 rfl rfl)
theorem dX0_readFunction_135 : decode cX0_readFunction 135 = .ok (.iconst 3, 1) := dk_6 (dk_at dksX0_readFunction_5 20 rfl rfl)
theorem dX0_readFunction_136 : decode cX0_readFunction 136 = .ok (.if_icmp .ge 7, 3) := dk_162 0 7 (dk_at dksX0_readFunction_5 21 rfl rfl)
theorem dX0_readFunction_139 : decode cX0_readFunction 139 = .ok (.iconst 1, 1) := dk_4 (dk_at dksX0_readFunction_6 0 rfl rfl)
theorem dX0_readFunction_140 : decode cX0_readFunction 140 = .ok (.goto 4, 3) := dk_167 0 4 (dk_at dksX0_readFunction_6 1 rfl rfl)
theorem dX0_readFunction_143 : decode cX0_readFunction 143 = .ok (.iconst 0, 1) := dk_3 (dk_at dksX0_readFunction_6 4 rfl rfl)
theorem dX0_readFunction_144 : decode cX0_readFunction 144 = .ok (.bipush 9, 2) := dk_16 9 (dk_at dksX0_readFunction_6 5 rfl rfl)
theorem dX0_readFunction_146 : decode cX0_readFunction 146 = .ok (.aload_n 0, 1) := dk_42 (dk_at dksX0_readFunction_6 7 rfl rfl)
theorem dX0_readFunction_147 : decode cX0_readFunction 147 = .ok (.getfield 78, 3) := dk_180 0 78 (dk_at dksX0_readFunction_6 8 rfl rfl)
theorem dX0_readFunction_150 : decode cX0_readFunction 150 = .ok (.invokevirtual 98, 3) := dk_182 0 98 (dk_at dksX0_readFunction_6 11 rfl rfl)
theorem dX0_readFunction_153 : decode cX0_readFunction 153 = .ok (.aload_n 1, 1) := dk_43 (dk_at dksX0_readFunction_6 14 rfl rfl)
theorem dX0_readFunction_154 : decode cX0_readFunction 154 = .ok (.getfield 361, 3) := dk_180 1 105 (dk_at dksX0_readFunction_6 15 rfl rfl)
theorem dX0_readFunction_157 : decode cX0_readFunction 157 = .ok (.aload_n 1, 1) := dk_43 (dk_at dksX0_readFunction_6 18 rfl rfl)
theorem dX0_readFunction_158 : decode cX0_readFunction 158 = .ok (.getfield 354, 3) := dk_180 1 98 (dk_at dksX0_readFunction_6 19 rfl rfl)
theorem dX0_readFunction_161 : decode cX0_readFunction 161 = .ok (.iload_n 2, 1) := dk_28 (dk_at dksX0_readFunction_6 22 rfl rfl)
theorem dX0_readFunction_162 : decode cX0_readFunction 162 = .ok (.iastore, 1) := dk_79 (dk_at dksX0_readFunction_6 23 rfl rfl)
theorem dX0_readFunction_163 : decode cX0_readFunction 163 = .ok (.aload_n 1, 1) := dk_43 (dk_at dksX0_readFunction_7 0 rfl rfl)
theorem dX0_readFunction_164 : decode cX0_readFunction 164 = .ok (.dup, 1) := dk_89 (dk_at dksX0_readFunction_7 1 rfl rfl)
theorem dX0_readFunction_165 : decode cX0_readFunction 165 = .ok (.getfield 354, 3) := dk_180 1 98 (dk_at dksX0_readFunction_7 2 rfl rfl)
theorem dX0_readFunction_168 : decode cX0_readFunction 168 = .ok (.iconst 1, 1) := dk_4 (dk_at dksX0_readFunction_7 5 rfl rfl)
theorem dX0_readFunction_169 : decode cX0_readFunction 169 = .ok (.iadd, 1) := dk_96 (dk_at dksX0_readFunction_7 6 rfl rfl)
theorem dX0_readFunction_170 : decode cX0_readFunction 170 = .ok (.putfield 354, 3) := dk_181 1 98 (dk_at dksX0_readFunction_7 7 rfl rfl)
theorem dX0_readFunction_173 : decode cX0_readFunction 173 = .ok (.aload_n 0, 1) := dk_42 (dk_at dksX0_readFunction_7 10 rfl rfl)
theorem dX0_readFunction_174 : decode cX0_readFunction 174 = .ok (.invokevirtual 152, 3) := dk_182 0 152 (dk_at dksX0_readFunction_7 11 rfl rfl)
theorem dX0_readFunction_177 : decode cX0_readFunction 177 = .ok (.aload_n 0, 1) := dk_42 (dk_at dksX0_readFunction_7 14 rfl rfl)
theorem dX0_readFunction_178 : decode cX0_readFunction 178 = .ok (.bipush 44, 2) := dk_16 44 (dk_at dksX0_readFunction_7 15 rfl rfl)
theorem dX0_readFunction_180 : decode cX0_readFunction 180 = .ok (.invokevirtual 146, 3) := dk_182 0 146 (dk_at dksX0_readFunction_7 17 rfl rfl)
theorem dX0_readFunction_183 : decode cX0_readFunction 183 = .ok (.ifCond .ne (-62), 3) := dk_154 255 194 (dk_at dksX0_readFunction_7 20 rfl rfl)
theorem dX0_readFunction_186 : decode cX0_readFunction 186 = .ok (.aload_n 0, 1) := dk_42 (dk_at dksX0_readFunction_7 23 rfl rfl)
theorem dX0_readFunction_187 : decode cX0_readFunction 187 = .ok (.bipush 41, 2) := dk_16 41 (dk_at dksX0_readFunction_8 0 rfl rfl)
theorem dX0_readFunction_189 : decode cX0_readFunction 189 = .ok (.invokevirtual 189, 3) := dk_182 0 189 (dk_at dksX0_readFunction_8 2 rfl rfl)
theorem dX0_readFunction_192 : decode cX0_readFunction 192 = .ok (.aload_n 0, 1) := dk_42 (dk_at dksX0_readFunction_8 5 rfl rfl)
theorem dX0_readFunction_193 : decode cX0_readFunction 193 = .ok (.aload_n 0, 1) := dk_42 (dk_at dksX0_readFunction_8 6 rfl rfl)
theorem dX0_readFunction_194 : decode cX0_readFunction 194 = .ok (.bipush 123, 2) := dk_16 123 (dk_at dksX0_readFunction_8 7 rfl rfl)
theorem dX0_readFunction_196 : decode cX0_readFunction 196 = .ok (.invokevirtual 146, 3) := dk_182 0 146 (dk_at dksX0_readFunction_8 9 rfl rfl)
theorem dX0_readFunction_199 : decode cX0_readFunction 199 = .ok (.invokevirtual 149, 3) := dk_182 0 149 (dk_at dksX0_readFunction_8 12 rfl rfl)
theorem dX0_readFunction_202 : decode cX0_readFunction 202 = .ok (.aload_n 0, 1) := dk_42 (dk_at dksX0_readFunction_8 15 rfl rfl)
theorem dX0_readFunction_203 : decode cX0_readFunction 203 = .ok (.invokevirtual 152, 3) := dk_182 0 152 (dk_at dksX0_readFunction_8 16 rfl rfl)
theorem dX0_readFunction_206 : decode cX0_readFunction 206 = .ok (.aload_n 0, 1) := dk_42 (dk_at dksX0_readFunction_8 19 rfl rfl)
theorem dX0_readFunction_207 : decode cX0_readFunction 207 = .ok (.bipush 125, 2) := dk_16 125 (dk_at dksX0_readFunction_8 20 rfl rfl)
theorem dX0_readFunction_209 : decode cX0_readFunction 209 = .ok (.invokevirtual 146, 3) := dk_182 0 146 (dk_at dksX0_readFunction_9 0 rfl rfl)
theorem dX0_readFunction_212 : decode cX0_readFunction 212 = .ok (.ifCond .ne 11, 3) := dk_154 0 11 (dk_at dksX0_readFunction_9 3 rfl rfl)
theorem dX0_readFunction_215 : decode cX0_readFunction 215 = .ok (.aload_n 0, 1) := dk_42 (dk_at dksX0_readFunction_9 6 rfl rfl)
theorem dX0_readFunction_216 : decode cX0_readFunction 216 = .ok (.aload_n 1, 1) := dk_43 (dk_at dksX0_readFunction_9 7 rfl rfl)
theorem dX0_readFunction_217 : decode cX0_readFunction 217 = .ok (.invokevirtual 394, 3) := dk_182 1 138 (dk_at dksX0_readFunction_9 8 rfl rfl)
theorem dX0_readFunction_220 : decode cX0_readFunction 220 = .ok (.goto (-14), 3) := dk_167 255 242 (dk_at dksX0_readFunction_9 11 rfl rfl)
theorem dX0_readFunction_223 : decode cX0_readFunction 223 = .ok (.aload_n 0, 1) := dk_42 (dk_at dksX0_readFunction_9 14 rfl rfl)
theorem dX0_readFunction_224 : decode cX0_readFunction 224 = .ok (.invokevirtual 152, 3) := dk_182 0 152 (dk_at dksX0_readFunction_9 15 rfl rfl)
theorem dX0_readFunction_227 : decode cX0_readFunction 227 = .ok (.return_, 1) := dk_177 (dk_at dksX0_readFunction_9 18 rfl rfl)
abbrev cX0_functionOf : ByteArray := prog_1_method_40_code
def yX0_functionOf : MethodName := ⟨RX0, "functionOf", "(J)LLetterPost$Function;"⟩
def dkwX0_functionOf_1 : List UInt8 := [42, 180, 1, 126, 29, 50, 176, 132, 3, 1, 167, 255, 224, 1, 176]
abbrev dktX0_functionOf_1 : List UInt8 := dkwX0_functionOf_1 ++ []
def dkwX0_functionOf_0 : List UInt8 := [3, 62, 29, 42, 180, 1, 123, 162, 0, 30, 42, 180, 1, 126, 29, 50, 180, 1, 130, 31, 148, 154, 0, 10]
abbrev dktX0_functionOf_0 : List UInt8 := dkwX0_functionOf_0 ++ dktX0_functionOf_1
theorem dksX0_functionOf_0 : cX0_functionOf.data.toList.drop 0 = dktX0_functionOf_0 := by decide +kernel
theorem dksX0_functionOf_1 : cX0_functionOf.data.toList.drop 24 = dktX0_functionOf_1 := dk_seg dksX0_functionOf_0 24 rfl rfl
theorem dX0_functionOf_0 : decode cX0_functionOf 0 = .ok (.iconst 0, 1) := dk_3 (dk_at dksX0_functionOf_0 0 rfl rfl)
theorem dX0_functionOf_1 : decode cX0_functionOf 1 = .ok (.istore_n 3, 1) := dk_62 (dk_at dksX0_functionOf_0 1 rfl rfl)
theorem dX0_functionOf_2 : decode cX0_functionOf 2 = .ok (.iload_n 3, 1) := dk_29 (dk_at dksX0_functionOf_0 2 rfl rfl)
theorem dX0_functionOf_3 : decode cX0_functionOf 3 = .ok (.aload_n 0, 1) := dk_42 (dk_at dksX0_functionOf_0 3 rfl rfl)
theorem dX0_functionOf_4 : decode cX0_functionOf 4 = .ok (.getfield 379, 3) := dk_180 1 123 (dk_at dksX0_functionOf_0 4 rfl rfl)
theorem dX0_functionOf_7 : decode cX0_functionOf 7 = .ok (.if_icmp .ge 30, 3) := dk_162 0 30 (dk_at dksX0_functionOf_0 7 rfl rfl)
theorem dX0_functionOf_10 : decode cX0_functionOf 10 = .ok (.aload_n 0, 1) := dk_42 (dk_at dksX0_functionOf_0 10 rfl rfl)
theorem dX0_functionOf_11 : decode cX0_functionOf 11 = .ok (.getfield 382, 3) := dk_180 1 126 (dk_at dksX0_functionOf_0 11 rfl rfl)
theorem dX0_functionOf_14 : decode cX0_functionOf 14 = .ok (.iload_n 3, 1) := dk_29 (dk_at dksX0_functionOf_0 14 rfl rfl)
theorem dX0_functionOf_15 : decode cX0_functionOf 15 = .ok (.aaload, 1) := dk_50 (dk_at dksX0_functionOf_0 15 rfl rfl)
theorem dX0_functionOf_16 : decode cX0_functionOf 16 = .ok (.getfield 386, 3) := dk_180 1 130 (dk_at dksX0_functionOf_0 16 rfl rfl)
theorem dX0_functionOf_19 : decode cX0_functionOf 19 = .ok (.lload_n 1, 1) := dk_31 (dk_at dksX0_functionOf_0 19 rfl rfl)
theorem dX0_functionOf_20 : decode cX0_functionOf 20 = .ok (.lcmp, 1) := dk_148 (dk_at dksX0_functionOf_0 20 rfl rfl)
theorem dX0_functionOf_21 : decode cX0_functionOf 21 = .ok (.ifCond .ne 10, 3) := dk_154 0 10 (dk_at dksX0_functionOf_0 21 rfl rfl)
theorem dX0_functionOf_24 : decode cX0_functionOf 24 = .ok (.aload_n 0, 1) := dk_42 (dk_at dksX0_functionOf_1 0 rfl rfl)
theorem dX0_functionOf_25 : decode cX0_functionOf 25 = .ok (.getfield 382, 3) := dk_180 1 126 (dk_at dksX0_functionOf_1 1 rfl rfl)
theorem dX0_functionOf_28 : decode cX0_functionOf 28 = .ok (.iload_n 3, 1) := dk_29 (dk_at dksX0_functionOf_1 4 rfl rfl)
theorem dX0_functionOf_29 : decode cX0_functionOf 29 = .ok (.aaload, 1) := dk_50 (dk_at dksX0_functionOf_1 5 rfl rfl)
theorem dX0_functionOf_30 : decode cX0_functionOf 30 = .ok (.areturn, 1) := dk_176 (dk_at dksX0_functionOf_1 6 rfl rfl)
theorem dX0_functionOf_31 : decode cX0_functionOf 31 = .ok (.iinc 3 1, 3) := dk_132 3 1 (dk_at dksX0_functionOf_1 7 rfl rfl)
theorem dX0_functionOf_34 : decode cX0_functionOf 34 = .ok (.goto (-32), 3) := dk_167 255 224 (dk_at dksX0_functionOf_1 10 rfl rfl)
theorem dX0_functionOf_37 : decode cX0_functionOf 37 = .ok (.aconst_null, 1) := dk_1 (dk_at dksX0_functionOf_1 13 rfl rfl)
theorem dX0_functionOf_38 : decode cX0_functionOf 38 = .ok (.areturn, 1) := dk_176 (dk_at dksX0_functionOf_1 14 rfl rfl)
abbrev cX0_rule : ByteArray := prog_1_method_39_code
def yX0_rule : MethodName := ⟨RX0, "rule", "(LLetterPost$Function;)V"⟩
def dkwX0_rule_9 : List UInt8 := [181, 1, 92, 177]
abbrev dktX0_rule_9 : List UInt8 := dkwX0_rule_9 ++ []
def dkwX0_rule_8 : List UInt8 := [16, 8, 184, 1, 35, 43, 180, 1, 119, 43, 180, 1, 92, 44, 83, 43, 89, 180, 1, 92, 4, 96]
abbrev dktX0_rule_8 : List UInt8 := dkwX0_rule_8 ++ dktX0_rule_9
def dkwX0_rule_7 : List UInt8 := [182, 0, 189, 42, 44, 182, 1, 115, 42, 16, 59, 182, 0, 189, 42, 180, 1, 24, 3, 44, 180, 1, 118, 3]
abbrev dktX0_rule_7 : List UInt8 := dkwX0_rule_7 ++ dktX0_rule_8
def dkwX0_rule_6 : List UInt8 := [19, 1, 106, 182, 0, 162, 153, 0, 10, 42, 182, 1, 108, 167, 0, 4, 1, 181, 1, 112, 42, 16, 58]
abbrev dktX0_rule_6 : List UInt8 := dkwX0_rule_6 ++ dktX0_rule_7
def dkwX0_rule_5 : List UInt8 := [16, 44, 182, 0, 146, 154, 0, 7, 4, 167, 0, 4, 3, 16, 6, 42, 180, 0, 78, 182, 0, 98, 44, 42]
abbrev dktX0_rule_5 : List UInt8 := dkwX0_rule_5 ++ dktX0_rule_6
def dkwX0_rule_4 : List UInt8 := [180, 1, 101, 29, 42, 43, 180, 1, 105, 29, 46, 182, 1, 32, 83, 132, 3, 1, 167, 255, 205, 42, 42]
abbrev dktX0_rule_4 : List UInt8 := dkwX0_rule_4 ++ dktX0_rule_5
def dkwX0_rule_3 : List UInt8 := [158, 0, 23, 42, 42, 16, 44, 182, 0, 146, 16, 6, 42, 180, 0, 78, 182, 0, 98, 42, 182, 0, 152, 44]
abbrev dktX0_rule_3 : List UInt8 := dkwX0_rule_3 ++ dktX0_rule_4
def dkwX0_rule_2 : List UInt8 := [16, 16, 160, 0, 7, 4, 167, 0, 4, 3, 181, 0, 193, 3, 62, 29, 43, 180, 1, 98, 162, 0, 49, 29]
abbrev dktX0_rule_2 : List UInt8 := dkwX0_rule_2 ++ dktX0_rule_3
def dkwX0_rule_1 : List UInt8 := [180, 0, 78, 183, 1, 97, 77, 44, 43, 180, 1, 98, 189, 0, 38, 181, 1, 101, 42, 43, 180, 1, 92]
abbrev dktX0_rule_1 : List UInt8 := dkwX0_rule_1 ++ dktX0_rule_2
def dkwX0_rule_0 : List UInt8 := [42, 3, 181, 1, 11, 42, 3, 181, 1, 18, 42, 3, 181, 0, 196, 187, 1, 71, 89, 43, 180, 1, 92, 42]
abbrev dktX0_rule_0 : List UInt8 := dkwX0_rule_0 ++ dktX0_rule_1
theorem dksX0_rule_0 : cX0_rule.data.toList.drop 0 = dktX0_rule_0 := by decide +kernel
theorem dksX0_rule_1 : cX0_rule.data.toList.drop 24 = dktX0_rule_1 := dk_seg dksX0_rule_0 24 rfl rfl
theorem dksX0_rule_2 : cX0_rule.data.toList.drop 47 = dktX0_rule_2 := dk_seg dksX0_rule_1 23 rfl rfl
theorem dksX0_rule_3 : cX0_rule.data.toList.drop 71 = dktX0_rule_3 := dk_seg dksX0_rule_2 24 rfl rfl
theorem dksX0_rule_4 : cX0_rule.data.toList.drop 95 = dktX0_rule_4 := dk_seg dksX0_rule_3 24 rfl rfl
theorem dksX0_rule_5 : cX0_rule.data.toList.drop 118 = dktX0_rule_5 := dk_seg dksX0_rule_4 23 rfl rfl
theorem dksX0_rule_6 : cX0_rule.data.toList.drop 142 = dktX0_rule_6 := dk_seg dksX0_rule_5 24 rfl rfl
theorem dksX0_rule_7 : cX0_rule.data.toList.drop 165 = dktX0_rule_7 := dk_seg dksX0_rule_6 23 rfl rfl
theorem dksX0_rule_8 : cX0_rule.data.toList.drop 189 = dktX0_rule_8 := dk_seg dksX0_rule_7 24 rfl rfl
theorem dksX0_rule_9 : cX0_rule.data.toList.drop 211 = dktX0_rule_9 := dk_seg dksX0_rule_8 22 rfl rfl
theorem dX0_rule_0 : decode cX0_rule 0 = .ok (.aload_n 0, 1) := dk_42 (dk_at dksX0_rule_0 0 rfl rfl)
theorem dX0_rule_1 : decode cX0_rule 1 = .ok (.iconst 0, 1) := dk_3 (dk_at dksX0_rule_0 1 rfl rfl)
theorem dX0_rule_2 : decode cX0_rule 2 = .ok (.putfield 267, 3) := dk_181 1 11 (dk_at dksX0_rule_0 2 rfl rfl)
theorem dX0_rule_5 : decode cX0_rule 5 = .ok (.aload_n 0, 1) := dk_42 (dk_at dksX0_rule_0 5 rfl rfl)
theorem dX0_rule_6 : decode cX0_rule 6 = .ok (.iconst 0, 1) := dk_3 (dk_at dksX0_rule_0 6 rfl rfl)
theorem dX0_rule_7 : decode cX0_rule 7 = .ok (.putfield 274, 3) := dk_181 1 18 (dk_at dksX0_rule_0 7 rfl rfl)
theorem dX0_rule_10 : decode cX0_rule 10 = .ok (.aload_n 0, 1) := dk_42 (dk_at dksX0_rule_0 10 rfl rfl)
theorem dX0_rule_11 : decode cX0_rule 11 = .ok (.iconst 0, 1) := dk_3 (dk_at dksX0_rule_0 11 rfl rfl)
theorem dX0_rule_12 : decode cX0_rule 12 = .ok (.putfield 196, 3) := dk_181 0 196 (dk_at dksX0_rule_0 12 rfl rfl)
theorem dX0_rule_15 : decode cX0_rule 15 = .ok (.new 327, 3) := dk_187 1 71 (dk_at dksX0_rule_0 15 rfl rfl)
theorem dX0_rule_18 : decode cX0_rule 18 = .ok (.dup, 1) := dk_89 (dk_at dksX0_rule_0 18 rfl rfl)
theorem dX0_rule_19 : decode cX0_rule 19 = .ok (.aload_n 1, 1) := dk_43 (dk_at dksX0_rule_0 19 rfl rfl)
theorem dX0_rule_20 : decode cX0_rule 20 = .ok (.getfield 348, 3) := dk_180 1 92 (dk_at dksX0_rule_0 20 rfl rfl)
theorem dX0_rule_23 : decode cX0_rule 23 = .ok (.aload_n 0, 1) := dk_42 (dk_at dksX0_rule_0 23 rfl rfl)
theorem dX0_rule_24 : decode cX0_rule 24 = .ok (.getfield 78, 3) := dk_180 0 78 (dk_at dksX0_rule_1 0 rfl rfl)
theorem dX0_rule_27 : decode cX0_rule 27 = .ok (.invokespecial 353, 3) := dk_183 1 97 (dk_at dksX0_rule_1 3 rfl rfl)
theorem dX0_rule_30 : decode cX0_rule 30 = .ok (.astore_n 2, 1) := dk_77 (dk_at dksX0_rule_1 6 rfl rfl)
theorem dX0_rule_31 : decode cX0_rule 31 = .ok (.aload_n 2, 1) := dk_44 (dk_at dksX0_rule_1 7 rfl rfl)
theorem dX0_rule_32 : decode cX0_rule 32 = .ok (.aload_n 1, 1) := dk_43 (dk_at dksX0_rule_1 8 rfl rfl)
theorem dX0_rule_33 : decode cX0_rule 33 = .ok (.getfield 354, 3) := dk_180 1 98 (dk_at dksX0_rule_1 9 rfl rfl)
theorem dX0_rule_36 : decode cX0_rule 36 = .ok (.anewarray 38, 3) := dk_189 0 38 (dk_at dksX0_rule_1 12 rfl rfl)
theorem dX0_rule_39 : decode cX0_rule 39 = .ok (.putfield 357, 3) := dk_181 1 101 (dk_at dksX0_rule_1 15 rfl rfl)
theorem dX0_rule_42 : decode cX0_rule 42 = .ok (.aload_n 0, 1) := dk_42 (dk_at dksX0_rule_1 18 rfl rfl)
theorem dX0_rule_43 : decode cX0_rule 43 = .ok (.aload_n 1, 1) := dk_43 (dk_at dksX0_rule_1 19 rfl rfl)
theorem dX0_rule_44 : decode cX0_rule 44 = .ok (.getfield 348, 3) := dk_180 1 92 (dk_at dksX0_rule_1 20 rfl rfl)
theorem dX0_rule_47 : decode cX0_rule 47 = .ok (.bipush 16, 2) := dk_16 16 (dk_at dksX0_rule_2 0 rfl rfl)
theorem dX0_rule_49 : decode cX0_rule 49 = .ok (.if_icmp .ne 7, 3) := dk_160 0 7 (dk_at dksX0_rule_2 2 rfl rfl)
theorem dX0_rule_52 : decode cX0_rule 52 = .ok (.iconst 1, 1) := dk_4 (dk_at dksX0_rule_2 5 rfl rfl)
theorem dX0_rule_53 : decode cX0_rule 53 = .ok (.goto 4, 3) := dk_167 0 4 (dk_at dksX0_rule_2 6 rfl rfl)
theorem dX0_rule_56 : decode cX0_rule 56 = .ok (.iconst 0, 1) := dk_3 (dk_at dksX0_rule_2 9 rfl rfl)
theorem dX0_rule_57 : decode cX0_rule 57 = .ok (.putfield 193, 3) := dk_181 0 193 (dk_at dksX0_rule_2 10 rfl rfl)
theorem dX0_rule_60 : decode cX0_rule 60 = .ok (.iconst 0, 1) := dk_3 (dk_at dksX0_rule_2 13 rfl rfl)
theorem dX0_rule_61 : decode cX0_rule 61 = .ok (.istore_n 3, 1) := dk_62 (dk_at dksX0_rule_2 14 rfl rfl)
theorem dX0_rule_62 : decode cX0_rule 62 = .ok (.iload_n 3, 1) := dk_29 (dk_at dksX0_rule_2 15 rfl rfl)
theorem dX0_rule_63 : decode cX0_rule 63 = .ok (.aload_n 1, 1) := dk_43 (dk_at dksX0_rule_2 16 rfl rfl)
theorem dX0_rule_64 : decode cX0_rule 64 = .ok (.getfield 354, 3) := dk_180 1 98 (dk_at dksX0_rule_2 17 rfl rfl)
theorem dX0_rule_67 : decode cX0_rule 67 = .ok (.if_icmp .ge 49, 3) := dk_162 0 49 (dk_at dksX0_rule_2 20 rfl rfl)
theorem dX0_rule_70 : decode cX0_rule 70 = .ok (.iload_n 3, 1) := dk_29 (dk_at dksX0_rule_2 23 rfl rfl)
theorem dX0_rule_71 : decode cX0_rule 71 = .ok (.ifCond .le 23, 3) := dk_158 0 23 (dk_at dksX0_rule_3 0 rfl rfl)
theorem dX0_rule_74 : decode cX0_rule 74 = .ok (.aload_n 0, 1) := dk_42 (dk_at dksX0_rule_3 3 rfl rfl)
theorem dX0_rule_75 : decode cX0_rule 75 = .ok (.aload_n 0, 1) := dk_42 (dk_at dksX0_rule_3 4 rfl rfl)
theorem dX0_rule_76 : decode cX0_rule 76 = .ok (.bipush 44, 2) := dk_16 44 (dk_at dksX0_rule_3 5 rfl rfl)
theorem dX0_rule_78 : decode cX0_rule 78 = .ok (.invokevirtual 146, 3) := dk_182 0 146 (dk_at dksX0_rule_3 7 rfl rfl)
theorem dX0_rule_81 : decode cX0_rule 81 = .ok (.bipush 6, 2) := dk_16 6 (dk_at dksX0_rule_3 10 rfl rfl)
theorem dX0_rule_83 : decode cX0_rule 83 = .ok (.aload_n 0, 1) := dk_42 (dk_at dksX0_rule_3 12 rfl rfl)
theorem dX0_rule_84 : decode cX0_rule 84 = .ok (.getfield 78, 3) := dk_180 0 78 (dk_at dksX0_rule_3 13 rfl rfl)
theorem dX0_rule_87 : decode cX0_rule 87 = .ok (.invokevirtual 98, 3) := dk_182 0 98 (dk_at dksX0_rule_3 16 rfl rfl)
theorem dX0_rule_90 : decode cX0_rule 90 = .ok (.aload_n 0, 1) := dk_42 (dk_at dksX0_rule_3 19 rfl rfl)
theorem dX0_rule_91 : decode cX0_rule 91 = .ok (.invokevirtual 152, 3) := dk_182 0 152 (dk_at dksX0_rule_3 20 rfl rfl)
theorem dX0_rule_94 : decode cX0_rule 94 = .ok (.aload_n 2, 1) := dk_44 (dk_at dksX0_rule_3 23 rfl rfl)
theorem dX0_rule_95 : decode cX0_rule 95 = .ok (.getfield 357, 3) := dk_180 1 101 (dk_at dksX0_rule_4 0 rfl rfl)
theorem dX0_rule_98 : decode cX0_rule 98 = .ok (.iload_n 3, 1) := dk_29 (dk_at dksX0_rule_4 3 rfl rfl)
theorem dX0_rule_99 : decode cX0_rule 99 = .ok (.aload_n 0, 1) := dk_42 (dk_at dksX0_rule_4 4 rfl rfl)
theorem dX0_rule_100 : decode cX0_rule 100 = .ok (.aload_n 1, 1) := dk_43 (dk_at dksX0_rule_4 5 rfl rfl)
theorem dX0_rule_101 : decode cX0_rule 101 = .ok (.getfield 361, 3) := dk_180 1 105 (dk_at dksX0_rule_4 6 rfl rfl)
theorem dX0_rule_104 : decode cX0_rule 104 = .ok (.iload_n 3, 1) := dk_29 (dk_at dksX0_rule_4 9 rfl rfl)
theorem dX0_rule_105 : decode cX0_rule 105 = .ok (.iaload, 1) := dk_46 (dk_at dksX0_rule_4 10 rfl rfl)
theorem dX0_rule_106 : decode cX0_rule 106 = .ok (.invokevirtual 288, 3) := dk_182 1 32 (dk_at dksX0_rule_4 11 rfl rfl)
theorem dX0_rule_109 : decode cX0_rule 109 = .ok (.aastore, 1) := dk_83 (dk_at dksX0_rule_4 14 rfl rfl)
theorem dX0_rule_110 : decode cX0_rule 110 = .ok (.iinc 3 1, 3) := dk_132 3 1 (dk_at dksX0_rule_4 15 rfl rfl)
theorem dX0_rule_113 : decode cX0_rule 113 = .ok (.goto (-51), 3) := dk_167 255 205 (dk_at dksX0_rule_4 18 rfl rfl)
theorem dX0_rule_116 : decode cX0_rule 116 = .ok (.aload_n 0, 1) := dk_42 (dk_at dksX0_rule_4 21 rfl rfl)
theorem dX0_rule_117 : decode cX0_rule 117 = .ok (.aload_n 0, 1) := dk_42 (dk_at dksX0_rule_4 22 rfl rfl)
theorem dX0_rule_118 : decode cX0_rule 118 = .ok (.bipush 44, 2) := dk_16 44 (dk_at dksX0_rule_5 0 rfl rfl)
theorem dX0_rule_120 : decode cX0_rule 120 = .ok (.invokevirtual 146, 3) := dk_182 0 146 (dk_at dksX0_rule_5 2 rfl rfl)
theorem dX0_rule_123 : decode cX0_rule 123 = .ok (.ifCond .ne 7, 3) := dk_154 0 7 (dk_at dksX0_rule_5 5 rfl rfl)
theorem dX0_rule_126 : decode cX0_rule 126 = .ok (.iconst 1, 1) := dk_4 (dk_at dksX0_rule_5 8 rfl rfl)
theorem dX0_rule_127 : decode cX0_rule 127 = .ok (.goto 4, 3) := dk_167 0 4 (dk_at dksX0_rule_5 9 rfl rfl)
theorem dX0_rule_130 : decode cX0_rule 130 = .ok (.iconst 0, 1) := dk_3 (dk_at dksX0_rule_5 12 rfl rfl)
theorem dX0_rule_131 : decode cX0_rule 131 = .ok (.bipush 6, 2) := dk_16 6 (dk_at dksX0_rule_5 13 rfl rfl)
theorem dX0_rule_133 : decode cX0_rule 133 = .ok (.aload_n 0, 1) := dk_42 (dk_at dksX0_rule_5 15 rfl rfl)
theorem dX0_rule_134 : decode cX0_rule 134 = .ok (.getfield 78, 3) := dk_180 0 78 (dk_at dksX0_rule_5 16 rfl rfl)
theorem dX0_rule_137 : decode cX0_rule 137 = .ok (.invokevirtual 98, 3) := dk_182 0 98 (dk_at dksX0_rule_5 19 rfl rfl)
theorem dX0_rule_140 : decode cX0_rule 140 = .ok (.aload_n 2, 1) := dk_44 (dk_at dksX0_rule_5 22 rfl rfl)
theorem dX0_rule_141 : decode cX0_rule 141 = .ok (.aload_n 0, 1) := dk_42 (dk_at dksX0_rule_5 23 rfl rfl)
theorem dX0_rule_142 : decode cX0_rule 142 = .ok (.ldc_w 362, 3) := dk_19 1 106 (dk_at dksX0_rule_6 0 rfl rfl)
theorem dX0_rule_145 : decode cX0_rule 145 = .ok (.invokevirtual 162, 3) := dk_182 0 162 (dk_at dksX0_rule_6 3 rfl rfl)
theorem dX0_rule_148 : decode cX0_rule 148 = .ok (.ifCond .eq 10, 3) := dk_153 0 10 (dk_at dksX0_rule_6 6 rfl rfl)
theorem dX0_rule_151 : decode cX0_rule 151 = .ok (.aload_n 0, 1) := dk_42 (dk_at dksX0_rule_6 9 rfl rfl)
theorem dX0_rule_152 : decode cX0_rule 152 = .ok (.invokevirtual 364, 3) := dk_182 1 108 (dk_at dksX0_rule_6 10 rfl rfl)
theorem dX0_rule_155 : decode cX0_rule 155 = .ok (.goto 4, 3) := dk_167 0 4 (dk_at dksX0_rule_6 13 rfl rfl)
theorem dX0_rule_158 : decode cX0_rule 158 = .ok (.aconst_null, 1) := dk_1 (dk_at dksX0_rule_6 16 rfl rfl)
theorem dX0_rule_159 : decode cX0_rule 159 = .ok (.putfield 368, 3) := dk_181 1 112 (dk_at dksX0_rule_6 17 rfl rfl)
theorem dX0_rule_162 : decode cX0_rule 162 = .ok (.aload_n 0, 1) := dk_42 (dk_at dksX0_rule_6 20 rfl rfl)
theorem dX0_rule_163 : decode cX0_rule 163 = .ok (.bipush 58, 2) := dk_16 58 (dk_at dksX0_rule_6 21 rfl rfl)
theorem dX0_rule_165 : decode cX0_rule 165 = .ok (.invokevirtual 189, 3) := dk_182 0 189 (dk_at dksX0_rule_7 0 rfl rfl)
theorem dX0_rule_168 : decode cX0_rule 168 = .ok (.aload_n 0, 1) := dk_42 (dk_at dksX0_rule_7 3 rfl rfl)
theorem dX0_rule_169 : decode cX0_rule 169 = .ok (.aload_n 2, 1) := dk_44 (dk_at dksX0_rule_7 4 rfl rfl)
theorem dX0_rule_170 : decode cX0_rule 170 = .ok (.invokevirtual 371, 3) := dk_182 1 115 (dk_at dksX0_rule_7 5 rfl rfl)
theorem dX0_rule_173 : decode cX0_rule 173 = .ok (.aload_n 0, 1) := dk_42 (dk_at dksX0_rule_7 8 rfl rfl)
theorem dX0_rule_174 : decode cX0_rule 174 = .ok (.bipush 59, 2) := dk_16 59 (dk_at dksX0_rule_7 9 rfl rfl)
theorem dX0_rule_176 : decode cX0_rule 176 = .ok (.invokevirtual 189, 3) := dk_182 0 189 (dk_at dksX0_rule_7 11 rfl rfl)
theorem dX0_rule_179 : decode cX0_rule 179 = .ok (.aload_n 0, 1) := dk_42 (dk_at dksX0_rule_7 14 rfl rfl)
theorem dX0_rule_180 : decode cX0_rule 180 = .ok (.getfield 280, 3) := dk_180 1 24 (dk_at dksX0_rule_7 15 rfl rfl)
theorem dX0_rule_183 : decode cX0_rule 183 = .ok (.iconst 0, 1) := dk_3 (dk_at dksX0_rule_7 18 rfl rfl)
theorem dX0_rule_184 : decode cX0_rule 184 = .ok (.aload_n 2, 1) := dk_44 (dk_at dksX0_rule_7 19 rfl rfl)
theorem dX0_rule_185 : decode cX0_rule 185 = .ok (.getfield 374, 3) := dk_180 1 118 (dk_at dksX0_rule_7 20 rfl rfl)
theorem dX0_rule_188 : decode cX0_rule 188 = .ok (.iconst 0, 1) := dk_3 (dk_at dksX0_rule_7 23 rfl rfl)
theorem dX0_rule_189 : decode cX0_rule 189 = .ok (.bipush 8, 2) := dk_16 8 (dk_at dksX0_rule_8 0 rfl rfl)
theorem dX0_rule_191 : decode cX0_rule 191 = .ok (.invokestatic 291, 3) := dk_184 1 35 (dk_at dksX0_rule_8 2 rfl rfl)
theorem dX0_rule_194 : decode cX0_rule 194 = .ok (.aload_n 1, 1) := dk_43 (dk_at dksX0_rule_8 5 rfl rfl)
theorem dX0_rule_195 : decode cX0_rule 195 = .ok (.getfield 375, 3) := dk_180 1 119 (dk_at dksX0_rule_8 6 rfl rfl)
theorem dX0_rule_198 : decode cX0_rule 198 = .ok (.aload_n 1, 1) := dk_43 (dk_at dksX0_rule_8 9 rfl rfl)
theorem dX0_rule_199 : decode cX0_rule 199 = .ok (.getfield 348, 3) := dk_180 1 92 (dk_at dksX0_rule_8 10 rfl rfl)
theorem dX0_rule_202 : decode cX0_rule 202 = .ok (.aload_n 2, 1) := dk_44 (dk_at dksX0_rule_8 13 rfl rfl)
theorem dX0_rule_203 : decode cX0_rule 203 = .ok (.aastore, 1) := dk_83 (dk_at dksX0_rule_8 14 rfl rfl)
theorem dX0_rule_204 : decode cX0_rule 204 = .ok (.aload_n 1, 1) := dk_43 (dk_at dksX0_rule_8 15 rfl rfl)
theorem dX0_rule_205 : decode cX0_rule 205 = .ok (.dup, 1) := dk_89 (dk_at dksX0_rule_8 16 rfl rfl)
theorem dX0_rule_206 : decode cX0_rule 206 = .ok (.getfield 348, 3) := dk_180 1 92 (dk_at dksX0_rule_8 17 rfl rfl)
theorem dX0_rule_209 : decode cX0_rule 209 = .ok (.iconst 1, 1) := dk_4 (dk_at dksX0_rule_8 20 rfl rfl)
theorem dX0_rule_210 : decode cX0_rule 210 = .ok (.iadd, 1) := dk_96 (dk_at dksX0_rule_8 21 rfl rfl)
theorem dX0_rule_211 : decode cX0_rule 211 = .ok (.putfield 348, 3) := dk_181 1 92 (dk_at dksX0_rule_9 0 rfl rfl)
theorem dX0_rule_214 : decode cX0_rule 214 = .ok (.return_, 1) := dk_177 (dk_at dksX0_rule_9 3 rfl rfl)
abbrev cX0_pattern : ByteArray := prog_1_method_21_code
def yX0_pattern : MethodName := ⟨RX0, "pattern", "(I)LLetterPost$Pattern;"⟩
def dkwX0_pattern_4 : List UInt8 := [156, 0, 12, 45, 21, 4, 181, 0, 213, 167, 0, 13, 25, 5, 21, 4, 181, 0, 215, 25, 5, 78, 45, 176]
abbrev dktX0_pattern_4 : List UInt8 := dkwX0_pattern_4 ++ []
def dkwX0_pattern_3 : List UInt8 := [182, 0, 152, 187, 0, 208, 89, 4, 189, 0, 38, 89, 3, 45, 83, 183, 0, 210, 58, 5, 45, 180, 0, 213]
abbrev dktX0_pattern_3 : List UInt8 := dkwX0_pattern_3 ++ dktX0_pattern_4
def dkwX0_pattern_2 : List UInt8 := [42, 180, 0, 81, 4, 160, 0, 7, 4, 167, 0, 4, 3, 182, 0, 149, 42, 27, 182, 0, 205, 54, 4, 42]
abbrev dktX0_pattern_2 : List UInt8 := dkwX0_pattern_2 ++ dktX0_pattern_3
def dkwX0_pattern_1 : List UInt8 := [181, 0, 193, 42, 27, 28, 182, 0, 199, 78, 42, 18, 203, 182, 0, 162, 153, 0, 78, 42, 182, 0, 152, 42]
abbrev dktX0_pattern_1 : List UInt8 := dkwX0_pattern_1 ++ dktX0_pattern_2
def dkwX0_pattern_0 : List UInt8 := [42, 180, 0, 193, 154, 0, 12, 42, 180, 0, 196, 16, 6, 161, 0, 7, 4, 167, 0, 4, 3, 61, 42, 3]
abbrev dktX0_pattern_0 : List UInt8 := dkwX0_pattern_0 ++ dktX0_pattern_1
theorem dksX0_pattern_0 : cX0_pattern.data.toList.drop 0 = dktX0_pattern_0 := by decide +kernel
theorem dksX0_pattern_1 : cX0_pattern.data.toList.drop 24 = dktX0_pattern_1 := dk_seg dksX0_pattern_0 24 rfl rfl
theorem dksX0_pattern_2 : cX0_pattern.data.toList.drop 48 = dktX0_pattern_2 := dk_seg dksX0_pattern_1 24 rfl rfl
theorem dksX0_pattern_3 : cX0_pattern.data.toList.drop 72 = dktX0_pattern_3 := dk_seg dksX0_pattern_2 24 rfl rfl
theorem dksX0_pattern_4 : cX0_pattern.data.toList.drop 96 = dktX0_pattern_4 := dk_seg dksX0_pattern_3 24 rfl rfl
theorem dX0_pattern_0 : decode cX0_pattern 0 = .ok (.aload_n 0, 1) := dk_42 (dk_at dksX0_pattern_0 0 rfl rfl)
theorem dX0_pattern_1 : decode cX0_pattern 1 = .ok (.getfield 193, 3) := dk_180 0 193 (dk_at dksX0_pattern_0 1 rfl rfl)
theorem dX0_pattern_4 : decode cX0_pattern 4 = .ok (.ifCond .ne 12, 3) := dk_154 0 12 (dk_at dksX0_pattern_0 4 rfl rfl)
theorem dX0_pattern_7 : decode cX0_pattern 7 = .ok (.aload_n 0, 1) := dk_42 (dk_at dksX0_pattern_0 7 rfl rfl)
theorem dX0_pattern_8 : decode cX0_pattern 8 = .ok (.getfield 196, 3) := dk_180 0 196 (dk_at dksX0_pattern_0 8 rfl rfl)
theorem dX0_pattern_11 : decode cX0_pattern 11 = .ok (.bipush 6, 2) := dk_16 6 (dk_at dksX0_pattern_0 11 rfl rfl)
theorem dX0_pattern_13 : decode cX0_pattern 13 = .ok (.if_icmp .lt 7, 3) := dk_161 0 7 (dk_at dksX0_pattern_0 13 rfl rfl)
theorem dX0_pattern_16 : decode cX0_pattern 16 = .ok (.iconst 1, 1) := dk_4 (dk_at dksX0_pattern_0 16 rfl rfl)
theorem dX0_pattern_17 : decode cX0_pattern 17 = .ok (.goto 4, 3) := dk_167 0 4 (dk_at dksX0_pattern_0 17 rfl rfl)
theorem dX0_pattern_20 : decode cX0_pattern 20 = .ok (.iconst 0, 1) := dk_3 (dk_at dksX0_pattern_0 20 rfl rfl)
theorem dX0_pattern_21 : decode cX0_pattern 21 = .ok (.istore_n 2, 1) := dk_61 (dk_at dksX0_pattern_0 21 rfl rfl)
theorem dX0_pattern_22 : decode cX0_pattern 22 = .ok (.aload_n 0, 1) := dk_42 (dk_at dksX0_pattern_0 22 rfl rfl)
theorem dX0_pattern_23 : decode cX0_pattern 23 = .ok (.iconst 0, 1) := dk_3 (dk_at dksX0_pattern_0 23 rfl rfl)
theorem dX0_pattern_24 : decode cX0_pattern 24 = .ok (.putfield 193, 3) := dk_181 0 193 (dk_at dksX0_pattern_1 0 rfl rfl)
theorem dX0_pattern_27 : decode cX0_pattern 27 = .ok (.aload_n 0, 1) := dk_42 (dk_at dksX0_pattern_1 3 rfl rfl)
theorem dX0_pattern_28 : decode cX0_pattern 28 = .ok (.iload_n 1, 1) := dk_27 (dk_at dksX0_pattern_1 4 rfl rfl)
theorem dX0_pattern_29 : decode cX0_pattern 29 = .ok (.iload_n 2, 1) := dk_28 (dk_at dksX0_pattern_1 5 rfl rfl)
theorem dX0_pattern_30 : decode cX0_pattern 30 = .ok (.invokevirtual 199, 3) := dk_182 0 199 (dk_at dksX0_pattern_1 6 rfl rfl)
theorem dX0_pattern_33 : decode cX0_pattern 33 = .ok (.astore_n 3, 1) := dk_78 (dk_at dksX0_pattern_1 9 rfl rfl)
theorem dX0_pattern_34 : decode cX0_pattern 34 = .ok (.aload_n 0, 1) := dk_42 (dk_at dksX0_pattern_1 10 rfl rfl)
theorem dX0_pattern_35 : decode cX0_pattern 35 = .ok (.ldc 203, 2) := dk_18 203 (dk_at dksX0_pattern_1 11 rfl rfl)
theorem dX0_pattern_37 : decode cX0_pattern 37 = .ok (.invokevirtual 162, 3) := dk_182 0 162 (dk_at dksX0_pattern_1 13 rfl rfl)
theorem dX0_pattern_40 : decode cX0_pattern 40 = .ok (.ifCond .eq 78, 3) := dk_153 0 78 (dk_at dksX0_pattern_1 16 rfl rfl)
theorem dX0_pattern_43 : decode cX0_pattern 43 = .ok (.aload_n 0, 1) := dk_42 (dk_at dksX0_pattern_1 19 rfl rfl)
theorem dX0_pattern_44 : decode cX0_pattern 44 = .ok (.invokevirtual 152, 3) := dk_182 0 152 (dk_at dksX0_pattern_1 20 rfl rfl)
theorem dX0_pattern_47 : decode cX0_pattern 47 = .ok (.aload_n 0, 1) := dk_42 (dk_at dksX0_pattern_1 23 rfl rfl)
theorem dX0_pattern_48 : decode cX0_pattern 48 = .ok (.aload_n 0, 1) := dk_42 (dk_at dksX0_pattern_2 0 rfl rfl)
theorem dX0_pattern_49 : decode cX0_pattern 49 = .ok (.getfield 81, 3) := dk_180 0 81 (dk_at dksX0_pattern_2 1 rfl rfl)
theorem dX0_pattern_52 : decode cX0_pattern 52 = .ok (.iconst 1, 1) := dk_4 (dk_at dksX0_pattern_2 4 rfl rfl)
theorem dX0_pattern_53 : decode cX0_pattern 53 = .ok (.if_icmp .ne 7, 3) := dk_160 0 7 (dk_at dksX0_pattern_2 5 rfl rfl)
theorem dX0_pattern_56 : decode cX0_pattern 56 = .ok (.iconst 1, 1) := dk_4 (dk_at dksX0_pattern_2 8 rfl rfl)
theorem dX0_pattern_57 : decode cX0_pattern 57 = .ok (.goto 4, 3) := dk_167 0 4 (dk_at dksX0_pattern_2 9 rfl rfl)
theorem dX0_pattern_60 : decode cX0_pattern 60 = .ok (.iconst 0, 1) := dk_3 (dk_at dksX0_pattern_2 12 rfl rfl)
theorem dX0_pattern_61 : decode cX0_pattern 61 = .ok (.invokevirtual 149, 3) := dk_182 0 149 (dk_at dksX0_pattern_2 13 rfl rfl)
theorem dX0_pattern_64 : decode cX0_pattern 64 = .ok (.aload_n 0, 1) := dk_42 (dk_at dksX0_pattern_2 16 rfl rfl)
theorem dX0_pattern_65 : decode cX0_pattern 65 = .ok (.iload_n 1, 1) := dk_27 (dk_at dksX0_pattern_2 17 rfl rfl)
theorem dX0_pattern_66 : decode cX0_pattern 66 = .ok (.invokevirtual 205, 3) := dk_182 0 205 (dk_at dksX0_pattern_2 18 rfl rfl)
theorem dX0_pattern_69 : decode cX0_pattern 69 = .ok (.istore 4, 2) := dk_54 4 (dk_at dksX0_pattern_2 21 rfl rfl)
theorem dX0_pattern_71 : decode cX0_pattern 71 = .ok (.aload_n 0, 1) := dk_42 (dk_at dksX0_pattern_2 23 rfl rfl)
theorem dX0_pattern_72 : decode cX0_pattern 72 = .ok (.invokevirtual 152, 3) := dk_182 0 152 (dk_at dksX0_pattern_3 0 rfl rfl)
theorem dX0_pattern_75 : decode cX0_pattern 75 = .ok (.new 208, 3) := dk_187 0 208 (dk_at dksX0_pattern_3 3 rfl rfl)
theorem dX0_pattern_78 : decode cX0_pattern 78 = .ok (.dup, 1) := dk_89 (dk_at dksX0_pattern_3 6 rfl rfl)
theorem dX0_pattern_79 : decode cX0_pattern 79 = .ok (.iconst 1, 1) := dk_4 (dk_at dksX0_pattern_3 7 rfl rfl)
theorem dX0_pattern_80 : decode cX0_pattern 80 = .ok (.anewarray 38, 3) := dk_189 0 38 (dk_at dksX0_pattern_3 8 rfl rfl)
theorem dX0_pattern_83 : decode cX0_pattern 83 = .ok (.dup, 1) := dk_89 (dk_at dksX0_pattern_3 11 rfl rfl)
theorem dX0_pattern_84 : decode cX0_pattern 84 = .ok (.iconst 0, 1) := dk_3 (dk_at dksX0_pattern_3 12 rfl rfl)
theorem dX0_pattern_85 : decode cX0_pattern 85 = .ok (.aload_n 3, 1) := dk_45 (dk_at dksX0_pattern_3 13 rfl rfl)
theorem dX0_pattern_86 : decode cX0_pattern 86 = .ok (.aastore, 1) := dk_83 (dk_at dksX0_pattern_3 14 rfl rfl)
theorem dX0_pattern_87 : decode cX0_pattern 87 = .ok (.invokespecial 210, 3) := dk_183 0 210 (dk_at dksX0_pattern_3 15 rfl rfl)
theorem dX0_pattern_90 : decode cX0_pattern 90 = .ok (.astore 5, 2) := dk_58 5 (dk_at dksX0_pattern_3 18 rfl rfl)
theorem dX0_pattern_92 : decode cX0_pattern 92 = .ok (.aload_n 3, 1) := dk_45 (dk_at dksX0_pattern_3 20 rfl rfl)
theorem dX0_pattern_93 : decode cX0_pattern 93 = .ok (.getfield 213, 3) := dk_180 0 213 (dk_at dksX0_pattern_3 21 rfl rfl)
theorem dX0_pattern_96 : decode cX0_pattern 96 = .ok (.ifCond .ge 12, 3) := dk_156 0 12 (dk_at dksX0_pattern_4 0 rfl rfl)
theorem dX0_pattern_99 : decode cX0_pattern 99 = .ok (.aload_n 3, 1) := dk_45 (dk_at dksX0_pattern_4 3 rfl rfl)
theorem dX0_pattern_100 : decode cX0_pattern 100 = .ok (.iload 4, 2) := dk_21 4 (dk_at dksX0_pattern_4 4 rfl rfl)
theorem dX0_pattern_102 : decode cX0_pattern 102 = .ok (.putfield 213, 3) := dk_181 0 213 (dk_at dksX0_pattern_4 6 rfl rfl)
theorem dX0_pattern_105 : decode cX0_pattern 105 = .ok (.goto 13, 3) := dk_167 0 13 (dk_at dksX0_pattern_4 9 rfl rfl)
theorem dX0_pattern_108 : decode cX0_pattern 108 = .ok (.aload 5, 2) := dk_25 5 (dk_at dksX0_pattern_4 12 rfl rfl)
theorem dX0_pattern_110 : decode cX0_pattern 110 = .ok (.iload 4, 2) := dk_21 4 (dk_at dksX0_pattern_4 14 rfl rfl)
theorem dX0_pattern_112 : decode cX0_pattern 112 = .ok (.putfield 215, 3) := dk_181 0 215 (dk_at dksX0_pattern_4 16 rfl rfl)
theorem dX0_pattern_115 : decode cX0_pattern 115 = .ok (.aload 5, 2) := dk_25 5 (dk_at dksX0_pattern_4 19 rfl rfl)
theorem dX0_pattern_117 : decode cX0_pattern 117 = .ok (.astore_n 3, 1) := dk_78 (dk_at dksX0_pattern_4 21 rfl rfl)
theorem dX0_pattern_118 : decode cX0_pattern 118 = .ok (.aload_n 3, 1) := dk_45 (dk_at dksX0_pattern_4 22 rfl rfl)
theorem dX0_pattern_119 : decode cX0_pattern 119 = .ok (.areturn, 1) := dk_176 (dk_at dksX0_pattern_4 23 rfl rfl)
abbrev cX0_plain : ByteArray := prog_1_method_23_code
def yX0_plain : MethodName := ⟨RX0, "plain", "(IZ)LLetterPost$Pattern;"⟩
def dkwX0_plain_14 : List UInt8 := [167, 0, 4, 3, 16, 9, 29, 182, 0, 98, 42, 182, 0, 152, 25, 4, 176]
abbrev dktX0_plain_14 : List UInt8 := dkwX0_plain_14 ++ []
def dkwX0_plain_13 : List UInt8 := [27, 184, 0, 252, 8, 29, 182, 0, 98, 187, 0, 255, 89, 183, 1, 1, 58, 4, 42, 28, 154, 0, 7, 4]
abbrev dktX0_plain_13 : List UInt8 := dkwX0_plain_13 ++ dktX0_plain_14
def dkwX0_plain_12 : List UInt8 := [18, 242, 182, 0, 162, 183, 0, 248, 58, 4, 167, 0, 32, 42, 42, 18, 250, 182, 0, 162, 182, 0, 149, 42]
abbrev dktX0_plain_12 : List UInt8 := dkwX0_plain_12 ++ dktX0_plain_13
def dkwX0_plain_11 : List UInt8 := [153, 0, 37, 42, 27, 4, 160, 0, 7, 4, 167, 0, 4, 3, 8, 29, 182, 0, 98, 187, 0, 246, 89, 42]
abbrev dktX0_plain_11 : List UInt8 := dkwX0_plain_11 ++ dktX0_plain_12
def dkwX0_plain_10 : List UInt8 := [183, 0, 239, 58, 4, 167, 0, 84, 42, 18, 242, 182, 0, 162, 154, 0, 12, 42, 18, 244, 182, 0, 162]
abbrev dktX0_plain_10 : List UInt8 := dkwX0_plain_10 ++ dktX0_plain_11
def dkwX0_plain_9 : List UInt8 := [42, 27, 5, 160, 0, 7, 4, 167, 0, 4, 3, 8, 29, 182, 0, 98, 187, 0, 237, 89, 42, 180, 0, 115]
abbrev dktX0_plain_9 : List UInt8 := dkwX0_plain_9 ++ dktX0_plain_10
def dkwX0_plain_8 : List UInt8 := [167, 0, 4, 3, 16, 9, 29, 182, 0, 98, 42, 27, 182, 0, 234, 176, 42, 180, 0, 81, 7, 160, 0, 35]
abbrev dktX0_plain_8 : List UInt8 := dkwX0_plain_8 ++ dktX0_plain_9
def dkwX0_plain_7 : List UInt8 := [42, 27, 28, 182, 0, 231, 176, 42, 16, 40, 182, 0, 146, 153, 0, 25, 42, 28, 154, 0, 7, 4]
abbrev dktX0_plain_7 : List UInt8 := dkwX0_plain_7 ++ dktX0_plain_8
def dkwX0_plain_6 : List UInt8 := [167, 0, 4, 3, 16, 9, 29, 182, 0, 98, 42, 29, 182, 0, 227, 176, 42, 180, 0, 81, 5, 160, 0, 10]
abbrev dktX0_plain_6 : List UInt8 := dkwX0_plain_6 ++ dktX0_plain_7
def dkwX0_plain_5 : List UInt8 := [153, 0, 40, 42, 27, 154, 0, 7, 4, 167, 0, 4, 3, 8, 29, 182, 0, 98, 42, 28, 154, 0, 7, 4]
abbrev dktX0_plain_5 : List UInt8 := dkwX0_plain_5 ++ dktX0_plain_6
def dkwX0_plain_4 : List UInt8 := [187, 0, 216, 89, 183, 0, 218, 176, 42, 180, 0, 81, 6, 159, 0, 12, 42, 16, 45, 182, 0, 146]
abbrev dktX0_plain_4 : List UInt8 := dkwX0_plain_4 ++ dktX0_plain_5
def dkwX0_plain_3 : List UInt8 := [153, 0, 31, 42, 28, 154, 0, 7, 4, 167, 0, 4, 3, 16, 9, 29, 182, 0, 98, 42, 182, 0, 152]
abbrev dktX0_plain_3 : List UInt8 := dkwX0_plain_3 ++ dktX0_plain_4
def dkwX0_plain_2 : List UInt8 := [21, 5, 27, 182, 0, 223, 181, 0, 226, 42, 182, 0, 152, 25, 4, 176, 42, 16, 95, 182, 0, 146]
abbrev dktX0_plain_2 : List UInt8 := dkwX0_plain_2 ++ dktX0_plain_3
def dkwX0_plain_1 : List UInt8 := [182, 0, 220, 54, 5, 42, 28, 154, 0, 7, 4, 167, 0, 4, 3, 16, 9, 29, 182, 0, 98, 25, 4, 42]
abbrev dktX0_plain_1 : List UInt8 := dkwX0_plain_1 ++ dktX0_plain_2
def dkwX0_plain_0 : List UInt8 := [42, 180, 0, 78, 62, 42, 180, 0, 81, 4, 160, 0, 54, 187, 0, 216, 89, 183, 0, 218, 58, 4, 42, 27]
abbrev dktX0_plain_0 : List UInt8 := dkwX0_plain_0 ++ dktX0_plain_1
theorem dksX0_plain_0 : cX0_plain.data.toList.drop 0 = dktX0_plain_0 := by decide +kernel
theorem dksX0_plain_1 : cX0_plain.data.toList.drop 24 = dktX0_plain_1 := dk_seg dksX0_plain_0 24 rfl rfl
theorem dksX0_plain_2 : cX0_plain.data.toList.drop 48 = dktX0_plain_2 := dk_seg dksX0_plain_1 24 rfl rfl
theorem dksX0_plain_3 : cX0_plain.data.toList.drop 70 = dktX0_plain_3 := dk_seg dksX0_plain_2 22 rfl rfl
theorem dksX0_plain_4 : cX0_plain.data.toList.drop 93 = dktX0_plain_4 := dk_seg dksX0_plain_3 23 rfl rfl
theorem dksX0_plain_5 : cX0_plain.data.toList.drop 115 = dktX0_plain_5 := dk_seg dksX0_plain_4 22 rfl rfl
theorem dksX0_plain_6 : cX0_plain.data.toList.drop 139 = dktX0_plain_6 := dk_seg dksX0_plain_5 24 rfl rfl
theorem dksX0_plain_7 : cX0_plain.data.toList.drop 163 = dktX0_plain_7 := dk_seg dksX0_plain_6 24 rfl rfl
theorem dksX0_plain_8 : cX0_plain.data.toList.drop 185 = dktX0_plain_8 := dk_seg dksX0_plain_7 22 rfl rfl
theorem dksX0_plain_9 : cX0_plain.data.toList.drop 209 = dktX0_plain_9 := dk_seg dksX0_plain_8 24 rfl rfl
theorem dksX0_plain_10 : cX0_plain.data.toList.drop 233 = dktX0_plain_10 := dk_seg dksX0_plain_9 24 rfl rfl
theorem dksX0_plain_11 : cX0_plain.data.toList.drop 256 = dktX0_plain_11 := dk_seg dksX0_plain_10 23 rfl rfl
theorem dksX0_plain_12 : cX0_plain.data.toList.drop 280 = dktX0_plain_12 := dk_seg dksX0_plain_11 24 rfl rfl
theorem dksX0_plain_13 : cX0_plain.data.toList.drop 304 = dktX0_plain_13 := dk_seg dksX0_plain_12 24 rfl rfl
theorem dksX0_plain_14 : cX0_plain.data.toList.drop 328 = dktX0_plain_14 := dk_seg dksX0_plain_13 24 rfl rfl
theorem dX0_plain_0 : decode cX0_plain 0 = .ok (.aload_n 0, 1) := dk_42 (dk_at dksX0_plain_0 0 rfl rfl)
theorem dX0_plain_1 : decode cX0_plain 1 = .ok (.getfield 78, 3) := dk_180 0 78 (dk_at dksX0_plain_0 1 rfl rfl)
theorem dX0_plain_4 : decode cX0_plain 4 = .ok (.istore_n 3, 1) := dk_62 (dk_at dksX0_plain_0 4 rfl rfl)
theorem dX0_plain_5 : decode cX0_plain 5 = .ok (.aload_n 0, 1) := dk_42 (dk_at dksX0_plain_0 5 rfl rfl)
theorem dX0_plain_6 : decode cX0_plain 6 = .ok (.getfield 81, 3) := dk_180 0 81 (dk_at dksX0_plain_0 6 rfl rfl)
theorem dX0_plain_9 : decode cX0_plain 9 = .ok (.iconst 1, 1) := dk_4 (dk_at dksX0_plain_0 9 rfl rfl)
theorem dX0_plain_10 : decode cX0_plain 10 = .ok (.if_icmp .ne 54, 3) := dk_160 0 54 (dk_at dksX0_plain_0 10 rfl rfl)
theorem dX0_plain_13 : decode cX0_plain 13 = .ok (.new 216, 3) := dk_187 0 216 (dk_at dksX0_plain_0 13 rfl rfl)
theorem dX0_plain_16 : decode cX0_plain 16 = .ok (.dup, 1) := dk_89 (dk_at dksX0_plain_0 16 rfl rfl)
theorem dX0_plain_17 : decode cX0_plain 17 = .ok (.invokespecial 218, 3) := dk_183 0 218 (dk_at dksX0_plain_0 17 rfl rfl)
theorem dX0_plain_20 : decode cX0_plain 20 = .ok (.astore 4, 2) := dk_58 4 (dk_at dksX0_plain_0 20 rfl rfl)
theorem dX0_plain_22 : decode cX0_plain 22 = .ok (.aload_n 0, 1) := dk_42 (dk_at dksX0_plain_0 22 rfl rfl)
theorem dX0_plain_23 : decode cX0_plain 23 = .ok (.iload_n 1, 1) := dk_27 (dk_at dksX0_plain_0 23 rfl rfl)
theorem dX0_plain_24 : decode cX0_plain 24 = .ok (.invokevirtual 220, 3) := dk_182 0 220 (dk_at dksX0_plain_1 0 rfl rfl)
theorem dX0_plain_27 : decode cX0_plain 27 = .ok (.istore 5, 2) := dk_54 5 (dk_at dksX0_plain_1 3 rfl rfl)
theorem dX0_plain_29 : decode cX0_plain 29 = .ok (.aload_n 0, 1) := dk_42 (dk_at dksX0_plain_1 5 rfl rfl)
theorem dX0_plain_30 : decode cX0_plain 30 = .ok (.iload_n 2, 1) := dk_28 (dk_at dksX0_plain_1 6 rfl rfl)
theorem dX0_plain_31 : decode cX0_plain 31 = .ok (.ifCond .ne 7, 3) := dk_154 0 7 (dk_at dksX0_plain_1 7 rfl rfl)
theorem dX0_plain_34 : decode cX0_plain 34 = .ok (.iconst 1, 1) := dk_4 (dk_at dksX0_plain_1 10 rfl rfl)
theorem dX0_plain_35 : decode cX0_plain 35 = .ok (.goto 4, 3) := dk_167 0 4 (dk_at dksX0_plain_1 11 rfl rfl)
theorem dX0_plain_38 : decode cX0_plain 38 = .ok (.iconst 0, 1) := dk_3 (dk_at dksX0_plain_1 14 rfl rfl)
theorem dX0_plain_39 : decode cX0_plain 39 = .ok (.bipush 9, 2) := dk_16 9 (dk_at dksX0_plain_1 15 rfl rfl)
theorem dX0_plain_41 : decode cX0_plain 41 = .ok (.iload_n 3, 1) := dk_29 (dk_at dksX0_plain_1 17 rfl rfl)
theorem dX0_plain_42 : decode cX0_plain 42 = .ok (.invokevirtual 98, 3) := dk_182 0 98 (dk_at dksX0_plain_1 18 rfl rfl)
theorem dX0_plain_45 : decode cX0_plain 45 = .ok (.aload 4, 2) := dk_25 4 (dk_at dksX0_plain_1 21 rfl rfl)
theorem dX0_plain_47 : decode cX0_plain 47 = .ok (.aload_n 0, 1) := dk_42 (dk_at dksX0_plain_1 23 rfl rfl)
theorem dX0_plain_48 : decode cX0_plain 48 = .ok (.iload 5, 2) := dk_21 5 (dk_at dksX0_plain_2 0 rfl rfl)
theorem dX0_plain_50 : decode cX0_plain 50 = .ok (.iload_n 1, 1) := dk_27 (dk_at dksX0_plain_2 2 rfl rfl)
theorem dX0_plain_51 : decode cX0_plain 51 = .ok (.invokevirtual 223, 3) := dk_182 0 223 (dk_at dksX0_plain_2 3 rfl rfl)
theorem dX0_plain_54 : decode cX0_plain 54 = .ok (.putfield 226, 3) := dk_181 0 226 (dk_at dksX0_plain_2 6 rfl rfl)
theorem dX0_plain_57 : decode cX0_plain 57 = .ok (.aload_n 0, 1) := dk_42 (dk_at dksX0_plain_2 9 rfl rfl)
theorem dX0_plain_58 : decode cX0_plain 58 = .ok (.invokevirtual 152, 3) := dk_182 0 152 (dk_at dksX0_plain_2 10 rfl rfl)
theorem dX0_plain_61 : decode cX0_plain 61 = .ok (.aload 4, 2) := dk_25 4 (dk_at dksX0_plain_2 13 rfl rfl)
theorem dX0_plain_63 : decode cX0_plain 63 = .ok (.areturn, 1) := dk_176 (dk_at dksX0_plain_2 15 rfl rfl)
theorem dX0_plain_64 : decode cX0_plain 64 = .ok (.aload_n 0, 1) := dk_42 (dk_at dksX0_plain_2 16 rfl rfl)
theorem dX0_plain_65 : decode cX0_plain 65 = .ok (.bipush 95, 2) := dk_16 95 (dk_at dksX0_plain_2 17 rfl rfl)
theorem dX0_plain_67 : decode cX0_plain 67 = .ok (.invokevirtual 146, 3) := dk_182 0 146 (dk_at dksX0_plain_2 19 rfl rfl)
theorem dX0_plain_70 : decode cX0_plain 70 = .ok (.ifCond .eq 31, 3) := dk_153 0 31 (dk_at dksX0_plain_3 0 rfl rfl)
theorem dX0_plain_73 : decode cX0_plain 73 = .ok (.aload_n 0, 1) := dk_42 (dk_at dksX0_plain_3 3 rfl rfl)
theorem dX0_plain_74 : decode cX0_plain 74 = .ok (.iload_n 2, 1) := dk_28 (dk_at dksX0_plain_3 4 rfl rfl)
theorem dX0_plain_75 : decode cX0_plain 75 = .ok (.ifCond .ne 7, 3) := dk_154 0 7 (dk_at dksX0_plain_3 5 rfl rfl)
theorem dX0_plain_78 : decode cX0_plain 78 = .ok (.iconst 1, 1) := dk_4 (dk_at dksX0_plain_3 8 rfl rfl)
theorem dX0_plain_79 : decode cX0_plain 79 = .ok (.goto 4, 3) := dk_167 0 4 (dk_at dksX0_plain_3 9 rfl rfl)
theorem dX0_plain_82 : decode cX0_plain 82 = .ok (.iconst 0, 1) := dk_3 (dk_at dksX0_plain_3 12 rfl rfl)
theorem dX0_plain_83 : decode cX0_plain 83 = .ok (.bipush 9, 2) := dk_16 9 (dk_at dksX0_plain_3 13 rfl rfl)
theorem dX0_plain_85 : decode cX0_plain 85 = .ok (.iload_n 3, 1) := dk_29 (dk_at dksX0_plain_3 15 rfl rfl)
theorem dX0_plain_86 : decode cX0_plain 86 = .ok (.invokevirtual 98, 3) := dk_182 0 98 (dk_at dksX0_plain_3 16 rfl rfl)
theorem dX0_plain_89 : decode cX0_plain 89 = .ok (.aload_n 0, 1) := dk_42 (dk_at dksX0_plain_3 19 rfl rfl)
theorem dX0_plain_90 : decode cX0_plain 90 = .ok (.invokevirtual 152, 3) := dk_182 0 152 (dk_at dksX0_plain_3 20 rfl rfl)
theorem dX0_plain_93 : decode cX0_plain 93 = .ok (.new 216, 3) := dk_187 0 216 (dk_at dksX0_plain_4 0 rfl rfl)
theorem dX0_plain_96 : decode cX0_plain 96 = .ok (.dup, 1) := dk_89 (dk_at dksX0_plain_4 3 rfl rfl)
theorem dX0_plain_97 : decode cX0_plain 97 = .ok (.invokespecial 218, 3) := dk_183 0 218 (dk_at dksX0_plain_4 4 rfl rfl)
theorem dX0_plain_100 : decode cX0_plain 100 = .ok (.areturn, 1) := dk_176 (dk_at dksX0_plain_4 7 rfl rfl)
theorem dX0_plain_101 : decode cX0_plain 101 = .ok (.aload_n 0, 1) := dk_42 (dk_at dksX0_plain_4 8 rfl rfl)
theorem dX0_plain_102 : decode cX0_plain 102 = .ok (.getfield 81, 3) := dk_180 0 81 (dk_at dksX0_plain_4 9 rfl rfl)
theorem dX0_plain_105 : decode cX0_plain 105 = .ok (.iconst 3, 1) := dk_6 (dk_at dksX0_plain_4 12 rfl rfl)
theorem dX0_plain_106 : decode cX0_plain 106 = .ok (.if_icmp .eq 12, 3) := dk_159 0 12 (dk_at dksX0_plain_4 13 rfl rfl)
theorem dX0_plain_109 : decode cX0_plain 109 = .ok (.aload_n 0, 1) := dk_42 (dk_at dksX0_plain_4 16 rfl rfl)
theorem dX0_plain_110 : decode cX0_plain 110 = .ok (.bipush 45, 2) := dk_16 45 (dk_at dksX0_plain_4 17 rfl rfl)
theorem dX0_plain_112 : decode cX0_plain 112 = .ok (.invokevirtual 146, 3) := dk_182 0 146 (dk_at dksX0_plain_4 19 rfl rfl)
theorem dX0_plain_115 : decode cX0_plain 115 = .ok (.ifCond .eq 40, 3) := dk_153 0 40 (dk_at dksX0_plain_5 0 rfl rfl)
theorem dX0_plain_118 : decode cX0_plain 118 = .ok (.aload_n 0, 1) := dk_42 (dk_at dksX0_plain_5 3 rfl rfl)
theorem dX0_plain_119 : decode cX0_plain 119 = .ok (.iload_n 1, 1) := dk_27 (dk_at dksX0_plain_5 4 rfl rfl)
theorem dX0_plain_120 : decode cX0_plain 120 = .ok (.ifCond .ne 7, 3) := dk_154 0 7 (dk_at dksX0_plain_5 5 rfl rfl)
theorem dX0_plain_123 : decode cX0_plain 123 = .ok (.iconst 1, 1) := dk_4 (dk_at dksX0_plain_5 8 rfl rfl)
theorem dX0_plain_124 : decode cX0_plain 124 = .ok (.goto 4, 3) := dk_167 0 4 (dk_at dksX0_plain_5 9 rfl rfl)
theorem dX0_plain_127 : decode cX0_plain 127 = .ok (.iconst 0, 1) := dk_3 (dk_at dksX0_plain_5 12 rfl rfl)
theorem dX0_plain_128 : decode cX0_plain 128 = .ok (.iconst 5, 1) := dk_8 (dk_at dksX0_plain_5 13 rfl rfl)
theorem dX0_plain_129 : decode cX0_plain 129 = .ok (.iload_n 3, 1) := dk_29 (dk_at dksX0_plain_5 14 rfl rfl)
theorem dX0_plain_130 : decode cX0_plain 130 = .ok (.invokevirtual 98, 3) := dk_182 0 98 (dk_at dksX0_plain_5 15 rfl rfl)
theorem dX0_plain_133 : decode cX0_plain 133 = .ok (.aload_n 0, 1) := dk_42 (dk_at dksX0_plain_5 18 rfl rfl)
theorem dX0_plain_134 : decode cX0_plain 134 = .ok (.iload_n 2, 1) := dk_28 (dk_at dksX0_plain_5 19 rfl rfl)
theorem dX0_plain_135 : decode cX0_plain 135 = .ok (.ifCond .ne 7, 3) := dk_154 0 7 (dk_at dksX0_plain_5 20 rfl rfl)
theorem dX0_plain_138 : decode cX0_plain 138 = .ok (.iconst 1, 1) := dk_4 (dk_at dksX0_plain_5 23 rfl rfl)
theorem dX0_plain_139 : decode cX0_plain 139 = .ok (.goto 4, 3) := dk_167 0 4 (dk_at dksX0_plain_6 0 rfl rfl)
theorem dX0_plain_142 : decode cX0_plain 142 = .ok (.iconst 0, 1) := dk_3 (dk_at dksX0_plain_6 3 rfl rfl)
theorem dX0_plain_143 : decode cX0_plain 143 = .ok (.bipush 9, 2) := dk_16 9 (dk_at dksX0_plain_6 4 rfl rfl)
theorem dX0_plain_145 : decode cX0_plain 145 = .ok (.iload_n 3, 1) := dk_29 (dk_at dksX0_plain_6 6 rfl rfl)
theorem dX0_plain_146 : decode cX0_plain 146 = .ok (.invokevirtual 98, 3) := dk_182 0 98 (dk_at dksX0_plain_6 7 rfl rfl)
theorem dX0_plain_149 : decode cX0_plain 149 = .ok (.aload_n 0, 1) := dk_42 (dk_at dksX0_plain_6 10 rfl rfl)
theorem dX0_plain_150 : decode cX0_plain 150 = .ok (.iload_n 3, 1) := dk_29 (dk_at dksX0_plain_6 11 rfl rfl)
theorem dX0_plain_151 : decode cX0_plain 151 = .ok (.invokevirtual 227, 3) := dk_182 0 227 (dk_at dksX0_plain_6 12 rfl rfl)
theorem dX0_plain_154 : decode cX0_plain 154 = .ok (.areturn, 1) := dk_176 (dk_at dksX0_plain_6 15 rfl rfl)
theorem dX0_plain_155 : decode cX0_plain 155 = .ok (.aload_n 0, 1) := dk_42 (dk_at dksX0_plain_6 16 rfl rfl)
theorem dX0_plain_156 : decode cX0_plain 156 = .ok (.getfield 81, 3) := dk_180 0 81 (dk_at dksX0_plain_6 17 rfl rfl)
theorem dX0_plain_159 : decode cX0_plain 159 = .ok (.iconst 2, 1) := dk_5 (dk_at dksX0_plain_6 20 rfl rfl)
theorem dX0_plain_160 : decode cX0_plain 160 = .ok (.if_icmp .ne 10, 3) := dk_160 0 10 (dk_at dksX0_plain_6 21 rfl rfl)
theorem dX0_plain_163 : decode cX0_plain 163 = .ok (.aload_n 0, 1) := dk_42 (dk_at dksX0_plain_7 0 rfl rfl)
theorem dX0_plain_164 : decode cX0_plain 164 = .ok (.iload_n 1, 1) := dk_27 (dk_at dksX0_plain_7 1 rfl rfl)
theorem dX0_plain_165 : decode cX0_plain 165 = .ok (.iload_n 2, 1) := dk_28 (dk_at dksX0_plain_7 2 rfl rfl)
theorem dX0_plain_166 : decode cX0_plain 166 = .ok (.invokevirtual 231, 3) := dk_182 0 231 (dk_at dksX0_plain_7 3 rfl rfl)
theorem dX0_plain_169 : decode cX0_plain 169 = .ok (.areturn, 1) := dk_176 (dk_at dksX0_plain_7 6 rfl rfl)
theorem dX0_plain_170 : decode cX0_plain 170 = .ok (.aload_n 0, 1) := dk_42 (dk_at dksX0_plain_7 7 rfl rfl)
theorem dX0_plain_171 : decode cX0_plain 171 = .ok (.bipush 40, 2) := dk_16 40 (dk_at dksX0_plain_7 8 rfl rfl)
theorem dX0_plain_173 : decode cX0_plain 173 = .ok (.invokevirtual 146, 3) := dk_182 0 146 (dk_at dksX0_plain_7 10 rfl rfl)
theorem dX0_plain_176 : decode cX0_plain 176 = .ok (.ifCond .eq 25, 3) := dk_153 0 25 (dk_at dksX0_plain_7 13 rfl rfl)
theorem dX0_plain_179 : decode cX0_plain 179 = .ok (.aload_n 0, 1) := dk_42 (dk_at dksX0_plain_7 16 rfl rfl)
theorem dX0_plain_180 : decode cX0_plain 180 = .ok (.iload_n 2, 1) := dk_28 (dk_at dksX0_plain_7 17 rfl rfl)
theorem dX0_plain_181 : decode cX0_plain 181 = .ok (.ifCond .ne 7, 3) := dk_154 0 7 (dk_at dksX0_plain_7 18 rfl rfl)
theorem dX0_plain_184 : decode cX0_plain 184 = .ok (.iconst 1, 1) := dk_4 (dk_at dksX0_plain_7 21 rfl rfl)
theorem dX0_plain_185 : decode cX0_plain 185 = .ok (.goto 4, 3) := dk_167 0 4 (dk_at dksX0_plain_8 0 rfl rfl)
theorem dX0_plain_188 : decode cX0_plain 188 = .ok (.iconst 0, 1) := dk_3 (dk_at dksX0_plain_8 3 rfl rfl)
theorem dX0_plain_189 : decode cX0_plain 189 = .ok (.bipush 9, 2) := dk_16 9 (dk_at dksX0_plain_8 4 rfl rfl)
theorem dX0_plain_191 : decode cX0_plain 191 = .ok (.iload_n 3, 1) := dk_29 (dk_at dksX0_plain_8 6 rfl rfl)
theorem dX0_plain_192 : decode cX0_plain 192 = .ok (.invokevirtual 98, 3) := dk_182 0 98 (dk_at dksX0_plain_8 7 rfl rfl)
theorem dX0_plain_195 : decode cX0_plain 195 = .ok (.aload_n 0, 1) := dk_42 (dk_at dksX0_plain_8 10 rfl rfl)
theorem dX0_plain_196 : decode cX0_plain 196 = .ok (.iload_n 1, 1) := dk_27 (dk_at dksX0_plain_8 11 rfl rfl)
theorem dX0_plain_197 : decode cX0_plain 197 = .ok (.invokevirtual 234, 3) := dk_182 0 234 (dk_at dksX0_plain_8 12 rfl rfl)
theorem dX0_plain_200 : decode cX0_plain 200 = .ok (.areturn, 1) := dk_176 (dk_at dksX0_plain_8 15 rfl rfl)
theorem dX0_plain_201 : decode cX0_plain 201 = .ok (.aload_n 0, 1) := dk_42 (dk_at dksX0_plain_8 16 rfl rfl)
theorem dX0_plain_202 : decode cX0_plain 202 = .ok (.getfield 81, 3) := dk_180 0 81 (dk_at dksX0_plain_8 17 rfl rfl)
theorem dX0_plain_205 : decode cX0_plain 205 = .ok (.iconst 4, 1) := dk_7 (dk_at dksX0_plain_8 20 rfl rfl)
theorem dX0_plain_206 : decode cX0_plain 206 = .ok (.if_icmp .ne 35, 3) := dk_160 0 35 (dk_at dksX0_plain_8 21 rfl rfl)
theorem dX0_plain_209 : decode cX0_plain 209 = .ok (.aload_n 0, 1) := dk_42 (dk_at dksX0_plain_9 0 rfl rfl)
theorem dX0_plain_210 : decode cX0_plain 210 = .ok (.iload_n 1, 1) := dk_27 (dk_at dksX0_plain_9 1 rfl rfl)
theorem dX0_plain_211 : decode cX0_plain 211 = .ok (.iconst 2, 1) := dk_5 (dk_at dksX0_plain_9 2 rfl rfl)
theorem dX0_plain_212 : decode cX0_plain 212 = .ok (.if_icmp .ne 7, 3) := dk_160 0 7 (dk_at dksX0_plain_9 3 rfl rfl)
theorem dX0_plain_215 : decode cX0_plain 215 = .ok (.iconst 1, 1) := dk_4 (dk_at dksX0_plain_9 6 rfl rfl)
theorem dX0_plain_216 : decode cX0_plain 216 = .ok (.goto 4, 3) := dk_167 0 4 (dk_at dksX0_plain_9 7 rfl rfl)
theorem dX0_plain_219 : decode cX0_plain 219 = .ok (.iconst 0, 1) := dk_3 (dk_at dksX0_plain_9 10 rfl rfl)
theorem dX0_plain_220 : decode cX0_plain 220 = .ok (.iconst 5, 1) := dk_8 (dk_at dksX0_plain_9 11 rfl rfl)
theorem dX0_plain_221 : decode cX0_plain 221 = .ok (.iload_n 3, 1) := dk_29 (dk_at dksX0_plain_9 12 rfl rfl)
theorem dX0_plain_222 : decode cX0_plain 222 = .ok (.invokevirtual 98, 3) := dk_182 0 98 (dk_at dksX0_plain_9 13 rfl rfl)
theorem dX0_plain_225 : decode cX0_plain 225 = .ok (.new 237, 3) := dk_187 0 237 (dk_at dksX0_plain_9 16 rfl rfl)
theorem dX0_plain_228 : decode cX0_plain 228 = .ok (.dup, 1) := dk_89 (dk_at dksX0_plain_9 19 rfl rfl)
theorem dX0_plain_229 : decode cX0_plain 229 = .ok (.aload_n 0, 1) := dk_42 (dk_at dksX0_plain_9 20 rfl rfl)
theorem dX0_plain_230 : decode cX0_plain 230 = .ok (.getfield 115, 3) := dk_180 0 115 (dk_at dksX0_plain_9 21 rfl rfl)
theorem dX0_plain_233 : decode cX0_plain 233 = .ok (.invokespecial 239, 3) := dk_183 0 239 (dk_at dksX0_plain_10 0 rfl rfl)
theorem dX0_plain_236 : decode cX0_plain 236 = .ok (.astore 4, 2) := dk_58 4 (dk_at dksX0_plain_10 3 rfl rfl)
theorem dX0_plain_238 : decode cX0_plain 238 = .ok (.goto 84, 3) := dk_167 0 84 (dk_at dksX0_plain_10 5 rfl rfl)
theorem dX0_plain_241 : decode cX0_plain 241 = .ok (.aload_n 0, 1) := dk_42 (dk_at dksX0_plain_10 8 rfl rfl)
theorem dX0_plain_242 : decode cX0_plain 242 = .ok (.ldc 242, 2) := dk_18 242 (dk_at dksX0_plain_10 9 rfl rfl)
theorem dX0_plain_244 : decode cX0_plain 244 = .ok (.invokevirtual 162, 3) := dk_182 0 162 (dk_at dksX0_plain_10 11 rfl rfl)
theorem dX0_plain_247 : decode cX0_plain 247 = .ok (.ifCond .ne 12, 3) := dk_154 0 12 (dk_at dksX0_plain_10 14 rfl rfl)
theorem dX0_plain_250 : decode cX0_plain 250 = .ok (.aload_n 0, 1) := dk_42 (dk_at dksX0_plain_10 17 rfl rfl)
theorem dX0_plain_251 : decode cX0_plain 251 = .ok (.ldc 244, 2) := dk_18 244 (dk_at dksX0_plain_10 18 rfl rfl)
theorem dX0_plain_253 : decode cX0_plain 253 = .ok (.invokevirtual 162, 3) := dk_182 0 162 (dk_at dksX0_plain_10 20 rfl rfl)
theorem dX0_plain_256 : decode cX0_plain 256 = .ok (.ifCond .eq 37, 3) := dk_153 0 37 (dk_at dksX0_plain_11 0 rfl rfl)
theorem dX0_plain_259 : decode cX0_plain 259 = .ok (.aload_n 0, 1) := dk_42 (dk_at dksX0_plain_11 3 rfl rfl)
theorem dX0_plain_260 : decode cX0_plain 260 = .ok (.iload_n 1, 1) := dk_27 (dk_at dksX0_plain_11 4 rfl rfl)
theorem dX0_plain_261 : decode cX0_plain 261 = .ok (.iconst 1, 1) := dk_4 (dk_at dksX0_plain_11 5 rfl rfl)
theorem dX0_plain_262 : decode cX0_plain 262 = .ok (.if_icmp .ne 7, 3) := dk_160 0 7 (dk_at dksX0_plain_11 6 rfl rfl)
theorem dX0_plain_265 : decode cX0_plain 265 = .ok (.iconst 1, 1) := dk_4 (dk_at dksX0_plain_11 9 rfl rfl)
theorem dX0_plain_266 : decode cX0_plain 266 = .ok (.goto 4, 3) := dk_167 0 4 (dk_at dksX0_plain_11 10 rfl rfl)
theorem dX0_plain_269 : decode cX0_plain 269 = .ok (.iconst 0, 1) := dk_3 (dk_at dksX0_plain_11 13 rfl rfl)
theorem dX0_plain_270 : decode cX0_plain 270 = .ok (.iconst 5, 1) := dk_8 (dk_at dksX0_plain_11 14 rfl rfl)
theorem dX0_plain_271 : decode cX0_plain 271 = .ok (.iload_n 3, 1) := dk_29 (dk_at dksX0_plain_11 15 rfl rfl)
theorem dX0_plain_272 : decode cX0_plain 272 = .ok (.invokevirtual 98, 3) := dk_182 0 98 (dk_at dksX0_plain_11 16 rfl rfl)
theorem dX0_plain_275 : decode cX0_plain 275 = .ok (.new 246, 3) := dk_187 0 246 (dk_at dksX0_plain_11 19 rfl rfl)
theorem dX0_plain_278 : decode cX0_plain 278 = .ok (.dup, 1) := dk_89 (dk_at dksX0_plain_11 22 rfl rfl)
theorem dX0_plain_279 : decode cX0_plain 279 = .ok (.aload_n 0, 1) := dk_42 (dk_at dksX0_plain_11 23 rfl rfl)
theorem dX0_plain_280 : decode cX0_plain 280 = .ok (.ldc 242, 2) := dk_18 242 (dk_at dksX0_plain_12 0 rfl rfl)
theorem dX0_plain_282 : decode cX0_plain 282 = .ok (.invokevirtual 162, 3) := dk_182 0 162 (dk_at dksX0_plain_12 2 rfl rfl)
theorem dX0_plain_285 : decode cX0_plain 285 = .ok (.invokespecial 248, 3) := dk_183 0 248 (dk_at dksX0_plain_12 5 rfl rfl)
theorem dX0_plain_288 : decode cX0_plain 288 = .ok (.astore 4, 2) := dk_58 4 (dk_at dksX0_plain_12 8 rfl rfl)
theorem dX0_plain_290 : decode cX0_plain 290 = .ok (.goto 32, 3) := dk_167 0 32 (dk_at dksX0_plain_12 10 rfl rfl)
theorem dX0_plain_293 : decode cX0_plain 293 = .ok (.aload_n 0, 1) := dk_42 (dk_at dksX0_plain_12 13 rfl rfl)
theorem dX0_plain_294 : decode cX0_plain 294 = .ok (.aload_n 0, 1) := dk_42 (dk_at dksX0_plain_12 14 rfl rfl)
theorem dX0_plain_295 : decode cX0_plain 295 = .ok (.ldc 250, 2) := dk_18 250 (dk_at dksX0_plain_12 15 rfl rfl)
theorem dX0_plain_297 : decode cX0_plain 297 = .ok (.invokevirtual 162, 3) := dk_182 0 162 (dk_at dksX0_plain_12 17 rfl rfl)
theorem dX0_plain_300 : decode cX0_plain 300 = .ok (.invokevirtual 149, 3) := dk_182 0 149 (dk_at dksX0_plain_12 20 rfl rfl)
theorem dX0_plain_303 : decode cX0_plain 303 = .ok (.aload_n 0, 1) := dk_42 (dk_at dksX0_plain_12 23 rfl rfl)
theorem dX0_plain_304 : decode cX0_plain 304 = .ok (.iload_n 1, 1) := dk_27 (dk_at dksX0_plain_13 0 rfl rfl)
theorem dX0_plain_305 : decode cX0_plain 305 = .ok (.invokestatic 252, 3) := dk_184 0 252 (dk_at dksX0_plain_13 1 rfl rfl)
theorem dX0_plain_308 : decode cX0_plain 308 = .ok (.iconst 5, 1) := dk_8 (dk_at dksX0_plain_13 4 rfl rfl)
theorem dX0_plain_309 : decode cX0_plain 309 = .ok (.iload_n 3, 1) := dk_29 (dk_at dksX0_plain_13 5 rfl rfl)
theorem dX0_plain_310 : decode cX0_plain 310 = .ok (.invokevirtual 98, 3) := dk_182 0 98 (dk_at dksX0_plain_13 6 rfl rfl)
theorem dX0_plain_313 : decode cX0_plain 313 = .ok (.new 255, 3) := dk_187 0 255 (dk_at dksX0_plain_13 9 rfl rfl)
theorem dX0_plain_316 : decode cX0_plain 316 = .ok (.dup, 1) := dk_89 (dk_at dksX0_plain_13 12 rfl rfl)
theorem dX0_plain_317 : decode cX0_plain 317 = .ok (.invokespecial 257, 3) := dk_183 1 1 (dk_at dksX0_plain_13 13 rfl rfl)
theorem dX0_plain_320 : decode cX0_plain 320 = .ok (.astore 4, 2) := dk_58 4 (dk_at dksX0_plain_13 16 rfl rfl)
theorem dX0_plain_322 : decode cX0_plain 322 = .ok (.aload_n 0, 1) := dk_42 (dk_at dksX0_plain_13 18 rfl rfl)
theorem dX0_plain_323 : decode cX0_plain 323 = .ok (.iload_n 2, 1) := dk_28 (dk_at dksX0_plain_13 19 rfl rfl)
theorem dX0_plain_324 : decode cX0_plain 324 = .ok (.ifCond .ne 7, 3) := dk_154 0 7 (dk_at dksX0_plain_13 20 rfl rfl)
theorem dX0_plain_327 : decode cX0_plain 327 = .ok (.iconst 1, 1) := dk_4 (dk_at dksX0_plain_13 23 rfl rfl)
theorem dX0_plain_328 : decode cX0_plain 328 = .ok (.goto 4, 3) := dk_167 0 4 (dk_at dksX0_plain_14 0 rfl rfl)
theorem dX0_plain_331 : decode cX0_plain 331 = .ok (.iconst 0, 1) := dk_3 (dk_at dksX0_plain_14 3 rfl rfl)
theorem dX0_plain_332 : decode cX0_plain 332 = .ok (.bipush 9, 2) := dk_16 9 (dk_at dksX0_plain_14 4 rfl rfl)
theorem dX0_plain_334 : decode cX0_plain 334 = .ok (.iload_n 3, 1) := dk_29 (dk_at dksX0_plain_14 6 rfl rfl)
theorem dX0_plain_335 : decode cX0_plain 335 = .ok (.invokevirtual 98, 3) := dk_182 0 98 (dk_at dksX0_plain_14 7 rfl rfl)
theorem dX0_plain_338 : decode cX0_plain 338 = .ok (.aload_n 0, 1) := dk_42 (dk_at dksX0_plain_14 10 rfl rfl)
theorem dX0_plain_339 : decode cX0_plain 339 = .ok (.invokevirtual 152, 3) := dk_182 0 152 (dk_at dksX0_plain_14 11 rfl rfl)
theorem dX0_plain_342 : decode cX0_plain 342 = .ok (.aload 4, 2) := dk_25 4 (dk_at dksX0_plain_14 14 rfl rfl)
theorem dX0_plain_344 : decode cX0_plain 344 = .ok (.areturn, 1) := dk_176 (dk_at dksX0_plain_14 16 rfl rfl)
abbrev cX0_nameAt : ByteArray := prog_1_method_27_code
def yX0_nameAt : MethodName := ⟨RX0, "nameAt", "(I)I"⟩
def dkwX0_nameAt_2 : List UInt8 := [154, 0, 7, 4, 167, 0, 4, 3, 6, 42, 180, 0, 78, 182, 0, 98, 28, 172]
abbrev dktX0_nameAt_2 : List UInt8 := dkwX0_nameAt_2 ++ []
def dkwX0_nameAt_1 : List UInt8 := [132, 2, 1, 167, 255, 231, 42, 28, 42, 180, 1, 11, 159, 0, 14, 42, 180, 1, 18, 28, 122, 4, 126]
abbrev dktX0_nameAt_1 : List UInt8 := dkwX0_nameAt_1 ++ dktX0_nameAt_2
def dkwX0_nameAt_0 : List UInt8 := [3, 61, 28, 42, 180, 1, 11, 162, 0, 23, 42, 180, 1, 14, 28, 47, 42, 180, 0, 115, 148, 153, 0, 9]
abbrev dktX0_nameAt_0 : List UInt8 := dkwX0_nameAt_0 ++ dktX0_nameAt_1
theorem dksX0_nameAt_0 : cX0_nameAt.data.toList.drop 0 = dktX0_nameAt_0 := by decide +kernel
theorem dksX0_nameAt_1 : cX0_nameAt.data.toList.drop 24 = dktX0_nameAt_1 := dk_seg dksX0_nameAt_0 24 rfl rfl
theorem dksX0_nameAt_2 : cX0_nameAt.data.toList.drop 47 = dktX0_nameAt_2 := dk_seg dksX0_nameAt_1 23 rfl rfl
theorem dX0_nameAt_0 : decode cX0_nameAt 0 = .ok (.iconst 0, 1) := dk_3 (dk_at dksX0_nameAt_0 0 rfl rfl)
theorem dX0_nameAt_1 : decode cX0_nameAt 1 = .ok (.istore_n 2, 1) := dk_61 (dk_at dksX0_nameAt_0 1 rfl rfl)
theorem dX0_nameAt_2 : decode cX0_nameAt 2 = .ok (.iload_n 2, 1) := dk_28 (dk_at dksX0_nameAt_0 2 rfl rfl)
theorem dX0_nameAt_3 : decode cX0_nameAt 3 = .ok (.aload_n 0, 1) := dk_42 (dk_at dksX0_nameAt_0 3 rfl rfl)
theorem dX0_nameAt_4 : decode cX0_nameAt 4 = .ok (.getfield 267, 3) := dk_180 1 11 (dk_at dksX0_nameAt_0 4 rfl rfl)
theorem dX0_nameAt_7 : decode cX0_nameAt 7 = .ok (.if_icmp .ge 23, 3) := dk_162 0 23 (dk_at dksX0_nameAt_0 7 rfl rfl)
theorem dX0_nameAt_10 : decode cX0_nameAt 10 = .ok (.aload_n 0, 1) := dk_42 (dk_at dksX0_nameAt_0 10 rfl rfl)
theorem dX0_nameAt_11 : decode cX0_nameAt 11 = .ok (.getfield 270, 3) := dk_180 1 14 (dk_at dksX0_nameAt_0 11 rfl rfl)
theorem dX0_nameAt_14 : decode cX0_nameAt 14 = .ok (.iload_n 2, 1) := dk_28 (dk_at dksX0_nameAt_0 14 rfl rfl)
theorem dX0_nameAt_15 : decode cX0_nameAt 15 = .ok (.laload, 1) := dk_47 (dk_at dksX0_nameAt_0 15 rfl rfl)
theorem dX0_nameAt_16 : decode cX0_nameAt 16 = .ok (.aload_n 0, 1) := dk_42 (dk_at dksX0_nameAt_0 16 rfl rfl)
theorem dX0_nameAt_17 : decode cX0_nameAt 17 = .ok (.getfield 115, 3) := dk_180 0 115 (dk_at dksX0_nameAt_0 17 rfl rfl)
theorem dX0_nameAt_20 : decode cX0_nameAt 20 = .ok (.lcmp, 1) := dk_148 (dk_at dksX0_nameAt_0 20 rfl rfl)
theorem dX0_nameAt_21 : decode cX0_nameAt 21 = .ok (.ifCond .eq 9, 3) := dk_153 0 9 (dk_at dksX0_nameAt_0 21 rfl rfl)
theorem dX0_nameAt_24 : decode cX0_nameAt 24 = .ok (.iinc 2 1, 3) := dk_132 2 1 (dk_at dksX0_nameAt_1 0 rfl rfl)
theorem dX0_nameAt_27 : decode cX0_nameAt 27 = .ok (.goto (-25), 3) := dk_167 255 231 (dk_at dksX0_nameAt_1 3 rfl rfl)
theorem dX0_nameAt_30 : decode cX0_nameAt 30 = .ok (.aload_n 0, 1) := dk_42 (dk_at dksX0_nameAt_1 6 rfl rfl)
theorem dX0_nameAt_31 : decode cX0_nameAt 31 = .ok (.iload_n 2, 1) := dk_28 (dk_at dksX0_nameAt_1 7 rfl rfl)
theorem dX0_nameAt_32 : decode cX0_nameAt 32 = .ok (.aload_n 0, 1) := dk_42 (dk_at dksX0_nameAt_1 8 rfl rfl)
theorem dX0_nameAt_33 : decode cX0_nameAt 33 = .ok (.getfield 267, 3) := dk_180 1 11 (dk_at dksX0_nameAt_1 9 rfl rfl)
theorem dX0_nameAt_36 : decode cX0_nameAt 36 = .ok (.if_icmp .eq 14, 3) := dk_159 0 14 (dk_at dksX0_nameAt_1 12 rfl rfl)
theorem dX0_nameAt_39 : decode cX0_nameAt 39 = .ok (.aload_n 0, 1) := dk_42 (dk_at dksX0_nameAt_1 15 rfl rfl)
theorem dX0_nameAt_40 : decode cX0_nameAt 40 = .ok (.getfield 274, 3) := dk_180 1 18 (dk_at dksX0_nameAt_1 16 rfl rfl)
theorem dX0_nameAt_43 : decode cX0_nameAt 43 = .ok (.iload_n 2, 1) := dk_28 (dk_at dksX0_nameAt_1 19 rfl rfl)
theorem dX0_nameAt_44 : decode cX0_nameAt 44 = .ok (.ishr, 1) := dk_122 (dk_at dksX0_nameAt_1 20 rfl rfl)
theorem dX0_nameAt_45 : decode cX0_nameAt 45 = .ok (.iconst 1, 1) := dk_4 (dk_at dksX0_nameAt_1 21 rfl rfl)
theorem dX0_nameAt_46 : decode cX0_nameAt 46 = .ok (.iand, 1) := dk_126 (dk_at dksX0_nameAt_1 22 rfl rfl)
theorem dX0_nameAt_47 : decode cX0_nameAt 47 = .ok (.ifCond .ne 7, 3) := dk_154 0 7 (dk_at dksX0_nameAt_2 0 rfl rfl)
theorem dX0_nameAt_50 : decode cX0_nameAt 50 = .ok (.iconst 1, 1) := dk_4 (dk_at dksX0_nameAt_2 3 rfl rfl)
theorem dX0_nameAt_51 : decode cX0_nameAt 51 = .ok (.goto 4, 3) := dk_167 0 4 (dk_at dksX0_nameAt_2 4 rfl rfl)
theorem dX0_nameAt_54 : decode cX0_nameAt 54 = .ok (.iconst 0, 1) := dk_3 (dk_at dksX0_nameAt_2 7 rfl rfl)
theorem dX0_nameAt_55 : decode cX0_nameAt 55 = .ok (.iconst 3, 1) := dk_6 (dk_at dksX0_nameAt_2 8 rfl rfl)
theorem dX0_nameAt_56 : decode cX0_nameAt 56 = .ok (.aload_n 0, 1) := dk_42 (dk_at dksX0_nameAt_2 9 rfl rfl)
theorem dX0_nameAt_57 : decode cX0_nameAt 57 = .ok (.getfield 78, 3) := dk_180 0 78 (dk_at dksX0_nameAt_2 10 rfl rfl)
theorem dX0_nameAt_60 : decode cX0_nameAt 60 = .ok (.invokevirtual 98, 3) := dk_182 0 98 (dk_at dksX0_nameAt_2 13 rfl rfl)
theorem dX0_nameAt_63 : decode cX0_nameAt 63 = .ok (.iload_n 2, 1) := dk_28 (dk_at dksX0_nameAt_2 16 rfl rfl)
theorem dX0_nameAt_64 : decode cX0_nameAt 64 = .ok (.ireturn, 1) := dk_172 (dk_at dksX0_nameAt_2 17 rfl rfl)
abbrev cX0_bind : ByteArray := prog_1_method_28_code
def yX0_bind : MethodName := ⟨RX0, "bind", "(II)I"⟩
def dkwX0_bind_2 : List UInt8 := [180, 1, 24, 27, 28, 79, 42, 89, 180, 1, 18, 4, 27, 120, 128, 181, 1, 18, 27, 172]
abbrev dktX0_bind_2 : List UInt8 := dkwX0_bind_2 ++ []
def dkwX0_bind_1 : List UInt8 := [180, 1, 14, 27, 42, 180, 0, 115, 80, 42, 42, 180, 1, 11, 27, 4, 96, 184, 1, 21, 181, 1, 11, 42]
abbrev dktX0_bind_1 : List UInt8 := dkwX0_bind_1 ++ dktX0_bind_2
def dkwX0_bind_0 : List UInt8 := [42, 27, 16, 8, 162, 0, 7, 4, 167, 0, 4, 3, 16, 9, 42, 180, 0, 78, 182, 0, 98, 42]
abbrev dktX0_bind_0 : List UInt8 := dkwX0_bind_0 ++ dktX0_bind_1
theorem dksX0_bind_0 : cX0_bind.data.toList.drop 0 = dktX0_bind_0 := by decide +kernel
theorem dksX0_bind_1 : cX0_bind.data.toList.drop 22 = dktX0_bind_1 := dk_seg dksX0_bind_0 22 rfl rfl
theorem dksX0_bind_2 : cX0_bind.data.toList.drop 46 = dktX0_bind_2 := dk_seg dksX0_bind_1 24 rfl rfl
theorem dX0_bind_0 : decode cX0_bind 0 = .ok (.aload_n 0, 1) := dk_42 (dk_at dksX0_bind_0 0 rfl rfl)
theorem dX0_bind_1 : decode cX0_bind 1 = .ok (.iload_n 1, 1) := dk_27 (dk_at dksX0_bind_0 1 rfl rfl)
theorem dX0_bind_2 : decode cX0_bind 2 = .ok (.bipush 8, 2) := dk_16 8 (dk_at dksX0_bind_0 2 rfl rfl)
theorem dX0_bind_4 : decode cX0_bind 4 = .ok (.if_icmp .ge 7, 3) := dk_162 0 7 (dk_at dksX0_bind_0 4 rfl rfl)
theorem dX0_bind_7 : decode cX0_bind 7 = .ok (.iconst 1, 1) := dk_4 (dk_at dksX0_bind_0 7 rfl rfl)
theorem dX0_bind_8 : decode cX0_bind 8 = .ok (.goto 4, 3) := dk_167 0 4 (dk_at dksX0_bind_0 8 rfl rfl)
theorem dX0_bind_11 : decode cX0_bind 11 = .ok (.iconst 0, 1) := dk_3 (dk_at dksX0_bind_0 11 rfl rfl)
theorem dX0_bind_12 : decode cX0_bind 12 = .ok (.bipush 9, 2) := dk_16 9 (dk_at dksX0_bind_0 12 rfl rfl)
theorem dX0_bind_14 : decode cX0_bind 14 = .ok (.aload_n 0, 1) := dk_42 (dk_at dksX0_bind_0 14 rfl rfl)
theorem dX0_bind_15 : decode cX0_bind 15 = .ok (.getfield 78, 3) := dk_180 0 78 (dk_at dksX0_bind_0 15 rfl rfl)
theorem dX0_bind_18 : decode cX0_bind 18 = .ok (.invokevirtual 98, 3) := dk_182 0 98 (dk_at dksX0_bind_0 18 rfl rfl)
theorem dX0_bind_21 : decode cX0_bind 21 = .ok (.aload_n 0, 1) := dk_42 (dk_at dksX0_bind_0 21 rfl rfl)
theorem dX0_bind_22 : decode cX0_bind 22 = .ok (.getfield 270, 3) := dk_180 1 14 (dk_at dksX0_bind_1 0 rfl rfl)
theorem dX0_bind_25 : decode cX0_bind 25 = .ok (.iload_n 1, 1) := dk_27 (dk_at dksX0_bind_1 3 rfl rfl)
theorem dX0_bind_26 : decode cX0_bind 26 = .ok (.aload_n 0, 1) := dk_42 (dk_at dksX0_bind_1 4 rfl rfl)
theorem dX0_bind_27 : decode cX0_bind 27 = .ok (.getfield 115, 3) := dk_180 0 115 (dk_at dksX0_bind_1 5 rfl rfl)
theorem dX0_bind_30 : decode cX0_bind 30 = .ok (.lastore, 1) := dk_80 (dk_at dksX0_bind_1 8 rfl rfl)
theorem dX0_bind_31 : decode cX0_bind 31 = .ok (.aload_n 0, 1) := dk_42 (dk_at dksX0_bind_1 9 rfl rfl)
theorem dX0_bind_32 : decode cX0_bind 32 = .ok (.aload_n 0, 1) := dk_42 (dk_at dksX0_bind_1 10 rfl rfl)
theorem dX0_bind_33 : decode cX0_bind 33 = .ok (.getfield 267, 3) := dk_180 1 11 (dk_at dksX0_bind_1 11 rfl rfl)
theorem dX0_bind_36 : decode cX0_bind 36 = .ok (.iload_n 1, 1) := dk_27 (dk_at dksX0_bind_1 14 rfl rfl)
theorem dX0_bind_37 : decode cX0_bind 37 = .ok (.iconst 1, 1) := dk_4 (dk_at dksX0_bind_1 15 rfl rfl)
theorem dX0_bind_38 : decode cX0_bind 38 = .ok (.iadd, 1) := dk_96 (dk_at dksX0_bind_1 16 rfl rfl)
theorem dX0_bind_39 : decode cX0_bind 39 = .ok (.invokestatic 277, 3) := dk_184 1 21 (dk_at dksX0_bind_1 17 rfl rfl)
theorem dX0_bind_42 : decode cX0_bind 42 = .ok (.putfield 267, 3) := dk_181 1 11 (dk_at dksX0_bind_1 20 rfl rfl)
theorem dX0_bind_45 : decode cX0_bind 45 = .ok (.aload_n 0, 1) := dk_42 (dk_at dksX0_bind_1 23 rfl rfl)
theorem dX0_bind_46 : decode cX0_bind 46 = .ok (.getfield 280, 3) := dk_180 1 24 (dk_at dksX0_bind_2 0 rfl rfl)
theorem dX0_bind_49 : decode cX0_bind 49 = .ok (.iload_n 1, 1) := dk_27 (dk_at dksX0_bind_2 3 rfl rfl)
theorem dX0_bind_50 : decode cX0_bind 50 = .ok (.iload_n 2, 1) := dk_28 (dk_at dksX0_bind_2 4 rfl rfl)
theorem dX0_bind_51 : decode cX0_bind 51 = .ok (.iastore, 1) := dk_79 (dk_at dksX0_bind_2 5 rfl rfl)
theorem dX0_bind_52 : decode cX0_bind 52 = .ok (.aload_n 0, 1) := dk_42 (dk_at dksX0_bind_2 6 rfl rfl)
theorem dX0_bind_53 : decode cX0_bind 53 = .ok (.dup, 1) := dk_89 (dk_at dksX0_bind_2 7 rfl rfl)
theorem dX0_bind_54 : decode cX0_bind 54 = .ok (.getfield 274, 3) := dk_180 1 18 (dk_at dksX0_bind_2 8 rfl rfl)
theorem dX0_bind_57 : decode cX0_bind 57 = .ok (.iconst 1, 1) := dk_4 (dk_at dksX0_bind_2 11 rfl rfl)
theorem dX0_bind_58 : decode cX0_bind 58 = .ok (.iload_n 1, 1) := dk_27 (dk_at dksX0_bind_2 12 rfl rfl)
theorem dX0_bind_59 : decode cX0_bind 59 = .ok (.ishl, 1) := dk_120 (dk_at dksX0_bind_2 13 rfl rfl)
theorem dX0_bind_60 : decode cX0_bind 60 = .ok (.ior, 1) := dk_128 (dk_at dksX0_bind_2 14 rfl rfl)
theorem dX0_bind_61 : decode cX0_bind 61 = .ok (.putfield 274, 3) := dk_181 1 18 (dk_at dksX0_bind_2 15 rfl rfl)
theorem dX0_bind_64 : decode cX0_bind 64 = .ok (.iload_n 1, 1) := dk_27 (dk_at dksX0_bind_2 18 rfl rfl)
theorem dX0_bind_65 : decode cX0_bind 65 = .ok (.ireturn, 1) := dk_172 (dk_at dksX0_bind_2 19 rfl rfl)
abbrev cX0_range : ByteArray := prog_1_method_26_code
def yX0_range : MethodName := ⟨RX0, "range", "(I)LLetterPost$Pattern;"⟩
def dkwX0_range_2 : List UInt8 := [187, 1, 8, 89, 28, 29, 183, 1, 10, 176]
abbrev dktX0_range_2 : List UInt8 := dkwX0_range_2 ++ []
def dkwX0_range_1 : List UInt8 := [62, 42, 28, 29, 163, 0, 7, 4, 167, 0, 4, 3, 16, 7, 27, 182, 0, 98, 42, 182, 0, 152]
abbrev dktX0_range_1 : List UInt8 := dkwX0_range_1 ++ dktX0_range_2
def dkwX0_range_0 : List UInt8 := [42, 182, 1, 5, 61, 28, 62, 42, 16, 46, 182, 0, 146, 153, 0, 33, 42, 182, 0, 152, 42, 182, 1, 2]
abbrev dktX0_range_0 : List UInt8 := dkwX0_range_0 ++ dktX0_range_1
theorem dksX0_range_0 : cX0_range.data.toList.drop 0 = dktX0_range_0 := by decide +kernel
theorem dksX0_range_1 : cX0_range.data.toList.drop 24 = dktX0_range_1 := dk_seg dksX0_range_0 24 rfl rfl
theorem dksX0_range_2 : cX0_range.data.toList.drop 46 = dktX0_range_2 := dk_seg dksX0_range_1 22 rfl rfl
theorem dX0_range_0 : decode cX0_range 0 = .ok (.aload_n 0, 1) := dk_42 (dk_at dksX0_range_0 0 rfl rfl)
theorem dX0_range_1 : decode cX0_range 1 = .ok (.invokevirtual 261, 3) := dk_182 1 5 (dk_at dksX0_range_0 1 rfl rfl)
theorem dX0_range_4 : decode cX0_range 4 = .ok (.istore_n 2, 1) := dk_61 (dk_at dksX0_range_0 4 rfl rfl)
theorem dX0_range_5 : decode cX0_range 5 = .ok (.iload_n 2, 1) := dk_28 (dk_at dksX0_range_0 5 rfl rfl)
theorem dX0_range_6 : decode cX0_range 6 = .ok (.istore_n 3, 1) := dk_62 (dk_at dksX0_range_0 6 rfl rfl)
theorem dX0_range_7 : decode cX0_range 7 = .ok (.aload_n 0, 1) := dk_42 (dk_at dksX0_range_0 7 rfl rfl)
theorem dX0_range_8 : decode cX0_range 8 = .ok (.bipush 46, 2) := dk_16 46 (dk_at dksX0_range_0 8 rfl rfl)
theorem dX0_range_10 : decode cX0_range 10 = .ok (.invokevirtual 146, 3) := dk_182 0 146 (dk_at dksX0_range_0 10 rfl rfl)
theorem dX0_range_13 : decode cX0_range 13 = .ok (.ifCond .eq 33, 3) := dk_153 0 33 (dk_at dksX0_range_0 13 rfl rfl)
theorem dX0_range_16 : decode cX0_range 16 = .ok (.aload_n 0, 1) := dk_42 (dk_at dksX0_range_0 16 rfl rfl)
theorem dX0_range_17 : decode cX0_range 17 = .ok (.invokevirtual 152, 3) := dk_182 0 152 (dk_at dksX0_range_0 17 rfl rfl)
theorem dX0_range_20 : decode cX0_range 20 = .ok (.aload_n 0, 1) := dk_42 (dk_at dksX0_range_0 20 rfl rfl)
theorem dX0_range_21 : decode cX0_range 21 = .ok (.invokevirtual 258, 3) := dk_182 1 2 (dk_at dksX0_range_0 21 rfl rfl)
theorem dX0_range_24 : decode cX0_range 24 = .ok (.istore_n 3, 1) := dk_62 (dk_at dksX0_range_1 0 rfl rfl)
theorem dX0_range_25 : decode cX0_range 25 = .ok (.aload_n 0, 1) := dk_42 (dk_at dksX0_range_1 1 rfl rfl)
theorem dX0_range_26 : decode cX0_range 26 = .ok (.iload_n 2, 1) := dk_28 (dk_at dksX0_range_1 2 rfl rfl)
theorem dX0_range_27 : decode cX0_range 27 = .ok (.iload_n 3, 1) := dk_29 (dk_at dksX0_range_1 3 rfl rfl)
theorem dX0_range_28 : decode cX0_range 28 = .ok (.if_icmp .gt 7, 3) := dk_163 0 7 (dk_at dksX0_range_1 4 rfl rfl)
theorem dX0_range_31 : decode cX0_range 31 = .ok (.iconst 1, 1) := dk_4 (dk_at dksX0_range_1 7 rfl rfl)
theorem dX0_range_32 : decode cX0_range 32 = .ok (.goto 4, 3) := dk_167 0 4 (dk_at dksX0_range_1 8 rfl rfl)
theorem dX0_range_35 : decode cX0_range 35 = .ok (.iconst 0, 1) := dk_3 (dk_at dksX0_range_1 11 rfl rfl)
theorem dX0_range_36 : decode cX0_range 36 = .ok (.bipush 7, 2) := dk_16 7 (dk_at dksX0_range_1 12 rfl rfl)
theorem dX0_range_38 : decode cX0_range 38 = .ok (.iload_n 1, 1) := dk_27 (dk_at dksX0_range_1 14 rfl rfl)
theorem dX0_range_39 : decode cX0_range 39 = .ok (.invokevirtual 98, 3) := dk_182 0 98 (dk_at dksX0_range_1 15 rfl rfl)
theorem dX0_range_42 : decode cX0_range 42 = .ok (.aload_n 0, 1) := dk_42 (dk_at dksX0_range_1 18 rfl rfl)
theorem dX0_range_43 : decode cX0_range 43 = .ok (.invokevirtual 152, 3) := dk_182 0 152 (dk_at dksX0_range_1 19 rfl rfl)
theorem dX0_range_46 : decode cX0_range 46 = .ok (.new 264, 3) := dk_187 1 8 (dk_at dksX0_range_2 0 rfl rfl)
theorem dX0_range_49 : decode cX0_range 49 = .ok (.dup, 1) := dk_89 (dk_at dksX0_range_2 3 rfl rfl)
theorem dX0_range_50 : decode cX0_range 50 = .ok (.iload_n 2, 1) := dk_28 (dk_at dksX0_range_2 4 rfl rfl)
theorem dX0_range_51 : decode cX0_range 51 = .ok (.iload_n 3, 1) := dk_29 (dk_at dksX0_range_2 5 rfl rfl)
theorem dX0_range_52 : decode cX0_range 52 = .ok (.invokespecial 266, 3) := dk_183 1 10 (dk_at dksX0_range_2 6 rfl rfl)
theorem dX0_range_55 : decode cX0_range 55 = .ok (.areturn, 1) := dk_176 (dk_at dksX0_range_2 9 rfl rfl)
abbrev cX0_readWhole : ByteArray := prog_1_method_25_code
def yX0_readWhole : MethodName := ⟨RX0, "readWhole", "()I"⟩
def dkwX0_readWhole_0 : List UInt8 := [42, 182, 1, 2, 60, 42, 182, 0, 152, 27, 172]
abbrev dktX0_readWhole_0 : List UInt8 := dkwX0_readWhole_0 ++ []
theorem dksX0_readWhole_0 : cX0_readWhole.data.toList.drop 0 = dktX0_readWhole_0 := by decide +kernel
theorem dX0_readWhole_0 : decode cX0_readWhole 0 = .ok (.aload_n 0, 1) := dk_42 (dk_at dksX0_readWhole_0 0 rfl rfl)
theorem dX0_readWhole_1 : decode cX0_readWhole 1 = .ok (.invokevirtual 258, 3) := dk_182 1 2 (dk_at dksX0_readWhole_0 1 rfl rfl)
theorem dX0_readWhole_4 : decode cX0_readWhole 4 = .ok (.istore_n 1, 1) := dk_60 (dk_at dksX0_readWhole_0 4 rfl rfl)
theorem dX0_readWhole_5 : decode cX0_readWhole 5 = .ok (.aload_n 0, 1) := dk_42 (dk_at dksX0_readWhole_0 5 rfl rfl)
theorem dX0_readWhole_6 : decode cX0_readWhole 6 = .ok (.invokevirtual 152, 3) := dk_182 0 152 (dk_at dksX0_readWhole_0 6 rfl rfl)
theorem dX0_readWhole_9 : decode cX0_readWhole 9 = .ok (.iload_n 1, 1) := dk_27 (dk_at dksX0_readWhole_0 9 rfl rfl)
theorem dX0_readWhole_10 : decode cX0_readWhole 10 = .ok (.ireturn, 1) := dk_172 (dk_at dksX0_readWhole_0 10 rfl rfl)
abbrev cX0_signed : ByteArray := prog_1_method_24_code
def yX0_signed : MethodName := ⟨RX0, "signed", "()I"⟩
def dkwX0_signed_2 : List UInt8 := [172]
abbrev dktX0_signed_2 : List UInt8 := dkwX0_signed_2 ++ []
def dkwX0_signed_1 : List UInt8 := [4, 167, 0, 4, 3, 182, 0, 149, 27, 153, 0, 11, 42, 180, 0, 95, 116, 167, 0, 7, 42, 180, 0, 95]
abbrev dktX0_signed_1 : List UInt8 := dkwX0_signed_1 ++ dktX0_signed_2
def dkwX0_signed_0 : List UInt8 := [42, 16, 45, 182, 0, 146, 60, 27, 153, 0, 7, 42, 182, 0, 152, 42, 42, 180, 0, 81, 6, 160, 0, 7]
abbrev dktX0_signed_0 : List UInt8 := dkwX0_signed_0 ++ dktX0_signed_1
theorem dksX0_signed_0 : cX0_signed.data.toList.drop 0 = dktX0_signed_0 := by decide +kernel
theorem dksX0_signed_1 : cX0_signed.data.toList.drop 24 = dktX0_signed_1 := dk_seg dksX0_signed_0 24 rfl rfl
theorem dksX0_signed_2 : cX0_signed.data.toList.drop 48 = dktX0_signed_2 := dk_seg dksX0_signed_1 24 rfl rfl
theorem dX0_signed_0 : decode cX0_signed 0 = .ok (.aload_n 0, 1) := dk_42 (dk_at dksX0_signed_0 0 rfl rfl)
theorem dX0_signed_1 : decode cX0_signed 1 = .ok (.bipush 45, 2) := dk_16 45 (dk_at dksX0_signed_0 1 rfl rfl)
theorem dX0_signed_3 : decode cX0_signed 3 = .ok (.invokevirtual 146, 3) := dk_182 0 146 (dk_at dksX0_signed_0 3 rfl rfl)
theorem dX0_signed_6 : decode cX0_signed 6 = .ok (.istore_n 1, 1) := dk_60 (dk_at dksX0_signed_0 6 rfl rfl)
theorem dX0_signed_7 : decode cX0_signed 7 = .ok (.iload_n 1, 1) := dk_27 (dk_at dksX0_signed_0 7 rfl rfl)
theorem dX0_signed_8 : decode cX0_signed 8 = .ok (.ifCond .eq 7, 3) := dk_153 0 7 (dk_at dksX0_signed_0 8 rfl rfl)
theorem dX0_signed_11 : decode cX0_signed 11 = .ok (.aload_n 0, 1) := dk_42 (dk_at dksX0_signed_0 11 rfl rfl)
theorem dX0_signed_12 : decode cX0_signed 12 = .ok (.invokevirtual 152, 3) := dk_182 0 152 (dk_at dksX0_signed_0 12 rfl rfl)
theorem dX0_signed_15 : decode cX0_signed 15 = .ok (.aload_n 0, 1) := dk_42 (dk_at dksX0_signed_0 15 rfl rfl)
theorem dX0_signed_16 : decode cX0_signed 16 = .ok (.aload_n 0, 1) := dk_42 (dk_at dksX0_signed_0 16 rfl rfl)
theorem dX0_signed_17 : decode cX0_signed 17 = .ok (.getfield 81, 3) := dk_180 0 81 (dk_at dksX0_signed_0 17 rfl rfl)
theorem dX0_signed_20 : decode cX0_signed 20 = .ok (.iconst 3, 1) := dk_6 (dk_at dksX0_signed_0 20 rfl rfl)
theorem dX0_signed_21 : decode cX0_signed 21 = .ok (.if_icmp .ne 7, 3) := dk_160 0 7 (dk_at dksX0_signed_0 21 rfl rfl)
theorem dX0_signed_24 : decode cX0_signed 24 = .ok (.iconst 1, 1) := dk_4 (dk_at dksX0_signed_1 0 rfl rfl)
theorem dX0_signed_25 : decode cX0_signed 25 = .ok (.goto 4, 3) := dk_167 0 4 (dk_at dksX0_signed_1 1 rfl rfl)
theorem dX0_signed_28 : decode cX0_signed 28 = .ok (.iconst 0, 1) := dk_3 (dk_at dksX0_signed_1 4 rfl rfl)
theorem dX0_signed_29 : decode cX0_signed 29 = .ok (.invokevirtual 149, 3) := dk_182 0 149 (dk_at dksX0_signed_1 5 rfl rfl)
theorem dX0_signed_32 : decode cX0_signed 32 = .ok (.iload_n 1, 1) := dk_27 (dk_at dksX0_signed_1 8 rfl rfl)
theorem dX0_signed_33 : decode cX0_signed 33 = .ok (.ifCond .eq 11, 3) := dk_153 0 11 (dk_at dksX0_signed_1 9 rfl rfl)
theorem dX0_signed_36 : decode cX0_signed 36 = .ok (.aload_n 0, 1) := dk_42 (dk_at dksX0_signed_1 12 rfl rfl)
theorem dX0_signed_37 : decode cX0_signed 37 = .ok (.getfield 95, 3) := dk_180 0 95 (dk_at dksX0_signed_1 13 rfl rfl)
theorem dX0_signed_40 : decode cX0_signed 40 = .ok (.ineg, 1) := dk_116 (dk_at dksX0_signed_1 16 rfl rfl)
theorem dX0_signed_41 : decode cX0_signed 41 = .ok (.goto 7, 3) := dk_167 0 7 (dk_at dksX0_signed_1 17 rfl rfl)
theorem dX0_signed_44 : decode cX0_signed 44 = .ok (.aload_n 0, 1) := dk_42 (dk_at dksX0_signed_1 20 rfl rfl)
theorem dX0_signed_45 : decode cX0_signed 45 = .ok (.getfield 95, 3) := dk_180 0 95 (dk_at dksX0_signed_1 21 rfl rfl)
theorem dX0_signed_48 : decode cX0_signed 48 = .ok (.ireturn, 1) := dk_172 (dk_at dksX0_signed_2 0 rfl rfl)
abbrev cX0_kinded : ByteArray := prog_1_method_30_code
def yX0_kinded : MethodName := ⟨RX0, "kinded", "(IZ)LLetterPost$Pattern;"⟩
def dkwX0_kinded_11 : List UInt8 := [4, 100, 181, 0, 196, 187, 1, 27, 89, 45, 25, 4, 183, 1, 29, 176]
abbrev dktX0_kinded_11 : List UInt8 := dkwX0_kinded_11 ++ []
def dkwX0_kinded_10 : List UInt8 := [167, 0, 4, 3, 16, 6, 42, 180, 0, 78, 182, 0, 98, 42, 16, 41, 182, 0, 189, 42, 89, 180, 0, 196]
abbrev dktX0_kinded_10 : List UInt8 := dkwX0_kinded_10 ++ dktX0_kinded_11
def dkwX0_kinded_9 : List UInt8 := [46, 182, 1, 32, 83, 132, 5, 1, 167, 255, 195, 42, 42, 16, 44, 182, 0, 146, 154, 0, 7, 4]
abbrev dktX0_kinded_9 : List UInt8 := dkwX0_kinded_9 ++ dktX0_kinded_10
def dkwX0_kinded_8 : List UInt8 := [16, 6, 42, 180, 0, 78, 182, 0, 98, 42, 182, 0, 152, 25, 4, 21, 5, 42, 45, 180, 0, 185, 21, 5]
abbrev dktX0_kinded_8 : List UInt8 := dkwX0_kinded_8 ++ dktX0_kinded_9
def dkwX0_kinded_7 : List UInt8 := [162, 0, 58, 42, 21, 5, 153, 0, 12, 42, 16, 44, 182, 0, 146, 153, 0, 7, 4, 167, 0, 4, 3]
abbrev dktX0_kinded_7 : List UInt8 := dkwX0_kinded_7 ++ dktX0_kinded_8
def dkwX0_kinded_6 : List UInt8 := [189, 0, 38, 58, 4, 42, 89, 180, 0, 196, 4, 96, 181, 0, 196, 3, 54, 5, 21, 5, 45, 180, 0, 172]
abbrev dktX0_kinded_6 : List UInt8 := dkwX0_kinded_6 ++ dktX0_kinded_7
def dkwX0_kinded_5 : List UInt8 := [180, 0, 172, 158, 0, 7, 4, 167, 0, 4, 3, 16, 6, 42, 180, 0, 78, 182, 0, 98, 45, 180, 0, 172]
abbrev dktX0_kinded_5 : List UInt8 := dkwX0_kinded_5 ++ dktX0_kinded_6
def dkwX0_kinded_4 : List UInt8 := [16, 40, 182, 0, 146, 154, 0, 16, 187, 1, 27, 89, 45, 3, 189, 0, 38, 183, 1, 29, 176, 42, 45]
abbrev dktX0_kinded_4 : List UInt8 := dkwX0_kinded_4 ++ dktX0_kinded_5
def dkwX0_kinded_3 : List UInt8 := [42, 28, 154, 0, 7, 4, 167, 0, 4, 3, 16, 9, 42, 180, 0, 78, 182, 0, 98, 42, 182, 0, 152, 42]
abbrev dktX0_kinded_3 : List UInt8 := dkwX0_kinded_3 ++ dktX0_kinded_4
def dkwX0_kinded_2 : List UInt8 := [27, 182, 0, 29, 45, 182, 0, 33, 153, 0, 7, 4, 167, 0, 4, 3, 8, 42, 180, 0, 78, 182, 0, 98]
abbrev dktX0_kinded_2 : List UInt8 := dkwX0_kinded_2 ++ dktX0_kinded_3
def dkwX0_kinded_1 : List UInt8 := [182, 0, 98, 42, 27, 184, 0, 252, 153, 0, 31, 45, 42, 27, 182, 0, 29, 182, 0, 33, 154, 0, 15, 42]
abbrev dktX0_kinded_1 : List UInt8 := dkwX0_kinded_1 ++ dktX0_kinded_2
def dkwX0_kinded_0 : List UInt8 := [42, 42, 180, 0, 115, 182, 0, 155, 78, 42, 45, 198, 0, 7, 4, 167, 0, 4, 3, 7, 42, 180, 0, 78]
abbrev dktX0_kinded_0 : List UInt8 := dkwX0_kinded_0 ++ dktX0_kinded_1
theorem dksX0_kinded_0 : cX0_kinded.data.toList.drop 0 = dktX0_kinded_0 := by decide +kernel
theorem dksX0_kinded_1 : cX0_kinded.data.toList.drop 24 = dktX0_kinded_1 := dk_seg dksX0_kinded_0 24 rfl rfl
theorem dksX0_kinded_2 : cX0_kinded.data.toList.drop 48 = dktX0_kinded_2 := dk_seg dksX0_kinded_1 24 rfl rfl
theorem dksX0_kinded_3 : cX0_kinded.data.toList.drop 72 = dktX0_kinded_3 := dk_seg dksX0_kinded_2 24 rfl rfl
theorem dksX0_kinded_4 : cX0_kinded.data.toList.drop 96 = dktX0_kinded_4 := dk_seg dksX0_kinded_3 24 rfl rfl
theorem dksX0_kinded_5 : cX0_kinded.data.toList.drop 119 = dktX0_kinded_5 := dk_seg dksX0_kinded_4 23 rfl rfl
theorem dksX0_kinded_6 : cX0_kinded.data.toList.drop 143 = dktX0_kinded_6 := dk_seg dksX0_kinded_5 24 rfl rfl
theorem dksX0_kinded_7 : cX0_kinded.data.toList.drop 167 = dktX0_kinded_7 := dk_seg dksX0_kinded_6 24 rfl rfl
theorem dksX0_kinded_8 : cX0_kinded.data.toList.drop 190 = dktX0_kinded_8 := dk_seg dksX0_kinded_7 23 rfl rfl
theorem dksX0_kinded_9 : cX0_kinded.data.toList.drop 214 = dktX0_kinded_9 := dk_seg dksX0_kinded_8 24 rfl rfl
theorem dksX0_kinded_10 : cX0_kinded.data.toList.drop 236 = dktX0_kinded_10 := dk_seg dksX0_kinded_9 22 rfl rfl
theorem dksX0_kinded_11 : cX0_kinded.data.toList.drop 260 = dktX0_kinded_11 := dk_seg dksX0_kinded_10 24 rfl rfl
theorem dX0_kinded_0 : decode cX0_kinded 0 = .ok (.aload_n 0, 1) := dk_42 (dk_at dksX0_kinded_0 0 rfl rfl)
theorem dX0_kinded_1 : decode cX0_kinded 1 = .ok (.aload_n 0, 1) := dk_42 (dk_at dksX0_kinded_0 1 rfl rfl)
theorem dX0_kinded_2 : decode cX0_kinded 2 = .ok (.getfield 115, 3) := dk_180 0 115 (dk_at dksX0_kinded_0 2 rfl rfl)
theorem dX0_kinded_5 : decode cX0_kinded 5 = .ok (.invokevirtual 155, 3) := dk_182 0 155 (dk_at dksX0_kinded_0 5 rfl rfl)
theorem dX0_kinded_8 : decode cX0_kinded 8 = .ok (.astore_n 3, 1) := dk_78 (dk_at dksX0_kinded_0 8 rfl rfl)
theorem dX0_kinded_9 : decode cX0_kinded 9 = .ok (.aload_n 0, 1) := dk_42 (dk_at dksX0_kinded_0 9 rfl rfl)
theorem dX0_kinded_10 : decode cX0_kinded 10 = .ok (.aload_n 3, 1) := dk_45 (dk_at dksX0_kinded_0 10 rfl rfl)
theorem dX0_kinded_11 : decode cX0_kinded 11 = .ok (.ifnull 7, 3) := dk_198 0 7 (dk_at dksX0_kinded_0 11 rfl rfl)
theorem dX0_kinded_14 : decode cX0_kinded 14 = .ok (.iconst 1, 1) := dk_4 (dk_at dksX0_kinded_0 14 rfl rfl)
theorem dX0_kinded_15 : decode cX0_kinded 15 = .ok (.goto 4, 3) := dk_167 0 4 (dk_at dksX0_kinded_0 15 rfl rfl)
theorem dX0_kinded_18 : decode cX0_kinded 18 = .ok (.iconst 0, 1) := dk_3 (dk_at dksX0_kinded_0 18 rfl rfl)
theorem dX0_kinded_19 : decode cX0_kinded 19 = .ok (.iconst 4, 1) := dk_7 (dk_at dksX0_kinded_0 19 rfl rfl)
theorem dX0_kinded_20 : decode cX0_kinded 20 = .ok (.aload_n 0, 1) := dk_42 (dk_at dksX0_kinded_0 20 rfl rfl)
theorem dX0_kinded_21 : decode cX0_kinded 21 = .ok (.getfield 78, 3) := dk_180 0 78 (dk_at dksX0_kinded_0 21 rfl rfl)
theorem dX0_kinded_24 : decode cX0_kinded 24 = .ok (.invokevirtual 98, 3) := dk_182 0 98 (dk_at dksX0_kinded_1 0 rfl rfl)
theorem dX0_kinded_27 : decode cX0_kinded 27 = .ok (.aload_n 0, 1) := dk_42 (dk_at dksX0_kinded_1 3 rfl rfl)
theorem dX0_kinded_28 : decode cX0_kinded 28 = .ok (.iload_n 1, 1) := dk_27 (dk_at dksX0_kinded_1 4 rfl rfl)
theorem dX0_kinded_29 : decode cX0_kinded 29 = .ok (.invokestatic 252, 3) := dk_184 0 252 (dk_at dksX0_kinded_1 5 rfl rfl)
theorem dX0_kinded_32 : decode cX0_kinded 32 = .ok (.ifCond .eq 31, 3) := dk_153 0 31 (dk_at dksX0_kinded_1 8 rfl rfl)
theorem dX0_kinded_35 : decode cX0_kinded 35 = .ok (.aload_n 3, 1) := dk_45 (dk_at dksX0_kinded_1 11 rfl rfl)
theorem dX0_kinded_36 : decode cX0_kinded 36 = .ok (.aload_n 0, 1) := dk_42 (dk_at dksX0_kinded_1 12 rfl rfl)
theorem dX0_kinded_37 : decode cX0_kinded 37 = .ok (.iload_n 1, 1) := dk_27 (dk_at dksX0_kinded_1 13 rfl rfl)
theorem dX0_kinded_38 : decode cX0_kinded 38 = .ok (.invokevirtual 29, 3) := dk_182 0 29 (dk_at dksX0_kinded_1 14 rfl rfl)
theorem dX0_kinded_41 : decode cX0_kinded 41 = .ok (.invokevirtual 33, 3) := dk_182 0 33 (dk_at dksX0_kinded_1 17 rfl rfl)
theorem dX0_kinded_44 : decode cX0_kinded 44 = .ok (.ifCond .ne 15, 3) := dk_154 0 15 (dk_at dksX0_kinded_1 20 rfl rfl)
theorem dX0_kinded_47 : decode cX0_kinded 47 = .ok (.aload_n 0, 1) := dk_42 (dk_at dksX0_kinded_1 23 rfl rfl)
theorem dX0_kinded_48 : decode cX0_kinded 48 = .ok (.iload_n 1, 1) := dk_27 (dk_at dksX0_kinded_2 0 rfl rfl)
theorem dX0_kinded_49 : decode cX0_kinded 49 = .ok (.invokevirtual 29, 3) := dk_182 0 29 (dk_at dksX0_kinded_2 1 rfl rfl)
theorem dX0_kinded_52 : decode cX0_kinded 52 = .ok (.aload_n 3, 1) := dk_45 (dk_at dksX0_kinded_2 4 rfl rfl)
theorem dX0_kinded_53 : decode cX0_kinded 53 = .ok (.invokevirtual 33, 3) := dk_182 0 33 (dk_at dksX0_kinded_2 5 rfl rfl)
theorem dX0_kinded_56 : decode cX0_kinded 56 = .ok (.ifCond .eq 7, 3) := dk_153 0 7 (dk_at dksX0_kinded_2 8 rfl rfl)
theorem dX0_kinded_59 : decode cX0_kinded 59 = .ok (.iconst 1, 1) := dk_4 (dk_at dksX0_kinded_2 11 rfl rfl)
theorem dX0_kinded_60 : decode cX0_kinded 60 = .ok (.goto 4, 3) := dk_167 0 4 (dk_at dksX0_kinded_2 12 rfl rfl)
theorem dX0_kinded_63 : decode cX0_kinded 63 = .ok (.iconst 0, 1) := dk_3 (dk_at dksX0_kinded_2 15 rfl rfl)
theorem dX0_kinded_64 : decode cX0_kinded 64 = .ok (.iconst 5, 1) := dk_8 (dk_at dksX0_kinded_2 16 rfl rfl)
theorem dX0_kinded_65 : decode cX0_kinded 65 = .ok (.aload_n 0, 1) := dk_42 (dk_at dksX0_kinded_2 17 rfl rfl)
theorem dX0_kinded_66 : decode cX0_kinded 66 = .ok (.getfield 78, 3) := dk_180 0 78 (dk_at dksX0_kinded_2 18 rfl rfl)
theorem dX0_kinded_69 : decode cX0_kinded 69 = .ok (.invokevirtual 98, 3) := dk_182 0 98 (dk_at dksX0_kinded_2 21 rfl rfl)
theorem dX0_kinded_72 : decode cX0_kinded 72 = .ok (.aload_n 0, 1) := dk_42 (dk_at dksX0_kinded_3 0 rfl rfl)
theorem dX0_kinded_73 : decode cX0_kinded 73 = .ok (.iload_n 2, 1) := dk_28 (dk_at dksX0_kinded_3 1 rfl rfl)
theorem dX0_kinded_74 : decode cX0_kinded 74 = .ok (.ifCond .ne 7, 3) := dk_154 0 7 (dk_at dksX0_kinded_3 2 rfl rfl)
theorem dX0_kinded_77 : decode cX0_kinded 77 = .ok (.iconst 1, 1) := dk_4 (dk_at dksX0_kinded_3 5 rfl rfl)
theorem dX0_kinded_78 : decode cX0_kinded 78 = .ok (.goto 4, 3) := dk_167 0 4 (dk_at dksX0_kinded_3 6 rfl rfl)
theorem dX0_kinded_81 : decode cX0_kinded 81 = .ok (.iconst 0, 1) := dk_3 (dk_at dksX0_kinded_3 9 rfl rfl)
theorem dX0_kinded_82 : decode cX0_kinded 82 = .ok (.bipush 9, 2) := dk_16 9 (dk_at dksX0_kinded_3 10 rfl rfl)
theorem dX0_kinded_84 : decode cX0_kinded 84 = .ok (.aload_n 0, 1) := dk_42 (dk_at dksX0_kinded_3 12 rfl rfl)
theorem dX0_kinded_85 : decode cX0_kinded 85 = .ok (.getfield 78, 3) := dk_180 0 78 (dk_at dksX0_kinded_3 13 rfl rfl)
theorem dX0_kinded_88 : decode cX0_kinded 88 = .ok (.invokevirtual 98, 3) := dk_182 0 98 (dk_at dksX0_kinded_3 16 rfl rfl)
theorem dX0_kinded_91 : decode cX0_kinded 91 = .ok (.aload_n 0, 1) := dk_42 (dk_at dksX0_kinded_3 19 rfl rfl)
theorem dX0_kinded_92 : decode cX0_kinded 92 = .ok (.invokevirtual 152, 3) := dk_182 0 152 (dk_at dksX0_kinded_3 20 rfl rfl)
theorem dX0_kinded_95 : decode cX0_kinded 95 = .ok (.aload_n 0, 1) := dk_42 (dk_at dksX0_kinded_3 23 rfl rfl)
theorem dX0_kinded_96 : decode cX0_kinded 96 = .ok (.bipush 40, 2) := dk_16 40 (dk_at dksX0_kinded_4 0 rfl rfl)
theorem dX0_kinded_98 : decode cX0_kinded 98 = .ok (.invokevirtual 146, 3) := dk_182 0 146 (dk_at dksX0_kinded_4 2 rfl rfl)
theorem dX0_kinded_101 : decode cX0_kinded 101 = .ok (.ifCond .ne 16, 3) := dk_154 0 16 (dk_at dksX0_kinded_4 5 rfl rfl)
theorem dX0_kinded_104 : decode cX0_kinded 104 = .ok (.new 283, 3) := dk_187 1 27 (dk_at dksX0_kinded_4 8 rfl rfl)
theorem dX0_kinded_107 : decode cX0_kinded 107 = .ok (.dup, 1) := dk_89 (dk_at dksX0_kinded_4 11 rfl rfl)
theorem dX0_kinded_108 : decode cX0_kinded 108 = .ok (.aload_n 3, 1) := dk_45 (dk_at dksX0_kinded_4 12 rfl rfl)
theorem dX0_kinded_109 : decode cX0_kinded 109 = .ok (.iconst 0, 1) := dk_3 (dk_at dksX0_kinded_4 13 rfl rfl)
theorem dX0_kinded_110 : decode cX0_kinded 110 = .ok (.anewarray 38, 3) := dk_189 0 38 (dk_at dksX0_kinded_4 14 rfl rfl)
theorem dX0_kinded_113 : decode cX0_kinded 113 = .ok (.invokespecial 285, 3) := dk_183 1 29 (dk_at dksX0_kinded_4 17 rfl rfl)
theorem dX0_kinded_116 : decode cX0_kinded 116 = .ok (.areturn, 1) := dk_176 (dk_at dksX0_kinded_4 20 rfl rfl)
theorem dX0_kinded_117 : decode cX0_kinded 117 = .ok (.aload_n 0, 1) := dk_42 (dk_at dksX0_kinded_4 21 rfl rfl)
theorem dX0_kinded_118 : decode cX0_kinded 118 = .ok (.aload_n 3, 1) := dk_45 (dk_at dksX0_kinded_4 22 rfl rfl)
theorem dX0_kinded_119 : decode cX0_kinded 119 = .ok (.getfield 172, 3) := dk_180 0 172 (dk_at dksX0_kinded_5 0 rfl rfl)
theorem dX0_kinded_122 : decode cX0_kinded 122 = .ok (.ifCond .le 7, 3) := dk_158 0 7 (dk_at dksX0_kinded_5 3 rfl rfl)
theorem dX0_kinded_125 : decode cX0_kinded 125 = .ok (.iconst 1, 1) := dk_4 (dk_at dksX0_kinded_5 6 rfl rfl)
theorem dX0_kinded_126 : decode cX0_kinded 126 = .ok (.goto 4, 3) := dk_167 0 4 (dk_at dksX0_kinded_5 7 rfl rfl)
theorem dX0_kinded_129 : decode cX0_kinded 129 = .ok (.iconst 0, 1) := dk_3 (dk_at dksX0_kinded_5 10 rfl rfl)
theorem dX0_kinded_130 : decode cX0_kinded 130 = .ok (.bipush 6, 2) := dk_16 6 (dk_at dksX0_kinded_5 11 rfl rfl)
theorem dX0_kinded_132 : decode cX0_kinded 132 = .ok (.aload_n 0, 1) := dk_42 (dk_at dksX0_kinded_5 13 rfl rfl)
theorem dX0_kinded_133 : decode cX0_kinded 133 = .ok (.getfield 78, 3) := dk_180 0 78 (dk_at dksX0_kinded_5 14 rfl rfl)
theorem dX0_kinded_136 : decode cX0_kinded 136 = .ok (.invokevirtual 98, 3) := dk_182 0 98 (dk_at dksX0_kinded_5 17 rfl rfl)
theorem dX0_kinded_139 : decode cX0_kinded 139 = .ok (.aload_n 3, 1) := dk_45 (dk_at dksX0_kinded_5 20 rfl rfl)
theorem dX0_kinded_140 : decode cX0_kinded 140 = .ok (.getfield 172, 3) := dk_180 0 172 (dk_at dksX0_kinded_5 21 rfl rfl)
theorem dX0_kinded_143 : decode cX0_kinded 143 = .ok (.anewarray 38, 3) := dk_189 0 38 (dk_at dksX0_kinded_6 0 rfl rfl)
theorem dX0_kinded_146 : decode cX0_kinded 146 = .ok (.astore 4, 2) := dk_58 4 (dk_at dksX0_kinded_6 3 rfl rfl)
theorem dX0_kinded_148 : decode cX0_kinded 148 = .ok (.aload_n 0, 1) := dk_42 (dk_at dksX0_kinded_6 5 rfl rfl)
theorem dX0_kinded_149 : decode cX0_kinded 149 = .ok (.dup, 1) := dk_89 (dk_at dksX0_kinded_6 6 rfl rfl)
theorem dX0_kinded_150 : decode cX0_kinded 150 = .ok (.getfield 196, 3) := dk_180 0 196 (dk_at dksX0_kinded_6 7 rfl rfl)
theorem dX0_kinded_153 : decode cX0_kinded 153 = .ok (.iconst 1, 1) := dk_4 (dk_at dksX0_kinded_6 10 rfl rfl)
theorem dX0_kinded_154 : decode cX0_kinded 154 = .ok (.iadd, 1) := dk_96 (dk_at dksX0_kinded_6 11 rfl rfl)
theorem dX0_kinded_155 : decode cX0_kinded 155 = .ok (.putfield 196, 3) := dk_181 0 196 (dk_at dksX0_kinded_6 12 rfl rfl)
theorem dX0_kinded_158 : decode cX0_kinded 158 = .ok (.iconst 0, 1) := dk_3 (dk_at dksX0_kinded_6 15 rfl rfl)
theorem dX0_kinded_159 : decode cX0_kinded 159 = .ok (.istore 5, 2) := dk_54 5 (dk_at dksX0_kinded_6 16 rfl rfl)
theorem dX0_kinded_161 : decode cX0_kinded 161 = .ok (.iload 5, 2) := dk_21 5 (dk_at dksX0_kinded_6 18 rfl rfl)
theorem dX0_kinded_163 : decode cX0_kinded 163 = .ok (.aload_n 3, 1) := dk_45 (dk_at dksX0_kinded_6 20 rfl rfl)
theorem dX0_kinded_164 : decode cX0_kinded 164 = .ok (.getfield 172, 3) := dk_180 0 172 (dk_at dksX0_kinded_6 21 rfl rfl)
theorem dX0_kinded_167 : decode cX0_kinded 167 = .ok (.if_icmp .ge 58, 3) := dk_162 0 58 (dk_at dksX0_kinded_7 0 rfl rfl)
theorem dX0_kinded_170 : decode cX0_kinded 170 = .ok (.aload_n 0, 1) := dk_42 (dk_at dksX0_kinded_7 3 rfl rfl)
theorem dX0_kinded_171 : decode cX0_kinded 171 = .ok (.iload 5, 2) := dk_21 5 (dk_at dksX0_kinded_7 4 rfl rfl)
theorem dX0_kinded_173 : decode cX0_kinded 173 = .ok (.ifCond .eq 12, 3) := dk_153 0 12 (dk_at dksX0_kinded_7 6 rfl rfl)
theorem dX0_kinded_176 : decode cX0_kinded 176 = .ok (.aload_n 0, 1) := dk_42 (dk_at dksX0_kinded_7 9 rfl rfl)
theorem dX0_kinded_177 : decode cX0_kinded 177 = .ok (.bipush 44, 2) := dk_16 44 (dk_at dksX0_kinded_7 10 rfl rfl)
theorem dX0_kinded_179 : decode cX0_kinded 179 = .ok (.invokevirtual 146, 3) := dk_182 0 146 (dk_at dksX0_kinded_7 12 rfl rfl)
theorem dX0_kinded_182 : decode cX0_kinded 182 = .ok (.ifCond .eq 7, 3) := dk_153 0 7 (dk_at dksX0_kinded_7 15 rfl rfl)
theorem dX0_kinded_185 : decode cX0_kinded 185 = .ok (.iconst 1, 1) := dk_4 (dk_at dksX0_kinded_7 18 rfl rfl)
theorem dX0_kinded_186 : decode cX0_kinded 186 = .ok (.goto 4, 3) := dk_167 0 4 (dk_at dksX0_kinded_7 19 rfl rfl)
theorem dX0_kinded_189 : decode cX0_kinded 189 = .ok (.iconst 0, 1) := dk_3 (dk_at dksX0_kinded_7 22 rfl rfl)
theorem dX0_kinded_190 : decode cX0_kinded 190 = .ok (.bipush 6, 2) := dk_16 6 (dk_at dksX0_kinded_8 0 rfl rfl)
theorem dX0_kinded_192 : decode cX0_kinded 192 = .ok (.aload_n 0, 1) := dk_42 (dk_at dksX0_kinded_8 2 rfl rfl)
theorem dX0_kinded_193 : decode cX0_kinded 193 = .ok (.getfield 78, 3) := dk_180 0 78 (dk_at dksX0_kinded_8 3 rfl rfl)
theorem dX0_kinded_196 : decode cX0_kinded 196 = .ok (.invokevirtual 98, 3) := dk_182 0 98 (dk_at dksX0_kinded_8 6 rfl rfl)
theorem dX0_kinded_199 : decode cX0_kinded 199 = .ok (.aload_n 0, 1) := dk_42 (dk_at dksX0_kinded_8 9 rfl rfl)
theorem dX0_kinded_200 : decode cX0_kinded 200 = .ok (.invokevirtual 152, 3) := dk_182 0 152 (dk_at dksX0_kinded_8 10 rfl rfl)
theorem dX0_kinded_203 : decode cX0_kinded 203 = .ok (.aload 4, 2) := dk_25 4 (dk_at dksX0_kinded_8 13 rfl rfl)
theorem dX0_kinded_205 : decode cX0_kinded 205 = .ok (.iload 5, 2) := dk_21 5 (dk_at dksX0_kinded_8 15 rfl rfl)
theorem dX0_kinded_207 : decode cX0_kinded 207 = .ok (.aload_n 0, 1) := dk_42 (dk_at dksX0_kinded_8 17 rfl rfl)
theorem dX0_kinded_208 : decode cX0_kinded 208 = .ok (.aload_n 3, 1) := dk_45 (dk_at dksX0_kinded_8 18 rfl rfl)
theorem dX0_kinded_209 : decode cX0_kinded 209 = .ok (.getfield 185, 3) := dk_180 0 185 (dk_at dksX0_kinded_8 19 rfl rfl)
theorem dX0_kinded_212 : decode cX0_kinded 212 = .ok (.iload 5, 2) := dk_21 5 (dk_at dksX0_kinded_8 22 rfl rfl)
theorem dX0_kinded_214 : decode cX0_kinded 214 = .ok (.iaload, 1) := dk_46 (dk_at dksX0_kinded_9 0 rfl rfl)
theorem dX0_kinded_215 : decode cX0_kinded 215 = .ok (.invokevirtual 288, 3) := dk_182 1 32 (dk_at dksX0_kinded_9 1 rfl rfl)
theorem dX0_kinded_218 : decode cX0_kinded 218 = .ok (.aastore, 1) := dk_83 (dk_at dksX0_kinded_9 4 rfl rfl)
theorem dX0_kinded_219 : decode cX0_kinded 219 = .ok (.iinc 5 1, 3) := dk_132 5 1 (dk_at dksX0_kinded_9 5 rfl rfl)
theorem dX0_kinded_222 : decode cX0_kinded 222 = .ok (.goto (-61), 3) := dk_167 255 195 (dk_at dksX0_kinded_9 8 rfl rfl)
theorem dX0_kinded_225 : decode cX0_kinded 225 = .ok (.aload_n 0, 1) := dk_42 (dk_at dksX0_kinded_9 11 rfl rfl)
theorem dX0_kinded_226 : decode cX0_kinded 226 = .ok (.aload_n 0, 1) := dk_42 (dk_at dksX0_kinded_9 12 rfl rfl)
theorem dX0_kinded_227 : decode cX0_kinded 227 = .ok (.bipush 44, 2) := dk_16 44 (dk_at dksX0_kinded_9 13 rfl rfl)
theorem dX0_kinded_229 : decode cX0_kinded 229 = .ok (.invokevirtual 146, 3) := dk_182 0 146 (dk_at dksX0_kinded_9 15 rfl rfl)
theorem dX0_kinded_232 : decode cX0_kinded 232 = .ok (.ifCond .ne 7, 3) := dk_154 0 7 (dk_at dksX0_kinded_9 18 rfl rfl)
theorem dX0_kinded_235 : decode cX0_kinded 235 = .ok (.iconst 1, 1) := dk_4 (dk_at dksX0_kinded_9 21 rfl rfl)
theorem dX0_kinded_236 : decode cX0_kinded 236 = .ok (.goto 4, 3) := dk_167 0 4 (dk_at dksX0_kinded_10 0 rfl rfl)
theorem dX0_kinded_239 : decode cX0_kinded 239 = .ok (.iconst 0, 1) := dk_3 (dk_at dksX0_kinded_10 3 rfl rfl)
theorem dX0_kinded_240 : decode cX0_kinded 240 = .ok (.bipush 6, 2) := dk_16 6 (dk_at dksX0_kinded_10 4 rfl rfl)
theorem dX0_kinded_242 : decode cX0_kinded 242 = .ok (.aload_n 0, 1) := dk_42 (dk_at dksX0_kinded_10 6 rfl rfl)
theorem dX0_kinded_243 : decode cX0_kinded 243 = .ok (.getfield 78, 3) := dk_180 0 78 (dk_at dksX0_kinded_10 7 rfl rfl)
theorem dX0_kinded_246 : decode cX0_kinded 246 = .ok (.invokevirtual 98, 3) := dk_182 0 98 (dk_at dksX0_kinded_10 10 rfl rfl)
theorem dX0_kinded_249 : decode cX0_kinded 249 = .ok (.aload_n 0, 1) := dk_42 (dk_at dksX0_kinded_10 13 rfl rfl)
theorem dX0_kinded_250 : decode cX0_kinded 250 = .ok (.bipush 41, 2) := dk_16 41 (dk_at dksX0_kinded_10 14 rfl rfl)
theorem dX0_kinded_252 : decode cX0_kinded 252 = .ok (.invokevirtual 189, 3) := dk_182 0 189 (dk_at dksX0_kinded_10 16 rfl rfl)
theorem dX0_kinded_255 : decode cX0_kinded 255 = .ok (.aload_n 0, 1) := dk_42 (dk_at dksX0_kinded_10 19 rfl rfl)
theorem dX0_kinded_256 : decode cX0_kinded 256 = .ok (.dup, 1) := dk_89 (dk_at dksX0_kinded_10 20 rfl rfl)
theorem dX0_kinded_257 : decode cX0_kinded 257 = .ok (.getfield 196, 3) := dk_180 0 196 (dk_at dksX0_kinded_10 21 rfl rfl)
theorem dX0_kinded_260 : decode cX0_kinded 260 = .ok (.iconst 1, 1) := dk_4 (dk_at dksX0_kinded_11 0 rfl rfl)
theorem dX0_kinded_261 : decode cX0_kinded 261 = .ok (.isub, 1) := dk_100 (dk_at dksX0_kinded_11 1 rfl rfl)
theorem dX0_kinded_262 : decode cX0_kinded 262 = .ok (.putfield 196, 3) := dk_181 0 196 (dk_at dksX0_kinded_11 2 rfl rfl)
theorem dX0_kinded_265 : decode cX0_kinded 265 = .ok (.new 283, 3) := dk_187 1 27 (dk_at dksX0_kinded_11 5 rfl rfl)
theorem dX0_kinded_268 : decode cX0_kinded 268 = .ok (.dup, 1) := dk_89 (dk_at dksX0_kinded_11 8 rfl rfl)
theorem dX0_kinded_269 : decode cX0_kinded 269 = .ok (.aload_n 3, 1) := dk_45 (dk_at dksX0_kinded_11 9 rfl rfl)
theorem dX0_kinded_270 : decode cX0_kinded 270 = .ok (.aload 4, 2) := dk_25 4 (dk_at dksX0_kinded_11 10 rfl rfl)
theorem dX0_kinded_272 : decode cX0_kinded 272 = .ok (.invokespecial 285, 3) := dk_183 1 29 (dk_at dksX0_kinded_11 12 rfl rfl)
theorem dX0_kinded_275 : decode cX0_kinded 275 = .ok (.areturn, 1) := dk_176 (dk_at dksX0_kinded_11 15 rfl rfl)
abbrev cX0_isKind : ByteArray := prog_1_method_22_code
def yX0_isKind : MethodName := ⟨RX0, "isKind", "(I)Z"⟩
def dkwX0_isKind_0 : List UInt8 := [26, 6, 161, 0, 7, 4, 167, 0, 4, 3, 172]
abbrev dktX0_isKind_0 : List UInt8 := dkwX0_isKind_0 ++ []
theorem dksX0_isKind_0 : cX0_isKind.data.toList.drop 0 = dktX0_isKind_0 := by decide +kernel
theorem dX0_isKind_0 : decode cX0_isKind 0 = .ok (.iload_n 0, 1) := dk_26 (dk_at dksX0_isKind_0 0 rfl rfl)
theorem dX0_isKind_1 : decode cX0_isKind 1 = .ok (.iconst 3, 1) := dk_6 (dk_at dksX0_isKind_0 1 rfl rfl)
theorem dX0_isKind_2 : decode cX0_isKind 2 = .ok (.if_icmp .lt 7, 3) := dk_161 0 7 (dk_at dksX0_isKind_0 2 rfl rfl)
theorem dX0_isKind_5 : decode cX0_isKind 5 = .ok (.iconst 1, 1) := dk_4 (dk_at dksX0_isKind_0 5 rfl rfl)
theorem dX0_isKind_6 : decode cX0_isKind 6 = .ok (.goto 4, 3) := dk_167 0 4 (dk_at dksX0_isKind_0 6 rfl rfl)
theorem dX0_isKind_9 : decode cX0_isKind 9 = .ok (.iconst 0, 1) := dk_3 (dk_at dksX0_isKind_0 9 rfl rfl)
theorem dX0_isKind_10 : decode cX0_isKind 10 = .ok (.ireturn, 1) := dk_172 (dk_at dksX0_isKind_0 10 rfl rfl)
abbrev cX0_kindOf : ByteArray := prog_1_method_2_code
def yX0_kindOf : MethodName := ⟨RX0, "kindOf", "(I)LLetterPost$Kind;"⟩
def dkwX0_kindOf_0 : List UInt8 := [42, 180, 0, 1, 27, 6, 100, 50, 176]
abbrev dktX0_kindOf_0 : List UInt8 := dkwX0_kindOf_0 ++ []
theorem dksX0_kindOf_0 : cX0_kindOf.data.toList.drop 0 = dktX0_kindOf_0 := by decide +kernel
theorem dX0_kindOf_0 : decode cX0_kindOf 0 = .ok (.aload_n 0, 1) := dk_42 (dk_at dksX0_kindOf_0 0 rfl rfl)
theorem dX0_kindOf_1 : decode cX0_kindOf 1 = .ok (.getfield 1, 3) := dk_180 0 1 (dk_at dksX0_kindOf_0 1 rfl rfl)
theorem dX0_kindOf_4 : decode cX0_kindOf 4 = .ok (.iload_n 1, 1) := dk_27 (dk_at dksX0_kindOf_0 4 rfl rfl)
theorem dX0_kindOf_5 : decode cX0_kindOf 5 = .ok (.iconst 3, 1) := dk_6 (dk_at dksX0_kindOf_0 5 rfl rfl)
theorem dX0_kindOf_6 : decode cX0_kindOf 6 = .ok (.isub, 1) := dk_100 (dk_at dksX0_kindOf_0 6 rfl rfl)
theorem dX0_kindOf_7 : decode cX0_kindOf 7 = .ok (.aaload, 1) := dk_50 (dk_at dksX0_kindOf_0 7 rfl rfl)
theorem dX0_kindOf_8 : decode cX0_kindOf 8 = .ok (.areturn, 1) := dk_176 (dk_at dksX0_kindOf_0 8 rfl rfl)
abbrev cX0_either : ByteArray := prog_1_method_31_code
def yX0_either : MethodName := ⟨RX0, "either", "(I)LLetterPost$Pattern;"⟩
def dkwX0_either_15 : List UInt8 := [187, 0, 208, 89, 25, 9, 183, 0, 210, 176]
abbrev dktX0_either_15 : List UInt8 := dkwX0_either_15 ++ []
def dkwX0_either_14 : List UInt8 := [132, 9, 1, 167, 255, 213, 21, 4, 189, 0, 38, 58, 9, 45, 3, 25, 9, 3, 21, 4, 184, 1, 35]
abbrev dktX0_either_14 : List UInt8 := dkwX0_either_14 ++ dktX0_either_15
def dkwX0_either_13 : List UInt8 := [4, 126, 4, 160, 0, 11, 25, 7, 21, 9, 46, 167, 0, 10, 42, 180, 1, 24, 21, 9, 46, 79]
abbrev dktX0_either_13 : List UInt8 := dkwX0_either_13 ++ dktX0_either_14
def dkwX0_either_12 : List UInt8 := [181, 1, 18, 3, 54, 9, 21, 9, 16, 8, 162, 0, 42, 42, 180, 1, 24, 21, 9, 21, 6, 21, 9, 122]
abbrev dktX0_either_12 : List UInt8 := dkwX0_either_12 ++ dktX0_either_13
def dkwX0_either_11 : List UInt8 := [182, 0, 98, 42, 182, 0, 152, 42, 89, 180, 0, 196, 4, 100, 181, 0, 196, 42, 21, 5, 21, 6, 128]
abbrev dktX0_either_11 : List UInt8 := dkwX0_either_11 ++ dktX0_either_12
def dkwX0_either_10 : List UInt8 := [182, 0, 146, 154, 255, 64, 42, 42, 16, 41, 182, 0, 146, 182, 0, 149, 42, 21, 8, 16, 8, 28]
abbrev dktX0_either_10 : List UInt8 := dkwX0_either_10 ++ dktX0_either_11
def dkwX0_either_9 : List UInt8 := [180, 1, 24, 21, 11, 46, 167, 0, 8, 25, 7, 21, 11, 46, 79, 132, 11, 1, 167, 255, 161, 42, 16, 124]
abbrev dktX0_either_9 : List UInt8 := dkwX0_either_9 ++ dktX0_either_10
def dkwX0_either_8 : List UInt8 := [167, 0, 4, 3, 126, 54, 8, 25, 7, 21, 11, 21, 12, 153, 0, 19, 21, 4, 4, 160, 0, 13, 42]
abbrev dktX0_either_8 : List UInt8 := dkwX0_either_8 ++ dktX0_either_9
def dkwX0_either_7 : List UInt8 := [21, 4, 4, 159, 0, 18, 42, 180, 1, 24, 21, 11, 46, 25, 7, 21, 11, 46, 160, 0, 7, 4]
abbrev dktX0_either_7 : List UInt8 := dkwX0_either_7 ++ dktX0_either_8
def dkwX0_either_6 : List UInt8 := [21, 11, 122, 4, 126, 4, 160, 0, 7, 4, 167, 0, 4, 3, 54, 12, 21, 8, 21, 12, 153, 0, 24]
abbrev dktX0_either_6 : List UInt8 := dkwX0_either_6 ++ dktX0_either_7
def dkwX0_either_5 : List UInt8 := [160, 0, 7, 4, 167, 0, 4, 3, 126, 54, 8, 3, 54, 11, 21, 11, 16, 8, 162, 0, 94, 21, 10]
abbrev dktX0_either_5 : List UInt8 := dkwX0_either_5 ++ dktX0_either_6
def dkwX0_either_4 : List UInt8 := [54, 10, 21, 4, 4, 160, 0, 8, 21, 10, 167, 0, 5, 21, 6, 54, 6, 21, 8, 21, 10, 21, 6]
abbrev dktX0_either_4 : List UInt8 := dkwX0_either_4 ++ dktX0_either_5
def dkwX0_either_3 : List UInt8 := [182, 1, 32, 58, 9, 45, 21, 4, 25, 9, 83, 132, 4, 1, 42, 180, 1, 18, 21, 5, 2, 130, 126]
abbrev dktX0_either_3 : List UInt8 := dkwX0_either_3 ++ dktX0_either_4
def dkwX0_either_2 : List UInt8 := [21, 5, 181, 1, 18, 42, 21, 4, 16, 6, 160, 0, 7, 4, 167, 0, 4, 3, 181, 0, 193, 42, 27]
abbrev dktX0_either_2 : List UInt8 := dkwX0_either_2 ++ dktX0_either_3
def dkwX0_either_1 : List UInt8 := [16, 8, 188, 10, 58, 7, 4, 54, 8, 42, 89, 180, 0, 196, 4, 96, 181, 0, 196, 42, 182, 0, 152, 42]
abbrev dktX0_either_1 : List UInt8 := dkwX0_either_1 ++ dktX0_either_2
def dkwX0_either_0 : List UInt8 := [42, 180, 0, 78, 61, 16, 6, 189, 0, 38, 78, 3, 54, 4, 42, 180, 1, 18, 54, 5, 3, 54, 6]
abbrev dktX0_either_0 : List UInt8 := dkwX0_either_0 ++ dktX0_either_1
theorem dksX0_either_0 : cX0_either.data.toList.drop 0 = dktX0_either_0 := by decide +kernel
theorem dksX0_either_1 : cX0_either.data.toList.drop 23 = dktX0_either_1 := dk_seg dksX0_either_0 23 rfl rfl
theorem dksX0_either_2 : cX0_either.data.toList.drop 47 = dktX0_either_2 := dk_seg dksX0_either_1 24 rfl rfl
theorem dksX0_either_3 : cX0_either.data.toList.drop 70 = dktX0_either_3 := dk_seg dksX0_either_2 23 rfl rfl
theorem dksX0_either_4 : cX0_either.data.toList.drop 93 = dktX0_either_4 := dk_seg dksX0_either_3 23 rfl rfl
theorem dksX0_either_5 : cX0_either.data.toList.drop 116 = dktX0_either_5 := dk_seg dksX0_either_4 23 rfl rfl
theorem dksX0_either_6 : cX0_either.data.toList.drop 139 = dktX0_either_6 := dk_seg dksX0_either_5 23 rfl rfl
theorem dksX0_either_7 : cX0_either.data.toList.drop 162 = dktX0_either_7 := dk_seg dksX0_either_6 23 rfl rfl
theorem dksX0_either_8 : cX0_either.data.toList.drop 184 = dktX0_either_8 := dk_seg dksX0_either_7 22 rfl rfl
theorem dksX0_either_9 : cX0_either.data.toList.drop 207 = dktX0_either_9 := dk_seg dksX0_either_8 23 rfl rfl
theorem dksX0_either_10 : cX0_either.data.toList.drop 231 = dktX0_either_10 := dk_seg dksX0_either_9 24 rfl rfl
theorem dksX0_either_11 : cX0_either.data.toList.drop 253 = dktX0_either_11 := dk_seg dksX0_either_10 22 rfl rfl
theorem dksX0_either_12 : cX0_either.data.toList.drop 276 = dktX0_either_12 := dk_seg dksX0_either_11 23 rfl rfl
theorem dksX0_either_13 : cX0_either.data.toList.drop 300 = dktX0_either_13 := dk_seg dksX0_either_12 24 rfl rfl
theorem dksX0_either_14 : cX0_either.data.toList.drop 322 = dktX0_either_14 := dk_seg dksX0_either_13 22 rfl rfl
theorem dksX0_either_15 : cX0_either.data.toList.drop 345 = dktX0_either_15 := dk_seg dksX0_either_14 23 rfl rfl
theorem dX0_either_0 : decode cX0_either 0 = .ok (.aload_n 0, 1) := dk_42 (dk_at dksX0_either_0 0 rfl rfl)
theorem dX0_either_1 : decode cX0_either 1 = .ok (.getfield 78, 3) := dk_180 0 78 (dk_at dksX0_either_0 1 rfl rfl)
theorem dX0_either_4 : decode cX0_either 4 = .ok (.istore_n 2, 1) := dk_61 (dk_at dksX0_either_0 4 rfl rfl)
theorem dX0_either_5 : decode cX0_either 5 = .ok (.bipush 6, 2) := dk_16 6 (dk_at dksX0_either_0 5 rfl rfl)
theorem dX0_either_7 : decode cX0_either 7 = .ok (.anewarray 38, 3) := dk_189 0 38 (dk_at dksX0_either_0 7 rfl rfl)
theorem dX0_either_10 : decode cX0_either 10 = .ok (.astore_n 3, 1) := dk_78 (dk_at dksX0_either_0 10 rfl rfl)
theorem dX0_either_11 : decode cX0_either 11 = .ok (.iconst 0, 1) := dk_3 (dk_at dksX0_either_0 11 rfl rfl)
theorem dX0_either_12 : decode cX0_either 12 = .ok (.istore 4, 2) := dk_54 4 (dk_at dksX0_either_0 12 rfl rfl)
theorem dX0_either_14 : decode cX0_either 14 = .ok (.aload_n 0, 1) := dk_42 (dk_at dksX0_either_0 14 rfl rfl)
theorem dX0_either_15 : decode cX0_either 15 = .ok (.getfield 274, 3) := dk_180 1 18 (dk_at dksX0_either_0 15 rfl rfl)
theorem dX0_either_18 : decode cX0_either 18 = .ok (.istore 5, 2) := dk_54 5 (dk_at dksX0_either_0 18 rfl rfl)
theorem dX0_either_20 : decode cX0_either 20 = .ok (.iconst 0, 1) := dk_3 (dk_at dksX0_either_0 20 rfl rfl)
theorem dX0_either_21 : decode cX0_either 21 = .ok (.istore 6, 2) := dk_54 6 (dk_at dksX0_either_0 21 rfl rfl)
theorem dX0_either_23 : decode cX0_either 23 = .ok (.bipush 8, 2) := dk_16 8 (dk_at dksX0_either_1 0 rfl rfl)
theorem dX0_either_25 : decode cX0_either 25 = .ok (.newarray .int, 2) := dk_188_10 (dk_at dksX0_either_1 2 rfl rfl)
theorem dX0_either_27 : decode cX0_either 27 = .ok (.astore 7, 2) := dk_58 7 (dk_at dksX0_either_1 4 rfl rfl)
theorem dX0_either_29 : decode cX0_either 29 = .ok (.iconst 1, 1) := dk_4 (dk_at dksX0_either_1 6 rfl rfl)
theorem dX0_either_30 : decode cX0_either 30 = .ok (.istore 8, 2) := dk_54 8 (dk_at dksX0_either_1 7 rfl rfl)
theorem dX0_either_32 : decode cX0_either 32 = .ok (.aload_n 0, 1) := dk_42 (dk_at dksX0_either_1 9 rfl rfl)
theorem dX0_either_33 : decode cX0_either 33 = .ok (.dup, 1) := dk_89 (dk_at dksX0_either_1 10 rfl rfl)
theorem dX0_either_34 : decode cX0_either 34 = .ok (.getfield 196, 3) := dk_180 0 196 (dk_at dksX0_either_1 11 rfl rfl)
theorem dX0_either_37 : decode cX0_either 37 = .ok (.iconst 1, 1) := dk_4 (dk_at dksX0_either_1 14 rfl rfl)
theorem dX0_either_38 : decode cX0_either 38 = .ok (.iadd, 1) := dk_96 (dk_at dksX0_either_1 15 rfl rfl)
theorem dX0_either_39 : decode cX0_either 39 = .ok (.putfield 196, 3) := dk_181 0 196 (dk_at dksX0_either_1 16 rfl rfl)
theorem dX0_either_42 : decode cX0_either 42 = .ok (.aload_n 0, 1) := dk_42 (dk_at dksX0_either_1 19 rfl rfl)
theorem dX0_either_43 : decode cX0_either 43 = .ok (.invokevirtual 152, 3) := dk_182 0 152 (dk_at dksX0_either_1 20 rfl rfl)
theorem dX0_either_46 : decode cX0_either 46 = .ok (.aload_n 0, 1) := dk_42 (dk_at dksX0_either_1 23 rfl rfl)
theorem dX0_either_47 : decode cX0_either 47 = .ok (.iload 5, 2) := dk_21 5 (dk_at dksX0_either_2 0 rfl rfl)
theorem dX0_either_49 : decode cX0_either 49 = .ok (.putfield 274, 3) := dk_181 1 18 (dk_at dksX0_either_2 2 rfl rfl)
theorem dX0_either_52 : decode cX0_either 52 = .ok (.aload_n 0, 1) := dk_42 (dk_at dksX0_either_2 5 rfl rfl)
theorem dX0_either_53 : decode cX0_either 53 = .ok (.iload 4, 2) := dk_21 4 (dk_at dksX0_either_2 6 rfl rfl)
theorem dX0_either_55 : decode cX0_either 55 = .ok (.bipush 6, 2) := dk_16 6 (dk_at dksX0_either_2 8 rfl rfl)
theorem dX0_either_57 : decode cX0_either 57 = .ok (.if_icmp .ne 7, 3) := dk_160 0 7 (dk_at dksX0_either_2 10 rfl rfl)
theorem dX0_either_60 : decode cX0_either 60 = .ok (.iconst 1, 1) := dk_4 (dk_at dksX0_either_2 13 rfl rfl)
theorem dX0_either_61 : decode cX0_either 61 = .ok (.goto 4, 3) := dk_167 0 4 (dk_at dksX0_either_2 14 rfl rfl)
theorem dX0_either_64 : decode cX0_either 64 = .ok (.iconst 0, 1) := dk_3 (dk_at dksX0_either_2 17 rfl rfl)
theorem dX0_either_65 : decode cX0_either 65 = .ok (.putfield 193, 3) := dk_181 0 193 (dk_at dksX0_either_2 18 rfl rfl)
theorem dX0_either_68 : decode cX0_either 68 = .ok (.aload_n 0, 1) := dk_42 (dk_at dksX0_either_2 21 rfl rfl)
theorem dX0_either_69 : decode cX0_either 69 = .ok (.iload_n 1, 1) := dk_27 (dk_at dksX0_either_2 22 rfl rfl)
theorem dX0_either_70 : decode cX0_either 70 = .ok (.invokevirtual 288, 3) := dk_182 1 32 (dk_at dksX0_either_3 0 rfl rfl)
theorem dX0_either_73 : decode cX0_either 73 = .ok (.astore 9, 2) := dk_58 9 (dk_at dksX0_either_3 3 rfl rfl)
theorem dX0_either_75 : decode cX0_either 75 = .ok (.aload_n 3, 1) := dk_45 (dk_at dksX0_either_3 5 rfl rfl)
theorem dX0_either_76 : decode cX0_either 76 = .ok (.iload 4, 2) := dk_21 4 (dk_at dksX0_either_3 6 rfl rfl)
theorem dX0_either_78 : decode cX0_either 78 = .ok (.aload 9, 2) := dk_25 9 (dk_at dksX0_either_3 8 rfl rfl)
theorem dX0_either_80 : decode cX0_either 80 = .ok (.aastore, 1) := dk_83 (dk_at dksX0_either_3 10 rfl rfl)
theorem dX0_either_81 : decode cX0_either 81 = .ok (.iinc 4 1, 3) := dk_132 4 1 (dk_at dksX0_either_3 11 rfl rfl)
theorem dX0_either_84 : decode cX0_either 84 = .ok (.aload_n 0, 1) := dk_42 (dk_at dksX0_either_3 14 rfl rfl)
theorem dX0_either_85 : decode cX0_either 85 = .ok (.getfield 274, 3) := dk_180 1 18 (dk_at dksX0_either_3 15 rfl rfl)
theorem dX0_either_88 : decode cX0_either 88 = .ok (.iload 5, 2) := dk_21 5 (dk_at dksX0_either_3 18 rfl rfl)
theorem dX0_either_90 : decode cX0_either 90 = .ok (.iconst (-1), 1) := dk_2 (dk_at dksX0_either_3 20 rfl rfl)
theorem dX0_either_91 : decode cX0_either 91 = .ok (.ixor, 1) := dk_130 (dk_at dksX0_either_3 21 rfl rfl)
theorem dX0_either_92 : decode cX0_either 92 = .ok (.iand, 1) := dk_126 (dk_at dksX0_either_3 22 rfl rfl)
theorem dX0_either_93 : decode cX0_either 93 = .ok (.istore 10, 2) := dk_54 10 (dk_at dksX0_either_4 0 rfl rfl)
theorem dX0_either_95 : decode cX0_either 95 = .ok (.iload 4, 2) := dk_21 4 (dk_at dksX0_either_4 2 rfl rfl)
theorem dX0_either_97 : decode cX0_either 97 = .ok (.iconst 1, 1) := dk_4 (dk_at dksX0_either_4 4 rfl rfl)
theorem dX0_either_98 : decode cX0_either 98 = .ok (.if_icmp .ne 8, 3) := dk_160 0 8 (dk_at dksX0_either_4 5 rfl rfl)
theorem dX0_either_101 : decode cX0_either 101 = .ok (.iload 10, 2) := dk_21 10 (dk_at dksX0_either_4 8 rfl rfl)
theorem dX0_either_103 : decode cX0_either 103 = .ok (.goto 5, 3) := dk_167 0 5 (dk_at dksX0_either_4 10 rfl rfl)
theorem dX0_either_106 : decode cX0_either 106 = .ok (.iload 6, 2) := dk_21 6 (dk_at dksX0_either_4 13 rfl rfl)
theorem dX0_either_108 : decode cX0_either 108 = .ok (.istore 6, 2) := dk_54 6 (dk_at dksX0_either_4 15 rfl rfl)
theorem dX0_either_110 : decode cX0_either 110 = .ok (.iload 8, 2) := dk_21 8 (dk_at dksX0_either_4 17 rfl rfl)
theorem dX0_either_112 : decode cX0_either 112 = .ok (.iload 10, 2) := dk_21 10 (dk_at dksX0_either_4 19 rfl rfl)
theorem dX0_either_114 : decode cX0_either 114 = .ok (.iload 6, 2) := dk_21 6 (dk_at dksX0_either_4 21 rfl rfl)
theorem dX0_either_116 : decode cX0_either 116 = .ok (.if_icmp .ne 7, 3) := dk_160 0 7 (dk_at dksX0_either_5 0 rfl rfl)
theorem dX0_either_119 : decode cX0_either 119 = .ok (.iconst 1, 1) := dk_4 (dk_at dksX0_either_5 3 rfl rfl)
theorem dX0_either_120 : decode cX0_either 120 = .ok (.goto 4, 3) := dk_167 0 4 (dk_at dksX0_either_5 4 rfl rfl)
theorem dX0_either_123 : decode cX0_either 123 = .ok (.iconst 0, 1) := dk_3 (dk_at dksX0_either_5 7 rfl rfl)
theorem dX0_either_124 : decode cX0_either 124 = .ok (.iand, 1) := dk_126 (dk_at dksX0_either_5 8 rfl rfl)
theorem dX0_either_125 : decode cX0_either 125 = .ok (.istore 8, 2) := dk_54 8 (dk_at dksX0_either_5 9 rfl rfl)
theorem dX0_either_127 : decode cX0_either 127 = .ok (.iconst 0, 1) := dk_3 (dk_at dksX0_either_5 11 rfl rfl)
theorem dX0_either_128 : decode cX0_either 128 = .ok (.istore 11, 2) := dk_54 11 (dk_at dksX0_either_5 12 rfl rfl)
theorem dX0_either_130 : decode cX0_either 130 = .ok (.iload 11, 2) := dk_21 11 (dk_at dksX0_either_5 14 rfl rfl)
theorem dX0_either_132 : decode cX0_either 132 = .ok (.bipush 8, 2) := dk_16 8 (dk_at dksX0_either_5 16 rfl rfl)
theorem dX0_either_134 : decode cX0_either 134 = .ok (.if_icmp .ge 94, 3) := dk_162 0 94 (dk_at dksX0_either_5 18 rfl rfl)
theorem dX0_either_137 : decode cX0_either 137 = .ok (.iload 10, 2) := dk_21 10 (dk_at dksX0_either_5 21 rfl rfl)
theorem dX0_either_139 : decode cX0_either 139 = .ok (.iload 11, 2) := dk_21 11 (dk_at dksX0_either_6 0 rfl rfl)
theorem dX0_either_141 : decode cX0_either 141 = .ok (.ishr, 1) := dk_122 (dk_at dksX0_either_6 2 rfl rfl)
theorem dX0_either_142 : decode cX0_either 142 = .ok (.iconst 1, 1) := dk_4 (dk_at dksX0_either_6 3 rfl rfl)
theorem dX0_either_143 : decode cX0_either 143 = .ok (.iand, 1) := dk_126 (dk_at dksX0_either_6 4 rfl rfl)
theorem dX0_either_144 : decode cX0_either 144 = .ok (.iconst 1, 1) := dk_4 (dk_at dksX0_either_6 5 rfl rfl)
theorem dX0_either_145 : decode cX0_either 145 = .ok (.if_icmp .ne 7, 3) := dk_160 0 7 (dk_at dksX0_either_6 6 rfl rfl)
theorem dX0_either_148 : decode cX0_either 148 = .ok (.iconst 1, 1) := dk_4 (dk_at dksX0_either_6 9 rfl rfl)
theorem dX0_either_149 : decode cX0_either 149 = .ok (.goto 4, 3) := dk_167 0 4 (dk_at dksX0_either_6 10 rfl rfl)
theorem dX0_either_152 : decode cX0_either 152 = .ok (.iconst 0, 1) := dk_3 (dk_at dksX0_either_6 13 rfl rfl)
theorem dX0_either_153 : decode cX0_either 153 = .ok (.istore 12, 2) := dk_54 12 (dk_at dksX0_either_6 14 rfl rfl)
theorem dX0_either_155 : decode cX0_either 155 = .ok (.iload 8, 2) := dk_21 8 (dk_at dksX0_either_6 16 rfl rfl)
theorem dX0_either_157 : decode cX0_either 157 = .ok (.iload 12, 2) := dk_21 12 (dk_at dksX0_either_6 18 rfl rfl)
theorem dX0_either_159 : decode cX0_either 159 = .ok (.ifCond .eq 24, 3) := dk_153 0 24 (dk_at dksX0_either_6 20 rfl rfl)
theorem dX0_either_162 : decode cX0_either 162 = .ok (.iload 4, 2) := dk_21 4 (dk_at dksX0_either_7 0 rfl rfl)
theorem dX0_either_164 : decode cX0_either 164 = .ok (.iconst 1, 1) := dk_4 (dk_at dksX0_either_7 2 rfl rfl)
theorem dX0_either_165 : decode cX0_either 165 = .ok (.if_icmp .eq 18, 3) := dk_159 0 18 (dk_at dksX0_either_7 3 rfl rfl)
theorem dX0_either_168 : decode cX0_either 168 = .ok (.aload_n 0, 1) := dk_42 (dk_at dksX0_either_7 6 rfl rfl)
theorem dX0_either_169 : decode cX0_either 169 = .ok (.getfield 280, 3) := dk_180 1 24 (dk_at dksX0_either_7 7 rfl rfl)
theorem dX0_either_172 : decode cX0_either 172 = .ok (.iload 11, 2) := dk_21 11 (dk_at dksX0_either_7 10 rfl rfl)
theorem dX0_either_174 : decode cX0_either 174 = .ok (.iaload, 1) := dk_46 (dk_at dksX0_either_7 12 rfl rfl)
theorem dX0_either_175 : decode cX0_either 175 = .ok (.aload 7, 2) := dk_25 7 (dk_at dksX0_either_7 13 rfl rfl)
theorem dX0_either_177 : decode cX0_either 177 = .ok (.iload 11, 2) := dk_21 11 (dk_at dksX0_either_7 15 rfl rfl)
theorem dX0_either_179 : decode cX0_either 179 = .ok (.iaload, 1) := dk_46 (dk_at dksX0_either_7 17 rfl rfl)
theorem dX0_either_180 : decode cX0_either 180 = .ok (.if_icmp .ne 7, 3) := dk_160 0 7 (dk_at dksX0_either_7 18 rfl rfl)
theorem dX0_either_183 : decode cX0_either 183 = .ok (.iconst 1, 1) := dk_4 (dk_at dksX0_either_7 21 rfl rfl)
theorem dX0_either_184 : decode cX0_either 184 = .ok (.goto 4, 3) := dk_167 0 4 (dk_at dksX0_either_8 0 rfl rfl)
theorem dX0_either_187 : decode cX0_either 187 = .ok (.iconst 0, 1) := dk_3 (dk_at dksX0_either_8 3 rfl rfl)
theorem dX0_either_188 : decode cX0_either 188 = .ok (.iand, 1) := dk_126 (dk_at dksX0_either_8 4 rfl rfl)
theorem dX0_either_189 : decode cX0_either 189 = .ok (.istore 8, 2) := dk_54 8 (dk_at dksX0_either_8 5 rfl rfl)
theorem dX0_either_191 : decode cX0_either 191 = .ok (.aload 7, 2) := dk_25 7 (dk_at dksX0_either_8 7 rfl rfl)
theorem dX0_either_193 : decode cX0_either 193 = .ok (.iload 11, 2) := dk_21 11 (dk_at dksX0_either_8 9 rfl rfl)
theorem dX0_either_195 : decode cX0_either 195 = .ok (.iload 12, 2) := dk_21 12 (dk_at dksX0_either_8 11 rfl rfl)
theorem dX0_either_197 : decode cX0_either 197 = .ok (.ifCond .eq 19, 3) := dk_153 0 19 (dk_at dksX0_either_8 13 rfl rfl)
theorem dX0_either_200 : decode cX0_either 200 = .ok (.iload 4, 2) := dk_21 4 (dk_at dksX0_either_8 16 rfl rfl)
theorem dX0_either_202 : decode cX0_either 202 = .ok (.iconst 1, 1) := dk_4 (dk_at dksX0_either_8 18 rfl rfl)
theorem dX0_either_203 : decode cX0_either 203 = .ok (.if_icmp .ne 13, 3) := dk_160 0 13 (dk_at dksX0_either_8 19 rfl rfl)
theorem dX0_either_206 : decode cX0_either 206 = .ok (.aload_n 0, 1) := dk_42 (dk_at dksX0_either_8 22 rfl rfl)
theorem dX0_either_207 : decode cX0_either 207 = .ok (.getfield 280, 3) := dk_180 1 24 (dk_at dksX0_either_9 0 rfl rfl)
theorem dX0_either_210 : decode cX0_either 210 = .ok (.iload 11, 2) := dk_21 11 (dk_at dksX0_either_9 3 rfl rfl)
theorem dX0_either_212 : decode cX0_either 212 = .ok (.iaload, 1) := dk_46 (dk_at dksX0_either_9 5 rfl rfl)
theorem dX0_either_213 : decode cX0_either 213 = .ok (.goto 8, 3) := dk_167 0 8 (dk_at dksX0_either_9 6 rfl rfl)
theorem dX0_either_216 : decode cX0_either 216 = .ok (.aload 7, 2) := dk_25 7 (dk_at dksX0_either_9 9 rfl rfl)
theorem dX0_either_218 : decode cX0_either 218 = .ok (.iload 11, 2) := dk_21 11 (dk_at dksX0_either_9 11 rfl rfl)
theorem dX0_either_220 : decode cX0_either 220 = .ok (.iaload, 1) := dk_46 (dk_at dksX0_either_9 13 rfl rfl)
theorem dX0_either_221 : decode cX0_either 221 = .ok (.iastore, 1) := dk_79 (dk_at dksX0_either_9 14 rfl rfl)
theorem dX0_either_222 : decode cX0_either 222 = .ok (.iinc 11 1, 3) := dk_132 11 1 (dk_at dksX0_either_9 15 rfl rfl)
theorem dX0_either_225 : decode cX0_either 225 = .ok (.goto (-95), 3) := dk_167 255 161 (dk_at dksX0_either_9 18 rfl rfl)
theorem dX0_either_228 : decode cX0_either 228 = .ok (.aload_n 0, 1) := dk_42 (dk_at dksX0_either_9 21 rfl rfl)
theorem dX0_either_229 : decode cX0_either 229 = .ok (.bipush 124, 2) := dk_16 124 (dk_at dksX0_either_9 22 rfl rfl)
theorem dX0_either_231 : decode cX0_either 231 = .ok (.invokevirtual 146, 3) := dk_182 0 146 (dk_at dksX0_either_10 0 rfl rfl)
theorem dX0_either_234 : decode cX0_either 234 = .ok (.ifCond .ne (-192), 3) := dk_154 255 64 (dk_at dksX0_either_10 3 rfl rfl)
theorem dX0_either_237 : decode cX0_either 237 = .ok (.aload_n 0, 1) := dk_42 (dk_at dksX0_either_10 6 rfl rfl)
theorem dX0_either_238 : decode cX0_either 238 = .ok (.aload_n 0, 1) := dk_42 (dk_at dksX0_either_10 7 rfl rfl)
theorem dX0_either_239 : decode cX0_either 239 = .ok (.bipush 41, 2) := dk_16 41 (dk_at dksX0_either_10 8 rfl rfl)
theorem dX0_either_241 : decode cX0_either 241 = .ok (.invokevirtual 146, 3) := dk_182 0 146 (dk_at dksX0_either_10 10 rfl rfl)
theorem dX0_either_244 : decode cX0_either 244 = .ok (.invokevirtual 149, 3) := dk_182 0 149 (dk_at dksX0_either_10 13 rfl rfl)
theorem dX0_either_247 : decode cX0_either 247 = .ok (.aload_n 0, 1) := dk_42 (dk_at dksX0_either_10 16 rfl rfl)
theorem dX0_either_248 : decode cX0_either 248 = .ok (.iload 8, 2) := dk_21 8 (dk_at dksX0_either_10 17 rfl rfl)
theorem dX0_either_250 : decode cX0_either 250 = .ok (.bipush 8, 2) := dk_16 8 (dk_at dksX0_either_10 19 rfl rfl)
theorem dX0_either_252 : decode cX0_either 252 = .ok (.iload_n 2, 1) := dk_28 (dk_at dksX0_either_10 21 rfl rfl)
theorem dX0_either_253 : decode cX0_either 253 = .ok (.invokevirtual 98, 3) := dk_182 0 98 (dk_at dksX0_either_11 0 rfl rfl)
theorem dX0_either_256 : decode cX0_either 256 = .ok (.aload_n 0, 1) := dk_42 (dk_at dksX0_either_11 3 rfl rfl)
theorem dX0_either_257 : decode cX0_either 257 = .ok (.invokevirtual 152, 3) := dk_182 0 152 (dk_at dksX0_either_11 4 rfl rfl)
theorem dX0_either_260 : decode cX0_either 260 = .ok (.aload_n 0, 1) := dk_42 (dk_at dksX0_either_11 7 rfl rfl)
theorem dX0_either_261 : decode cX0_either 261 = .ok (.dup, 1) := dk_89 (dk_at dksX0_either_11 8 rfl rfl)
theorem dX0_either_262 : decode cX0_either 262 = .ok (.getfield 196, 3) := dk_180 0 196 (dk_at dksX0_either_11 9 rfl rfl)
theorem dX0_either_265 : decode cX0_either 265 = .ok (.iconst 1, 1) := dk_4 (dk_at dksX0_either_11 12 rfl rfl)
theorem dX0_either_266 : decode cX0_either 266 = .ok (.isub, 1) := dk_100 (dk_at dksX0_either_11 13 rfl rfl)
theorem dX0_either_267 : decode cX0_either 267 = .ok (.putfield 196, 3) := dk_181 0 196 (dk_at dksX0_either_11 14 rfl rfl)
theorem dX0_either_270 : decode cX0_either 270 = .ok (.aload_n 0, 1) := dk_42 (dk_at dksX0_either_11 17 rfl rfl)
theorem dX0_either_271 : decode cX0_either 271 = .ok (.iload 5, 2) := dk_21 5 (dk_at dksX0_either_11 18 rfl rfl)
theorem dX0_either_273 : decode cX0_either 273 = .ok (.iload 6, 2) := dk_21 6 (dk_at dksX0_either_11 20 rfl rfl)
theorem dX0_either_275 : decode cX0_either 275 = .ok (.ior, 1) := dk_128 (dk_at dksX0_either_11 22 rfl rfl)
theorem dX0_either_276 : decode cX0_either 276 = .ok (.putfield 274, 3) := dk_181 1 18 (dk_at dksX0_either_12 0 rfl rfl)
theorem dX0_either_279 : decode cX0_either 279 = .ok (.iconst 0, 1) := dk_3 (dk_at dksX0_either_12 3 rfl rfl)
theorem dX0_either_280 : decode cX0_either 280 = .ok (.istore 9, 2) := dk_54 9 (dk_at dksX0_either_12 4 rfl rfl)
theorem dX0_either_282 : decode cX0_either 282 = .ok (.iload 9, 2) := dk_21 9 (dk_at dksX0_either_12 6 rfl rfl)
theorem dX0_either_284 : decode cX0_either 284 = .ok (.bipush 8, 2) := dk_16 8 (dk_at dksX0_either_12 8 rfl rfl)
theorem dX0_either_286 : decode cX0_either 286 = .ok (.if_icmp .ge 42, 3) := dk_162 0 42 (dk_at dksX0_either_12 10 rfl rfl)
theorem dX0_either_289 : decode cX0_either 289 = .ok (.aload_n 0, 1) := dk_42 (dk_at dksX0_either_12 13 rfl rfl)
theorem dX0_either_290 : decode cX0_either 290 = .ok (.getfield 280, 3) := dk_180 1 24 (dk_at dksX0_either_12 14 rfl rfl)
theorem dX0_either_293 : decode cX0_either 293 = .ok (.iload 9, 2) := dk_21 9 (dk_at dksX0_either_12 17 rfl rfl)
theorem dX0_either_295 : decode cX0_either 295 = .ok (.iload 6, 2) := dk_21 6 (dk_at dksX0_either_12 19 rfl rfl)
theorem dX0_either_297 : decode cX0_either 297 = .ok (.iload 9, 2) := dk_21 9 (dk_at dksX0_either_12 21 rfl rfl)
theorem dX0_either_299 : decode cX0_either 299 = .ok (.ishr, 1) := dk_122 (dk_at dksX0_either_12 23 rfl rfl)
theorem dX0_either_300 : decode cX0_either 300 = .ok (.iconst 1, 1) := dk_4 (dk_at dksX0_either_13 0 rfl rfl)
theorem dX0_either_301 : decode cX0_either 301 = .ok (.iand, 1) := dk_126 (dk_at dksX0_either_13 1 rfl rfl)
theorem dX0_either_302 : decode cX0_either 302 = .ok (.iconst 1, 1) := dk_4 (dk_at dksX0_either_13 2 rfl rfl)
theorem dX0_either_303 : decode cX0_either 303 = .ok (.if_icmp .ne 11, 3) := dk_160 0 11 (dk_at dksX0_either_13 3 rfl rfl)
theorem dX0_either_306 : decode cX0_either 306 = .ok (.aload 7, 2) := dk_25 7 (dk_at dksX0_either_13 6 rfl rfl)
theorem dX0_either_308 : decode cX0_either 308 = .ok (.iload 9, 2) := dk_21 9 (dk_at dksX0_either_13 8 rfl rfl)
theorem dX0_either_310 : decode cX0_either 310 = .ok (.iaload, 1) := dk_46 (dk_at dksX0_either_13 10 rfl rfl)
theorem dX0_either_311 : decode cX0_either 311 = .ok (.goto 10, 3) := dk_167 0 10 (dk_at dksX0_either_13 11 rfl rfl)
theorem dX0_either_314 : decode cX0_either 314 = .ok (.aload_n 0, 1) := dk_42 (dk_at dksX0_either_13 14 rfl rfl)
theorem dX0_either_315 : decode cX0_either 315 = .ok (.getfield 280, 3) := dk_180 1 24 (dk_at dksX0_either_13 15 rfl rfl)
theorem dX0_either_318 : decode cX0_either 318 = .ok (.iload 9, 2) := dk_21 9 (dk_at dksX0_either_13 18 rfl rfl)
theorem dX0_either_320 : decode cX0_either 320 = .ok (.iaload, 1) := dk_46 (dk_at dksX0_either_13 20 rfl rfl)
theorem dX0_either_321 : decode cX0_either 321 = .ok (.iastore, 1) := dk_79 (dk_at dksX0_either_13 21 rfl rfl)
theorem dX0_either_322 : decode cX0_either 322 = .ok (.iinc 9 1, 3) := dk_132 9 1 (dk_at dksX0_either_14 0 rfl rfl)
theorem dX0_either_325 : decode cX0_either 325 = .ok (.goto (-43), 3) := dk_167 255 213 (dk_at dksX0_either_14 3 rfl rfl)
theorem dX0_either_328 : decode cX0_either 328 = .ok (.iload 4, 2) := dk_21 4 (dk_at dksX0_either_14 6 rfl rfl)
theorem dX0_either_330 : decode cX0_either 330 = .ok (.anewarray 38, 3) := dk_189 0 38 (dk_at dksX0_either_14 8 rfl rfl)
theorem dX0_either_333 : decode cX0_either 333 = .ok (.astore 9, 2) := dk_58 9 (dk_at dksX0_either_14 11 rfl rfl)
theorem dX0_either_335 : decode cX0_either 335 = .ok (.aload_n 3, 1) := dk_45 (dk_at dksX0_either_14 13 rfl rfl)
theorem dX0_either_336 : decode cX0_either 336 = .ok (.iconst 0, 1) := dk_3 (dk_at dksX0_either_14 14 rfl rfl)
theorem dX0_either_337 : decode cX0_either 337 = .ok (.aload 9, 2) := dk_25 9 (dk_at dksX0_either_14 15 rfl rfl)
theorem dX0_either_339 : decode cX0_either 339 = .ok (.iconst 0, 1) := dk_3 (dk_at dksX0_either_14 17 rfl rfl)
theorem dX0_either_340 : decode cX0_either 340 = .ok (.iload 4, 2) := dk_21 4 (dk_at dksX0_either_14 18 rfl rfl)
theorem dX0_either_342 : decode cX0_either 342 = .ok (.invokestatic 291, 3) := dk_184 1 35 (dk_at dksX0_either_14 20 rfl rfl)
theorem dX0_either_345 : decode cX0_either 345 = .ok (.new 208, 3) := dk_187 0 208 (dk_at dksX0_either_15 0 rfl rfl)
theorem dX0_either_348 : decode cX0_either 348 = .ok (.dup, 1) := dk_89 (dk_at dksX0_either_15 3 rfl rfl)
theorem dX0_either_349 : decode cX0_either 349 = .ok (.aload 9, 2) := dk_25 9 (dk_at dksX0_either_15 4 rfl rfl)
theorem dX0_either_351 : decode cX0_either 351 = .ok (.invokespecial 210, 3) := dk_183 0 210 (dk_at dksX0_either_15 6 rfl rfl)
theorem dX0_either_354 : decode cX0_either 354 = .ok (.areturn, 1) := dk_176 (dk_at dksX0_either_15 9 rfl rfl)
abbrev cX0_binds : ByteArray := prog_1_method_29_code
def yX0_binds : MethodName := ⟨RX0, "binds", "(I)I"⟩
def dkwX0_binds_0 : List UInt8 := [42, 42, 27, 182, 0, 220, 27, 182, 0, 223, 172]
abbrev dktX0_binds_0 : List UInt8 := dkwX0_binds_0 ++ []
theorem dksX0_binds_0 : cX0_binds.data.toList.drop 0 = dktX0_binds_0 := by decide +kernel
theorem dX0_binds_0 : decode cX0_binds 0 = .ok (.aload_n 0, 1) := dk_42 (dk_at dksX0_binds_0 0 rfl rfl)
theorem dX0_binds_1 : decode cX0_binds 1 = .ok (.aload_n 0, 1) := dk_42 (dk_at dksX0_binds_0 1 rfl rfl)
theorem dX0_binds_2 : decode cX0_binds 2 = .ok (.iload_n 1, 1) := dk_27 (dk_at dksX0_binds_0 2 rfl rfl)
theorem dX0_binds_3 : decode cX0_binds 3 = .ok (.invokevirtual 220, 3) := dk_182 0 220 (dk_at dksX0_binds_0 3 rfl rfl)
theorem dX0_binds_6 : decode cX0_binds 6 = .ok (.iload_n 1, 1) := dk_27 (dk_at dksX0_binds_0 6 rfl rfl)
theorem dX0_binds_7 : decode cX0_binds 7 = .ok (.invokevirtual 223, 3) := dk_182 0 223 (dk_at dksX0_binds_0 7 rfl rfl)
theorem dX0_binds_10 : decode cX0_binds 10 = .ok (.ireturn, 1) := dk_172 (dk_at dksX0_binds_0 10 rfl rfl)
abbrev cX0_guard : ByteArray := prog_1_method_36_code
def yX0_guard : MethodName := ⟨RX0, "guard", "()LLetterPost$Guard;"⟩
def dkwX0_guard_3 : List UInt8 := [182, 1, 64, 43, 176]
abbrev dktX0_guard_3 : List UInt8 := dkwX0_guard_3 ++ []
def dkwX0_guard_2 : List UInt8 := [4, 167, 0, 4, 3, 182, 0, 149, 43, 42, 180, 0, 112, 181, 1, 67, 42, 182, 0, 152, 42, 43, 4]
abbrev dktX0_guard_2 : List UInt8 := dkwX0_guard_2 ++ dktX0_guard_3
def dkwX0_guard_1 : List UInt8 := [182, 0, 146, 154, 0, 21, 42, 16, 61, 182, 0, 146, 154, 0, 12, 42, 16, 62, 182, 0, 146, 153, 0, 7]
abbrev dktX0_guard_1 : List UInt8 := dkwX0_guard_1 ++ dktX0_guard_2
def dkwX0_guard_0 : List UInt8 := [187, 1, 45, 89, 183, 1, 63, 76, 42, 182, 0, 152, 42, 43, 3, 182, 1, 64, 42, 42, 16, 60]
abbrev dktX0_guard_0 : List UInt8 := dkwX0_guard_0 ++ dktX0_guard_1
theorem dksX0_guard_0 : cX0_guard.data.toList.drop 0 = dktX0_guard_0 := by decide +kernel
theorem dksX0_guard_1 : cX0_guard.data.toList.drop 22 = dktX0_guard_1 := dk_seg dksX0_guard_0 22 rfl rfl
theorem dksX0_guard_2 : cX0_guard.data.toList.drop 46 = dktX0_guard_2 := dk_seg dksX0_guard_1 24 rfl rfl
theorem dksX0_guard_3 : cX0_guard.data.toList.drop 69 = dktX0_guard_3 := dk_seg dksX0_guard_2 23 rfl rfl
theorem dX0_guard_0 : decode cX0_guard 0 = .ok (.new 301, 3) := dk_187 1 45 (dk_at dksX0_guard_0 0 rfl rfl)
theorem dX0_guard_3 : decode cX0_guard 3 = .ok (.dup, 1) := dk_89 (dk_at dksX0_guard_0 3 rfl rfl)
theorem dX0_guard_4 : decode cX0_guard 4 = .ok (.invokespecial 319, 3) := dk_183 1 63 (dk_at dksX0_guard_0 4 rfl rfl)
theorem dX0_guard_7 : decode cX0_guard 7 = .ok (.astore_n 1, 1) := dk_76 (dk_at dksX0_guard_0 7 rfl rfl)
theorem dX0_guard_8 : decode cX0_guard 8 = .ok (.aload_n 0, 1) := dk_42 (dk_at dksX0_guard_0 8 rfl rfl)
theorem dX0_guard_9 : decode cX0_guard 9 = .ok (.invokevirtual 152, 3) := dk_182 0 152 (dk_at dksX0_guard_0 9 rfl rfl)
theorem dX0_guard_12 : decode cX0_guard 12 = .ok (.aload_n 0, 1) := dk_42 (dk_at dksX0_guard_0 12 rfl rfl)
theorem dX0_guard_13 : decode cX0_guard 13 = .ok (.aload_n 1, 1) := dk_43 (dk_at dksX0_guard_0 13 rfl rfl)
theorem dX0_guard_14 : decode cX0_guard 14 = .ok (.iconst 0, 1) := dk_3 (dk_at dksX0_guard_0 14 rfl rfl)
theorem dX0_guard_15 : decode cX0_guard 15 = .ok (.invokevirtual 320, 3) := dk_182 1 64 (dk_at dksX0_guard_0 15 rfl rfl)
theorem dX0_guard_18 : decode cX0_guard 18 = .ok (.aload_n 0, 1) := dk_42 (dk_at dksX0_guard_0 18 rfl rfl)
theorem dX0_guard_19 : decode cX0_guard 19 = .ok (.aload_n 0, 1) := dk_42 (dk_at dksX0_guard_0 19 rfl rfl)
theorem dX0_guard_20 : decode cX0_guard 20 = .ok (.bipush 60, 2) := dk_16 60 (dk_at dksX0_guard_0 20 rfl rfl)
theorem dX0_guard_22 : decode cX0_guard 22 = .ok (.invokevirtual 146, 3) := dk_182 0 146 (dk_at dksX0_guard_1 0 rfl rfl)
theorem dX0_guard_25 : decode cX0_guard 25 = .ok (.ifCond .ne 21, 3) := dk_154 0 21 (dk_at dksX0_guard_1 3 rfl rfl)
theorem dX0_guard_28 : decode cX0_guard 28 = .ok (.aload_n 0, 1) := dk_42 (dk_at dksX0_guard_1 6 rfl rfl)
theorem dX0_guard_29 : decode cX0_guard 29 = .ok (.bipush 61, 2) := dk_16 61 (dk_at dksX0_guard_1 7 rfl rfl)
theorem dX0_guard_31 : decode cX0_guard 31 = .ok (.invokevirtual 146, 3) := dk_182 0 146 (dk_at dksX0_guard_1 9 rfl rfl)
theorem dX0_guard_34 : decode cX0_guard 34 = .ok (.ifCond .ne 12, 3) := dk_154 0 12 (dk_at dksX0_guard_1 12 rfl rfl)
theorem dX0_guard_37 : decode cX0_guard 37 = .ok (.aload_n 0, 1) := dk_42 (dk_at dksX0_guard_1 15 rfl rfl)
theorem dX0_guard_38 : decode cX0_guard 38 = .ok (.bipush 62, 2) := dk_16 62 (dk_at dksX0_guard_1 16 rfl rfl)
theorem dX0_guard_40 : decode cX0_guard 40 = .ok (.invokevirtual 146, 3) := dk_182 0 146 (dk_at dksX0_guard_1 18 rfl rfl)
theorem dX0_guard_43 : decode cX0_guard 43 = .ok (.ifCond .eq 7, 3) := dk_153 0 7 (dk_at dksX0_guard_1 21 rfl rfl)
theorem dX0_guard_46 : decode cX0_guard 46 = .ok (.iconst 1, 1) := dk_4 (dk_at dksX0_guard_2 0 rfl rfl)
theorem dX0_guard_47 : decode cX0_guard 47 = .ok (.goto 4, 3) := dk_167 0 4 (dk_at dksX0_guard_2 1 rfl rfl)
theorem dX0_guard_50 : decode cX0_guard 50 = .ok (.iconst 0, 1) := dk_3 (dk_at dksX0_guard_2 4 rfl rfl)
theorem dX0_guard_51 : decode cX0_guard 51 = .ok (.invokevirtual 149, 3) := dk_182 0 149 (dk_at dksX0_guard_2 5 rfl rfl)
theorem dX0_guard_54 : decode cX0_guard 54 = .ok (.aload_n 1, 1) := dk_43 (dk_at dksX0_guard_2 8 rfl rfl)
theorem dX0_guard_55 : decode cX0_guard 55 = .ok (.aload_n 0, 1) := dk_42 (dk_at dksX0_guard_2 9 rfl rfl)
theorem dX0_guard_56 : decode cX0_guard 56 = .ok (.getfield 112, 3) := dk_180 0 112 (dk_at dksX0_guard_2 10 rfl rfl)
theorem dX0_guard_59 : decode cX0_guard 59 = .ok (.putfield 323, 3) := dk_181 1 67 (dk_at dksX0_guard_2 13 rfl rfl)
theorem dX0_guard_62 : decode cX0_guard 62 = .ok (.aload_n 0, 1) := dk_42 (dk_at dksX0_guard_2 16 rfl rfl)
theorem dX0_guard_63 : decode cX0_guard 63 = .ok (.invokevirtual 152, 3) := dk_182 0 152 (dk_at dksX0_guard_2 17 rfl rfl)
theorem dX0_guard_66 : decode cX0_guard 66 = .ok (.aload_n 0, 1) := dk_42 (dk_at dksX0_guard_2 20 rfl rfl)
theorem dX0_guard_67 : decode cX0_guard 67 = .ok (.aload_n 1, 1) := dk_43 (dk_at dksX0_guard_2 21 rfl rfl)
theorem dX0_guard_68 : decode cX0_guard 68 = .ok (.iconst 1, 1) := dk_4 (dk_at dksX0_guard_2 22 rfl rfl)
theorem dX0_guard_69 : decode cX0_guard 69 = .ok (.invokevirtual 320, 3) := dk_182 1 64 (dk_at dksX0_guard_3 0 rfl rfl)
theorem dX0_guard_72 : decode cX0_guard 72 = .ok (.aload_n 1, 1) := dk_43 (dk_at dksX0_guard_3 3 rfl rfl)
theorem dX0_guard_73 : decode cX0_guard 73 = .ok (.areturn, 1) := dk_176 (dk_at dksX0_guard_3 4 rfl rfl)
abbrev cX0_sum : ByteArray := prog_1_method_35_code
def yX0_sum : MethodName := ⟨RX0, "sum", "(LLetterPost$Guard;I)V"⟩
def dkwX0_sum_2 : List UInt8 := [104, 4, 96, 182, 1, 54, 177]
abbrev dktX0_sum_2 : List UInt8 := dkwX0_sum_2 ++ []
def dkwX0_sum_1 : List UInt8 := [182, 0, 107, 155, 0, 27, 43, 180, 1, 60, 28, 42, 180, 0, 112, 79, 42, 182, 0, 152, 42, 43, 5, 28]
abbrev dktX0_sum_1 : List UInt8 := dkwX0_sum_1 ++ dktX0_sum_2
def dkwX0_sum_0 : List UInt8 := [42, 43, 5, 28, 104, 182, 1, 54, 42, 180, 0, 81, 8, 160, 0, 40, 19, 1, 58, 42, 180, 0, 112]
abbrev dktX0_sum_0 : List UInt8 := dkwX0_sum_0 ++ dktX0_sum_1
theorem dksX0_sum_0 : cX0_sum.data.toList.drop 0 = dktX0_sum_0 := by decide +kernel
theorem dksX0_sum_1 : cX0_sum.data.toList.drop 23 = dktX0_sum_1 := dk_seg dksX0_sum_0 23 rfl rfl
theorem dksX0_sum_2 : cX0_sum.data.toList.drop 47 = dktX0_sum_2 := dk_seg dksX0_sum_1 24 rfl rfl
theorem dX0_sum_0 : decode cX0_sum 0 = .ok (.aload_n 0, 1) := dk_42 (dk_at dksX0_sum_0 0 rfl rfl)
theorem dX0_sum_1 : decode cX0_sum 1 = .ok (.aload_n 1, 1) := dk_43 (dk_at dksX0_sum_0 1 rfl rfl)
theorem dX0_sum_2 : decode cX0_sum 2 = .ok (.iconst 2, 1) := dk_5 (dk_at dksX0_sum_0 2 rfl rfl)
theorem dX0_sum_3 : decode cX0_sum 3 = .ok (.iload_n 2, 1) := dk_28 (dk_at dksX0_sum_0 3 rfl rfl)
theorem dX0_sum_4 : decode cX0_sum 4 = .ok (.imul, 1) := dk_104 (dk_at dksX0_sum_0 4 rfl rfl)
theorem dX0_sum_5 : decode cX0_sum 5 = .ok (.invokevirtual 310, 3) := dk_182 1 54 (dk_at dksX0_sum_0 5 rfl rfl)
theorem dX0_sum_8 : decode cX0_sum 8 = .ok (.aload_n 0, 1) := dk_42 (dk_at dksX0_sum_0 8 rfl rfl)
theorem dX0_sum_9 : decode cX0_sum 9 = .ok (.getfield 81, 3) := dk_180 0 81 (dk_at dksX0_sum_0 9 rfl rfl)
theorem dX0_sum_12 : decode cX0_sum 12 = .ok (.iconst 5, 1) := dk_8 (dk_at dksX0_sum_0 12 rfl rfl)
theorem dX0_sum_13 : decode cX0_sum 13 = .ok (.if_icmp .ne 40, 3) := dk_160 0 40 (dk_at dksX0_sum_0 13 rfl rfl)
theorem dX0_sum_16 : decode cX0_sum 16 = .ok (.ldc_w 314, 3) := dk_19 1 58 (dk_at dksX0_sum_0 16 rfl rfl)
theorem dX0_sum_19 : decode cX0_sum 19 = .ok (.aload_n 0, 1) := dk_42 (dk_at dksX0_sum_0 19 rfl rfl)
theorem dX0_sum_20 : decode cX0_sum 20 = .ok (.getfield 112, 3) := dk_180 0 112 (dk_at dksX0_sum_0 20 rfl rfl)
theorem dX0_sum_23 : decode cX0_sum 23 = .ok (.invokevirtual 107, 3) := dk_182 0 107 (dk_at dksX0_sum_1 0 rfl rfl)
theorem dX0_sum_26 : decode cX0_sum 26 = .ok (.ifCond .lt 27, 3) := dk_155 0 27 (dk_at dksX0_sum_1 3 rfl rfl)
theorem dX0_sum_29 : decode cX0_sum 29 = .ok (.aload_n 1, 1) := dk_43 (dk_at dksX0_sum_1 6 rfl rfl)
theorem dX0_sum_30 : decode cX0_sum 30 = .ok (.getfield 316, 3) := dk_180 1 60 (dk_at dksX0_sum_1 7 rfl rfl)
theorem dX0_sum_33 : decode cX0_sum 33 = .ok (.iload_n 2, 1) := dk_28 (dk_at dksX0_sum_1 10 rfl rfl)
theorem dX0_sum_34 : decode cX0_sum 34 = .ok (.aload_n 0, 1) := dk_42 (dk_at dksX0_sum_1 11 rfl rfl)
theorem dX0_sum_35 : decode cX0_sum 35 = .ok (.getfield 112, 3) := dk_180 0 112 (dk_at dksX0_sum_1 12 rfl rfl)
theorem dX0_sum_38 : decode cX0_sum 38 = .ok (.iastore, 1) := dk_79 (dk_at dksX0_sum_1 15 rfl rfl)
theorem dX0_sum_39 : decode cX0_sum 39 = .ok (.aload_n 0, 1) := dk_42 (dk_at dksX0_sum_1 16 rfl rfl)
theorem dX0_sum_40 : decode cX0_sum 40 = .ok (.invokevirtual 152, 3) := dk_182 0 152 (dk_at dksX0_sum_1 17 rfl rfl)
theorem dX0_sum_43 : decode cX0_sum 43 = .ok (.aload_n 0, 1) := dk_42 (dk_at dksX0_sum_1 20 rfl rfl)
theorem dX0_sum_44 : decode cX0_sum 44 = .ok (.aload_n 1, 1) := dk_43 (dk_at dksX0_sum_1 21 rfl rfl)
theorem dX0_sum_45 : decode cX0_sum 45 = .ok (.iconst 2, 1) := dk_5 (dk_at dksX0_sum_1 22 rfl rfl)
theorem dX0_sum_46 : decode cX0_sum 46 = .ok (.iload_n 2, 1) := dk_28 (dk_at dksX0_sum_1 23 rfl rfl)
theorem dX0_sum_47 : decode cX0_sum 47 = .ok (.imul, 1) := dk_104 (dk_at dksX0_sum_2 0 rfl rfl)
theorem dX0_sum_48 : decode cX0_sum 48 = .ok (.iconst 1, 1) := dk_4 (dk_at dksX0_sum_2 1 rfl rfl)
theorem dX0_sum_49 : decode cX0_sum 49 = .ok (.iadd, 1) := dk_96 (dk_at dksX0_sum_2 2 rfl rfl)
theorem dX0_sum_50 : decode cX0_sum 50 = .ok (.invokevirtual 310, 3) := dk_182 1 54 (dk_at dksX0_sum_2 3 rfl rfl)
theorem dX0_sum_53 : decode cX0_sum 53 = .ok (.return_, 1) := dk_177 (dk_at dksX0_sum_2 6 rfl rfl)
abbrev cX0_term : ByteArray := prog_1_method_34_code
def yX0_term : MethodName := ⟨RX0, "term", "(LLetterPost$Guard;I)V"⟩
def dkwX0_term_1 : List UInt8 := [167, 0, 13, 43, 180, 1, 51, 28, 42, 182, 1, 5, 79, 177]
abbrev dktX0_term_1 : List UInt8 := dkwX0_term_1 ++ []
def dkwX0_term_0 : List UInt8 := [42, 180, 0, 81, 4, 160, 0, 20, 43, 180, 1, 44, 28, 42, 182, 1, 48, 79, 42, 182, 0, 152]
abbrev dktX0_term_0 : List UInt8 := dkwX0_term_0 ++ dktX0_term_1
theorem dksX0_term_0 : cX0_term.data.toList.drop 0 = dktX0_term_0 := by decide +kernel
theorem dksX0_term_1 : cX0_term.data.toList.drop 22 = dktX0_term_1 := dk_seg dksX0_term_0 22 rfl rfl
theorem dX0_term_0 : decode cX0_term 0 = .ok (.aload_n 0, 1) := dk_42 (dk_at dksX0_term_0 0 rfl rfl)
theorem dX0_term_1 : decode cX0_term 1 = .ok (.getfield 81, 3) := dk_180 0 81 (dk_at dksX0_term_0 1 rfl rfl)
theorem dX0_term_4 : decode cX0_term 4 = .ok (.iconst 1, 1) := dk_4 (dk_at dksX0_term_0 4 rfl rfl)
theorem dX0_term_5 : decode cX0_term 5 = .ok (.if_icmp .ne 20, 3) := dk_160 0 20 (dk_at dksX0_term_0 5 rfl rfl)
theorem dX0_term_8 : decode cX0_term 8 = .ok (.aload_n 1, 1) := dk_43 (dk_at dksX0_term_0 8 rfl rfl)
theorem dX0_term_9 : decode cX0_term 9 = .ok (.getfield 300, 3) := dk_180 1 44 (dk_at dksX0_term_0 9 rfl rfl)
theorem dX0_term_12 : decode cX0_term 12 = .ok (.iload_n 2, 1) := dk_28 (dk_at dksX0_term_0 12 rfl rfl)
theorem dX0_term_13 : decode cX0_term 13 = .ok (.aload_n 0, 1) := dk_42 (dk_at dksX0_term_0 13 rfl rfl)
theorem dX0_term_14 : decode cX0_term 14 = .ok (.invokevirtual 304, 3) := dk_182 1 48 (dk_at dksX0_term_0 14 rfl rfl)
theorem dX0_term_17 : decode cX0_term 17 = .ok (.iastore, 1) := dk_79 (dk_at dksX0_term_0 17 rfl rfl)
theorem dX0_term_18 : decode cX0_term 18 = .ok (.aload_n 0, 1) := dk_42 (dk_at dksX0_term_0 18 rfl rfl)
theorem dX0_term_19 : decode cX0_term 19 = .ok (.invokevirtual 152, 3) := dk_182 0 152 (dk_at dksX0_term_0 19 rfl rfl)
theorem dX0_term_22 : decode cX0_term 22 = .ok (.goto 13, 3) := dk_167 0 13 (dk_at dksX0_term_1 0 rfl rfl)
theorem dX0_term_25 : decode cX0_term 25 = .ok (.aload_n 1, 1) := dk_43 (dk_at dksX0_term_1 3 rfl rfl)
theorem dX0_term_26 : decode cX0_term 26 = .ok (.getfield 307, 3) := dk_180 1 51 (dk_at dksX0_term_1 4 rfl rfl)
theorem dX0_term_29 : decode cX0_term 29 = .ok (.iload_n 2, 1) := dk_28 (dk_at dksX0_term_1 7 rfl rfl)
theorem dX0_term_30 : decode cX0_term 30 = .ok (.aload_n 0, 1) := dk_42 (dk_at dksX0_term_1 8 rfl rfl)
theorem dX0_term_31 : decode cX0_term 31 = .ok (.invokevirtual 261, 3) := dk_182 1 5 (dk_at dksX0_term_1 9 rfl rfl)
theorem dX0_term_34 : decode cX0_term 34 = .ok (.iastore, 1) := dk_79 (dk_at dksX0_term_1 12 rfl rfl)
theorem dX0_term_35 : decode cX0_term 35 = .ok (.return_, 1) := dk_177 (dk_at dksX0_term_1 13 rfl rfl)
abbrev cX0_wholeName : ByteArray := prog_1_method_33_code
def yX0_wholeName : MethodName := ⟨RX0, "wholeName", "()I"⟩
def dkwX0_wholeName_1 : List UInt8 := [180, 0, 78, 182, 0, 98, 27, 172]
abbrev dktX0_wholeName_1 : List UInt8 := dkwX0_wholeName_1 ++ []
def dkwX0_wholeName_0 : List UInt8 := [42, 182, 1, 41, 60, 42, 42, 180, 1, 24, 27, 46, 154, 0, 7, 4, 167, 0, 4, 3, 8, 42]
abbrev dktX0_wholeName_0 : List UInt8 := dkwX0_wholeName_0 ++ dktX0_wholeName_1
theorem dksX0_wholeName_0 : cX0_wholeName.data.toList.drop 0 = dktX0_wholeName_0 := by decide +kernel
theorem dksX0_wholeName_1 : cX0_wholeName.data.toList.drop 22 = dktX0_wholeName_1 := dk_seg dksX0_wholeName_0 22 rfl rfl
theorem dX0_wholeName_0 : decode cX0_wholeName 0 = .ok (.aload_n 0, 1) := dk_42 (dk_at dksX0_wholeName_0 0 rfl rfl)
theorem dX0_wholeName_1 : decode cX0_wholeName 1 = .ok (.invokevirtual 297, 3) := dk_182 1 41 (dk_at dksX0_wholeName_0 1 rfl rfl)
theorem dX0_wholeName_4 : decode cX0_wholeName 4 = .ok (.istore_n 1, 1) := dk_60 (dk_at dksX0_wholeName_0 4 rfl rfl)
theorem dX0_wholeName_5 : decode cX0_wholeName 5 = .ok (.aload_n 0, 1) := dk_42 (dk_at dksX0_wholeName_0 5 rfl rfl)
theorem dX0_wholeName_6 : decode cX0_wholeName 6 = .ok (.aload_n 0, 1) := dk_42 (dk_at dksX0_wholeName_0 6 rfl rfl)
theorem dX0_wholeName_7 : decode cX0_wholeName 7 = .ok (.getfield 280, 3) := dk_180 1 24 (dk_at dksX0_wholeName_0 7 rfl rfl)
theorem dX0_wholeName_10 : decode cX0_wholeName 10 = .ok (.iload_n 1, 1) := dk_27 (dk_at dksX0_wholeName_0 10 rfl rfl)
theorem dX0_wholeName_11 : decode cX0_wholeName 11 = .ok (.iaload, 1) := dk_46 (dk_at dksX0_wholeName_0 11 rfl rfl)
theorem dX0_wholeName_12 : decode cX0_wholeName 12 = .ok (.ifCond .ne 7, 3) := dk_154 0 7 (dk_at dksX0_wholeName_0 12 rfl rfl)
theorem dX0_wholeName_15 : decode cX0_wholeName 15 = .ok (.iconst 1, 1) := dk_4 (dk_at dksX0_wholeName_0 15 rfl rfl)
theorem dX0_wholeName_16 : decode cX0_wholeName 16 = .ok (.goto 4, 3) := dk_167 0 4 (dk_at dksX0_wholeName_0 16 rfl rfl)
theorem dX0_wholeName_19 : decode cX0_wholeName 19 = .ok (.iconst 0, 1) := dk_3 (dk_at dksX0_wholeName_0 19 rfl rfl)
theorem dX0_wholeName_20 : decode cX0_wholeName 20 = .ok (.iconst 5, 1) := dk_8 (dk_at dksX0_wholeName_0 20 rfl rfl)
theorem dX0_wholeName_21 : decode cX0_wholeName 21 = .ok (.aload_n 0, 1) := dk_42 (dk_at dksX0_wholeName_0 21 rfl rfl)
theorem dX0_wholeName_22 : decode cX0_wholeName 22 = .ok (.getfield 78, 3) := dk_180 0 78 (dk_at dksX0_wholeName_1 0 rfl rfl)
theorem dX0_wholeName_25 : decode cX0_wholeName 25 = .ok (.invokevirtual 98, 3) := dk_182 0 98 (dk_at dksX0_wholeName_1 3 rfl rfl)
theorem dX0_wholeName_28 : decode cX0_wholeName 28 = .ok (.iload_n 1, 1) := dk_27 (dk_at dksX0_wholeName_1 6 rfl rfl)
theorem dX0_wholeName_29 : decode cX0_wholeName 29 = .ok (.ireturn, 1) := dk_172 (dk_at dksX0_wholeName_1 7 rfl rfl)
abbrev cX0_known : ByteArray := prog_1_method_32_code
def yX0_known : MethodName := ⟨RX0, "known", "()I"⟩
def dkwX0_known_2 : List UInt8 := [162, 0, 7, 4, 167, 0, 4, 3, 7, 42, 180, 0, 78, 182, 0, 98, 27, 172]
abbrev dktX0_known_2 : List UInt8 := dkwX0_known_2 ++ []
def dkwX0_known_1 : List UInt8 := [42, 180, 1, 18, 27, 122, 4, 126, 154, 0, 9, 132, 1, 1, 167, 255, 220, 42, 27, 42, 180, 1, 11]
abbrev dktX0_known_1 : List UInt8 := dkwX0_known_1 ++ dktX0_known_2
def dkwX0_known_0 : List UInt8 := [3, 60, 27, 42, 180, 1, 11, 162, 0, 34, 42, 180, 1, 14, 27, 47, 42, 180, 0, 115, 148, 154, 0, 14]
abbrev dktX0_known_0 : List UInt8 := dkwX0_known_0 ++ dktX0_known_1
theorem dksX0_known_0 : cX0_known.data.toList.drop 0 = dktX0_known_0 := by decide +kernel
theorem dksX0_known_1 : cX0_known.data.toList.drop 24 = dktX0_known_1 := dk_seg dksX0_known_0 24 rfl rfl
theorem dksX0_known_2 : cX0_known.data.toList.drop 47 = dktX0_known_2 := dk_seg dksX0_known_1 23 rfl rfl
theorem dX0_known_0 : decode cX0_known 0 = .ok (.iconst 0, 1) := dk_3 (dk_at dksX0_known_0 0 rfl rfl)
theorem dX0_known_1 : decode cX0_known 1 = .ok (.istore_n 1, 1) := dk_60 (dk_at dksX0_known_0 1 rfl rfl)
theorem dX0_known_2 : decode cX0_known 2 = .ok (.iload_n 1, 1) := dk_27 (dk_at dksX0_known_0 2 rfl rfl)
theorem dX0_known_3 : decode cX0_known 3 = .ok (.aload_n 0, 1) := dk_42 (dk_at dksX0_known_0 3 rfl rfl)
theorem dX0_known_4 : decode cX0_known 4 = .ok (.getfield 267, 3) := dk_180 1 11 (dk_at dksX0_known_0 4 rfl rfl)
theorem dX0_known_7 : decode cX0_known 7 = .ok (.if_icmp .ge 34, 3) := dk_162 0 34 (dk_at dksX0_known_0 7 rfl rfl)
theorem dX0_known_10 : decode cX0_known 10 = .ok (.aload_n 0, 1) := dk_42 (dk_at dksX0_known_0 10 rfl rfl)
theorem dX0_known_11 : decode cX0_known 11 = .ok (.getfield 270, 3) := dk_180 1 14 (dk_at dksX0_known_0 11 rfl rfl)
theorem dX0_known_14 : decode cX0_known 14 = .ok (.iload_n 1, 1) := dk_27 (dk_at dksX0_known_0 14 rfl rfl)
theorem dX0_known_15 : decode cX0_known 15 = .ok (.laload, 1) := dk_47 (dk_at dksX0_known_0 15 rfl rfl)
theorem dX0_known_16 : decode cX0_known 16 = .ok (.aload_n 0, 1) := dk_42 (dk_at dksX0_known_0 16 rfl rfl)
theorem dX0_known_17 : decode cX0_known 17 = .ok (.getfield 115, 3) := dk_180 0 115 (dk_at dksX0_known_0 17 rfl rfl)
theorem dX0_known_20 : decode cX0_known 20 = .ok (.lcmp, 1) := dk_148 (dk_at dksX0_known_0 20 rfl rfl)
theorem dX0_known_21 : decode cX0_known 21 = .ok (.ifCond .ne 14, 3) := dk_154 0 14 (dk_at dksX0_known_0 21 rfl rfl)
theorem dX0_known_24 : decode cX0_known 24 = .ok (.aload_n 0, 1) := dk_42 (dk_at dksX0_known_1 0 rfl rfl)
theorem dX0_known_25 : decode cX0_known 25 = .ok (.getfield 274, 3) := dk_180 1 18 (dk_at dksX0_known_1 1 rfl rfl)
theorem dX0_known_28 : decode cX0_known 28 = .ok (.iload_n 1, 1) := dk_27 (dk_at dksX0_known_1 4 rfl rfl)
theorem dX0_known_29 : decode cX0_known 29 = .ok (.ishr, 1) := dk_122 (dk_at dksX0_known_1 5 rfl rfl)
theorem dX0_known_30 : decode cX0_known 30 = .ok (.iconst 1, 1) := dk_4 (dk_at dksX0_known_1 6 rfl rfl)
theorem dX0_known_31 : decode cX0_known 31 = .ok (.iand, 1) := dk_126 (dk_at dksX0_known_1 7 rfl rfl)
theorem dX0_known_32 : decode cX0_known 32 = .ok (.ifCond .ne 9, 3) := dk_154 0 9 (dk_at dksX0_known_1 8 rfl rfl)
theorem dX0_known_35 : decode cX0_known 35 = .ok (.iinc 1 1, 3) := dk_132 1 1 (dk_at dksX0_known_1 11 rfl rfl)
theorem dX0_known_38 : decode cX0_known 38 = .ok (.goto (-36), 3) := dk_167 255 220 (dk_at dksX0_known_1 14 rfl rfl)
theorem dX0_known_41 : decode cX0_known 41 = .ok (.aload_n 0, 1) := dk_42 (dk_at dksX0_known_1 17 rfl rfl)
theorem dX0_known_42 : decode cX0_known 42 = .ok (.iload_n 1, 1) := dk_27 (dk_at dksX0_known_1 18 rfl rfl)
theorem dX0_known_43 : decode cX0_known 43 = .ok (.aload_n 0, 1) := dk_42 (dk_at dksX0_known_1 19 rfl rfl)
theorem dX0_known_44 : decode cX0_known 44 = .ok (.getfield 267, 3) := dk_180 1 11 (dk_at dksX0_known_1 20 rfl rfl)
theorem dX0_known_47 : decode cX0_known 47 = .ok (.if_icmp .ge 7, 3) := dk_162 0 7 (dk_at dksX0_known_2 0 rfl rfl)
theorem dX0_known_50 : decode cX0_known 50 = .ok (.iconst 1, 1) := dk_4 (dk_at dksX0_known_2 3 rfl rfl)
theorem dX0_known_51 : decode cX0_known 51 = .ok (.goto 4, 3) := dk_167 0 4 (dk_at dksX0_known_2 4 rfl rfl)
theorem dX0_known_54 : decode cX0_known 54 = .ok (.iconst 0, 1) := dk_3 (dk_at dksX0_known_2 7 rfl rfl)
theorem dX0_known_55 : decode cX0_known 55 = .ok (.iconst 4, 1) := dk_7 (dk_at dksX0_known_2 8 rfl rfl)
theorem dX0_known_56 : decode cX0_known 56 = .ok (.aload_n 0, 1) := dk_42 (dk_at dksX0_known_2 9 rfl rfl)
theorem dX0_known_57 : decode cX0_known 57 = .ok (.getfield 78, 3) := dk_180 0 78 (dk_at dksX0_known_2 10 rfl rfl)
theorem dX0_known_60 : decode cX0_known 60 = .ok (.invokevirtual 98, 3) := dk_182 0 98 (dk_at dksX0_known_2 13 rfl rfl)
theorem dX0_known_63 : decode cX0_known 63 = .ok (.iload_n 1, 1) := dk_27 (dk_at dksX0_known_2 16 rfl rfl)
theorem dX0_known_64 : decode cX0_known 64 = .ok (.ireturn, 1) := dk_172 (dk_at dksX0_known_2 17 rfl rfl)
abbrev cX0_answer : ByteArray := prog_1_method_38_code
def yX0_answer : MethodName := ⟨RX0, "answer", "(LLetterPost$Rule;)V"⟩
def dkwX0_answer_7 : List UInt8 := [180, 1, 89, 3, 21, 4, 184, 1, 35, 177]
abbrev dktX0_answer_7 : List UInt8 := dkwX0_answer_7 ++ []
def dkwX0_answer_6 : List UInt8 := [21, 4, 188, 10, 181, 1, 89, 44, 3, 43, 180, 1, 86, 3, 21, 4, 184, 1, 35, 45, 3, 43]
abbrev dktX0_answer_6 : List UInt8 := dkwX0_answer_6 ++ dktX0_answer_7
def dkwX0_answer_5 : List UInt8 := [16, 44, 182, 0, 146, 154, 255, 206, 42, 16, 41, 182, 0, 189, 43, 21, 4, 188, 10, 181, 1, 86, 43]
abbrev dktX0_answer_5 : List UInt8 := dkwX0_answer_5 ++ dktX0_answer_6
def dkwX0_answer_4 : List UInt8 := [21, 4, 42, 182, 1, 41, 79, 45, 21, 4, 42, 180, 0, 78, 79, 132, 4, 1, 42, 182, 0, 152, 42]
abbrev dktX0_answer_4 : List UInt8 := dkwX0_answer_4 ++ dktX0_answer_5
def dkwX0_answer_3 : List UInt8 := [54, 4, 42, 182, 0, 152, 42, 42, 180, 0, 81, 4, 160, 0, 7, 4, 167, 0, 4, 3, 182, 0, 149, 44]
abbrev dktX0_answer_3 : List UInt8 := dkwX0_answer_3 ++ dktX0_answer_4
def dkwX0_answer_2 : List UInt8 := [180, 0, 78, 181, 1, 83, 42, 182, 0, 152, 17, 3, 32, 188, 10, 77, 17, 3, 32, 188, 10, 78, 3]
abbrev dktX0_answer_2 : List UInt8 := dkwX0_answer_2 ++ dktX0_answer_3
def dkwX0_answer_1 : List UInt8 := [43, 42, 182, 1, 48, 181, 1, 79, 42, 182, 0, 152, 177, 43, 42, 180, 0, 115, 181, 1, 80, 43, 42]
abbrev dktX0_answer_1 : List UInt8 := dkwX0_answer_1 ++ dktX0_answer_2
def dkwX0_answer_0 : List UInt8 := [42, 180, 0, 81, 4, 159, 0, 12, 43, 42, 182, 1, 5, 181, 1, 70, 177, 42, 182, 1, 75, 154, 0, 16]
abbrev dktX0_answer_0 : List UInt8 := dkwX0_answer_0 ++ dktX0_answer_1
theorem dksX0_answer_0 : cX0_answer.data.toList.drop 0 = dktX0_answer_0 := by decide +kernel
theorem dksX0_answer_1 : cX0_answer.data.toList.drop 24 = dktX0_answer_1 := dk_seg dksX0_answer_0 24 rfl rfl
theorem dksX0_answer_2 : cX0_answer.data.toList.drop 47 = dktX0_answer_2 := dk_seg dksX0_answer_1 23 rfl rfl
theorem dksX0_answer_3 : cX0_answer.data.toList.drop 70 = dktX0_answer_3 := dk_seg dksX0_answer_2 23 rfl rfl
theorem dksX0_answer_4 : cX0_answer.data.toList.drop 94 = dktX0_answer_4 := dk_seg dksX0_answer_3 24 rfl rfl
theorem dksX0_answer_5 : cX0_answer.data.toList.drop 117 = dktX0_answer_5 := dk_seg dksX0_answer_4 23 rfl rfl
theorem dksX0_answer_6 : cX0_answer.data.toList.drop 140 = dktX0_answer_6 := dk_seg dksX0_answer_5 23 rfl rfl
theorem dksX0_answer_7 : cX0_answer.data.toList.drop 162 = dktX0_answer_7 := dk_seg dksX0_answer_6 22 rfl rfl
theorem dX0_answer_0 : decode cX0_answer 0 = .ok (.aload_n 0, 1) := dk_42 (dk_at dksX0_answer_0 0 rfl rfl)
theorem dX0_answer_1 : decode cX0_answer 1 = .ok (.getfield 81, 3) := dk_180 0 81 (dk_at dksX0_answer_0 1 rfl rfl)
theorem dX0_answer_4 : decode cX0_answer 4 = .ok (.iconst 1, 1) := dk_4 (dk_at dksX0_answer_0 4 rfl rfl)
theorem dX0_answer_5 : decode cX0_answer 5 = .ok (.if_icmp .eq 12, 3) := dk_159 0 12 (dk_at dksX0_answer_0 5 rfl rfl)
theorem dX0_answer_8 : decode cX0_answer 8 = .ok (.aload_n 1, 1) := dk_43 (dk_at dksX0_answer_0 8 rfl rfl)
theorem dX0_answer_9 : decode cX0_answer 9 = .ok (.aload_n 0, 1) := dk_42 (dk_at dksX0_answer_0 9 rfl rfl)
theorem dX0_answer_10 : decode cX0_answer 10 = .ok (.invokevirtual 261, 3) := dk_182 1 5 (dk_at dksX0_answer_0 10 rfl rfl)
theorem dX0_answer_13 : decode cX0_answer 13 = .ok (.putfield 326, 3) := dk_181 1 70 (dk_at dksX0_answer_0 13 rfl rfl)
theorem dX0_answer_16 : decode cX0_answer 16 = .ok (.return_, 1) := dk_177 (dk_at dksX0_answer_0 16 rfl rfl)
theorem dX0_answer_17 : decode cX0_answer 17 = .ok (.aload_n 0, 1) := dk_42 (dk_at dksX0_answer_0 17 rfl rfl)
theorem dX0_answer_18 : decode cX0_answer 18 = .ok (.invokevirtual 331, 3) := dk_182 1 75 (dk_at dksX0_answer_0 18 rfl rfl)
theorem dX0_answer_21 : decode cX0_answer 21 = .ok (.ifCond .ne 16, 3) := dk_154 0 16 (dk_at dksX0_answer_0 21 rfl rfl)
theorem dX0_answer_24 : decode cX0_answer 24 = .ok (.aload_n 1, 1) := dk_43 (dk_at dksX0_answer_1 0 rfl rfl)
theorem dX0_answer_25 : decode cX0_answer 25 = .ok (.aload_n 0, 1) := dk_42 (dk_at dksX0_answer_1 1 rfl rfl)
theorem dX0_answer_26 : decode cX0_answer 26 = .ok (.invokevirtual 304, 3) := dk_182 1 48 (dk_at dksX0_answer_1 2 rfl rfl)
theorem dX0_answer_29 : decode cX0_answer 29 = .ok (.putfield 335, 3) := dk_181 1 79 (dk_at dksX0_answer_1 5 rfl rfl)
theorem dX0_answer_32 : decode cX0_answer 32 = .ok (.aload_n 0, 1) := dk_42 (dk_at dksX0_answer_1 8 rfl rfl)
theorem dX0_answer_33 : decode cX0_answer 33 = .ok (.invokevirtual 152, 3) := dk_182 0 152 (dk_at dksX0_answer_1 9 rfl rfl)
theorem dX0_answer_36 : decode cX0_answer 36 = .ok (.return_, 1) := dk_177 (dk_at dksX0_answer_1 12 rfl rfl)
theorem dX0_answer_37 : decode cX0_answer 37 = .ok (.aload_n 1, 1) := dk_43 (dk_at dksX0_answer_1 13 rfl rfl)
theorem dX0_answer_38 : decode cX0_answer 38 = .ok (.aload_n 0, 1) := dk_42 (dk_at dksX0_answer_1 14 rfl rfl)
theorem dX0_answer_39 : decode cX0_answer 39 = .ok (.getfield 115, 3) := dk_180 0 115 (dk_at dksX0_answer_1 15 rfl rfl)
theorem dX0_answer_42 : decode cX0_answer 42 = .ok (.putfield 336, 3) := dk_181 1 80 (dk_at dksX0_answer_1 18 rfl rfl)
theorem dX0_answer_45 : decode cX0_answer 45 = .ok (.aload_n 1, 1) := dk_43 (dk_at dksX0_answer_1 21 rfl rfl)
theorem dX0_answer_46 : decode cX0_answer 46 = .ok (.aload_n 0, 1) := dk_42 (dk_at dksX0_answer_1 22 rfl rfl)
theorem dX0_answer_47 : decode cX0_answer 47 = .ok (.getfield 78, 3) := dk_180 0 78 (dk_at dksX0_answer_2 0 rfl rfl)
theorem dX0_answer_50 : decode cX0_answer 50 = .ok (.putfield 339, 3) := dk_181 1 83 (dk_at dksX0_answer_2 3 rfl rfl)
theorem dX0_answer_53 : decode cX0_answer 53 = .ok (.aload_n 0, 1) := dk_42 (dk_at dksX0_answer_2 6 rfl rfl)
theorem dX0_answer_54 : decode cX0_answer 54 = .ok (.invokevirtual 152, 3) := dk_182 0 152 (dk_at dksX0_answer_2 7 rfl rfl)
theorem dX0_answer_57 : decode cX0_answer 57 = .ok (.sipush 800, 3) := dk_17 3 32 (dk_at dksX0_answer_2 10 rfl rfl)
theorem dX0_answer_60 : decode cX0_answer 60 = .ok (.newarray .int, 2) := dk_188_10 (dk_at dksX0_answer_2 13 rfl rfl)
theorem dX0_answer_62 : decode cX0_answer 62 = .ok (.astore_n 2, 1) := dk_77 (dk_at dksX0_answer_2 15 rfl rfl)
theorem dX0_answer_63 : decode cX0_answer 63 = .ok (.sipush 800, 3) := dk_17 3 32 (dk_at dksX0_answer_2 16 rfl rfl)
theorem dX0_answer_66 : decode cX0_answer 66 = .ok (.newarray .int, 2) := dk_188_10 (dk_at dksX0_answer_2 19 rfl rfl)
theorem dX0_answer_68 : decode cX0_answer 68 = .ok (.astore_n 3, 1) := dk_78 (dk_at dksX0_answer_2 21 rfl rfl)
theorem dX0_answer_69 : decode cX0_answer 69 = .ok (.iconst 0, 1) := dk_3 (dk_at dksX0_answer_2 22 rfl rfl)
theorem dX0_answer_70 : decode cX0_answer 70 = .ok (.istore 4, 2) := dk_54 4 (dk_at dksX0_answer_3 0 rfl rfl)
theorem dX0_answer_72 : decode cX0_answer 72 = .ok (.aload_n 0, 1) := dk_42 (dk_at dksX0_answer_3 2 rfl rfl)
theorem dX0_answer_73 : decode cX0_answer 73 = .ok (.invokevirtual 152, 3) := dk_182 0 152 (dk_at dksX0_answer_3 3 rfl rfl)
theorem dX0_answer_76 : decode cX0_answer 76 = .ok (.aload_n 0, 1) := dk_42 (dk_at dksX0_answer_3 6 rfl rfl)
theorem dX0_answer_77 : decode cX0_answer 77 = .ok (.aload_n 0, 1) := dk_42 (dk_at dksX0_answer_3 7 rfl rfl)
theorem dX0_answer_78 : decode cX0_answer 78 = .ok (.getfield 81, 3) := dk_180 0 81 (dk_at dksX0_answer_3 8 rfl rfl)
theorem dX0_answer_81 : decode cX0_answer 81 = .ok (.iconst 1, 1) := dk_4 (dk_at dksX0_answer_3 11 rfl rfl)
theorem dX0_answer_82 : decode cX0_answer 82 = .ok (.if_icmp .ne 7, 3) := dk_160 0 7 (dk_at dksX0_answer_3 12 rfl rfl)
theorem dX0_answer_85 : decode cX0_answer 85 = .ok (.iconst 1, 1) := dk_4 (dk_at dksX0_answer_3 15 rfl rfl)
theorem dX0_answer_86 : decode cX0_answer 86 = .ok (.goto 4, 3) := dk_167 0 4 (dk_at dksX0_answer_3 16 rfl rfl)
theorem dX0_answer_89 : decode cX0_answer 89 = .ok (.iconst 0, 1) := dk_3 (dk_at dksX0_answer_3 19 rfl rfl)
theorem dX0_answer_90 : decode cX0_answer 90 = .ok (.invokevirtual 149, 3) := dk_182 0 149 (dk_at dksX0_answer_3 20 rfl rfl)
theorem dX0_answer_93 : decode cX0_answer 93 = .ok (.aload_n 2, 1) := dk_44 (dk_at dksX0_answer_3 23 rfl rfl)
theorem dX0_answer_94 : decode cX0_answer 94 = .ok (.iload 4, 2) := dk_21 4 (dk_at dksX0_answer_4 0 rfl rfl)
theorem dX0_answer_96 : decode cX0_answer 96 = .ok (.aload_n 0, 1) := dk_42 (dk_at dksX0_answer_4 2 rfl rfl)
theorem dX0_answer_97 : decode cX0_answer 97 = .ok (.invokevirtual 297, 3) := dk_182 1 41 (dk_at dksX0_answer_4 3 rfl rfl)
theorem dX0_answer_100 : decode cX0_answer 100 = .ok (.iastore, 1) := dk_79 (dk_at dksX0_answer_4 6 rfl rfl)
theorem dX0_answer_101 : decode cX0_answer 101 = .ok (.aload_n 3, 1) := dk_45 (dk_at dksX0_answer_4 7 rfl rfl)
theorem dX0_answer_102 : decode cX0_answer 102 = .ok (.iload 4, 2) := dk_21 4 (dk_at dksX0_answer_4 8 rfl rfl)
theorem dX0_answer_104 : decode cX0_answer 104 = .ok (.aload_n 0, 1) := dk_42 (dk_at dksX0_answer_4 10 rfl rfl)
theorem dX0_answer_105 : decode cX0_answer 105 = .ok (.getfield 78, 3) := dk_180 0 78 (dk_at dksX0_answer_4 11 rfl rfl)
theorem dX0_answer_108 : decode cX0_answer 108 = .ok (.iastore, 1) := dk_79 (dk_at dksX0_answer_4 14 rfl rfl)
theorem dX0_answer_109 : decode cX0_answer 109 = .ok (.iinc 4 1, 3) := dk_132 4 1 (dk_at dksX0_answer_4 15 rfl rfl)
theorem dX0_answer_112 : decode cX0_answer 112 = .ok (.aload_n 0, 1) := dk_42 (dk_at dksX0_answer_4 18 rfl rfl)
theorem dX0_answer_113 : decode cX0_answer 113 = .ok (.invokevirtual 152, 3) := dk_182 0 152 (dk_at dksX0_answer_4 19 rfl rfl)
theorem dX0_answer_116 : decode cX0_answer 116 = .ok (.aload_n 0, 1) := dk_42 (dk_at dksX0_answer_4 22 rfl rfl)
theorem dX0_answer_117 : decode cX0_answer 117 = .ok (.bipush 44, 2) := dk_16 44 (dk_at dksX0_answer_5 0 rfl rfl)
theorem dX0_answer_119 : decode cX0_answer 119 = .ok (.invokevirtual 146, 3) := dk_182 0 146 (dk_at dksX0_answer_5 2 rfl rfl)
theorem dX0_answer_122 : decode cX0_answer 122 = .ok (.ifCond .ne (-50), 3) := dk_154 255 206 (dk_at dksX0_answer_5 5 rfl rfl)
theorem dX0_answer_125 : decode cX0_answer 125 = .ok (.aload_n 0, 1) := dk_42 (dk_at dksX0_answer_5 8 rfl rfl)
theorem dX0_answer_126 : decode cX0_answer 126 = .ok (.bipush 41, 2) := dk_16 41 (dk_at dksX0_answer_5 9 rfl rfl)
theorem dX0_answer_128 : decode cX0_answer 128 = .ok (.invokevirtual 189, 3) := dk_182 0 189 (dk_at dksX0_answer_5 11 rfl rfl)
theorem dX0_answer_131 : decode cX0_answer 131 = .ok (.aload_n 1, 1) := dk_43 (dk_at dksX0_answer_5 14 rfl rfl)
theorem dX0_answer_132 : decode cX0_answer 132 = .ok (.iload 4, 2) := dk_21 4 (dk_at dksX0_answer_5 15 rfl rfl)
theorem dX0_answer_134 : decode cX0_answer 134 = .ok (.newarray .int, 2) := dk_188_10 (dk_at dksX0_answer_5 17 rfl rfl)
theorem dX0_answer_136 : decode cX0_answer 136 = .ok (.putfield 342, 3) := dk_181 1 86 (dk_at dksX0_answer_5 19 rfl rfl)
theorem dX0_answer_139 : decode cX0_answer 139 = .ok (.aload_n 1, 1) := dk_43 (dk_at dksX0_answer_5 22 rfl rfl)
theorem dX0_answer_140 : decode cX0_answer 140 = .ok (.iload 4, 2) := dk_21 4 (dk_at dksX0_answer_6 0 rfl rfl)
theorem dX0_answer_142 : decode cX0_answer 142 = .ok (.newarray .int, 2) := dk_188_10 (dk_at dksX0_answer_6 2 rfl rfl)
theorem dX0_answer_144 : decode cX0_answer 144 = .ok (.putfield 345, 3) := dk_181 1 89 (dk_at dksX0_answer_6 4 rfl rfl)
theorem dX0_answer_147 : decode cX0_answer 147 = .ok (.aload_n 2, 1) := dk_44 (dk_at dksX0_answer_6 7 rfl rfl)
theorem dX0_answer_148 : decode cX0_answer 148 = .ok (.iconst 0, 1) := dk_3 (dk_at dksX0_answer_6 8 rfl rfl)
theorem dX0_answer_149 : decode cX0_answer 149 = .ok (.aload_n 1, 1) := dk_43 (dk_at dksX0_answer_6 9 rfl rfl)
theorem dX0_answer_150 : decode cX0_answer 150 = .ok (.getfield 342, 3) := dk_180 1 86 (dk_at dksX0_answer_6 10 rfl rfl)
theorem dX0_answer_153 : decode cX0_answer 153 = .ok (.iconst 0, 1) := dk_3 (dk_at dksX0_answer_6 13 rfl rfl)
theorem dX0_answer_154 : decode cX0_answer 154 = .ok (.iload 4, 2) := dk_21 4 (dk_at dksX0_answer_6 14 rfl rfl)
theorem dX0_answer_156 : decode cX0_answer 156 = .ok (.invokestatic 291, 3) := dk_184 1 35 (dk_at dksX0_answer_6 16 rfl rfl)
theorem dX0_answer_159 : decode cX0_answer 159 = .ok (.aload_n 3, 1) := dk_45 (dk_at dksX0_answer_6 19 rfl rfl)
theorem dX0_answer_160 : decode cX0_answer 160 = .ok (.iconst 0, 1) := dk_3 (dk_at dksX0_answer_6 20 rfl rfl)
theorem dX0_answer_161 : decode cX0_answer 161 = .ok (.aload_n 1, 1) := dk_43 (dk_at dksX0_answer_6 21 rfl rfl)
theorem dX0_answer_162 : decode cX0_answer 162 = .ok (.getfield 345, 3) := dk_180 1 89 (dk_at dksX0_answer_7 0 rfl rfl)
theorem dX0_answer_165 : decode cX0_answer 165 = .ok (.iconst 0, 1) := dk_3 (dk_at dksX0_answer_7 3 rfl rfl)
theorem dX0_answer_166 : decode cX0_answer 166 = .ok (.iload 4, 2) := dk_21 4 (dk_at dksX0_answer_7 4 rfl rfl)
theorem dX0_answer_168 : decode cX0_answer 168 = .ok (.invokestatic 291, 3) := dk_184 1 35 (dk_at dksX0_answer_7 6 rfl rfl)
theorem dX0_answer_171 : decode cX0_answer 171 = .ok (.return_, 1) := dk_177 (dk_at dksX0_answer_7 9 rfl rfl)
abbrev cX0_isCall : ByteArray := prog_1_method_37_code
def yX0_isCall : MethodName := ⟨RX0, "isCall", "()Z"⟩
def dkwX0_isCall_2 : List UInt8 := [172]
abbrev dktX0_isCall_2 : List UInt8 := dkwX0_isCall_2 ++ []
def dkwX0_isCall_1 : List UInt8 := [160, 0, 9, 132, 1, 1, 167, 255, 233, 42, 27, 182, 0, 70, 16, 40, 160, 0, 7, 4, 167, 0, 4, 3]
abbrev dktX0_isCall_1 : List UInt8 := dkwX0_isCall_1 ++ dktX0_isCall_2
def dkwX0_isCall_0 : List UInt8 := [42, 180, 0, 67, 60, 42, 27, 182, 0, 70, 16, 32, 159, 0, 13, 42, 27, 182, 0, 70, 16, 10]
abbrev dktX0_isCall_0 : List UInt8 := dkwX0_isCall_0 ++ dktX0_isCall_1
theorem dksX0_isCall_0 : cX0_isCall.data.toList.drop 0 = dktX0_isCall_0 := by decide +kernel
theorem dksX0_isCall_1 : cX0_isCall.data.toList.drop 22 = dktX0_isCall_1 := dk_seg dksX0_isCall_0 22 rfl rfl
theorem dksX0_isCall_2 : cX0_isCall.data.toList.drop 46 = dktX0_isCall_2 := dk_seg dksX0_isCall_1 24 rfl rfl
theorem dX0_isCall_0 : decode cX0_isCall 0 = .ok (.aload_n 0, 1) := dk_42 (dk_at dksX0_isCall_0 0 rfl rfl)
theorem dX0_isCall_1 : decode cX0_isCall 1 = .ok (.getfield 67, 3) := dk_180 0 67 (dk_at dksX0_isCall_0 1 rfl rfl)
theorem dX0_isCall_4 : decode cX0_isCall 4 = .ok (.istore_n 1, 1) := dk_60 (dk_at dksX0_isCall_0 4 rfl rfl)
theorem dX0_isCall_5 : decode cX0_isCall 5 = .ok (.aload_n 0, 1) := dk_42 (dk_at dksX0_isCall_0 5 rfl rfl)
theorem dX0_isCall_6 : decode cX0_isCall 6 = .ok (.iload_n 1, 1) := dk_27 (dk_at dksX0_isCall_0 6 rfl rfl)
theorem dX0_isCall_7 : decode cX0_isCall 7 = .ok (.invokevirtual 70, 3) := dk_182 0 70 (dk_at dksX0_isCall_0 7 rfl rfl)
theorem dX0_isCall_10 : decode cX0_isCall 10 = .ok (.bipush 32, 2) := dk_16 32 (dk_at dksX0_isCall_0 10 rfl rfl)
theorem dX0_isCall_12 : decode cX0_isCall 12 = .ok (.if_icmp .eq 13, 3) := dk_159 0 13 (dk_at dksX0_isCall_0 12 rfl rfl)
theorem dX0_isCall_15 : decode cX0_isCall 15 = .ok (.aload_n 0, 1) := dk_42 (dk_at dksX0_isCall_0 15 rfl rfl)
theorem dX0_isCall_16 : decode cX0_isCall 16 = .ok (.iload_n 1, 1) := dk_27 (dk_at dksX0_isCall_0 16 rfl rfl)
theorem dX0_isCall_17 : decode cX0_isCall 17 = .ok (.invokevirtual 70, 3) := dk_182 0 70 (dk_at dksX0_isCall_0 17 rfl rfl)
theorem dX0_isCall_20 : decode cX0_isCall 20 = .ok (.bipush 10, 2) := dk_16 10 (dk_at dksX0_isCall_0 20 rfl rfl)
theorem dX0_isCall_22 : decode cX0_isCall 22 = .ok (.if_icmp .ne 9, 3) := dk_160 0 9 (dk_at dksX0_isCall_1 0 rfl rfl)
theorem dX0_isCall_25 : decode cX0_isCall 25 = .ok (.iinc 1 1, 3) := dk_132 1 1 (dk_at dksX0_isCall_1 3 rfl rfl)
theorem dX0_isCall_28 : decode cX0_isCall 28 = .ok (.goto (-23), 3) := dk_167 255 233 (dk_at dksX0_isCall_1 6 rfl rfl)
theorem dX0_isCall_31 : decode cX0_isCall 31 = .ok (.aload_n 0, 1) := dk_42 (dk_at dksX0_isCall_1 9 rfl rfl)
theorem dX0_isCall_32 : decode cX0_isCall 32 = .ok (.iload_n 1, 1) := dk_27 (dk_at dksX0_isCall_1 10 rfl rfl)
theorem dX0_isCall_33 : decode cX0_isCall 33 = .ok (.invokevirtual 70, 3) := dk_182 0 70 (dk_at dksX0_isCall_1 11 rfl rfl)
theorem dX0_isCall_36 : decode cX0_isCall 36 = .ok (.bipush 40, 2) := dk_16 40 (dk_at dksX0_isCall_1 14 rfl rfl)
theorem dX0_isCall_38 : decode cX0_isCall 38 = .ok (.if_icmp .ne 7, 3) := dk_160 0 7 (dk_at dksX0_isCall_1 16 rfl rfl)
theorem dX0_isCall_41 : decode cX0_isCall 41 = .ok (.iconst 1, 1) := dk_4 (dk_at dksX0_isCall_1 19 rfl rfl)
theorem dX0_isCall_42 : decode cX0_isCall 42 = .ok (.goto 4, 3) := dk_167 0 4 (dk_at dksX0_isCall_1 20 rfl rfl)
theorem dX0_isCall_45 : decode cX0_isCall 45 = .ok (.iconst 0, 1) := dk_3 (dk_at dksX0_isCall_1 23 rfl rfl)
theorem dX0_isCall_46 : decode cX0_isCall 46 = .ok (.ireturn, 1) := dk_172 (dk_at dksX0_isCall_2 0 rfl rfl)
abbrev cX0_settle : ByteArray := prog_1_method_42_code
def yX0_settle : MethodName := ⟨RX0, "settle", "()V"⟩
def dkwX0_settle_5 : List UInt8 := [180, 1, 148, 182, 0, 98, 132, 3, 1, 167, 255, 213, 132, 1, 1, 167, 255, 190, 177]
abbrev dktX0_settle_5 : List UInt8 := dkwX0_settle_5 ++ []
def dkwX0_settle_4 : List UInt8 := [96, 182, 1, 145, 16, 40, 163, 0, 7, 4, 167, 0, 4, 3, 16, 9, 44, 180, 1, 119, 29, 50]
abbrev dktX0_settle_4 : List UInt8 := dkwX0_settle_4 ++ dktX0_settle_5
def dkwX0_settle_3 : List UInt8 := [162, 0, 64, 42, 180, 1, 126, 27, 50, 77, 3, 62, 29, 44, 180, 1, 92, 162, 0, 41, 42, 44, 29, 4]
abbrev dktX0_settle_3 : List UInt8 := dkwX0_settle_3 ++ dktX0_settle_4
def dkwX0_settle_2 : List UInt8 := [182, 1, 142, 132, 3, 1, 167, 255, 223, 132, 1, 1, 167, 255, 200, 3, 60, 27, 42, 180, 1, 123]
abbrev dktX0_settle_2 : List UInt8 := dkwX0_settle_2 ++ dktX0_settle_3
def dkwX0_settle_1 : List UInt8 := [162, 0, 31, 44, 180, 1, 119, 29, 50, 58, 4, 25, 4, 180, 1, 86, 198, 0, 9, 42, 25, 4]
abbrev dktX0_settle_1 : List UInt8 := dkwX0_settle_1 ++ dktX0_settle_2
def dkwX0_settle_0 : List UInt8 := [3, 60, 27, 42, 180, 1, 123, 162, 0, 54, 42, 180, 1, 126, 27, 50, 77, 3, 62, 29, 44, 180, 1, 92]
abbrev dktX0_settle_0 : List UInt8 := dkwX0_settle_0 ++ dktX0_settle_1
theorem dksX0_settle_0 : cX0_settle.data.toList.drop 0 = dktX0_settle_0 := by decide +kernel
theorem dksX0_settle_1 : cX0_settle.data.toList.drop 24 = dktX0_settle_1 := dk_seg dksX0_settle_0 24 rfl rfl
theorem dksX0_settle_2 : cX0_settle.data.toList.drop 46 = dktX0_settle_2 := dk_seg dksX0_settle_1 22 rfl rfl
theorem dksX0_settle_3 : cX0_settle.data.toList.drop 68 = dktX0_settle_3 := dk_seg dksX0_settle_2 22 rfl rfl
theorem dksX0_settle_4 : cX0_settle.data.toList.drop 92 = dktX0_settle_4 := dk_seg dksX0_settle_3 24 rfl rfl
theorem dksX0_settle_5 : cX0_settle.data.toList.drop 114 = dktX0_settle_5 := dk_seg dksX0_settle_4 22 rfl rfl
theorem dX0_settle_0 : decode cX0_settle 0 = .ok (.iconst 0, 1) := dk_3 (dk_at dksX0_settle_0 0 rfl rfl)
theorem dX0_settle_1 : decode cX0_settle 1 = .ok (.istore_n 1, 1) := dk_60 (dk_at dksX0_settle_0 1 rfl rfl)
theorem dX0_settle_2 : decode cX0_settle 2 = .ok (.iload_n 1, 1) := dk_27 (dk_at dksX0_settle_0 2 rfl rfl)
theorem dX0_settle_3 : decode cX0_settle 3 = .ok (.aload_n 0, 1) := dk_42 (dk_at dksX0_settle_0 3 rfl rfl)
theorem dX0_settle_4 : decode cX0_settle 4 = .ok (.getfield 379, 3) := dk_180 1 123 (dk_at dksX0_settle_0 4 rfl rfl)
theorem dX0_settle_7 : decode cX0_settle 7 = .ok (.if_icmp .ge 54, 3) := dk_162 0 54 (dk_at dksX0_settle_0 7 rfl rfl)
theorem dX0_settle_10 : decode cX0_settle 10 = .ok (.aload_n 0, 1) := dk_42 (dk_at dksX0_settle_0 10 rfl rfl)
theorem dX0_settle_11 : decode cX0_settle 11 = .ok (.getfield 382, 3) := dk_180 1 126 (dk_at dksX0_settle_0 11 rfl rfl)
theorem dX0_settle_14 : decode cX0_settle 14 = .ok (.iload_n 1, 1) := dk_27 (dk_at dksX0_settle_0 14 rfl rfl)
theorem dX0_settle_15 : decode cX0_settle 15 = .ok (.aaload, 1) := dk_50 (dk_at dksX0_settle_0 15 rfl rfl)
theorem dX0_settle_16 : decode cX0_settle 16 = .ok (.astore_n 2, 1) := dk_77 (dk_at dksX0_settle_0 16 rfl rfl)
theorem dX0_settle_17 : decode cX0_settle 17 = .ok (.iconst 0, 1) := dk_3 (dk_at dksX0_settle_0 17 rfl rfl)
theorem dX0_settle_18 : decode cX0_settle 18 = .ok (.istore_n 3, 1) := dk_62 (dk_at dksX0_settle_0 18 rfl rfl)
theorem dX0_settle_19 : decode cX0_settle 19 = .ok (.iload_n 3, 1) := dk_29 (dk_at dksX0_settle_0 19 rfl rfl)
theorem dX0_settle_20 : decode cX0_settle 20 = .ok (.aload_n 2, 1) := dk_44 (dk_at dksX0_settle_0 20 rfl rfl)
theorem dX0_settle_21 : decode cX0_settle 21 = .ok (.getfield 348, 3) := dk_180 1 92 (dk_at dksX0_settle_0 21 rfl rfl)
theorem dX0_settle_24 : decode cX0_settle 24 = .ok (.if_icmp .ge 31, 3) := dk_162 0 31 (dk_at dksX0_settle_1 0 rfl rfl)
theorem dX0_settle_27 : decode cX0_settle 27 = .ok (.aload_n 2, 1) := dk_44 (dk_at dksX0_settle_1 3 rfl rfl)
theorem dX0_settle_28 : decode cX0_settle 28 = .ok (.getfield 375, 3) := dk_180 1 119 (dk_at dksX0_settle_1 4 rfl rfl)
theorem dX0_settle_31 : decode cX0_settle 31 = .ok (.iload_n 3, 1) := dk_29 (dk_at dksX0_settle_1 7 rfl rfl)
theorem dX0_settle_32 : decode cX0_settle 32 = .ok (.aaload, 1) := dk_50 (dk_at dksX0_settle_1 8 rfl rfl)
theorem dX0_settle_33 : decode cX0_settle 33 = .ok (.astore 4, 2) := dk_58 4 (dk_at dksX0_settle_1 9 rfl rfl)
theorem dX0_settle_35 : decode cX0_settle 35 = .ok (.aload 4, 2) := dk_25 4 (dk_at dksX0_settle_1 11 rfl rfl)
theorem dX0_settle_37 : decode cX0_settle 37 = .ok (.getfield 342, 3) := dk_180 1 86 (dk_at dksX0_settle_1 13 rfl rfl)
theorem dX0_settle_40 : decode cX0_settle 40 = .ok (.ifnull 9, 3) := dk_198 0 9 (dk_at dksX0_settle_1 16 rfl rfl)
theorem dX0_settle_43 : decode cX0_settle 43 = .ok (.aload_n 0, 1) := dk_42 (dk_at dksX0_settle_1 19 rfl rfl)
theorem dX0_settle_44 : decode cX0_settle 44 = .ok (.aload 4, 2) := dk_25 4 (dk_at dksX0_settle_1 20 rfl rfl)
theorem dX0_settle_46 : decode cX0_settle 46 = .ok (.invokevirtual 398, 3) := dk_182 1 142 (dk_at dksX0_settle_2 0 rfl rfl)
theorem dX0_settle_49 : decode cX0_settle 49 = .ok (.iinc 3 1, 3) := dk_132 3 1 (dk_at dksX0_settle_2 3 rfl rfl)
theorem dX0_settle_52 : decode cX0_settle 52 = .ok (.goto (-33), 3) := dk_167 255 223 (dk_at dksX0_settle_2 6 rfl rfl)
theorem dX0_settle_55 : decode cX0_settle 55 = .ok (.iinc 1 1, 3) := dk_132 1 1 (dk_at dksX0_settle_2 9 rfl rfl)
theorem dX0_settle_58 : decode cX0_settle 58 = .ok (.goto (-56), 3) := dk_167 255 200 (dk_at dksX0_settle_2 12 rfl rfl)
theorem dX0_settle_61 : decode cX0_settle 61 = .ok (.iconst 0, 1) := dk_3 (dk_at dksX0_settle_2 15 rfl rfl)
theorem dX0_settle_62 : decode cX0_settle 62 = .ok (.istore_n 1, 1) := dk_60 (dk_at dksX0_settle_2 16 rfl rfl)
theorem dX0_settle_63 : decode cX0_settle 63 = .ok (.iload_n 1, 1) := dk_27 (dk_at dksX0_settle_2 17 rfl rfl)
theorem dX0_settle_64 : decode cX0_settle 64 = .ok (.aload_n 0, 1) := dk_42 (dk_at dksX0_settle_2 18 rfl rfl)
theorem dX0_settle_65 : decode cX0_settle 65 = .ok (.getfield 379, 3) := dk_180 1 123 (dk_at dksX0_settle_2 19 rfl rfl)
theorem dX0_settle_68 : decode cX0_settle 68 = .ok (.if_icmp .ge 64, 3) := dk_162 0 64 (dk_at dksX0_settle_3 0 rfl rfl)
theorem dX0_settle_71 : decode cX0_settle 71 = .ok (.aload_n 0, 1) := dk_42 (dk_at dksX0_settle_3 3 rfl rfl)
theorem dX0_settle_72 : decode cX0_settle 72 = .ok (.getfield 382, 3) := dk_180 1 126 (dk_at dksX0_settle_3 4 rfl rfl)
theorem dX0_settle_75 : decode cX0_settle 75 = .ok (.iload_n 1, 1) := dk_27 (dk_at dksX0_settle_3 7 rfl rfl)
theorem dX0_settle_76 : decode cX0_settle 76 = .ok (.aaload, 1) := dk_50 (dk_at dksX0_settle_3 8 rfl rfl)
theorem dX0_settle_77 : decode cX0_settle 77 = .ok (.astore_n 2, 1) := dk_77 (dk_at dksX0_settle_3 9 rfl rfl)
theorem dX0_settle_78 : decode cX0_settle 78 = .ok (.iconst 0, 1) := dk_3 (dk_at dksX0_settle_3 10 rfl rfl)
theorem dX0_settle_79 : decode cX0_settle 79 = .ok (.istore_n 3, 1) := dk_62 (dk_at dksX0_settle_3 11 rfl rfl)
theorem dX0_settle_80 : decode cX0_settle 80 = .ok (.iload_n 3, 1) := dk_29 (dk_at dksX0_settle_3 12 rfl rfl)
theorem dX0_settle_81 : decode cX0_settle 81 = .ok (.aload_n 2, 1) := dk_44 (dk_at dksX0_settle_3 13 rfl rfl)
theorem dX0_settle_82 : decode cX0_settle 82 = .ok (.getfield 348, 3) := dk_180 1 92 (dk_at dksX0_settle_3 14 rfl rfl)
theorem dX0_settle_85 : decode cX0_settle 85 = .ok (.if_icmp .ge 41, 3) := dk_162 0 41 (dk_at dksX0_settle_3 17 rfl rfl)
theorem dX0_settle_88 : decode cX0_settle 88 = .ok (.aload_n 0, 1) := dk_42 (dk_at dksX0_settle_3 20 rfl rfl)
theorem dX0_settle_89 : decode cX0_settle 89 = .ok (.aload_n 2, 1) := dk_44 (dk_at dksX0_settle_3 21 rfl rfl)
theorem dX0_settle_90 : decode cX0_settle 90 = .ok (.iload_n 3, 1) := dk_29 (dk_at dksX0_settle_3 22 rfl rfl)
theorem dX0_settle_91 : decode cX0_settle 91 = .ok (.iconst 1, 1) := dk_4 (dk_at dksX0_settle_3 23 rfl rfl)
theorem dX0_settle_92 : decode cX0_settle 92 = .ok (.iadd, 1) := dk_96 (dk_at dksX0_settle_4 0 rfl rfl)
theorem dX0_settle_93 : decode cX0_settle 93 = .ok (.invokevirtual 401, 3) := dk_182 1 145 (dk_at dksX0_settle_4 1 rfl rfl)
theorem dX0_settle_96 : decode cX0_settle 96 = .ok (.bipush 40, 2) := dk_16 40 (dk_at dksX0_settle_4 4 rfl rfl)
theorem dX0_settle_98 : decode cX0_settle 98 = .ok (.if_icmp .gt 7, 3) := dk_163 0 7 (dk_at dksX0_settle_4 6 rfl rfl)
theorem dX0_settle_101 : decode cX0_settle 101 = .ok (.iconst 1, 1) := dk_4 (dk_at dksX0_settle_4 9 rfl rfl)
theorem dX0_settle_102 : decode cX0_settle 102 = .ok (.goto 4, 3) := dk_167 0 4 (dk_at dksX0_settle_4 10 rfl rfl)
theorem dX0_settle_105 : decode cX0_settle 105 = .ok (.iconst 0, 1) := dk_3 (dk_at dksX0_settle_4 13 rfl rfl)
theorem dX0_settle_106 : decode cX0_settle 106 = .ok (.bipush 9, 2) := dk_16 9 (dk_at dksX0_settle_4 14 rfl rfl)
theorem dX0_settle_108 : decode cX0_settle 108 = .ok (.aload_n 2, 1) := dk_44 (dk_at dksX0_settle_4 16 rfl rfl)
theorem dX0_settle_109 : decode cX0_settle 109 = .ok (.getfield 375, 3) := dk_180 1 119 (dk_at dksX0_settle_4 17 rfl rfl)
theorem dX0_settle_112 : decode cX0_settle 112 = .ok (.iload_n 3, 1) := dk_29 (dk_at dksX0_settle_4 20 rfl rfl)
theorem dX0_settle_113 : decode cX0_settle 113 = .ok (.aaload, 1) := dk_50 (dk_at dksX0_settle_4 21 rfl rfl)
theorem dX0_settle_114 : decode cX0_settle 114 = .ok (.getfield 404, 3) := dk_180 1 148 (dk_at dksX0_settle_5 0 rfl rfl)
theorem dX0_settle_117 : decode cX0_settle 117 = .ok (.invokevirtual 98, 3) := dk_182 0 98 (dk_at dksX0_settle_5 3 rfl rfl)
theorem dX0_settle_120 : decode cX0_settle 120 = .ok (.iinc 3 1, 3) := dk_132 3 1 (dk_at dksX0_settle_5 6 rfl rfl)
theorem dX0_settle_123 : decode cX0_settle 123 = .ok (.goto (-43), 3) := dk_167 255 213 (dk_at dksX0_settle_5 9 rfl rfl)
theorem dX0_settle_126 : decode cX0_settle 126 = .ok (.iinc 1 1, 3) := dk_132 1 1 (dk_at dksX0_settle_5 12 rfl rfl)
theorem dX0_settle_129 : decode cX0_settle 129 = .ok (.goto (-66), 3) := dk_167 255 190 (dk_at dksX0_settle_5 15 rfl rfl)
theorem dX0_settle_132 : decode cX0_settle 132 = .ok (.return_, 1) := dk_177 (dk_at dksX0_settle_5 18 rfl rfl)
abbrev cX0_settleCall : ByteArray := prog_1_method_43_code
def yX0_settleCall : MethodName := ⟨RX0, "settleCall", "(LLetterPost$Rule;)V"⟩
def dkwX0_settleCall_6 : List UInt8 := [132, 3, 1, 167, 255, 167, 43, 44, 181, 1, 149, 177]
abbrev dktX0_settleCall_6 : List UInt8 := dkwX0_settleCall_6 ++ []
def dkwX0_settleCall_5 : List UInt8 := [182, 0, 29, 182, 0, 33, 153, 0, 7, 4, 167, 0, 4, 3, 8, 43, 180, 1, 89, 29, 46, 182, 0, 98]
abbrev dktX0_settleCall_5 : List UInt8 := dkwX0_settleCall_5 ++ dktX0_settleCall_6
def dkwX0_settleCall_4 : List UInt8 := [184, 0, 252, 153, 0, 33, 21, 5, 184, 0, 252, 153, 0, 25, 42, 21, 4, 182, 0, 29, 42, 21, 5]
abbrev dktX0_settleCall_4 : List UInt8 := dkwX0_settleCall_4 ++ dktX0_settleCall_5
def dkwX0_settleCall_3 : List UInt8 := [29, 46, 46, 54, 4, 44, 180, 1, 105, 29, 46, 54, 5, 42, 21, 4, 21, 5, 159, 0, 37, 21, 4]
abbrev dktX0_settleCall_3 : List UInt8 := dkwX0_settleCall_3 ++ dktX0_settleCall_4
def dkwX0_settleCall_2 : List UInt8 := [180, 1, 83, 182, 0, 98, 3, 62, 29, 44, 180, 1, 98, 162, 0, 87, 43, 180, 1, 118, 43, 180, 1, 86]
abbrev dktX0_settleCall_2 : List UInt8 := dkwX0_settleCall_2 ++ dktX0_settleCall_3
def dkwX0_settleCall_1 : List UInt8 := [182, 0, 98, 42, 44, 180, 1, 98, 43, 180, 1, 86, 190, 160, 0, 7, 4, 167, 0, 4, 3, 16, 6, 43]
abbrev dktX0_settleCall_1 : List UInt8 := dkwX0_settleCall_1 ++ dktX0_settleCall_2
def dkwX0_settleCall_0 : List UInt8 := [42, 43, 180, 1, 80, 182, 1, 131, 77, 42, 44, 198, 0, 7, 4, 167, 0, 4, 3, 7, 43, 180, 1, 83]
abbrev dktX0_settleCall_0 : List UInt8 := dkwX0_settleCall_0 ++ dktX0_settleCall_1
theorem dksX0_settleCall_0 : cX0_settleCall.data.toList.drop 0 = dktX0_settleCall_0 := by decide +kernel
theorem dksX0_settleCall_1 : cX0_settleCall.data.toList.drop 24 = dktX0_settleCall_1 := dk_seg dksX0_settleCall_0 24 rfl rfl
theorem dksX0_settleCall_2 : cX0_settleCall.data.toList.drop 48 = dktX0_settleCall_2 := dk_seg dksX0_settleCall_1 24 rfl rfl
theorem dksX0_settleCall_3 : cX0_settleCall.data.toList.drop 72 = dktX0_settleCall_3 := dk_seg dksX0_settleCall_2 24 rfl rfl
theorem dksX0_settleCall_4 : cX0_settleCall.data.toList.drop 95 = dktX0_settleCall_4 := dk_seg dksX0_settleCall_3 23 rfl rfl
theorem dksX0_settleCall_5 : cX0_settleCall.data.toList.drop 118 = dktX0_settleCall_5 := dk_seg dksX0_settleCall_4 23 rfl rfl
theorem dksX0_settleCall_6 : cX0_settleCall.data.toList.drop 142 = dktX0_settleCall_6 := dk_seg dksX0_settleCall_5 24 rfl rfl
theorem dX0_settleCall_0 : decode cX0_settleCall 0 = .ok (.aload_n 0, 1) := dk_42 (dk_at dksX0_settleCall_0 0 rfl rfl)
theorem dX0_settleCall_1 : decode cX0_settleCall 1 = .ok (.aload_n 1, 1) := dk_43 (dk_at dksX0_settleCall_0 1 rfl rfl)
theorem dX0_settleCall_2 : decode cX0_settleCall 2 = .ok (.getfield 336, 3) := dk_180 1 80 (dk_at dksX0_settleCall_0 2 rfl rfl)
theorem dX0_settleCall_5 : decode cX0_settleCall 5 = .ok (.invokevirtual 387, 3) := dk_182 1 131 (dk_at dksX0_settleCall_0 5 rfl rfl)
theorem dX0_settleCall_8 : decode cX0_settleCall 8 = .ok (.astore_n 2, 1) := dk_77 (dk_at dksX0_settleCall_0 8 rfl rfl)
theorem dX0_settleCall_9 : decode cX0_settleCall 9 = .ok (.aload_n 0, 1) := dk_42 (dk_at dksX0_settleCall_0 9 rfl rfl)
theorem dX0_settleCall_10 : decode cX0_settleCall 10 = .ok (.aload_n 2, 1) := dk_44 (dk_at dksX0_settleCall_0 10 rfl rfl)
theorem dX0_settleCall_11 : decode cX0_settleCall 11 = .ok (.ifnull 7, 3) := dk_198 0 7 (dk_at dksX0_settleCall_0 11 rfl rfl)
theorem dX0_settleCall_14 : decode cX0_settleCall 14 = .ok (.iconst 1, 1) := dk_4 (dk_at dksX0_settleCall_0 14 rfl rfl)
theorem dX0_settleCall_15 : decode cX0_settleCall 15 = .ok (.goto 4, 3) := dk_167 0 4 (dk_at dksX0_settleCall_0 15 rfl rfl)
theorem dX0_settleCall_18 : decode cX0_settleCall 18 = .ok (.iconst 0, 1) := dk_3 (dk_at dksX0_settleCall_0 18 rfl rfl)
theorem dX0_settleCall_19 : decode cX0_settleCall 19 = .ok (.iconst 4, 1) := dk_7 (dk_at dksX0_settleCall_0 19 rfl rfl)
theorem dX0_settleCall_20 : decode cX0_settleCall 20 = .ok (.aload_n 1, 1) := dk_43 (dk_at dksX0_settleCall_0 20 rfl rfl)
theorem dX0_settleCall_21 : decode cX0_settleCall 21 = .ok (.getfield 339, 3) := dk_180 1 83 (dk_at dksX0_settleCall_0 21 rfl rfl)
theorem dX0_settleCall_24 : decode cX0_settleCall 24 = .ok (.invokevirtual 98, 3) := dk_182 0 98 (dk_at dksX0_settleCall_1 0 rfl rfl)
theorem dX0_settleCall_27 : decode cX0_settleCall 27 = .ok (.aload_n 0, 1) := dk_42 (dk_at dksX0_settleCall_1 3 rfl rfl)
theorem dX0_settleCall_28 : decode cX0_settleCall 28 = .ok (.aload_n 2, 1) := dk_44 (dk_at dksX0_settleCall_1 4 rfl rfl)
theorem dX0_settleCall_29 : decode cX0_settleCall 29 = .ok (.getfield 354, 3) := dk_180 1 98 (dk_at dksX0_settleCall_1 5 rfl rfl)
theorem dX0_settleCall_32 : decode cX0_settleCall 32 = .ok (.aload_n 1, 1) := dk_43 (dk_at dksX0_settleCall_1 8 rfl rfl)
theorem dX0_settleCall_33 : decode cX0_settleCall 33 = .ok (.getfield 342, 3) := dk_180 1 86 (dk_at dksX0_settleCall_1 9 rfl rfl)
theorem dX0_settleCall_36 : decode cX0_settleCall 36 = .ok (.arraylength, 1) := dk_190 (dk_at dksX0_settleCall_1 12 rfl rfl)
theorem dX0_settleCall_37 : decode cX0_settleCall 37 = .ok (.if_icmp .ne 7, 3) := dk_160 0 7 (dk_at dksX0_settleCall_1 13 rfl rfl)
theorem dX0_settleCall_40 : decode cX0_settleCall 40 = .ok (.iconst 1, 1) := dk_4 (dk_at dksX0_settleCall_1 16 rfl rfl)
theorem dX0_settleCall_41 : decode cX0_settleCall 41 = .ok (.goto 4, 3) := dk_167 0 4 (dk_at dksX0_settleCall_1 17 rfl rfl)
theorem dX0_settleCall_44 : decode cX0_settleCall 44 = .ok (.iconst 0, 1) := dk_3 (dk_at dksX0_settleCall_1 20 rfl rfl)
theorem dX0_settleCall_45 : decode cX0_settleCall 45 = .ok (.bipush 6, 2) := dk_16 6 (dk_at dksX0_settleCall_1 21 rfl rfl)
theorem dX0_settleCall_47 : decode cX0_settleCall 47 = .ok (.aload_n 1, 1) := dk_43 (dk_at dksX0_settleCall_1 23 rfl rfl)
theorem dX0_settleCall_48 : decode cX0_settleCall 48 = .ok (.getfield 339, 3) := dk_180 1 83 (dk_at dksX0_settleCall_2 0 rfl rfl)
theorem dX0_settleCall_51 : decode cX0_settleCall 51 = .ok (.invokevirtual 98, 3) := dk_182 0 98 (dk_at dksX0_settleCall_2 3 rfl rfl)
theorem dX0_settleCall_54 : decode cX0_settleCall 54 = .ok (.iconst 0, 1) := dk_3 (dk_at dksX0_settleCall_2 6 rfl rfl)
theorem dX0_settleCall_55 : decode cX0_settleCall 55 = .ok (.istore_n 3, 1) := dk_62 (dk_at dksX0_settleCall_2 7 rfl rfl)
theorem dX0_settleCall_56 : decode cX0_settleCall 56 = .ok (.iload_n 3, 1) := dk_29 (dk_at dksX0_settleCall_2 8 rfl rfl)
theorem dX0_settleCall_57 : decode cX0_settleCall 57 = .ok (.aload_n 2, 1) := dk_44 (dk_at dksX0_settleCall_2 9 rfl rfl)
theorem dX0_settleCall_58 : decode cX0_settleCall 58 = .ok (.getfield 354, 3) := dk_180 1 98 (dk_at dksX0_settleCall_2 10 rfl rfl)
theorem dX0_settleCall_61 : decode cX0_settleCall 61 = .ok (.if_icmp .ge 87, 3) := dk_162 0 87 (dk_at dksX0_settleCall_2 13 rfl rfl)
theorem dX0_settleCall_64 : decode cX0_settleCall 64 = .ok (.aload_n 1, 1) := dk_43 (dk_at dksX0_settleCall_2 16 rfl rfl)
theorem dX0_settleCall_65 : decode cX0_settleCall 65 = .ok (.getfield 374, 3) := dk_180 1 118 (dk_at dksX0_settleCall_2 17 rfl rfl)
theorem dX0_settleCall_68 : decode cX0_settleCall 68 = .ok (.aload_n 1, 1) := dk_43 (dk_at dksX0_settleCall_2 20 rfl rfl)
theorem dX0_settleCall_69 : decode cX0_settleCall 69 = .ok (.getfield 342, 3) := dk_180 1 86 (dk_at dksX0_settleCall_2 21 rfl rfl)
theorem dX0_settleCall_72 : decode cX0_settleCall 72 = .ok (.iload_n 3, 1) := dk_29 (dk_at dksX0_settleCall_3 0 rfl rfl)
theorem dX0_settleCall_73 : decode cX0_settleCall 73 = .ok (.iaload, 1) := dk_46 (dk_at dksX0_settleCall_3 1 rfl rfl)
theorem dX0_settleCall_74 : decode cX0_settleCall 74 = .ok (.iaload, 1) := dk_46 (dk_at dksX0_settleCall_3 2 rfl rfl)
theorem dX0_settleCall_75 : decode cX0_settleCall 75 = .ok (.istore 4, 2) := dk_54 4 (dk_at dksX0_settleCall_3 3 rfl rfl)
theorem dX0_settleCall_77 : decode cX0_settleCall 77 = .ok (.aload_n 2, 1) := dk_44 (dk_at dksX0_settleCall_3 5 rfl rfl)
theorem dX0_settleCall_78 : decode cX0_settleCall 78 = .ok (.getfield 361, 3) := dk_180 1 105 (dk_at dksX0_settleCall_3 6 rfl rfl)
theorem dX0_settleCall_81 : decode cX0_settleCall 81 = .ok (.iload_n 3, 1) := dk_29 (dk_at dksX0_settleCall_3 9 rfl rfl)
theorem dX0_settleCall_82 : decode cX0_settleCall 82 = .ok (.iaload, 1) := dk_46 (dk_at dksX0_settleCall_3 10 rfl rfl)
theorem dX0_settleCall_83 : decode cX0_settleCall 83 = .ok (.istore 5, 2) := dk_54 5 (dk_at dksX0_settleCall_3 11 rfl rfl)
theorem dX0_settleCall_85 : decode cX0_settleCall 85 = .ok (.aload_n 0, 1) := dk_42 (dk_at dksX0_settleCall_3 13 rfl rfl)
theorem dX0_settleCall_86 : decode cX0_settleCall 86 = .ok (.iload 4, 2) := dk_21 4 (dk_at dksX0_settleCall_3 14 rfl rfl)
theorem dX0_settleCall_88 : decode cX0_settleCall 88 = .ok (.iload 5, 2) := dk_21 5 (dk_at dksX0_settleCall_3 16 rfl rfl)
theorem dX0_settleCall_90 : decode cX0_settleCall 90 = .ok (.if_icmp .eq 37, 3) := dk_159 0 37 (dk_at dksX0_settleCall_3 18 rfl rfl)
theorem dX0_settleCall_93 : decode cX0_settleCall 93 = .ok (.iload 4, 2) := dk_21 4 (dk_at dksX0_settleCall_3 21 rfl rfl)
theorem dX0_settleCall_95 : decode cX0_settleCall 95 = .ok (.invokestatic 252, 3) := dk_184 0 252 (dk_at dksX0_settleCall_4 0 rfl rfl)
theorem dX0_settleCall_98 : decode cX0_settleCall 98 = .ok (.ifCond .eq 33, 3) := dk_153 0 33 (dk_at dksX0_settleCall_4 3 rfl rfl)
theorem dX0_settleCall_101 : decode cX0_settleCall 101 = .ok (.iload 5, 2) := dk_21 5 (dk_at dksX0_settleCall_4 6 rfl rfl)
theorem dX0_settleCall_103 : decode cX0_settleCall 103 = .ok (.invokestatic 252, 3) := dk_184 0 252 (dk_at dksX0_settleCall_4 8 rfl rfl)
theorem dX0_settleCall_106 : decode cX0_settleCall 106 = .ok (.ifCond .eq 25, 3) := dk_153 0 25 (dk_at dksX0_settleCall_4 11 rfl rfl)
theorem dX0_settleCall_109 : decode cX0_settleCall 109 = .ok (.aload_n 0, 1) := dk_42 (dk_at dksX0_settleCall_4 14 rfl rfl)
theorem dX0_settleCall_110 : decode cX0_settleCall 110 = .ok (.iload 4, 2) := dk_21 4 (dk_at dksX0_settleCall_4 15 rfl rfl)
theorem dX0_settleCall_112 : decode cX0_settleCall 112 = .ok (.invokevirtual 29, 3) := dk_182 0 29 (dk_at dksX0_settleCall_4 17 rfl rfl)
theorem dX0_settleCall_115 : decode cX0_settleCall 115 = .ok (.aload_n 0, 1) := dk_42 (dk_at dksX0_settleCall_4 20 rfl rfl)
theorem dX0_settleCall_116 : decode cX0_settleCall 116 = .ok (.iload 5, 2) := dk_21 5 (dk_at dksX0_settleCall_4 21 rfl rfl)
theorem dX0_settleCall_118 : decode cX0_settleCall 118 = .ok (.invokevirtual 29, 3) := dk_182 0 29 (dk_at dksX0_settleCall_5 0 rfl rfl)
theorem dX0_settleCall_121 : decode cX0_settleCall 121 = .ok (.invokevirtual 33, 3) := dk_182 0 33 (dk_at dksX0_settleCall_5 3 rfl rfl)
theorem dX0_settleCall_124 : decode cX0_settleCall 124 = .ok (.ifCond .eq 7, 3) := dk_153 0 7 (dk_at dksX0_settleCall_5 6 rfl rfl)
theorem dX0_settleCall_127 : decode cX0_settleCall 127 = .ok (.iconst 1, 1) := dk_4 (dk_at dksX0_settleCall_5 9 rfl rfl)
theorem dX0_settleCall_128 : decode cX0_settleCall 128 = .ok (.goto 4, 3) := dk_167 0 4 (dk_at dksX0_settleCall_5 10 rfl rfl)
theorem dX0_settleCall_131 : decode cX0_settleCall 131 = .ok (.iconst 0, 1) := dk_3 (dk_at dksX0_settleCall_5 13 rfl rfl)
theorem dX0_settleCall_132 : decode cX0_settleCall 132 = .ok (.iconst 5, 1) := dk_8 (dk_at dksX0_settleCall_5 14 rfl rfl)
theorem dX0_settleCall_133 : decode cX0_settleCall 133 = .ok (.aload_n 1, 1) := dk_43 (dk_at dksX0_settleCall_5 15 rfl rfl)
theorem dX0_settleCall_134 : decode cX0_settleCall 134 = .ok (.getfield 345, 3) := dk_180 1 89 (dk_at dksX0_settleCall_5 16 rfl rfl)
theorem dX0_settleCall_137 : decode cX0_settleCall 137 = .ok (.iload_n 3, 1) := dk_29 (dk_at dksX0_settleCall_5 19 rfl rfl)
theorem dX0_settleCall_138 : decode cX0_settleCall 138 = .ok (.iaload, 1) := dk_46 (dk_at dksX0_settleCall_5 20 rfl rfl)
theorem dX0_settleCall_139 : decode cX0_settleCall 139 = .ok (.invokevirtual 98, 3) := dk_182 0 98 (dk_at dksX0_settleCall_5 21 rfl rfl)
theorem dX0_settleCall_142 : decode cX0_settleCall 142 = .ok (.iinc 3 1, 3) := dk_132 3 1 (dk_at dksX0_settleCall_6 0 rfl rfl)
theorem dX0_settleCall_145 : decode cX0_settleCall 145 = .ok (.goto (-89), 3) := dk_167 255 167 (dk_at dksX0_settleCall_6 3 rfl rfl)
theorem dX0_settleCall_148 : decode cX0_settleCall 148 = .ok (.aload_n 1, 1) := dk_43 (dk_at dksX0_settleCall_6 6 rfl rfl)
theorem dX0_settleCall_149 : decode cX0_settleCall 149 = .ok (.aload_n 2, 1) := dk_44 (dk_at dksX0_settleCall_6 7 rfl rfl)
theorem dX0_settleCall_150 : decode cX0_settleCall 150 = .ok (.putfield 405, 3) := dk_181 1 149 (dk_at dksX0_settleCall_6 8 rfl rfl)
theorem dX0_settleCall_153 : decode cX0_settleCall 153 = .ok (.return_, 1) := dk_177 (dk_at dksX0_settleCall_6 11 rfl rfl)
abbrev cX0_product : ByteArray := prog_1_method_5_code
def yX0_product : MethodName := ⟨RX0, "product", "([LLetterPost$Pattern;)I"⟩
def dkwX0_product_1 : List UInt8 := [27, 25, 5, 182, 0, 37, 104, 184, 0, 42, 60, 132, 4, 1, 167, 255, 228, 27, 172]
abbrev dktX0_product_1 : List UInt8 := dkwX0_product_1 ++ []
def dkwX0_product_0 : List UInt8 := [4, 60, 42, 77, 44, 190, 62, 3, 54, 4, 21, 4, 29, 162, 0, 28, 44, 21, 4, 50, 58, 5, 16, 41]
abbrev dktX0_product_0 : List UInt8 := dkwX0_product_0 ++ dktX0_product_1
theorem dksX0_product_0 : cX0_product.data.toList.drop 0 = dktX0_product_0 := by decide +kernel
theorem dksX0_product_1 : cX0_product.data.toList.drop 24 = dktX0_product_1 := dk_seg dksX0_product_0 24 rfl rfl
theorem dX0_product_0 : decode cX0_product 0 = .ok (.iconst 1, 1) := dk_4 (dk_at dksX0_product_0 0 rfl rfl)
theorem dX0_product_1 : decode cX0_product 1 = .ok (.istore_n 1, 1) := dk_60 (dk_at dksX0_product_0 1 rfl rfl)
theorem dX0_product_2 : decode cX0_product 2 = .ok (.aload_n 0, 1) := dk_42 (dk_at dksX0_product_0 2 rfl rfl)
theorem dX0_product_3 : decode cX0_product 3 = .ok (.astore_n 2, 1) := dk_77 (dk_at dksX0_product_0 3 rfl rfl)
theorem dX0_product_4 : decode cX0_product 4 = .ok (.aload_n 2, 1) := dk_44 (dk_at dksX0_product_0 4 rfl rfl)
theorem dX0_product_5 : decode cX0_product 5 = .ok (.arraylength, 1) := dk_190 (dk_at dksX0_product_0 5 rfl rfl)
theorem dX0_product_6 : decode cX0_product 6 = .ok (.istore_n 3, 1) := dk_62 (dk_at dksX0_product_0 6 rfl rfl)
theorem dX0_product_7 : decode cX0_product 7 = .ok (.iconst 0, 1) := dk_3 (dk_at dksX0_product_0 7 rfl rfl)
theorem dX0_product_8 : decode cX0_product 8 = .ok (.istore 4, 2) := dk_54 4 (dk_at dksX0_product_0 8 rfl rfl)
theorem dX0_product_10 : decode cX0_product 10 = .ok (.iload 4, 2) := dk_21 4 (dk_at dksX0_product_0 10 rfl rfl)
theorem dX0_product_12 : decode cX0_product 12 = .ok (.iload_n 3, 1) := dk_29 (dk_at dksX0_product_0 12 rfl rfl)
theorem dX0_product_13 : decode cX0_product 13 = .ok (.if_icmp .ge 28, 3) := dk_162 0 28 (dk_at dksX0_product_0 13 rfl rfl)
theorem dX0_product_16 : decode cX0_product 16 = .ok (.aload_n 2, 1) := dk_44 (dk_at dksX0_product_0 16 rfl rfl)
theorem dX0_product_17 : decode cX0_product 17 = .ok (.iload 4, 2) := dk_21 4 (dk_at dksX0_product_0 17 rfl rfl)
theorem dX0_product_19 : decode cX0_product 19 = .ok (.aaload, 1) := dk_50 (dk_at dksX0_product_0 19 rfl rfl)
theorem dX0_product_20 : decode cX0_product 20 = .ok (.astore 5, 2) := dk_58 5 (dk_at dksX0_product_0 20 rfl rfl)
theorem dX0_product_22 : decode cX0_product 22 = .ok (.bipush 41, 2) := dk_16 41 (dk_at dksX0_product_0 22 rfl rfl)
theorem dX0_product_24 : decode cX0_product 24 = .ok (.iload_n 1, 1) := dk_27 (dk_at dksX0_product_1 0 rfl rfl)
theorem dX0_product_25 : decode cX0_product 25 = .ok (.aload 5, 2) := dk_25 5 (dk_at dksX0_product_1 1 rfl rfl)
theorem dX0_product_27 : decode cX0_product 27 = .ok (.invokevirtual 37, 3) := dk_182 0 37 (dk_at dksX0_product_1 3 rfl rfl)
theorem dX0_product_30 : decode cX0_product 30 = .ok (.imul, 1) := dk_104 (dk_at dksX0_product_1 6 rfl rfl)
theorem dX0_product_31 : decode cX0_product 31 = .ok (.invokestatic 42, 3) := dk_184 0 42 (dk_at dksX0_product_1 7 rfl rfl)
theorem dX0_product_34 : decode cX0_product 34 = .ok (.istore_n 1, 1) := dk_60 (dk_at dksX0_product_1 10 rfl rfl)
theorem dX0_product_35 : decode cX0_product 35 = .ok (.iinc 4 1, 3) := dk_132 4 1 (dk_at dksX0_product_1 11 rfl rfl)
theorem dX0_product_38 : decode cX0_product 38 = .ok (.goto (-28), 3) := dk_167 255 228 (dk_at dksX0_product_1 14 rfl rfl)
theorem dX0_product_41 : decode cX0_product 41 = .ok (.iload_n 1, 1) := dk_27 (dk_at dksX0_product_1 17 rfl rfl)
theorem dX0_product_42 : decode cX0_product 42 = .ok (.ireturn, 1) := dk_172 (dk_at dksX0_product_1 18 rfl rfl)
abbrev cX0_clear : ByteArray := prog_1_method_45_code
def yX0_clear : MethodName := ⟨RX0, "clear", "()V"⟩
def dkwX0_clear_2 : List UInt8 := [181, 0, 7, 42, 3, 181, 1, 123, 177]
abbrev dktX0_clear_2 : List UInt8 := dkwX0_clear_2 ++ []
def dkwX0_clear_1 : List UInt8 := [60, 27, 42, 180, 1, 123, 162, 0, 16, 42, 180, 1, 126, 27, 1, 83, 132, 1, 1, 167, 255, 238, 42, 3]
abbrev dktX0_clear_1 : List UInt8 := dkwX0_clear_1 ++ dktX0_clear_2
def dkwX0_clear_0 : List UInt8 := [3, 60, 27, 42, 180, 0, 7, 162, 0, 16, 42, 180, 0, 1, 27, 1, 83, 132, 1, 1, 167, 255, 238, 3]
abbrev dktX0_clear_0 : List UInt8 := dkwX0_clear_0 ++ dktX0_clear_1
theorem dksX0_clear_0 : cX0_clear.data.toList.drop 0 = dktX0_clear_0 := by decide +kernel
theorem dksX0_clear_1 : cX0_clear.data.toList.drop 24 = dktX0_clear_1 := dk_seg dksX0_clear_0 24 rfl rfl
theorem dksX0_clear_2 : cX0_clear.data.toList.drop 48 = dktX0_clear_2 := dk_seg dksX0_clear_1 24 rfl rfl
theorem dX0_clear_0 : decode cX0_clear 0 = .ok (.iconst 0, 1) := dk_3 (dk_at dksX0_clear_0 0 rfl rfl)
theorem dX0_clear_1 : decode cX0_clear 1 = .ok (.istore_n 1, 1) := dk_60 (dk_at dksX0_clear_0 1 rfl rfl)
theorem dX0_clear_2 : decode cX0_clear 2 = .ok (.iload_n 1, 1) := dk_27 (dk_at dksX0_clear_0 2 rfl rfl)
theorem dX0_clear_3 : decode cX0_clear 3 = .ok (.aload_n 0, 1) := dk_42 (dk_at dksX0_clear_0 3 rfl rfl)
theorem dX0_clear_4 : decode cX0_clear 4 = .ok (.getfield 7, 3) := dk_180 0 7 (dk_at dksX0_clear_0 4 rfl rfl)
theorem dX0_clear_7 : decode cX0_clear 7 = .ok (.if_icmp .ge 16, 3) := dk_162 0 16 (dk_at dksX0_clear_0 7 rfl rfl)
theorem dX0_clear_10 : decode cX0_clear 10 = .ok (.aload_n 0, 1) := dk_42 (dk_at dksX0_clear_0 10 rfl rfl)
theorem dX0_clear_11 : decode cX0_clear 11 = .ok (.getfield 1, 3) := dk_180 0 1 (dk_at dksX0_clear_0 11 rfl rfl)
theorem dX0_clear_14 : decode cX0_clear 14 = .ok (.iload_n 1, 1) := dk_27 (dk_at dksX0_clear_0 14 rfl rfl)
theorem dX0_clear_15 : decode cX0_clear 15 = .ok (.aconst_null, 1) := dk_1 (dk_at dksX0_clear_0 15 rfl rfl)
theorem dX0_clear_16 : decode cX0_clear 16 = .ok (.aastore, 1) := dk_83 (dk_at dksX0_clear_0 16 rfl rfl)
theorem dX0_clear_17 : decode cX0_clear 17 = .ok (.iinc 1 1, 3) := dk_132 1 1 (dk_at dksX0_clear_0 17 rfl rfl)
theorem dX0_clear_20 : decode cX0_clear 20 = .ok (.goto (-18), 3) := dk_167 255 238 (dk_at dksX0_clear_0 20 rfl rfl)
theorem dX0_clear_23 : decode cX0_clear 23 = .ok (.iconst 0, 1) := dk_3 (dk_at dksX0_clear_0 23 rfl rfl)
theorem dX0_clear_24 : decode cX0_clear 24 = .ok (.istore_n 1, 1) := dk_60 (dk_at dksX0_clear_1 0 rfl rfl)
theorem dX0_clear_25 : decode cX0_clear 25 = .ok (.iload_n 1, 1) := dk_27 (dk_at dksX0_clear_1 1 rfl rfl)
theorem dX0_clear_26 : decode cX0_clear 26 = .ok (.aload_n 0, 1) := dk_42 (dk_at dksX0_clear_1 2 rfl rfl)
theorem dX0_clear_27 : decode cX0_clear 27 = .ok (.getfield 379, 3) := dk_180 1 123 (dk_at dksX0_clear_1 3 rfl rfl)
theorem dX0_clear_30 : decode cX0_clear 30 = .ok (.if_icmp .ge 16, 3) := dk_162 0 16 (dk_at dksX0_clear_1 6 rfl rfl)
theorem dX0_clear_33 : decode cX0_clear 33 = .ok (.aload_n 0, 1) := dk_42 (dk_at dksX0_clear_1 9 rfl rfl)
theorem dX0_clear_34 : decode cX0_clear 34 = .ok (.getfield 382, 3) := dk_180 1 126 (dk_at dksX0_clear_1 10 rfl rfl)
theorem dX0_clear_37 : decode cX0_clear 37 = .ok (.iload_n 1, 1) := dk_27 (dk_at dksX0_clear_1 13 rfl rfl)
theorem dX0_clear_38 : decode cX0_clear 38 = .ok (.aconst_null, 1) := dk_1 (dk_at dksX0_clear_1 14 rfl rfl)
theorem dX0_clear_39 : decode cX0_clear 39 = .ok (.aastore, 1) := dk_83 (dk_at dksX0_clear_1 15 rfl rfl)
theorem dX0_clear_40 : decode cX0_clear 40 = .ok (.iinc 1 1, 3) := dk_132 1 1 (dk_at dksX0_clear_1 16 rfl rfl)
theorem dX0_clear_43 : decode cX0_clear 43 = .ok (.goto (-18), 3) := dk_167 255 238 (dk_at dksX0_clear_1 19 rfl rfl)
theorem dX0_clear_46 : decode cX0_clear 46 = .ok (.aload_n 0, 1) := dk_42 (dk_at dksX0_clear_1 22 rfl rfl)
theorem dX0_clear_47 : decode cX0_clear 47 = .ok (.iconst 0, 1) := dk_3 (dk_at dksX0_clear_1 23 rfl rfl)
theorem dX0_clear_48 : decode cX0_clear 48 = .ok (.putfield 7, 3) := dk_181 0 7 (dk_at dksX0_clear_2 0 rfl rfl)
theorem dX0_clear_51 : decode cX0_clear 51 = .ok (.aload_n 0, 1) := dk_42 (dk_at dksX0_clear_2 3 rfl rfl)
theorem dX0_clear_52 : decode cX0_clear 52 = .ok (.iconst 0, 1) := dk_3 (dk_at dksX0_clear_2 4 rfl rfl)
theorem dX0_clear_53 : decode cX0_clear 53 = .ok (.putfield 379, 3) := dk_181 1 123 (dk_at dksX0_clear_2 5 rfl rfl)
theorem dX0_clear_56 : decode cX0_clear 56 = .ok (.return_, 1) := dk_177 (dk_at dksX0_clear_2 8 rfl rfl)
abbrev cX0_fault : ByteArray := prog_1_method_47_code
def yX0_fault : MethodName := ⟨RX0, "fault", "()I"⟩
theorem dX0_fault_0 : decode cX0_fault 0 = .ok (.aload_n 0, 1) := by decide +kernel
theorem dX0_fault_1 : decode cX0_fault 1 = .ok (.getfield 412, 3) := by decide +kernel
theorem dX0_fault_4 : decode cX0_fault 4 = .ok (.ireturn, 1) := by decide +kernel
abbrev cX0_add : ByteArray := prog_1_method_48_code
def yX0_add : MethodName := ⟨RX0, "add", "()I"⟩
def dkwX0_add_4 : List UInt8 := [45, 180, 1, 186, 100, 61, 42, 3, 181, 0, 54, 28, 172]
abbrev dktX0_add_4 : List UInt8 := dkwX0_add_4 ++ []
def dkwX0_add_3 : List UInt8 := [181, 1, 189, 27, 61, 167, 0, 25, 78, 42, 45, 180, 1, 180, 181, 1, 156, 42, 27, 181, 0, 7, 16, 246]
abbrev dktX0_add_3 : List UInt8 := dkwX0_add_3 ++ dktX0_add_4
def dkwX0_add_2 : List UInt8 := [42, 42, 180, 0, 81, 154, 0, 7, 4, 167, 0, 4, 3, 182, 0, 149, 42, 89, 180, 1, 189, 4, 96]
abbrev dktX0_add_2 : List UInt8 := dkwX0_add_2 ++ dktX0_add_3
def dkwX0_add_1 : List UInt8 := [42, 42, 19, 1, 162, 182, 0, 162, 182, 0, 149, 42, 182, 0, 152, 42, 4, 182, 1, 163, 42, 182, 0, 152]
abbrev dktX0_add_1 : List UInt8 := dkwX0_add_1 ++ dktX0_add_2
def dkwX0_add_0 : List UInt8 := [42, 180, 1, 153, 154, 0, 6, 16, 254, 172, 42, 3, 181, 1, 156, 42, 180, 0, 7, 60, 42, 182, 1, 159]
abbrev dktX0_add_0 : List UInt8 := dkwX0_add_0 ++ dktX0_add_1
theorem dksX0_add_0 : cX0_add.data.toList.drop 0 = dktX0_add_0 := by decide +kernel
theorem dksX0_add_1 : cX0_add.data.toList.drop 24 = dktX0_add_1 := dk_seg dksX0_add_0 24 rfl rfl
theorem dksX0_add_2 : cX0_add.data.toList.drop 48 = dktX0_add_2 := dk_seg dksX0_add_1 24 rfl rfl
theorem dksX0_add_3 : cX0_add.data.toList.drop 71 = dktX0_add_3 := dk_seg dksX0_add_2 23 rfl rfl
theorem dksX0_add_4 : cX0_add.data.toList.drop 95 = dktX0_add_4 := dk_seg dksX0_add_3 24 rfl rfl
theorem dX0_add_0 : decode cX0_add 0 = .ok (.aload_n 0, 1) := dk_42 (dk_at dksX0_add_0 0 rfl rfl)
theorem dX0_add_1 : decode cX0_add 1 = .ok (.getfield 409, 3) := dk_180 1 153 (dk_at dksX0_add_0 1 rfl rfl)
theorem dX0_add_4 : decode cX0_add 4 = .ok (.ifCond .ne 6, 3) := dk_154 0 6 (dk_at dksX0_add_0 4 rfl rfl)
theorem dX0_add_7 : decode cX0_add 7 = .ok (.bipush (-2), 2) := dk_16 254 (dk_at dksX0_add_0 7 rfl rfl)
theorem dX0_add_9 : decode cX0_add 9 = .ok (.ireturn, 1) := dk_172 (dk_at dksX0_add_0 9 rfl rfl)
theorem dX0_add_10 : decode cX0_add 10 = .ok (.aload_n 0, 1) := dk_42 (dk_at dksX0_add_0 10 rfl rfl)
theorem dX0_add_11 : decode cX0_add 11 = .ok (.iconst 0, 1) := dk_3 (dk_at dksX0_add_0 11 rfl rfl)
theorem dX0_add_12 : decode cX0_add 12 = .ok (.putfield 412, 3) := dk_181 1 156 (dk_at dksX0_add_0 12 rfl rfl)
theorem dX0_add_15 : decode cX0_add 15 = .ok (.aload_n 0, 1) := dk_42 (dk_at dksX0_add_0 15 rfl rfl)
theorem dX0_add_16 : decode cX0_add 16 = .ok (.getfield 7, 3) := dk_180 0 7 (dk_at dksX0_add_0 16 rfl rfl)
theorem dX0_add_19 : decode cX0_add 19 = .ok (.istore_n 1, 1) := dk_60 (dk_at dksX0_add_0 19 rfl rfl)
theorem dX0_add_20 : decode cX0_add 20 = .ok (.aload_n 0, 1) := dk_42 (dk_at dksX0_add_0 20 rfl rfl)
theorem dX0_add_21 : decode cX0_add 21 = .ok (.invokevirtual 415, 3) := dk_182 1 159 (dk_at dksX0_add_0 21 rfl rfl)
theorem dX0_add_24 : decode cX0_add 24 = .ok (.aload_n 0, 1) := dk_42 (dk_at dksX0_add_1 0 rfl rfl)
theorem dX0_add_25 : decode cX0_add 25 = .ok (.aload_n 0, 1) := dk_42 (dk_at dksX0_add_1 1 rfl rfl)
theorem dX0_add_26 : decode cX0_add 26 = .ok (.ldc_w 418, 3) := dk_19 1 162 (dk_at dksX0_add_1 2 rfl rfl)
theorem dX0_add_29 : decode cX0_add 29 = .ok (.invokevirtual 162, 3) := dk_182 0 162 (dk_at dksX0_add_1 5 rfl rfl)
theorem dX0_add_32 : decode cX0_add 32 = .ok (.invokevirtual 149, 3) := dk_182 0 149 (dk_at dksX0_add_1 8 rfl rfl)
theorem dX0_add_35 : decode cX0_add 35 = .ok (.aload_n 0, 1) := dk_42 (dk_at dksX0_add_1 11 rfl rfl)
theorem dX0_add_36 : decode cX0_add 36 = .ok (.invokevirtual 152, 3) := dk_182 0 152 (dk_at dksX0_add_1 12 rfl rfl)
theorem dX0_add_39 : decode cX0_add 39 = .ok (.aload_n 0, 1) := dk_42 (dk_at dksX0_add_1 15 rfl rfl)
theorem dX0_add_40 : decode cX0_add 40 = .ok (.iconst 1, 1) := dk_4 (dk_at dksX0_add_1 16 rfl rfl)
theorem dX0_add_41 : decode cX0_add 41 = .ok (.invokevirtual 419, 3) := dk_182 1 163 (dk_at dksX0_add_1 17 rfl rfl)
theorem dX0_add_44 : decode cX0_add 44 = .ok (.aload_n 0, 1) := dk_42 (dk_at dksX0_add_1 20 rfl rfl)
theorem dX0_add_45 : decode cX0_add 45 = .ok (.invokevirtual 152, 3) := dk_182 0 152 (dk_at dksX0_add_1 21 rfl rfl)
theorem dX0_add_48 : decode cX0_add 48 = .ok (.aload_n 0, 1) := dk_42 (dk_at dksX0_add_2 0 rfl rfl)
theorem dX0_add_49 : decode cX0_add 49 = .ok (.aload_n 0, 1) := dk_42 (dk_at dksX0_add_2 1 rfl rfl)
theorem dX0_add_50 : decode cX0_add 50 = .ok (.getfield 81, 3) := dk_180 0 81 (dk_at dksX0_add_2 2 rfl rfl)
theorem dX0_add_53 : decode cX0_add 53 = .ok (.ifCond .ne 7, 3) := dk_154 0 7 (dk_at dksX0_add_2 5 rfl rfl)
theorem dX0_add_56 : decode cX0_add 56 = .ok (.iconst 1, 1) := dk_4 (dk_at dksX0_add_2 8 rfl rfl)
theorem dX0_add_57 : decode cX0_add 57 = .ok (.goto 4, 3) := dk_167 0 4 (dk_at dksX0_add_2 9 rfl rfl)
theorem dX0_add_60 : decode cX0_add 60 = .ok (.iconst 0, 1) := dk_3 (dk_at dksX0_add_2 12 rfl rfl)
theorem dX0_add_61 : decode cX0_add 61 = .ok (.invokevirtual 149, 3) := dk_182 0 149 (dk_at dksX0_add_2 13 rfl rfl)
theorem dX0_add_64 : decode cX0_add 64 = .ok (.aload_n 0, 1) := dk_42 (dk_at dksX0_add_2 16 rfl rfl)
theorem dX0_add_65 : decode cX0_add 65 = .ok (.dup, 1) := dk_89 (dk_at dksX0_add_2 17 rfl rfl)
theorem dX0_add_66 : decode cX0_add 66 = .ok (.getfield 445, 3) := dk_180 1 189 (dk_at dksX0_add_2 18 rfl rfl)
theorem dX0_add_69 : decode cX0_add 69 = .ok (.iconst 1, 1) := dk_4 (dk_at dksX0_add_2 21 rfl rfl)
theorem dX0_add_70 : decode cX0_add 70 = .ok (.iadd, 1) := dk_96 (dk_at dksX0_add_2 22 rfl rfl)
theorem dX0_add_71 : decode cX0_add 71 = .ok (.putfield 445, 3) := dk_181 1 189 (dk_at dksX0_add_3 0 rfl rfl)
theorem dX0_add_74 : decode cX0_add 74 = .ok (.iload_n 1, 1) := dk_27 (dk_at dksX0_add_3 3 rfl rfl)
theorem dX0_add_75 : decode cX0_add 75 = .ok (.istore_n 2, 1) := dk_61 (dk_at dksX0_add_3 4 rfl rfl)
theorem dX0_add_76 : decode cX0_add 76 = .ok (.goto 25, 3) := dk_167 0 25 (dk_at dksX0_add_3 5 rfl rfl)
theorem dX0_add_79 : decode cX0_add 79 = .ok (.astore_n 3, 1) := dk_78 (dk_at dksX0_add_3 8 rfl rfl)
theorem dX0_add_80 : decode cX0_add 80 = .ok (.aload_n 0, 1) := dk_42 (dk_at dksX0_add_3 9 rfl rfl)
theorem dX0_add_81 : decode cX0_add 81 = .ok (.aload_n 3, 1) := dk_45 (dk_at dksX0_add_3 10 rfl rfl)
theorem dX0_add_82 : decode cX0_add 82 = .ok (.getfield 436, 3) := dk_180 1 180 (dk_at dksX0_add_3 11 rfl rfl)
theorem dX0_add_85 : decode cX0_add 85 = .ok (.putfield 412, 3) := dk_181 1 156 (dk_at dksX0_add_3 14 rfl rfl)
theorem dX0_add_88 : decode cX0_add 88 = .ok (.aload_n 0, 1) := dk_42 (dk_at dksX0_add_3 17 rfl rfl)
theorem dX0_add_89 : decode cX0_add 89 = .ok (.iload_n 1, 1) := dk_27 (dk_at dksX0_add_3 18 rfl rfl)
theorem dX0_add_90 : decode cX0_add 90 = .ok (.putfield 7, 3) := dk_181 0 7 (dk_at dksX0_add_3 19 rfl rfl)
theorem dX0_add_93 : decode cX0_add 93 = .ok (.bipush (-10), 2) := dk_16 246 (dk_at dksX0_add_3 22 rfl rfl)
theorem dX0_add_95 : decode cX0_add 95 = .ok (.aload_n 3, 1) := dk_45 (dk_at dksX0_add_4 0 rfl rfl)
theorem dX0_add_96 : decode cX0_add 96 = .ok (.getfield 442, 3) := dk_180 1 186 (dk_at dksX0_add_4 1 rfl rfl)
theorem dX0_add_99 : decode cX0_add 99 = .ok (.isub, 1) := dk_100 (dk_at dksX0_add_4 4 rfl rfl)
theorem dX0_add_100 : decode cX0_add 100 = .ok (.istore_n 2, 1) := dk_61 (dk_at dksX0_add_4 5 rfl rfl)
theorem dX0_add_101 : decode cX0_add 101 = .ok (.aload_n 0, 1) := dk_42 (dk_at dksX0_add_4 6 rfl rfl)
theorem dX0_add_102 : decode cX0_add 102 = .ok (.iconst 0, 1) := dk_3 (dk_at dksX0_add_4 7 rfl rfl)
theorem dX0_add_103 : decode cX0_add 103 = .ok (.putfield 54, 3) := dk_181 0 54 (dk_at dksX0_add_4 8 rfl rfl)
theorem dX0_add_106 : decode cX0_add 106 = .ok (.iload_n 2, 1) := dk_28 (dk_at dksX0_add_4 11 rfl rfl)
theorem dX0_add_107 : decode cX0_add 107 = .ok (.ireturn, 1) := dk_172 (dk_at dksX0_add_4 12 rfl rfl)
abbrev cX0_remake : ByteArray := prog_1_method_49_code
def yX0_remake : MethodName := ⟨RX0, "remake", "(II)I"⟩
def dkwX0_remake_1 : List UInt8 := [180, 1, 126, 27, 50, 78, 45, 28, 182, 1, 177, 45, 180, 1, 197, 182, 1, 201, 172, 58, 4, 16, 253, 172]
abbrev dktX0_remake_1 : List UInt8 := dkwX0_remake_1 ++ []
def dkwX0_remake_0 : List UInt8 := [42, 27, 182, 1, 192, 153, 0, 15, 28, 133, 9, 20, 1, 195, 184, 0, 50, 154, 0, 5, 2, 172, 42]
abbrev dktX0_remake_0 : List UInt8 := dkwX0_remake_0 ++ dktX0_remake_1
theorem dksX0_remake_0 : cX0_remake.data.toList.drop 0 = dktX0_remake_0 := by decide +kernel
theorem dksX0_remake_1 : cX0_remake.data.toList.drop 23 = dktX0_remake_1 := dk_seg dksX0_remake_0 23 rfl rfl
theorem dX0_remake_0 : decode cX0_remake 0 = .ok (.aload_n 0, 1) := dk_42 (dk_at dksX0_remake_0 0 rfl rfl)
theorem dX0_remake_1 : decode cX0_remake 1 = .ok (.iload_n 1, 1) := dk_27 (dk_at dksX0_remake_0 1 rfl rfl)
theorem dX0_remake_2 : decode cX0_remake 2 = .ok (.invokevirtual 448, 3) := dk_182 1 192 (dk_at dksX0_remake_0 2 rfl rfl)
theorem dX0_remake_5 : decode cX0_remake 5 = .ok (.ifCond .eq 15, 3) := dk_153 0 15 (dk_at dksX0_remake_0 5 rfl rfl)
theorem dX0_remake_8 : decode cX0_remake 8 = .ok (.iload_n 2, 1) := dk_28 (dk_at dksX0_remake_0 8 rfl rfl)
theorem dX0_remake_9 : decode cX0_remake 9 = .ok (.i2l, 1) := dk_133 (dk_at dksX0_remake_0 9 rfl rfl)
theorem dX0_remake_10 : decode cX0_remake 10 = .ok (.lconst 0, 1) := dk_9 (dk_at dksX0_remake_0 10 rfl rfl)
theorem dX0_remake_11 : decode cX0_remake 11 = .ok (.ldc2_w 451, 3) := dk_20 1 195 (dk_at dksX0_remake_0 11 rfl rfl)
theorem dX0_remake_14 : decode cX0_remake 14 = .ok (.invokestatic 50, 3) := dk_184 0 50 (dk_at dksX0_remake_0 14 rfl rfl)
theorem dX0_remake_17 : decode cX0_remake 17 = .ok (.ifCond .ne 5, 3) := dk_154 0 5 (dk_at dksX0_remake_0 17 rfl rfl)
theorem dX0_remake_20 : decode cX0_remake 20 = .ok (.iconst (-1), 1) := dk_2 (dk_at dksX0_remake_0 20 rfl rfl)
theorem dX0_remake_21 : decode cX0_remake 21 = .ok (.ireturn, 1) := dk_172 (dk_at dksX0_remake_0 21 rfl rfl)
theorem dX0_remake_22 : decode cX0_remake 22 = .ok (.aload_n 0, 1) := dk_42 (dk_at dksX0_remake_0 22 rfl rfl)
theorem dX0_remake_23 : decode cX0_remake 23 = .ok (.getfield 382, 3) := dk_180 1 126 (dk_at dksX0_remake_1 0 rfl rfl)
theorem dX0_remake_26 : decode cX0_remake 26 = .ok (.iload_n 1, 1) := dk_27 (dk_at dksX0_remake_1 3 rfl rfl)
theorem dX0_remake_27 : decode cX0_remake 27 = .ok (.aaload, 1) := dk_50 (dk_at dksX0_remake_1 4 rfl rfl)
theorem dX0_remake_28 : decode cX0_remake 28 = .ok (.astore_n 3, 1) := dk_78 (dk_at dksX0_remake_1 5 rfl rfl)
theorem dX0_remake_29 : decode cX0_remake 29 = .ok (.aload_n 3, 1) := dk_45 (dk_at dksX0_remake_1 6 rfl rfl)
theorem dX0_remake_30 : decode cX0_remake 30 = .ok (.iload_n 2, 1) := dk_28 (dk_at dksX0_remake_1 7 rfl rfl)
theorem dX0_remake_31 : decode cX0_remake 31 = .ok (.invokevirtual 433, 3) := dk_182 1 177 (dk_at dksX0_remake_1 8 rfl rfl)
theorem dX0_remake_34 : decode cX0_remake 34 = .ok (.aload_n 3, 1) := dk_45 (dk_at dksX0_remake_1 11 rfl rfl)
theorem dX0_remake_35 : decode cX0_remake 35 = .ok (.getfield 453, 3) := dk_180 1 197 (dk_at dksX0_remake_1 12 rfl rfl)
theorem dX0_remake_38 : decode cX0_remake 38 = .ok (.invokevirtual 457, 3) := dk_182 1 201 (dk_at dksX0_remake_1 15 rfl rfl)
theorem dX0_remake_41 : decode cX0_remake 41 = .ok (.ireturn, 1) := dk_172 (dk_at dksX0_remake_1 18 rfl rfl)
theorem dX0_remake_42 : decode cX0_remake 42 = .ok (.astore 4, 2) := dk_58 4 (dk_at dksX0_remake_1 19 rfl rfl)
theorem dX0_remake_44 : decode cX0_remake 44 = .ok (.bipush (-3), 2) := dk_16 253 (dk_at dksX0_remake_1 21 rfl rfl)
theorem dX0_remake_46 : decode cX0_remake 46 = .ok (.ireturn, 1) := dk_172 (dk_at dksX0_remake_1 23 rfl rfl)
abbrev cX0_isFunction : ByteArray := prog_1_method_50_code
def yX0_isFunction : MethodName := ⟨RX0, "isFunction", "(I)Z"⟩
def dkwX0_isFunction_0 : List UInt8 := [27, 133, 9, 42, 180, 1, 123, 4, 100, 133, 184, 0, 50, 172]
abbrev dktX0_isFunction_0 : List UInt8 := dkwX0_isFunction_0 ++ []
theorem dksX0_isFunction_0 : cX0_isFunction.data.toList.drop 0 = dktX0_isFunction_0 := by decide +kernel
theorem dX0_isFunction_0 : decode cX0_isFunction 0 = .ok (.iload_n 1, 1) := dk_27 (dk_at dksX0_isFunction_0 0 rfl rfl)
theorem dX0_isFunction_1 : decode cX0_isFunction 1 = .ok (.i2l, 1) := dk_133 (dk_at dksX0_isFunction_0 1 rfl rfl)
theorem dX0_isFunction_2 : decode cX0_isFunction 2 = .ok (.lconst 0, 1) := dk_9 (dk_at dksX0_isFunction_0 2 rfl rfl)
theorem dX0_isFunction_3 : decode cX0_isFunction 3 = .ok (.aload_n 0, 1) := dk_42 (dk_at dksX0_isFunction_0 3 rfl rfl)
theorem dX0_isFunction_4 : decode cX0_isFunction 4 = .ok (.getfield 379, 3) := dk_180 1 123 (dk_at dksX0_isFunction_0 4 rfl rfl)
theorem dX0_isFunction_7 : decode cX0_isFunction 7 = .ok (.iconst 1, 1) := dk_4 (dk_at dksX0_isFunction_0 7 rfl rfl)
theorem dX0_isFunction_8 : decode cX0_isFunction 8 = .ok (.isub, 1) := dk_100 (dk_at dksX0_isFunction_0 8 rfl rfl)
theorem dX0_isFunction_9 : decode cX0_isFunction 9 = .ok (.i2l, 1) := dk_133 (dk_at dksX0_isFunction_0 9 rfl rfl)
theorem dX0_isFunction_10 : decode cX0_isFunction 10 = .ok (.invokestatic 50, 3) := dk_184 0 50 (dk_at dksX0_isFunction_0 10 rfl rfl)
theorem dX0_isFunction_13 : decode cX0_isFunction 13 = .ok (.ireturn, 1) := dk_172 (dk_at dksX0_isFunction_0 13 rfl rfl)
abbrev cX0_kind : ByteArray := prog_1_method_51_code
def yX0_kind : MethodName := ⟨RX0, "kind", "(II)I"⟩
def dkwX0_kind_6 : List UInt8 := [162, 0, 14, 45, 180, 0, 185, 28, 6, 100, 46, 167, 0, 5, 16, 252, 172]
abbrev dktX0_kind_6 : List UInt8 := dkwX0_kind_6 ++ []
def dkwX0_kind_5 : List UInt8 := [180, 1, 126, 3, 50, 180, 1, 210, 161, 0, 7, 4, 167, 0, 4, 3, 172, 28, 6, 100, 45, 180, 0, 172]
abbrev dktX0_kind_5 : List UInt8 := dkwX0_kind_5 ++ dktX0_kind_6
def dkwX0_kind_4 : List UInt8 := [153, 0, 7, 4, 167, 0, 4, 3, 172, 45, 180, 0, 172, 172, 42, 180, 1, 123, 158, 0, 20, 27, 42]
abbrev dktX0_kind_4 : List UInt8 := dkwX0_kind_4 ++ dktX0_kind_5
def dkwX0_kind_3 : List UInt8 := [45, 180, 1, 207, 199, 0, 8, 16, 252, 167, 0, 10, 45, 180, 1, 207, 180, 0, 159, 172, 45, 180, 0, 175]
abbrev dktX0_kind_3 : List UInt8 := dkwX0_kind_3 ++ dktX0_kind_4
def dkwX0_kind_2 : List UInt8 := [170, 0, 0, 0, 0, 110, 0, 0, 0, 0, 0, 0, 0, 7, 0, 0, 0, 46, 0, 0, 0, 66, 0, 0, 0, 79, 0, 0, 0, 110, 0, 0, 0, 110, 0, 0, 0, 110, 0, 0, 0, 110, 0, 0, 0, 84]
abbrev dktX0_kind_2 : List UInt8 := dkwX0_kind_2 ++ dktX0_kind_3
def dkwX0_kind_1 : List UInt8 := [184, 0, 50, 154, 0, 5, 2, 172, 42, 180, 0, 1, 27, 50, 78, 28]
abbrev dktX0_kind_1 : List UInt8 := dkwX0_kind_1 ++ dktX0_kind_2
def dkwX0_kind_0 : List UInt8 := [27, 133, 9, 42, 180, 0, 7, 4, 100, 133, 184, 0, 50, 153, 0, 15, 28, 133, 9, 20, 1, 205]
abbrev dktX0_kind_0 : List UInt8 := dkwX0_kind_0 ++ dktX0_kind_1
theorem dksX0_kind_0 : cX0_kind.data.toList.drop 0 = dktX0_kind_0 := by decide +kernel
theorem dksX0_kind_1 : cX0_kind.data.toList.drop 22 = dktX0_kind_1 := dk_seg dksX0_kind_0 22 rfl rfl
theorem dksX0_kind_2 : cX0_kind.data.toList.drop 38 = dktX0_kind_2 := dk_seg dksX0_kind_1 16 rfl rfl
theorem dksX0_kind_3 : cX0_kind.data.toList.drop 84 = dktX0_kind_3 := dk_seg dksX0_kind_2 46 rfl rfl
theorem dksX0_kind_4 : cX0_kind.data.toList.drop 108 = dktX0_kind_4 := dk_seg dksX0_kind_3 24 rfl rfl
theorem dksX0_kind_5 : cX0_kind.data.toList.drop 131 = dktX0_kind_5 := dk_seg dksX0_kind_4 23 rfl rfl
theorem dksX0_kind_6 : cX0_kind.data.toList.drop 155 = dktX0_kind_6 := dk_seg dksX0_kind_5 24 rfl rfl
theorem dX0_kind_0 : decode cX0_kind 0 = .ok (.iload_n 1, 1) := dk_27 (dk_at dksX0_kind_0 0 rfl rfl)
theorem dX0_kind_1 : decode cX0_kind 1 = .ok (.i2l, 1) := dk_133 (dk_at dksX0_kind_0 1 rfl rfl)
theorem dX0_kind_2 : decode cX0_kind 2 = .ok (.lconst 0, 1) := dk_9 (dk_at dksX0_kind_0 2 rfl rfl)
theorem dX0_kind_3 : decode cX0_kind 3 = .ok (.aload_n 0, 1) := dk_42 (dk_at dksX0_kind_0 3 rfl rfl)
theorem dX0_kind_4 : decode cX0_kind 4 = .ok (.getfield 7, 3) := dk_180 0 7 (dk_at dksX0_kind_0 4 rfl rfl)
theorem dX0_kind_7 : decode cX0_kind 7 = .ok (.iconst 1, 1) := dk_4 (dk_at dksX0_kind_0 7 rfl rfl)
theorem dX0_kind_8 : decode cX0_kind 8 = .ok (.isub, 1) := dk_100 (dk_at dksX0_kind_0 8 rfl rfl)
theorem dX0_kind_9 : decode cX0_kind 9 = .ok (.i2l, 1) := dk_133 (dk_at dksX0_kind_0 9 rfl rfl)
theorem dX0_kind_10 : decode cX0_kind 10 = .ok (.invokestatic 50, 3) := dk_184 0 50 (dk_at dksX0_kind_0 10 rfl rfl)
theorem dX0_kind_13 : decode cX0_kind 13 = .ok (.ifCond .eq 15, 3) := dk_153 0 15 (dk_at dksX0_kind_0 13 rfl rfl)
theorem dX0_kind_16 : decode cX0_kind 16 = .ok (.iload_n 2, 1) := dk_28 (dk_at dksX0_kind_0 16 rfl rfl)
theorem dX0_kind_17 : decode cX0_kind 17 = .ok (.i2l, 1) := dk_133 (dk_at dksX0_kind_0 17 rfl rfl)
theorem dX0_kind_18 : decode cX0_kind 18 = .ok (.lconst 0, 1) := dk_9 (dk_at dksX0_kind_0 18 rfl rfl)
theorem dX0_kind_19 : decode cX0_kind 19 = .ok (.ldc2_w 461, 3) := dk_20 1 205 (dk_at dksX0_kind_0 19 rfl rfl)
theorem dX0_kind_22 : decode cX0_kind 22 = .ok (.invokestatic 50, 3) := dk_184 0 50 (dk_at dksX0_kind_1 0 rfl rfl)
theorem dX0_kind_25 : decode cX0_kind 25 = .ok (.ifCond .ne 5, 3) := dk_154 0 5 (dk_at dksX0_kind_1 3 rfl rfl)
theorem dX0_kind_28 : decode cX0_kind 28 = .ok (.iconst (-1), 1) := dk_2 (dk_at dksX0_kind_1 6 rfl rfl)
theorem dX0_kind_29 : decode cX0_kind 29 = .ok (.ireturn, 1) := dk_172 (dk_at dksX0_kind_1 7 rfl rfl)
theorem dX0_kind_30 : decode cX0_kind 30 = .ok (.aload_n 0, 1) := dk_42 (dk_at dksX0_kind_1 8 rfl rfl)
theorem dX0_kind_31 : decode cX0_kind 31 = .ok (.getfield 1, 3) := dk_180 0 1 (dk_at dksX0_kind_1 9 rfl rfl)
theorem dX0_kind_34 : decode cX0_kind 34 = .ok (.iload_n 1, 1) := dk_27 (dk_at dksX0_kind_1 12 rfl rfl)
theorem dX0_kind_35 : decode cX0_kind 35 = .ok (.aaload, 1) := dk_50 (dk_at dksX0_kind_1 13 rfl rfl)
theorem dX0_kind_36 : decode cX0_kind 36 = .ok (.astore_n 3, 1) := dk_78 (dk_at dksX0_kind_1 14 rfl rfl)
theorem dX0_kind_37 : decode cX0_kind 37 = .ok (.iload_n 2, 1) := dk_28 (dk_at dksX0_kind_1 15 rfl rfl)
theorem dX0_kind_38 : decode cX0_kind 38 = .ok (.tableswitch 110 0 7 #[46, 66, 79, 110, 110, 110, 110, 84], 46) := by decide +kernel
theorem dX0_kind_84 : decode cX0_kind 84 = .ok (.aload_n 3, 1) := dk_45 (dk_at dksX0_kind_3 0 rfl rfl)
theorem dX0_kind_85 : decode cX0_kind 85 = .ok (.getfield 463, 3) := dk_180 1 207 (dk_at dksX0_kind_3 1 rfl rfl)
theorem dX0_kind_88 : decode cX0_kind 88 = .ok (.ifnonnull 8, 3) := dk_199 0 8 (dk_at dksX0_kind_3 4 rfl rfl)
theorem dX0_kind_91 : decode cX0_kind 91 = .ok (.bipush (-4), 2) := dk_16 252 (dk_at dksX0_kind_3 7 rfl rfl)
theorem dX0_kind_93 : decode cX0_kind 93 = .ok (.goto 10, 3) := dk_167 0 10 (dk_at dksX0_kind_3 9 rfl rfl)
theorem dX0_kind_96 : decode cX0_kind 96 = .ok (.aload_n 3, 1) := dk_45 (dk_at dksX0_kind_3 12 rfl rfl)
theorem dX0_kind_97 : decode cX0_kind 97 = .ok (.getfield 463, 3) := dk_180 1 207 (dk_at dksX0_kind_3 13 rfl rfl)
theorem dX0_kind_100 : decode cX0_kind 100 = .ok (.getfield 159, 3) := dk_180 0 159 (dk_at dksX0_kind_3 16 rfl rfl)
theorem dX0_kind_103 : decode cX0_kind 103 = .ok (.ireturn, 1) := dk_172 (dk_at dksX0_kind_3 19 rfl rfl)
theorem dX0_kind_104 : decode cX0_kind 104 = .ok (.aload_n 3, 1) := dk_45 (dk_at dksX0_kind_3 20 rfl rfl)
theorem dX0_kind_105 : decode cX0_kind 105 = .ok (.getfield 175, 3) := dk_180 0 175 (dk_at dksX0_kind_3 21 rfl rfl)
theorem dX0_kind_108 : decode cX0_kind 108 = .ok (.ifCond .eq 7, 3) := dk_153 0 7 (dk_at dksX0_kind_4 0 rfl rfl)
theorem dX0_kind_111 : decode cX0_kind 111 = .ok (.iconst 1, 1) := dk_4 (dk_at dksX0_kind_4 3 rfl rfl)
theorem dX0_kind_112 : decode cX0_kind 112 = .ok (.goto 4, 3) := dk_167 0 4 (dk_at dksX0_kind_4 4 rfl rfl)
theorem dX0_kind_115 : decode cX0_kind 115 = .ok (.iconst 0, 1) := dk_3 (dk_at dksX0_kind_4 7 rfl rfl)
theorem dX0_kind_116 : decode cX0_kind 116 = .ok (.ireturn, 1) := dk_172 (dk_at dksX0_kind_4 8 rfl rfl)
theorem dX0_kind_117 : decode cX0_kind 117 = .ok (.aload_n 3, 1) := dk_45 (dk_at dksX0_kind_4 9 rfl rfl)
theorem dX0_kind_118 : decode cX0_kind 118 = .ok (.getfield 172, 3) := dk_180 0 172 (dk_at dksX0_kind_4 10 rfl rfl)
theorem dX0_kind_121 : decode cX0_kind 121 = .ok (.ireturn, 1) := dk_172 (dk_at dksX0_kind_4 13 rfl rfl)
theorem dX0_kind_122 : decode cX0_kind 122 = .ok (.aload_n 0, 1) := dk_42 (dk_at dksX0_kind_4 14 rfl rfl)
theorem dX0_kind_123 : decode cX0_kind 123 = .ok (.getfield 379, 3) := dk_180 1 123 (dk_at dksX0_kind_4 15 rfl rfl)
theorem dX0_kind_126 : decode cX0_kind 126 = .ok (.ifCond .le 20, 3) := dk_158 0 20 (dk_at dksX0_kind_4 18 rfl rfl)
theorem dX0_kind_129 : decode cX0_kind 129 = .ok (.iload_n 1, 1) := dk_27 (dk_at dksX0_kind_4 21 rfl rfl)
theorem dX0_kind_130 : decode cX0_kind 130 = .ok (.aload_n 0, 1) := dk_42 (dk_at dksX0_kind_4 22 rfl rfl)
theorem dX0_kind_131 : decode cX0_kind 131 = .ok (.getfield 382, 3) := dk_180 1 126 (dk_at dksX0_kind_5 0 rfl rfl)
theorem dX0_kind_134 : decode cX0_kind 134 = .ok (.iconst 0, 1) := dk_3 (dk_at dksX0_kind_5 3 rfl rfl)
theorem dX0_kind_135 : decode cX0_kind 135 = .ok (.aaload, 1) := dk_50 (dk_at dksX0_kind_5 4 rfl rfl)
theorem dX0_kind_136 : decode cX0_kind 136 = .ok (.getfield 466, 3) := dk_180 1 210 (dk_at dksX0_kind_5 5 rfl rfl)
theorem dX0_kind_139 : decode cX0_kind 139 = .ok (.if_icmp .lt 7, 3) := dk_161 0 7 (dk_at dksX0_kind_5 8 rfl rfl)
theorem dX0_kind_142 : decode cX0_kind 142 = .ok (.iconst 1, 1) := dk_4 (dk_at dksX0_kind_5 11 rfl rfl)
theorem dX0_kind_143 : decode cX0_kind 143 = .ok (.goto 4, 3) := dk_167 0 4 (dk_at dksX0_kind_5 12 rfl rfl)
theorem dX0_kind_146 : decode cX0_kind 146 = .ok (.iconst 0, 1) := dk_3 (dk_at dksX0_kind_5 15 rfl rfl)
theorem dX0_kind_147 : decode cX0_kind 147 = .ok (.ireturn, 1) := dk_172 (dk_at dksX0_kind_5 16 rfl rfl)
theorem dX0_kind_148 : decode cX0_kind 148 = .ok (.iload_n 2, 1) := dk_28 (dk_at dksX0_kind_5 17 rfl rfl)
theorem dX0_kind_149 : decode cX0_kind 149 = .ok (.iconst 3, 1) := dk_6 (dk_at dksX0_kind_5 18 rfl rfl)
theorem dX0_kind_150 : decode cX0_kind 150 = .ok (.isub, 1) := dk_100 (dk_at dksX0_kind_5 19 rfl rfl)
theorem dX0_kind_151 : decode cX0_kind 151 = .ok (.aload_n 3, 1) := dk_45 (dk_at dksX0_kind_5 20 rfl rfl)
theorem dX0_kind_152 : decode cX0_kind 152 = .ok (.getfield 172, 3) := dk_180 0 172 (dk_at dksX0_kind_5 21 rfl rfl)
theorem dX0_kind_155 : decode cX0_kind 155 = .ok (.if_icmp .ge 14, 3) := dk_162 0 14 (dk_at dksX0_kind_6 0 rfl rfl)
theorem dX0_kind_158 : decode cX0_kind 158 = .ok (.aload_n 3, 1) := dk_45 (dk_at dksX0_kind_6 3 rfl rfl)
theorem dX0_kind_159 : decode cX0_kind 159 = .ok (.getfield 185, 3) := dk_180 0 185 (dk_at dksX0_kind_6 4 rfl rfl)
theorem dX0_kind_162 : decode cX0_kind 162 = .ok (.iload_n 2, 1) := dk_28 (dk_at dksX0_kind_6 7 rfl rfl)
theorem dX0_kind_163 : decode cX0_kind 163 = .ok (.iconst 3, 1) := dk_6 (dk_at dksX0_kind_6 8 rfl rfl)
theorem dX0_kind_164 : decode cX0_kind 164 = .ok (.isub, 1) := dk_100 (dk_at dksX0_kind_6 9 rfl rfl)
theorem dX0_kind_165 : decode cX0_kind 165 = .ok (.iaload, 1) := dk_46 (dk_at dksX0_kind_6 10 rfl rfl)
theorem dX0_kind_166 : decode cX0_kind 166 = .ok (.goto 5, 3) := dk_167 0 5 (dk_at dksX0_kind_6 11 rfl rfl)
theorem dX0_kind_169 : decode cX0_kind 169 = .ok (.bipush (-4), 2) := dk_16 252 (dk_at dksX0_kind_6 14 rfl rfl)
theorem dX0_kind_171 : decode cX0_kind 171 = .ok (.ireturn, 1) := dk_172 (dk_at dksX0_kind_6 16 rfl rfl)
abbrev cX0_kindNamed : ByteArray := prog_1_method_52_code
def yX0_kindNamed : MethodName := ⟨RX0, "kindNamed", "(J)I"⟩
def dkwX0_kindNamed_0 : List UInt8 := [42, 31, 182, 0, 155, 78, 45, 199, 0, 8, 16, 252, 167, 0, 7, 45, 180, 0, 159, 172]
abbrev dktX0_kindNamed_0 : List UInt8 := dkwX0_kindNamed_0 ++ []
theorem dksX0_kindNamed_0 : cX0_kindNamed.data.toList.drop 0 = dktX0_kindNamed_0 := by decide +kernel
theorem dX0_kindNamed_0 : decode cX0_kindNamed 0 = .ok (.aload_n 0, 1) := dk_42 (dk_at dksX0_kindNamed_0 0 rfl rfl)
theorem dX0_kindNamed_1 : decode cX0_kindNamed 1 = .ok (.lload_n 1, 1) := dk_31 (dk_at dksX0_kindNamed_0 1 rfl rfl)
theorem dX0_kindNamed_2 : decode cX0_kindNamed 2 = .ok (.invokevirtual 155, 3) := dk_182 0 155 (dk_at dksX0_kindNamed_0 2 rfl rfl)
theorem dX0_kindNamed_5 : decode cX0_kindNamed 5 = .ok (.astore_n 3, 1) := dk_78 (dk_at dksX0_kindNamed_0 5 rfl rfl)
theorem dX0_kindNamed_6 : decode cX0_kindNamed 6 = .ok (.aload_n 3, 1) := dk_45 (dk_at dksX0_kindNamed_0 6 rfl rfl)
theorem dX0_kindNamed_7 : decode cX0_kindNamed 7 = .ok (.ifnonnull 8, 3) := dk_199 0 8 (dk_at dksX0_kindNamed_0 7 rfl rfl)
theorem dX0_kindNamed_10 : decode cX0_kindNamed 10 = .ok (.bipush (-4), 2) := dk_16 252 (dk_at dksX0_kindNamed_0 10 rfl rfl)
theorem dX0_kindNamed_12 : decode cX0_kindNamed 12 = .ok (.goto 7, 3) := dk_167 0 7 (dk_at dksX0_kindNamed_0 12 rfl rfl)
theorem dX0_kindNamed_15 : decode cX0_kindNamed 15 = .ok (.aload_n 3, 1) := dk_45 (dk_at dksX0_kindNamed_0 15 rfl rfl)
theorem dX0_kindNamed_16 : decode cX0_kindNamed 16 = .ok (.getfield 159, 3) := dk_180 0 159 (dk_at dksX0_kindNamed_0 16 rfl rfl)
theorem dX0_kindNamed_19 : decode cX0_kindNamed 19 = .ok (.ireturn, 1) := dk_172 (dk_at dksX0_kindNamed_0 19 rfl rfl)
abbrev cX0_function : ByteArray := prog_1_method_53_code
def yX0_function : MethodName := ⟨RX0, "function", "(II)I"⟩
def dkwX0_function_5 : List UInt8 := [45, 180, 1, 105, 28, 16, 6, 100, 46, 167, 0, 5, 16, 252, 172]
abbrev dktX0_function_5 : List UInt8 := dkwX0_function_5 ++ []
def dkwX0_function_4 : List UInt8 := [45, 180, 1, 216, 172, 45, 180, 1, 197, 182, 1, 219, 172, 28, 16, 6, 100, 45, 180, 1, 98, 162, 0, 15]
abbrev dktX0_function_4 : List UInt8 := dkwX0_function_4 ++ dktX0_function_5
def dkwX0_function_3 : List UInt8 := [45, 180, 1, 98, 172, 45, 180, 1, 92, 172, 45, 180, 1, 212, 190, 172, 45, 180, 1, 197, 182, 1, 201, 172]
abbrev dktX0_function_3 : List UInt8 := dkwX0_function_3 ++ dktX0_function_4
def dkwX0_function_2 : List UInt8 := [170, 0, 0, 0, 0, 75, 0, 0, 0, 0, 0, 0, 0, 5, 0, 0, 0, 38, 0, 0, 0, 43, 0, 0, 0, 48, 0, 0, 0, 54, 0, 0, 0, 62, 0, 0, 0, 67]
abbrev dktX0_function_2 : List UInt8 := dkwX0_function_2 ++ dktX0_function_3
def dkwX0_function_1 : List UInt8 := [180, 1, 126, 27, 50, 78, 28]
abbrev dktX0_function_1 : List UInt8 := dkwX0_function_1 ++ dktX0_function_2
def dkwX0_function_0 : List UInt8 := [42, 27, 182, 1, 192, 153, 0, 15, 28, 133, 9, 20, 0, 48, 184, 0, 50, 154, 0, 5, 2, 172, 42]
abbrev dktX0_function_0 : List UInt8 := dkwX0_function_0 ++ dktX0_function_1
theorem dksX0_function_0 : cX0_function.data.toList.drop 0 = dktX0_function_0 := by decide +kernel
theorem dksX0_function_1 : cX0_function.data.toList.drop 23 = dktX0_function_1 := dk_seg dksX0_function_0 23 rfl rfl
theorem dksX0_function_2 : cX0_function.data.toList.drop 30 = dktX0_function_2 := dk_seg dksX0_function_1 7 rfl rfl
theorem dksX0_function_3 : cX0_function.data.toList.drop 68 = dktX0_function_3 := dk_seg dksX0_function_2 38 rfl rfl
theorem dksX0_function_4 : cX0_function.data.toList.drop 92 = dktX0_function_4 := dk_seg dksX0_function_3 24 rfl rfl
theorem dksX0_function_5 : cX0_function.data.toList.drop 116 = dktX0_function_5 := dk_seg dksX0_function_4 24 rfl rfl
theorem dX0_function_0 : decode cX0_function 0 = .ok (.aload_n 0, 1) := dk_42 (dk_at dksX0_function_0 0 rfl rfl)
theorem dX0_function_1 : decode cX0_function 1 = .ok (.iload_n 1, 1) := dk_27 (dk_at dksX0_function_0 1 rfl rfl)
theorem dX0_function_2 : decode cX0_function 2 = .ok (.invokevirtual 448, 3) := dk_182 1 192 (dk_at dksX0_function_0 2 rfl rfl)
theorem dX0_function_5 : decode cX0_function 5 = .ok (.ifCond .eq 15, 3) := dk_153 0 15 (dk_at dksX0_function_0 5 rfl rfl)
theorem dX0_function_8 : decode cX0_function 8 = .ok (.iload_n 2, 1) := dk_28 (dk_at dksX0_function_0 8 rfl rfl)
theorem dX0_function_9 : decode cX0_function 9 = .ok (.i2l, 1) := dk_133 (dk_at dksX0_function_0 9 rfl rfl)
theorem dX0_function_10 : decode cX0_function 10 = .ok (.lconst 0, 1) := dk_9 (dk_at dksX0_function_0 10 rfl rfl)
theorem dX0_function_11 : decode cX0_function 11 = .ok (.ldc2_w 48, 3) := dk_20 0 48 (dk_at dksX0_function_0 11 rfl rfl)
theorem dX0_function_14 : decode cX0_function 14 = .ok (.invokestatic 50, 3) := dk_184 0 50 (dk_at dksX0_function_0 14 rfl rfl)
theorem dX0_function_17 : decode cX0_function 17 = .ok (.ifCond .ne 5, 3) := dk_154 0 5 (dk_at dksX0_function_0 17 rfl rfl)
theorem dX0_function_20 : decode cX0_function 20 = .ok (.iconst (-1), 1) := dk_2 (dk_at dksX0_function_0 20 rfl rfl)
theorem dX0_function_21 : decode cX0_function 21 = .ok (.ireturn, 1) := dk_172 (dk_at dksX0_function_0 21 rfl rfl)
theorem dX0_function_22 : decode cX0_function 22 = .ok (.aload_n 0, 1) := dk_42 (dk_at dksX0_function_0 22 rfl rfl)
theorem dX0_function_23 : decode cX0_function 23 = .ok (.getfield 382, 3) := dk_180 1 126 (dk_at dksX0_function_1 0 rfl rfl)
theorem dX0_function_26 : decode cX0_function 26 = .ok (.iload_n 1, 1) := dk_27 (dk_at dksX0_function_1 3 rfl rfl)
theorem dX0_function_27 : decode cX0_function 27 = .ok (.aaload, 1) := dk_50 (dk_at dksX0_function_1 4 rfl rfl)
theorem dX0_function_28 : decode cX0_function 28 = .ok (.astore_n 3, 1) := dk_78 (dk_at dksX0_function_1 5 rfl rfl)
theorem dX0_function_29 : decode cX0_function 29 = .ok (.iload_n 2, 1) := dk_28 (dk_at dksX0_function_1 6 rfl rfl)
theorem dX0_function_30 : decode cX0_function 30 = .ok (.tableswitch 75 0 5 #[38, 43, 48, 54, 62, 67], 38) := by decide +kernel
theorem dX0_function_68 : decode cX0_function 68 = .ok (.aload_n 3, 1) := dk_45 (dk_at dksX0_function_3 0 rfl rfl)
theorem dX0_function_69 : decode cX0_function 69 = .ok (.getfield 354, 3) := dk_180 1 98 (dk_at dksX0_function_3 1 rfl rfl)
theorem dX0_function_72 : decode cX0_function 72 = .ok (.ireturn, 1) := dk_172 (dk_at dksX0_function_3 4 rfl rfl)
theorem dX0_function_73 : decode cX0_function 73 = .ok (.aload_n 3, 1) := dk_45 (dk_at dksX0_function_3 5 rfl rfl)
theorem dX0_function_74 : decode cX0_function 74 = .ok (.getfield 348, 3) := dk_180 1 92 (dk_at dksX0_function_3 6 rfl rfl)
theorem dX0_function_77 : decode cX0_function 77 = .ok (.ireturn, 1) := dk_172 (dk_at dksX0_function_3 9 rfl rfl)
theorem dX0_function_78 : decode cX0_function 78 = .ok (.aload_n 3, 1) := dk_45 (dk_at dksX0_function_3 10 rfl rfl)
theorem dX0_function_79 : decode cX0_function 79 = .ok (.getfield 468, 3) := dk_180 1 212 (dk_at dksX0_function_3 11 rfl rfl)
theorem dX0_function_82 : decode cX0_function 82 = .ok (.arraylength, 1) := dk_190 (dk_at dksX0_function_3 14 rfl rfl)
theorem dX0_function_83 : decode cX0_function 83 = .ok (.ireturn, 1) := dk_172 (dk_at dksX0_function_3 15 rfl rfl)
theorem dX0_function_84 : decode cX0_function 84 = .ok (.aload_n 3, 1) := dk_45 (dk_at dksX0_function_3 16 rfl rfl)
theorem dX0_function_85 : decode cX0_function 85 = .ok (.getfield 453, 3) := dk_180 1 197 (dk_at dksX0_function_3 17 rfl rfl)
theorem dX0_function_88 : decode cX0_function 88 = .ok (.invokevirtual 457, 3) := dk_182 1 201 (dk_at dksX0_function_3 20 rfl rfl)
theorem dX0_function_91 : decode cX0_function 91 = .ok (.ireturn, 1) := dk_172 (dk_at dksX0_function_3 23 rfl rfl)
theorem dX0_function_92 : decode cX0_function 92 = .ok (.aload_n 3, 1) := dk_45 (dk_at dksX0_function_4 0 rfl rfl)
theorem dX0_function_93 : decode cX0_function 93 = .ok (.getfield 472, 3) := dk_180 1 216 (dk_at dksX0_function_4 1 rfl rfl)
theorem dX0_function_96 : decode cX0_function 96 = .ok (.ireturn, 1) := dk_172 (dk_at dksX0_function_4 4 rfl rfl)
theorem dX0_function_97 : decode cX0_function 97 = .ok (.aload_n 3, 1) := dk_45 (dk_at dksX0_function_4 5 rfl rfl)
theorem dX0_function_98 : decode cX0_function 98 = .ok (.getfield 453, 3) := dk_180 1 197 (dk_at dksX0_function_4 6 rfl rfl)
theorem dX0_function_101 : decode cX0_function 101 = .ok (.invokevirtual 475, 3) := dk_182 1 219 (dk_at dksX0_function_4 9 rfl rfl)
theorem dX0_function_104 : decode cX0_function 104 = .ok (.ireturn, 1) := dk_172 (dk_at dksX0_function_4 12 rfl rfl)
theorem dX0_function_105 : decode cX0_function 105 = .ok (.iload_n 2, 1) := dk_28 (dk_at dksX0_function_4 13 rfl rfl)
theorem dX0_function_106 : decode cX0_function 106 = .ok (.bipush 6, 2) := dk_16 6 (dk_at dksX0_function_4 14 rfl rfl)
theorem dX0_function_108 : decode cX0_function 108 = .ok (.isub, 1) := dk_100 (dk_at dksX0_function_4 16 rfl rfl)
theorem dX0_function_109 : decode cX0_function 109 = .ok (.aload_n 3, 1) := dk_45 (dk_at dksX0_function_4 17 rfl rfl)
theorem dX0_function_110 : decode cX0_function 110 = .ok (.getfield 354, 3) := dk_180 1 98 (dk_at dksX0_function_4 18 rfl rfl)
theorem dX0_function_113 : decode cX0_function 113 = .ok (.if_icmp .ge 15, 3) := dk_162 0 15 (dk_at dksX0_function_4 21 rfl rfl)
theorem dX0_function_116 : decode cX0_function 116 = .ok (.aload_n 3, 1) := dk_45 (dk_at dksX0_function_5 0 rfl rfl)
theorem dX0_function_117 : decode cX0_function 117 = .ok (.getfield 361, 3) := dk_180 1 105 (dk_at dksX0_function_5 1 rfl rfl)
theorem dX0_function_120 : decode cX0_function 120 = .ok (.iload_n 2, 1) := dk_28 (dk_at dksX0_function_5 4 rfl rfl)
theorem dX0_function_121 : decode cX0_function 121 = .ok (.bipush 6, 2) := dk_16 6 (dk_at dksX0_function_5 5 rfl rfl)
theorem dX0_function_123 : decode cX0_function 123 = .ok (.isub, 1) := dk_100 (dk_at dksX0_function_5 7 rfl rfl)
theorem dX0_function_124 : decode cX0_function 124 = .ok (.iaload, 1) := dk_46 (dk_at dksX0_function_5 8 rfl rfl)
theorem dX0_function_125 : decode cX0_function 125 = .ok (.goto 5, 3) := dk_167 0 5 (dk_at dksX0_function_5 9 rfl rfl)
theorem dX0_function_128 : decode cX0_function 128 = .ok (.bipush (-4), 2) := dk_16 252 (dk_at dksX0_function_5 12 rfl rfl)
theorem dX0_function_130 : decode cX0_function 130 = .ok (.ireturn, 1) := dk_172 (dk_at dksX0_function_5 14 rfl rfl)
abbrev cX0_node : ByteArray := prog_1_method_55_code
def yX0_node : MethodName := ⟨RX0, "node", "(III)I"⟩
def dkwX0_node_6 : List UInt8 := [182, 1, 240, 180, 1, 248, 172]
abbrev dktX0_node_6 : List UInt8 := dkwX0_node_6 ++ []
def dkwX0_node_5 : List UInt8 := [25, 4, 182, 1, 240, 180, 1, 243, 172, 25, 4, 182, 1, 240, 199, 0, 8, 16, 252, 167, 0, 11, 25, 4]
abbrev dktX0_node_5 : List UInt8 := dkwX0_node_5 ++ dktX0_node_6
def dkwX0_node_4 : List UInt8 := [180, 1, 236, 172, 25, 4, 180, 1, 237, 190, 172, 25, 4, 182, 1, 240, 199, 0, 8, 16, 252, 167, 0, 11]
abbrev dktX0_node_4 : List UInt8 := dkwX0_node_4 ++ dktX0_node_5
def dkwX0_node_3 : List UInt8 := [25, 4, 182, 1, 232, 172, 25, 4, 182, 1, 233, 199, 0, 8, 16, 252, 167, 0, 11, 25, 4, 182, 1, 233]
abbrev dktX0_node_3 : List UInt8 := dkwX0_node_3 ++ dktX0_node_4
def dkwX0_node_2 : List UInt8 := [170, 0, 0, 0, 86, 0, 0, 0, 0, 0, 0, 0, 3, 0, 0, 0, 29, 0, 0, 0, 35, 0, 0, 0, 57, 0, 0, 0, 64]
abbrev dktX0_node_2 : List UInt8 := dkwX0_node_2 ++ dktX0_node_3
def dkwX0_node_1 : List UInt8 := [180, 1, 126, 27, 50, 180, 1, 197, 28, 182, 1, 228, 58, 4, 29]
abbrev dktX0_node_1 : List UInt8 := dkwX0_node_1 ++ dktX0_node_2
def dkwX0_node_0 : List UInt8 := [42, 27, 28, 182, 1, 222, 153, 0, 15, 29, 133, 9, 20, 1, 226, 184, 0, 50, 154, 0, 5, 2, 172, 42]
abbrev dktX0_node_0 : List UInt8 := dkwX0_node_0 ++ dktX0_node_1
theorem dksX0_node_0 : cX0_node.data.toList.drop 0 = dktX0_node_0 := by decide +kernel
theorem dksX0_node_1 : cX0_node.data.toList.drop 24 = dktX0_node_1 := dk_seg dksX0_node_0 24 rfl rfl
theorem dksX0_node_2 : cX0_node.data.toList.drop 39 = dktX0_node_2 := dk_seg dksX0_node_1 15 rfl rfl
theorem dksX0_node_3 : cX0_node.data.toList.drop 68 = dktX0_node_3 := dk_seg dksX0_node_2 29 rfl rfl
theorem dksX0_node_4 : cX0_node.data.toList.drop 92 = dktX0_node_4 := dk_seg dksX0_node_3 24 rfl rfl
theorem dksX0_node_5 : cX0_node.data.toList.drop 116 = dktX0_node_5 := dk_seg dksX0_node_4 24 rfl rfl
theorem dksX0_node_6 : cX0_node.data.toList.drop 140 = dktX0_node_6 := dk_seg dksX0_node_5 24 rfl rfl
theorem dX0_node_0 : decode cX0_node 0 = .ok (.aload_n 0, 1) := dk_42 (dk_at dksX0_node_0 0 rfl rfl)
theorem dX0_node_1 : decode cX0_node 1 = .ok (.iload_n 1, 1) := dk_27 (dk_at dksX0_node_0 1 rfl rfl)
theorem dX0_node_2 : decode cX0_node 2 = .ok (.iload_n 2, 1) := dk_28 (dk_at dksX0_node_0 2 rfl rfl)
theorem dX0_node_3 : decode cX0_node 3 = .ok (.invokevirtual 478, 3) := dk_182 1 222 (dk_at dksX0_node_0 3 rfl rfl)
theorem dX0_node_6 : decode cX0_node 6 = .ok (.ifCond .eq 15, 3) := dk_153 0 15 (dk_at dksX0_node_0 6 rfl rfl)
theorem dX0_node_9 : decode cX0_node 9 = .ok (.iload_n 3, 1) := dk_29 (dk_at dksX0_node_0 9 rfl rfl)
theorem dX0_node_10 : decode cX0_node 10 = .ok (.i2l, 1) := dk_133 (dk_at dksX0_node_0 10 rfl rfl)
theorem dX0_node_11 : decode cX0_node 11 = .ok (.lconst 0, 1) := dk_9 (dk_at dksX0_node_0 11 rfl rfl)
theorem dX0_node_12 : decode cX0_node 12 = .ok (.ldc2_w 482, 3) := dk_20 1 226 (dk_at dksX0_node_0 12 rfl rfl)
theorem dX0_node_15 : decode cX0_node 15 = .ok (.invokestatic 50, 3) := dk_184 0 50 (dk_at dksX0_node_0 15 rfl rfl)
theorem dX0_node_18 : decode cX0_node 18 = .ok (.ifCond .ne 5, 3) := dk_154 0 5 (dk_at dksX0_node_0 18 rfl rfl)
theorem dX0_node_21 : decode cX0_node 21 = .ok (.iconst (-1), 1) := dk_2 (dk_at dksX0_node_0 21 rfl rfl)
theorem dX0_node_22 : decode cX0_node 22 = .ok (.ireturn, 1) := dk_172 (dk_at dksX0_node_0 22 rfl rfl)
theorem dX0_node_23 : decode cX0_node 23 = .ok (.aload_n 0, 1) := dk_42 (dk_at dksX0_node_0 23 rfl rfl)
theorem dX0_node_24 : decode cX0_node 24 = .ok (.getfield 382, 3) := dk_180 1 126 (dk_at dksX0_node_1 0 rfl rfl)
theorem dX0_node_27 : decode cX0_node 27 = .ok (.iload_n 1, 1) := dk_27 (dk_at dksX0_node_1 3 rfl rfl)
theorem dX0_node_28 : decode cX0_node 28 = .ok (.aaload, 1) := dk_50 (dk_at dksX0_node_1 4 rfl rfl)
theorem dX0_node_29 : decode cX0_node 29 = .ok (.getfield 453, 3) := dk_180 1 197 (dk_at dksX0_node_1 5 rfl rfl)
theorem dX0_node_32 : decode cX0_node 32 = .ok (.iload_n 2, 1) := dk_28 (dk_at dksX0_node_1 8 rfl rfl)
theorem dX0_node_33 : decode cX0_node 33 = .ok (.invokevirtual 484, 3) := dk_182 1 228 (dk_at dksX0_node_1 9 rfl rfl)
theorem dX0_node_36 : decode cX0_node 36 = .ok (.astore 4, 2) := dk_58 4 (dk_at dksX0_node_1 12 rfl rfl)
theorem dX0_node_38 : decode cX0_node 38 = .ok (.iload_n 3, 1) := dk_29 (dk_at dksX0_node_1 14 rfl rfl)
theorem dX0_node_39 : decode cX0_node 39 = .ok (.tableswitch 86 0 3 #[29, 35, 57, 64], 29) := by decide +kernel
theorem dX0_node_68 : decode cX0_node 68 = .ok (.aload 4, 2) := dk_25 4 (dk_at dksX0_node_3 0 rfl rfl)
theorem dX0_node_70 : decode cX0_node 70 = .ok (.invokevirtual 488, 3) := dk_182 1 232 (dk_at dksX0_node_3 2 rfl rfl)
theorem dX0_node_73 : decode cX0_node 73 = .ok (.ireturn, 1) := dk_172 (dk_at dksX0_node_3 5 rfl rfl)
theorem dX0_node_74 : decode cX0_node 74 = .ok (.aload 4, 2) := dk_25 4 (dk_at dksX0_node_3 6 rfl rfl)
theorem dX0_node_76 : decode cX0_node 76 = .ok (.invokevirtual 489, 3) := dk_182 1 233 (dk_at dksX0_node_3 8 rfl rfl)
theorem dX0_node_79 : decode cX0_node 79 = .ok (.ifnonnull 8, 3) := dk_199 0 8 (dk_at dksX0_node_3 11 rfl rfl)
theorem dX0_node_82 : decode cX0_node 82 = .ok (.bipush (-4), 2) := dk_16 252 (dk_at dksX0_node_3 14 rfl rfl)
theorem dX0_node_84 : decode cX0_node 84 = .ok (.goto 11, 3) := dk_167 0 11 (dk_at dksX0_node_3 16 rfl rfl)
theorem dX0_node_87 : decode cX0_node 87 = .ok (.aload 4, 2) := dk_25 4 (dk_at dksX0_node_3 19 rfl rfl)
theorem dX0_node_89 : decode cX0_node 89 = .ok (.invokevirtual 489, 3) := dk_182 1 233 (dk_at dksX0_node_3 21 rfl rfl)
theorem dX0_node_92 : decode cX0_node 92 = .ok (.getfield 492, 3) := dk_180 1 236 (dk_at dksX0_node_4 0 rfl rfl)
theorem dX0_node_95 : decode cX0_node 95 = .ok (.ireturn, 1) := dk_172 (dk_at dksX0_node_4 3 rfl rfl)
theorem dX0_node_96 : decode cX0_node 96 = .ok (.aload 4, 2) := dk_25 4 (dk_at dksX0_node_4 4 rfl rfl)
theorem dX0_node_98 : decode cX0_node 98 = .ok (.getfield 493, 3) := dk_180 1 237 (dk_at dksX0_node_4 6 rfl rfl)
theorem dX0_node_101 : decode cX0_node 101 = .ok (.arraylength, 1) := dk_190 (dk_at dksX0_node_4 9 rfl rfl)
theorem dX0_node_102 : decode cX0_node 102 = .ok (.ireturn, 1) := dk_172 (dk_at dksX0_node_4 10 rfl rfl)
theorem dX0_node_103 : decode cX0_node 103 = .ok (.aload 4, 2) := dk_25 4 (dk_at dksX0_node_4 11 rfl rfl)
theorem dX0_node_105 : decode cX0_node 105 = .ok (.invokevirtual 496, 3) := dk_182 1 240 (dk_at dksX0_node_4 13 rfl rfl)
theorem dX0_node_108 : decode cX0_node 108 = .ok (.ifnonnull 8, 3) := dk_199 0 8 (dk_at dksX0_node_4 16 rfl rfl)
theorem dX0_node_111 : decode cX0_node 111 = .ok (.bipush (-4), 2) := dk_16 252 (dk_at dksX0_node_4 19 rfl rfl)
theorem dX0_node_113 : decode cX0_node 113 = .ok (.goto 11, 3) := dk_167 0 11 (dk_at dksX0_node_4 21 rfl rfl)
theorem dX0_node_116 : decode cX0_node 116 = .ok (.aload 4, 2) := dk_25 4 (dk_at dksX0_node_5 0 rfl rfl)
theorem dX0_node_118 : decode cX0_node 118 = .ok (.invokevirtual 496, 3) := dk_182 1 240 (dk_at dksX0_node_5 2 rfl rfl)
theorem dX0_node_121 : decode cX0_node 121 = .ok (.getfield 499, 3) := dk_180 1 243 (dk_at dksX0_node_5 5 rfl rfl)
theorem dX0_node_124 : decode cX0_node 124 = .ok (.ireturn, 1) := dk_172 (dk_at dksX0_node_5 8 rfl rfl)
theorem dX0_node_125 : decode cX0_node 125 = .ok (.aload 4, 2) := dk_25 4 (dk_at dksX0_node_5 9 rfl rfl)
theorem dX0_node_127 : decode cX0_node 127 = .ok (.invokevirtual 496, 3) := dk_182 1 240 (dk_at dksX0_node_5 11 rfl rfl)
theorem dX0_node_130 : decode cX0_node 130 = .ok (.ifnonnull 8, 3) := dk_199 0 8 (dk_at dksX0_node_5 14 rfl rfl)
theorem dX0_node_133 : decode cX0_node 133 = .ok (.bipush (-4), 2) := dk_16 252 (dk_at dksX0_node_5 17 rfl rfl)
theorem dX0_node_135 : decode cX0_node 135 = .ok (.goto 11, 3) := dk_167 0 11 (dk_at dksX0_node_5 19 rfl rfl)
theorem dX0_node_138 : decode cX0_node 138 = .ok (.aload 4, 2) := dk_25 4 (dk_at dksX0_node_5 22 rfl rfl)
theorem dX0_node_140 : decode cX0_node 140 = .ok (.invokevirtual 496, 3) := dk_182 1 240 (dk_at dksX0_node_6 0 rfl rfl)
theorem dX0_node_143 : decode cX0_node 143 = .ok (.getfield 504, 3) := dk_180 1 248 (dk_at dksX0_node_6 3 rfl rfl)
theorem dX0_node_146 : decode cX0_node 146 = .ok (.ireturn, 1) := dk_172 (dk_at dksX0_node_6 6 rfl rfl)
abbrev cX0_isNode : ByteArray := prog_1_method_54_code
def yX0_isNode : MethodName := ⟨RX0, "isNode", "(II)Z"⟩
def dkwX0_isNode_1 : List UInt8 := [100, 133, 184, 0, 50, 153, 0, 7, 4, 167, 0, 4, 3, 172]
abbrev dktX0_isNode_1 : List UInt8 := dkwX0_isNode_1 ++ []
def dkwX0_isNode_0 : List UInt8 := [42, 27, 182, 1, 192, 153, 0, 31, 28, 133, 9, 42, 180, 1, 126, 27, 50, 180, 1, 197, 182, 1, 201, 4]
abbrev dktX0_isNode_0 : List UInt8 := dkwX0_isNode_0 ++ dktX0_isNode_1
theorem dksX0_isNode_0 : cX0_isNode.data.toList.drop 0 = dktX0_isNode_0 := by decide +kernel
theorem dksX0_isNode_1 : cX0_isNode.data.toList.drop 24 = dktX0_isNode_1 := dk_seg dksX0_isNode_0 24 rfl rfl
theorem dX0_isNode_0 : decode cX0_isNode 0 = .ok (.aload_n 0, 1) := dk_42 (dk_at dksX0_isNode_0 0 rfl rfl)
theorem dX0_isNode_1 : decode cX0_isNode 1 = .ok (.iload_n 1, 1) := dk_27 (dk_at dksX0_isNode_0 1 rfl rfl)
theorem dX0_isNode_2 : decode cX0_isNode 2 = .ok (.invokevirtual 448, 3) := dk_182 1 192 (dk_at dksX0_isNode_0 2 rfl rfl)
theorem dX0_isNode_5 : decode cX0_isNode 5 = .ok (.ifCond .eq 31, 3) := dk_153 0 31 (dk_at dksX0_isNode_0 5 rfl rfl)
theorem dX0_isNode_8 : decode cX0_isNode 8 = .ok (.iload_n 2, 1) := dk_28 (dk_at dksX0_isNode_0 8 rfl rfl)
theorem dX0_isNode_9 : decode cX0_isNode 9 = .ok (.i2l, 1) := dk_133 (dk_at dksX0_isNode_0 9 rfl rfl)
theorem dX0_isNode_10 : decode cX0_isNode 10 = .ok (.lconst 0, 1) := dk_9 (dk_at dksX0_isNode_0 10 rfl rfl)
theorem dX0_isNode_11 : decode cX0_isNode 11 = .ok (.aload_n 0, 1) := dk_42 (dk_at dksX0_isNode_0 11 rfl rfl)
theorem dX0_isNode_12 : decode cX0_isNode 12 = .ok (.getfield 382, 3) := dk_180 1 126 (dk_at dksX0_isNode_0 12 rfl rfl)
theorem dX0_isNode_15 : decode cX0_isNode 15 = .ok (.iload_n 1, 1) := dk_27 (dk_at dksX0_isNode_0 15 rfl rfl)
theorem dX0_isNode_16 : decode cX0_isNode 16 = .ok (.aaload, 1) := dk_50 (dk_at dksX0_isNode_0 16 rfl rfl)
theorem dX0_isNode_17 : decode cX0_isNode 17 = .ok (.getfield 453, 3) := dk_180 1 197 (dk_at dksX0_isNode_0 17 rfl rfl)
theorem dX0_isNode_20 : decode cX0_isNode 20 = .ok (.invokevirtual 457, 3) := dk_182 1 201 (dk_at dksX0_isNode_0 20 rfl rfl)
theorem dX0_isNode_23 : decode cX0_isNode 23 = .ok (.iconst 1, 1) := dk_4 (dk_at dksX0_isNode_0 23 rfl rfl)
theorem dX0_isNode_24 : decode cX0_isNode 24 = .ok (.isub, 1) := dk_100 (dk_at dksX0_isNode_1 0 rfl rfl)
theorem dX0_isNode_25 : decode cX0_isNode 25 = .ok (.i2l, 1) := dk_133 (dk_at dksX0_isNode_1 1 rfl rfl)
theorem dX0_isNode_26 : decode cX0_isNode 26 = .ok (.invokestatic 50, 3) := dk_184 0 50 (dk_at dksX0_isNode_1 2 rfl rfl)
theorem dX0_isNode_29 : decode cX0_isNode 29 = .ok (.ifCond .eq 7, 3) := dk_153 0 7 (dk_at dksX0_isNode_1 5 rfl rfl)
theorem dX0_isNode_32 : decode cX0_isNode 32 = .ok (.iconst 1, 1) := dk_4 (dk_at dksX0_isNode_1 8 rfl rfl)
theorem dX0_isNode_33 : decode cX0_isNode 33 = .ok (.goto 4, 3) := dk_167 0 4 (dk_at dksX0_isNode_1 9 rfl rfl)
theorem dX0_isNode_36 : decode cX0_isNode 36 = .ok (.iconst 0, 1) := dk_3 (dk_at dksX0_isNode_1 12 rfl rfl)
theorem dX0_isNode_37 : decode cX0_isNode 37 = .ok (.ireturn, 1) := dk_172 (dk_at dksX0_isNode_1 13 rfl rfl)
abbrev cX0_branch : ByteArray := prog_1_method_56_code
def yX0_branch : MethodName := ⟨RX0, "branch", "(III)I"⟩
def dkwX0_branch_2 : List UInt8 := [180, 1, 237, 29, 50, 180, 1, 251, 167, 0, 4, 2, 172]
abbrev dktX0_branch_2 : List UInt8 := dkwX0_branch_2 ++ []
def dkwX0_branch_1 : List UInt8 := [58, 4, 29, 133, 9, 25, 4, 180, 1, 237, 190, 4, 100, 133, 184, 0, 50, 153, 0, 16, 25, 4]
abbrev dktX0_branch_1 : List UInt8 := dkwX0_branch_1 ++ dktX0_branch_2
def dkwX0_branch_0 : List UInt8 := [42, 27, 28, 182, 1, 222, 154, 0, 5, 2, 172, 42, 180, 1, 126, 27, 50, 180, 1, 197, 28, 182, 1, 228]
abbrev dktX0_branch_0 : List UInt8 := dkwX0_branch_0 ++ dktX0_branch_1
theorem dksX0_branch_0 : cX0_branch.data.toList.drop 0 = dktX0_branch_0 := by decide +kernel
theorem dksX0_branch_1 : cX0_branch.data.toList.drop 24 = dktX0_branch_1 := dk_seg dksX0_branch_0 24 rfl rfl
theorem dksX0_branch_2 : cX0_branch.data.toList.drop 46 = dktX0_branch_2 := dk_seg dksX0_branch_1 22 rfl rfl
theorem dX0_branch_0 : decode cX0_branch 0 = .ok (.aload_n 0, 1) := dk_42 (dk_at dksX0_branch_0 0 rfl rfl)
theorem dX0_branch_1 : decode cX0_branch 1 = .ok (.iload_n 1, 1) := dk_27 (dk_at dksX0_branch_0 1 rfl rfl)
theorem dX0_branch_2 : decode cX0_branch 2 = .ok (.iload_n 2, 1) := dk_28 (dk_at dksX0_branch_0 2 rfl rfl)
theorem dX0_branch_3 : decode cX0_branch 3 = .ok (.invokevirtual 478, 3) := dk_182 1 222 (dk_at dksX0_branch_0 3 rfl rfl)
theorem dX0_branch_6 : decode cX0_branch 6 = .ok (.ifCond .ne 5, 3) := dk_154 0 5 (dk_at dksX0_branch_0 6 rfl rfl)
theorem dX0_branch_9 : decode cX0_branch 9 = .ok (.iconst (-1), 1) := dk_2 (dk_at dksX0_branch_0 9 rfl rfl)
theorem dX0_branch_10 : decode cX0_branch 10 = .ok (.ireturn, 1) := dk_172 (dk_at dksX0_branch_0 10 rfl rfl)
theorem dX0_branch_11 : decode cX0_branch 11 = .ok (.aload_n 0, 1) := dk_42 (dk_at dksX0_branch_0 11 rfl rfl)
theorem dX0_branch_12 : decode cX0_branch 12 = .ok (.getfield 382, 3) := dk_180 1 126 (dk_at dksX0_branch_0 12 rfl rfl)
theorem dX0_branch_15 : decode cX0_branch 15 = .ok (.iload_n 1, 1) := dk_27 (dk_at dksX0_branch_0 15 rfl rfl)
theorem dX0_branch_16 : decode cX0_branch 16 = .ok (.aaload, 1) := dk_50 (dk_at dksX0_branch_0 16 rfl rfl)
theorem dX0_branch_17 : decode cX0_branch 17 = .ok (.getfield 453, 3) := dk_180 1 197 (dk_at dksX0_branch_0 17 rfl rfl)
theorem dX0_branch_20 : decode cX0_branch 20 = .ok (.iload_n 2, 1) := dk_28 (dk_at dksX0_branch_0 20 rfl rfl)
theorem dX0_branch_21 : decode cX0_branch 21 = .ok (.invokevirtual 484, 3) := dk_182 1 228 (dk_at dksX0_branch_0 21 rfl rfl)
theorem dX0_branch_24 : decode cX0_branch 24 = .ok (.astore 4, 2) := dk_58 4 (dk_at dksX0_branch_1 0 rfl rfl)
theorem dX0_branch_26 : decode cX0_branch 26 = .ok (.iload_n 3, 1) := dk_29 (dk_at dksX0_branch_1 2 rfl rfl)
theorem dX0_branch_27 : decode cX0_branch 27 = .ok (.i2l, 1) := dk_133 (dk_at dksX0_branch_1 3 rfl rfl)
theorem dX0_branch_28 : decode cX0_branch 28 = .ok (.lconst 0, 1) := dk_9 (dk_at dksX0_branch_1 4 rfl rfl)
theorem dX0_branch_29 : decode cX0_branch 29 = .ok (.aload 4, 2) := dk_25 4 (dk_at dksX0_branch_1 5 rfl rfl)
theorem dX0_branch_31 : decode cX0_branch 31 = .ok (.getfield 493, 3) := dk_180 1 237 (dk_at dksX0_branch_1 7 rfl rfl)
theorem dX0_branch_34 : decode cX0_branch 34 = .ok (.arraylength, 1) := dk_190 (dk_at dksX0_branch_1 10 rfl rfl)
theorem dX0_branch_35 : decode cX0_branch 35 = .ok (.iconst 1, 1) := dk_4 (dk_at dksX0_branch_1 11 rfl rfl)
theorem dX0_branch_36 : decode cX0_branch 36 = .ok (.isub, 1) := dk_100 (dk_at dksX0_branch_1 12 rfl rfl)
theorem dX0_branch_37 : decode cX0_branch 37 = .ok (.i2l, 1) := dk_133 (dk_at dksX0_branch_1 13 rfl rfl)
theorem dX0_branch_38 : decode cX0_branch 38 = .ok (.invokestatic 50, 3) := dk_184 0 50 (dk_at dksX0_branch_1 14 rfl rfl)
theorem dX0_branch_41 : decode cX0_branch 41 = .ok (.ifCond .eq 16, 3) := dk_153 0 16 (dk_at dksX0_branch_1 17 rfl rfl)
theorem dX0_branch_44 : decode cX0_branch 44 = .ok (.aload 4, 2) := dk_25 4 (dk_at dksX0_branch_1 20 rfl rfl)
theorem dX0_branch_46 : decode cX0_branch 46 = .ok (.getfield 493, 3) := dk_180 1 237 (dk_at dksX0_branch_2 0 rfl rfl)
theorem dX0_branch_49 : decode cX0_branch 49 = .ok (.iload_n 3, 1) := dk_29 (dk_at dksX0_branch_2 3 rfl rfl)
theorem dX0_branch_50 : decode cX0_branch 50 = .ok (.aaload, 1) := dk_50 (dk_at dksX0_branch_2 4 rfl rfl)
theorem dX0_branch_51 : decode cX0_branch 51 = .ok (.getfield 507, 3) := dk_180 1 251 (dk_at dksX0_branch_2 5 rfl rfl)
theorem dX0_branch_54 : decode cX0_branch 54 = .ok (.goto 4, 3) := dk_167 0 4 (dk_at dksX0_branch_2 8 rfl rfl)
theorem dX0_branch_57 : decode cX0_branch 57 = .ok (.iconst (-1), 1) := dk_2 (dk_at dksX0_branch_2 11 rfl rfl)
theorem dX0_branch_58 : decode cX0_branch 58 = .ok (.ireturn, 1) := dk_172 (dk_at dksX0_branch_2 12 rfl rfl)
abbrev cX0_missing : ByteArray := prog_1_method_57_code
def yX0_missing : MethodName := ⟨RX0, "missing", "(I)I"⟩
def dkwX0_missing_1 : List UInt8 := [182, 2, 0, 153, 0, 7, 4, 167, 0, 4, 3, 172, 77, 16, 253, 172]
abbrev dktX0_missing_1 : List UInt8 := dkwX0_missing_1 ++ []
def dkwX0_missing_0 : List UInt8 := [42, 27, 182, 1, 192, 154, 0, 5, 2, 172, 42, 180, 1, 126, 27, 50, 3, 4, 182, 1, 252, 1]
abbrev dktX0_missing_0 : List UInt8 := dkwX0_missing_0 ++ dktX0_missing_1
theorem dksX0_missing_0 : cX0_missing.data.toList.drop 0 = dktX0_missing_0 := by decide +kernel
theorem dksX0_missing_1 : cX0_missing.data.toList.drop 22 = dktX0_missing_1 := dk_seg dksX0_missing_0 22 rfl rfl
theorem dX0_missing_0 : decode cX0_missing 0 = .ok (.aload_n 0, 1) := dk_42 (dk_at dksX0_missing_0 0 rfl rfl)
theorem dX0_missing_1 : decode cX0_missing 1 = .ok (.iload_n 1, 1) := dk_27 (dk_at dksX0_missing_0 1 rfl rfl)
theorem dX0_missing_2 : decode cX0_missing 2 = .ok (.invokevirtual 448, 3) := dk_182 1 192 (dk_at dksX0_missing_0 2 rfl rfl)
theorem dX0_missing_5 : decode cX0_missing 5 = .ok (.ifCond .ne 5, 3) := dk_154 0 5 (dk_at dksX0_missing_0 5 rfl rfl)
theorem dX0_missing_8 : decode cX0_missing 8 = .ok (.iconst (-1), 1) := dk_2 (dk_at dksX0_missing_0 8 rfl rfl)
theorem dX0_missing_9 : decode cX0_missing 9 = .ok (.ireturn, 1) := dk_172 (dk_at dksX0_missing_0 9 rfl rfl)
theorem dX0_missing_10 : decode cX0_missing 10 = .ok (.aload_n 0, 1) := dk_42 (dk_at dksX0_missing_0 10 rfl rfl)
theorem dX0_missing_11 : decode cX0_missing 11 = .ok (.getfield 382, 3) := dk_180 1 126 (dk_at dksX0_missing_0 11 rfl rfl)
theorem dX0_missing_14 : decode cX0_missing 14 = .ok (.iload_n 1, 1) := dk_27 (dk_at dksX0_missing_0 14 rfl rfl)
theorem dX0_missing_15 : decode cX0_missing 15 = .ok (.aaload, 1) := dk_50 (dk_at dksX0_missing_0 15 rfl rfl)
theorem dX0_missing_16 : decode cX0_missing 16 = .ok (.iconst 0, 1) := dk_3 (dk_at dksX0_missing_0 16 rfl rfl)
theorem dX0_missing_17 : decode cX0_missing 17 = .ok (.iconst 1, 1) := dk_4 (dk_at dksX0_missing_0 17 rfl rfl)
theorem dX0_missing_18 : decode cX0_missing 18 = .ok (.invokevirtual 508, 3) := dk_182 1 252 (dk_at dksX0_missing_0 18 rfl rfl)
theorem dX0_missing_21 : decode cX0_missing 21 = .ok (.aconst_null, 1) := dk_1 (dk_at dksX0_missing_0 21 rfl rfl)
theorem dX0_missing_22 : decode cX0_missing 22 = .ok (.invokevirtual 512, 3) := dk_182 2 0 (dk_at dksX0_missing_1 0 rfl rfl)
theorem dX0_missing_25 : decode cX0_missing 25 = .ok (.ifCond .eq 7, 3) := dk_153 0 7 (dk_at dksX0_missing_1 3 rfl rfl)
theorem dX0_missing_28 : decode cX0_missing 28 = .ok (.iconst 1, 1) := dk_4 (dk_at dksX0_missing_1 6 rfl rfl)
theorem dX0_missing_29 : decode cX0_missing 29 = .ok (.goto 4, 3) := dk_167 0 4 (dk_at dksX0_missing_1 7 rfl rfl)
theorem dX0_missing_32 : decode cX0_missing 32 = .ok (.iconst 0, 1) := dk_3 (dk_at dksX0_missing_1 10 rfl rfl)
theorem dX0_missing_33 : decode cX0_missing 33 = .ok (.ireturn, 1) := dk_172 (dk_at dksX0_missing_1 11 rfl rfl)
theorem dX0_missing_34 : decode cX0_missing 34 = .ok (.astore_n 2, 1) := dk_77 (dk_at dksX0_missing_1 12 rfl rfl)
theorem dX0_missing_35 : decode cX0_missing 35 = .ok (.bipush (-3), 2) := dk_16 253 (dk_at dksX0_missing_1 13 rfl rfl)
theorem dX0_missing_37 : decode cX0_missing 37 = .ok (.ireturn, 1) := dk_172 (dk_at dksX0_missing_1 15 rfl rfl)
abbrev cX0_unreached : ByteArray := prog_1_method_58_code
def yX0_unreached : MethodName := ⟨RX0, "unreached", "(II)I"⟩
def dkwX0_unreached_2 : List UInt8 := [50, 180, 1, 119, 28, 50, 182, 2, 0, 153, 0, 7, 3, 167, 0, 4, 4, 172, 78, 16, 253, 172]
abbrev dktX0_unreached_2 : List UInt8 := dkwX0_unreached_2 ++ []
def dkwX0_unreached_1 : List UInt8 := [184, 0, 50, 154, 0, 5, 2, 172, 42, 180, 1, 126, 27, 50, 3, 3, 182, 1, 252, 42, 180, 1, 126, 27]
abbrev dktX0_unreached_1 : List UInt8 := dkwX0_unreached_1 ++ dktX0_unreached_2
def dkwX0_unreached_0 : List UInt8 := [42, 27, 182, 1, 192, 153, 0, 24, 28, 133, 9, 42, 180, 1, 126, 27, 50, 180, 1, 92, 4, 100, 133]
abbrev dktX0_unreached_0 : List UInt8 := dkwX0_unreached_0 ++ dktX0_unreached_1
theorem dksX0_unreached_0 : cX0_unreached.data.toList.drop 0 = dktX0_unreached_0 := by decide +kernel
theorem dksX0_unreached_1 : cX0_unreached.data.toList.drop 23 = dktX0_unreached_1 := dk_seg dksX0_unreached_0 23 rfl rfl
theorem dksX0_unreached_2 : cX0_unreached.data.toList.drop 47 = dktX0_unreached_2 := dk_seg dksX0_unreached_1 24 rfl rfl
theorem dX0_unreached_0 : decode cX0_unreached 0 = .ok (.aload_n 0, 1) := dk_42 (dk_at dksX0_unreached_0 0 rfl rfl)
theorem dX0_unreached_1 : decode cX0_unreached 1 = .ok (.iload_n 1, 1) := dk_27 (dk_at dksX0_unreached_0 1 rfl rfl)
theorem dX0_unreached_2 : decode cX0_unreached 2 = .ok (.invokevirtual 448, 3) := dk_182 1 192 (dk_at dksX0_unreached_0 2 rfl rfl)
theorem dX0_unreached_5 : decode cX0_unreached 5 = .ok (.ifCond .eq 24, 3) := dk_153 0 24 (dk_at dksX0_unreached_0 5 rfl rfl)
theorem dX0_unreached_8 : decode cX0_unreached 8 = .ok (.iload_n 2, 1) := dk_28 (dk_at dksX0_unreached_0 8 rfl rfl)
theorem dX0_unreached_9 : decode cX0_unreached 9 = .ok (.i2l, 1) := dk_133 (dk_at dksX0_unreached_0 9 rfl rfl)
theorem dX0_unreached_10 : decode cX0_unreached 10 = .ok (.lconst 0, 1) := dk_9 (dk_at dksX0_unreached_0 10 rfl rfl)
theorem dX0_unreached_11 : decode cX0_unreached 11 = .ok (.aload_n 0, 1) := dk_42 (dk_at dksX0_unreached_0 11 rfl rfl)
theorem dX0_unreached_12 : decode cX0_unreached 12 = .ok (.getfield 382, 3) := dk_180 1 126 (dk_at dksX0_unreached_0 12 rfl rfl)
theorem dX0_unreached_15 : decode cX0_unreached 15 = .ok (.iload_n 1, 1) := dk_27 (dk_at dksX0_unreached_0 15 rfl rfl)
theorem dX0_unreached_16 : decode cX0_unreached 16 = .ok (.aaload, 1) := dk_50 (dk_at dksX0_unreached_0 16 rfl rfl)
theorem dX0_unreached_17 : decode cX0_unreached 17 = .ok (.getfield 348, 3) := dk_180 1 92 (dk_at dksX0_unreached_0 17 rfl rfl)
theorem dX0_unreached_20 : decode cX0_unreached 20 = .ok (.iconst 1, 1) := dk_4 (dk_at dksX0_unreached_0 20 rfl rfl)
theorem dX0_unreached_21 : decode cX0_unreached 21 = .ok (.isub, 1) := dk_100 (dk_at dksX0_unreached_0 21 rfl rfl)
theorem dX0_unreached_22 : decode cX0_unreached 22 = .ok (.i2l, 1) := dk_133 (dk_at dksX0_unreached_0 22 rfl rfl)
theorem dX0_unreached_23 : decode cX0_unreached 23 = .ok (.invokestatic 50, 3) := dk_184 0 50 (dk_at dksX0_unreached_1 0 rfl rfl)
theorem dX0_unreached_26 : decode cX0_unreached 26 = .ok (.ifCond .ne 5, 3) := dk_154 0 5 (dk_at dksX0_unreached_1 3 rfl rfl)
theorem dX0_unreached_29 : decode cX0_unreached 29 = .ok (.iconst (-1), 1) := dk_2 (dk_at dksX0_unreached_1 6 rfl rfl)
theorem dX0_unreached_30 : decode cX0_unreached 30 = .ok (.ireturn, 1) := dk_172 (dk_at dksX0_unreached_1 7 rfl rfl)
theorem dX0_unreached_31 : decode cX0_unreached 31 = .ok (.aload_n 0, 1) := dk_42 (dk_at dksX0_unreached_1 8 rfl rfl)
theorem dX0_unreached_32 : decode cX0_unreached 32 = .ok (.getfield 382, 3) := dk_180 1 126 (dk_at dksX0_unreached_1 9 rfl rfl)
theorem dX0_unreached_35 : decode cX0_unreached 35 = .ok (.iload_n 1, 1) := dk_27 (dk_at dksX0_unreached_1 12 rfl rfl)
theorem dX0_unreached_36 : decode cX0_unreached 36 = .ok (.aaload, 1) := dk_50 (dk_at dksX0_unreached_1 13 rfl rfl)
theorem dX0_unreached_37 : decode cX0_unreached 37 = .ok (.iconst 0, 1) := dk_3 (dk_at dksX0_unreached_1 14 rfl rfl)
theorem dX0_unreached_38 : decode cX0_unreached 38 = .ok (.iconst 0, 1) := dk_3 (dk_at dksX0_unreached_1 15 rfl rfl)
theorem dX0_unreached_39 : decode cX0_unreached 39 = .ok (.invokevirtual 508, 3) := dk_182 1 252 (dk_at dksX0_unreached_1 16 rfl rfl)
theorem dX0_unreached_42 : decode cX0_unreached 42 = .ok (.aload_n 0, 1) := dk_42 (dk_at dksX0_unreached_1 19 rfl rfl)
theorem dX0_unreached_43 : decode cX0_unreached 43 = .ok (.getfield 382, 3) := dk_180 1 126 (dk_at dksX0_unreached_1 20 rfl rfl)
theorem dX0_unreached_46 : decode cX0_unreached 46 = .ok (.iload_n 1, 1) := dk_27 (dk_at dksX0_unreached_1 23 rfl rfl)
theorem dX0_unreached_47 : decode cX0_unreached 47 = .ok (.aaload, 1) := dk_50 (dk_at dksX0_unreached_2 0 rfl rfl)
theorem dX0_unreached_48 : decode cX0_unreached 48 = .ok (.getfield 375, 3) := dk_180 1 119 (dk_at dksX0_unreached_2 1 rfl rfl)
theorem dX0_unreached_51 : decode cX0_unreached 51 = .ok (.iload_n 2, 1) := dk_28 (dk_at dksX0_unreached_2 4 rfl rfl)
theorem dX0_unreached_52 : decode cX0_unreached 52 = .ok (.aaload, 1) := dk_50 (dk_at dksX0_unreached_2 5 rfl rfl)
theorem dX0_unreached_53 : decode cX0_unreached 53 = .ok (.invokevirtual 512, 3) := dk_182 2 0 (dk_at dksX0_unreached_2 6 rfl rfl)
theorem dX0_unreached_56 : decode cX0_unreached 56 = .ok (.ifCond .eq 7, 3) := dk_153 0 7 (dk_at dksX0_unreached_2 9 rfl rfl)
theorem dX0_unreached_59 : decode cX0_unreached 59 = .ok (.iconst 0, 1) := dk_3 (dk_at dksX0_unreached_2 12 rfl rfl)
theorem dX0_unreached_60 : decode cX0_unreached 60 = .ok (.goto 4, 3) := dk_167 0 4 (dk_at dksX0_unreached_2 13 rfl rfl)
theorem dX0_unreached_63 : decode cX0_unreached 63 = .ok (.iconst 1, 1) := dk_4 (dk_at dksX0_unreached_2 16 rfl rfl)
theorem dX0_unreached_64 : decode cX0_unreached 64 = .ok (.ireturn, 1) := dk_172 (dk_at dksX0_unreached_2 17 rfl rfl)
theorem dX0_unreached_65 : decode cX0_unreached 65 = .ok (.astore_n 3, 1) := dk_78 (dk_at dksX0_unreached_2 18 rfl rfl)
theorem dX0_unreached_66 : decode cX0_unreached 66 = .ok (.bipush (-3), 2) := dk_16 253 (dk_at dksX0_unreached_2 19 rfl rfl)
theorem dX0_unreached_68 : decode cX0_unreached 68 = .ok (.ireturn, 1) := dk_172 (dk_at dksX0_unreached_2 21 rfl rfl)
abbrev cX0_whole : ByteArray := prog_1_method_60_code
def yX0_whole : MethodName := ⟨RX0, "whole", "(I)I"⟩
def dkwX0_whole_1 : List UInt8 := [27, 183, 2, 14, 182, 2, 15, 172]
abbrev dktX0_whole_1 : List UInt8 := dkwX0_whole_1 ++ []
def dkwX0_whole_0 : List UInt8 := [42, 180, 2, 8, 17, 0, 160, 160, 0, 8, 16, 253, 167, 0, 19, 42, 187, 2, 12, 89, 42, 180, 2, 8]
abbrev dktX0_whole_0 : List UInt8 := dkwX0_whole_0 ++ dktX0_whole_1
theorem dksX0_whole_0 : cX0_whole.data.toList.drop 0 = dktX0_whole_0 := by decide +kernel
theorem dksX0_whole_1 : cX0_whole.data.toList.drop 24 = dktX0_whole_1 := dk_seg dksX0_whole_0 24 rfl rfl
theorem dX0_whole_0 : decode cX0_whole 0 = .ok (.aload_n 0, 1) := dk_42 (dk_at dksX0_whole_0 0 rfl rfl)
theorem dX0_whole_1 : decode cX0_whole 1 = .ok (.getfield 520, 3) := dk_180 2 8 (dk_at dksX0_whole_0 1 rfl rfl)
theorem dX0_whole_4 : decode cX0_whole 4 = .ok (.sipush 160, 3) := dk_17 0 160 (dk_at dksX0_whole_0 4 rfl rfl)
theorem dX0_whole_7 : decode cX0_whole 7 = .ok (.if_icmp .ne 8, 3) := dk_160 0 8 (dk_at dksX0_whole_0 7 rfl rfl)
theorem dX0_whole_10 : decode cX0_whole 10 = .ok (.bipush (-3), 2) := dk_16 253 (dk_at dksX0_whole_0 10 rfl rfl)
theorem dX0_whole_12 : decode cX0_whole 12 = .ok (.goto 19, 3) := dk_167 0 19 (dk_at dksX0_whole_0 12 rfl rfl)
theorem dX0_whole_15 : decode cX0_whole 15 = .ok (.aload_n 0, 1) := dk_42 (dk_at dksX0_whole_0 15 rfl rfl)
theorem dX0_whole_16 : decode cX0_whole 16 = .ok (.new 524, 3) := dk_187 2 12 (dk_at dksX0_whole_0 16 rfl rfl)
theorem dX0_whole_19 : decode cX0_whole 19 = .ok (.dup, 1) := dk_89 (dk_at dksX0_whole_0 19 rfl rfl)
theorem dX0_whole_20 : decode cX0_whole 20 = .ok (.aload_n 0, 1) := dk_42 (dk_at dksX0_whole_0 20 rfl rfl)
theorem dX0_whole_21 : decode cX0_whole 21 = .ok (.getfield 520, 3) := dk_180 2 8 (dk_at dksX0_whole_0 21 rfl rfl)
theorem dX0_whole_24 : decode cX0_whole 24 = .ok (.iload_n 1, 1) := dk_27 (dk_at dksX0_whole_1 0 rfl rfl)
theorem dX0_whole_25 : decode cX0_whole 25 = .ok (.invokespecial 526, 3) := dk_183 2 14 (dk_at dksX0_whole_1 1 rfl rfl)
theorem dX0_whole_28 : decode cX0_whole 28 = .ok (.invokevirtual 527, 3) := dk_182 2 15 (dk_at dksX0_whole_1 4 rfl rfl)
theorem dX0_whole_31 : decode cX0_whole 31 = .ok (.ireturn, 1) := dk_172 (dk_at dksX0_whole_1 7 rfl rfl)
abbrev cX0_keep : ByteArray := prog_1_method_59_code
def yX0_keep : MethodName := ⟨RX0, "keep", "(LLetterPost$Value;)I"⟩
def dkwX0_keep_1 : List UInt8 := [172]
abbrev dktX0_keep_1 : List UInt8 := dkwX0_keep_1 ++ []
def dkwX0_keep_0 : List UInt8 := [42, 180, 2, 4, 42, 180, 2, 8, 43, 83, 42, 89, 180, 2, 8, 4, 96, 181, 2, 8, 43, 180, 2, 11]
abbrev dktX0_keep_0 : List UInt8 := dkwX0_keep_0 ++ dktX0_keep_1
theorem dksX0_keep_0 : cX0_keep.data.toList.drop 0 = dktX0_keep_0 := by decide +kernel
theorem dksX0_keep_1 : cX0_keep.data.toList.drop 24 = dktX0_keep_1 := dk_seg dksX0_keep_0 24 rfl rfl
theorem dX0_keep_0 : decode cX0_keep 0 = .ok (.aload_n 0, 1) := dk_42 (dk_at dksX0_keep_0 0 rfl rfl)
theorem dX0_keep_1 : decode cX0_keep 1 = .ok (.getfield 516, 3) := dk_180 2 4 (dk_at dksX0_keep_0 1 rfl rfl)
theorem dX0_keep_4 : decode cX0_keep 4 = .ok (.aload_n 0, 1) := dk_42 (dk_at dksX0_keep_0 4 rfl rfl)
theorem dX0_keep_5 : decode cX0_keep 5 = .ok (.getfield 520, 3) := dk_180 2 8 (dk_at dksX0_keep_0 5 rfl rfl)
theorem dX0_keep_8 : decode cX0_keep 8 = .ok (.aload_n 1, 1) := dk_43 (dk_at dksX0_keep_0 8 rfl rfl)
theorem dX0_keep_9 : decode cX0_keep 9 = .ok (.aastore, 1) := dk_83 (dk_at dksX0_keep_0 9 rfl rfl)
theorem dX0_keep_10 : decode cX0_keep 10 = .ok (.aload_n 0, 1) := dk_42 (dk_at dksX0_keep_0 10 rfl rfl)
theorem dX0_keep_11 : decode cX0_keep 11 = .ok (.dup, 1) := dk_89 (dk_at dksX0_keep_0 11 rfl rfl)
theorem dX0_keep_12 : decode cX0_keep 12 = .ok (.getfield 520, 3) := dk_180 2 8 (dk_at dksX0_keep_0 12 rfl rfl)
theorem dX0_keep_15 : decode cX0_keep 15 = .ok (.iconst 1, 1) := dk_4 (dk_at dksX0_keep_0 15 rfl rfl)
theorem dX0_keep_16 : decode cX0_keep 16 = .ok (.iadd, 1) := dk_96 (dk_at dksX0_keep_0 16 rfl rfl)
theorem dX0_keep_17 : decode cX0_keep 17 = .ok (.putfield 520, 3) := dk_181 2 8 (dk_at dksX0_keep_0 17 rfl rfl)
theorem dX0_keep_20 : decode cX0_keep 20 = .ok (.aload_n 1, 1) := dk_43 (dk_at dksX0_keep_0 20 rfl rfl)
theorem dX0_keep_21 : decode cX0_keep 21 = .ok (.getfield 523, 3) := dk_180 2 11 (dk_at dksX0_keep_0 21 rfl rfl)
theorem dX0_keep_24 : decode cX0_keep 24 = .ok (.ireturn, 1) := dk_172 (dk_at dksX0_keep_1 0 rfl rfl)
abbrev cX0_truth : ByteArray := prog_1_method_61_code
def yX0_truth : MethodName := ⟨RX0, "truth", "(I)I"⟩
def dkwX0_truth_1 : List UInt8 := [27, 153, 0, 7, 4, 167, 0, 4, 3, 183, 2, 21, 182, 2, 15, 172]
abbrev dktX0_truth_1 : List UInt8 := dkwX0_truth_1 ++ []
def dkwX0_truth_0 : List UInt8 := [42, 180, 2, 8, 17, 0, 160, 160, 0, 8, 16, 253, 167, 0, 27, 42, 187, 2, 19, 89, 42, 180, 2, 8]
abbrev dktX0_truth_0 : List UInt8 := dkwX0_truth_0 ++ dktX0_truth_1
theorem dksX0_truth_0 : cX0_truth.data.toList.drop 0 = dktX0_truth_0 := by decide +kernel
theorem dksX0_truth_1 : cX0_truth.data.toList.drop 24 = dktX0_truth_1 := dk_seg dksX0_truth_0 24 rfl rfl
theorem dX0_truth_0 : decode cX0_truth 0 = .ok (.aload_n 0, 1) := dk_42 (dk_at dksX0_truth_0 0 rfl rfl)
theorem dX0_truth_1 : decode cX0_truth 1 = .ok (.getfield 520, 3) := dk_180 2 8 (dk_at dksX0_truth_0 1 rfl rfl)
theorem dX0_truth_4 : decode cX0_truth 4 = .ok (.sipush 160, 3) := dk_17 0 160 (dk_at dksX0_truth_0 4 rfl rfl)
theorem dX0_truth_7 : decode cX0_truth 7 = .ok (.if_icmp .ne 8, 3) := dk_160 0 8 (dk_at dksX0_truth_0 7 rfl rfl)
theorem dX0_truth_10 : decode cX0_truth 10 = .ok (.bipush (-3), 2) := dk_16 253 (dk_at dksX0_truth_0 10 rfl rfl)
theorem dX0_truth_12 : decode cX0_truth 12 = .ok (.goto 27, 3) := dk_167 0 27 (dk_at dksX0_truth_0 12 rfl rfl)
theorem dX0_truth_15 : decode cX0_truth 15 = .ok (.aload_n 0, 1) := dk_42 (dk_at dksX0_truth_0 15 rfl rfl)
theorem dX0_truth_16 : decode cX0_truth 16 = .ok (.new 531, 3) := dk_187 2 19 (dk_at dksX0_truth_0 16 rfl rfl)
theorem dX0_truth_19 : decode cX0_truth 19 = .ok (.dup, 1) := dk_89 (dk_at dksX0_truth_0 19 rfl rfl)
theorem dX0_truth_20 : decode cX0_truth 20 = .ok (.aload_n 0, 1) := dk_42 (dk_at dksX0_truth_0 20 rfl rfl)
theorem dX0_truth_21 : decode cX0_truth 21 = .ok (.getfield 520, 3) := dk_180 2 8 (dk_at dksX0_truth_0 21 rfl rfl)
theorem dX0_truth_24 : decode cX0_truth 24 = .ok (.iload_n 1, 1) := dk_27 (dk_at dksX0_truth_1 0 rfl rfl)
theorem dX0_truth_25 : decode cX0_truth 25 = .ok (.ifCond .eq 7, 3) := dk_153 0 7 (dk_at dksX0_truth_1 1 rfl rfl)
theorem dX0_truth_28 : decode cX0_truth 28 = .ok (.iconst 1, 1) := dk_4 (dk_at dksX0_truth_1 4 rfl rfl)
theorem dX0_truth_29 : decode cX0_truth 29 = .ok (.goto 4, 3) := dk_167 0 4 (dk_at dksX0_truth_1 5 rfl rfl)
theorem dX0_truth_32 : decode cX0_truth 32 = .ok (.iconst 0, 1) := dk_3 (dk_at dksX0_truth_1 8 rfl rfl)
theorem dX0_truth_33 : decode cX0_truth 33 = .ok (.invokespecial 533, 3) := dk_183 2 21 (dk_at dksX0_truth_1 9 rfl rfl)
theorem dX0_truth_36 : decode cX0_truth 36 = .ok (.invokevirtual 527, 3) := dk_182 2 15 (dk_at dksX0_truth_1 12 rfl rfl)
theorem dX0_truth_39 : decode cX0_truth 39 = .ok (.ireturn, 1) := dk_172 (dk_at dksX0_truth_1 15 rfl rfl)
abbrev cX0_letters : ByteArray := prog_1_method_62_code
def yX0_letters : MethodName := ⟨RX0, "letters", "(J)I"⟩
def dkwX0_letters_4 : List UInt8 := [172]
abbrev dktX0_letters_4 : List UInt8 := dkwX0_letters_4 ++ []
def dkwX0_letters_3 : List UInt8 := [160, 0, 8, 16, 253, 167, 0, 19, 42, 187, 2, 24, 89, 42, 180, 2, 8, 31, 183, 2, 26, 182, 2, 15]
abbrev dktX0_letters_3 : List UInt8 := dkwX0_letters_3 ++ dktX0_letters_4
def dkwX0_letters_2 : List UInt8 := [21, 5, 184, 0, 84, 154, 0, 5, 2, 172, 132, 4, 1, 167, 255, 200, 42, 180, 2, 8, 17, 0, 160]
abbrev dktX0_letters_2 : List UInt8 := dkwX0_letters_2 ++ dktX0_letters_3
def dkwX0_letters_1 : List UInt8 := [54, 5, 29, 21, 5, 154, 0, 7, 4, 167, 0, 4, 3, 128, 62, 21, 5, 153, 0, 17, 29, 154, 0, 11]
abbrev dktX0_letters_1 : List UInt8 := dkwX0_letters_1 ++ dktX0_letters_2
def dkwX0_letters_0 : List UInt8 := [3, 62, 3, 54, 4, 21, 4, 16, 8, 162, 0, 55, 31, 16, 8, 21, 4, 104, 123, 136, 17, 0, 255, 126]
abbrev dktX0_letters_0 : List UInt8 := dkwX0_letters_0 ++ dktX0_letters_1
theorem dksX0_letters_0 : cX0_letters.data.toList.drop 0 = dktX0_letters_0 := by decide +kernel
theorem dksX0_letters_1 : cX0_letters.data.toList.drop 24 = dktX0_letters_1 := dk_seg dksX0_letters_0 24 rfl rfl
theorem dksX0_letters_2 : cX0_letters.data.toList.drop 48 = dktX0_letters_2 := dk_seg dksX0_letters_1 24 rfl rfl
theorem dksX0_letters_3 : cX0_letters.data.toList.drop 71 = dktX0_letters_3 := dk_seg dksX0_letters_2 23 rfl rfl
theorem dksX0_letters_4 : cX0_letters.data.toList.drop 95 = dktX0_letters_4 := dk_seg dksX0_letters_3 24 rfl rfl
theorem dX0_letters_0 : decode cX0_letters 0 = .ok (.iconst 0, 1) := dk_3 (dk_at dksX0_letters_0 0 rfl rfl)
theorem dX0_letters_1 : decode cX0_letters 1 = .ok (.istore_n 3, 1) := dk_62 (dk_at dksX0_letters_0 1 rfl rfl)
theorem dX0_letters_2 : decode cX0_letters 2 = .ok (.iconst 0, 1) := dk_3 (dk_at dksX0_letters_0 2 rfl rfl)
theorem dX0_letters_3 : decode cX0_letters 3 = .ok (.istore 4, 2) := dk_54 4 (dk_at dksX0_letters_0 3 rfl rfl)
theorem dX0_letters_5 : decode cX0_letters 5 = .ok (.iload 4, 2) := dk_21 4 (dk_at dksX0_letters_0 5 rfl rfl)
theorem dX0_letters_7 : decode cX0_letters 7 = .ok (.bipush 8, 2) := dk_16 8 (dk_at dksX0_letters_0 7 rfl rfl)
theorem dX0_letters_9 : decode cX0_letters 9 = .ok (.if_icmp .ge 55, 3) := dk_162 0 55 (dk_at dksX0_letters_0 9 rfl rfl)
theorem dX0_letters_12 : decode cX0_letters 12 = .ok (.lload_n 1, 1) := dk_31 (dk_at dksX0_letters_0 12 rfl rfl)
theorem dX0_letters_13 : decode cX0_letters 13 = .ok (.bipush 8, 2) := dk_16 8 (dk_at dksX0_letters_0 13 rfl rfl)
theorem dX0_letters_15 : decode cX0_letters 15 = .ok (.iload 4, 2) := dk_21 4 (dk_at dksX0_letters_0 15 rfl rfl)
theorem dX0_letters_17 : decode cX0_letters 17 = .ok (.imul, 1) := dk_104 (dk_at dksX0_letters_0 17 rfl rfl)
theorem dX0_letters_18 : decode cX0_letters 18 = .ok (.lshr, 1) := dk_123 (dk_at dksX0_letters_0 18 rfl rfl)
theorem dX0_letters_19 : decode cX0_letters 19 = .ok (.l2i, 1) := dk_136 (dk_at dksX0_letters_0 19 rfl rfl)
theorem dX0_letters_20 : decode cX0_letters 20 = .ok (.sipush 255, 3) := dk_17 0 255 (dk_at dksX0_letters_0 20 rfl rfl)
theorem dX0_letters_23 : decode cX0_letters 23 = .ok (.iand, 1) := dk_126 (dk_at dksX0_letters_0 23 rfl rfl)
theorem dX0_letters_24 : decode cX0_letters 24 = .ok (.istore 5, 2) := dk_54 5 (dk_at dksX0_letters_1 0 rfl rfl)
theorem dX0_letters_26 : decode cX0_letters 26 = .ok (.iload_n 3, 1) := dk_29 (dk_at dksX0_letters_1 2 rfl rfl)
theorem dX0_letters_27 : decode cX0_letters 27 = .ok (.iload 5, 2) := dk_21 5 (dk_at dksX0_letters_1 3 rfl rfl)
theorem dX0_letters_29 : decode cX0_letters 29 = .ok (.ifCond .ne 7, 3) := dk_154 0 7 (dk_at dksX0_letters_1 5 rfl rfl)
theorem dX0_letters_32 : decode cX0_letters 32 = .ok (.iconst 1, 1) := dk_4 (dk_at dksX0_letters_1 8 rfl rfl)
theorem dX0_letters_33 : decode cX0_letters 33 = .ok (.goto 4, 3) := dk_167 0 4 (dk_at dksX0_letters_1 9 rfl rfl)
theorem dX0_letters_36 : decode cX0_letters 36 = .ok (.iconst 0, 1) := dk_3 (dk_at dksX0_letters_1 12 rfl rfl)
theorem dX0_letters_37 : decode cX0_letters 37 = .ok (.ior, 1) := dk_128 (dk_at dksX0_letters_1 13 rfl rfl)
theorem dX0_letters_38 : decode cX0_letters 38 = .ok (.istore_n 3, 1) := dk_62 (dk_at dksX0_letters_1 14 rfl rfl)
theorem dX0_letters_39 : decode cX0_letters 39 = .ok (.iload 5, 2) := dk_21 5 (dk_at dksX0_letters_1 15 rfl rfl)
theorem dX0_letters_41 : decode cX0_letters 41 = .ok (.ifCond .eq 17, 3) := dk_153 0 17 (dk_at dksX0_letters_1 17 rfl rfl)
theorem dX0_letters_44 : decode cX0_letters 44 = .ok (.iload_n 3, 1) := dk_29 (dk_at dksX0_letters_1 20 rfl rfl)
theorem dX0_letters_45 : decode cX0_letters 45 = .ok (.ifCond .ne 11, 3) := dk_154 0 11 (dk_at dksX0_letters_1 21 rfl rfl)
theorem dX0_letters_48 : decode cX0_letters 48 = .ok (.iload 5, 2) := dk_21 5 (dk_at dksX0_letters_2 0 rfl rfl)
theorem dX0_letters_50 : decode cX0_letters 50 = .ok (.invokestatic 84, 3) := dk_184 0 84 (dk_at dksX0_letters_2 2 rfl rfl)
theorem dX0_letters_53 : decode cX0_letters 53 = .ok (.ifCond .ne 5, 3) := dk_154 0 5 (dk_at dksX0_letters_2 5 rfl rfl)
theorem dX0_letters_56 : decode cX0_letters 56 = .ok (.iconst (-1), 1) := dk_2 (dk_at dksX0_letters_2 8 rfl rfl)
theorem dX0_letters_57 : decode cX0_letters 57 = .ok (.ireturn, 1) := dk_172 (dk_at dksX0_letters_2 9 rfl rfl)
theorem dX0_letters_58 : decode cX0_letters 58 = .ok (.iinc 4 1, 3) := dk_132 4 1 (dk_at dksX0_letters_2 10 rfl rfl)
theorem dX0_letters_61 : decode cX0_letters 61 = .ok (.goto (-56), 3) := dk_167 255 200 (dk_at dksX0_letters_2 13 rfl rfl)
theorem dX0_letters_64 : decode cX0_letters 64 = .ok (.aload_n 0, 1) := dk_42 (dk_at dksX0_letters_2 16 rfl rfl)
theorem dX0_letters_65 : decode cX0_letters 65 = .ok (.getfield 520, 3) := dk_180 2 8 (dk_at dksX0_letters_2 17 rfl rfl)
theorem dX0_letters_68 : decode cX0_letters 68 = .ok (.sipush 160, 3) := dk_17 0 160 (dk_at dksX0_letters_2 20 rfl rfl)
theorem dX0_letters_71 : decode cX0_letters 71 = .ok (.if_icmp .ne 8, 3) := dk_160 0 8 (dk_at dksX0_letters_3 0 rfl rfl)
theorem dX0_letters_74 : decode cX0_letters 74 = .ok (.bipush (-3), 2) := dk_16 253 (dk_at dksX0_letters_3 3 rfl rfl)
theorem dX0_letters_76 : decode cX0_letters 76 = .ok (.goto 19, 3) := dk_167 0 19 (dk_at dksX0_letters_3 5 rfl rfl)
theorem dX0_letters_79 : decode cX0_letters 79 = .ok (.aload_n 0, 1) := dk_42 (dk_at dksX0_letters_3 8 rfl rfl)
theorem dX0_letters_80 : decode cX0_letters 80 = .ok (.new 536, 3) := dk_187 2 24 (dk_at dksX0_letters_3 9 rfl rfl)
theorem dX0_letters_83 : decode cX0_letters 83 = .ok (.dup, 1) := dk_89 (dk_at dksX0_letters_3 12 rfl rfl)
theorem dX0_letters_84 : decode cX0_letters 84 = .ok (.aload_n 0, 1) := dk_42 (dk_at dksX0_letters_3 13 rfl rfl)
theorem dX0_letters_85 : decode cX0_letters 85 = .ok (.getfield 520, 3) := dk_180 2 8 (dk_at dksX0_letters_3 14 rfl rfl)
theorem dX0_letters_88 : decode cX0_letters 88 = .ok (.lload_n 1, 1) := dk_31 (dk_at dksX0_letters_3 17 rfl rfl)
theorem dX0_letters_89 : decode cX0_letters 89 = .ok (.invokespecial 538, 3) := dk_183 2 26 (dk_at dksX0_letters_3 18 rfl rfl)
theorem dX0_letters_92 : decode cX0_letters 92 = .ok (.invokevirtual 527, 3) := dk_182 2 15 (dk_at dksX0_letters_3 21 rfl rfl)
theorem dX0_letters_95 : decode cX0_letters 95 = .ok (.ireturn, 1) := dk_172 (dk_at dksX0_letters_4 0 rfl rfl)
abbrev cX0_nothing : ByteArray := prog_1_method_63_code
def yX0_nothing : MethodName := ⟨RX0, "nothing", "()I"⟩
def dkwX0_nothing_1 : List UInt8 := [4, 183, 2, 29, 182, 2, 15, 172]
abbrev dktX0_nothing_1 : List UInt8 := dkwX0_nothing_1 ++ []
def dkwX0_nothing_0 : List UInt8 := [42, 180, 2, 8, 17, 0, 160, 160, 0, 8, 16, 253, 167, 0, 19, 42, 187, 0, 23, 89, 42, 180, 2, 8]
abbrev dktX0_nothing_0 : List UInt8 := dkwX0_nothing_0 ++ dktX0_nothing_1
theorem dksX0_nothing_0 : cX0_nothing.data.toList.drop 0 = dktX0_nothing_0 := by decide +kernel
theorem dksX0_nothing_1 : cX0_nothing.data.toList.drop 24 = dktX0_nothing_1 := dk_seg dksX0_nothing_0 24 rfl rfl
theorem dX0_nothing_0 : decode cX0_nothing 0 = .ok (.aload_n 0, 1) := dk_42 (dk_at dksX0_nothing_0 0 rfl rfl)
theorem dX0_nothing_1 : decode cX0_nothing 1 = .ok (.getfield 520, 3) := dk_180 2 8 (dk_at dksX0_nothing_0 1 rfl rfl)
theorem dX0_nothing_4 : decode cX0_nothing 4 = .ok (.sipush 160, 3) := dk_17 0 160 (dk_at dksX0_nothing_0 4 rfl rfl)
theorem dX0_nothing_7 : decode cX0_nothing 7 = .ok (.if_icmp .ne 8, 3) := dk_160 0 8 (dk_at dksX0_nothing_0 7 rfl rfl)
theorem dX0_nothing_10 : decode cX0_nothing 10 = .ok (.bipush (-3), 2) := dk_16 253 (dk_at dksX0_nothing_0 10 rfl rfl)
theorem dX0_nothing_12 : decode cX0_nothing 12 = .ok (.goto 19, 3) := dk_167 0 19 (dk_at dksX0_nothing_0 12 rfl rfl)
theorem dX0_nothing_15 : decode cX0_nothing 15 = .ok (.aload_n 0, 1) := dk_42 (dk_at dksX0_nothing_0 15 rfl rfl)
theorem dX0_nothing_16 : decode cX0_nothing 16 = .ok (.new 23, 3) := dk_187 0 23 (dk_at dksX0_nothing_0 16 rfl rfl)
theorem dX0_nothing_19 : decode cX0_nothing 19 = .ok (.dup, 1) := dk_89 (dk_at dksX0_nothing_0 19 rfl rfl)
theorem dX0_nothing_20 : decode cX0_nothing 20 = .ok (.aload_n 0, 1) := dk_42 (dk_at dksX0_nothing_0 20 rfl rfl)
theorem dX0_nothing_21 : decode cX0_nothing 21 = .ok (.getfield 520, 3) := dk_180 2 8 (dk_at dksX0_nothing_0 21 rfl rfl)
theorem dX0_nothing_24 : decode cX0_nothing 24 = .ok (.iconst 1, 1) := dk_4 (dk_at dksX0_nothing_1 0 rfl rfl)
theorem dX0_nothing_25 : decode cX0_nothing 25 = .ok (.invokespecial 541, 3) := dk_183 2 29 (dk_at dksX0_nothing_1 1 rfl rfl)
theorem dX0_nothing_28 : decode cX0_nothing 28 = .ok (.invokevirtual 527, 3) := dk_182 2 15 (dk_at dksX0_nothing_1 4 rfl rfl)
theorem dX0_nothing_31 : decode cX0_nothing 31 = .ok (.ireturn, 1) := dk_172 (dk_at dksX0_nothing_1 7 rfl rfl)
abbrev cX0_make : ByteArray := prog_1_method_64_code
def yX0_make : MethodName := ⟨RX0, "make", "(IIIII)I"⟩
def dkwX0_make_8 : List UInt8 := [180, 2, 8, 21, 9, 25, 6, 25, 8, 183, 2, 40, 182, 2, 15, 172]
abbrev dktX0_make_8 : List UInt8 := dkwX0_make_8 ++ []
def dkwX0_make_7 : List UInt8 := [17, 0, 160, 159, 0, 10, 21, 9, 16, 60, 164, 0, 8, 16, 253, 167, 0, 24, 42, 187, 2, 38, 89, 42]
abbrev dktX0_make_7 : List UInt8 := dkwX0_make_7 ++ dktX0_make_8
def dkwX0_make_6 : List UInt8 := [21, 9, 25, 8, 21, 10, 50, 180, 2, 37, 96, 54, 9, 132, 10, 1, 167, 255, 176, 42, 180, 2, 8]
abbrev dktX0_make_6 : List UInt8 := dkwX0_make_6 ++ dktX0_make_7
def dkwX0_make_5 : List UInt8 := [46, 182, 2, 33, 154, 0, 5, 2, 172, 25, 8, 21, 10, 42, 180, 2, 4, 25, 7, 21, 10, 46, 50, 83]
abbrev dktX0_make_5 : List UInt8 := dkwX0_make_5 ++ dktX0_make_6
def dkwX0_make_4 : List UInt8 := [182, 2, 30, 153, 0, 28, 42, 42, 180, 2, 4, 25, 7, 21, 10, 46, 50, 25, 6, 180, 0, 185, 21, 10]
abbrev dktX0_make_4 : List UInt8 := dkwX0_make_4 ++ dktX0_make_5
def dkwX0_make_3 : List UInt8 := [58, 8, 4, 54, 9, 3, 54, 10, 21, 10, 25, 6, 180, 0, 172, 162, 0, 76, 42, 25, 7, 21, 10, 46]
abbrev dktX0_make_3 : List UInt8 := dkwX0_make_3 ++ dktX0_make_4
def dkwX0_make_2 : List UInt8 := [4, 29, 79, 89, 5, 21, 4, 79, 89, 6, 21, 5, 79, 58, 7, 25, 6, 180, 0, 172, 189, 0, 18]
abbrev dktX0_make_2 : List UInt8 := dkwX0_make_2 ++ dktX0_make_3
def dkwX0_make_1 : List UInt8 := [180, 0, 175, 153, 0, 5, 2, 172, 42, 180, 0, 1, 27, 50, 58, 6, 7, 188, 10, 89, 3, 28, 79, 89]
abbrev dktX0_make_1 : List UInt8 := dkwX0_make_1 ++ dktX0_make_2
def dkwX0_make_0 : List UInt8 := [27, 133, 9, 42, 180, 0, 7, 4, 100, 133, 184, 0, 50, 153, 0, 15, 42, 180, 0, 1, 27, 50]
abbrev dktX0_make_0 : List UInt8 := dkwX0_make_0 ++ dktX0_make_1
theorem dksX0_make_0 : cX0_make.data.toList.drop 0 = dktX0_make_0 := by decide +kernel
theorem dksX0_make_1 : cX0_make.data.toList.drop 22 = dktX0_make_1 := dk_seg dksX0_make_0 22 rfl rfl
theorem dksX0_make_2 : cX0_make.data.toList.drop 46 = dktX0_make_2 := dk_seg dksX0_make_1 24 rfl rfl
theorem dksX0_make_3 : cX0_make.data.toList.drop 69 = dktX0_make_3 := dk_seg dksX0_make_2 23 rfl rfl
theorem dksX0_make_4 : cX0_make.data.toList.drop 93 = dktX0_make_4 := dk_seg dksX0_make_3 24 rfl rfl
theorem dksX0_make_5 : cX0_make.data.toList.drop 117 = dktX0_make_5 := dk_seg dksX0_make_4 24 rfl rfl
theorem dksX0_make_6 : cX0_make.data.toList.drop 141 = dktX0_make_6 := dk_seg dksX0_make_5 24 rfl rfl
theorem dksX0_make_7 : cX0_make.data.toList.drop 164 = dktX0_make_7 := dk_seg dksX0_make_6 23 rfl rfl
theorem dksX0_make_8 : cX0_make.data.toList.drop 188 = dktX0_make_8 := dk_seg dksX0_make_7 24 rfl rfl
theorem dX0_make_0 : decode cX0_make 0 = .ok (.iload_n 1, 1) := dk_27 (dk_at dksX0_make_0 0 rfl rfl)
theorem dX0_make_1 : decode cX0_make 1 = .ok (.i2l, 1) := dk_133 (dk_at dksX0_make_0 1 rfl rfl)
theorem dX0_make_2 : decode cX0_make 2 = .ok (.lconst 0, 1) := dk_9 (dk_at dksX0_make_0 2 rfl rfl)
theorem dX0_make_3 : decode cX0_make 3 = .ok (.aload_n 0, 1) := dk_42 (dk_at dksX0_make_0 3 rfl rfl)
theorem dX0_make_4 : decode cX0_make 4 = .ok (.getfield 7, 3) := dk_180 0 7 (dk_at dksX0_make_0 4 rfl rfl)
theorem dX0_make_7 : decode cX0_make 7 = .ok (.iconst 1, 1) := dk_4 (dk_at dksX0_make_0 7 rfl rfl)
theorem dX0_make_8 : decode cX0_make 8 = .ok (.isub, 1) := dk_100 (dk_at dksX0_make_0 8 rfl rfl)
theorem dX0_make_9 : decode cX0_make 9 = .ok (.i2l, 1) := dk_133 (dk_at dksX0_make_0 9 rfl rfl)
theorem dX0_make_10 : decode cX0_make 10 = .ok (.invokestatic 50, 3) := dk_184 0 50 (dk_at dksX0_make_0 10 rfl rfl)
theorem dX0_make_13 : decode cX0_make 13 = .ok (.ifCond .eq 15, 3) := dk_153 0 15 (dk_at dksX0_make_0 13 rfl rfl)
theorem dX0_make_16 : decode cX0_make 16 = .ok (.aload_n 0, 1) := dk_42 (dk_at dksX0_make_0 16 rfl rfl)
theorem dX0_make_17 : decode cX0_make 17 = .ok (.getfield 1, 3) := dk_180 0 1 (dk_at dksX0_make_0 17 rfl rfl)
theorem dX0_make_20 : decode cX0_make 20 = .ok (.iload_n 1, 1) := dk_27 (dk_at dksX0_make_0 20 rfl rfl)
theorem dX0_make_21 : decode cX0_make 21 = .ok (.aaload, 1) := dk_50 (dk_at dksX0_make_0 21 rfl rfl)
theorem dX0_make_22 : decode cX0_make 22 = .ok (.getfield 175, 3) := dk_180 0 175 (dk_at dksX0_make_1 0 rfl rfl)
theorem dX0_make_25 : decode cX0_make 25 = .ok (.ifCond .eq 5, 3) := dk_153 0 5 (dk_at dksX0_make_1 3 rfl rfl)
theorem dX0_make_28 : decode cX0_make 28 = .ok (.iconst (-1), 1) := dk_2 (dk_at dksX0_make_1 6 rfl rfl)
theorem dX0_make_29 : decode cX0_make 29 = .ok (.ireturn, 1) := dk_172 (dk_at dksX0_make_1 7 rfl rfl)
theorem dX0_make_30 : decode cX0_make 30 = .ok (.aload_n 0, 1) := dk_42 (dk_at dksX0_make_1 8 rfl rfl)
theorem dX0_make_31 : decode cX0_make 31 = .ok (.getfield 1, 3) := dk_180 0 1 (dk_at dksX0_make_1 9 rfl rfl)
theorem dX0_make_34 : decode cX0_make 34 = .ok (.iload_n 1, 1) := dk_27 (dk_at dksX0_make_1 12 rfl rfl)
theorem dX0_make_35 : decode cX0_make 35 = .ok (.aaload, 1) := dk_50 (dk_at dksX0_make_1 13 rfl rfl)
theorem dX0_make_36 : decode cX0_make 36 = .ok (.astore 6, 2) := dk_58 6 (dk_at dksX0_make_1 14 rfl rfl)
theorem dX0_make_38 : decode cX0_make 38 = .ok (.iconst 4, 1) := dk_7 (dk_at dksX0_make_1 16 rfl rfl)
theorem dX0_make_39 : decode cX0_make 39 = .ok (.newarray .int, 2) := dk_188_10 (dk_at dksX0_make_1 17 rfl rfl)
theorem dX0_make_41 : decode cX0_make 41 = .ok (.dup, 1) := dk_89 (dk_at dksX0_make_1 19 rfl rfl)
theorem dX0_make_42 : decode cX0_make 42 = .ok (.iconst 0, 1) := dk_3 (dk_at dksX0_make_1 20 rfl rfl)
theorem dX0_make_43 : decode cX0_make 43 = .ok (.iload_n 2, 1) := dk_28 (dk_at dksX0_make_1 21 rfl rfl)
theorem dX0_make_44 : decode cX0_make 44 = .ok (.iastore, 1) := dk_79 (dk_at dksX0_make_1 22 rfl rfl)
theorem dX0_make_45 : decode cX0_make 45 = .ok (.dup, 1) := dk_89 (dk_at dksX0_make_1 23 rfl rfl)
theorem dX0_make_46 : decode cX0_make 46 = .ok (.iconst 1, 1) := dk_4 (dk_at dksX0_make_2 0 rfl rfl)
theorem dX0_make_47 : decode cX0_make 47 = .ok (.iload_n 3, 1) := dk_29 (dk_at dksX0_make_2 1 rfl rfl)
theorem dX0_make_48 : decode cX0_make 48 = .ok (.iastore, 1) := dk_79 (dk_at dksX0_make_2 2 rfl rfl)
theorem dX0_make_49 : decode cX0_make 49 = .ok (.dup, 1) := dk_89 (dk_at dksX0_make_2 3 rfl rfl)
theorem dX0_make_50 : decode cX0_make 50 = .ok (.iconst 2, 1) := dk_5 (dk_at dksX0_make_2 4 rfl rfl)
theorem dX0_make_51 : decode cX0_make 51 = .ok (.iload 4, 2) := dk_21 4 (dk_at dksX0_make_2 5 rfl rfl)
theorem dX0_make_53 : decode cX0_make 53 = .ok (.iastore, 1) := dk_79 (dk_at dksX0_make_2 7 rfl rfl)
theorem dX0_make_54 : decode cX0_make 54 = .ok (.dup, 1) := dk_89 (dk_at dksX0_make_2 8 rfl rfl)
theorem dX0_make_55 : decode cX0_make 55 = .ok (.iconst 3, 1) := dk_6 (dk_at dksX0_make_2 9 rfl rfl)
theorem dX0_make_56 : decode cX0_make 56 = .ok (.iload 5, 2) := dk_21 5 (dk_at dksX0_make_2 10 rfl rfl)
theorem dX0_make_58 : decode cX0_make 58 = .ok (.iastore, 1) := dk_79 (dk_at dksX0_make_2 12 rfl rfl)
theorem dX0_make_59 : decode cX0_make 59 = .ok (.astore 7, 2) := dk_58 7 (dk_at dksX0_make_2 13 rfl rfl)
theorem dX0_make_61 : decode cX0_make 61 = .ok (.aload 6, 2) := dk_25 6 (dk_at dksX0_make_2 15 rfl rfl)
theorem dX0_make_63 : decode cX0_make 63 = .ok (.getfield 172, 3) := dk_180 0 172 (dk_at dksX0_make_2 17 rfl rfl)
theorem dX0_make_66 : decode cX0_make 66 = .ok (.anewarray 18, 3) := dk_189 0 18 (dk_at dksX0_make_2 20 rfl rfl)
theorem dX0_make_69 : decode cX0_make 69 = .ok (.astore 8, 2) := dk_58 8 (dk_at dksX0_make_3 0 rfl rfl)
theorem dX0_make_71 : decode cX0_make 71 = .ok (.iconst 1, 1) := dk_4 (dk_at dksX0_make_3 2 rfl rfl)
theorem dX0_make_72 : decode cX0_make 72 = .ok (.istore 9, 2) := dk_54 9 (dk_at dksX0_make_3 3 rfl rfl)
theorem dX0_make_74 : decode cX0_make 74 = .ok (.iconst 0, 1) := dk_3 (dk_at dksX0_make_3 5 rfl rfl)
theorem dX0_make_75 : decode cX0_make 75 = .ok (.istore 10, 2) := dk_54 10 (dk_at dksX0_make_3 6 rfl rfl)
theorem dX0_make_77 : decode cX0_make 77 = .ok (.iload 10, 2) := dk_21 10 (dk_at dksX0_make_3 8 rfl rfl)
theorem dX0_make_79 : decode cX0_make 79 = .ok (.aload 6, 2) := dk_25 6 (dk_at dksX0_make_3 10 rfl rfl)
theorem dX0_make_81 : decode cX0_make 81 = .ok (.getfield 172, 3) := dk_180 0 172 (dk_at dksX0_make_3 12 rfl rfl)
theorem dX0_make_84 : decode cX0_make 84 = .ok (.if_icmp .ge 76, 3) := dk_162 0 76 (dk_at dksX0_make_3 15 rfl rfl)
theorem dX0_make_87 : decode cX0_make 87 = .ok (.aload_n 0, 1) := dk_42 (dk_at dksX0_make_3 18 rfl rfl)
theorem dX0_make_88 : decode cX0_make 88 = .ok (.aload 7, 2) := dk_25 7 (dk_at dksX0_make_3 19 rfl rfl)
theorem dX0_make_90 : decode cX0_make 90 = .ok (.iload 10, 2) := dk_21 10 (dk_at dksX0_make_3 21 rfl rfl)
theorem dX0_make_92 : decode cX0_make 92 = .ok (.iaload, 1) := dk_46 (dk_at dksX0_make_3 23 rfl rfl)
theorem dX0_make_93 : decode cX0_make 93 = .ok (.invokevirtual 542, 3) := dk_182 2 30 (dk_at dksX0_make_4 0 rfl rfl)
theorem dX0_make_96 : decode cX0_make 96 = .ok (.ifCond .eq 28, 3) := dk_153 0 28 (dk_at dksX0_make_4 3 rfl rfl)
theorem dX0_make_99 : decode cX0_make 99 = .ok (.aload_n 0, 1) := dk_42 (dk_at dksX0_make_4 6 rfl rfl)
theorem dX0_make_100 : decode cX0_make 100 = .ok (.aload_n 0, 1) := dk_42 (dk_at dksX0_make_4 7 rfl rfl)
theorem dX0_make_101 : decode cX0_make 101 = .ok (.getfield 516, 3) := dk_180 2 4 (dk_at dksX0_make_4 8 rfl rfl)
theorem dX0_make_104 : decode cX0_make 104 = .ok (.aload 7, 2) := dk_25 7 (dk_at dksX0_make_4 11 rfl rfl)
theorem dX0_make_106 : decode cX0_make 106 = .ok (.iload 10, 2) := dk_21 10 (dk_at dksX0_make_4 13 rfl rfl)
theorem dX0_make_108 : decode cX0_make 108 = .ok (.iaload, 1) := dk_46 (dk_at dksX0_make_4 15 rfl rfl)
theorem dX0_make_109 : decode cX0_make 109 = .ok (.aaload, 1) := dk_50 (dk_at dksX0_make_4 16 rfl rfl)
theorem dX0_make_110 : decode cX0_make 110 = .ok (.aload 6, 2) := dk_25 6 (dk_at dksX0_make_4 17 rfl rfl)
theorem dX0_make_112 : decode cX0_make 112 = .ok (.getfield 185, 3) := dk_180 0 185 (dk_at dksX0_make_4 19 rfl rfl)
theorem dX0_make_115 : decode cX0_make 115 = .ok (.iload 10, 2) := dk_21 10 (dk_at dksX0_make_4 22 rfl rfl)
theorem dX0_make_117 : decode cX0_make 117 = .ok (.iaload, 1) := dk_46 (dk_at dksX0_make_5 0 rfl rfl)
theorem dX0_make_118 : decode cX0_make 118 = .ok (.invokevirtual 545, 3) := dk_182 2 33 (dk_at dksX0_make_5 1 rfl rfl)
theorem dX0_make_121 : decode cX0_make 121 = .ok (.ifCond .ne 5, 3) := dk_154 0 5 (dk_at dksX0_make_5 4 rfl rfl)
theorem dX0_make_124 : decode cX0_make 124 = .ok (.iconst (-1), 1) := dk_2 (dk_at dksX0_make_5 7 rfl rfl)
theorem dX0_make_125 : decode cX0_make 125 = .ok (.ireturn, 1) := dk_172 (dk_at dksX0_make_5 8 rfl rfl)
theorem dX0_make_126 : decode cX0_make 126 = .ok (.aload 8, 2) := dk_25 8 (dk_at dksX0_make_5 9 rfl rfl)
theorem dX0_make_128 : decode cX0_make 128 = .ok (.iload 10, 2) := dk_21 10 (dk_at dksX0_make_5 11 rfl rfl)
theorem dX0_make_130 : decode cX0_make 130 = .ok (.aload_n 0, 1) := dk_42 (dk_at dksX0_make_5 13 rfl rfl)
theorem dX0_make_131 : decode cX0_make 131 = .ok (.getfield 516, 3) := dk_180 2 4 (dk_at dksX0_make_5 14 rfl rfl)
theorem dX0_make_134 : decode cX0_make 134 = .ok (.aload 7, 2) := dk_25 7 (dk_at dksX0_make_5 17 rfl rfl)
theorem dX0_make_136 : decode cX0_make 136 = .ok (.iload 10, 2) := dk_21 10 (dk_at dksX0_make_5 19 rfl rfl)
theorem dX0_make_138 : decode cX0_make 138 = .ok (.iaload, 1) := dk_46 (dk_at dksX0_make_5 21 rfl rfl)
theorem dX0_make_139 : decode cX0_make 139 = .ok (.aaload, 1) := dk_50 (dk_at dksX0_make_5 22 rfl rfl)
theorem dX0_make_140 : decode cX0_make 140 = .ok (.aastore, 1) := dk_83 (dk_at dksX0_make_5 23 rfl rfl)
theorem dX0_make_141 : decode cX0_make 141 = .ok (.iload 9, 2) := dk_21 9 (dk_at dksX0_make_6 0 rfl rfl)
theorem dX0_make_143 : decode cX0_make 143 = .ok (.aload 8, 2) := dk_25 8 (dk_at dksX0_make_6 2 rfl rfl)
theorem dX0_make_145 : decode cX0_make 145 = .ok (.iload 10, 2) := dk_21 10 (dk_at dksX0_make_6 4 rfl rfl)
theorem dX0_make_147 : decode cX0_make 147 = .ok (.aaload, 1) := dk_50 (dk_at dksX0_make_6 6 rfl rfl)
theorem dX0_make_148 : decode cX0_make 148 = .ok (.getfield 549, 3) := dk_180 2 37 (dk_at dksX0_make_6 7 rfl rfl)
theorem dX0_make_151 : decode cX0_make 151 = .ok (.iadd, 1) := dk_96 (dk_at dksX0_make_6 10 rfl rfl)
theorem dX0_make_152 : decode cX0_make 152 = .ok (.istore 9, 2) := dk_54 9 (dk_at dksX0_make_6 11 rfl rfl)
theorem dX0_make_154 : decode cX0_make 154 = .ok (.iinc 10 1, 3) := dk_132 10 1 (dk_at dksX0_make_6 13 rfl rfl)
theorem dX0_make_157 : decode cX0_make 157 = .ok (.goto (-80), 3) := dk_167 255 176 (dk_at dksX0_make_6 16 rfl rfl)
theorem dX0_make_160 : decode cX0_make 160 = .ok (.aload_n 0, 1) := dk_42 (dk_at dksX0_make_6 19 rfl rfl)
theorem dX0_make_161 : decode cX0_make 161 = .ok (.getfield 520, 3) := dk_180 2 8 (dk_at dksX0_make_6 20 rfl rfl)
theorem dX0_make_164 : decode cX0_make 164 = .ok (.sipush 160, 3) := dk_17 0 160 (dk_at dksX0_make_7 0 rfl rfl)
theorem dX0_make_167 : decode cX0_make 167 = .ok (.if_icmp .eq 10, 3) := dk_159 0 10 (dk_at dksX0_make_7 3 rfl rfl)
theorem dX0_make_170 : decode cX0_make 170 = .ok (.iload 9, 2) := dk_21 9 (dk_at dksX0_make_7 6 rfl rfl)
theorem dX0_make_172 : decode cX0_make 172 = .ok (.bipush 60, 2) := dk_16 60 (dk_at dksX0_make_7 8 rfl rfl)
theorem dX0_make_174 : decode cX0_make 174 = .ok (.if_icmp .le 8, 3) := dk_164 0 8 (dk_at dksX0_make_7 10 rfl rfl)
theorem dX0_make_177 : decode cX0_make 177 = .ok (.bipush (-3), 2) := dk_16 253 (dk_at dksX0_make_7 13 rfl rfl)
theorem dX0_make_179 : decode cX0_make 179 = .ok (.goto 24, 3) := dk_167 0 24 (dk_at dksX0_make_7 15 rfl rfl)
theorem dX0_make_182 : decode cX0_make 182 = .ok (.aload_n 0, 1) := dk_42 (dk_at dksX0_make_7 18 rfl rfl)
theorem dX0_make_183 : decode cX0_make 183 = .ok (.new 550, 3) := dk_187 2 38 (dk_at dksX0_make_7 19 rfl rfl)
theorem dX0_make_186 : decode cX0_make 186 = .ok (.dup, 1) := dk_89 (dk_at dksX0_make_7 22 rfl rfl)
theorem dX0_make_187 : decode cX0_make 187 = .ok (.aload_n 0, 1) := dk_42 (dk_at dksX0_make_7 23 rfl rfl)
theorem dX0_make_188 : decode cX0_make 188 = .ok (.getfield 520, 3) := dk_180 2 8 (dk_at dksX0_make_8 0 rfl rfl)
theorem dX0_make_191 : decode cX0_make 191 = .ok (.iload 9, 2) := dk_21 9 (dk_at dksX0_make_8 3 rfl rfl)
theorem dX0_make_193 : decode cX0_make 193 = .ok (.aload 6, 2) := dk_25 6 (dk_at dksX0_make_8 5 rfl rfl)
theorem dX0_make_195 : decode cX0_make 195 = .ok (.aload 8, 2) := dk_25 8 (dk_at dksX0_make_8 7 rfl rfl)
theorem dX0_make_197 : decode cX0_make 197 = .ok (.invokespecial 552, 3) := dk_183 2 40 (dk_at dksX0_make_8 9 rfl rfl)
theorem dX0_make_200 : decode cX0_make 200 = .ok (.invokevirtual 527, 3) := dk_182 2 15 (dk_at dksX0_make_8 12 rfl rfl)
theorem dX0_make_203 : decode cX0_make 203 = .ok (.ireturn, 1) := dk_172 (dk_at dksX0_make_8 15 rfl rfl)
abbrev cX0_isValue : ByteArray := prog_1_method_65_code
def yX0_isValue : MethodName := ⟨RX0, "isValue", "(I)Z"⟩
def dkwX0_isValue_0 : List UInt8 := [27, 133, 9, 42, 180, 2, 8, 4, 100, 133, 184, 0, 50, 172]
abbrev dktX0_isValue_0 : List UInt8 := dkwX0_isValue_0 ++ []
theorem dksX0_isValue_0 : cX0_isValue.data.toList.drop 0 = dktX0_isValue_0 := by decide +kernel
theorem dX0_isValue_0 : decode cX0_isValue 0 = .ok (.iload_n 1, 1) := dk_27 (dk_at dksX0_isValue_0 0 rfl rfl)
theorem dX0_isValue_1 : decode cX0_isValue 1 = .ok (.i2l, 1) := dk_133 (dk_at dksX0_isValue_0 1 rfl rfl)
theorem dX0_isValue_2 : decode cX0_isValue 2 = .ok (.lconst 0, 1) := dk_9 (dk_at dksX0_isValue_0 2 rfl rfl)
theorem dX0_isValue_3 : decode cX0_isValue 3 = .ok (.aload_n 0, 1) := dk_42 (dk_at dksX0_isValue_0 3 rfl rfl)
theorem dX0_isValue_4 : decode cX0_isValue 4 = .ok (.getfield 520, 3) := dk_180 2 8 (dk_at dksX0_isValue_0 4 rfl rfl)
theorem dX0_isValue_7 : decode cX0_isValue 7 = .ok (.iconst 1, 1) := dk_4 (dk_at dksX0_isValue_0 7 rfl rfl)
theorem dX0_isValue_8 : decode cX0_isValue 8 = .ok (.isub, 1) := dk_100 (dk_at dksX0_isValue_0 8 rfl rfl)
theorem dX0_isValue_9 : decode cX0_isValue 9 = .ok (.i2l, 1) := dk_133 (dk_at dksX0_isValue_0 9 rfl rfl)
theorem dX0_isValue_10 : decode cX0_isValue 10 = .ok (.invokestatic 50, 3) := dk_184 0 50 (dk_at dksX0_isValue_0 10 rfl rfl)
theorem dX0_isValue_13 : decode cX0_isValue 13 = .ok (.ireturn, 1) := dk_172 (dk_at dksX0_isValue_0 13 rfl rfl)
abbrev cX0_isOf : ByteArray := prog_1_method_4_code
def yX0_isOf : MethodName := ⟨RX0, "isOf", "(LLetterPost$Value;I)Z"⟩
def dkwX0_isOf_2 : List UInt8 := [153, 0, 7, 4, 167, 0, 4, 3, 172]
abbrev dktX0_isOf_2 : List UInt8 := dkwX0_isOf_2 ++ []
def dkwX0_isOf_1 : List UInt8 := [153, 0, 29, 43, 182, 0, 25, 198, 0, 18, 43, 182, 0, 25, 42, 28, 182, 0, 29, 182, 0, 33]
abbrev dktX0_isOf_1 : List UInt8 := dkwX0_isOf_1 ++ dktX0_isOf_2
def dkwX0_isOf_0 : List UInt8 := [28, 6, 162, 0, 17, 43, 182, 0, 17, 28, 160, 0, 7, 4, 167, 0, 4, 3, 172, 43, 193, 0, 23]
abbrev dktX0_isOf_0 : List UInt8 := dkwX0_isOf_0 ++ dktX0_isOf_1
theorem dksX0_isOf_0 : cX0_isOf.data.toList.drop 0 = dktX0_isOf_0 := by decide +kernel
theorem dksX0_isOf_1 : cX0_isOf.data.toList.drop 23 = dktX0_isOf_1 := dk_seg dksX0_isOf_0 23 rfl rfl
theorem dksX0_isOf_2 : cX0_isOf.data.toList.drop 45 = dktX0_isOf_2 := dk_seg dksX0_isOf_1 22 rfl rfl
theorem dX0_isOf_0 : decode cX0_isOf 0 = .ok (.iload_n 2, 1) := dk_28 (dk_at dksX0_isOf_0 0 rfl rfl)
theorem dX0_isOf_1 : decode cX0_isOf 1 = .ok (.iconst 3, 1) := dk_6 (dk_at dksX0_isOf_0 1 rfl rfl)
theorem dX0_isOf_2 : decode cX0_isOf 2 = .ok (.if_icmp .ge 17, 3) := dk_162 0 17 (dk_at dksX0_isOf_0 2 rfl rfl)
theorem dX0_isOf_5 : decode cX0_isOf 5 = .ok (.aload_n 1, 1) := dk_43 (dk_at dksX0_isOf_0 5 rfl rfl)
theorem dX0_isOf_6 : decode cX0_isOf 6 = .ok (.invokevirtual 17, 3) := dk_182 0 17 (dk_at dksX0_isOf_0 6 rfl rfl)
theorem dX0_isOf_9 : decode cX0_isOf 9 = .ok (.iload_n 2, 1) := dk_28 (dk_at dksX0_isOf_0 9 rfl rfl)
theorem dX0_isOf_10 : decode cX0_isOf 10 = .ok (.if_icmp .ne 7, 3) := dk_160 0 7 (dk_at dksX0_isOf_0 10 rfl rfl)
theorem dX0_isOf_13 : decode cX0_isOf 13 = .ok (.iconst 1, 1) := dk_4 (dk_at dksX0_isOf_0 13 rfl rfl)
theorem dX0_isOf_14 : decode cX0_isOf 14 = .ok (.goto 4, 3) := dk_167 0 4 (dk_at dksX0_isOf_0 14 rfl rfl)
theorem dX0_isOf_17 : decode cX0_isOf 17 = .ok (.iconst 0, 1) := dk_3 (dk_at dksX0_isOf_0 17 rfl rfl)
theorem dX0_isOf_18 : decode cX0_isOf 18 = .ok (.ireturn, 1) := dk_172 (dk_at dksX0_isOf_0 18 rfl rfl)
theorem dX0_isOf_19 : decode cX0_isOf 19 = .ok (.aload_n 1, 1) := dk_43 (dk_at dksX0_isOf_0 19 rfl rfl)
theorem dX0_isOf_20 : decode cX0_isOf 20 = .ok (.instanceof 23, 3) := dk_193 0 23 (dk_at dksX0_isOf_0 20 rfl rfl)
theorem dX0_isOf_23 : decode cX0_isOf 23 = .ok (.ifCond .eq 29, 3) := dk_153 0 29 (dk_at dksX0_isOf_1 0 rfl rfl)
theorem dX0_isOf_26 : decode cX0_isOf 26 = .ok (.aload_n 1, 1) := dk_43 (dk_at dksX0_isOf_1 3 rfl rfl)
theorem dX0_isOf_27 : decode cX0_isOf 27 = .ok (.invokevirtual 25, 3) := dk_182 0 25 (dk_at dksX0_isOf_1 4 rfl rfl)
theorem dX0_isOf_30 : decode cX0_isOf 30 = .ok (.ifnull 18, 3) := dk_198 0 18 (dk_at dksX0_isOf_1 7 rfl rfl)
theorem dX0_isOf_33 : decode cX0_isOf 33 = .ok (.aload_n 1, 1) := dk_43 (dk_at dksX0_isOf_1 10 rfl rfl)
theorem dX0_isOf_34 : decode cX0_isOf 34 = .ok (.invokevirtual 25, 3) := dk_182 0 25 (dk_at dksX0_isOf_1 11 rfl rfl)
theorem dX0_isOf_37 : decode cX0_isOf 37 = .ok (.aload_n 0, 1) := dk_42 (dk_at dksX0_isOf_1 14 rfl rfl)
theorem dX0_isOf_38 : decode cX0_isOf 38 = .ok (.iload_n 2, 1) := dk_28 (dk_at dksX0_isOf_1 15 rfl rfl)
theorem dX0_isOf_39 : decode cX0_isOf 39 = .ok (.invokevirtual 29, 3) := dk_182 0 29 (dk_at dksX0_isOf_1 16 rfl rfl)
theorem dX0_isOf_42 : decode cX0_isOf 42 = .ok (.invokevirtual 33, 3) := dk_182 0 33 (dk_at dksX0_isOf_1 19 rfl rfl)
theorem dX0_isOf_45 : decode cX0_isOf 45 = .ok (.ifCond .eq 7, 3) := dk_153 0 7 (dk_at dksX0_isOf_2 0 rfl rfl)
theorem dX0_isOf_48 : decode cX0_isOf 48 = .ok (.iconst 1, 1) := dk_4 (dk_at dksX0_isOf_2 3 rfl rfl)
theorem dX0_isOf_49 : decode cX0_isOf 49 = .ok (.goto 4, 3) := dk_167 0 4 (dk_at dksX0_isOf_2 4 rfl rfl)
theorem dX0_isOf_52 : decode cX0_isOf 52 = .ok (.iconst 0, 1) := dk_3 (dk_at dksX0_isOf_2 7 rfl rfl)
theorem dX0_isOf_53 : decode cX0_isOf 53 = .ok (.ireturn, 1) := dk_172 (dk_at dksX0_isOf_2 8 rfl rfl)
abbrev cX0_value : ByteArray := prog_1_method_66_code
def yX0_value : MethodName := ⟨RX0, "value", "(II)I"⟩
def dkwX0_value_4 : List UInt8 := [180, 2, 11, 167, 0, 5, 16, 252, 172]
abbrev dktX0_value_4 : List UInt8 := dkwX0_value_4 ++ []
def dkwX0_value_3 : List UInt8 := [100, 45, 192, 2, 38, 180, 2, 48, 190, 162, 0, 20, 45, 192, 2, 38, 180, 2, 48, 28, 6, 100, 50]
abbrev dktX0_value_3 : List UInt8 := dkwX0_value_3 ++ dktX0_value_4
def dkwX0_value_2 : List UInt8 := [160, 0, 10, 45, 182, 2, 45, 167, 0, 7, 45, 180, 2, 37, 172, 45, 193, 2, 38, 153, 0, 34, 28, 6]
abbrev dktX0_value_2 : List UInt8 := dkwX0_value_2 ++ dktX0_value_3
def dkwX0_value_1 : List UInt8 := [180, 2, 4, 27, 50, 78, 28, 6, 162, 0, 31, 28, 154, 0, 10, 45, 182, 0, 17, 167, 0, 19, 28, 4]
abbrev dktX0_value_1 : List UInt8 := dkwX0_value_1 ++ dktX0_value_2
def dkwX0_value_0 : List UInt8 := [42, 27, 182, 2, 30, 153, 0, 15, 28, 133, 9, 20, 2, 43, 184, 0, 50, 154, 0, 6, 16, 252, 172, 42]
abbrev dktX0_value_0 : List UInt8 := dkwX0_value_0 ++ dktX0_value_1
theorem dksX0_value_0 : cX0_value.data.toList.drop 0 = dktX0_value_0 := by decide +kernel
theorem dksX0_value_1 : cX0_value.data.toList.drop 24 = dktX0_value_1 := dk_seg dksX0_value_0 24 rfl rfl
theorem dksX0_value_2 : cX0_value.data.toList.drop 48 = dktX0_value_2 := dk_seg dksX0_value_1 24 rfl rfl
theorem dksX0_value_3 : cX0_value.data.toList.drop 72 = dktX0_value_3 := dk_seg dksX0_value_2 24 rfl rfl
theorem dksX0_value_4 : cX0_value.data.toList.drop 95 = dktX0_value_4 := dk_seg dksX0_value_3 23 rfl rfl
theorem dX0_value_0 : decode cX0_value 0 = .ok (.aload_n 0, 1) := dk_42 (dk_at dksX0_value_0 0 rfl rfl)
theorem dX0_value_1 : decode cX0_value 1 = .ok (.iload_n 1, 1) := dk_27 (dk_at dksX0_value_0 1 rfl rfl)
theorem dX0_value_2 : decode cX0_value 2 = .ok (.invokevirtual 542, 3) := dk_182 2 30 (dk_at dksX0_value_0 2 rfl rfl)
theorem dX0_value_5 : decode cX0_value 5 = .ok (.ifCond .eq 15, 3) := dk_153 0 15 (dk_at dksX0_value_0 5 rfl rfl)
theorem dX0_value_8 : decode cX0_value 8 = .ok (.iload_n 2, 1) := dk_28 (dk_at dksX0_value_0 8 rfl rfl)
theorem dX0_value_9 : decode cX0_value 9 = .ok (.i2l, 1) := dk_133 (dk_at dksX0_value_0 9 rfl rfl)
theorem dX0_value_10 : decode cX0_value 10 = .ok (.lconst 0, 1) := dk_9 (dk_at dksX0_value_0 10 rfl rfl)
theorem dX0_value_11 : decode cX0_value 11 = .ok (.ldc2_w 555, 3) := dk_20 2 43 (dk_at dksX0_value_0 11 rfl rfl)
theorem dX0_value_14 : decode cX0_value 14 = .ok (.invokestatic 50, 3) := dk_184 0 50 (dk_at dksX0_value_0 14 rfl rfl)
theorem dX0_value_17 : decode cX0_value 17 = .ok (.ifCond .ne 6, 3) := dk_154 0 6 (dk_at dksX0_value_0 17 rfl rfl)
theorem dX0_value_20 : decode cX0_value 20 = .ok (.bipush (-4), 2) := dk_16 252 (dk_at dksX0_value_0 20 rfl rfl)
theorem dX0_value_22 : decode cX0_value 22 = .ok (.ireturn, 1) := dk_172 (dk_at dksX0_value_0 22 rfl rfl)
theorem dX0_value_23 : decode cX0_value 23 = .ok (.aload_n 0, 1) := dk_42 (dk_at dksX0_value_0 23 rfl rfl)
theorem dX0_value_24 : decode cX0_value 24 = .ok (.getfield 516, 3) := dk_180 2 4 (dk_at dksX0_value_1 0 rfl rfl)
theorem dX0_value_27 : decode cX0_value 27 = .ok (.iload_n 1, 1) := dk_27 (dk_at dksX0_value_1 3 rfl rfl)
theorem dX0_value_28 : decode cX0_value 28 = .ok (.aaload, 1) := dk_50 (dk_at dksX0_value_1 4 rfl rfl)
theorem dX0_value_29 : decode cX0_value 29 = .ok (.astore_n 3, 1) := dk_78 (dk_at dksX0_value_1 5 rfl rfl)
theorem dX0_value_30 : decode cX0_value 30 = .ok (.iload_n 2, 1) := dk_28 (dk_at dksX0_value_1 6 rfl rfl)
theorem dX0_value_31 : decode cX0_value 31 = .ok (.iconst 3, 1) := dk_6 (dk_at dksX0_value_1 7 rfl rfl)
theorem dX0_value_32 : decode cX0_value 32 = .ok (.if_icmp .ge 31, 3) := dk_162 0 31 (dk_at dksX0_value_1 8 rfl rfl)
theorem dX0_value_35 : decode cX0_value 35 = .ok (.iload_n 2, 1) := dk_28 (dk_at dksX0_value_1 11 rfl rfl)
theorem dX0_value_36 : decode cX0_value 36 = .ok (.ifCond .ne 10, 3) := dk_154 0 10 (dk_at dksX0_value_1 12 rfl rfl)
theorem dX0_value_39 : decode cX0_value 39 = .ok (.aload_n 3, 1) := dk_45 (dk_at dksX0_value_1 15 rfl rfl)
theorem dX0_value_40 : decode cX0_value 40 = .ok (.invokevirtual 17, 3) := dk_182 0 17 (dk_at dksX0_value_1 16 rfl rfl)
theorem dX0_value_43 : decode cX0_value 43 = .ok (.goto 19, 3) := dk_167 0 19 (dk_at dksX0_value_1 19 rfl rfl)
theorem dX0_value_46 : decode cX0_value 46 = .ok (.iload_n 2, 1) := dk_28 (dk_at dksX0_value_1 22 rfl rfl)
theorem dX0_value_47 : decode cX0_value 47 = .ok (.iconst 1, 1) := dk_4 (dk_at dksX0_value_1 23 rfl rfl)
theorem dX0_value_48 : decode cX0_value 48 = .ok (.if_icmp .ne 10, 3) := dk_160 0 10 (dk_at dksX0_value_2 0 rfl rfl)
theorem dX0_value_51 : decode cX0_value 51 = .ok (.aload_n 3, 1) := dk_45 (dk_at dksX0_value_2 3 rfl rfl)
theorem dX0_value_52 : decode cX0_value 52 = .ok (.invokevirtual 557, 3) := dk_182 2 45 (dk_at dksX0_value_2 4 rfl rfl)
theorem dX0_value_55 : decode cX0_value 55 = .ok (.goto 7, 3) := dk_167 0 7 (dk_at dksX0_value_2 7 rfl rfl)
theorem dX0_value_58 : decode cX0_value 58 = .ok (.aload_n 3, 1) := dk_45 (dk_at dksX0_value_2 10 rfl rfl)
theorem dX0_value_59 : decode cX0_value 59 = .ok (.getfield 549, 3) := dk_180 2 37 (dk_at dksX0_value_2 11 rfl rfl)
theorem dX0_value_62 : decode cX0_value 62 = .ok (.ireturn, 1) := dk_172 (dk_at dksX0_value_2 14 rfl rfl)
theorem dX0_value_63 : decode cX0_value 63 = .ok (.aload_n 3, 1) := dk_45 (dk_at dksX0_value_2 15 rfl rfl)
theorem dX0_value_64 : decode cX0_value 64 = .ok (.instanceof 550, 3) := dk_193 2 38 (dk_at dksX0_value_2 16 rfl rfl)
theorem dX0_value_67 : decode cX0_value 67 = .ok (.ifCond .eq 34, 3) := dk_153 0 34 (dk_at dksX0_value_2 19 rfl rfl)
theorem dX0_value_70 : decode cX0_value 70 = .ok (.iload_n 2, 1) := dk_28 (dk_at dksX0_value_2 22 rfl rfl)
theorem dX0_value_71 : decode cX0_value 71 = .ok (.iconst 3, 1) := dk_6 (dk_at dksX0_value_2 23 rfl rfl)
theorem dX0_value_72 : decode cX0_value 72 = .ok (.isub, 1) := dk_100 (dk_at dksX0_value_3 0 rfl rfl)
theorem dX0_value_73 : decode cX0_value 73 = .ok (.aload_n 3, 1) := dk_45 (dk_at dksX0_value_3 1 rfl rfl)
theorem dX0_value_74 : decode cX0_value 74 = .ok (.checkcast 550, 3) := dk_192 2 38 (dk_at dksX0_value_3 2 rfl rfl)
theorem dX0_value_77 : decode cX0_value 77 = .ok (.getfield 560, 3) := dk_180 2 48 (dk_at dksX0_value_3 5 rfl rfl)
theorem dX0_value_80 : decode cX0_value 80 = .ok (.arraylength, 1) := dk_190 (dk_at dksX0_value_3 8 rfl rfl)
theorem dX0_value_81 : decode cX0_value 81 = .ok (.if_icmp .ge 20, 3) := dk_162 0 20 (dk_at dksX0_value_3 9 rfl rfl)
theorem dX0_value_84 : decode cX0_value 84 = .ok (.aload_n 3, 1) := dk_45 (dk_at dksX0_value_3 12 rfl rfl)
theorem dX0_value_85 : decode cX0_value 85 = .ok (.checkcast 550, 3) := dk_192 2 38 (dk_at dksX0_value_3 13 rfl rfl)
theorem dX0_value_88 : decode cX0_value 88 = .ok (.getfield 560, 3) := dk_180 2 48 (dk_at dksX0_value_3 16 rfl rfl)
theorem dX0_value_91 : decode cX0_value 91 = .ok (.iload_n 2, 1) := dk_28 (dk_at dksX0_value_3 19 rfl rfl)
theorem dX0_value_92 : decode cX0_value 92 = .ok (.iconst 3, 1) := dk_6 (dk_at dksX0_value_3 20 rfl rfl)
theorem dX0_value_93 : decode cX0_value 93 = .ok (.isub, 1) := dk_100 (dk_at dksX0_value_3 21 rfl rfl)
theorem dX0_value_94 : decode cX0_value 94 = .ok (.aaload, 1) := dk_50 (dk_at dksX0_value_3 22 rfl rfl)
theorem dX0_value_95 : decode cX0_value 95 = .ok (.getfield 523, 3) := dk_180 2 11 (dk_at dksX0_value_4 0 rfl rfl)
theorem dX0_value_98 : decode cX0_value 98 = .ok (.goto 5, 3) := dk_167 0 5 (dk_at dksX0_value_4 3 rfl rfl)
theorem dX0_value_101 : decode cX0_value 101 = .ok (.bipush (-4), 2) := dk_16 252 (dk_at dksX0_value_4 6 rfl rfl)
theorem dX0_value_103 : decode cX0_value 103 = .ok (.ireturn, 1) := dk_172 (dk_at dksX0_value_4 8 rfl rfl)
abbrev cX0_alike : ByteArray := prog_1_method_67_code
def yX0_alike : MethodName := ⟨RX0, "alike", "(II)I"⟩
def dkwX0_alike_1 : List UInt8 := [27, 50, 42, 180, 2, 4, 28, 50, 182, 2, 51, 153, 0, 7, 4, 167, 0, 4, 3, 172]
abbrev dktX0_alike_1 : List UInt8 := dkwX0_alike_1 ++ []
def dkwX0_alike_0 : List UInt8 := [42, 27, 182, 2, 30, 153, 0, 11, 42, 28, 182, 2, 30, 154, 0, 7, 2, 167, 0, 26, 42, 180, 2, 4]
abbrev dktX0_alike_0 : List UInt8 := dkwX0_alike_0 ++ dktX0_alike_1
theorem dksX0_alike_0 : cX0_alike.data.toList.drop 0 = dktX0_alike_0 := by decide +kernel
theorem dksX0_alike_1 : cX0_alike.data.toList.drop 24 = dktX0_alike_1 := dk_seg dksX0_alike_0 24 rfl rfl
theorem dX0_alike_0 : decode cX0_alike 0 = .ok (.aload_n 0, 1) := dk_42 (dk_at dksX0_alike_0 0 rfl rfl)
theorem dX0_alike_1 : decode cX0_alike 1 = .ok (.iload_n 1, 1) := dk_27 (dk_at dksX0_alike_0 1 rfl rfl)
theorem dX0_alike_2 : decode cX0_alike 2 = .ok (.invokevirtual 542, 3) := dk_182 2 30 (dk_at dksX0_alike_0 2 rfl rfl)
theorem dX0_alike_5 : decode cX0_alike 5 = .ok (.ifCond .eq 11, 3) := dk_153 0 11 (dk_at dksX0_alike_0 5 rfl rfl)
theorem dX0_alike_8 : decode cX0_alike 8 = .ok (.aload_n 0, 1) := dk_42 (dk_at dksX0_alike_0 8 rfl rfl)
theorem dX0_alike_9 : decode cX0_alike 9 = .ok (.iload_n 2, 1) := dk_28 (dk_at dksX0_alike_0 9 rfl rfl)
theorem dX0_alike_10 : decode cX0_alike 10 = .ok (.invokevirtual 542, 3) := dk_182 2 30 (dk_at dksX0_alike_0 10 rfl rfl)
theorem dX0_alike_13 : decode cX0_alike 13 = .ok (.ifCond .ne 7, 3) := dk_154 0 7 (dk_at dksX0_alike_0 13 rfl rfl)
theorem dX0_alike_16 : decode cX0_alike 16 = .ok (.iconst (-1), 1) := dk_2 (dk_at dksX0_alike_0 16 rfl rfl)
theorem dX0_alike_17 : decode cX0_alike 17 = .ok (.goto 26, 3) := dk_167 0 26 (dk_at dksX0_alike_0 17 rfl rfl)
theorem dX0_alike_20 : decode cX0_alike 20 = .ok (.aload_n 0, 1) := dk_42 (dk_at dksX0_alike_0 20 rfl rfl)
theorem dX0_alike_21 : decode cX0_alike 21 = .ok (.getfield 516, 3) := dk_180 2 4 (dk_at dksX0_alike_0 21 rfl rfl)
theorem dX0_alike_24 : decode cX0_alike 24 = .ok (.iload_n 1, 1) := dk_27 (dk_at dksX0_alike_1 0 rfl rfl)
theorem dX0_alike_25 : decode cX0_alike 25 = .ok (.aaload, 1) := dk_50 (dk_at dksX0_alike_1 1 rfl rfl)
theorem dX0_alike_26 : decode cX0_alike 26 = .ok (.aload_n 0, 1) := dk_42 (dk_at dksX0_alike_1 2 rfl rfl)
theorem dX0_alike_27 : decode cX0_alike 27 = .ok (.getfield 516, 3) := dk_180 2 4 (dk_at dksX0_alike_1 3 rfl rfl)
theorem dX0_alike_30 : decode cX0_alike 30 = .ok (.iload_n 2, 1) := dk_28 (dk_at dksX0_alike_1 6 rfl rfl)
theorem dX0_alike_31 : decode cX0_alike 31 = .ok (.aaload, 1) := dk_50 (dk_at dksX0_alike_1 7 rfl rfl)
theorem dX0_alike_32 : decode cX0_alike 32 = .ok (.invokevirtual 563, 3) := dk_182 2 51 (dk_at dksX0_alike_1 8 rfl rfl)
theorem dX0_alike_35 : decode cX0_alike 35 = .ok (.ifCond .eq 7, 3) := dk_153 0 7 (dk_at dksX0_alike_1 11 rfl rfl)
theorem dX0_alike_38 : decode cX0_alike 38 = .ok (.iconst 1, 1) := dk_4 (dk_at dksX0_alike_1 14 rfl rfl)
theorem dX0_alike_39 : decode cX0_alike 39 = .ok (.goto 4, 3) := dk_167 0 4 (dk_at dksX0_alike_1 15 rfl rfl)
theorem dX0_alike_42 : decode cX0_alike 42 = .ok (.iconst 0, 1) := dk_3 (dk_at dksX0_alike_1 18 rfl rfl)
theorem dX0_alike_43 : decode cX0_alike 43 = .ok (.ireturn, 1) := dk_172 (dk_at dksX0_alike_1 19 rfl rfl)
abbrev cX0_sort : ByteArray := prog_1_method_74_code
def yX0_sort : MethodName := ⟨RX0, "sort", "(IIII)I"⟩
def dkwX0_sort_0 : List UInt8 := [42, 27, 28, 29, 21, 4, 4, 182, 2, 132, 172]
abbrev dktX0_sort_0 : List UInt8 := dkwX0_sort_0 ++ []
theorem dksX0_sort_0 : cX0_sort.data.toList.drop 0 = dktX0_sort_0 := by decide +kernel
theorem dX0_sort_0 : decode cX0_sort 0 = .ok (.aload_n 0, 1) := dk_42 (dk_at dksX0_sort_0 0 rfl rfl)
theorem dX0_sort_1 : decode cX0_sort 1 = .ok (.iload_n 1, 1) := dk_27 (dk_at dksX0_sort_0 1 rfl rfl)
theorem dX0_sort_2 : decode cX0_sort 2 = .ok (.iload_n 2, 1) := dk_28 (dk_at dksX0_sort_0 2 rfl rfl)
theorem dX0_sort_3 : decode cX0_sort 3 = .ok (.iload_n 3, 1) := dk_29 (dk_at dksX0_sort_0 3 rfl rfl)
theorem dX0_sort_4 : decode cX0_sort 4 = .ok (.iload 4, 2) := dk_21 4 (dk_at dksX0_sort_0 4 rfl rfl)
theorem dX0_sort_6 : decode cX0_sort 6 = .ok (.iconst 1, 1) := dk_4 (dk_at dksX0_sort_0 6 rfl rfl)
theorem dX0_sort_7 : decode cX0_sort 7 = .ok (.invokevirtual 644, 3) := dk_182 2 132 (dk_at dksX0_sort_0 7 rfl rfl)
theorem dX0_sort_10 : decode cX0_sort 10 = .ok (.ireturn, 1) := dk_172 (dk_at dksX0_sort_0 10 rfl rfl)
abbrev cX0_sorts : ByteArray := prog_1_method_73_code
def yX0_sorts : MethodName := ⟨RX0, "sorts", "(IIIIZ)I"⟩
def dkwX0_sorts_5 : List UInt8 := [42, 180, 1, 126, 27, 50, 25, 7, 21, 5, 182, 2, 128, 172]
abbrev dktX0_sorts_5 : List UInt8 := dkwX0_sorts_5 ++ []
def dkwX0_sorts_4 : List UInt8 := [2, 172, 25, 7, 21, 8, 42, 180, 2, 4, 25, 6, 21, 8, 46, 50, 83, 132, 8, 1, 167, 255, 181, 42]
abbrev dktX0_sorts_4 : List UInt8 := dkwX0_sorts_4 ++ dktX0_sorts_5
def dkwX0_sorts_3 : List UInt8 := [25, 6, 21, 8, 46, 50, 42, 180, 1, 126, 27, 50, 180, 1, 105, 21, 8, 46, 182, 2, 33, 154, 0, 5]
abbrev dktX0_sorts_3 : List UInt8 := dkwX0_sorts_3 ++ dktX0_sorts_4
def dkwX0_sorts_2 : List UInt8 := [180, 1, 98, 162, 0, 67, 42, 25, 6, 21, 8, 46, 182, 2, 30, 153, 0, 32, 42, 42, 180, 2, 4]
abbrev dktX0_sorts_2 : List UInt8 := dkwX0_sorts_2 ++ dktX0_sorts_3
def dkwX0_sorts_1 : List UInt8 := [21, 4, 79, 58, 6, 6, 189, 0, 18, 58, 7, 3, 54, 8, 21, 8, 42, 180, 1, 126, 27, 50]
abbrev dktX0_sorts_1 : List UInt8 := dkwX0_sorts_1 ++ dktX0_sorts_2
def dkwX0_sorts_0 : List UInt8 := [42, 27, 182, 1, 192, 154, 0, 5, 2, 172, 6, 188, 10, 89, 3, 28, 79, 89, 4, 29, 79, 89, 5]
abbrev dktX0_sorts_0 : List UInt8 := dkwX0_sorts_0 ++ dktX0_sorts_1
theorem dksX0_sorts_0 : cX0_sorts.data.toList.drop 0 = dktX0_sorts_0 := by decide +kernel
theorem dksX0_sorts_1 : cX0_sorts.data.toList.drop 23 = dktX0_sorts_1 := dk_seg dksX0_sorts_0 23 rfl rfl
theorem dksX0_sorts_2 : cX0_sorts.data.toList.drop 45 = dktX0_sorts_2 := dk_seg dksX0_sorts_1 22 rfl rfl
theorem dksX0_sorts_3 : cX0_sorts.data.toList.drop 68 = dktX0_sorts_3 := dk_seg dksX0_sorts_2 23 rfl rfl
theorem dksX0_sorts_4 : cX0_sorts.data.toList.drop 92 = dktX0_sorts_4 := dk_seg dksX0_sorts_3 24 rfl rfl
theorem dksX0_sorts_5 : cX0_sorts.data.toList.drop 116 = dktX0_sorts_5 := dk_seg dksX0_sorts_4 24 rfl rfl
theorem dX0_sorts_0 : decode cX0_sorts 0 = .ok (.aload_n 0, 1) := dk_42 (dk_at dksX0_sorts_0 0 rfl rfl)
theorem dX0_sorts_1 : decode cX0_sorts 1 = .ok (.iload_n 1, 1) := dk_27 (dk_at dksX0_sorts_0 1 rfl rfl)
theorem dX0_sorts_2 : decode cX0_sorts 2 = .ok (.invokevirtual 448, 3) := dk_182 1 192 (dk_at dksX0_sorts_0 2 rfl rfl)
theorem dX0_sorts_5 : decode cX0_sorts 5 = .ok (.ifCond .ne 5, 3) := dk_154 0 5 (dk_at dksX0_sorts_0 5 rfl rfl)
theorem dX0_sorts_8 : decode cX0_sorts 8 = .ok (.iconst (-1), 1) := dk_2 (dk_at dksX0_sorts_0 8 rfl rfl)
theorem dX0_sorts_9 : decode cX0_sorts 9 = .ok (.ireturn, 1) := dk_172 (dk_at dksX0_sorts_0 9 rfl rfl)
theorem dX0_sorts_10 : decode cX0_sorts 10 = .ok (.iconst 3, 1) := dk_6 (dk_at dksX0_sorts_0 10 rfl rfl)
theorem dX0_sorts_11 : decode cX0_sorts 11 = .ok (.newarray .int, 2) := dk_188_10 (dk_at dksX0_sorts_0 11 rfl rfl)
theorem dX0_sorts_13 : decode cX0_sorts 13 = .ok (.dup, 1) := dk_89 (dk_at dksX0_sorts_0 13 rfl rfl)
theorem dX0_sorts_14 : decode cX0_sorts 14 = .ok (.iconst 0, 1) := dk_3 (dk_at dksX0_sorts_0 14 rfl rfl)
theorem dX0_sorts_15 : decode cX0_sorts 15 = .ok (.iload_n 2, 1) := dk_28 (dk_at dksX0_sorts_0 15 rfl rfl)
theorem dX0_sorts_16 : decode cX0_sorts 16 = .ok (.iastore, 1) := dk_79 (dk_at dksX0_sorts_0 16 rfl rfl)
theorem dX0_sorts_17 : decode cX0_sorts 17 = .ok (.dup, 1) := dk_89 (dk_at dksX0_sorts_0 17 rfl rfl)
theorem dX0_sorts_18 : decode cX0_sorts 18 = .ok (.iconst 1, 1) := dk_4 (dk_at dksX0_sorts_0 18 rfl rfl)
theorem dX0_sorts_19 : decode cX0_sorts 19 = .ok (.iload_n 3, 1) := dk_29 (dk_at dksX0_sorts_0 19 rfl rfl)
theorem dX0_sorts_20 : decode cX0_sorts 20 = .ok (.iastore, 1) := dk_79 (dk_at dksX0_sorts_0 20 rfl rfl)
theorem dX0_sorts_21 : decode cX0_sorts 21 = .ok (.dup, 1) := dk_89 (dk_at dksX0_sorts_0 21 rfl rfl)
theorem dX0_sorts_22 : decode cX0_sorts 22 = .ok (.iconst 2, 1) := dk_5 (dk_at dksX0_sorts_0 22 rfl rfl)
theorem dX0_sorts_23 : decode cX0_sorts 23 = .ok (.iload 4, 2) := dk_21 4 (dk_at dksX0_sorts_1 0 rfl rfl)
theorem dX0_sorts_25 : decode cX0_sorts 25 = .ok (.iastore, 1) := dk_79 (dk_at dksX0_sorts_1 2 rfl rfl)
theorem dX0_sorts_26 : decode cX0_sorts 26 = .ok (.astore 6, 2) := dk_58 6 (dk_at dksX0_sorts_1 3 rfl rfl)
theorem dX0_sorts_28 : decode cX0_sorts 28 = .ok (.iconst 3, 1) := dk_6 (dk_at dksX0_sorts_1 5 rfl rfl)
theorem dX0_sorts_29 : decode cX0_sorts 29 = .ok (.anewarray 18, 3) := dk_189 0 18 (dk_at dksX0_sorts_1 6 rfl rfl)
theorem dX0_sorts_32 : decode cX0_sorts 32 = .ok (.astore 7, 2) := dk_58 7 (dk_at dksX0_sorts_1 9 rfl rfl)
theorem dX0_sorts_34 : decode cX0_sorts 34 = .ok (.iconst 0, 1) := dk_3 (dk_at dksX0_sorts_1 11 rfl rfl)
theorem dX0_sorts_35 : decode cX0_sorts 35 = .ok (.istore 8, 2) := dk_54 8 (dk_at dksX0_sorts_1 12 rfl rfl)
theorem dX0_sorts_37 : decode cX0_sorts 37 = .ok (.iload 8, 2) := dk_21 8 (dk_at dksX0_sorts_1 14 rfl rfl)
theorem dX0_sorts_39 : decode cX0_sorts 39 = .ok (.aload_n 0, 1) := dk_42 (dk_at dksX0_sorts_1 16 rfl rfl)
theorem dX0_sorts_40 : decode cX0_sorts 40 = .ok (.getfield 382, 3) := dk_180 1 126 (dk_at dksX0_sorts_1 17 rfl rfl)
theorem dX0_sorts_43 : decode cX0_sorts 43 = .ok (.iload_n 1, 1) := dk_27 (dk_at dksX0_sorts_1 20 rfl rfl)
theorem dX0_sorts_44 : decode cX0_sorts 44 = .ok (.aaload, 1) := dk_50 (dk_at dksX0_sorts_1 21 rfl rfl)
theorem dX0_sorts_45 : decode cX0_sorts 45 = .ok (.getfield 354, 3) := dk_180 1 98 (dk_at dksX0_sorts_2 0 rfl rfl)
theorem dX0_sorts_48 : decode cX0_sorts 48 = .ok (.if_icmp .ge 67, 3) := dk_162 0 67 (dk_at dksX0_sorts_2 3 rfl rfl)
theorem dX0_sorts_51 : decode cX0_sorts 51 = .ok (.aload_n 0, 1) := dk_42 (dk_at dksX0_sorts_2 6 rfl rfl)
theorem dX0_sorts_52 : decode cX0_sorts 52 = .ok (.aload 6, 2) := dk_25 6 (dk_at dksX0_sorts_2 7 rfl rfl)
theorem dX0_sorts_54 : decode cX0_sorts 54 = .ok (.iload 8, 2) := dk_21 8 (dk_at dksX0_sorts_2 9 rfl rfl)
theorem dX0_sorts_56 : decode cX0_sorts 56 = .ok (.iaload, 1) := dk_46 (dk_at dksX0_sorts_2 11 rfl rfl)
theorem dX0_sorts_57 : decode cX0_sorts 57 = .ok (.invokevirtual 542, 3) := dk_182 2 30 (dk_at dksX0_sorts_2 12 rfl rfl)
theorem dX0_sorts_60 : decode cX0_sorts 60 = .ok (.ifCond .eq 32, 3) := dk_153 0 32 (dk_at dksX0_sorts_2 15 rfl rfl)
theorem dX0_sorts_63 : decode cX0_sorts 63 = .ok (.aload_n 0, 1) := dk_42 (dk_at dksX0_sorts_2 18 rfl rfl)
theorem dX0_sorts_64 : decode cX0_sorts 64 = .ok (.aload_n 0, 1) := dk_42 (dk_at dksX0_sorts_2 19 rfl rfl)
theorem dX0_sorts_65 : decode cX0_sorts 65 = .ok (.getfield 516, 3) := dk_180 2 4 (dk_at dksX0_sorts_2 20 rfl rfl)
theorem dX0_sorts_68 : decode cX0_sorts 68 = .ok (.aload 6, 2) := dk_25 6 (dk_at dksX0_sorts_3 0 rfl rfl)
theorem dX0_sorts_70 : decode cX0_sorts 70 = .ok (.iload 8, 2) := dk_21 8 (dk_at dksX0_sorts_3 2 rfl rfl)
theorem dX0_sorts_72 : decode cX0_sorts 72 = .ok (.iaload, 1) := dk_46 (dk_at dksX0_sorts_3 4 rfl rfl)
theorem dX0_sorts_73 : decode cX0_sorts 73 = .ok (.aaload, 1) := dk_50 (dk_at dksX0_sorts_3 5 rfl rfl)
theorem dX0_sorts_74 : decode cX0_sorts 74 = .ok (.aload_n 0, 1) := dk_42 (dk_at dksX0_sorts_3 6 rfl rfl)
theorem dX0_sorts_75 : decode cX0_sorts 75 = .ok (.getfield 382, 3) := dk_180 1 126 (dk_at dksX0_sorts_3 7 rfl rfl)
theorem dX0_sorts_78 : decode cX0_sorts 78 = .ok (.iload_n 1, 1) := dk_27 (dk_at dksX0_sorts_3 10 rfl rfl)
theorem dX0_sorts_79 : decode cX0_sorts 79 = .ok (.aaload, 1) := dk_50 (dk_at dksX0_sorts_3 11 rfl rfl)
theorem dX0_sorts_80 : decode cX0_sorts 80 = .ok (.getfield 361, 3) := dk_180 1 105 (dk_at dksX0_sorts_3 12 rfl rfl)
theorem dX0_sorts_83 : decode cX0_sorts 83 = .ok (.iload 8, 2) := dk_21 8 (dk_at dksX0_sorts_3 15 rfl rfl)
theorem dX0_sorts_85 : decode cX0_sorts 85 = .ok (.iaload, 1) := dk_46 (dk_at dksX0_sorts_3 17 rfl rfl)
theorem dX0_sorts_86 : decode cX0_sorts 86 = .ok (.invokevirtual 545, 3) := dk_182 2 33 (dk_at dksX0_sorts_3 18 rfl rfl)
theorem dX0_sorts_89 : decode cX0_sorts 89 = .ok (.ifCond .ne 5, 3) := dk_154 0 5 (dk_at dksX0_sorts_3 21 rfl rfl)
theorem dX0_sorts_92 : decode cX0_sorts 92 = .ok (.iconst (-1), 1) := dk_2 (dk_at dksX0_sorts_4 0 rfl rfl)
theorem dX0_sorts_93 : decode cX0_sorts 93 = .ok (.ireturn, 1) := dk_172 (dk_at dksX0_sorts_4 1 rfl rfl)
theorem dX0_sorts_94 : decode cX0_sorts 94 = .ok (.aload 7, 2) := dk_25 7 (dk_at dksX0_sorts_4 2 rfl rfl)
theorem dX0_sorts_96 : decode cX0_sorts 96 = .ok (.iload 8, 2) := dk_21 8 (dk_at dksX0_sorts_4 4 rfl rfl)
theorem dX0_sorts_98 : decode cX0_sorts 98 = .ok (.aload_n 0, 1) := dk_42 (dk_at dksX0_sorts_4 6 rfl rfl)
theorem dX0_sorts_99 : decode cX0_sorts 99 = .ok (.getfield 516, 3) := dk_180 2 4 (dk_at dksX0_sorts_4 7 rfl rfl)
theorem dX0_sorts_102 : decode cX0_sorts 102 = .ok (.aload 6, 2) := dk_25 6 (dk_at dksX0_sorts_4 10 rfl rfl)
theorem dX0_sorts_104 : decode cX0_sorts 104 = .ok (.iload 8, 2) := dk_21 8 (dk_at dksX0_sorts_4 12 rfl rfl)
theorem dX0_sorts_106 : decode cX0_sorts 106 = .ok (.iaload, 1) := dk_46 (dk_at dksX0_sorts_4 14 rfl rfl)
theorem dX0_sorts_107 : decode cX0_sorts 107 = .ok (.aaload, 1) := dk_50 (dk_at dksX0_sorts_4 15 rfl rfl)
theorem dX0_sorts_108 : decode cX0_sorts 108 = .ok (.aastore, 1) := dk_83 (dk_at dksX0_sorts_4 16 rfl rfl)
theorem dX0_sorts_109 : decode cX0_sorts 109 = .ok (.iinc 8 1, 3) := dk_132 8 1 (dk_at dksX0_sorts_4 17 rfl rfl)
theorem dX0_sorts_112 : decode cX0_sorts 112 = .ok (.goto (-75), 3) := dk_167 255 181 (dk_at dksX0_sorts_4 20 rfl rfl)
theorem dX0_sorts_115 : decode cX0_sorts 115 = .ok (.aload_n 0, 1) := dk_42 (dk_at dksX0_sorts_4 23 rfl rfl)
theorem dX0_sorts_116 : decode cX0_sorts 116 = .ok (.aload_n 0, 1) := dk_42 (dk_at dksX0_sorts_5 0 rfl rfl)
theorem dX0_sorts_117 : decode cX0_sorts 117 = .ok (.getfield 382, 3) := dk_180 1 126 (dk_at dksX0_sorts_5 1 rfl rfl)
theorem dX0_sorts_120 : decode cX0_sorts 120 = .ok (.iload_n 1, 1) := dk_27 (dk_at dksX0_sorts_5 4 rfl rfl)
theorem dX0_sorts_121 : decode cX0_sorts 121 = .ok (.aaload, 1) := dk_50 (dk_at dksX0_sorts_5 5 rfl rfl)
theorem dX0_sorts_122 : decode cX0_sorts 122 = .ok (.aload 7, 2) := dk_25 7 (dk_at dksX0_sorts_5 6 rfl rfl)
theorem dX0_sorts_124 : decode cX0_sorts 124 = .ok (.iload 5, 2) := dk_21 5 (dk_at dksX0_sorts_5 8 rfl rfl)
theorem dX0_sorts_126 : decode cX0_sorts 126 = .ok (.invokevirtual 640, 3) := dk_182 2 128 (dk_at dksX0_sorts_5 10 rfl rfl)
theorem dX0_sorts_129 : decode cX0_sorts 129 = .ok (.ireturn, 1) := dk_172 (dk_at dksX0_sorts_5 13 rfl rfl)
abbrev cX0_run : ByteArray := prog_1_method_72_code
def yX0_run : MethodName := ⟨RX0, "run", "(LLetterPost$Function;[LLetterPost$Value;Z)I"⟩
def dkwX0_run_12 : List UInt8 := [16, 252, 167, 0, 10, 42, 180, 2, 108, 180, 1, 236, 172]
abbrev dktX0_run_12 : List UInt8 := dkwX0_run_12 ++ []
def dkwX0_run_11 : List UInt8 := [132, 8, 1, 167, 255, 226, 25, 7, 180, 1, 149, 58, 4, 167, 255, 23, 42, 180, 2, 108, 199, 0, 8]
abbrev dktX0_run_11 : List UInt8 := dkwX0_run_11 ++ dktX0_run_12
def dkwX0_run_10 : List UInt8 := [180, 1, 86, 190, 162, 0, 25, 25, 5, 21, 8, 25, 6, 25, 7, 180, 1, 86, 21, 8, 46, 50, 83]
abbrev dktX0_run_10 : List UInt8 := dkwX0_run_10 ++ dktX0_run_11
def dkwX0_run_9 : List UInt8 := [3, 25, 4, 16, 252, 182, 2, 118, 167, 0, 55, 6, 189, 0, 18, 58, 5, 3, 54, 8, 21, 8, 25, 7]
abbrev dktX0_run_9 : List UInt8 := dkwX0_run_9 ++ dktX0_run_10
def dkwX0_run_8 : List UInt8 := [25, 7, 180, 1, 236, 182, 2, 118, 167, 0, 79, 42, 180, 2, 55, 5, 46, 16, 100, 160, 0, 16, 42, 7]
abbrev dktX0_run_8 : List UInt8 := dkwX0_run_8 ++ dktX0_run_9
def dkwX0_run_7 : List UInt8 := [25, 6, 25, 7, 180, 1, 79, 50, 192, 2, 12, 180, 2, 125, 167, 0, 8, 25, 7, 180, 1, 70, 25, 4]
abbrev dktX0_run_7 : List UInt8 := dkwX0_run_7 ++ dktX0_run_8
def dkwX0_run_6 : List UInt8 := [25, 6, 181, 2, 122, 25, 7, 180, 1, 86, 199, 0, 48, 42, 3, 25, 7, 180, 1, 79, 155, 0, 20]
abbrev dktX0_run_6 : List UInt8 := dkwX0_run_6 ++ dktX0_run_7
def dkwX0_run_5 : List UInt8 := [182, 2, 118, 167, 0, 154, 42, 180, 2, 55, 5, 46, 4, 160, 0, 15, 42, 25, 7, 181, 2, 108, 42]
abbrev dktX0_run_5 : List UInt8 := dkwX0_run_5 ++ dktX0_run_6
def dkwX0_run_4 : List UInt8 := [25, 4, 42, 180, 2, 67, 6, 160, 0, 13, 42, 180, 2, 68, 180, 1, 236, 167, 0, 5, 16, 252]
abbrev dktX0_run_4 : List UInt8 := dkwX0_run_4 ++ dktX0_run_5
def dkwX0_run_3 : List UInt8 := [42, 25, 4, 25, 5, 25, 6, 182, 2, 115, 58, 7, 25, 7, 199, 0, 37, 42, 42, 180, 2, 67, 3]
abbrev dktX0_run_3 : List UInt8 := dkwX0_run_3 ++ dktX0_run_4
def dkwX0_run_2 : List UInt8 := [16, 8, 189, 0, 18, 58, 6, 29, 153, 0, 16, 42, 25, 4, 25, 5, 25, 6, 182, 2, 111, 167, 0, 13]
abbrev dktX0_run_2 : List UInt8 := dkwX0_run_2 ++ dktX0_run_3
def dkwX0_run_1 : List UInt8 := [181, 2, 108, 42, 3, 181, 2, 67, 43, 58, 4, 44, 58, 5, 42, 180, 2, 55, 5, 92, 46, 4, 96, 79]
abbrev dktX0_run_1 : List UInt8 := dkwX0_run_1 ++ dktX0_run_2
def dkwX0_run_0 : List UInt8 := [42, 180, 2, 55, 5, 3, 79, 42, 180, 2, 55, 6, 3, 79, 42, 180, 2, 55, 7, 3, 79, 42, 1]
abbrev dktX0_run_0 : List UInt8 := dkwX0_run_0 ++ dktX0_run_1
theorem dksX0_run_0 : cX0_run.data.toList.drop 0 = dktX0_run_0 := by decide +kernel
theorem dksX0_run_1 : cX0_run.data.toList.drop 23 = dktX0_run_1 := dk_seg dksX0_run_0 23 rfl rfl
theorem dksX0_run_2 : cX0_run.data.toList.drop 47 = dktX0_run_2 := dk_seg dksX0_run_1 24 rfl rfl
theorem dksX0_run_3 : cX0_run.data.toList.drop 71 = dktX0_run_3 := dk_seg dksX0_run_2 24 rfl rfl
theorem dksX0_run_4 : cX0_run.data.toList.drop 94 = dktX0_run_4 := dk_seg dksX0_run_3 23 rfl rfl
theorem dksX0_run_5 : cX0_run.data.toList.drop 116 = dktX0_run_5 := dk_seg dksX0_run_4 22 rfl rfl
theorem dksX0_run_6 : cX0_run.data.toList.drop 139 = dktX0_run_6 := dk_seg dksX0_run_5 23 rfl rfl
theorem dksX0_run_7 : cX0_run.data.toList.drop 162 = dktX0_run_7 := dk_seg dksX0_run_6 23 rfl rfl
theorem dksX0_run_8 : cX0_run.data.toList.drop 186 = dktX0_run_8 := dk_seg dksX0_run_7 24 rfl rfl
theorem dksX0_run_9 : cX0_run.data.toList.drop 210 = dktX0_run_9 := dk_seg dksX0_run_8 24 rfl rfl
theorem dksX0_run_10 : cX0_run.data.toList.drop 234 = dktX0_run_10 := dk_seg dksX0_run_9 24 rfl rfl
theorem dksX0_run_11 : cX0_run.data.toList.drop 257 = dktX0_run_11 := dk_seg dksX0_run_10 23 rfl rfl
theorem dksX0_run_12 : cX0_run.data.toList.drop 280 = dktX0_run_12 := dk_seg dksX0_run_11 23 rfl rfl
theorem dX0_run_0 : decode cX0_run 0 = .ok (.aload_n 0, 1) := dk_42 (dk_at dksX0_run_0 0 rfl rfl)
theorem dX0_run_1 : decode cX0_run 1 = .ok (.getfield 567, 3) := dk_180 2 55 (dk_at dksX0_run_0 1 rfl rfl)
theorem dX0_run_4 : decode cX0_run 4 = .ok (.iconst 2, 1) := dk_5 (dk_at dksX0_run_0 4 rfl rfl)
theorem dX0_run_5 : decode cX0_run 5 = .ok (.iconst 0, 1) := dk_3 (dk_at dksX0_run_0 5 rfl rfl)
theorem dX0_run_6 : decode cX0_run 6 = .ok (.iastore, 1) := dk_79 (dk_at dksX0_run_0 6 rfl rfl)
theorem dX0_run_7 : decode cX0_run 7 = .ok (.aload_n 0, 1) := dk_42 (dk_at dksX0_run_0 7 rfl rfl)
theorem dX0_run_8 : decode cX0_run 8 = .ok (.getfield 567, 3) := dk_180 2 55 (dk_at dksX0_run_0 8 rfl rfl)
theorem dX0_run_11 : decode cX0_run 11 = .ok (.iconst 3, 1) := dk_6 (dk_at dksX0_run_0 11 rfl rfl)
theorem dX0_run_12 : decode cX0_run 12 = .ok (.iconst 0, 1) := dk_3 (dk_at dksX0_run_0 12 rfl rfl)
theorem dX0_run_13 : decode cX0_run 13 = .ok (.iastore, 1) := dk_79 (dk_at dksX0_run_0 13 rfl rfl)
theorem dX0_run_14 : decode cX0_run 14 = .ok (.aload_n 0, 1) := dk_42 (dk_at dksX0_run_0 14 rfl rfl)
theorem dX0_run_15 : decode cX0_run 15 = .ok (.getfield 567, 3) := dk_180 2 55 (dk_at dksX0_run_0 15 rfl rfl)
theorem dX0_run_18 : decode cX0_run 18 = .ok (.iconst 4, 1) := dk_7 (dk_at dksX0_run_0 18 rfl rfl)
theorem dX0_run_19 : decode cX0_run 19 = .ok (.iconst 0, 1) := dk_3 (dk_at dksX0_run_0 19 rfl rfl)
theorem dX0_run_20 : decode cX0_run 20 = .ok (.iastore, 1) := dk_79 (dk_at dksX0_run_0 20 rfl rfl)
theorem dX0_run_21 : decode cX0_run 21 = .ok (.aload_n 0, 1) := dk_42 (dk_at dksX0_run_0 21 rfl rfl)
theorem dX0_run_22 : decode cX0_run 22 = .ok (.aconst_null, 1) := dk_1 (dk_at dksX0_run_0 22 rfl rfl)
theorem dX0_run_23 : decode cX0_run 23 = .ok (.putfield 620, 3) := dk_181 2 108 (dk_at dksX0_run_1 0 rfl rfl)
theorem dX0_run_26 : decode cX0_run 26 = .ok (.aload_n 0, 1) := dk_42 (dk_at dksX0_run_1 3 rfl rfl)
theorem dX0_run_27 : decode cX0_run 27 = .ok (.iconst 0, 1) := dk_3 (dk_at dksX0_run_1 4 rfl rfl)
theorem dX0_run_28 : decode cX0_run 28 = .ok (.putfield 579, 3) := dk_181 2 67 (dk_at dksX0_run_1 5 rfl rfl)
theorem dX0_run_31 : decode cX0_run 31 = .ok (.aload_n 1, 1) := dk_43 (dk_at dksX0_run_1 8 rfl rfl)
theorem dX0_run_32 : decode cX0_run 32 = .ok (.astore 4, 2) := dk_58 4 (dk_at dksX0_run_1 9 rfl rfl)
theorem dX0_run_34 : decode cX0_run 34 = .ok (.aload_n 2, 1) := dk_44 (dk_at dksX0_run_1 11 rfl rfl)
theorem dX0_run_35 : decode cX0_run 35 = .ok (.astore 5, 2) := dk_58 5 (dk_at dksX0_run_1 12 rfl rfl)
theorem dX0_run_37 : decode cX0_run 37 = .ok (.aload_n 0, 1) := dk_42 (dk_at dksX0_run_1 14 rfl rfl)
theorem dX0_run_38 : decode cX0_run 38 = .ok (.getfield 567, 3) := dk_180 2 55 (dk_at dksX0_run_1 15 rfl rfl)
theorem dX0_run_41 : decode cX0_run 41 = .ok (.iconst 2, 1) := dk_5 (dk_at dksX0_run_1 18 rfl rfl)
theorem dX0_run_42 : decode cX0_run 42 = .ok (.dup2, 1) := dk_92 (dk_at dksX0_run_1 19 rfl rfl)
theorem dX0_run_43 : decode cX0_run 43 = .ok (.iaload, 1) := dk_46 (dk_at dksX0_run_1 20 rfl rfl)
theorem dX0_run_44 : decode cX0_run 44 = .ok (.iconst 1, 1) := dk_4 (dk_at dksX0_run_1 21 rfl rfl)
theorem dX0_run_45 : decode cX0_run 45 = .ok (.iadd, 1) := dk_96 (dk_at dksX0_run_1 22 rfl rfl)
theorem dX0_run_46 : decode cX0_run 46 = .ok (.iastore, 1) := dk_79 (dk_at dksX0_run_1 23 rfl rfl)
theorem dX0_run_47 : decode cX0_run 47 = .ok (.bipush 8, 2) := dk_16 8 (dk_at dksX0_run_2 0 rfl rfl)
theorem dX0_run_49 : decode cX0_run 49 = .ok (.anewarray 18, 3) := dk_189 0 18 (dk_at dksX0_run_2 2 rfl rfl)
theorem dX0_run_52 : decode cX0_run 52 = .ok (.astore 6, 2) := dk_58 6 (dk_at dksX0_run_2 5 rfl rfl)
theorem dX0_run_54 : decode cX0_run 54 = .ok (.iload_n 3, 1) := dk_29 (dk_at dksX0_run_2 7 rfl rfl)
theorem dX0_run_55 : decode cX0_run 55 = .ok (.ifCond .eq 16, 3) := dk_153 0 16 (dk_at dksX0_run_2 8 rfl rfl)
theorem dX0_run_58 : decode cX0_run 58 = .ok (.aload_n 0, 1) := dk_42 (dk_at dksX0_run_2 11 rfl rfl)
theorem dX0_run_59 : decode cX0_run 59 = .ok (.aload 4, 2) := dk_25 4 (dk_at dksX0_run_2 12 rfl rfl)
theorem dX0_run_61 : decode cX0_run 61 = .ok (.aload 5, 2) := dk_25 5 (dk_at dksX0_run_2 14 rfl rfl)
theorem dX0_run_63 : decode cX0_run 63 = .ok (.aload 6, 2) := dk_25 6 (dk_at dksX0_run_2 16 rfl rfl)
theorem dX0_run_65 : decode cX0_run 65 = .ok (.invokevirtual 623, 3) := dk_182 2 111 (dk_at dksX0_run_2 18 rfl rfl)
theorem dX0_run_68 : decode cX0_run 68 = .ok (.goto 13, 3) := dk_167 0 13 (dk_at dksX0_run_2 21 rfl rfl)
theorem dX0_run_71 : decode cX0_run 71 = .ok (.aload_n 0, 1) := dk_42 (dk_at dksX0_run_3 0 rfl rfl)
theorem dX0_run_72 : decode cX0_run 72 = .ok (.aload 4, 2) := dk_25 4 (dk_at dksX0_run_3 1 rfl rfl)
theorem dX0_run_74 : decode cX0_run 74 = .ok (.aload 5, 2) := dk_25 5 (dk_at dksX0_run_3 3 rfl rfl)
theorem dX0_run_76 : decode cX0_run 76 = .ok (.aload 6, 2) := dk_25 6 (dk_at dksX0_run_3 5 rfl rfl)
theorem dX0_run_78 : decode cX0_run 78 = .ok (.invokevirtual 627, 3) := dk_182 2 115 (dk_at dksX0_run_3 7 rfl rfl)
theorem dX0_run_81 : decode cX0_run 81 = .ok (.astore 7, 2) := dk_58 7 (dk_at dksX0_run_3 10 rfl rfl)
theorem dX0_run_83 : decode cX0_run 83 = .ok (.aload 7, 2) := dk_25 7 (dk_at dksX0_run_3 12 rfl rfl)
theorem dX0_run_85 : decode cX0_run 85 = .ok (.ifnonnull 37, 3) := dk_199 0 37 (dk_at dksX0_run_3 14 rfl rfl)
theorem dX0_run_88 : decode cX0_run 88 = .ok (.aload_n 0, 1) := dk_42 (dk_at dksX0_run_3 17 rfl rfl)
theorem dX0_run_89 : decode cX0_run 89 = .ok (.aload_n 0, 1) := dk_42 (dk_at dksX0_run_3 18 rfl rfl)
theorem dX0_run_90 : decode cX0_run 90 = .ok (.getfield 579, 3) := dk_180 2 67 (dk_at dksX0_run_3 19 rfl rfl)
theorem dX0_run_93 : decode cX0_run 93 = .ok (.iconst 0, 1) := dk_3 (dk_at dksX0_run_3 22 rfl rfl)
theorem dX0_run_94 : decode cX0_run 94 = .ok (.aload 4, 2) := dk_25 4 (dk_at dksX0_run_4 0 rfl rfl)
theorem dX0_run_96 : decode cX0_run 96 = .ok (.aload_n 0, 1) := dk_42 (dk_at dksX0_run_4 2 rfl rfl)
theorem dX0_run_97 : decode cX0_run 97 = .ok (.getfield 579, 3) := dk_180 2 67 (dk_at dksX0_run_4 3 rfl rfl)
theorem dX0_run_100 : decode cX0_run 100 = .ok (.iconst 3, 1) := dk_6 (dk_at dksX0_run_4 6 rfl rfl)
theorem dX0_run_101 : decode cX0_run 101 = .ok (.if_icmp .ne 13, 3) := dk_160 0 13 (dk_at dksX0_run_4 7 rfl rfl)
theorem dX0_run_104 : decode cX0_run 104 = .ok (.aload_n 0, 1) := dk_42 (dk_at dksX0_run_4 10 rfl rfl)
theorem dX0_run_105 : decode cX0_run 105 = .ok (.getfield 580, 3) := dk_180 2 68 (dk_at dksX0_run_4 11 rfl rfl)
theorem dX0_run_108 : decode cX0_run 108 = .ok (.getfield 492, 3) := dk_180 1 236 (dk_at dksX0_run_4 14 rfl rfl)
theorem dX0_run_111 : decode cX0_run 111 = .ok (.goto 5, 3) := dk_167 0 5 (dk_at dksX0_run_4 17 rfl rfl)
theorem dX0_run_114 : decode cX0_run 114 = .ok (.bipush (-4), 2) := dk_16 252 (dk_at dksX0_run_4 20 rfl rfl)
theorem dX0_run_116 : decode cX0_run 116 = .ok (.invokevirtual 630, 3) := dk_182 2 118 (dk_at dksX0_run_5 0 rfl rfl)
theorem dX0_run_119 : decode cX0_run 119 = .ok (.goto 154, 3) := dk_167 0 154 (dk_at dksX0_run_5 3 rfl rfl)
theorem dX0_run_122 : decode cX0_run 122 = .ok (.aload_n 0, 1) := dk_42 (dk_at dksX0_run_5 6 rfl rfl)
theorem dX0_run_123 : decode cX0_run 123 = .ok (.getfield 567, 3) := dk_180 2 55 (dk_at dksX0_run_5 7 rfl rfl)
theorem dX0_run_126 : decode cX0_run 126 = .ok (.iconst 2, 1) := dk_5 (dk_at dksX0_run_5 10 rfl rfl)
theorem dX0_run_127 : decode cX0_run 127 = .ok (.iaload, 1) := dk_46 (dk_at dksX0_run_5 11 rfl rfl)
theorem dX0_run_128 : decode cX0_run 128 = .ok (.iconst 1, 1) := dk_4 (dk_at dksX0_run_5 12 rfl rfl)
theorem dX0_run_129 : decode cX0_run 129 = .ok (.if_icmp .ne 15, 3) := dk_160 0 15 (dk_at dksX0_run_5 13 rfl rfl)
theorem dX0_run_132 : decode cX0_run 132 = .ok (.aload_n 0, 1) := dk_42 (dk_at dksX0_run_5 16 rfl rfl)
theorem dX0_run_133 : decode cX0_run 133 = .ok (.aload 7, 2) := dk_25 7 (dk_at dksX0_run_5 17 rfl rfl)
theorem dX0_run_135 : decode cX0_run 135 = .ok (.putfield 620, 3) := dk_181 2 108 (dk_at dksX0_run_5 19 rfl rfl)
theorem dX0_run_138 : decode cX0_run 138 = .ok (.aload_n 0, 1) := dk_42 (dk_at dksX0_run_5 22 rfl rfl)
theorem dX0_run_139 : decode cX0_run 139 = .ok (.aload 6, 2) := dk_25 6 (dk_at dksX0_run_6 0 rfl rfl)
theorem dX0_run_141 : decode cX0_run 141 = .ok (.putfield 634, 3) := dk_181 2 122 (dk_at dksX0_run_6 2 rfl rfl)
theorem dX0_run_144 : decode cX0_run 144 = .ok (.aload 7, 2) := dk_25 7 (dk_at dksX0_run_6 5 rfl rfl)
theorem dX0_run_146 : decode cX0_run 146 = .ok (.getfield 342, 3) := dk_180 1 86 (dk_at dksX0_run_6 7 rfl rfl)
theorem dX0_run_149 : decode cX0_run 149 = .ok (.ifnonnull 48, 3) := dk_199 0 48 (dk_at dksX0_run_6 10 rfl rfl)
theorem dX0_run_152 : decode cX0_run 152 = .ok (.aload_n 0, 1) := dk_42 (dk_at dksX0_run_6 13 rfl rfl)
theorem dX0_run_153 : decode cX0_run 153 = .ok (.iconst 0, 1) := dk_3 (dk_at dksX0_run_6 14 rfl rfl)
theorem dX0_run_154 : decode cX0_run 154 = .ok (.aload 7, 2) := dk_25 7 (dk_at dksX0_run_6 15 rfl rfl)
theorem dX0_run_156 : decode cX0_run 156 = .ok (.getfield 335, 3) := dk_180 1 79 (dk_at dksX0_run_6 17 rfl rfl)
theorem dX0_run_159 : decode cX0_run 159 = .ok (.ifCond .lt 20, 3) := dk_155 0 20 (dk_at dksX0_run_6 20 rfl rfl)
theorem dX0_run_162 : decode cX0_run 162 = .ok (.aload 6, 2) := dk_25 6 (dk_at dksX0_run_7 0 rfl rfl)
theorem dX0_run_164 : decode cX0_run 164 = .ok (.aload 7, 2) := dk_25 7 (dk_at dksX0_run_7 2 rfl rfl)
theorem dX0_run_166 : decode cX0_run 166 = .ok (.getfield 335, 3) := dk_180 1 79 (dk_at dksX0_run_7 4 rfl rfl)
theorem dX0_run_169 : decode cX0_run 169 = .ok (.aaload, 1) := dk_50 (dk_at dksX0_run_7 7 rfl rfl)
theorem dX0_run_170 : decode cX0_run 170 = .ok (.checkcast 524, 3) := dk_192 2 12 (dk_at dksX0_run_7 8 rfl rfl)
theorem dX0_run_173 : decode cX0_run 173 = .ok (.getfield 637, 3) := dk_180 2 125 (dk_at dksX0_run_7 11 rfl rfl)
theorem dX0_run_176 : decode cX0_run 176 = .ok (.goto 8, 3) := dk_167 0 8 (dk_at dksX0_run_7 14 rfl rfl)
theorem dX0_run_179 : decode cX0_run 179 = .ok (.aload 7, 2) := dk_25 7 (dk_at dksX0_run_7 17 rfl rfl)
theorem dX0_run_181 : decode cX0_run 181 = .ok (.getfield 326, 3) := dk_180 1 70 (dk_at dksX0_run_7 19 rfl rfl)
theorem dX0_run_184 : decode cX0_run 184 = .ok (.aload 4, 2) := dk_25 4 (dk_at dksX0_run_7 22 rfl rfl)
theorem dX0_run_186 : decode cX0_run 186 = .ok (.aload 7, 2) := dk_25 7 (dk_at dksX0_run_8 0 rfl rfl)
theorem dX0_run_188 : decode cX0_run 188 = .ok (.getfield 492, 3) := dk_180 1 236 (dk_at dksX0_run_8 2 rfl rfl)
theorem dX0_run_191 : decode cX0_run 191 = .ok (.invokevirtual 630, 3) := dk_182 2 118 (dk_at dksX0_run_8 5 rfl rfl)
theorem dX0_run_194 : decode cX0_run 194 = .ok (.goto 79, 3) := dk_167 0 79 (dk_at dksX0_run_8 8 rfl rfl)
theorem dX0_run_197 : decode cX0_run 197 = .ok (.aload_n 0, 1) := dk_42 (dk_at dksX0_run_8 11 rfl rfl)
theorem dX0_run_198 : decode cX0_run 198 = .ok (.getfield 567, 3) := dk_180 2 55 (dk_at dksX0_run_8 12 rfl rfl)
theorem dX0_run_201 : decode cX0_run 201 = .ok (.iconst 2, 1) := dk_5 (dk_at dksX0_run_8 15 rfl rfl)
theorem dX0_run_202 : decode cX0_run 202 = .ok (.iaload, 1) := dk_46 (dk_at dksX0_run_8 16 rfl rfl)
theorem dX0_run_203 : decode cX0_run 203 = .ok (.bipush 100, 2) := dk_16 100 (dk_at dksX0_run_8 17 rfl rfl)
theorem dX0_run_205 : decode cX0_run 205 = .ok (.if_icmp .ne 16, 3) := dk_160 0 16 (dk_at dksX0_run_8 19 rfl rfl)
theorem dX0_run_208 : decode cX0_run 208 = .ok (.aload_n 0, 1) := dk_42 (dk_at dksX0_run_8 22 rfl rfl)
theorem dX0_run_209 : decode cX0_run 209 = .ok (.iconst 4, 1) := dk_7 (dk_at dksX0_run_8 23 rfl rfl)
theorem dX0_run_210 : decode cX0_run 210 = .ok (.iconst 0, 1) := dk_3 (dk_at dksX0_run_9 0 rfl rfl)
theorem dX0_run_211 : decode cX0_run 211 = .ok (.aload 4, 2) := dk_25 4 (dk_at dksX0_run_9 1 rfl rfl)
theorem dX0_run_213 : decode cX0_run 213 = .ok (.bipush (-4), 2) := dk_16 252 (dk_at dksX0_run_9 3 rfl rfl)
theorem dX0_run_215 : decode cX0_run 215 = .ok (.invokevirtual 630, 3) := dk_182 2 118 (dk_at dksX0_run_9 5 rfl rfl)
theorem dX0_run_218 : decode cX0_run 218 = .ok (.goto 55, 3) := dk_167 0 55 (dk_at dksX0_run_9 8 rfl rfl)
theorem dX0_run_221 : decode cX0_run 221 = .ok (.iconst 3, 1) := dk_6 (dk_at dksX0_run_9 11 rfl rfl)
theorem dX0_run_222 : decode cX0_run 222 = .ok (.anewarray 18, 3) := dk_189 0 18 (dk_at dksX0_run_9 12 rfl rfl)
theorem dX0_run_225 : decode cX0_run 225 = .ok (.astore 5, 2) := dk_58 5 (dk_at dksX0_run_9 15 rfl rfl)
theorem dX0_run_227 : decode cX0_run 227 = .ok (.iconst 0, 1) := dk_3 (dk_at dksX0_run_9 17 rfl rfl)
theorem dX0_run_228 : decode cX0_run 228 = .ok (.istore 8, 2) := dk_54 8 (dk_at dksX0_run_9 18 rfl rfl)
theorem dX0_run_230 : decode cX0_run 230 = .ok (.iload 8, 2) := dk_21 8 (dk_at dksX0_run_9 20 rfl rfl)
theorem dX0_run_232 : decode cX0_run 232 = .ok (.aload 7, 2) := dk_25 7 (dk_at dksX0_run_9 22 rfl rfl)
theorem dX0_run_234 : decode cX0_run 234 = .ok (.getfield 342, 3) := dk_180 1 86 (dk_at dksX0_run_10 0 rfl rfl)
theorem dX0_run_237 : decode cX0_run 237 = .ok (.arraylength, 1) := dk_190 (dk_at dksX0_run_10 3 rfl rfl)
theorem dX0_run_238 : decode cX0_run 238 = .ok (.if_icmp .ge 25, 3) := dk_162 0 25 (dk_at dksX0_run_10 4 rfl rfl)
theorem dX0_run_241 : decode cX0_run 241 = .ok (.aload 5, 2) := dk_25 5 (dk_at dksX0_run_10 7 rfl rfl)
theorem dX0_run_243 : decode cX0_run 243 = .ok (.iload 8, 2) := dk_21 8 (dk_at dksX0_run_10 9 rfl rfl)
theorem dX0_run_245 : decode cX0_run 245 = .ok (.aload 6, 2) := dk_25 6 (dk_at dksX0_run_10 11 rfl rfl)
theorem dX0_run_247 : decode cX0_run 247 = .ok (.aload 7, 2) := dk_25 7 (dk_at dksX0_run_10 13 rfl rfl)
theorem dX0_run_249 : decode cX0_run 249 = .ok (.getfield 342, 3) := dk_180 1 86 (dk_at dksX0_run_10 15 rfl rfl)
theorem dX0_run_252 : decode cX0_run 252 = .ok (.iload 8, 2) := dk_21 8 (dk_at dksX0_run_10 18 rfl rfl)
theorem dX0_run_254 : decode cX0_run 254 = .ok (.iaload, 1) := dk_46 (dk_at dksX0_run_10 20 rfl rfl)
theorem dX0_run_255 : decode cX0_run 255 = .ok (.aaload, 1) := dk_50 (dk_at dksX0_run_10 21 rfl rfl)
theorem dX0_run_256 : decode cX0_run 256 = .ok (.aastore, 1) := dk_83 (dk_at dksX0_run_10 22 rfl rfl)
theorem dX0_run_257 : decode cX0_run 257 = .ok (.iinc 8 1, 3) := dk_132 8 1 (dk_at dksX0_run_11 0 rfl rfl)
theorem dX0_run_260 : decode cX0_run 260 = .ok (.goto (-30), 3) := dk_167 255 226 (dk_at dksX0_run_11 3 rfl rfl)
theorem dX0_run_263 : decode cX0_run 263 = .ok (.aload 7, 2) := dk_25 7 (dk_at dksX0_run_11 6 rfl rfl)
theorem dX0_run_265 : decode cX0_run 265 = .ok (.getfield 405, 3) := dk_180 1 149 (dk_at dksX0_run_11 8 rfl rfl)
theorem dX0_run_268 : decode cX0_run 268 = .ok (.astore 4, 2) := dk_58 4 (dk_at dksX0_run_11 11 rfl rfl)
theorem dX0_run_270 : decode cX0_run 270 = .ok (.goto (-233), 3) := dk_167 255 23 (dk_at dksX0_run_11 13 rfl rfl)
theorem dX0_run_273 : decode cX0_run 273 = .ok (.aload_n 0, 1) := dk_42 (dk_at dksX0_run_11 16 rfl rfl)
theorem dX0_run_274 : decode cX0_run 274 = .ok (.getfield 620, 3) := dk_180 2 108 (dk_at dksX0_run_11 17 rfl rfl)
theorem dX0_run_277 : decode cX0_run 277 = .ok (.ifnonnull 8, 3) := dk_199 0 8 (dk_at dksX0_run_11 20 rfl rfl)
theorem dX0_run_280 : decode cX0_run 280 = .ok (.bipush (-4), 2) := dk_16 252 (dk_at dksX0_run_12 0 rfl rfl)
theorem dX0_run_282 : decode cX0_run 282 = .ok (.goto 10, 3) := dk_167 0 10 (dk_at dksX0_run_12 2 rfl rfl)
theorem dX0_run_285 : decode cX0_run 285 = .ok (.aload_n 0, 1) := dk_42 (dk_at dksX0_run_12 5 rfl rfl)
theorem dX0_run_286 : decode cX0_run 286 = .ok (.getfield 620, 3) := dk_180 2 108 (dk_at dksX0_run_12 6 rfl rfl)
theorem dX0_run_289 : decode cX0_run 289 = .ok (.getfield 492, 3) := dk_180 1 236 (dk_at dksX0_run_12 9 rfl rfl)
theorem dX0_run_292 : decode cX0_run 292 = .ok (.ireturn, 1) := dk_172 (dk_at dksX0_run_12 12 rfl rfl)
abbrev cX0_byTree : ByteArray := prog_1_method_69_code
def yX0_byTree : MethodName := ⟨RX0, "byTree", "(LLetterPost$Function;[LLetterPost$Value;[LLetterPost$Value;)LLetterPost$Rule;"⟩
def dkwX0_byTree_5 : List UInt8 := [180, 2, 67, 181, 2, 67, 167, 255, 139, 42, 4, 181, 2, 67, 167, 255, 131, 1, 176]
abbrev dktX0_byTree_5 : List UInt8 := dkwX0_byTree_5 ++ []
def dkwX0_byTree_4 : List UInt8 := [4, 96, 79, 25, 4, 44, 182, 2, 97, 58, 4, 42, 25, 4, 199, 0, 7, 5, 167, 0, 7, 42]
abbrev dktX0_byTree_4 : List UInt8 := dkwX0_byTree_4 ++ dktX0_byTree_5
def dkwX0_byTree_3 : List UInt8 := [44, 182, 2, 91, 58, 4, 167, 255, 185, 25, 4, 193, 2, 95, 153, 0, 41, 42, 180, 2, 55, 6, 92, 46]
abbrev dktX0_byTree_3 : List UInt8 := dkwX0_byTree_3 ++ dktX0_byTree_4
def dkwX0_byTree_2 : List UInt8 := [180, 2, 79, 180, 2, 83, 45, 182, 2, 87, 153, 0, 12, 25, 5, 180, 2, 79, 180, 2, 83, 176, 25, 5]
abbrev dktX0_byTree_2 : List UInt8 := dkwX0_byTree_2 ++ dktX0_byTree_3
def dkwX0_byTree_1 : List UInt8 := [192, 2, 72, 58, 5, 25, 5, 44, 45, 182, 2, 74, 25, 5, 193, 2, 77, 153, 0, 20, 42, 43, 25, 5]
abbrev dktX0_byTree_1 : List UInt8 := dkwX0_byTree_1 ++ dktX0_byTree_2
def dkwX0_byTree_0 : List UInt8 := [43, 180, 1, 197, 58, 4, 42, 180, 2, 67, 154, 0, 124, 25, 4, 193, 2, 72, 153, 0, 62, 25, 4]
abbrev dktX0_byTree_0 : List UInt8 := dkwX0_byTree_0 ++ dktX0_byTree_1
theorem dksX0_byTree_0 : cX0_byTree.data.toList.drop 0 = dktX0_byTree_0 := by decide +kernel
theorem dksX0_byTree_1 : cX0_byTree.data.toList.drop 23 = dktX0_byTree_1 := dk_seg dksX0_byTree_0 23 rfl rfl
theorem dksX0_byTree_2 : cX0_byTree.data.toList.drop 47 = dktX0_byTree_2 := dk_seg dksX0_byTree_1 24 rfl rfl
theorem dksX0_byTree_3 : cX0_byTree.data.toList.drop 71 = dktX0_byTree_3 := dk_seg dksX0_byTree_2 24 rfl rfl
theorem dksX0_byTree_4 : cX0_byTree.data.toList.drop 95 = dktX0_byTree_4 := dk_seg dksX0_byTree_3 24 rfl rfl
theorem dksX0_byTree_5 : cX0_byTree.data.toList.drop 117 = dktX0_byTree_5 := dk_seg dksX0_byTree_4 22 rfl rfl
theorem dX0_byTree_0 : decode cX0_byTree 0 = .ok (.aload_n 1, 1) := dk_43 (dk_at dksX0_byTree_0 0 rfl rfl)
theorem dX0_byTree_1 : decode cX0_byTree 1 = .ok (.getfield 453, 3) := dk_180 1 197 (dk_at dksX0_byTree_0 1 rfl rfl)
theorem dX0_byTree_4 : decode cX0_byTree 4 = .ok (.astore 4, 2) := dk_58 4 (dk_at dksX0_byTree_0 4 rfl rfl)
theorem dX0_byTree_6 : decode cX0_byTree 6 = .ok (.aload_n 0, 1) := dk_42 (dk_at dksX0_byTree_0 6 rfl rfl)
theorem dX0_byTree_7 : decode cX0_byTree 7 = .ok (.getfield 579, 3) := dk_180 2 67 (dk_at dksX0_byTree_0 7 rfl rfl)
theorem dX0_byTree_10 : decode cX0_byTree 10 = .ok (.ifCond .ne 124, 3) := dk_154 0 124 (dk_at dksX0_byTree_0 10 rfl rfl)
theorem dX0_byTree_13 : decode cX0_byTree 13 = .ok (.aload 4, 2) := dk_25 4 (dk_at dksX0_byTree_0 13 rfl rfl)
theorem dX0_byTree_15 : decode cX0_byTree 15 = .ok (.instanceof 584, 3) := dk_193 2 72 (dk_at dksX0_byTree_0 15 rfl rfl)
theorem dX0_byTree_18 : decode cX0_byTree 18 = .ok (.ifCond .eq 62, 3) := dk_153 0 62 (dk_at dksX0_byTree_0 18 rfl rfl)
theorem dX0_byTree_21 : decode cX0_byTree 21 = .ok (.aload 4, 2) := dk_25 4 (dk_at dksX0_byTree_0 21 rfl rfl)
theorem dX0_byTree_23 : decode cX0_byTree 23 = .ok (.checkcast 584, 3) := dk_192 2 72 (dk_at dksX0_byTree_1 0 rfl rfl)
theorem dX0_byTree_26 : decode cX0_byTree 26 = .ok (.astore 5, 2) := dk_58 5 (dk_at dksX0_byTree_1 3 rfl rfl)
theorem dX0_byTree_28 : decode cX0_byTree 28 = .ok (.aload 5, 2) := dk_25 5 (dk_at dksX0_byTree_1 5 rfl rfl)
theorem dX0_byTree_30 : decode cX0_byTree 30 = .ok (.aload_n 2, 1) := dk_44 (dk_at dksX0_byTree_1 7 rfl rfl)
theorem dX0_byTree_31 : decode cX0_byTree 31 = .ok (.aload_n 3, 1) := dk_45 (dk_at dksX0_byTree_1 8 rfl rfl)
theorem dX0_byTree_32 : decode cX0_byTree 32 = .ok (.invokevirtual 586, 3) := dk_182 2 74 (dk_at dksX0_byTree_1 9 rfl rfl)
theorem dX0_byTree_35 : decode cX0_byTree 35 = .ok (.aload 5, 2) := dk_25 5 (dk_at dksX0_byTree_1 12 rfl rfl)
theorem dX0_byTree_37 : decode cX0_byTree 37 = .ok (.instanceof 589, 3) := dk_193 2 77 (dk_at dksX0_byTree_1 14 rfl rfl)
theorem dX0_byTree_40 : decode cX0_byTree 40 = .ok (.ifCond .eq 20, 3) := dk_153 0 20 (dk_at dksX0_byTree_1 17 rfl rfl)
theorem dX0_byTree_43 : decode cX0_byTree 43 = .ok (.aload_n 0, 1) := dk_42 (dk_at dksX0_byTree_1 20 rfl rfl)
theorem dX0_byTree_44 : decode cX0_byTree 44 = .ok (.aload_n 1, 1) := dk_43 (dk_at dksX0_byTree_1 21 rfl rfl)
theorem dX0_byTree_45 : decode cX0_byTree 45 = .ok (.aload 5, 2) := dk_25 5 (dk_at dksX0_byTree_1 22 rfl rfl)
theorem dX0_byTree_47 : decode cX0_byTree 47 = .ok (.getfield 591, 3) := dk_180 2 79 (dk_at dksX0_byTree_2 0 rfl rfl)
theorem dX0_byTree_50 : decode cX0_byTree 50 = .ok (.getfield 595, 3) := dk_180 2 83 (dk_at dksX0_byTree_2 3 rfl rfl)
theorem dX0_byTree_53 : decode cX0_byTree 53 = .ok (.aload_n 3, 1) := dk_45 (dk_at dksX0_byTree_2 6 rfl rfl)
theorem dX0_byTree_54 : decode cX0_byTree 54 = .ok (.invokevirtual 599, 3) := dk_182 2 87 (dk_at dksX0_byTree_2 7 rfl rfl)
theorem dX0_byTree_57 : decode cX0_byTree 57 = .ok (.ifCond .eq 12, 3) := dk_153 0 12 (dk_at dksX0_byTree_2 10 rfl rfl)
theorem dX0_byTree_60 : decode cX0_byTree 60 = .ok (.aload 5, 2) := dk_25 5 (dk_at dksX0_byTree_2 13 rfl rfl)
theorem dX0_byTree_62 : decode cX0_byTree 62 = .ok (.getfield 591, 3) := dk_180 2 79 (dk_at dksX0_byTree_2 15 rfl rfl)
theorem dX0_byTree_65 : decode cX0_byTree 65 = .ok (.getfield 595, 3) := dk_180 2 83 (dk_at dksX0_byTree_2 18 rfl rfl)
theorem dX0_byTree_68 : decode cX0_byTree 68 = .ok (.areturn, 1) := dk_176 (dk_at dksX0_byTree_2 21 rfl rfl)
theorem dX0_byTree_69 : decode cX0_byTree 69 = .ok (.aload 5, 2) := dk_25 5 (dk_at dksX0_byTree_2 22 rfl rfl)
theorem dX0_byTree_71 : decode cX0_byTree 71 = .ok (.aload_n 2, 1) := dk_44 (dk_at dksX0_byTree_3 0 rfl rfl)
theorem dX0_byTree_72 : decode cX0_byTree 72 = .ok (.invokevirtual 603, 3) := dk_182 2 91 (dk_at dksX0_byTree_3 1 rfl rfl)
theorem dX0_byTree_75 : decode cX0_byTree 75 = .ok (.astore 4, 2) := dk_58 4 (dk_at dksX0_byTree_3 4 rfl rfl)
theorem dX0_byTree_77 : decode cX0_byTree 77 = .ok (.goto (-71), 3) := dk_167 255 185 (dk_at dksX0_byTree_3 6 rfl rfl)
theorem dX0_byTree_80 : decode cX0_byTree 80 = .ok (.aload 4, 2) := dk_25 4 (dk_at dksX0_byTree_3 9 rfl rfl)
theorem dX0_byTree_82 : decode cX0_byTree 82 = .ok (.instanceof 607, 3) := dk_193 2 95 (dk_at dksX0_byTree_3 11 rfl rfl)
theorem dX0_byTree_85 : decode cX0_byTree 85 = .ok (.ifCond .eq 41, 3) := dk_153 0 41 (dk_at dksX0_byTree_3 14 rfl rfl)
theorem dX0_byTree_88 : decode cX0_byTree 88 = .ok (.aload_n 0, 1) := dk_42 (dk_at dksX0_byTree_3 17 rfl rfl)
theorem dX0_byTree_89 : decode cX0_byTree 89 = .ok (.getfield 567, 3) := dk_180 2 55 (dk_at dksX0_byTree_3 18 rfl rfl)
theorem dX0_byTree_92 : decode cX0_byTree 92 = .ok (.iconst 3, 1) := dk_6 (dk_at dksX0_byTree_3 21 rfl rfl)
theorem dX0_byTree_93 : decode cX0_byTree 93 = .ok (.dup2, 1) := dk_92 (dk_at dksX0_byTree_3 22 rfl rfl)
theorem dX0_byTree_94 : decode cX0_byTree 94 = .ok (.iaload, 1) := dk_46 (dk_at dksX0_byTree_3 23 rfl rfl)
theorem dX0_byTree_95 : decode cX0_byTree 95 = .ok (.iconst 1, 1) := dk_4 (dk_at dksX0_byTree_4 0 rfl rfl)
theorem dX0_byTree_96 : decode cX0_byTree 96 = .ok (.iadd, 1) := dk_96 (dk_at dksX0_byTree_4 1 rfl rfl)
theorem dX0_byTree_97 : decode cX0_byTree 97 = .ok (.iastore, 1) := dk_79 (dk_at dksX0_byTree_4 2 rfl rfl)
theorem dX0_byTree_98 : decode cX0_byTree 98 = .ok (.aload 4, 2) := dk_25 4 (dk_at dksX0_byTree_4 3 rfl rfl)
theorem dX0_byTree_100 : decode cX0_byTree 100 = .ok (.aload_n 2, 1) := dk_44 (dk_at dksX0_byTree_4 5 rfl rfl)
theorem dX0_byTree_101 : decode cX0_byTree 101 = .ok (.invokevirtual 609, 3) := dk_182 2 97 (dk_at dksX0_byTree_4 6 rfl rfl)
theorem dX0_byTree_104 : decode cX0_byTree 104 = .ok (.astore 4, 2) := dk_58 4 (dk_at dksX0_byTree_4 9 rfl rfl)
theorem dX0_byTree_106 : decode cX0_byTree 106 = .ok (.aload_n 0, 1) := dk_42 (dk_at dksX0_byTree_4 11 rfl rfl)
theorem dX0_byTree_107 : decode cX0_byTree 107 = .ok (.aload 4, 2) := dk_25 4 (dk_at dksX0_byTree_4 12 rfl rfl)
theorem dX0_byTree_109 : decode cX0_byTree 109 = .ok (.ifnonnull 7, 3) := dk_199 0 7 (dk_at dksX0_byTree_4 14 rfl rfl)
theorem dX0_byTree_112 : decode cX0_byTree 112 = .ok (.iconst 2, 1) := dk_5 (dk_at dksX0_byTree_4 17 rfl rfl)
theorem dX0_byTree_113 : decode cX0_byTree 113 = .ok (.goto 7, 3) := dk_167 0 7 (dk_at dksX0_byTree_4 18 rfl rfl)
theorem dX0_byTree_116 : decode cX0_byTree 116 = .ok (.aload_n 0, 1) := dk_42 (dk_at dksX0_byTree_4 21 rfl rfl)
theorem dX0_byTree_117 : decode cX0_byTree 117 = .ok (.getfield 579, 3) := dk_180 2 67 (dk_at dksX0_byTree_5 0 rfl rfl)
theorem dX0_byTree_120 : decode cX0_byTree 120 = .ok (.putfield 579, 3) := dk_181 2 67 (dk_at dksX0_byTree_5 3 rfl rfl)
theorem dX0_byTree_123 : decode cX0_byTree 123 = .ok (.goto (-117), 3) := dk_167 255 139 (dk_at dksX0_byTree_5 6 rfl rfl)
theorem dX0_byTree_126 : decode cX0_byTree 126 = .ok (.aload_n 0, 1) := dk_42 (dk_at dksX0_byTree_5 9 rfl rfl)
theorem dX0_byTree_127 : decode cX0_byTree 127 = .ok (.iconst 1, 1) := dk_4 (dk_at dksX0_byTree_5 10 rfl rfl)
theorem dX0_byTree_128 : decode cX0_byTree 128 = .ok (.putfield 579, 3) := dk_181 2 67 (dk_at dksX0_byTree_5 11 rfl rfl)
theorem dX0_byTree_131 : decode cX0_byTree 131 = .ok (.goto (-125), 3) := dk_167 255 131 (dk_at dksX0_byTree_5 14 rfl rfl)
theorem dX0_byTree_134 : decode cX0_byTree 134 = .ok (.aconst_null, 1) := dk_1 (dk_at dksX0_byTree_5 17 rfl rfl)
theorem dX0_byTree_135 : decode cX0_byTree 135 = .ok (.areturn, 1) := dk_176 (dk_at dksX0_byTree_5 18 rfl rfl)
abbrev cX0_asks : ByteArray := prog_1_method_68_code
def yX0_asks : MethodName := ⟨RX0, "asks", "(LLetterPost$Function;LLetterPost$Rule;[LLetterPost$Value;)Z"⟩
def dkwX0_asks_2 : List UInt8 := [45, 182, 2, 61, 172, 58, 4, 42, 6, 181, 2, 67, 42, 44, 181, 2, 68, 3, 172]
abbrev dktX0_asks_2 : List UInt8 := dkwX0_asks_2 ++ []
def dkwX0_asks_1 : List UInt8 := [180, 2, 60, 104, 44, 180, 1, 236, 96, 79, 42, 180, 2, 55, 7, 92, 46, 4, 96, 79, 44, 180, 1, 112]
abbrev dktX0_asks_1 : List UInt8 := dkwX0_asks_1 ++ dktX0_asks_2
def dkwX0_asks_0 : List UInt8 := [42, 180, 2, 55, 7, 46, 16, 32, 162, 0, 26, 42, 180, 2, 57, 42, 180, 2, 55, 7, 46, 16, 100, 43]
abbrev dktX0_asks_0 : List UInt8 := dkwX0_asks_0 ++ dktX0_asks_1
theorem dksX0_asks_0 : cX0_asks.data.toList.drop 0 = dktX0_asks_0 := by decide +kernel
theorem dksX0_asks_1 : cX0_asks.data.toList.drop 24 = dktX0_asks_1 := dk_seg dksX0_asks_0 24 rfl rfl
theorem dksX0_asks_2 : cX0_asks.data.toList.drop 48 = dktX0_asks_2 := dk_seg dksX0_asks_1 24 rfl rfl
theorem dX0_asks_0 : decode cX0_asks 0 = .ok (.aload_n 0, 1) := dk_42 (dk_at dksX0_asks_0 0 rfl rfl)
theorem dX0_asks_1 : decode cX0_asks 1 = .ok (.getfield 567, 3) := dk_180 2 55 (dk_at dksX0_asks_0 1 rfl rfl)
theorem dX0_asks_4 : decode cX0_asks 4 = .ok (.iconst 4, 1) := dk_7 (dk_at dksX0_asks_0 4 rfl rfl)
theorem dX0_asks_5 : decode cX0_asks 5 = .ok (.iaload, 1) := dk_46 (dk_at dksX0_asks_0 5 rfl rfl)
theorem dX0_asks_6 : decode cX0_asks 6 = .ok (.bipush 32, 2) := dk_16 32 (dk_at dksX0_asks_0 6 rfl rfl)
theorem dX0_asks_8 : decode cX0_asks 8 = .ok (.if_icmp .ge 26, 3) := dk_162 0 26 (dk_at dksX0_asks_0 8 rfl rfl)
theorem dX0_asks_11 : decode cX0_asks 11 = .ok (.aload_n 0, 1) := dk_42 (dk_at dksX0_asks_0 11 rfl rfl)
theorem dX0_asks_12 : decode cX0_asks 12 = .ok (.getfield 569, 3) := dk_180 2 57 (dk_at dksX0_asks_0 12 rfl rfl)
theorem dX0_asks_15 : decode cX0_asks 15 = .ok (.aload_n 0, 1) := dk_42 (dk_at dksX0_asks_0 15 rfl rfl)
theorem dX0_asks_16 : decode cX0_asks 16 = .ok (.getfield 567, 3) := dk_180 2 55 (dk_at dksX0_asks_0 16 rfl rfl)
theorem dX0_asks_19 : decode cX0_asks 19 = .ok (.iconst 4, 1) := dk_7 (dk_at dksX0_asks_0 19 rfl rfl)
theorem dX0_asks_20 : decode cX0_asks 20 = .ok (.iaload, 1) := dk_46 (dk_at dksX0_asks_0 20 rfl rfl)
theorem dX0_asks_21 : decode cX0_asks 21 = .ok (.bipush 100, 2) := dk_16 100 (dk_at dksX0_asks_0 21 rfl rfl)
theorem dX0_asks_23 : decode cX0_asks 23 = .ok (.aload_n 1, 1) := dk_43 (dk_at dksX0_asks_0 23 rfl rfl)
theorem dX0_asks_24 : decode cX0_asks 24 = .ok (.getfield 572, 3) := dk_180 2 60 (dk_at dksX0_asks_1 0 rfl rfl)
theorem dX0_asks_27 : decode cX0_asks 27 = .ok (.imul, 1) := dk_104 (dk_at dksX0_asks_1 3 rfl rfl)
theorem dX0_asks_28 : decode cX0_asks 28 = .ok (.aload_n 2, 1) := dk_44 (dk_at dksX0_asks_1 4 rfl rfl)
theorem dX0_asks_29 : decode cX0_asks 29 = .ok (.getfield 492, 3) := dk_180 1 236 (dk_at dksX0_asks_1 5 rfl rfl)
theorem dX0_asks_32 : decode cX0_asks 32 = .ok (.iadd, 1) := dk_96 (dk_at dksX0_asks_1 8 rfl rfl)
theorem dX0_asks_33 : decode cX0_asks 33 = .ok (.iastore, 1) := dk_79 (dk_at dksX0_asks_1 9 rfl rfl)
theorem dX0_asks_34 : decode cX0_asks 34 = .ok (.aload_n 0, 1) := dk_42 (dk_at dksX0_asks_1 10 rfl rfl)
theorem dX0_asks_35 : decode cX0_asks 35 = .ok (.getfield 567, 3) := dk_180 2 55 (dk_at dksX0_asks_1 11 rfl rfl)
theorem dX0_asks_38 : decode cX0_asks 38 = .ok (.iconst 4, 1) := dk_7 (dk_at dksX0_asks_1 14 rfl rfl)
theorem dX0_asks_39 : decode cX0_asks 39 = .ok (.dup2, 1) := dk_92 (dk_at dksX0_asks_1 15 rfl rfl)
theorem dX0_asks_40 : decode cX0_asks 40 = .ok (.iaload, 1) := dk_46 (dk_at dksX0_asks_1 16 rfl rfl)
theorem dX0_asks_41 : decode cX0_asks 41 = .ok (.iconst 1, 1) := dk_4 (dk_at dksX0_asks_1 17 rfl rfl)
theorem dX0_asks_42 : decode cX0_asks 42 = .ok (.iadd, 1) := dk_96 (dk_at dksX0_asks_1 18 rfl rfl)
theorem dX0_asks_43 : decode cX0_asks 43 = .ok (.iastore, 1) := dk_79 (dk_at dksX0_asks_1 19 rfl rfl)
theorem dX0_asks_44 : decode cX0_asks 44 = .ok (.aload_n 2, 1) := dk_44 (dk_at dksX0_asks_1 20 rfl rfl)
theorem dX0_asks_45 : decode cX0_asks 45 = .ok (.getfield 368, 3) := dk_180 1 112 (dk_at dksX0_asks_1 21 rfl rfl)
theorem dX0_asks_48 : decode cX0_asks 48 = .ok (.aload_n 3, 1) := dk_45 (dk_at dksX0_asks_2 0 rfl rfl)
theorem dX0_asks_49 : decode cX0_asks 49 = .ok (.invokevirtual 573, 3) := dk_182 2 61 (dk_at dksX0_asks_2 1 rfl rfl)
theorem dX0_asks_52 : decode cX0_asks 52 = .ok (.ireturn, 1) := dk_172 (dk_at dksX0_asks_2 4 rfl rfl)
theorem dX0_asks_53 : decode cX0_asks 53 = .ok (.astore 4, 2) := dk_58 4 (dk_at dksX0_asks_2 5 rfl rfl)
theorem dX0_asks_55 : decode cX0_asks 55 = .ok (.aload_n 0, 1) := dk_42 (dk_at dksX0_asks_2 7 rfl rfl)
theorem dX0_asks_56 : decode cX0_asks 56 = .ok (.iconst 3, 1) := dk_6 (dk_at dksX0_asks_2 8 rfl rfl)
theorem dX0_asks_57 : decode cX0_asks 57 = .ok (.putfield 579, 3) := dk_181 2 67 (dk_at dksX0_asks_2 9 rfl rfl)
theorem dX0_asks_60 : decode cX0_asks 60 = .ok (.aload_n 0, 1) := dk_42 (dk_at dksX0_asks_2 12 rfl rfl)
theorem dX0_asks_61 : decode cX0_asks 61 = .ok (.aload_n 2, 1) := dk_44 (dk_at dksX0_asks_2 13 rfl rfl)
theorem dX0_asks_62 : decode cX0_asks 62 = .ok (.putfield 580, 3) := dk_181 2 68 (dk_at dksX0_asks_2 14 rfl rfl)
theorem dX0_asks_65 : decode cX0_asks 65 = .ok (.iconst 0, 1) := dk_3 (dk_at dksX0_asks_2 17 rfl rfl)
theorem dX0_asks_66 : decode cX0_asks 66 = .ok (.ireturn, 1) := dk_172 (dk_at dksX0_asks_2 18 rfl rfl)
abbrev cX0_plainly : ByteArray := prog_1_method_70_code
def yX0_plainly : MethodName := ⟨RX0, "plainly", "(LLetterPost$Function;[LLetterPost$Value;[LLetterPost$Value;)LLetterPost$Rule;"⟩
def dkwX0_plainly_5 : List UInt8 := [154, 0, 7, 4, 167, 0, 7, 42, 180, 2, 67, 181, 2, 67, 1, 176]
abbrev dktX0_plainly_5 : List UInt8 := dkwX0_plainly_5 ++ []
def dkwX0_plainly_4 : List UInt8 := [25, 5, 45, 182, 2, 87, 153, 0, 6, 25, 5, 176, 132, 4, 1, 167, 255, 152, 42, 42, 180, 2, 67]
abbrev dktX0_plainly_4 : List UInt8 := dkwX0_plainly_4 ++ dktX0_plainly_5
def dkwX0_plainly_3 : List UInt8 := [54, 6, 132, 7, 1, 167, 255, 221, 21, 6, 153, 0, 25, 25, 5, 180, 1, 112, 198, 0, 14, 42, 43]
abbrev dktX0_plainly_3 : List UInt8 := dkwX0_plainly_3 ++ dktX0_plainly_4
def dkwX0_plainly_2 : List UInt8 := [162, 0, 32, 21, 6, 153, 0, 27, 25, 5, 180, 1, 101, 21, 7, 50, 44, 21, 7, 50, 45, 182, 2, 104]
abbrev dktX0_plainly_2 : List UInt8 := dkwX0_plainly_2 ++ dktX0_plainly_3
def dkwX0_plainly_1 : List UInt8 := [21, 4, 50, 58, 5, 4, 54, 6, 45, 1, 184, 2, 98, 3, 54, 7, 21, 7, 43, 180, 1, 98]
abbrev dktX0_plainly_1 : List UInt8 := dkwX0_plainly_1 ++ dktX0_plainly_2
def dkwX0_plainly_0 : List UInt8 := [3, 54, 4, 21, 4, 43, 180, 1, 92, 162, 0, 101, 42, 180, 2, 67, 154, 0, 94, 43, 180, 1, 119]
abbrev dktX0_plainly_0 : List UInt8 := dkwX0_plainly_0 ++ dktX0_plainly_1
theorem dksX0_plainly_0 : cX0_plainly.data.toList.drop 0 = dktX0_plainly_0 := by decide +kernel
theorem dksX0_plainly_1 : cX0_plainly.data.toList.drop 23 = dktX0_plainly_1 := dk_seg dksX0_plainly_0 23 rfl rfl
theorem dksX0_plainly_2 : cX0_plainly.data.toList.drop 45 = dktX0_plainly_2 := dk_seg dksX0_plainly_1 22 rfl rfl
theorem dksX0_plainly_3 : cX0_plainly.data.toList.drop 69 = dktX0_plainly_3 := dk_seg dksX0_plainly_2 24 rfl rfl
theorem dksX0_plainly_4 : cX0_plainly.data.toList.drop 92 = dktX0_plainly_4 := dk_seg dksX0_plainly_3 23 rfl rfl
theorem dksX0_plainly_5 : cX0_plainly.data.toList.drop 115 = dktX0_plainly_5 := dk_seg dksX0_plainly_4 23 rfl rfl
theorem dX0_plainly_0 : decode cX0_plainly 0 = .ok (.iconst 0, 1) := dk_3 (dk_at dksX0_plainly_0 0 rfl rfl)
theorem dX0_plainly_1 : decode cX0_plainly 1 = .ok (.istore 4, 2) := dk_54 4 (dk_at dksX0_plainly_0 1 rfl rfl)
theorem dX0_plainly_3 : decode cX0_plainly 3 = .ok (.iload 4, 2) := dk_21 4 (dk_at dksX0_plainly_0 3 rfl rfl)
theorem dX0_plainly_5 : decode cX0_plainly 5 = .ok (.aload_n 1, 1) := dk_43 (dk_at dksX0_plainly_0 5 rfl rfl)
theorem dX0_plainly_6 : decode cX0_plainly 6 = .ok (.getfield 348, 3) := dk_180 1 92 (dk_at dksX0_plainly_0 6 rfl rfl)
theorem dX0_plainly_9 : decode cX0_plainly 9 = .ok (.if_icmp .ge 101, 3) := dk_162 0 101 (dk_at dksX0_plainly_0 9 rfl rfl)
theorem dX0_plainly_12 : decode cX0_plainly 12 = .ok (.aload_n 0, 1) := dk_42 (dk_at dksX0_plainly_0 12 rfl rfl)
theorem dX0_plainly_13 : decode cX0_plainly 13 = .ok (.getfield 579, 3) := dk_180 2 67 (dk_at dksX0_plainly_0 13 rfl rfl)
theorem dX0_plainly_16 : decode cX0_plainly 16 = .ok (.ifCond .ne 94, 3) := dk_154 0 94 (dk_at dksX0_plainly_0 16 rfl rfl)
theorem dX0_plainly_19 : decode cX0_plainly 19 = .ok (.aload_n 1, 1) := dk_43 (dk_at dksX0_plainly_0 19 rfl rfl)
theorem dX0_plainly_20 : decode cX0_plainly 20 = .ok (.getfield 375, 3) := dk_180 1 119 (dk_at dksX0_plainly_0 20 rfl rfl)
theorem dX0_plainly_23 : decode cX0_plainly 23 = .ok (.iload 4, 2) := dk_21 4 (dk_at dksX0_plainly_1 0 rfl rfl)
theorem dX0_plainly_25 : decode cX0_plainly 25 = .ok (.aaload, 1) := dk_50 (dk_at dksX0_plainly_1 2 rfl rfl)
theorem dX0_plainly_26 : decode cX0_plainly 26 = .ok (.astore 5, 2) := dk_58 5 (dk_at dksX0_plainly_1 3 rfl rfl)
theorem dX0_plainly_28 : decode cX0_plainly 28 = .ok (.iconst 1, 1) := dk_4 (dk_at dksX0_plainly_1 5 rfl rfl)
theorem dX0_plainly_29 : decode cX0_plainly 29 = .ok (.istore 6, 2) := dk_54 6 (dk_at dksX0_plainly_1 6 rfl rfl)
theorem dX0_plainly_31 : decode cX0_plainly 31 = .ok (.aload_n 3, 1) := dk_45 (dk_at dksX0_plainly_1 8 rfl rfl)
theorem dX0_plainly_32 : decode cX0_plainly 32 = .ok (.aconst_null, 1) := dk_1 (dk_at dksX0_plainly_1 9 rfl rfl)
theorem dX0_plainly_33 : decode cX0_plainly 33 = .ok (.invokestatic 610, 3) := dk_184 2 98 (dk_at dksX0_plainly_1 10 rfl rfl)
theorem dX0_plainly_36 : decode cX0_plainly 36 = .ok (.iconst 0, 1) := dk_3 (dk_at dksX0_plainly_1 13 rfl rfl)
theorem dX0_plainly_37 : decode cX0_plainly 37 = .ok (.istore 7, 2) := dk_54 7 (dk_at dksX0_plainly_1 14 rfl rfl)
theorem dX0_plainly_39 : decode cX0_plainly 39 = .ok (.iload 7, 2) := dk_21 7 (dk_at dksX0_plainly_1 16 rfl rfl)
theorem dX0_plainly_41 : decode cX0_plainly 41 = .ok (.aload_n 1, 1) := dk_43 (dk_at dksX0_plainly_1 18 rfl rfl)
theorem dX0_plainly_42 : decode cX0_plainly 42 = .ok (.getfield 354, 3) := dk_180 1 98 (dk_at dksX0_plainly_1 19 rfl rfl)
theorem dX0_plainly_45 : decode cX0_plainly 45 = .ok (.if_icmp .ge 32, 3) := dk_162 0 32 (dk_at dksX0_plainly_2 0 rfl rfl)
theorem dX0_plainly_48 : decode cX0_plainly 48 = .ok (.iload 6, 2) := dk_21 6 (dk_at dksX0_plainly_2 3 rfl rfl)
theorem dX0_plainly_50 : decode cX0_plainly 50 = .ok (.ifCond .eq 27, 3) := dk_153 0 27 (dk_at dksX0_plainly_2 5 rfl rfl)
theorem dX0_plainly_53 : decode cX0_plainly 53 = .ok (.aload 5, 2) := dk_25 5 (dk_at dksX0_plainly_2 8 rfl rfl)
theorem dX0_plainly_55 : decode cX0_plainly 55 = .ok (.getfield 357, 3) := dk_180 1 101 (dk_at dksX0_plainly_2 10 rfl rfl)
theorem dX0_plainly_58 : decode cX0_plainly 58 = .ok (.iload 7, 2) := dk_21 7 (dk_at dksX0_plainly_2 13 rfl rfl)
theorem dX0_plainly_60 : decode cX0_plainly 60 = .ok (.aaload, 1) := dk_50 (dk_at dksX0_plainly_2 15 rfl rfl)
theorem dX0_plainly_61 : decode cX0_plainly 61 = .ok (.aload_n 2, 1) := dk_44 (dk_at dksX0_plainly_2 16 rfl rfl)
theorem dX0_plainly_62 : decode cX0_plainly 62 = .ok (.iload 7, 2) := dk_21 7 (dk_at dksX0_plainly_2 17 rfl rfl)
theorem dX0_plainly_64 : decode cX0_plainly 64 = .ok (.aaload, 1) := dk_50 (dk_at dksX0_plainly_2 19 rfl rfl)
theorem dX0_plainly_65 : decode cX0_plainly 65 = .ok (.aload_n 3, 1) := dk_45 (dk_at dksX0_plainly_2 20 rfl rfl)
theorem dX0_plainly_66 : decode cX0_plainly 66 = .ok (.invokevirtual 616, 3) := dk_182 2 104 (dk_at dksX0_plainly_2 21 rfl rfl)
theorem dX0_plainly_69 : decode cX0_plainly 69 = .ok (.istore 6, 2) := dk_54 6 (dk_at dksX0_plainly_3 0 rfl rfl)
theorem dX0_plainly_71 : decode cX0_plainly 71 = .ok (.iinc 7 1, 3) := dk_132 7 1 (dk_at dksX0_plainly_3 2 rfl rfl)
theorem dX0_plainly_74 : decode cX0_plainly 74 = .ok (.goto (-35), 3) := dk_167 255 221 (dk_at dksX0_plainly_3 5 rfl rfl)
theorem dX0_plainly_77 : decode cX0_plainly 77 = .ok (.iload 6, 2) := dk_21 6 (dk_at dksX0_plainly_3 8 rfl rfl)
theorem dX0_plainly_79 : decode cX0_plainly 79 = .ok (.ifCond .eq 25, 3) := dk_153 0 25 (dk_at dksX0_plainly_3 10 rfl rfl)
theorem dX0_plainly_82 : decode cX0_plainly 82 = .ok (.aload 5, 2) := dk_25 5 (dk_at dksX0_plainly_3 13 rfl rfl)
theorem dX0_plainly_84 : decode cX0_plainly 84 = .ok (.getfield 368, 3) := dk_180 1 112 (dk_at dksX0_plainly_3 15 rfl rfl)
theorem dX0_plainly_87 : decode cX0_plainly 87 = .ok (.ifnull 14, 3) := dk_198 0 14 (dk_at dksX0_plainly_3 18 rfl rfl)
theorem dX0_plainly_90 : decode cX0_plainly 90 = .ok (.aload_n 0, 1) := dk_42 (dk_at dksX0_plainly_3 21 rfl rfl)
theorem dX0_plainly_91 : decode cX0_plainly 91 = .ok (.aload_n 1, 1) := dk_43 (dk_at dksX0_plainly_3 22 rfl rfl)
theorem dX0_plainly_92 : decode cX0_plainly 92 = .ok (.aload 5, 2) := dk_25 5 (dk_at dksX0_plainly_4 0 rfl rfl)
theorem dX0_plainly_94 : decode cX0_plainly 94 = .ok (.aload_n 3, 1) := dk_45 (dk_at dksX0_plainly_4 2 rfl rfl)
theorem dX0_plainly_95 : decode cX0_plainly 95 = .ok (.invokevirtual 599, 3) := dk_182 2 87 (dk_at dksX0_plainly_4 3 rfl rfl)
theorem dX0_plainly_98 : decode cX0_plainly 98 = .ok (.ifCond .eq 6, 3) := dk_153 0 6 (dk_at dksX0_plainly_4 6 rfl rfl)
theorem dX0_plainly_101 : decode cX0_plainly 101 = .ok (.aload 5, 2) := dk_25 5 (dk_at dksX0_plainly_4 9 rfl rfl)
theorem dX0_plainly_103 : decode cX0_plainly 103 = .ok (.areturn, 1) := dk_176 (dk_at dksX0_plainly_4 11 rfl rfl)
theorem dX0_plainly_104 : decode cX0_plainly 104 = .ok (.iinc 4 1, 3) := dk_132 4 1 (dk_at dksX0_plainly_4 12 rfl rfl)
theorem dX0_plainly_107 : decode cX0_plainly 107 = .ok (.goto (-104), 3) := dk_167 255 152 (dk_at dksX0_plainly_4 15 rfl rfl)
theorem dX0_plainly_110 : decode cX0_plainly 110 = .ok (.aload_n 0, 1) := dk_42 (dk_at dksX0_plainly_4 18 rfl rfl)
theorem dX0_plainly_111 : decode cX0_plainly 111 = .ok (.aload_n 0, 1) := dk_42 (dk_at dksX0_plainly_4 19 rfl rfl)
theorem dX0_plainly_112 : decode cX0_plainly 112 = .ok (.getfield 579, 3) := dk_180 2 67 (dk_at dksX0_plainly_4 20 rfl rfl)
theorem dX0_plainly_115 : decode cX0_plainly 115 = .ok (.ifCond .ne 7, 3) := dk_154 0 7 (dk_at dksX0_plainly_5 0 rfl rfl)
theorem dX0_plainly_118 : decode cX0_plainly 118 = .ok (.iconst 1, 1) := dk_4 (dk_at dksX0_plainly_5 3 rfl rfl)
theorem dX0_plainly_119 : decode cX0_plainly 119 = .ok (.goto 7, 3) := dk_167 0 7 (dk_at dksX0_plainly_5 4 rfl rfl)
theorem dX0_plainly_122 : decode cX0_plainly 122 = .ok (.aload_n 0, 1) := dk_42 (dk_at dksX0_plainly_5 7 rfl rfl)
theorem dX0_plainly_123 : decode cX0_plainly 123 = .ok (.getfield 579, 3) := dk_180 2 67 (dk_at dksX0_plainly_5 8 rfl rfl)
theorem dX0_plainly_126 : decode cX0_plainly 126 = .ok (.putfield 579, 3) := dk_181 2 67 (dk_at dksX0_plainly_5 11 rfl rfl)
theorem dX0_plainly_129 : decode cX0_plainly 129 = .ok (.aconst_null, 1) := dk_1 (dk_at dksX0_plainly_5 14 rfl rfl)
theorem dX0_plainly_130 : decode cX0_plainly 130 = .ok (.areturn, 1) := dk_176 (dk_at dksX0_plainly_5 15 rfl rfl)
abbrev cX0_ends : ByteArray := prog_1_method_71_code
def yX0_ends : MethodName := ⟨RX0, "ends", "(IILLetterPost$Function;I)V"⟩
def dkwX0_ends_1 : List UInt8 := [42, 180, 2, 55, 16, 6, 21, 4, 79, 177]
abbrev dktX0_ends_1 : List UInt8 := dkwX0_ends_1 ++ []
def dkwX0_ends_0 : List UInt8 := [42, 180, 2, 55, 3, 27, 79, 42, 180, 2, 55, 4, 28, 79, 42, 180, 2, 55, 8, 45, 180, 2, 60, 79]
abbrev dktX0_ends_0 : List UInt8 := dkwX0_ends_0 ++ dktX0_ends_1
theorem dksX0_ends_0 : cX0_ends.data.toList.drop 0 = dktX0_ends_0 := by decide +kernel
theorem dksX0_ends_1 : cX0_ends.data.toList.drop 24 = dktX0_ends_1 := dk_seg dksX0_ends_0 24 rfl rfl
theorem dX0_ends_0 : decode cX0_ends 0 = .ok (.aload_n 0, 1) := dk_42 (dk_at dksX0_ends_0 0 rfl rfl)
theorem dX0_ends_1 : decode cX0_ends 1 = .ok (.getfield 567, 3) := dk_180 2 55 (dk_at dksX0_ends_0 1 rfl rfl)
theorem dX0_ends_4 : decode cX0_ends 4 = .ok (.iconst 0, 1) := dk_3 (dk_at dksX0_ends_0 4 rfl rfl)
theorem dX0_ends_5 : decode cX0_ends 5 = .ok (.iload_n 1, 1) := dk_27 (dk_at dksX0_ends_0 5 rfl rfl)
theorem dX0_ends_6 : decode cX0_ends 6 = .ok (.iastore, 1) := dk_79 (dk_at dksX0_ends_0 6 rfl rfl)
theorem dX0_ends_7 : decode cX0_ends 7 = .ok (.aload_n 0, 1) := dk_42 (dk_at dksX0_ends_0 7 rfl rfl)
theorem dX0_ends_8 : decode cX0_ends 8 = .ok (.getfield 567, 3) := dk_180 2 55 (dk_at dksX0_ends_0 8 rfl rfl)
theorem dX0_ends_11 : decode cX0_ends 11 = .ok (.iconst 1, 1) := dk_4 (dk_at dksX0_ends_0 11 rfl rfl)
theorem dX0_ends_12 : decode cX0_ends 12 = .ok (.iload_n 2, 1) := dk_28 (dk_at dksX0_ends_0 12 rfl rfl)
theorem dX0_ends_13 : decode cX0_ends 13 = .ok (.iastore, 1) := dk_79 (dk_at dksX0_ends_0 13 rfl rfl)
theorem dX0_ends_14 : decode cX0_ends 14 = .ok (.aload_n 0, 1) := dk_42 (dk_at dksX0_ends_0 14 rfl rfl)
theorem dX0_ends_15 : decode cX0_ends 15 = .ok (.getfield 567, 3) := dk_180 2 55 (dk_at dksX0_ends_0 15 rfl rfl)
theorem dX0_ends_18 : decode cX0_ends 18 = .ok (.iconst 5, 1) := dk_8 (dk_at dksX0_ends_0 18 rfl rfl)
theorem dX0_ends_19 : decode cX0_ends 19 = .ok (.aload_n 3, 1) := dk_45 (dk_at dksX0_ends_0 19 rfl rfl)
theorem dX0_ends_20 : decode cX0_ends 20 = .ok (.getfield 572, 3) := dk_180 2 60 (dk_at dksX0_ends_0 20 rfl rfl)
theorem dX0_ends_23 : decode cX0_ends 23 = .ok (.iastore, 1) := dk_79 (dk_at dksX0_ends_0 23 rfl rfl)
theorem dX0_ends_24 : decode cX0_ends 24 = .ok (.aload_n 0, 1) := dk_42 (dk_at dksX0_ends_1 0 rfl rfl)
theorem dX0_ends_25 : decode cX0_ends 25 = .ok (.getfield 567, 3) := dk_180 2 55 (dk_at dksX0_ends_1 1 rfl rfl)
theorem dX0_ends_28 : decode cX0_ends 28 = .ok (.bipush 6, 2) := dk_16 6 (dk_at dksX0_ends_1 4 rfl rfl)
theorem dX0_ends_30 : decode cX0_ends 30 = .ok (.iload 4, 2) := dk_21 4 (dk_at dksX0_ends_1 6 rfl rfl)
theorem dX0_ends_32 : decode cX0_ends 32 = .ok (.iastore, 1) := dk_79 (dk_at dksX0_ends_1 8 rfl rfl)
theorem dX0_ends_33 : decode cX0_ends 33 = .ok (.return_, 1) := dk_177 (dk_at dksX0_ends_1 9 rfl rfl)
abbrev cX0_plain_2 : ByteArray := prog_1_method_75_code
def yX0_plain_2 : MethodName := ⟨RX0, "plain", "(IIII)I"⟩
def dkwX0_plain_2_0 : List UInt8 := [42, 27, 28, 29, 21, 4, 3, 182, 2, 132, 172]
abbrev dktX0_plain_2_0 : List UInt8 := dkwX0_plain_2_0 ++ []
theorem dksX0_plain_2_0 : cX0_plain_2.data.toList.drop 0 = dktX0_plain_2_0 := by decide +kernel
theorem dX0_plain_2_0 : decode cX0_plain_2 0 = .ok (.aload_n 0, 1) := dk_42 (dk_at dksX0_plain_2_0 0 rfl rfl)
theorem dX0_plain_2_1 : decode cX0_plain_2 1 = .ok (.iload_n 1, 1) := dk_27 (dk_at dksX0_plain_2_0 1 rfl rfl)
theorem dX0_plain_2_2 : decode cX0_plain_2 2 = .ok (.iload_n 2, 1) := dk_28 (dk_at dksX0_plain_2_0 2 rfl rfl)
theorem dX0_plain_2_3 : decode cX0_plain_2 3 = .ok (.iload_n 3, 1) := dk_29 (dk_at dksX0_plain_2_0 3 rfl rfl)
theorem dX0_plain_2_4 : decode cX0_plain_2 4 = .ok (.iload 4, 2) := dk_21 4 (dk_at dksX0_plain_2_0 4 rfl rfl)
theorem dX0_plain_2_6 : decode cX0_plain_2 6 = .ok (.iconst 0, 1) := dk_3 (dk_at dksX0_plain_2_0 6 rfl rfl)
theorem dX0_plain_2_7 : decode cX0_plain_2 7 = .ok (.invokevirtual 644, 3) := dk_182 2 132 (dk_at dksX0_plain_2_0 7 rfl rfl)
theorem dX0_plain_2_10 : decode cX0_plain_2 10 = .ok (.ireturn, 1) := dk_172 (dk_at dksX0_plain_2_0 10 rfl rfl)
abbrev cX0_told : ByteArray := prog_1_method_76_code
def yX0_told : MethodName := ⟨RX0, "told", "(I)I"⟩
def dkwX0_told_0 : List UInt8 := [27, 133, 9, 20, 2, 43, 184, 0, 50, 153, 0, 12, 42, 180, 2, 55, 27, 46, 167, 0, 4, 2, 172]
abbrev dktX0_told_0 : List UInt8 := dkwX0_told_0 ++ []
theorem dksX0_told_0 : cX0_told.data.toList.drop 0 = dktX0_told_0 := by decide +kernel
theorem dX0_told_0 : decode cX0_told 0 = .ok (.iload_n 1, 1) := dk_27 (dk_at dksX0_told_0 0 rfl rfl)
theorem dX0_told_1 : decode cX0_told 1 = .ok (.i2l, 1) := dk_133 (dk_at dksX0_told_0 1 rfl rfl)
theorem dX0_told_2 : decode cX0_told 2 = .ok (.lconst 0, 1) := dk_9 (dk_at dksX0_told_0 2 rfl rfl)
theorem dX0_told_3 : decode cX0_told 3 = .ok (.ldc2_w 555, 3) := dk_20 2 43 (dk_at dksX0_told_0 3 rfl rfl)
theorem dX0_told_6 : decode cX0_told 6 = .ok (.invokestatic 50, 3) := dk_184 0 50 (dk_at dksX0_told_0 6 rfl rfl)
theorem dX0_told_9 : decode cX0_told 9 = .ok (.ifCond .eq 12, 3) := dk_153 0 12 (dk_at dksX0_told_0 9 rfl rfl)
theorem dX0_told_12 : decode cX0_told 12 = .ok (.aload_n 0, 1) := dk_42 (dk_at dksX0_told_0 12 rfl rfl)
theorem dX0_told_13 : decode cX0_told 13 = .ok (.getfield 567, 3) := dk_180 2 55 (dk_at dksX0_told_0 13 rfl rfl)
theorem dX0_told_16 : decode cX0_told 16 = .ok (.iload_n 1, 1) := dk_27 (dk_at dksX0_told_0 16 rfl rfl)
theorem dX0_told_17 : decode cX0_told 17 = .ok (.iaload, 1) := dk_46 (dk_at dksX0_told_0 17 rfl rfl)
theorem dX0_told_18 : decode cX0_told 18 = .ok (.goto 4, 3) := dk_167 0 4 (dk_at dksX0_told_0 18 rfl rfl)
theorem dX0_told_21 : decode cX0_told 21 = .ok (.iconst (-1), 1) := dk_2 (dk_at dksX0_told_0 21 rfl rfl)
theorem dX0_told_22 : decode cX0_told 22 = .ok (.ireturn, 1) := dk_172 (dk_at dksX0_told_0 22 rfl rfl)
abbrev cX0_guard_2 : ByteArray := prog_1_method_77_code
def yX0_guard_2 : MethodName := ⟨RX0, "guard", "(I)I"⟩
def dkwX0_guard_2_1 : List UInt8 := [180, 2, 57, 27, 46, 167, 0, 5, 16, 252, 172]
abbrev dktX0_guard_2_1 : List UInt8 := dkwX0_guard_2_1 ++ []
def dkwX0_guard_2_0 : List UInt8 := [27, 133, 9, 42, 180, 2, 55, 7, 46, 16, 32, 184, 0, 42, 4, 100, 133, 184, 0, 50, 153, 0, 12, 42]
abbrev dktX0_guard_2_0 : List UInt8 := dkwX0_guard_2_0 ++ dktX0_guard_2_1
theorem dksX0_guard_2_0 : cX0_guard_2.data.toList.drop 0 = dktX0_guard_2_0 := by decide +kernel
theorem dksX0_guard_2_1 : cX0_guard_2.data.toList.drop 24 = dktX0_guard_2_1 := dk_seg dksX0_guard_2_0 24 rfl rfl
theorem dX0_guard_2_0 : decode cX0_guard_2 0 = .ok (.iload_n 1, 1) := dk_27 (dk_at dksX0_guard_2_0 0 rfl rfl)
theorem dX0_guard_2_1 : decode cX0_guard_2 1 = .ok (.i2l, 1) := dk_133 (dk_at dksX0_guard_2_0 1 rfl rfl)
theorem dX0_guard_2_2 : decode cX0_guard_2 2 = .ok (.lconst 0, 1) := dk_9 (dk_at dksX0_guard_2_0 2 rfl rfl)
theorem dX0_guard_2_3 : decode cX0_guard_2 3 = .ok (.aload_n 0, 1) := dk_42 (dk_at dksX0_guard_2_0 3 rfl rfl)
theorem dX0_guard_2_4 : decode cX0_guard_2 4 = .ok (.getfield 567, 3) := dk_180 2 55 (dk_at dksX0_guard_2_0 4 rfl rfl)
theorem dX0_guard_2_7 : decode cX0_guard_2 7 = .ok (.iconst 4, 1) := dk_7 (dk_at dksX0_guard_2_0 7 rfl rfl)
theorem dX0_guard_2_8 : decode cX0_guard_2 8 = .ok (.iaload, 1) := dk_46 (dk_at dksX0_guard_2_0 8 rfl rfl)
theorem dX0_guard_2_9 : decode cX0_guard_2 9 = .ok (.bipush 32, 2) := dk_16 32 (dk_at dksX0_guard_2_0 9 rfl rfl)
theorem dX0_guard_2_11 : decode cX0_guard_2 11 = .ok (.invokestatic 42, 3) := dk_184 0 42 (dk_at dksX0_guard_2_0 11 rfl rfl)
theorem dX0_guard_2_14 : decode cX0_guard_2 14 = .ok (.iconst 1, 1) := dk_4 (dk_at dksX0_guard_2_0 14 rfl rfl)
theorem dX0_guard_2_15 : decode cX0_guard_2 15 = .ok (.isub, 1) := dk_100 (dk_at dksX0_guard_2_0 15 rfl rfl)
theorem dX0_guard_2_16 : decode cX0_guard_2 16 = .ok (.i2l, 1) := dk_133 (dk_at dksX0_guard_2_0 16 rfl rfl)
theorem dX0_guard_2_17 : decode cX0_guard_2 17 = .ok (.invokestatic 50, 3) := dk_184 0 50 (dk_at dksX0_guard_2_0 17 rfl rfl)
theorem dX0_guard_2_20 : decode cX0_guard_2 20 = .ok (.ifCond .eq 12, 3) := dk_153 0 12 (dk_at dksX0_guard_2_0 20 rfl rfl)
theorem dX0_guard_2_23 : decode cX0_guard_2 23 = .ok (.aload_n 0, 1) := dk_42 (dk_at dksX0_guard_2_0 23 rfl rfl)
theorem dX0_guard_2_24 : decode cX0_guard_2 24 = .ok (.getfield 569, 3) := dk_180 2 57 (dk_at dksX0_guard_2_1 0 rfl rfl)
theorem dX0_guard_2_27 : decode cX0_guard_2 27 = .ok (.iload_n 1, 1) := dk_27 (dk_at dksX0_guard_2_1 3 rfl rfl)
theorem dX0_guard_2_28 : decode cX0_guard_2 28 = .ok (.iaload, 1) := dk_46 (dk_at dksX0_guard_2_1 4 rfl rfl)
theorem dX0_guard_2_29 : decode cX0_guard_2 29 = .ok (.goto 5, 3) := dk_167 0 5 (dk_at dksX0_guard_2_1 5 rfl rfl)
theorem dX0_guard_2_32 : decode cX0_guard_2 32 = .ok (.bipush (-4), 2) := dk_16 252 (dk_at dksX0_guard_2_1 8 rfl rfl)
theorem dX0_guard_2_34 : decode cX0_guard_2 34 = .ok (.ireturn, 1) := dk_172 (dk_at dksX0_guard_2_1 10 rfl rfl)
abbrev cX0_bound : ByteArray := prog_1_method_78_code
def yX0_bound : MethodName := ⟨RX0, "bound", "(I)I"⟩
def dkwX0_bound_2 : List UInt8 := [167, 0, 5, 16, 252, 172]
abbrev dktX0_bound_2 : List UInt8 := dkwX0_bound_2 ++ []
def dkwX0_bound_1 : List UInt8 := [50, 198, 0, 7, 4, 167, 0, 4, 3, 61, 28, 153, 0, 15, 42, 180, 2, 122, 27, 50, 180, 2, 11]
abbrev dktX0_bound_1 : List UInt8 := dkwX0_bound_1 ++ dktX0_bound_2
def dkwX0_bound_0 : List UInt8 := [42, 180, 2, 108, 198, 0, 28, 27, 133, 9, 20, 1, 205, 184, 0, 50, 153, 0, 16, 42, 180, 2, 122, 27]
abbrev dktX0_bound_0 : List UInt8 := dkwX0_bound_0 ++ dktX0_bound_1
theorem dksX0_bound_0 : cX0_bound.data.toList.drop 0 = dktX0_bound_0 := by decide +kernel
theorem dksX0_bound_1 : cX0_bound.data.toList.drop 24 = dktX0_bound_1 := dk_seg dksX0_bound_0 24 rfl rfl
theorem dksX0_bound_2 : cX0_bound.data.toList.drop 47 = dktX0_bound_2 := dk_seg dksX0_bound_1 23 rfl rfl
theorem dX0_bound_0 : decode cX0_bound 0 = .ok (.aload_n 0, 1) := dk_42 (dk_at dksX0_bound_0 0 rfl rfl)
theorem dX0_bound_1 : decode cX0_bound 1 = .ok (.getfield 620, 3) := dk_180 2 108 (dk_at dksX0_bound_0 1 rfl rfl)
theorem dX0_bound_4 : decode cX0_bound 4 = .ok (.ifnull 28, 3) := dk_198 0 28 (dk_at dksX0_bound_0 4 rfl rfl)
theorem dX0_bound_7 : decode cX0_bound 7 = .ok (.iload_n 1, 1) := dk_27 (dk_at dksX0_bound_0 7 rfl rfl)
theorem dX0_bound_8 : decode cX0_bound 8 = .ok (.i2l, 1) := dk_133 (dk_at dksX0_bound_0 8 rfl rfl)
theorem dX0_bound_9 : decode cX0_bound 9 = .ok (.lconst 0, 1) := dk_9 (dk_at dksX0_bound_0 9 rfl rfl)
theorem dX0_bound_10 : decode cX0_bound 10 = .ok (.ldc2_w 461, 3) := dk_20 1 205 (dk_at dksX0_bound_0 10 rfl rfl)
theorem dX0_bound_13 : decode cX0_bound 13 = .ok (.invokestatic 50, 3) := dk_184 0 50 (dk_at dksX0_bound_0 13 rfl rfl)
theorem dX0_bound_16 : decode cX0_bound 16 = .ok (.ifCond .eq 16, 3) := dk_153 0 16 (dk_at dksX0_bound_0 16 rfl rfl)
theorem dX0_bound_19 : decode cX0_bound 19 = .ok (.aload_n 0, 1) := dk_42 (dk_at dksX0_bound_0 19 rfl rfl)
theorem dX0_bound_20 : decode cX0_bound 20 = .ok (.getfield 634, 3) := dk_180 2 122 (dk_at dksX0_bound_0 20 rfl rfl)
theorem dX0_bound_23 : decode cX0_bound 23 = .ok (.iload_n 1, 1) := dk_27 (dk_at dksX0_bound_0 23 rfl rfl)
theorem dX0_bound_24 : decode cX0_bound 24 = .ok (.aaload, 1) := dk_50 (dk_at dksX0_bound_1 0 rfl rfl)
theorem dX0_bound_25 : decode cX0_bound 25 = .ok (.ifnull 7, 3) := dk_198 0 7 (dk_at dksX0_bound_1 1 rfl rfl)
theorem dX0_bound_28 : decode cX0_bound 28 = .ok (.iconst 1, 1) := dk_4 (dk_at dksX0_bound_1 4 rfl rfl)
theorem dX0_bound_29 : decode cX0_bound 29 = .ok (.goto 4, 3) := dk_167 0 4 (dk_at dksX0_bound_1 5 rfl rfl)
theorem dX0_bound_32 : decode cX0_bound 32 = .ok (.iconst 0, 1) := dk_3 (dk_at dksX0_bound_1 8 rfl rfl)
theorem dX0_bound_33 : decode cX0_bound 33 = .ok (.istore_n 2, 1) := dk_61 (dk_at dksX0_bound_1 9 rfl rfl)
theorem dX0_bound_34 : decode cX0_bound 34 = .ok (.iload_n 2, 1) := dk_28 (dk_at dksX0_bound_1 10 rfl rfl)
theorem dX0_bound_35 : decode cX0_bound 35 = .ok (.ifCond .eq 15, 3) := dk_153 0 15 (dk_at dksX0_bound_1 11 rfl rfl)
theorem dX0_bound_38 : decode cX0_bound 38 = .ok (.aload_n 0, 1) := dk_42 (dk_at dksX0_bound_1 14 rfl rfl)
theorem dX0_bound_39 : decode cX0_bound 39 = .ok (.getfield 634, 3) := dk_180 2 122 (dk_at dksX0_bound_1 15 rfl rfl)
theorem dX0_bound_42 : decode cX0_bound 42 = .ok (.iload_n 1, 1) := dk_27 (dk_at dksX0_bound_1 18 rfl rfl)
theorem dX0_bound_43 : decode cX0_bound 43 = .ok (.aaload, 1) := dk_50 (dk_at dksX0_bound_1 19 rfl rfl)
theorem dX0_bound_44 : decode cX0_bound 44 = .ok (.getfield 523, 3) := dk_180 2 11 (dk_at dksX0_bound_1 20 rfl rfl)
theorem dX0_bound_47 : decode cX0_bound 47 = .ok (.goto 5, 3) := dk_167 0 5 (dk_at dksX0_bound_2 0 rfl rfl)
theorem dX0_bound_50 : decode cX0_bound 50 = .ok (.bipush (-4), 2) := dk_16 252 (dk_at dksX0_bound_2 3 rfl rfl)
theorem dX0_bound_52 : decode cX0_bound 52 = .ok (.ireturn, 1) := dk_172 (dk_at dksX0_bound_2 5 rfl rfl)
abbrev cX0_init : ByteArray := prog_1_method_79_code
def yX0_init : MethodName := ⟨RX0, "<init>", "()V"⟩
def dkwX0_init_3 : List UInt8 := [181, 2, 57, 177]
abbrev dktX0_init_3 : List UInt8 := dkwX0_init_3 ++ []
def dkwX0_init_2 : List UInt8 := [181, 1, 14, 42, 16, 8, 188, 10, 181, 1, 24, 42, 16, 7, 188, 10, 181, 2, 55, 42, 16, 32, 188, 10]
abbrev dktX0_init_2 : List UInt8 := dkwX0_init_2 ++ dktX0_init_3
def dkwX0_init_1 : List UInt8 := [16, 12, 189, 1, 93, 181, 1, 126, 42, 17, 6, 64, 188, 8, 181, 0, 57, 42, 16, 8, 188, 11]
abbrev dktX0_init_1 : List UInt8 := dkwX0_init_1 ++ dktX0_init_2
def dkwX0_init_0 : List UInt8 := [42, 183, 2, 135, 42, 16, 24, 189, 0, 12, 181, 0, 1, 42, 17, 0, 160, 189, 0, 18, 181, 2, 4, 42]
abbrev dktX0_init_0 : List UInt8 := dkwX0_init_0 ++ dktX0_init_1
theorem dksX0_init_0 : cX0_init.data.toList.drop 0 = dktX0_init_0 := by decide +kernel
theorem dksX0_init_1 : cX0_init.data.toList.drop 24 = dktX0_init_1 := dk_seg dksX0_init_0 24 rfl rfl
theorem dksX0_init_2 : cX0_init.data.toList.drop 46 = dktX0_init_2 := dk_seg dksX0_init_1 22 rfl rfl
theorem dksX0_init_3 : cX0_init.data.toList.drop 70 = dktX0_init_3 := dk_seg dksX0_init_2 24 rfl rfl
theorem dX0_init_0 : decode cX0_init 0 = .ok (.aload_n 0, 1) := dk_42 (dk_at dksX0_init_0 0 rfl rfl)
theorem dX0_init_1 : decode cX0_init 1 = .ok (.invokespecial 647, 3) := dk_183 2 135 (dk_at dksX0_init_0 1 rfl rfl)
theorem dX0_init_4 : decode cX0_init 4 = .ok (.aload_n 0, 1) := dk_42 (dk_at dksX0_init_0 4 rfl rfl)
theorem dX0_init_5 : decode cX0_init 5 = .ok (.bipush 24, 2) := dk_16 24 (dk_at dksX0_init_0 5 rfl rfl)
theorem dX0_init_7 : decode cX0_init 7 = .ok (.anewarray 12, 3) := dk_189 0 12 (dk_at dksX0_init_0 7 rfl rfl)
theorem dX0_init_10 : decode cX0_init 10 = .ok (.putfield 1, 3) := dk_181 0 1 (dk_at dksX0_init_0 10 rfl rfl)
theorem dX0_init_13 : decode cX0_init 13 = .ok (.aload_n 0, 1) := dk_42 (dk_at dksX0_init_0 13 rfl rfl)
theorem dX0_init_14 : decode cX0_init 14 = .ok (.sipush 160, 3) := dk_17 0 160 (dk_at dksX0_init_0 14 rfl rfl)
theorem dX0_init_17 : decode cX0_init 17 = .ok (.anewarray 18, 3) := dk_189 0 18 (dk_at dksX0_init_0 17 rfl rfl)
theorem dX0_init_20 : decode cX0_init 20 = .ok (.putfield 516, 3) := dk_181 2 4 (dk_at dksX0_init_0 20 rfl rfl)
theorem dX0_init_23 : decode cX0_init 23 = .ok (.aload_n 0, 1) := dk_42 (dk_at dksX0_init_0 23 rfl rfl)
theorem dX0_init_24 : decode cX0_init 24 = .ok (.bipush 12, 2) := dk_16 12 (dk_at dksX0_init_1 0 rfl rfl)
theorem dX0_init_26 : decode cX0_init 26 = .ok (.anewarray 349, 3) := dk_189 1 93 (dk_at dksX0_init_1 2 rfl rfl)
theorem dX0_init_29 : decode cX0_init 29 = .ok (.putfield 382, 3) := dk_181 1 126 (dk_at dksX0_init_1 5 rfl rfl)
theorem dX0_init_32 : decode cX0_init 32 = .ok (.aload_n 0, 1) := dk_42 (dk_at dksX0_init_1 8 rfl rfl)
theorem dX0_init_33 : decode cX0_init 33 = .ok (.sipush 1600, 3) := dk_17 6 64 (dk_at dksX0_init_1 9 rfl rfl)
theorem dX0_init_36 : decode cX0_init 36 = .ok (.newarray .byte, 2) := dk_188_8 (dk_at dksX0_init_1 12 rfl rfl)
theorem dX0_init_38 : decode cX0_init 38 = .ok (.putfield 57, 3) := dk_181 0 57 (dk_at dksX0_init_1 14 rfl rfl)
theorem dX0_init_41 : decode cX0_init 41 = .ok (.aload_n 0, 1) := dk_42 (dk_at dksX0_init_1 17 rfl rfl)
theorem dX0_init_42 : decode cX0_init 42 = .ok (.bipush 8, 2) := dk_16 8 (dk_at dksX0_init_1 18 rfl rfl)
theorem dX0_init_44 : decode cX0_init 44 = .ok (.newarray .long, 2) := dk_188_11 (dk_at dksX0_init_1 20 rfl rfl)
theorem dX0_init_46 : decode cX0_init 46 = .ok (.putfield 270, 3) := dk_181 1 14 (dk_at dksX0_init_2 0 rfl rfl)
theorem dX0_init_49 : decode cX0_init 49 = .ok (.aload_n 0, 1) := dk_42 (dk_at dksX0_init_2 3 rfl rfl)
theorem dX0_init_50 : decode cX0_init 50 = .ok (.bipush 8, 2) := dk_16 8 (dk_at dksX0_init_2 4 rfl rfl)
theorem dX0_init_52 : decode cX0_init 52 = .ok (.newarray .int, 2) := dk_188_10 (dk_at dksX0_init_2 6 rfl rfl)
theorem dX0_init_54 : decode cX0_init 54 = .ok (.putfield 280, 3) := dk_181 1 24 (dk_at dksX0_init_2 8 rfl rfl)
theorem dX0_init_57 : decode cX0_init 57 = .ok (.aload_n 0, 1) := dk_42 (dk_at dksX0_init_2 11 rfl rfl)
theorem dX0_init_58 : decode cX0_init 58 = .ok (.bipush 7, 2) := dk_16 7 (dk_at dksX0_init_2 12 rfl rfl)
theorem dX0_init_60 : decode cX0_init 60 = .ok (.newarray .int, 2) := dk_188_10 (dk_at dksX0_init_2 14 rfl rfl)
theorem dX0_init_62 : decode cX0_init 62 = .ok (.putfield 567, 3) := dk_181 2 55 (dk_at dksX0_init_2 16 rfl rfl)
theorem dX0_init_65 : decode cX0_init 65 = .ok (.aload_n 0, 1) := dk_42 (dk_at dksX0_init_2 19 rfl rfl)
theorem dX0_init_66 : decode cX0_init 66 = .ok (.bipush 32, 2) := dk_16 32 (dk_at dksX0_init_2 20 rfl rfl)
theorem dX0_init_68 : decode cX0_init 68 = .ok (.newarray .int, 2) := dk_188_10 (dk_at dksX0_init_2 22 rfl rfl)
theorem dX0_init_70 : decode cX0_init 70 = .ok (.putfield 569, 3) := dk_181 2 57 (dk_at dksX0_init_3 0 rfl rfl)
theorem dX0_init_73 : decode cX0_init 73 = .ok (.return_, 1) := dk_177 (dk_at dksX0_init_3 3 rfl rfl)
abbrev cX0_count : ByteArray := prog_1_method_80_code
def yX0_count : MethodName := ⟨RX0, "count", "(I)I"⟩
def dkwX0_count_3 : List UInt8 := [172, 2, 172]
abbrev dktX0_count_3 : List UInt8 := dkwX0_count_3 ++ []
def dkwX0_count_2 : List UInt8 := [42, 180, 0, 7, 172, 42, 180, 1, 123, 172, 42, 180, 2, 8, 172, 42, 180, 0, 54, 172, 42, 180, 1, 189]
abbrev dktX0_count_2 : List UInt8 := dkwX0_count_2 ++ dktX0_count_3
def dkwX0_count_1 : List UInt8 := [170, 0, 0, 0, 0, 0, 60, 0, 0, 0, 0, 0, 0, 0, 4, 0, 0, 0, 35, 0, 0, 0, 40, 0, 0, 0, 45, 0, 0, 0, 50, 0, 0, 0, 55]
abbrev dktX0_count_1 : List UInt8 := dkwX0_count_1 ++ dktX0_count_2
def dkwX0_count_0 : List UInt8 := [27]
abbrev dktX0_count_0 : List UInt8 := dkwX0_count_0 ++ dktX0_count_1
theorem dksX0_count_0 : cX0_count.data.toList.drop 0 = dktX0_count_0 := by decide +kernel
theorem dksX0_count_1 : cX0_count.data.toList.drop 1 = dktX0_count_1 := dk_seg dksX0_count_0 1 rfl rfl
theorem dksX0_count_2 : cX0_count.data.toList.drop 36 = dktX0_count_2 := dk_seg dksX0_count_1 35 rfl rfl
theorem dksX0_count_3 : cX0_count.data.toList.drop 60 = dktX0_count_3 := dk_seg dksX0_count_2 24 rfl rfl
theorem dX0_count_0 : decode cX0_count 0 = .ok (.iload_n 1, 1) := dk_27 (dk_at dksX0_count_0 0 rfl rfl)
theorem dX0_count_1 : decode cX0_count 1 = .ok (.tableswitch 60 0 4 #[35, 40, 45, 50, 55], 35) := by decide +kernel
theorem dX0_count_36 : decode cX0_count 36 = .ok (.aload_n 0, 1) := dk_42 (dk_at dksX0_count_2 0 rfl rfl)
theorem dX0_count_37 : decode cX0_count 37 = .ok (.getfield 7, 3) := dk_180 0 7 (dk_at dksX0_count_2 1 rfl rfl)
theorem dX0_count_40 : decode cX0_count 40 = .ok (.ireturn, 1) := dk_172 (dk_at dksX0_count_2 4 rfl rfl)
theorem dX0_count_41 : decode cX0_count 41 = .ok (.aload_n 0, 1) := dk_42 (dk_at dksX0_count_2 5 rfl rfl)
theorem dX0_count_42 : decode cX0_count 42 = .ok (.getfield 379, 3) := dk_180 1 123 (dk_at dksX0_count_2 6 rfl rfl)
theorem dX0_count_45 : decode cX0_count 45 = .ok (.ireturn, 1) := dk_172 (dk_at dksX0_count_2 9 rfl rfl)
theorem dX0_count_46 : decode cX0_count 46 = .ok (.aload_n 0, 1) := dk_42 (dk_at dksX0_count_2 10 rfl rfl)
theorem dX0_count_47 : decode cX0_count 47 = .ok (.getfield 520, 3) := dk_180 2 8 (dk_at dksX0_count_2 11 rfl rfl)
theorem dX0_count_50 : decode cX0_count 50 = .ok (.ireturn, 1) := dk_172 (dk_at dksX0_count_2 14 rfl rfl)
theorem dX0_count_51 : decode cX0_count 51 = .ok (.aload_n 0, 1) := dk_42 (dk_at dksX0_count_2 15 rfl rfl)
theorem dX0_count_52 : decode cX0_count 52 = .ok (.getfield 54, 3) := dk_180 0 54 (dk_at dksX0_count_2 16 rfl rfl)
theorem dX0_count_55 : decode cX0_count 55 = .ok (.ireturn, 1) := dk_172 (dk_at dksX0_count_2 19 rfl rfl)
theorem dX0_count_56 : decode cX0_count 56 = .ok (.aload_n 0, 1) := dk_42 (dk_at dksX0_count_2 20 rfl rfl)
theorem dX0_count_57 : decode cX0_count 57 = .ok (.getfield 445, 3) := dk_180 1 189 (dk_at dksX0_count_2 21 rfl rfl)
theorem dX0_count_60 : decode cX0_count 60 = .ok (.ireturn, 1) := dk_172 (dk_at dksX0_count_3 0 rfl rfl)
theorem dX0_count_61 : decode cX0_count 61 = .ok (.iconst (-1), 1) := dk_2 (dk_at dksX0_count_3 1 rfl rfl)
theorem dX0_count_62 : decode cX0_count 62 = .ok (.ireturn, 1) := dk_172 (dk_at dksX0_count_3 2 rfl rfl)
theorem q143 : (Jvm.Cond.initialized "LetterPost") ∈ lw_all := lw_g (lw_at lw_m1 1 rfl) rfl
theorem q195 : (Jvm.Cond.instanceMethod ({ cls := "LetterPost", name := "feed", desc := "(JI)I" } : Jvm.MethodName)) ∈ lw_all := lw_g (lw_at lw_m1 53 rfl) rfl
theorem q196 : (Jvm.Cond.selects "LetterPost" ({ cls := "LetterPost", name := "feed", desc := "(JI)I" } : Jvm.MethodName) ({ cls := "LetterPost", name := "feed", desc := "(JI)I" } : Jvm.MethodName)) ∈ lw_all := lw_g (lw_at lw_m1 54 rfl) rfl
theorem q197 : (Jvm.Cond.code ({ cls := "LetterPost", name := "feed", desc := "(JI)I" } : Jvm.MethodName) prog_1_method_6_code (5 : Nat) (Option.some Jvm.ClassFile.FieldType.int)) ∈ lw_all := lw_g (lw_at lw_m1 55 rfl) rfl
theorem q198 : (Jvm.Cond.constantLong "LetterPost" (48 : Nat) (8 : Int64)) ∈ lw_all := lw_g (lw_at lw_m1 56 rfl) rfl
theorem q199 : (Jvm.Cond.methodLink "LetterPost" (50 : Nat) ({ cls := "LetterPost", name := "isIn", desc := "(JJJ)Z" } : Jvm.MethodName)) ∈ lw_all := lw_g (lw_at lw_m1 57 rfl) rfl
theorem q200 : (Jvm.Cond.static ({ cls := "LetterPost", name := "isIn", desc := "(JJJ)Z" } : Jvm.MethodName)) ∈ lw_all := lw_g (lw_at lw_m1 58 rfl) rfl
theorem q201 : (Jvm.Cond.code ({ cls := "LetterPost", name := "isIn", desc := "(JJJ)Z" } : Jvm.MethodName) prog_1_method_1_code (6 : Nat) (Option.some Jvm.ClassFile.FieldType.boolean)) ∈ lw_all := lw_g (lw_at lw_m1 59 rfl) rfl
theorem q203 : (Jvm.Cond.instanceMethod ({ cls := "LetterPost", name := "read", desc := "()I" } : Jvm.MethodName)) ∈ lw_all := lw_g (lw_at lw_m1 61 rfl) rfl
theorem q204 : (Jvm.Cond.selects "LetterPost" ({ cls := "LetterPost", name := "read", desc := "()I" } : Jvm.MethodName) ({ cls := "LetterPost", name := "read", desc := "()I" } : Jvm.MethodName)) ∈ lw_all := lw_g (lw_at lw_m1 62 rfl) rfl
theorem q205 : (Jvm.Cond.codeWith ({ cls := "LetterPost", name := "read", desc := "()I" } : Jvm.MethodName) prog_1_method_46_code (3 : Nat) (Option.some Jvm.ClassFile.FieldType.int) [((15 : Nat), (127 : Nat), (130 : Nat), (61 : Nat)), ((15 : Nat), (127 : Nat), (154 : Nat), (443 : Nat))]) ∈ lw_all := lw_g (lw_at lw_m1 63 rfl) rfl
theorem q206 : (Jvm.Cond.classLink "LetterPost" (61 : Nat) "LetterPost$Wrong") ∈ lw_all := lw_g (lw_at lw_m1 64 rfl) rfl
theorem q207 : (Jvm.Cond.classLink "LetterPost" (443 : Nat) "LetterPost$TooMany") ∈ lw_all := lw_g (lw_at lw_m1 65 rfl) rfl
theorem q208 : (Jvm.Cond.methodLink "LetterPost" (415 : Nat) ({ cls := "LetterPost", name := "begin", desc := "()V" } : Jvm.MethodName)) ∈ lw_all := lw_g (lw_at lw_m1 66 rfl) rfl
theorem q209 : (Jvm.Cond.privateMethod ({ cls := "LetterPost", name := "begin", desc := "()V" } : Jvm.MethodName)) ∈ lw_tbl := lw_at lw_m1 67 rfl
theorem q210 : (Jvm.Cond.instanceMethod ({ cls := "LetterPost", name := "begin", desc := "()V" } : Jvm.MethodName)) ∈ lw_all := lw_g (lw_at lw_m1 68 rfl) rfl
theorem q211 : (Jvm.Cond.instantiable "LetterPost" (29 : Nat)) ∈ lw_all := lw_g (lw_at lw_m1 69 rfl) rfl
theorem q212 : (Jvm.Cond.code ({ cls := "LetterPost", name := "begin", desc := "()V" } : Jvm.MethodName) prog_1_method_44_code (1 : Nat) (Option.none : Option Jvm.ClassFile.FieldType)) ∈ lw_all := lw_g (lw_at lw_m1 70 rfl) rfl
theorem q213 : (Jvm.Cond.methodLink "LetterPost" (152 : Nat) ({ cls := "LetterPost", name := "next", desc := "()V" } : Jvm.MethodName)) ∈ lw_all := lw_g (lw_at lw_m1 71 rfl) rfl
theorem q214 : (Jvm.Cond.privateMethod ({ cls := "LetterPost", name := "next", desc := "()V" } : Jvm.MethodName)) ∈ lw_tbl := lw_at lw_m1 72 rfl
theorem q215 : (Jvm.Cond.instanceMethod ({ cls := "LetterPost", name := "next", desc := "()V" } : Jvm.MethodName)) ∈ lw_all := lw_g (lw_at lw_m1 73 rfl) rfl
theorem q216 : (Jvm.Cond.code ({ cls := "LetterPost", name := "next", desc := "()V" } : Jvm.MethodName) prog_1_method_12_code (3 : Nat) (Option.none : Option Jvm.ClassFile.FieldType)) ∈ lw_all := lw_g (lw_at lw_m1 74 rfl) rfl
theorem q217 : (Jvm.Cond.methodLink "LetterPost" (74 : Nat) ({ cls := "LetterPost", name := "blanks", desc := "()V" } : Jvm.MethodName)) ∈ lw_all := lw_g (lw_at lw_m1 75 rfl) rfl
theorem q218 : (Jvm.Cond.privateMethod ({ cls := "LetterPost", name := "blanks", desc := "()V" } : Jvm.MethodName)) ∈ lw_tbl := lw_at lw_m1 76 rfl
theorem q219 : (Jvm.Cond.instanceMethod ({ cls := "LetterPost", name := "blanks", desc := "()V" } : Jvm.MethodName)) ∈ lw_all := lw_g (lw_at lw_m1 77 rfl) rfl
theorem q220 : (Jvm.Cond.code ({ cls := "LetterPost", name := "blanks", desc := "()V" } : Jvm.MethodName) prog_1_method_11_code (1 : Nat) (Option.none : Option Jvm.ClassFile.FieldType)) ∈ lw_all := lw_g (lw_at lw_m1 78 rfl) rfl
theorem q221 : (Jvm.Cond.methodLink "LetterPost" (70 : Nat) ({ cls := "LetterPost", name := "unit", desc := "(I)I" } : Jvm.MethodName)) ∈ lw_all := lw_g (lw_at lw_m1 79 rfl) rfl
theorem q222 : (Jvm.Cond.privateMethod ({ cls := "LetterPost", name := "unit", desc := "(I)I" } : Jvm.MethodName)) ∈ lw_tbl := lw_at lw_m1 80 rfl
theorem q223 : (Jvm.Cond.instanceMethod ({ cls := "LetterPost", name := "unit", desc := "(I)I" } : Jvm.MethodName)) ∈ lw_all := lw_g (lw_at lw_m1 81 rfl) rfl
theorem q224 : (Jvm.Cond.code ({ cls := "LetterPost", name := "unit", desc := "(I)I" } : Jvm.MethodName) prog_1_method_7_code (2 : Nat) (Option.some Jvm.ClassFile.FieldType.int)) ∈ lw_all := lw_g (lw_at lw_m1 82 rfl) rfl
theorem q225 : (Jvm.Cond.methodLink "LetterPost" (84 : Nat) ({ cls := "LetterPost", name := "isSmall", desc := "(I)Z" } : Jvm.MethodName)) ∈ lw_all := lw_g (lw_at lw_m1 83 rfl) rfl
theorem q226 : (Jvm.Cond.static ({ cls := "LetterPost", name := "isSmall", desc := "(I)Z" } : Jvm.MethodName)) ∈ lw_all := lw_g (lw_at lw_m1 84 rfl) rfl
theorem q227 : (Jvm.Cond.code ({ cls := "LetterPost", name := "isSmall", desc := "(I)Z" } : Jvm.MethodName) prog_1_method_8_code (1 : Nat) (Option.some Jvm.ClassFile.FieldType.boolean)) ∈ lw_all := lw_g (lw_at lw_m1 85 rfl) rfl
theorem q228 : (Jvm.Cond.methodLink "LetterPost" (88 : Nat) ({ cls := "LetterPost", name := "readLetters", desc := "(Z)V" } : Jvm.MethodName)) ∈ lw_all := lw_g (lw_at lw_m1 86 rfl) rfl
theorem q229 : (Jvm.Cond.privateMethod ({ cls := "LetterPost", name := "readLetters", desc := "(Z)V" } : Jvm.MethodName)) ∈ lw_tbl := lw_at lw_m1 87 rfl
theorem q230 : (Jvm.Cond.instanceMethod ({ cls := "LetterPost", name := "readLetters", desc := "(Z)V" } : Jvm.MethodName)) ∈ lw_all := lw_g (lw_at lw_m1 88 rfl) rfl
theorem q231 : (Jvm.Cond.code ({ cls := "LetterPost", name := "readLetters", desc := "(Z)V" } : Jvm.MethodName) prog_1_method_13_code (5 : Nat) (Option.none : Option Jvm.ClassFile.FieldType)) ∈ lw_all := lw_g (lw_at lw_m1 89 rfl) rfl
theorem q232 : (Jvm.Cond.methodLink "LetterPost" (92 : Nat) ({ cls := "LetterPost", name := "isFigure", desc := "(I)Z" } : Jvm.MethodName)) ∈ lw_all := lw_g (lw_at lw_m1 90 rfl) rfl
theorem q233 : (Jvm.Cond.static ({ cls := "LetterPost", name := "isFigure", desc := "(I)Z" } : Jvm.MethodName)) ∈ lw_all := lw_g (lw_at lw_m1 91 rfl) rfl
theorem q234 : (Jvm.Cond.code ({ cls := "LetterPost", name := "isFigure", desc := "(I)Z" } : Jvm.MethodName) prog_1_method_9_code (1 : Nat) (Option.some Jvm.ClassFile.FieldType.boolean)) ∈ lw_all := lw_g (lw_at lw_m1 92 rfl) rfl
theorem q235 : (Jvm.Cond.methodLink "LetterPost" (98 : Nat) ({ cls := "LetterPost", name := "need", desc := "(ZII)V" } : Jvm.MethodName)) ∈ lw_all := lw_g (lw_at lw_m1 93 rfl) rfl
theorem q236 : (Jvm.Cond.privateMethod ({ cls := "LetterPost", name := "need", desc := "(ZII)V" } : Jvm.MethodName)) ∈ lw_tbl := lw_at lw_m1 94 rfl
theorem q237 : (Jvm.Cond.instanceMethod ({ cls := "LetterPost", name := "need", desc := "(ZII)V" } : Jvm.MethodName)) ∈ lw_all := lw_g (lw_at lw_m1 95 rfl) rfl
theorem q238 : (Jvm.Cond.code ({ cls := "LetterPost", name := "need", desc := "(ZII)V" } : Jvm.MethodName) prog_1_method_10_code (4 : Nat) (Option.none : Option Jvm.ClassFile.FieldType)) ∈ lw_all := lw_g (lw_at lw_m1 96 rfl) rfl
theorem q279 : (Jvm.Cond.methodLink "LetterPost" (63 : Nat) ({ cls := "LetterPost$Wrong", name := "<init>", desc := "(II)V" } : Jvm.MethodName)) ∈ lw_all := lw_g (lw_at lw_m1 137 rfl) rfl
theorem q289 : (Jvm.Cond.fieldLink "LetterPost" (436 : Nat) "LetterPost$Wrong" "how" "I") ∈ lw_all := lw_g (lw_at lw_m1 147 rfl) rfl
theorem q291 : (Jvm.Cond.fieldLink "LetterPost" (442 : Nat) "LetterPost$Wrong" "place" "I") ∈ lw_all := lw_g (lw_at lw_m1 149 rfl) rfl
theorem q309 : (Jvm.Cond.classLink "LetterPost" (118 : Nat) "java/lang/StringBuilder") ∈ lw_all := lw_g (lw_at lw_m1 167 rfl) rfl
theorem q311 : (Jvm.Cond.stringRef "LetterPost" (120 : Nat) "|") ∈ lw_tbl := lw_at lw_m1 169 rfl
theorem q312 : (Jvm.Cond.methodLink "LetterPost" (122 : Nat) ({ cls := "java/lang/StringBuilder", name := "<init>", desc := "(Ljava/lang/String;)V" } : Jvm.MethodName)) ∈ lw_all := lw_g (lw_at lw_m1 170 rfl) rfl
theorem q468 : (Jvm.Cond.methodLink "LetterPost" (125 : Nat) ({ cls := "java/lang/StringBuilder", name := "append", desc := "(C)Ljava/lang/StringBuilder;" } : Jvm.MethodName)) ∈ lw_all := lw_g (lw_at lw_m2 86 rfl) rfl
theorem q490 : (Jvm.Cond.stringRef "LetterPost" (129 : Nat) "|kind|under|sort|if|as|whole|truth|text|true|false|none|") ∈ lw_tbl := lw_at lw_m2 108 rfl
theorem q491 : (Jvm.Cond.methodLink "LetterPost" (131 : Nat) ({ cls := "java/lang/StringBuilder", name := "toString", desc := "()Ljava/lang/String;" } : Jvm.MethodName)) ∈ lw_all := lw_g (lw_at lw_m2 109 rfl) rfl
theorem q551 : (Jvm.Cond.methodLink "LetterPost" (135 : Nat) ({ cls := "java/lang/String", name := "contains", desc := "(Ljava/lang/CharSequence;)Z" } : Jvm.MethodName)) ∈ lw_all := lw_g (lw_at lw_m2 169 rfl) rfl
theorem q595 : (Jvm.Cond.methodLink "LetterPost" (102 : Nat) ({ cls := "LetterPost", name := "quoted", desc := "()V" } : Jvm.MethodName)) ∈ lw_all := lw_g (lw_at lw_m2 213 rfl) rfl
theorem q596 : (Jvm.Cond.privateMethod ({ cls := "LetterPost", name := "quoted", desc := "()V" } : Jvm.MethodName)) ∈ lw_tbl := lw_at lw_m2 214 rfl
theorem q597 : (Jvm.Cond.instanceMethod ({ cls := "LetterPost", name := "quoted", desc := "()V" } : Jvm.MethodName)) ∈ lw_all := lw_g (lw_at lw_m2 215 rfl) rfl
theorem q598 : (Jvm.Cond.code ({ cls := "LetterPost", name := "quoted", desc := "()V" } : Jvm.MethodName) prog_1_method_14_code (2 : Nat) (Option.none : Option Jvm.ClassFile.FieldType)) ∈ lw_all := lw_g (lw_at lw_m2 216 rfl) rfl
theorem q599 : (Jvm.Cond.stringRef "LetterPost" (105 : Nat) ";,(){}:|_<=>+-*/%.") ∈ lw_tbl := lw_at lw_m2 217 rfl
theorem q600 : (Jvm.Cond.methodLink "LetterPost" (107 : Nat) ({ cls := "java/lang/String", name := "indexOf", desc := "(I)I" } : Jvm.MethodName)) ∈ lw_all := lw_g (lw_at lw_m2 218 rfl) rfl
theorem q646 : (Jvm.Cond.stringRef "LetterPost" (418 : Nat) "kind") ∈ lw_tbl := lw_at lw_m3 24 rfl
theorem q647 : (Jvm.Cond.methodLink "LetterPost" (162 : Nat) ({ cls := "LetterPost", name := "isWord", desc := "(Ljava/lang/String;)Z" } : Jvm.MethodName)) ∈ lw_all := lw_g (lw_at lw_m3 25 rfl) rfl
theorem q648 : (Jvm.Cond.privateMethod ({ cls := "LetterPost", name := "isWord", desc := "(Ljava/lang/String;)Z" } : Jvm.MethodName)) ∈ lw_tbl := lw_at lw_m3 26 rfl
theorem q649 : (Jvm.Cond.instanceMethod ({ cls := "LetterPost", name := "isWord", desc := "(Ljava/lang/String;)Z" } : Jvm.MethodName)) ∈ lw_all := lw_g (lw_at lw_m3 27 rfl) rfl
theorem q650 : (Jvm.Cond.code ({ cls := "LetterPost", name := "isWord", desc := "(Ljava/lang/String;)Z" } : Jvm.MethodName) prog_1_method_16_code (4 : Nat) (Option.some Jvm.ClassFile.FieldType.boolean)) ∈ lw_all := lw_g (lw_at lw_m3 28 rfl) rfl
theorem q651 : (Jvm.Cond.methodLink "LetterPost" (139 : Nat) ({ cls := "java/lang/String", name := "length", desc := "()I" } : Jvm.MethodName)) ∈ lw_all := lw_g (lw_at lw_m3 29 rfl) rfl
theorem q652 : (Jvm.Cond.methodLink "LetterPost" (142 : Nat) ({ cls := "java/lang/String", name := "charAt", desc := "(I)C" } : Jvm.MethodName)) ∈ lw_all := lw_g (lw_at lw_m3 30 rfl) rfl
theorem q663 : (Jvm.Cond.methodLink "LetterPost" (419 : Nat) ({ cls := "LetterPost", name := "readKind", desc := "(Z)V" } : Jvm.MethodName)) ∈ lw_all := lw_g (lw_at lw_m3 41 rfl) rfl
theorem q664 : (Jvm.Cond.privateMethod ({ cls := "LetterPost", name := "readKind", desc := "(Z)V" } : Jvm.MethodName)) ∈ lw_tbl := lw_at lw_m3 42 rfl
theorem q665 : (Jvm.Cond.instanceMethod ({ cls := "LetterPost", name := "readKind", desc := "(Z)V" } : Jvm.MethodName)) ∈ lw_all := lw_g (lw_at lw_m3 43 rfl) rfl
theorem q666 : (Jvm.Cond.code ({ cls := "LetterPost", name := "readKind", desc := "(Z)V" } : Jvm.MethodName) prog_1_method_20_code (7 : Nat) (Option.none : Option Jvm.ClassFile.FieldType)) ∈ lw_all := lw_g (lw_at lw_m3 44 rfl) rfl
theorem q667 : (Jvm.Cond.methodLink "LetterPost" (149 : Nat) ({ cls := "LetterPost", name := "want", desc := "(Z)V" } : Jvm.MethodName)) ∈ lw_all := lw_g (lw_at lw_m3 45 rfl) rfl
theorem q668 : (Jvm.Cond.privateMethod ({ cls := "LetterPost", name := "want", desc := "(Z)V" } : Jvm.MethodName)) ∈ lw_tbl := lw_at lw_m3 46 rfl
theorem q669 : (Jvm.Cond.instanceMethod ({ cls := "LetterPost", name := "want", desc := "(Z)V" } : Jvm.MethodName)) ∈ lw_all := lw_g (lw_at lw_m3 47 rfl) rfl
theorem q670 : (Jvm.Cond.code ({ cls := "LetterPost", name := "want", desc := "(Z)V" } : Jvm.MethodName) prog_1_method_17_code (2 : Nat) (Option.none : Option Jvm.ClassFile.FieldType)) ∈ lw_all := lw_g (lw_at lw_m3 48 rfl) rfl
theorem q671 : (Jvm.Cond.methodLink "LetterPost" (155 : Nat) ({ cls := "LetterPost", name := "named", desc := "(J)LLetterPost$Kind;" } : Jvm.MethodName)) ∈ lw_all := lw_g (lw_at lw_m3 49 rfl) rfl
theorem q672 : (Jvm.Cond.privateMethod ({ cls := "LetterPost", name := "named", desc := "(J)LLetterPost$Kind;" } : Jvm.MethodName)) ∈ lw_tbl := lw_at lw_m3 50 rfl
theorem q673 : (Jvm.Cond.instanceMethod ({ cls := "LetterPost", name := "named", desc := "(J)LLetterPost$Kind;" } : Jvm.MethodName)) ∈ lw_all := lw_g (lw_at lw_m3 51 rfl) rfl
theorem q674 : (Jvm.Cond.code ({ cls := "LetterPost", name := "named", desc := "(J)LLetterPost$Kind;" } : Jvm.MethodName) prog_1_method_3_code (4 : Nat) (Option.some (Jvm.ClassFile.FieldType.object "LetterPost$Kind"))) ∈ lw_all := lw_g (lw_at lw_m3 52 rfl) rfl
theorem q675 : (Jvm.Cond.stringRef "LetterPost" (170 : Nat) "under") ∈ lw_tbl := lw_at lw_m3 53 rfl
theorem q676 : (Jvm.Cond.classLink "LetterPost" (12 : Nat) "LetterPost$Kind") ∈ lw_all := lw_g (lw_at lw_m3 54 rfl) rfl
theorem q678 : (Jvm.Cond.methodLink "LetterPost" (179 : Nat) ({ cls := "LetterPost$Kind", name := "<init>", desc := "(IJLLetterPost$Kind;)V" } : Jvm.MethodName)) ∈ lw_all := lw_g (lw_at lw_m3 56 rfl) rfl
theorem q684 : (Jvm.Cond.fieldLink "LetterPost" (159 : Nat) "LetterPost$Kind" "number" "I") ∈ lw_all := lw_g (lw_at lw_m3 62 rfl) rfl
theorem q686 : (Jvm.Cond.fieldLink "LetterPost" (11 : Nat) "LetterPost$Kind" "name" "J") ∈ lw_all := lw_g (lw_at lw_m3 64 rfl) rfl
theorem q688 : (Jvm.Cond.fieldLink "LetterPost" (463 : Nat) "LetterPost$Kind" "under" "LLetterPost$Kind;") ∈ lw_all := lw_g (lw_at lw_m3 66 rfl) rfl
theorem q690 : (Jvm.Cond.fieldLink "LetterPost" (175 : Nat) "LetterPost$Kind" "isSealed" "Z") ∈ lw_all := lw_g (lw_at lw_m3 68 rfl) rfl
theorem q693 : (Jvm.Cond.fieldLink "LetterPost" (185 : Nat) "LetterPost$Kind" "sorts" "[I") ∈ lw_all := lw_g (lw_at lw_m3 71 rfl) rfl
theorem q694 : (Jvm.Cond.fieldLink "LetterPost" (172 : Nat) "LetterPost$Kind" "many" "I") ∈ lw_all := lw_g (lw_at lw_m3 72 rfl) rfl
theorem q709 : (Jvm.Cond.methodLink "LetterPost" (146 : Nat) ({ cls := "LetterPost", name := "isSign", desc := "(I)Z" } : Jvm.MethodName)) ∈ lw_all := lw_g (lw_at lw_m3 87 rfl) rfl
theorem q710 : (Jvm.Cond.privateMethod ({ cls := "LetterPost", name := "isSign", desc := "(I)Z" } : Jvm.MethodName)) ∈ lw_tbl := lw_at lw_m3 88 rfl
theorem q711 : (Jvm.Cond.instanceMethod ({ cls := "LetterPost", name := "isSign", desc := "(I)Z" } : Jvm.MethodName)) ∈ lw_all := lw_g (lw_at lw_m3 89 rfl) rfl
theorem q712 : (Jvm.Cond.code ({ cls := "LetterPost", name := "isSign", desc := "(I)Z" } : Jvm.MethodName) prog_1_method_15_code (2 : Nat) (Option.some Jvm.ClassFile.FieldType.boolean)) ∈ lw_all := lw_g (lw_at lw_m3 90 rfl) rfl
theorem q713 : (Jvm.Cond.methodLink "LetterPost" (182 : Nat) ({ cls := "LetterPost", name := "readSort", desc := "()I" } : Jvm.MethodName)) ∈ lw_all := lw_g (lw_at lw_m3 91 rfl) rfl
theorem q714 : (Jvm.Cond.privateMethod ({ cls := "LetterPost", name := "readSort", desc := "()I" } : Jvm.MethodName)) ∈ lw_tbl := lw_at lw_m3 92 rfl
theorem q715 : (Jvm.Cond.instanceMethod ({ cls := "LetterPost", name := "readSort", desc := "()I" } : Jvm.MethodName)) ∈ lw_all := lw_g (lw_at lw_m3 93 rfl) rfl
theorem q716 : (Jvm.Cond.code ({ cls := "LetterPost", name := "readSort", desc := "()I" } : Jvm.MethodName) prog_1_method_19_code (3 : Nat) (Option.some Jvm.ClassFile.FieldType.int)) ∈ lw_all := lw_g (lw_at lw_m3 94 rfl) rfl
theorem q717 : (Jvm.Cond.stringRef "LetterPost" (160 : Nat) "whole") ∈ lw_tbl := lw_at lw_m3 95 rfl
theorem q718 : (Jvm.Cond.stringRef "LetterPost" (166 : Nat) "truth") ∈ lw_tbl := lw_at lw_m3 96 rfl
theorem q719 : (Jvm.Cond.stringRef "LetterPost" (168 : Nat) "text") ∈ lw_tbl := lw_at lw_m3 97 rfl
theorem q720 : (Jvm.Cond.methodLink "LetterPost" (189 : Nat) ({ cls := "LetterPost", name := "skip", desc := "(I)V" } : Jvm.MethodName)) ∈ lw_all := lw_g (lw_at lw_m3 98 rfl) rfl
theorem q721 : (Jvm.Cond.privateMethod ({ cls := "LetterPost", name := "skip", desc := "(I)V" } : Jvm.MethodName)) ∈ lw_tbl := lw_at lw_m3 99 rfl
theorem q722 : (Jvm.Cond.instanceMethod ({ cls := "LetterPost", name := "skip", desc := "(I)V" } : Jvm.MethodName)) ∈ lw_all := lw_g (lw_at lw_m3 100 rfl) rfl
theorem q723 : (Jvm.Cond.code ({ cls := "LetterPost", name := "skip", desc := "(I)V" } : Jvm.MethodName) prog_1_method_18_code (2 : Nat) (Option.none : Option Jvm.ClassFile.FieldType)) ∈ lw_all := lw_g (lw_at lw_m3 101 rfl) rfl
theorem q724 : (Jvm.Cond.stringRef "LetterPost" (422 : Nat) "sort") ∈ lw_tbl := lw_at lw_m3 102 rfl
theorem q725 : (Jvm.Cond.methodLink "LetterPost" (424 : Nat) ({ cls := "LetterPost", name := "readFunction", desc := "()V" } : Jvm.MethodName)) ∈ lw_all := lw_g (lw_at lw_m3 103 rfl) rfl
theorem q726 : (Jvm.Cond.privateMethod ({ cls := "LetterPost", name := "readFunction", desc := "()V" } : Jvm.MethodName)) ∈ lw_tbl := lw_at lw_m3 104 rfl
theorem q727 : (Jvm.Cond.instanceMethod ({ cls := "LetterPost", name := "readFunction", desc := "()V" } : Jvm.MethodName)) ∈ lw_all := lw_g (lw_at lw_m3 105 rfl) rfl
theorem q728 : (Jvm.Cond.code ({ cls := "LetterPost", name := "readFunction", desc := "()V" } : Jvm.MethodName) prog_1_method_41_code (3 : Nat) (Option.none : Option Jvm.ClassFile.FieldType)) ∈ lw_all := lw_g (lw_at lw_m3 106 rfl) rfl
theorem q729 : (Jvm.Cond.methodLink "LetterPost" (387 : Nat) ({ cls := "LetterPost", name := "functionOf", desc := "(J)LLetterPost$Function;" } : Jvm.MethodName)) ∈ lw_all := lw_g (lw_at lw_m3 107 rfl) rfl
theorem q730 : (Jvm.Cond.privateMethod ({ cls := "LetterPost", name := "functionOf", desc := "(J)LLetterPost$Function;" } : Jvm.MethodName)) ∈ lw_tbl := lw_at lw_m3 108 rfl
theorem q731 : (Jvm.Cond.instanceMethod ({ cls := "LetterPost", name := "functionOf", desc := "(J)LLetterPost$Function;" } : Jvm.MethodName)) ∈ lw_all := lw_g (lw_at lw_m3 109 rfl) rfl
theorem q732 : (Jvm.Cond.code ({ cls := "LetterPost", name := "functionOf", desc := "(J)LLetterPost$Function;" } : Jvm.MethodName) prog_1_method_40_code (4 : Nat) (Option.some (Jvm.ClassFile.FieldType.object "LetterPost$Function"))) ∈ lw_all := lw_g (lw_at lw_m3 110 rfl) rfl
theorem q733 : (Jvm.Cond.classLink "LetterPost" (349 : Nat) "LetterPost$Function") ∈ lw_all := lw_g (lw_at lw_m3 111 rfl) rfl
theorem q735 : (Jvm.Cond.methodLink "LetterPost" (391 : Nat) ({ cls := "LetterPost$Function", name := "<init>", desc := "(LLetterPost;IJ)V" } : Jvm.MethodName)) ∈ lw_all := lw_g (lw_at lw_m3 113 rfl) rfl
theorem q744 : (Jvm.Cond.fieldLink "LetterPost" (572 : Nat) "LetterPost$Function" "number" "I") ∈ lw_all := lw_g (lw_at lw_m3 122 rfl) rfl
theorem q746 : (Jvm.Cond.fieldLink "LetterPost" (386 : Nat) "LetterPost$Function" "name" "J") ∈ lw_all := lw_g (lw_at lw_m3 124 rfl) rfl
theorem q748 : (Jvm.Cond.fieldLink "LetterPost" (361 : Nat) "LetterPost$Function" "sorts" "[I") ∈ lw_all := lw_g (lw_at lw_m3 126 rfl) rfl
theorem q750 : (Jvm.Cond.fieldLink "LetterPost" (354 : Nat) "LetterPost$Function" "columns" "I") ∈ lw_all := lw_g (lw_at lw_m3 128 rfl) rfl
theorem q752 : (Jvm.Cond.fieldLink "LetterPost" (375 : Nat) "LetterPost$Function" "rules" "[LLetterPost$Rule;") ∈ lw_all := lw_g (lw_at lw_m3 130 rfl) rfl
theorem q754 : (Jvm.Cond.fieldLink "LetterPost" (348 : Nat) "LetterPost$Function" "ruleMany" "I") ∈ lw_all := lw_g (lw_at lw_m3 132 rfl) rfl
theorem q756 : (Jvm.Cond.fieldLink "LetterPost" (468 : Nat) "LetterPost$Function" "rows" "[LLetterPost$Row;") ∈ lw_all := lw_g (lw_at lw_m3 134 rfl) rfl
theorem q761 : (Jvm.Cond.fieldLink "LetterPost" (453 : Nat) "LetterPost$Function" "tree" "LLetterPost$Node;") ∈ lw_all := lw_g (lw_at lw_m3 139 rfl) rfl
theorem q763 : (Jvm.Cond.fieldLink "LetterPost" (472 : Nat) "LetterPost$Function" "way" "I") ∈ lw_all := lw_g (lw_at lw_m3 141 rfl) rfl
theorem q765 : (Jvm.Cond.fieldLink "LetterPost" (466 : Nat) "LetterPost$Function" "known" "I") ∈ lw_all := lw_g (lw_at lw_m3 143 rfl) rfl
theorem q794 : (Jvm.Cond.methodLink "LetterPost" (394 : Nat) ({ cls := "LetterPost", name := "rule", desc := "(LLetterPost$Function;)V" } : Jvm.MethodName)) ∈ lw_all := lw_g (lw_at lw_m3 172 rfl) rfl
theorem q795 : (Jvm.Cond.privateMethod ({ cls := "LetterPost", name := "rule", desc := "(LLetterPost$Function;)V" } : Jvm.MethodName)) ∈ lw_tbl := lw_at lw_m3 173 rfl
theorem q796 : (Jvm.Cond.instanceMethod ({ cls := "LetterPost", name := "rule", desc := "(LLetterPost$Function;)V" } : Jvm.MethodName)) ∈ lw_all := lw_g (lw_at lw_m3 174 rfl) rfl
theorem q797 : (Jvm.Cond.code ({ cls := "LetterPost", name := "rule", desc := "(LLetterPost$Function;)V" } : Jvm.MethodName) prog_1_method_39_code (4 : Nat) (Option.none : Option Jvm.ClassFile.FieldType)) ∈ lw_all := lw_g (lw_at lw_m3 175 rfl) rfl
theorem q798 : (Jvm.Cond.classLink "LetterPost" (327 : Nat) "LetterPost$Rule") ∈ lw_all := lw_g (lw_at lw_m3 176 rfl) rfl
theorem q800 : (Jvm.Cond.methodLink "LetterPost" (353 : Nat) ({ cls := "LetterPost$Rule", name := "<init>", desc := "(II)V" } : Jvm.MethodName)) ∈ lw_all := lw_g (lw_at lw_m3 178 rfl) rfl
theorem q805 : (Jvm.Cond.fieldLink "LetterPost" (492 : Nat) "LetterPost$Rule" "number" "I") ∈ lw_all := lw_g (lw_at lw_m3 183 rfl) rfl
theorem q807 : (Jvm.Cond.fieldLink "LetterPost" (404 : Nat) "LetterPost$Rule" "place" "I") ∈ lw_all := lw_g (lw_at lw_m3 185 rfl) rfl
theorem q809 : (Jvm.Cond.fieldLink "LetterPost" (357 : Nat) "LetterPost$Rule" "patterns" "[LLetterPost$Pattern;") ∈ lw_all := lw_g (lw_at lw_m3 187 rfl) rfl
theorem q812 : (Jvm.Cond.fieldLink "LetterPost" (368 : Nat) "LetterPost$Rule" "guard" "LLetterPost$Guard;") ∈ lw_all := lw_g (lw_at lw_m3 190 rfl) rfl
theorem q813 : (Jvm.Cond.fieldLink "LetterPost" (326 : Nat) "LetterPost$Rule" "answer" "I") ∈ lw_all := lw_g (lw_at lw_m3 191 rfl) rfl
theorem q815 : (Jvm.Cond.fieldLink "LetterPost" (335 : Nat) "LetterPost$Rule" "name" "I") ∈ lw_all := lw_g (lw_at lw_m3 193 rfl) rfl
theorem q816 : (Jvm.Cond.fieldLink "LetterPost" (342 : Nat) "LetterPost$Rule" "handed" "[I") ∈ lw_all := lw_g (lw_at lw_m3 194 rfl) rfl
theorem q817 : (Jvm.Cond.fieldLink "LetterPost" (336 : Nat) "LetterPost$Rule" "calls" "J") ∈ lw_all := lw_g (lw_at lw_m3 195 rfl) rfl
theorem q818 : (Jvm.Cond.fieldLink "LetterPost" (339 : Nat) "LetterPost$Rule" "callPlace" "I") ∈ lw_all := lw_g (lw_at lw_m3 196 rfl) rfl
theorem q819 : (Jvm.Cond.fieldLink "LetterPost" (345 : Nat) "LetterPost$Rule" "handedPlaces" "[I") ∈ lw_all := lw_g (lw_at lw_m3 197 rfl) rfl
theorem q820 : (Jvm.Cond.fieldLink "LetterPost" (405 : Nat) "LetterPost$Rule" "called" "LLetterPost$Function;") ∈ lw_all := lw_g (lw_at lw_m3 198 rfl) rfl
theorem q822 : (Jvm.Cond.fieldLink "LetterPost" (374 : Nat) "LetterPost$Rule" "sorts" "[I") ∈ lw_all := lw_g (lw_at lw_m3 200 rfl) rfl
theorem q848 : (Jvm.Cond.classLink "LetterPost" (38 : Nat) "LetterPost$Pattern") ∈ lw_all := lw_g (lw_at lw_m3 226 rfl) rfl
theorem q850 : (Jvm.Cond.methodLink "LetterPost" (288 : Nat) ({ cls := "LetterPost", name := "pattern", desc := "(I)LLetterPost$Pattern;" } : Jvm.MethodName)) ∈ lw_all := lw_g (lw_at lw_m3 228 rfl) rfl
theorem q851 : (Jvm.Cond.privateMethod ({ cls := "LetterPost", name := "pattern", desc := "(I)LLetterPost$Pattern;" } : Jvm.MethodName)) ∈ lw_tbl := lw_at lw_m3 229 rfl
theorem q852 : (Jvm.Cond.instanceMethod ({ cls := "LetterPost", name := "pattern", desc := "(I)LLetterPost$Pattern;" } : Jvm.MethodName)) ∈ lw_all := lw_g (lw_at lw_m3 230 rfl) rfl
theorem q853 : (Jvm.Cond.code ({ cls := "LetterPost", name := "pattern", desc := "(I)LLetterPost$Pattern;" } : Jvm.MethodName) prog_1_method_21_code (6 : Nat) (Option.some (Jvm.ClassFile.FieldType.object "LetterPost$Pattern"))) ∈ lw_all := lw_g (lw_at lw_m3 231 rfl) rfl
theorem q854 : (Jvm.Cond.methodLink "LetterPost" (199 : Nat) ({ cls := "LetterPost", name := "plain", desc := "(IZ)LLetterPost$Pattern;" } : Jvm.MethodName)) ∈ lw_all := lw_g (lw_at lw_m3 232 rfl) rfl
theorem q855 : (Jvm.Cond.privateMethod ({ cls := "LetterPost", name := "plain", desc := "(IZ)LLetterPost$Pattern;" } : Jvm.MethodName)) ∈ lw_tbl := lw_at lw_m3 233 rfl
theorem q856 : (Jvm.Cond.instanceMethod ({ cls := "LetterPost", name := "plain", desc := "(IZ)LLetterPost$Pattern;" } : Jvm.MethodName)) ∈ lw_all := lw_g (lw_at lw_m3 234 rfl) rfl
theorem q857 : (Jvm.Cond.code ({ cls := "LetterPost", name := "plain", desc := "(IZ)LLetterPost$Pattern;" } : Jvm.MethodName) prog_1_method_23_code (6 : Nat) (Option.some (Jvm.ClassFile.FieldType.object "LetterPost$Pattern"))) ∈ lw_all := lw_g (lw_at lw_m3 235 rfl) rfl
theorem q858 : (Jvm.Cond.classLink "LetterPost" (216 : Nat) "LetterPost$Any") ∈ lw_all := lw_g (lw_at lw_m3 236 rfl) rfl
theorem q860 : (Jvm.Cond.methodLinkNest "LetterPost" (218 : Nat) ({ cls := "LetterPost$Any", name := "<init>", desc := "()V" } : Jvm.MethodName) "LetterPost") ∈ lw_tbl := lw_at lw_m3 238 rfl
theorem q868 : (Jvm.Cond.fieldLink "LetterPost" (213 : Nat) "LetterPost$Pattern" "name" "I") ∈ lw_all := lw_g (lw_at lw_m4 6 rfl) rfl
theorem q869 : (Jvm.Cond.fieldLink "LetterPost" (215 : Nat) "LetterPost$Either" "name" "I") ∈ lw_all := lw_g (lw_at lw_m4 7 rfl) rfl
theorem q871 : (Jvm.Cond.fieldLink "LetterPost" (226 : Nat) "LetterPost$Any" "name" "I") ∈ lw_all := lw_g (lw_at lw_m4 9 rfl) rfl
theorem q876 : (Jvm.Cond.methodLink "LetterPost" (220 : Nat) ({ cls := "LetterPost", name := "nameAt", desc := "(I)I" } : Jvm.MethodName)) ∈ lw_all := lw_g (lw_at lw_m4 14 rfl) rfl
theorem q877 : (Jvm.Cond.privateMethod ({ cls := "LetterPost", name := "nameAt", desc := "(I)I" } : Jvm.MethodName)) ∈ lw_tbl := lw_at lw_m4 15 rfl
theorem q878 : (Jvm.Cond.instanceMethod ({ cls := "LetterPost", name := "nameAt", desc := "(I)I" } : Jvm.MethodName)) ∈ lw_all := lw_g (lw_at lw_m4 16 rfl) rfl
theorem q879 : (Jvm.Cond.code ({ cls := "LetterPost", name := "nameAt", desc := "(I)I" } : Jvm.MethodName) prog_1_method_27_code (3 : Nat) (Option.some Jvm.ClassFile.FieldType.int)) ∈ lw_all := lw_g (lw_at lw_m4 17 rfl) rfl
theorem q880 : (Jvm.Cond.methodLink "LetterPost" (223 : Nat) ({ cls := "LetterPost", name := "bind", desc := "(II)I" } : Jvm.MethodName)) ∈ lw_all := lw_g (lw_at lw_m4 18 rfl) rfl
theorem q881 : (Jvm.Cond.privateMethod ({ cls := "LetterPost", name := "bind", desc := "(II)I" } : Jvm.MethodName)) ∈ lw_tbl := lw_at lw_m4 19 rfl
theorem q882 : (Jvm.Cond.instanceMethod ({ cls := "LetterPost", name := "bind", desc := "(II)I" } : Jvm.MethodName)) ∈ lw_all := lw_g (lw_at lw_m4 20 rfl) rfl
theorem q883 : (Jvm.Cond.code ({ cls := "LetterPost", name := "bind", desc := "(II)I" } : Jvm.MethodName) prog_1_method_28_code (3 : Nat) (Option.some Jvm.ClassFile.FieldType.int)) ∈ lw_all := lw_g (lw_at lw_m4 21 rfl) rfl
theorem q884 : (Jvm.Cond.methodLink "LetterPost" (277 : Nat) ({ cls := "java/lang/Math", name := "max", desc := "(II)I" } : Jvm.MethodName)) ∈ lw_all := lw_g (lw_at lw_m4 22 rfl) rfl
theorem q885 : (Jvm.Cond.methodLink "LetterPost" (227 : Nat) ({ cls := "LetterPost", name := "range", desc := "(I)LLetterPost$Pattern;" } : Jvm.MethodName)) ∈ lw_all := lw_g (lw_at lw_m4 23 rfl) rfl
theorem q886 : (Jvm.Cond.privateMethod ({ cls := "LetterPost", name := "range", desc := "(I)LLetterPost$Pattern;" } : Jvm.MethodName)) ∈ lw_tbl := lw_at lw_m4 24 rfl
theorem q887 : (Jvm.Cond.instanceMethod ({ cls := "LetterPost", name := "range", desc := "(I)LLetterPost$Pattern;" } : Jvm.MethodName)) ∈ lw_all := lw_g (lw_at lw_m4 25 rfl) rfl
theorem q888 : (Jvm.Cond.code ({ cls := "LetterPost", name := "range", desc := "(I)LLetterPost$Pattern;" } : Jvm.MethodName) prog_1_method_26_code (4 : Nat) (Option.some (Jvm.ClassFile.FieldType.object "LetterPost$Pattern"))) ∈ lw_all := lw_g (lw_at lw_m4 26 rfl) rfl
theorem q889 : (Jvm.Cond.methodLink "LetterPost" (261 : Nat) ({ cls := "LetterPost", name := "readWhole", desc := "()I" } : Jvm.MethodName)) ∈ lw_all := lw_g (lw_at lw_m4 27 rfl) rfl
theorem q890 : (Jvm.Cond.privateMethod ({ cls := "LetterPost", name := "readWhole", desc := "()I" } : Jvm.MethodName)) ∈ lw_tbl := lw_at lw_m4 28 rfl
theorem q891 : (Jvm.Cond.instanceMethod ({ cls := "LetterPost", name := "readWhole", desc := "()I" } : Jvm.MethodName)) ∈ lw_all := lw_g (lw_at lw_m4 29 rfl) rfl
theorem q892 : (Jvm.Cond.code ({ cls := "LetterPost", name := "readWhole", desc := "()I" } : Jvm.MethodName) prog_1_method_25_code (2 : Nat) (Option.some Jvm.ClassFile.FieldType.int)) ∈ lw_all := lw_g (lw_at lw_m4 30 rfl) rfl
theorem q893 : (Jvm.Cond.methodLink "LetterPost" (258 : Nat) ({ cls := "LetterPost", name := "signed", desc := "()I" } : Jvm.MethodName)) ∈ lw_all := lw_g (lw_at lw_m4 31 rfl) rfl
theorem q894 : (Jvm.Cond.privateMethod ({ cls := "LetterPost", name := "signed", desc := "()I" } : Jvm.MethodName)) ∈ lw_tbl := lw_at lw_m4 32 rfl
theorem q895 : (Jvm.Cond.instanceMethod ({ cls := "LetterPost", name := "signed", desc := "()I" } : Jvm.MethodName)) ∈ lw_all := lw_g (lw_at lw_m4 33 rfl) rfl
theorem q896 : (Jvm.Cond.code ({ cls := "LetterPost", name := "signed", desc := "()I" } : Jvm.MethodName) prog_1_method_24_code (2 : Nat) (Option.some Jvm.ClassFile.FieldType.int)) ∈ lw_all := lw_g (lw_at lw_m4 34 rfl) rfl
theorem q897 : (Jvm.Cond.classLink "LetterPost" (264 : Nat) "LetterPost$Range") ∈ lw_all := lw_g (lw_at lw_m4 35 rfl) rfl
theorem q899 : (Jvm.Cond.methodLink "LetterPost" (266 : Nat) ({ cls := "LetterPost$Range", name := "<init>", desc := "(II)V" } : Jvm.MethodName)) ∈ lw_all := lw_g (lw_at lw_m4 37 rfl) rfl
theorem q916 : (Jvm.Cond.methodLink "LetterPost" (231 : Nat) ({ cls := "LetterPost", name := "kinded", desc := "(IZ)LLetterPost$Pattern;" } : Jvm.MethodName)) ∈ lw_all := lw_g (lw_at lw_m4 54 rfl) rfl
theorem q917 : (Jvm.Cond.privateMethod ({ cls := "LetterPost", name := "kinded", desc := "(IZ)LLetterPost$Pattern;" } : Jvm.MethodName)) ∈ lw_tbl := lw_at lw_m4 55 rfl
theorem q918 : (Jvm.Cond.instanceMethod ({ cls := "LetterPost", name := "kinded", desc := "(IZ)LLetterPost$Pattern;" } : Jvm.MethodName)) ∈ lw_all := lw_g (lw_at lw_m4 56 rfl) rfl
theorem q919 : (Jvm.Cond.code ({ cls := "LetterPost", name := "kinded", desc := "(IZ)LLetterPost$Pattern;" } : Jvm.MethodName) prog_1_method_30_code (6 : Nat) (Option.some (Jvm.ClassFile.FieldType.object "LetterPost$Pattern"))) ∈ lw_all := lw_g (lw_at lw_m4 57 rfl) rfl
theorem q920 : (Jvm.Cond.methodLink "LetterPost" (252 : Nat) ({ cls := "LetterPost", name := "isKind", desc := "(I)Z" } : Jvm.MethodName)) ∈ lw_all := lw_g (lw_at lw_m4 58 rfl) rfl
theorem q921 : (Jvm.Cond.static ({ cls := "LetterPost", name := "isKind", desc := "(I)Z" } : Jvm.MethodName)) ∈ lw_all := lw_g (lw_at lw_m4 59 rfl) rfl
theorem q922 : (Jvm.Cond.code ({ cls := "LetterPost", name := "isKind", desc := "(I)Z" } : Jvm.MethodName) prog_1_method_22_code (1 : Nat) (Option.some Jvm.ClassFile.FieldType.boolean)) ∈ lw_all := lw_g (lw_at lw_m4 60 rfl) rfl
theorem q923 : (Jvm.Cond.methodLink "LetterPost" (29 : Nat) ({ cls := "LetterPost", name := "kindOf", desc := "(I)LLetterPost$Kind;" } : Jvm.MethodName)) ∈ lw_all := lw_g (lw_at lw_m4 61 rfl) rfl
theorem q924 : (Jvm.Cond.privateMethod ({ cls := "LetterPost", name := "kindOf", desc := "(I)LLetterPost$Kind;" } : Jvm.MethodName)) ∈ lw_tbl := lw_at lw_m4 62 rfl
theorem q925 : (Jvm.Cond.instanceMethod ({ cls := "LetterPost", name := "kindOf", desc := "(I)LLetterPost$Kind;" } : Jvm.MethodName)) ∈ lw_all := lw_g (lw_at lw_m4 63 rfl) rfl
theorem q926 : (Jvm.Cond.code ({ cls := "LetterPost", name := "kindOf", desc := "(I)LLetterPost$Kind;" } : Jvm.MethodName) prog_1_method_2_code (2 : Nat) (Option.some (Jvm.ClassFile.FieldType.object "LetterPost$Kind"))) ∈ lw_all := lw_g (lw_at lw_m4 64 rfl) rfl
theorem q927 : (Jvm.Cond.methodLink "LetterPost" (33 : Nat) ({ cls := "LetterPost$Kind", name := "is", desc := "(LLetterPost$Kind;)Z" } : Jvm.MethodName)) ∈ lw_all := lw_g (lw_at lw_m4 65 rfl) rfl
theorem q931 : (Jvm.Cond.classLink "LetterPost" (283 : Nat) "LetterPost$Kinded") ∈ lw_all := lw_g (lw_at lw_m4 69 rfl) rfl
theorem q933 : (Jvm.Cond.methodLink "LetterPost" (285 : Nat) ({ cls := "LetterPost$Kinded", name := "<init>", desc := "(LLetterPost$Kind;[LLetterPost$Pattern;)V" } : Jvm.MethodName)) ∈ lw_all := lw_g (lw_at lw_m4 71 rfl) rfl
theorem q945 : (Jvm.Cond.methodLink "LetterPost" (234 : Nat) ({ cls := "LetterPost", name := "either", desc := "(I)LLetterPost$Pattern;" } : Jvm.MethodName)) ∈ lw_all := lw_g (lw_at lw_m4 83 rfl) rfl
theorem q946 : (Jvm.Cond.privateMethod ({ cls := "LetterPost", name := "either", desc := "(I)LLetterPost$Pattern;" } : Jvm.MethodName)) ∈ lw_tbl := lw_at lw_m4 84 rfl
theorem q947 : (Jvm.Cond.instanceMethod ({ cls := "LetterPost", name := "either", desc := "(I)LLetterPost$Pattern;" } : Jvm.MethodName)) ∈ lw_all := lw_g (lw_at lw_m4 85 rfl) rfl
theorem q948 : (Jvm.Cond.code ({ cls := "LetterPost", name := "either", desc := "(I)LLetterPost$Pattern;" } : Jvm.MethodName) prog_1_method_31_code (13 : Nat) (Option.some (Jvm.ClassFile.FieldType.object "LetterPost$Pattern"))) ∈ lw_all := lw_g (lw_at lw_m4 86 rfl) rfl
theorem q949 : (Jvm.Cond.methodLink "LetterPost" (291 : Nat) ({ cls := "java/lang/System", name := "arraycopy", desc := "(Ljava/lang/Object;ILjava/lang/Object;II)V" } : Jvm.MethodName)) ∈ lw_all := lw_g (lw_at lw_m4 87 rfl) rfl
theorem q950 : (Jvm.Cond.classLink "LetterPost" (208 : Nat) "LetterPost$Either") ∈ lw_all := lw_g (lw_at lw_m4 88 rfl) rfl
theorem q952 : (Jvm.Cond.methodLink "LetterPost" (210 : Nat) ({ cls := "LetterPost$Either", name := "<init>", desc := "([LLetterPost$Pattern;)V" } : Jvm.MethodName)) ∈ lw_all := lw_g (lw_at lw_m4 90 rfl) rfl
theorem q961 : (Jvm.Cond.classLink "LetterPost" (237 : Nat) "LetterPost$Word") ∈ lw_all := lw_g (lw_at lw_m4 99 rfl) rfl
theorem q963 : (Jvm.Cond.methodLink "LetterPost" (239 : Nat) ({ cls := "LetterPost$Word", name := "<init>", desc := "(J)V" } : Jvm.MethodName)) ∈ lw_all := lw_g (lw_at lw_m4 101 rfl) rfl
theorem q973 : (Jvm.Cond.stringRef "LetterPost" (242 : Nat) "true") ∈ lw_tbl := lw_at lw_m4 111 rfl
theorem q974 : (Jvm.Cond.stringRef "LetterPost" (244 : Nat) "false") ∈ lw_tbl := lw_at lw_m4 112 rfl
theorem q975 : (Jvm.Cond.classLink "LetterPost" (246 : Nat) "LetterPost$Same") ∈ lw_all := lw_g (lw_at lw_m4 113 rfl) rfl
theorem q977 : (Jvm.Cond.methodLink "LetterPost" (248 : Nat) ({ cls := "LetterPost$Same", name := "<init>", desc := "(Z)V" } : Jvm.MethodName)) ∈ lw_all := lw_g (lw_at lw_m4 115 rfl) rfl
theorem q986 : (Jvm.Cond.stringRef "LetterPost" (250 : Nat) "none") ∈ lw_tbl := lw_at lw_m4 124 rfl
theorem q987 : (Jvm.Cond.classLink "LetterPost" (255 : Nat) "LetterPost$None") ∈ lw_all := lw_g (lw_at lw_m4 125 rfl) rfl
theorem q989 : (Jvm.Cond.methodLinkNest "LetterPost" (257 : Nat) ({ cls := "LetterPost$None", name := "<init>", desc := "()V" } : Jvm.MethodName) "LetterPost") ∈ lw_tbl := lw_at lw_m4 127 rfl
theorem q995 : (Jvm.Cond.stringRef "LetterPost" (203 : Nat) "as") ∈ lw_tbl := lw_at lw_m4 133 rfl
theorem q996 : (Jvm.Cond.methodLink "LetterPost" (205 : Nat) ({ cls := "LetterPost", name := "binds", desc := "(I)I" } : Jvm.MethodName)) ∈ lw_all := lw_g (lw_at lw_m4 134 rfl) rfl
theorem q997 : (Jvm.Cond.privateMethod ({ cls := "LetterPost", name := "binds", desc := "(I)I" } : Jvm.MethodName)) ∈ lw_tbl := lw_at lw_m4 135 rfl
theorem q998 : (Jvm.Cond.instanceMethod ({ cls := "LetterPost", name := "binds", desc := "(I)I" } : Jvm.MethodName)) ∈ lw_all := lw_g (lw_at lw_m4 136 rfl) rfl
theorem q999 : (Jvm.Cond.code ({ cls := "LetterPost", name := "binds", desc := "(I)I" } : Jvm.MethodName) prog_1_method_29_code (2 : Nat) (Option.some Jvm.ClassFile.FieldType.int)) ∈ lw_all := lw_g (lw_at lw_m4 137 rfl) rfl
theorem q1000 : (Jvm.Cond.stringRef "LetterPost" (362 : Nat) "if") ∈ lw_tbl := lw_at lw_m4 138 rfl
theorem q1001 : (Jvm.Cond.methodLink "LetterPost" (364 : Nat) ({ cls := "LetterPost", name := "guard", desc := "()LLetterPost$Guard;" } : Jvm.MethodName)) ∈ lw_all := lw_g (lw_at lw_m4 139 rfl) rfl
theorem q1002 : (Jvm.Cond.privateMethod ({ cls := "LetterPost", name := "guard", desc := "()LLetterPost$Guard;" } : Jvm.MethodName)) ∈ lw_tbl := lw_at lw_m4 140 rfl
theorem q1003 : (Jvm.Cond.instanceMethod ({ cls := "LetterPost", name := "guard", desc := "()LLetterPost$Guard;" } : Jvm.MethodName)) ∈ lw_all := lw_g (lw_at lw_m4 141 rfl) rfl
theorem q1004 : (Jvm.Cond.code ({ cls := "LetterPost", name := "guard", desc := "()LLetterPost$Guard;" } : Jvm.MethodName) prog_1_method_36_code (2 : Nat) (Option.some (Jvm.ClassFile.FieldType.object "LetterPost$Guard"))) ∈ lw_all := lw_g (lw_at lw_m4 142 rfl) rfl
theorem q1005 : (Jvm.Cond.classLink "LetterPost" (301 : Nat) "LetterPost$Guard") ∈ lw_all := lw_g (lw_at lw_m4 143 rfl) rfl
theorem q1007 : (Jvm.Cond.methodLinkNest "LetterPost" (319 : Nat) ({ cls := "LetterPost$Guard", name := "<init>", desc := "()V" } : Jvm.MethodName) "LetterPost") ∈ lw_tbl := lw_at lw_m4 145 rfl
theorem q1012 : (Jvm.Cond.fieldLink "LetterPost" (316 : Nat) "LetterPost$Guard" "ops" "[I") ∈ lw_all := lw_g (lw_at lw_m4 150 rfl) rfl
theorem q1014 : (Jvm.Cond.fieldLink "LetterPost" (307 : Nat) "LetterPost$Guard" "numbers" "[I") ∈ lw_all := lw_g (lw_at lw_m4 152 rfl) rfl
theorem q1016 : (Jvm.Cond.fieldLink "LetterPost" (300 : Nat) "LetterPost$Guard" "names" "[I") ∈ lw_all := lw_g (lw_at lw_m4 154 rfl) rfl
theorem q1018 : (Jvm.Cond.fieldLink "LetterPost" (323 : Nat) "LetterPost$Guard" "relation" "I") ∈ lw_all := lw_g (lw_at lw_m4 156 rfl) rfl
theorem q1028 : (Jvm.Cond.methodLink "LetterPost" (320 : Nat) ({ cls := "LetterPost", name := "sum", desc := "(LLetterPost$Guard;I)V" } : Jvm.MethodName)) ∈ lw_all := lw_g (lw_at lw_m4 166 rfl) rfl
theorem q1029 : (Jvm.Cond.privateMethod ({ cls := "LetterPost", name := "sum", desc := "(LLetterPost$Guard;I)V" } : Jvm.MethodName)) ∈ lw_tbl := lw_at lw_m4 167 rfl
theorem q1030 : (Jvm.Cond.instanceMethod ({ cls := "LetterPost", name := "sum", desc := "(LLetterPost$Guard;I)V" } : Jvm.MethodName)) ∈ lw_all := lw_g (lw_at lw_m4 168 rfl) rfl
theorem q1031 : (Jvm.Cond.code ({ cls := "LetterPost", name := "sum", desc := "(LLetterPost$Guard;I)V" } : Jvm.MethodName) prog_1_method_35_code (3 : Nat) (Option.none : Option Jvm.ClassFile.FieldType)) ∈ lw_all := lw_g (lw_at lw_m4 169 rfl) rfl
theorem q1032 : (Jvm.Cond.methodLink "LetterPost" (310 : Nat) ({ cls := "LetterPost", name := "term", desc := "(LLetterPost$Guard;I)V" } : Jvm.MethodName)) ∈ lw_all := lw_g (lw_at lw_m4 170 rfl) rfl
theorem q1033 : (Jvm.Cond.privateMethod ({ cls := "LetterPost", name := "term", desc := "(LLetterPost$Guard;I)V" } : Jvm.MethodName)) ∈ lw_tbl := lw_at lw_m4 171 rfl
theorem q1034 : (Jvm.Cond.instanceMethod ({ cls := "LetterPost", name := "term", desc := "(LLetterPost$Guard;I)V" } : Jvm.MethodName)) ∈ lw_all := lw_g (lw_at lw_m4 172 rfl) rfl
theorem q1035 : (Jvm.Cond.code ({ cls := "LetterPost", name := "term", desc := "(LLetterPost$Guard;I)V" } : Jvm.MethodName) prog_1_method_34_code (3 : Nat) (Option.none : Option Jvm.ClassFile.FieldType)) ∈ lw_all := lw_g (lw_at lw_m4 173 rfl) rfl
theorem q1036 : (Jvm.Cond.methodLink "LetterPost" (304 : Nat) ({ cls := "LetterPost", name := "wholeName", desc := "()I" } : Jvm.MethodName)) ∈ lw_all := lw_g (lw_at lw_m4 174 rfl) rfl
theorem q1037 : (Jvm.Cond.privateMethod ({ cls := "LetterPost", name := "wholeName", desc := "()I" } : Jvm.MethodName)) ∈ lw_tbl := lw_at lw_m4 175 rfl
theorem q1038 : (Jvm.Cond.instanceMethod ({ cls := "LetterPost", name := "wholeName", desc := "()I" } : Jvm.MethodName)) ∈ lw_all := lw_g (lw_at lw_m4 176 rfl) rfl
theorem q1039 : (Jvm.Cond.code ({ cls := "LetterPost", name := "wholeName", desc := "()I" } : Jvm.MethodName) prog_1_method_33_code (2 : Nat) (Option.some Jvm.ClassFile.FieldType.int)) ∈ lw_all := lw_g (lw_at lw_m4 177 rfl) rfl
theorem q1040 : (Jvm.Cond.methodLink "LetterPost" (297 : Nat) ({ cls := "LetterPost", name := "known", desc := "()I" } : Jvm.MethodName)) ∈ lw_all := lw_g (lw_at lw_m4 178 rfl) rfl
theorem q1041 : (Jvm.Cond.privateMethod ({ cls := "LetterPost", name := "known", desc := "()I" } : Jvm.MethodName)) ∈ lw_tbl := lw_at lw_m4 179 rfl
theorem q1042 : (Jvm.Cond.instanceMethod ({ cls := "LetterPost", name := "known", desc := "()I" } : Jvm.MethodName)) ∈ lw_all := lw_g (lw_at lw_m4 180 rfl) rfl
theorem q1043 : (Jvm.Cond.code ({ cls := "LetterPost", name := "known", desc := "()I" } : Jvm.MethodName) prog_1_method_32_code (2 : Nat) (Option.some Jvm.ClassFile.FieldType.int)) ∈ lw_all := lw_g (lw_at lw_m4 181 rfl) rfl
theorem q1044 : (Jvm.Cond.stringRef "LetterPost" (314 : Nat) "+-*/%") ∈ lw_tbl := lw_at lw_m4 182 rfl
theorem q1045 : (Jvm.Cond.methodLink "LetterPost" (371 : Nat) ({ cls := "LetterPost", name := "answer", desc := "(LLetterPost$Rule;)V" } : Jvm.MethodName)) ∈ lw_all := lw_g (lw_at lw_m4 183 rfl) rfl
theorem q1046 : (Jvm.Cond.privateMethod ({ cls := "LetterPost", name := "answer", desc := "(LLetterPost$Rule;)V" } : Jvm.MethodName)) ∈ lw_tbl := lw_at lw_m4 184 rfl
theorem q1047 : (Jvm.Cond.instanceMethod ({ cls := "LetterPost", name := "answer", desc := "(LLetterPost$Rule;)V" } : Jvm.MethodName)) ∈ lw_all := lw_g (lw_at lw_m4 185 rfl) rfl
theorem q1048 : (Jvm.Cond.code ({ cls := "LetterPost", name := "answer", desc := "(LLetterPost$Rule;)V" } : Jvm.MethodName) prog_1_method_38_code (5 : Nat) (Option.none : Option Jvm.ClassFile.FieldType)) ∈ lw_all := lw_g (lw_at lw_m4 186 rfl) rfl
theorem q1049 : (Jvm.Cond.methodLink "LetterPost" (331 : Nat) ({ cls := "LetterPost", name := "isCall", desc := "()Z" } : Jvm.MethodName)) ∈ lw_all := lw_g (lw_at lw_m4 187 rfl) rfl
theorem q1050 : (Jvm.Cond.privateMethod ({ cls := "LetterPost", name := "isCall", desc := "()Z" } : Jvm.MethodName)) ∈ lw_tbl := lw_at lw_m4 188 rfl
theorem q1051 : (Jvm.Cond.instanceMethod ({ cls := "LetterPost", name := "isCall", desc := "()Z" } : Jvm.MethodName)) ∈ lw_all := lw_g (lw_at lw_m4 189 rfl) rfl
theorem q1052 : (Jvm.Cond.code ({ cls := "LetterPost", name := "isCall", desc := "()Z" } : Jvm.MethodName) prog_1_method_37_code (2 : Nat) (Option.some Jvm.ClassFile.FieldType.boolean)) ∈ lw_all := lw_g (lw_at lw_m4 190 rfl) rfl
theorem q1053 : (Jvm.Cond.methodLink "LetterPost" (427 : Nat) ({ cls := "LetterPost", name := "settle", desc := "()V" } : Jvm.MethodName)) ∈ lw_all := lw_g (lw_at lw_m4 191 rfl) rfl
theorem q1054 : (Jvm.Cond.privateMethod ({ cls := "LetterPost", name := "settle", desc := "()V" } : Jvm.MethodName)) ∈ lw_tbl := lw_at lw_m4 192 rfl
theorem q1055 : (Jvm.Cond.instanceMethod ({ cls := "LetterPost", name := "settle", desc := "()V" } : Jvm.MethodName)) ∈ lw_all := lw_g (lw_at lw_m4 193 rfl) rfl
theorem q1056 : (Jvm.Cond.code ({ cls := "LetterPost", name := "settle", desc := "()V" } : Jvm.MethodName) prog_1_method_42_code (5 : Nat) (Option.none : Option Jvm.ClassFile.FieldType)) ∈ lw_all := lw_g (lw_at lw_m4 194 rfl) rfl
theorem q1057 : (Jvm.Cond.methodLink "LetterPost" (398 : Nat) ({ cls := "LetterPost", name := "settleCall", desc := "(LLetterPost$Rule;)V" } : Jvm.MethodName)) ∈ lw_all := lw_g (lw_at lw_m4 195 rfl) rfl
theorem q1058 : (Jvm.Cond.privateMethod ({ cls := "LetterPost", name := "settleCall", desc := "(LLetterPost$Rule;)V" } : Jvm.MethodName)) ∈ lw_tbl := lw_at lw_m4 196 rfl
theorem q1059 : (Jvm.Cond.instanceMethod ({ cls := "LetterPost", name := "settleCall", desc := "(LLetterPost$Rule;)V" } : Jvm.MethodName)) ∈ lw_all := lw_g (lw_at lw_m4 197 rfl) rfl
theorem q1060 : (Jvm.Cond.code ({ cls := "LetterPost", name := "settleCall", desc := "(LLetterPost$Rule;)V" } : Jvm.MethodName) prog_1_method_43_code (6 : Nat) (Option.none : Option Jvm.ClassFile.FieldType)) ∈ lw_all := lw_g (lw_at lw_m4 198 rfl) rfl
theorem q1061 : (Jvm.Cond.methodLink "LetterPost" (401 : Nat) ({ cls := "LetterPost$Function", name := "count", desc := "(I)I" } : Jvm.MethodName)) ∈ lw_all := lw_g (lw_at lw_m4 199 rfl) rfl
theorem q1066 : (Jvm.Cond.static ({ cls := "LetterPost", name := "product", desc := "([LLetterPost$Pattern;)I" } : Jvm.MethodName)) ∈ lw_all := lw_g (lw_at lw_m4 204 rfl) rfl
theorem q1067 : (Jvm.Cond.code ({ cls := "LetterPost", name := "product", desc := "([LLetterPost$Pattern;)I" } : Jvm.MethodName) prog_1_method_5_code (6 : Nat) (Option.some Jvm.ClassFile.FieldType.int)) ∈ lw_all := lw_g (lw_at lw_m4 205 rfl) rfl
theorem q1068 : (Jvm.Cond.methodLink "LetterPost" (37 : Nat) ({ cls := "LetterPost$Pattern", name := "ways", desc := "()I" } : Jvm.MethodName)) ∈ lw_all := lw_g (lw_at lw_m4 206 rfl) rfl
theorem q1086 : (Jvm.Cond.methodLink "LetterPost" (42 : Nat) ({ cls := "java/lang/Math", name := "min", desc := "(II)I" } : Jvm.MethodName)) ∈ lw_all := lw_g (lw_at lw_m4 224 rfl) rfl
theorem q1087 : (Jvm.Cond.methodLink "LetterPost" (430 : Nat) ({ cls := "LetterPost$Function", name := "lay", desc := "()V" } : Jvm.MethodName)) ∈ lw_all := lw_g (lw_at lw_m4 225 rfl) rfl
theorem q1106 : (Jvm.Cond.fieldLink "LetterPost" (595 : Nat) "LetterPost$Row" "rule" "LLetterPost$Rule;") ∈ lw_all := lw_g (lw_at lw_m5 4 rfl) rfl
theorem q1140 : (Jvm.Cond.fieldLink "LetterPost" (504 : Nat) "LetterPost$Place" "index" "I") ∈ lw_all := lw_g (lw_at lw_m5 38 rfl) rfl
theorem q1151 : (Jvm.Cond.fieldLink "LetterPost" (499 : Nat) "LetterPost$Place" "deep" "I") ∈ lw_all := lw_g (lw_at lw_m5 49 rfl) rfl
theorem q1195 : (Jvm.Cond.methodLink "LetterPost" (433 : Nat) ({ cls := "LetterPost$Function", name := "remake", desc := "(I)V" } : Jvm.MethodName)) ∈ lw_all := lw_g (lw_at lw_m5 93 rfl) rfl
theorem q1344 : (Jvm.Cond.fieldLink "LetterPost" (507 : Nat) "LetterPost$Node" "number" "I") ∈ lw_all := lw_g (lw_at lw_m6 2 rfl) rfl
theorem q1361 : (Jvm.Cond.fieldLink "LetterPost" (493 : Nat) "LetterPost$Node" "next" "[LLetterPost$Node;") ∈ lw_all := lw_g (lw_at lw_m6 19 rfl) rfl
theorem q1386 : (Jvm.Cond.fieldLink "LetterPost" (591 : Nat) "LetterPost$Answering" "row" "LLetterPost$Row;") ∈ lw_all := lw_g (lw_at lw_m6 44 rfl) rfl
theorem q1535 : (Jvm.Cond.methodLink "LetterPost" (439 : Nat) ({ cls := "LetterPost", name := "clear", desc := "()V" } : Jvm.MethodName)) ∈ lw_all := lw_g (lw_at lw_m6 193 rfl) rfl
theorem q1536 : (Jvm.Cond.privateMethod ({ cls := "LetterPost", name := "clear", desc := "()V" } : Jvm.MethodName)) ∈ lw_tbl := lw_at lw_m6 194 rfl
theorem q1537 : (Jvm.Cond.instanceMethod ({ cls := "LetterPost", name := "clear", desc := "()V" } : Jvm.MethodName)) ∈ lw_all := lw_g (lw_at lw_m6 195 rfl) rfl
theorem q1538 : (Jvm.Cond.code ({ cls := "LetterPost", name := "clear", desc := "()V" } : Jvm.MethodName) prog_1_method_45_code (2 : Nat) (Option.none : Option Jvm.ClassFile.FieldType)) ∈ lw_all := lw_g (lw_at lw_m6 196 rfl) rfl
theorem q1540 : (Jvm.Cond.instanceMethod ({ cls := "LetterPost", name := "fault", desc := "()I" } : Jvm.MethodName)) ∈ lw_all := lw_g (lw_at lw_m6 198 rfl) rfl
theorem q1541 : (Jvm.Cond.selects "LetterPost" ({ cls := "LetterPost", name := "fault", desc := "()I" } : Jvm.MethodName) ({ cls := "LetterPost", name := "fault", desc := "()I" } : Jvm.MethodName)) ∈ lw_all := lw_g (lw_at lw_m6 199 rfl) rfl
theorem q1542 : (Jvm.Cond.code ({ cls := "LetterPost", name := "fault", desc := "()I" } : Jvm.MethodName) prog_1_method_47_code (1 : Nat) (Option.some Jvm.ClassFile.FieldType.int)) ∈ lw_all := lw_g (lw_at lw_m6 200 rfl) rfl
theorem q1544 : (Jvm.Cond.instanceMethod ({ cls := "LetterPost", name := "add", desc := "()I" } : Jvm.MethodName)) ∈ lw_all := lw_g (lw_at lw_m6 202 rfl) rfl
theorem q1545 : (Jvm.Cond.selects "LetterPost" ({ cls := "LetterPost", name := "add", desc := "()I" } : Jvm.MethodName) ({ cls := "LetterPost", name := "add", desc := "()I" } : Jvm.MethodName)) ∈ lw_all := lw_g (lw_at lw_m6 203 rfl) rfl
theorem q1546 : (Jvm.Cond.codeWith ({ cls := "LetterPost", name := "add", desc := "()I" } : Jvm.MethodName) prog_1_method_48_code (4 : Nat) (Option.some Jvm.ClassFile.FieldType.int) [((20 : Nat), (76 : Nat), (79 : Nat), (61 : Nat))]) ∈ lw_all := lw_g (lw_at lw_m6 204 rfl) rfl
theorem q1548 : (Jvm.Cond.instanceMethod ({ cls := "LetterPost", name := "remake", desc := "(II)I" } : Jvm.MethodName)) ∈ lw_all := lw_g (lw_at lw_m6 206 rfl) rfl
theorem q1549 : (Jvm.Cond.selects "LetterPost" ({ cls := "LetterPost", name := "remake", desc := "(II)I" } : Jvm.MethodName) ({ cls := "LetterPost", name := "remake", desc := "(II)I" } : Jvm.MethodName)) ∈ lw_all := lw_g (lw_at lw_m6 207 rfl) rfl
theorem q1550 : (Jvm.Cond.codeWith ({ cls := "LetterPost", name := "remake", desc := "(II)I" } : Jvm.MethodName) prog_1_method_49_code (5 : Nat) (Option.some Jvm.ClassFile.FieldType.int) [((29 : Nat), (41 : Nat), (42 : Nat), (443 : Nat))]) ∈ lw_all := lw_g (lw_at lw_m6 208 rfl) rfl
theorem q1551 : (Jvm.Cond.methodLink "LetterPost" (448 : Nat) ({ cls := "LetterPost", name := "isFunction", desc := "(I)Z" } : Jvm.MethodName)) ∈ lw_all := lw_g (lw_at lw_m6 209 rfl) rfl
theorem q1552 : (Jvm.Cond.privateMethod ({ cls := "LetterPost", name := "isFunction", desc := "(I)Z" } : Jvm.MethodName)) ∈ lw_tbl := lw_at lw_m6 210 rfl
theorem q1553 : (Jvm.Cond.instanceMethod ({ cls := "LetterPost", name := "isFunction", desc := "(I)Z" } : Jvm.MethodName)) ∈ lw_all := lw_g (lw_at lw_m6 211 rfl) rfl
theorem q1554 : (Jvm.Cond.code ({ cls := "LetterPost", name := "isFunction", desc := "(I)Z" } : Jvm.MethodName) prog_1_method_50_code (2 : Nat) (Option.some Jvm.ClassFile.FieldType.boolean)) ∈ lw_all := lw_g (lw_at lw_m6 212 rfl) rfl
theorem q1555 : (Jvm.Cond.constantLong "LetterPost" (451 : Nat) (3 : Int64)) ∈ lw_all := lw_g (lw_at lw_m6 213 rfl) rfl
theorem q1556 : (Jvm.Cond.methodLink "LetterPost" (457 : Nat) ({ cls := "LetterPost$Node", name := "many", desc := "()I" } : Jvm.MethodName)) ∈ lw_all := lw_g (lw_at lw_m6 214 rfl) rfl
theorem q1569 : (Jvm.Cond.instanceMethod ({ cls := "LetterPost", name := "kind", desc := "(II)I" } : Jvm.MethodName)) ∈ lw_all := lw_g (lw_at lw_m6 227 rfl) rfl
theorem q1570 : (Jvm.Cond.selects "LetterPost" ({ cls := "LetterPost", name := "kind", desc := "(II)I" } : Jvm.MethodName) ({ cls := "LetterPost", name := "kind", desc := "(II)I" } : Jvm.MethodName)) ∈ lw_all := lw_g (lw_at lw_m6 228 rfl) rfl
theorem q1571 : (Jvm.Cond.code ({ cls := "LetterPost", name := "kind", desc := "(II)I" } : Jvm.MethodName) prog_1_method_51_code (4 : Nat) (Option.some Jvm.ClassFile.FieldType.int)) ∈ lw_all := lw_g (lw_at lw_m6 229 rfl) rfl
theorem q1572 : (Jvm.Cond.constantLong "LetterPost" (461 : Nat) (7 : Int64)) ∈ lw_all := lw_g (lw_at lw_m6 230 rfl) rfl
theorem q1574 : (Jvm.Cond.instanceMethod ({ cls := "LetterPost", name := "kindNamed", desc := "(J)I" } : Jvm.MethodName)) ∈ lw_all := lw_g (lw_at lw_m6 232 rfl) rfl
theorem q1575 : (Jvm.Cond.selects "LetterPost" ({ cls := "LetterPost", name := "kindNamed", desc := "(J)I" } : Jvm.MethodName) ({ cls := "LetterPost", name := "kindNamed", desc := "(J)I" } : Jvm.MethodName)) ∈ lw_all := lw_g (lw_at lw_m6 233 rfl) rfl
theorem q1576 : (Jvm.Cond.code ({ cls := "LetterPost", name := "kindNamed", desc := "(J)I" } : Jvm.MethodName) prog_1_method_52_code (4 : Nat) (Option.some Jvm.ClassFile.FieldType.int)) ∈ lw_all := lw_g (lw_at lw_m6 234 rfl) rfl
theorem q1578 : (Jvm.Cond.instanceMethod ({ cls := "LetterPost", name := "function", desc := "(II)I" } : Jvm.MethodName)) ∈ lw_all := lw_g (lw_at lw_m6 236 rfl) rfl
theorem q1579 : (Jvm.Cond.selects "LetterPost" ({ cls := "LetterPost", name := "function", desc := "(II)I" } : Jvm.MethodName) ({ cls := "LetterPost", name := "function", desc := "(II)I" } : Jvm.MethodName)) ∈ lw_all := lw_g (lw_at lw_m6 237 rfl) rfl
theorem q1580 : (Jvm.Cond.code ({ cls := "LetterPost", name := "function", desc := "(II)I" } : Jvm.MethodName) prog_1_method_53_code (4 : Nat) (Option.some Jvm.ClassFile.FieldType.int)) ∈ lw_all := lw_g (lw_at lw_m6 238 rfl) rfl
theorem q1581 : (Jvm.Cond.methodLink "LetterPost" (475 : Nat) ({ cls := "LetterPost$Node", name := "depth", desc := "()I" } : Jvm.MethodName)) ∈ lw_all := lw_g (lw_at lw_m6 239 rfl) rfl
theorem q1595 : (Jvm.Cond.instanceMethod ({ cls := "LetterPost", name := "node", desc := "(III)I" } : Jvm.MethodName)) ∈ lw_all := lw_g (lw_at lw_m7 13 rfl) rfl
theorem q1596 : (Jvm.Cond.selects "LetterPost" ({ cls := "LetterPost", name := "node", desc := "(III)I" } : Jvm.MethodName) ({ cls := "LetterPost", name := "node", desc := "(III)I" } : Jvm.MethodName)) ∈ lw_all := lw_g (lw_at lw_m7 14 rfl) rfl
theorem q1597 : (Jvm.Cond.code ({ cls := "LetterPost", name := "node", desc := "(III)I" } : Jvm.MethodName) prog_1_method_55_code (5 : Nat) (Option.some Jvm.ClassFile.FieldType.int)) ∈ lw_all := lw_g (lw_at lw_m7 15 rfl) rfl
theorem q1598 : (Jvm.Cond.methodLink "LetterPost" (478 : Nat) ({ cls := "LetterPost", name := "isNode", desc := "(II)Z" } : Jvm.MethodName)) ∈ lw_all := lw_g (lw_at lw_m7 16 rfl) rfl
theorem q1599 : (Jvm.Cond.privateMethod ({ cls := "LetterPost", name := "isNode", desc := "(II)Z" } : Jvm.MethodName)) ∈ lw_tbl := lw_at lw_m7 17 rfl
theorem q1600 : (Jvm.Cond.instanceMethod ({ cls := "LetterPost", name := "isNode", desc := "(II)Z" } : Jvm.MethodName)) ∈ lw_all := lw_g (lw_at lw_m7 18 rfl) rfl
theorem q1601 : (Jvm.Cond.code ({ cls := "LetterPost", name := "isNode", desc := "(II)Z" } : Jvm.MethodName) prog_1_method_54_code (3 : Nat) (Option.some Jvm.ClassFile.FieldType.boolean)) ∈ lw_all := lw_g (lw_at lw_m7 19 rfl) rfl
theorem q1602 : (Jvm.Cond.constantLong "LetterPost" (482 : Nat) (4 : Int64)) ∈ lw_all := lw_g (lw_at lw_m7 20 rfl) rfl
theorem q1603 : (Jvm.Cond.methodLink "LetterPost" (484 : Nat) ({ cls := "LetterPost$Node", name := "find", desc := "(I)LLetterPost$Node;" } : Jvm.MethodName)) ∈ lw_all := lw_g (lw_at lw_m7 21 rfl) rfl
theorem q1614 : (Jvm.Cond.methodLink "LetterPost" (488 : Nat) ({ cls := "LetterPost$Node", name := "what", desc := "()I" } : Jvm.MethodName)) ∈ lw_all := lw_g (lw_at lw_m7 32 rfl) rfl
theorem q1637 : (Jvm.Cond.methodLink "LetterPost" (489 : Nat) ({ cls := "LetterPost$Node", name := "rule", desc := "()LLetterPost$Rule;" } : Jvm.MethodName)) ∈ lw_all := lw_g (lw_at lw_m7 55 rfl) rfl
theorem q1650 : (Jvm.Cond.methodLink "LetterPost" (496 : Nat) ({ cls := "LetterPost$Node", name := "place", desc := "()LLetterPost$Place;" } : Jvm.MethodName)) ∈ lw_all := lw_g (lw_at lw_m7 68 rfl) rfl
theorem q1664 : (Jvm.Cond.instanceMethod ({ cls := "LetterPost", name := "branch", desc := "(III)I" } : Jvm.MethodName)) ∈ lw_all := lw_g (lw_at lw_m7 82 rfl) rfl
theorem q1665 : (Jvm.Cond.selects "LetterPost" ({ cls := "LetterPost", name := "branch", desc := "(III)I" } : Jvm.MethodName) ({ cls := "LetterPost", name := "branch", desc := "(III)I" } : Jvm.MethodName)) ∈ lw_all := lw_g (lw_at lw_m7 83 rfl) rfl
theorem q1666 : (Jvm.Cond.code ({ cls := "LetterPost", name := "branch", desc := "(III)I" } : Jvm.MethodName) prog_1_method_56_code (5 : Nat) (Option.some Jvm.ClassFile.FieldType.int)) ∈ lw_all := lw_g (lw_at lw_m7 84 rfl) rfl
theorem q1668 : (Jvm.Cond.instanceMethod ({ cls := "LetterPost", name := "missing", desc := "(I)I" } : Jvm.MethodName)) ∈ lw_all := lw_g (lw_at lw_m7 86 rfl) rfl
theorem q1669 : (Jvm.Cond.selects "LetterPost" ({ cls := "LetterPost", name := "missing", desc := "(I)I" } : Jvm.MethodName) ({ cls := "LetterPost", name := "missing", desc := "(I)I" } : Jvm.MethodName)) ∈ lw_all := lw_g (lw_at lw_m7 87 rfl) rfl
theorem q1670 : (Jvm.Cond.codeWith ({ cls := "LetterPost", name := "missing", desc := "(I)I" } : Jvm.MethodName) prog_1_method_57_code (3 : Nat) (Option.some Jvm.ClassFile.FieldType.int) [((10 : Nat), (33 : Nat), (34 : Nat), (443 : Nat))]) ∈ lw_all := lw_g (lw_at lw_m7 88 rfl) rfl
theorem q1671 : (Jvm.Cond.methodLink "LetterPost" (508 : Nat) ({ cls := "LetterPost$Function", name := "make", desc := "(IZ)LLetterPost$Node;" } : Jvm.MethodName)) ∈ lw_all := lw_g (lw_at lw_m7 89 rfl) rfl
theorem q1672 : (Jvm.Cond.methodLink "LetterPost" (512 : Nat) ({ cls := "LetterPost$Node", name := "has", desc := "(LLetterPost$Rule;)Z" } : Jvm.MethodName)) ∈ lw_all := lw_g (lw_at lw_m7 90 rfl) rfl
theorem q1686 : (Jvm.Cond.instanceMethod ({ cls := "LetterPost", name := "unreached", desc := "(II)I" } : Jvm.MethodName)) ∈ lw_all := lw_g (lw_at lw_m7 104 rfl) rfl
theorem q1687 : (Jvm.Cond.selects "LetterPost" ({ cls := "LetterPost", name := "unreached", desc := "(II)I" } : Jvm.MethodName) ({ cls := "LetterPost", name := "unreached", desc := "(II)I" } : Jvm.MethodName)) ∈ lw_all := lw_g (lw_at lw_m7 105 rfl) rfl
theorem q1688 : (Jvm.Cond.codeWith ({ cls := "LetterPost", name := "unreached", desc := "(II)I" } : Jvm.MethodName) prog_1_method_58_code (4 : Nat) (Option.some Jvm.ClassFile.FieldType.int) [((31 : Nat), (64 : Nat), (65 : Nat), (443 : Nat))]) ∈ lw_all := lw_g (lw_at lw_m7 106 rfl) rfl
theorem q1690 : (Jvm.Cond.instanceMethod ({ cls := "LetterPost", name := "whole", desc := "(I)I" } : Jvm.MethodName)) ∈ lw_all := lw_g (lw_at lw_m7 108 rfl) rfl
theorem q1691 : (Jvm.Cond.selects "LetterPost" ({ cls := "LetterPost", name := "whole", desc := "(I)I" } : Jvm.MethodName) ({ cls := "LetterPost", name := "whole", desc := "(I)I" } : Jvm.MethodName)) ∈ lw_all := lw_g (lw_at lw_m7 109 rfl) rfl
theorem q1692 : (Jvm.Cond.code ({ cls := "LetterPost", name := "whole", desc := "(I)I" } : Jvm.MethodName) prog_1_method_60_code (2 : Nat) (Option.some Jvm.ClassFile.FieldType.int)) ∈ lw_all := lw_g (lw_at lw_m7 110 rfl) rfl
theorem q1693 : (Jvm.Cond.classLink "LetterPost" (524 : Nat) "LetterPost$Whole") ∈ lw_all := lw_g (lw_at lw_m7 111 rfl) rfl
theorem q1695 : (Jvm.Cond.methodLink "LetterPost" (526 : Nat) ({ cls := "LetterPost$Whole", name := "<init>", desc := "(II)V" } : Jvm.MethodName)) ∈ lw_all := lw_g (lw_at lw_m7 113 rfl) rfl
theorem q1706 : (Jvm.Cond.fieldLink "LetterPost" (637 : Nat) "LetterPost$Whole" "v" "I") ∈ lw_all := lw_g (lw_at lw_m7 124 rfl) rfl
theorem q1708 : (Jvm.Cond.fieldLink "LetterPost" (523 : Nat) "LetterPost$Value" "number" "I") ∈ lw_all := lw_g (lw_at lw_m7 126 rfl) rfl
theorem q1710 : (Jvm.Cond.fieldLink "LetterPost" (549 : Nat) "LetterPost$Value" "size" "I") ∈ lw_all := lw_g (lw_at lw_m7 128 rfl) rfl
theorem q1718 : (Jvm.Cond.methodLink "LetterPost" (527 : Nat) ({ cls := "LetterPost", name := "keep", desc := "(LLetterPost$Value;)I" } : Jvm.MethodName)) ∈ lw_all := lw_g (lw_at lw_m7 136 rfl) rfl
theorem q1719 : (Jvm.Cond.privateMethod ({ cls := "LetterPost", name := "keep", desc := "(LLetterPost$Value;)I" } : Jvm.MethodName)) ∈ lw_tbl := lw_at lw_m7 137 rfl
theorem q1720 : (Jvm.Cond.instanceMethod ({ cls := "LetterPost", name := "keep", desc := "(LLetterPost$Value;)I" } : Jvm.MethodName)) ∈ lw_all := lw_g (lw_at lw_m7 138 rfl) rfl
theorem q1721 : (Jvm.Cond.code ({ cls := "LetterPost", name := "keep", desc := "(LLetterPost$Value;)I" } : Jvm.MethodName) prog_1_method_59_code (2 : Nat) (Option.some Jvm.ClassFile.FieldType.int)) ∈ lw_all := lw_g (lw_at lw_m7 139 rfl) rfl
theorem q1723 : (Jvm.Cond.instanceMethod ({ cls := "LetterPost", name := "truth", desc := "(I)I" } : Jvm.MethodName)) ∈ lw_all := lw_g (lw_at lw_m7 141 rfl) rfl
theorem q1724 : (Jvm.Cond.selects "LetterPost" ({ cls := "LetterPost", name := "truth", desc := "(I)I" } : Jvm.MethodName) ({ cls := "LetterPost", name := "truth", desc := "(I)I" } : Jvm.MethodName)) ∈ lw_all := lw_g (lw_at lw_m7 142 rfl) rfl
theorem q1725 : (Jvm.Cond.code ({ cls := "LetterPost", name := "truth", desc := "(I)I" } : Jvm.MethodName) prog_1_method_61_code (2 : Nat) (Option.some Jvm.ClassFile.FieldType.int)) ∈ lw_all := lw_g (lw_at lw_m7 143 rfl) rfl
theorem q1726 : (Jvm.Cond.classLink "LetterPost" (531 : Nat) "LetterPost$Truth") ∈ lw_all := lw_g (lw_at lw_m7 144 rfl) rfl
theorem q1728 : (Jvm.Cond.methodLink "LetterPost" (533 : Nat) ({ cls := "LetterPost$Truth", name := "<init>", desc := "(IZ)V" } : Jvm.MethodName)) ∈ lw_all := lw_g (lw_at lw_m7 146 rfl) rfl
theorem q1737 : (Jvm.Cond.instanceMethod ({ cls := "LetterPost", name := "letters", desc := "(J)I" } : Jvm.MethodName)) ∈ lw_all := lw_g (lw_at lw_m7 155 rfl) rfl
theorem q1738 : (Jvm.Cond.selects "LetterPost" ({ cls := "LetterPost", name := "letters", desc := "(J)I" } : Jvm.MethodName) ({ cls := "LetterPost", name := "letters", desc := "(J)I" } : Jvm.MethodName)) ∈ lw_all := lw_g (lw_at lw_m7 156 rfl) rfl
theorem q1739 : (Jvm.Cond.code ({ cls := "LetterPost", name := "letters", desc := "(J)I" } : Jvm.MethodName) prog_1_method_62_code (6 : Nat) (Option.some Jvm.ClassFile.FieldType.int)) ∈ lw_all := lw_g (lw_at lw_m7 157 rfl) rfl
theorem q1740 : (Jvm.Cond.classLink "LetterPost" (536 : Nat) "LetterPost$Text") ∈ lw_all := lw_g (lw_at lw_m7 158 rfl) rfl
theorem q1742 : (Jvm.Cond.methodLink "LetterPost" (538 : Nat) ({ cls := "LetterPost$Text", name := "<init>", desc := "(IJ)V" } : Jvm.MethodName)) ∈ lw_all := lw_g (lw_at lw_m7 160 rfl) rfl
theorem q1755 : (Jvm.Cond.instanceMethod ({ cls := "LetterPost", name := "nothing", desc := "()I" } : Jvm.MethodName)) ∈ lw_all := lw_g (lw_at lw_m7 173 rfl) rfl
theorem q1756 : (Jvm.Cond.selects "LetterPost" ({ cls := "LetterPost", name := "nothing", desc := "()I" } : Jvm.MethodName) ({ cls := "LetterPost", name := "nothing", desc := "()I" } : Jvm.MethodName)) ∈ lw_all := lw_g (lw_at lw_m7 174 rfl) rfl
theorem q1757 : (Jvm.Cond.code ({ cls := "LetterPost", name := "nothing", desc := "()I" } : Jvm.MethodName) prog_1_method_63_code (1 : Nat) (Option.some Jvm.ClassFile.FieldType.int)) ∈ lw_all := lw_g (lw_at lw_m7 175 rfl) rfl
theorem q1758 : (Jvm.Cond.classLink "LetterPost" (23 : Nat) "LetterPost$Nothing") ∈ lw_all := lw_g (lw_at lw_m7 176 rfl) rfl
theorem q1760 : (Jvm.Cond.methodLink "LetterPost" (541 : Nat) ({ cls := "LetterPost$Nothing", name := "<init>", desc := "(II)V" } : Jvm.MethodName)) ∈ lw_all := lw_g (lw_at lw_m7 178 rfl) rfl
theorem q1768 : (Jvm.Cond.instanceMethod ({ cls := "LetterPost", name := "make", desc := "(IIIII)I" } : Jvm.MethodName)) ∈ lw_all := lw_g (lw_at lw_m7 186 rfl) rfl
theorem q1769 : (Jvm.Cond.selects "LetterPost" ({ cls := "LetterPost", name := "make", desc := "(IIIII)I" } : Jvm.MethodName) ({ cls := "LetterPost", name := "make", desc := "(IIIII)I" } : Jvm.MethodName)) ∈ lw_all := lw_g (lw_at lw_m7 187 rfl) rfl
theorem q1770 : (Jvm.Cond.code ({ cls := "LetterPost", name := "make", desc := "(IIIII)I" } : Jvm.MethodName) prog_1_method_64_code (11 : Nat) (Option.some Jvm.ClassFile.FieldType.int)) ∈ lw_all := lw_g (lw_at lw_m7 188 rfl) rfl
theorem q1771 : (Jvm.Cond.classLink "LetterPost" (18 : Nat) "LetterPost$Value") ∈ lw_all := lw_g (lw_at lw_m7 189 rfl) rfl
theorem q1773 : (Jvm.Cond.methodLink "LetterPost" (542 : Nat) ({ cls := "LetterPost", name := "isValue", desc := "(I)Z" } : Jvm.MethodName)) ∈ lw_all := lw_g (lw_at lw_m7 191 rfl) rfl
theorem q1774 : (Jvm.Cond.privateMethod ({ cls := "LetterPost", name := "isValue", desc := "(I)Z" } : Jvm.MethodName)) ∈ lw_tbl := lw_at lw_m7 192 rfl
theorem q1775 : (Jvm.Cond.instanceMethod ({ cls := "LetterPost", name := "isValue", desc := "(I)Z" } : Jvm.MethodName)) ∈ lw_all := lw_g (lw_at lw_m7 193 rfl) rfl
theorem q1776 : (Jvm.Cond.code ({ cls := "LetterPost", name := "isValue", desc := "(I)Z" } : Jvm.MethodName) prog_1_method_65_code (2 : Nat) (Option.some Jvm.ClassFile.FieldType.boolean)) ∈ lw_all := lw_g (lw_at lw_m7 194 rfl) rfl
theorem q1777 : (Jvm.Cond.methodLink "LetterPost" (545 : Nat) ({ cls := "LetterPost", name := "isOf", desc := "(LLetterPost$Value;I)Z" } : Jvm.MethodName)) ∈ lw_all := lw_g (lw_at lw_m7 195 rfl) rfl
theorem q1778 : (Jvm.Cond.privateMethod ({ cls := "LetterPost", name := "isOf", desc := "(LLetterPost$Value;I)Z" } : Jvm.MethodName)) ∈ lw_tbl := lw_at lw_m7 196 rfl
theorem q1779 : (Jvm.Cond.instanceMethod ({ cls := "LetterPost", name := "isOf", desc := "(LLetterPost$Value;I)Z" } : Jvm.MethodName)) ∈ lw_all := lw_g (lw_at lw_m7 197 rfl) rfl
theorem q1780 : (Jvm.Cond.code ({ cls := "LetterPost", name := "isOf", desc := "(LLetterPost$Value;I)Z" } : Jvm.MethodName) prog_1_method_4_code (3 : Nat) (Option.some Jvm.ClassFile.FieldType.boolean)) ∈ lw_all := lw_g (lw_at lw_m7 198 rfl) rfl
theorem q1781 : (Jvm.Cond.methodLink "LetterPost" (17 : Nat) ({ cls := "LetterPost$Value", name := "what", desc := "()I" } : Jvm.MethodName)) ∈ lw_all := lw_g (lw_at lw_m7 199 rfl) rfl
theorem q1799 : (Jvm.Cond.methodLink "LetterPost" (25 : Nat) ({ cls := "LetterPost$Value", name := "kind", desc := "()LLetterPost$Kind;" } : Jvm.MethodName)) ∈ lw_all := lw_g (lw_at lw_m7 217 rfl) rfl
theorem q1810 : (Jvm.Cond.classLink "LetterPost" (550 : Nat) "LetterPost$Letter") ∈ lw_all := lw_g (lw_at lw_m7 228 rfl) rfl
theorem q1812 : (Jvm.Cond.methodLink "LetterPost" (552 : Nat) ({ cls := "LetterPost$Letter", name := "<init>", desc := "(IILLetterPost$Kind;[LLetterPost$Value;)V" } : Jvm.MethodName)) ∈ lw_all := lw_g (lw_at lw_m7 230 rfl) rfl
theorem q1820 : (Jvm.Cond.fieldLink "LetterPost" (560 : Nat) "LetterPost$Letter" "parts" "[LLetterPost$Value;") ∈ lw_all := lw_g (lw_at lw_m7 238 rfl) rfl
theorem q1829 : (Jvm.Cond.instanceMethod ({ cls := "LetterPost", name := "value", desc := "(II)I" } : Jvm.MethodName)) ∈ lw_all := lw_g (lw_at lw_m8 7 rfl) rfl
theorem q1830 : (Jvm.Cond.selects "LetterPost" ({ cls := "LetterPost", name := "value", desc := "(II)I" } : Jvm.MethodName) ({ cls := "LetterPost", name := "value", desc := "(II)I" } : Jvm.MethodName)) ∈ lw_all := lw_g (lw_at lw_m8 8 rfl) rfl
theorem q1831 : (Jvm.Cond.code ({ cls := "LetterPost", name := "value", desc := "(II)I" } : Jvm.MethodName) prog_1_method_66_code (4 : Nat) (Option.some Jvm.ClassFile.FieldType.int)) ∈ lw_all := lw_g (lw_at lw_m8 9 rfl) rfl
theorem q1832 : (Jvm.Cond.constantLong "LetterPost" (555 : Nat) (6 : Int64)) ∈ lw_all := lw_g (lw_at lw_m8 10 rfl) rfl
theorem q1833 : (Jvm.Cond.methodLink "LetterPost" (557 : Nat) ({ cls := "LetterPost$Value", name := "told", desc := "()I" } : Jvm.MethodName)) ∈ lw_all := lw_g (lw_at lw_m8 11 rfl) rfl
theorem q1849 : (Jvm.Cond.instanceMethod ({ cls := "LetterPost", name := "alike", desc := "(II)I" } : Jvm.MethodName)) ∈ lw_all := lw_g (lw_at lw_m8 27 rfl) rfl
theorem q1850 : (Jvm.Cond.selects "LetterPost" ({ cls := "LetterPost", name := "alike", desc := "(II)I" } : Jvm.MethodName) ({ cls := "LetterPost", name := "alike", desc := "(II)I" } : Jvm.MethodName)) ∈ lw_all := lw_g (lw_at lw_m8 28 rfl) rfl
theorem q1851 : (Jvm.Cond.code ({ cls := "LetterPost", name := "alike", desc := "(II)I" } : Jvm.MethodName) prog_1_method_67_code (3 : Nat) (Option.some Jvm.ClassFile.FieldType.int)) ∈ lw_all := lw_g (lw_at lw_m8 29 rfl) rfl
theorem q1852 : (Jvm.Cond.methodLink "LetterPost" (563 : Nat) ({ cls := "LetterPost$Value", name := "isLike", desc := "(LLetterPost$Value;)Z" } : Jvm.MethodName)) ∈ lw_all := lw_g (lw_at lw_m8 30 rfl) rfl
theorem q1879 : (Jvm.Cond.instanceMethod ({ cls := "LetterPost", name := "sort", desc := "(IIII)I" } : Jvm.MethodName)) ∈ lw_all := lw_g (lw_at lw_m8 57 rfl) rfl
theorem q1880 : (Jvm.Cond.selects "LetterPost" ({ cls := "LetterPost", name := "sort", desc := "(IIII)I" } : Jvm.MethodName) ({ cls := "LetterPost", name := "sort", desc := "(IIII)I" } : Jvm.MethodName)) ∈ lw_all := lw_g (lw_at lw_m8 58 rfl) rfl
theorem q1881 : (Jvm.Cond.code ({ cls := "LetterPost", name := "sort", desc := "(IIII)I" } : Jvm.MethodName) prog_1_method_74_code (5 : Nat) (Option.some Jvm.ClassFile.FieldType.int)) ∈ lw_all := lw_g (lw_at lw_m8 59 rfl) rfl
theorem q1882 : (Jvm.Cond.methodLink "LetterPost" (644 : Nat) ({ cls := "LetterPost", name := "sorts", desc := "(IIIIZ)I" } : Jvm.MethodName)) ∈ lw_all := lw_g (lw_at lw_m8 60 rfl) rfl
theorem q1883 : (Jvm.Cond.privateMethod ({ cls := "LetterPost", name := "sorts", desc := "(IIIIZ)I" } : Jvm.MethodName)) ∈ lw_tbl := lw_at lw_m8 61 rfl
theorem q1884 : (Jvm.Cond.instanceMethod ({ cls := "LetterPost", name := "sorts", desc := "(IIIIZ)I" } : Jvm.MethodName)) ∈ lw_all := lw_g (lw_at lw_m8 62 rfl) rfl
theorem q1885 : (Jvm.Cond.code ({ cls := "LetterPost", name := "sorts", desc := "(IIIIZ)I" } : Jvm.MethodName) prog_1_method_73_code (9 : Nat) (Option.some Jvm.ClassFile.FieldType.int)) ∈ lw_all := lw_g (lw_at lw_m8 63 rfl) rfl
theorem q1886 : (Jvm.Cond.methodLink "LetterPost" (640 : Nat) ({ cls := "LetterPost", name := "run", desc := "(LLetterPost$Function;[LLetterPost$Value;Z)I" } : Jvm.MethodName)) ∈ lw_all := lw_g (lw_at lw_m8 64 rfl) rfl
theorem q1887 : (Jvm.Cond.privateMethod ({ cls := "LetterPost", name := "run", desc := "(LLetterPost$Function;[LLetterPost$Value;Z)I" } : Jvm.MethodName)) ∈ lw_tbl := lw_at lw_m8 65 rfl
theorem q1888 : (Jvm.Cond.instanceMethod ({ cls := "LetterPost", name := "run", desc := "(LLetterPost$Function;[LLetterPost$Value;Z)I" } : Jvm.MethodName)) ∈ lw_all := lw_g (lw_at lw_m8 66 rfl) rfl
theorem q1889 : (Jvm.Cond.code ({ cls := "LetterPost", name := "run", desc := "(LLetterPost$Function;[LLetterPost$Value;Z)I" } : Jvm.MethodName) prog_1_method_72_code (9 : Nat) (Option.some Jvm.ClassFile.FieldType.int)) ∈ lw_all := lw_g (lw_at lw_m8 67 rfl) rfl
theorem q1890 : (Jvm.Cond.methodLink "LetterPost" (623 : Nat) ({ cls := "LetterPost", name := "byTree", desc := "(LLetterPost$Function;[LLetterPost$Value;[LLetterPost$Value;)LLetterPost$Rule;" } : Jvm.MethodName)) ∈ lw_all := lw_g (lw_at lw_m8 68 rfl) rfl
theorem q1891 : (Jvm.Cond.privateMethod ({ cls := "LetterPost", name := "byTree", desc := "(LLetterPost$Function;[LLetterPost$Value;[LLetterPost$Value;)LLetterPost$Rule;" } : Jvm.MethodName)) ∈ lw_tbl := lw_at lw_m8 69 rfl
theorem q1892 : (Jvm.Cond.instanceMethod ({ cls := "LetterPost", name := "byTree", desc := "(LLetterPost$Function;[LLetterPost$Value;[LLetterPost$Value;)LLetterPost$Rule;" } : Jvm.MethodName)) ∈ lw_all := lw_g (lw_at lw_m8 70 rfl) rfl
theorem q1893 : (Jvm.Cond.code ({ cls := "LetterPost", name := "byTree", desc := "(LLetterPost$Function;[LLetterPost$Value;[LLetterPost$Value;)LLetterPost$Rule;" } : Jvm.MethodName) prog_1_method_69_code (6 : Nat) (Option.some (Jvm.ClassFile.FieldType.object "LetterPost$Rule"))) ∈ lw_all := lw_g (lw_at lw_m8 71 rfl) rfl
theorem q1894 : (Jvm.Cond.classLink "LetterPost" (584 : Nat) "LetterPost$Answering") ∈ lw_all := lw_g (lw_at lw_m8 72 rfl) rfl
theorem q1895 : (Jvm.Cond.methodLink "LetterPost" (586 : Nat) ({ cls := "LetterPost$Answering", name := "binds", desc := "([LLetterPost$Value;[LLetterPost$Value;)V" } : Jvm.MethodName)) ∈ lw_all := lw_g (lw_at lw_m8 73 rfl) rfl
theorem q1907 : (Jvm.Cond.classLink "LetterPost" (589 : Nat) "LetterPost$Guarded") ∈ lw_all := lw_g (lw_at lw_m8 85 rfl) rfl
theorem q1908 : (Jvm.Cond.methodLink "LetterPost" (599 : Nat) ({ cls := "LetterPost", name := "asks", desc := "(LLetterPost$Function;LLetterPost$Rule;[LLetterPost$Value;)Z" } : Jvm.MethodName)) ∈ lw_all := lw_g (lw_at lw_m8 86 rfl) rfl
theorem q1909 : (Jvm.Cond.privateMethod ({ cls := "LetterPost", name := "asks", desc := "(LLetterPost$Function;LLetterPost$Rule;[LLetterPost$Value;)Z" } : Jvm.MethodName)) ∈ lw_tbl := lw_at lw_m8 87 rfl
theorem q1910 : (Jvm.Cond.instanceMethod ({ cls := "LetterPost", name := "asks", desc := "(LLetterPost$Function;LLetterPost$Rule;[LLetterPost$Value;)Z" } : Jvm.MethodName)) ∈ lw_all := lw_g (lw_at lw_m8 88 rfl) rfl
theorem q1911 : (Jvm.Cond.codeWith ({ cls := "LetterPost", name := "asks", desc := "(LLetterPost$Function;LLetterPost$Rule;[LLetterPost$Value;)Z" } : Jvm.MethodName) prog_1_method_68_code (5 : Nat) (Option.some Jvm.ClassFile.FieldType.boolean) [((44 : Nat), (52 : Nat), (53 : Nat), (577 : Nat))]) ∈ lw_all := lw_g (lw_at lw_m8 89 rfl) rfl
theorem q1912 : (Jvm.Cond.classLink "LetterPost" (577 : Nat) "java/lang/ArithmeticException") ∈ lw_all := lw_g (lw_at lw_m8 90 rfl) rfl
theorem q1936 : (Jvm.Cond.methodLink "LetterPost" (573 : Nat) ({ cls := "LetterPost$Guard", name := "holds", desc := "([LLetterPost$Value;)Z" } : Jvm.MethodName)) ∈ lw_all := lw_g (lw_at lw_m8 114 rfl) rfl
theorem q1949 : (Jvm.Cond.methodLink "LetterPost" (603 : Nat) ({ cls := "LetterPost$Answering", name := "go", desc := "([LLetterPost$Value;)LLetterPost$Node;" } : Jvm.MethodName)) ∈ lw_all := lw_g (lw_at lw_m8 127 rfl) rfl
theorem q1958 : (Jvm.Cond.classLink "LetterPost" (607 : Nat) "LetterPost$Testing") ∈ lw_all := lw_g (lw_at lw_m8 136 rfl) rfl
theorem q1959 : (Jvm.Cond.methodLink "LetterPost" (609 : Nat) ({ cls := "LetterPost$Node", name := "go", desc := "([LLetterPost$Value;)LLetterPost$Node;" } : Jvm.MethodName)) ∈ lw_all := lw_g (lw_at lw_m8 137 rfl) rfl
theorem q1976 : (Jvm.Cond.methodLink "LetterPost" (627 : Nat) ({ cls := "LetterPost", name := "plainly", desc := "(LLetterPost$Function;[LLetterPost$Value;[LLetterPost$Value;)LLetterPost$Rule;" } : Jvm.MethodName)) ∈ lw_all := lw_g (lw_at lw_m8 154 rfl) rfl
theorem q1977 : (Jvm.Cond.privateMethod ({ cls := "LetterPost", name := "plainly", desc := "(LLetterPost$Function;[LLetterPost$Value;[LLetterPost$Value;)LLetterPost$Rule;" } : Jvm.MethodName)) ∈ lw_tbl := lw_at lw_m8 155 rfl
theorem q1978 : (Jvm.Cond.instanceMethod ({ cls := "LetterPost", name := "plainly", desc := "(LLetterPost$Function;[LLetterPost$Value;[LLetterPost$Value;)LLetterPost$Rule;" } : Jvm.MethodName)) ∈ lw_all := lw_g (lw_at lw_m8 156 rfl) rfl
theorem q1979 : (Jvm.Cond.code ({ cls := "LetterPost", name := "plainly", desc := "(LLetterPost$Function;[LLetterPost$Value;[LLetterPost$Value;)LLetterPost$Rule;" } : Jvm.MethodName) prog_1_method_70_code (8 : Nat) (Option.some (Jvm.ClassFile.FieldType.object "LetterPost$Rule"))) ∈ lw_all := lw_g (lw_at lw_m8 157 rfl) rfl
theorem q1980 : (Jvm.Cond.methodLink "LetterPost" (610 : Nat) ({ cls := "java/util/Arrays", name := "fill", desc := "([Ljava/lang/Object;Ljava/lang/Object;)V" } : Jvm.MethodName)) ∈ lw_all := lw_g (lw_at lw_m8 158 rfl) rfl
theorem q1983 : (Jvm.Cond.methodLink "LetterPost" (616 : Nat) ({ cls := "LetterPost$Pattern", name := "fits", desc := "(LLetterPost$Value;[LLetterPost$Value;)Z" } : Jvm.MethodName)) ∈ lw_all := lw_g (lw_at lw_m8 161 rfl) rfl
theorem q2027 : (Jvm.Cond.methodLink "LetterPost" (630 : Nat) ({ cls := "LetterPost", name := "ends", desc := "(IILLetterPost$Function;I)V" } : Jvm.MethodName)) ∈ lw_all := lw_g (lw_at lw_m8 205 rfl) rfl
theorem q2028 : (Jvm.Cond.privateMethod ({ cls := "LetterPost", name := "ends", desc := "(IILLetterPost$Function;I)V" } : Jvm.MethodName)) ∈ lw_tbl := lw_at lw_m8 206 rfl
theorem q2029 : (Jvm.Cond.instanceMethod ({ cls := "LetterPost", name := "ends", desc := "(IILLetterPost$Function;I)V" } : Jvm.MethodName)) ∈ lw_all := lw_g (lw_at lw_m8 207 rfl) rfl
theorem q2030 : (Jvm.Cond.code ({ cls := "LetterPost", name := "ends", desc := "(IILLetterPost$Function;I)V" } : Jvm.MethodName) prog_1_method_71_code (5 : Nat) (Option.none : Option Jvm.ClassFile.FieldType)) ∈ lw_all := lw_g (lw_at lw_m8 208 rfl) rfl
theorem q2032 : (Jvm.Cond.instanceMethod ({ cls := "LetterPost", name := "plain", desc := "(IIII)I" } : Jvm.MethodName)) ∈ lw_all := lw_g (lw_at lw_m8 210 rfl) rfl
theorem q2033 : (Jvm.Cond.selects "LetterPost" ({ cls := "LetterPost", name := "plain", desc := "(IIII)I" } : Jvm.MethodName) ({ cls := "LetterPost", name := "plain", desc := "(IIII)I" } : Jvm.MethodName)) ∈ lw_all := lw_g (lw_at lw_m8 211 rfl) rfl
theorem q2034 : (Jvm.Cond.code ({ cls := "LetterPost", name := "plain", desc := "(IIII)I" } : Jvm.MethodName) prog_1_method_75_code (5 : Nat) (Option.some Jvm.ClassFile.FieldType.int)) ∈ lw_all := lw_g (lw_at lw_m8 212 rfl) rfl
theorem q2036 : (Jvm.Cond.instanceMethod ({ cls := "LetterPost", name := "told", desc := "(I)I" } : Jvm.MethodName)) ∈ lw_all := lw_g (lw_at lw_m8 214 rfl) rfl
theorem q2037 : (Jvm.Cond.selects "LetterPost" ({ cls := "LetterPost", name := "told", desc := "(I)I" } : Jvm.MethodName) ({ cls := "LetterPost", name := "told", desc := "(I)I" } : Jvm.MethodName)) ∈ lw_all := lw_g (lw_at lw_m8 215 rfl) rfl
theorem q2038 : (Jvm.Cond.code ({ cls := "LetterPost", name := "told", desc := "(I)I" } : Jvm.MethodName) prog_1_method_76_code (2 : Nat) (Option.some Jvm.ClassFile.FieldType.int)) ∈ lw_all := lw_g (lw_at lw_m8 216 rfl) rfl
theorem q2040 : (Jvm.Cond.instanceMethod ({ cls := "LetterPost", name := "guard", desc := "(I)I" } : Jvm.MethodName)) ∈ lw_all := lw_g (lw_at lw_m8 218 rfl) rfl
theorem q2041 : (Jvm.Cond.selects "LetterPost" ({ cls := "LetterPost", name := "guard", desc := "(I)I" } : Jvm.MethodName) ({ cls := "LetterPost", name := "guard", desc := "(I)I" } : Jvm.MethodName)) ∈ lw_all := lw_g (lw_at lw_m8 219 rfl) rfl
theorem q2042 : (Jvm.Cond.code ({ cls := "LetterPost", name := "guard", desc := "(I)I" } : Jvm.MethodName) prog_1_method_77_code (2 : Nat) (Option.some Jvm.ClassFile.FieldType.int)) ∈ lw_all := lw_g (lw_at lw_m8 220 rfl) rfl
theorem q2044 : (Jvm.Cond.instanceMethod ({ cls := "LetterPost", name := "bound", desc := "(I)I" } : Jvm.MethodName)) ∈ lw_all := lw_g (lw_at lw_m8 222 rfl) rfl
theorem q2045 : (Jvm.Cond.selects "LetterPost" ({ cls := "LetterPost", name := "bound", desc := "(I)I" } : Jvm.MethodName) ({ cls := "LetterPost", name := "bound", desc := "(I)I" } : Jvm.MethodName)) ∈ lw_all := lw_g (lw_at lw_m8 223 rfl) rfl
theorem q2046 : (Jvm.Cond.code ({ cls := "LetterPost", name := "bound", desc := "(I)I" } : Jvm.MethodName) prog_1_method_78_code (3 : Nat) (Option.some Jvm.ClassFile.FieldType.int)) ∈ lw_all := lw_g (lw_at lw_m8 224 rfl) rfl
theorem q2049 : (Jvm.Cond.instanceMethod ({ cls := "LetterPost", name := "<init>", desc := "()V" } : Jvm.MethodName)) ∈ lw_all := lw_g (lw_at lw_m8 227 rfl) rfl
theorem q2050 : (Jvm.Cond.code ({ cls := "LetterPost", name := "<init>", desc := "()V" } : Jvm.MethodName) prog_1_method_79_code (1 : Nat) (Option.none : Option Jvm.ClassFile.FieldType)) ∈ lw_all := lw_g (lw_at lw_m8 228 rfl) rfl
theorem q2051 : (Jvm.Cond.methodLink "LetterPost" (647 : Nat) ({ cls := "java/lang/Object", name := "<init>", desc := "()V" } : Jvm.MethodName)) ∈ lw_all := lw_g (lw_at lw_m8 229 rfl) rfl
theorem q2053 : (Jvm.Cond.fieldLink "LetterPost" (1 : Nat) "LetterPost" "kinds" "[LLetterPost$Kind;") ∈ lw_all := lw_g (lw_at lw_m8 231 rfl) rfl
theorem q2055 : (Jvm.Cond.fieldLink "LetterPost" (7 : Nat) "LetterPost" "kindMany" "I") ∈ lw_all := lw_g (lw_at lw_m8 233 rfl) rfl
theorem q2058 : (Jvm.Cond.fieldLink "LetterPost" (445 : Nat) "LetterPost" "lateMany" "I") ∈ lw_all := lw_g (lw_at lw_m8 236 rfl) rfl
theorem q2059 : (Jvm.Cond.fieldLink "LetterPost" (516 : Nat) "LetterPost" "values" "[LLetterPost$Value;") ∈ lw_all := lw_g (lw_at lw_m8 237 rfl) rfl
theorem q2060 : (Jvm.Cond.fieldLink "LetterPost" (520 : Nat) "LetterPost" "valueMany" "I") ∈ lw_all := lw_g (lw_at lw_m8 238 rfl) rfl
theorem q2061 : (Jvm.Cond.fieldLink "LetterPost" (382 : Nat) "LetterPost" "functions" "[LLetterPost$Function;") ∈ lw_all := lw_g (lw_at lw_m8 239 rfl) rfl
theorem q2062 : (Jvm.Cond.fieldLink "LetterPost" (379 : Nat) "LetterPost" "functionMany" "I") ∈ lw_all := lw_g (lw_at lw_m9 0 rfl) rfl
theorem q2063 : (Jvm.Cond.fieldLink "LetterPost" (57 : Nat) "LetterPost" "tape" "[B") ∈ lw_all := lw_g (lw_at lw_m9 1 rfl) rfl
theorem q2064 : (Jvm.Cond.fieldLink "LetterPost" (54 : Nat) "LetterPost" "size" "I") ∈ lw_all := lw_g (lw_at lw_m9 2 rfl) rfl
theorem q2065 : (Jvm.Cond.fieldLink "LetterPost" (67 : Nat) "LetterPost" "at" "I") ∈ lw_all := lw_g (lw_at lw_m9 3 rfl) rfl
theorem q2066 : (Jvm.Cond.fieldLink "LetterPost" (81 : Nat) "LetterPost" "type" "I") ∈ lw_all := lw_g (lw_at lw_m9 4 rfl) rfl
theorem q2067 : (Jvm.Cond.fieldLink "LetterPost" (78 : Nat) "LetterPost" "place" "I") ∈ lw_all := lw_g (lw_at lw_m9 5 rfl) rfl
theorem q2068 : (Jvm.Cond.fieldLink "LetterPost" (115 : Nat) "LetterPost" "word" "J") ∈ lw_all := lw_g (lw_at lw_m9 6 rfl) rfl
theorem q2069 : (Jvm.Cond.fieldLink "LetterPost" (95 : Nat) "LetterPost" "number" "I") ∈ lw_all := lw_g (lw_at lw_m9 7 rfl) rfl
theorem q2070 : (Jvm.Cond.fieldLink "LetterPost" (112 : Nat) "LetterPost" "sign" "I") ∈ lw_all := lw_g (lw_at lw_m9 8 rfl) rfl
theorem q2071 : (Jvm.Cond.fieldLink "LetterPost" (270 : Nat) "LetterPost" "names" "[J") ∈ lw_all := lw_g (lw_at lw_m9 9 rfl) rfl
theorem q2072 : (Jvm.Cond.fieldLink "LetterPost" (280 : Nat) "LetterPost" "nameSorts" "[I") ∈ lw_all := lw_g (lw_at lw_m9 10 rfl) rfl
theorem q2073 : (Jvm.Cond.fieldLink "LetterPost" (267 : Nat) "LetterPost" "nameMany" "I") ∈ lw_all := lw_g (lw_at lw_m9 11 rfl) rfl
theorem q2074 : (Jvm.Cond.fieldLink "LetterPost" (274 : Nat) "LetterPost" "bound" "I") ∈ lw_all := lw_g (lw_at lw_m9 12 rfl) rfl
theorem q2075 : (Jvm.Cond.fieldLink "LetterPost" (196 : Nat) "LetterPost" "within" "I") ∈ lw_all := lw_g (lw_at lw_m9 13 rfl) rfl
theorem q2076 : (Jvm.Cond.fieldLink "LetterPost" (193 : Nat) "LetterPost" "isMuch" "Z") ∈ lw_all := lw_g (lw_at lw_m9 14 rfl) rfl
theorem q2077 : (Jvm.Cond.fieldLink "LetterPost" (412 : Nat) "LetterPost" "fault" "I") ∈ lw_all := lw_g (lw_at lw_m9 15 rfl) rfl
theorem q2078 : (Jvm.Cond.fieldLink "LetterPost" (409 : Nat) "LetterPost" "isRead" "Z") ∈ lw_all := lw_g (lw_at lw_m9 16 rfl) rfl
theorem q2079 : (Jvm.Cond.fieldLink "LetterPost" (567 : Nat) "LetterPost" "told" "[I") ∈ lw_all := lw_g (lw_at lw_m9 17 rfl) rfl
theorem q2080 : (Jvm.Cond.fieldLink "LetterPost" (569 : Nat) "LetterPost" "guards" "[I") ∈ lw_all := lw_g (lw_at lw_m9 18 rfl) rfl
theorem q2081 : (Jvm.Cond.fieldLink "LetterPost" (620 : Nat) "LetterPost" "taken" "LLetterPost$Rule;") ∈ lw_all := lw_g (lw_at lw_m9 19 rfl) rfl
theorem q2082 : (Jvm.Cond.fieldLink "LetterPost" (634 : Nat) "LetterPost" "takenBound" "[LLetterPost$Value;") ∈ lw_all := lw_g (lw_at lw_m9 20 rfl) rfl
theorem q2083 : (Jvm.Cond.fieldLink "LetterPost" (579 : Nat) "LetterPost" "how" "I") ∈ lw_all := lw_g (lw_at lw_m9 21 rfl) rfl
theorem q2084 : (Jvm.Cond.fieldLink "LetterPost" (580 : Nat) "LetterPost" "threw" "LLetterPost$Rule;") ∈ lw_all := lw_g (lw_at lw_m9 22 rfl) rfl
theorem q2085 : (Jvm.Cond.lays "LetterPost" "LetterPost" "kinds" "[LLetterPost$Kind;") ∈ lw_all := lw_g (lw_at lw_m9 23 rfl) rfl
theorem q2086 : (Jvm.Cond.soleField "LetterPost" "kinds") ∈ lw_all := lw_g (lw_at lw_m9 24 rfl) rfl
theorem q2087 : (Jvm.Cond.lays "LetterPost" "LetterPost" "kindMany" "I") ∈ lw_all := lw_g (lw_at lw_m9 25 rfl) rfl
theorem q2088 : (Jvm.Cond.soleField "LetterPost" "kindMany") ∈ lw_all := lw_g (lw_at lw_m9 26 rfl) rfl
theorem q2089 : (Jvm.Cond.lays "LetterPost" "LetterPost" "lateMany" "I") ∈ lw_all := lw_g (lw_at lw_m9 27 rfl) rfl
theorem q2090 : (Jvm.Cond.soleField "LetterPost" "lateMany") ∈ lw_all := lw_g (lw_at lw_m9 28 rfl) rfl
theorem q2091 : (Jvm.Cond.laysFinal "LetterPost" "LetterPost" "values" "[LLetterPost$Value;") ∈ lw_all := lw_g (lw_at lw_m9 29 rfl) rfl
theorem q2092 : (Jvm.Cond.soleField "LetterPost" "values") ∈ lw_all := lw_g (lw_at lw_m9 30 rfl) rfl
theorem q2093 : (Jvm.Cond.lays "LetterPost" "LetterPost" "valueMany" "I") ∈ lw_all := lw_g (lw_at lw_m9 31 rfl) rfl
theorem q2094 : (Jvm.Cond.soleField "LetterPost" "valueMany") ∈ lw_all := lw_g (lw_at lw_m9 32 rfl) rfl
theorem q2095 : (Jvm.Cond.lays "LetterPost" "LetterPost" "functions" "[LLetterPost$Function;") ∈ lw_all := lw_g (lw_at lw_m9 33 rfl) rfl
theorem q2096 : (Jvm.Cond.soleField "LetterPost" "functions") ∈ lw_all := lw_g (lw_at lw_m9 34 rfl) rfl
theorem q2097 : (Jvm.Cond.lays "LetterPost" "LetterPost" "functionMany" "I") ∈ lw_all := lw_g (lw_at lw_m9 35 rfl) rfl
theorem q2098 : (Jvm.Cond.soleField "LetterPost" "functionMany") ∈ lw_all := lw_g (lw_at lw_m9 36 rfl) rfl
theorem q2099 : (Jvm.Cond.laysFinal "LetterPost" "LetterPost" "tape" "[B") ∈ lw_all := lw_g (lw_at lw_m9 37 rfl) rfl
theorem q2100 : (Jvm.Cond.soleField "LetterPost" "tape") ∈ lw_all := lw_g (lw_at lw_m9 38 rfl) rfl
theorem q2101 : (Jvm.Cond.lays "LetterPost" "LetterPost" "size" "I") ∈ lw_all := lw_g (lw_at lw_m9 39 rfl) rfl
theorem q2102 : (Jvm.Cond.soleField "LetterPost" "size") ∈ lw_all := lw_g (lw_at lw_m9 40 rfl) rfl
theorem q2103 : (Jvm.Cond.lays "LetterPost" "LetterPost" "at" "I") ∈ lw_all := lw_g (lw_at lw_m9 41 rfl) rfl
theorem q2104 : (Jvm.Cond.soleField "LetterPost" "at") ∈ lw_all := lw_g (lw_at lw_m9 42 rfl) rfl
theorem q2105 : (Jvm.Cond.lays "LetterPost" "LetterPost" "type" "I") ∈ lw_all := lw_g (lw_at lw_m9 43 rfl) rfl
theorem q2106 : (Jvm.Cond.soleField "LetterPost" "type") ∈ lw_all := lw_g (lw_at lw_m9 44 rfl) rfl
theorem q2107 : (Jvm.Cond.lays "LetterPost" "LetterPost" "place" "I") ∈ lw_all := lw_g (lw_at lw_m9 45 rfl) rfl
theorem q2108 : (Jvm.Cond.soleField "LetterPost" "place") ∈ lw_all := lw_g (lw_at lw_m9 46 rfl) rfl
theorem q2109 : (Jvm.Cond.lays "LetterPost" "LetterPost" "word" "J") ∈ lw_all := lw_g (lw_at lw_m9 47 rfl) rfl
theorem q2110 : (Jvm.Cond.soleField "LetterPost" "word") ∈ lw_all := lw_g (lw_at lw_m9 48 rfl) rfl
theorem q2111 : (Jvm.Cond.lays "LetterPost" "LetterPost" "number" "I") ∈ lw_all := lw_g (lw_at lw_m9 49 rfl) rfl
theorem q2112 : (Jvm.Cond.soleField "LetterPost" "number") ∈ lw_all := lw_g (lw_at lw_m9 50 rfl) rfl
theorem q2113 : (Jvm.Cond.lays "LetterPost" "LetterPost" "sign" "I") ∈ lw_all := lw_g (lw_at lw_m9 51 rfl) rfl
theorem q2114 : (Jvm.Cond.soleField "LetterPost" "sign") ∈ lw_all := lw_g (lw_at lw_m9 52 rfl) rfl
theorem q2115 : (Jvm.Cond.laysFinal "LetterPost" "LetterPost" "names" "[J") ∈ lw_all := lw_g (lw_at lw_m9 53 rfl) rfl
theorem q2116 : (Jvm.Cond.soleField "LetterPost" "names") ∈ lw_all := lw_g (lw_at lw_m9 54 rfl) rfl
theorem q2117 : (Jvm.Cond.laysFinal "LetterPost" "LetterPost" "nameSorts" "[I") ∈ lw_all := lw_g (lw_at lw_m9 55 rfl) rfl
theorem q2118 : (Jvm.Cond.soleField "LetterPost" "nameSorts") ∈ lw_all := lw_g (lw_at lw_m9 56 rfl) rfl
theorem q2119 : (Jvm.Cond.lays "LetterPost" "LetterPost" "nameMany" "I") ∈ lw_all := lw_g (lw_at lw_m9 57 rfl) rfl
theorem q2120 : (Jvm.Cond.soleField "LetterPost" "nameMany") ∈ lw_all := lw_g (lw_at lw_m9 58 rfl) rfl
theorem q2121 : (Jvm.Cond.lays "LetterPost" "LetterPost" "bound" "I") ∈ lw_all := lw_g (lw_at lw_m9 59 rfl) rfl
theorem q2122 : (Jvm.Cond.soleField "LetterPost" "bound") ∈ lw_all := lw_g (lw_at lw_m9 60 rfl) rfl
theorem q2123 : (Jvm.Cond.lays "LetterPost" "LetterPost" "within" "I") ∈ lw_all := lw_g (lw_at lw_m9 61 rfl) rfl
theorem q2124 : (Jvm.Cond.soleField "LetterPost" "within") ∈ lw_all := lw_g (lw_at lw_m9 62 rfl) rfl
theorem q2125 : (Jvm.Cond.lays "LetterPost" "LetterPost" "isMuch" "Z") ∈ lw_all := lw_g (lw_at lw_m9 63 rfl) rfl
theorem q2126 : (Jvm.Cond.soleField "LetterPost" "isMuch") ∈ lw_all := lw_g (lw_at lw_m9 64 rfl) rfl
theorem q2127 : (Jvm.Cond.lays "LetterPost" "LetterPost" "fault" "I") ∈ lw_all := lw_g (lw_at lw_m9 65 rfl) rfl
theorem q2128 : (Jvm.Cond.soleField "LetterPost" "fault") ∈ lw_all := lw_g (lw_at lw_m9 66 rfl) rfl
theorem q2129 : (Jvm.Cond.lays "LetterPost" "LetterPost" "isRead" "Z") ∈ lw_all := lw_g (lw_at lw_m9 67 rfl) rfl
theorem q2130 : (Jvm.Cond.soleField "LetterPost" "isRead") ∈ lw_all := lw_g (lw_at lw_m9 68 rfl) rfl
theorem q2131 : (Jvm.Cond.laysFinal "LetterPost" "LetterPost" "told" "[I") ∈ lw_all := lw_g (lw_at lw_m9 69 rfl) rfl
theorem q2132 : (Jvm.Cond.soleField "LetterPost" "told") ∈ lw_all := lw_g (lw_at lw_m9 70 rfl) rfl
theorem q2133 : (Jvm.Cond.laysFinal "LetterPost" "LetterPost" "guards" "[I") ∈ lw_all := lw_g (lw_at lw_m9 71 rfl) rfl
theorem q2134 : (Jvm.Cond.soleField "LetterPost" "guards") ∈ lw_all := lw_g (lw_at lw_m9 72 rfl) rfl
theorem q2135 : (Jvm.Cond.lays "LetterPost" "LetterPost" "taken" "LLetterPost$Rule;") ∈ lw_all := lw_g (lw_at lw_m9 73 rfl) rfl
theorem q2136 : (Jvm.Cond.soleField "LetterPost" "taken") ∈ lw_all := lw_g (lw_at lw_m9 74 rfl) rfl
theorem q2137 : (Jvm.Cond.lays "LetterPost" "LetterPost" "takenBound" "[LLetterPost$Value;") ∈ lw_all := lw_g (lw_at lw_m9 75 rfl) rfl
theorem q2138 : (Jvm.Cond.soleField "LetterPost" "takenBound") ∈ lw_all := lw_g (lw_at lw_m9 76 rfl) rfl
theorem q2139 : (Jvm.Cond.lays "LetterPost" "LetterPost" "how" "I") ∈ lw_all := lw_g (lw_at lw_m9 77 rfl) rfl
theorem q2140 : (Jvm.Cond.soleField "LetterPost" "how") ∈ lw_all := lw_g (lw_at lw_m9 78 rfl) rfl
theorem q2141 : (Jvm.Cond.lays "LetterPost" "LetterPost" "threw" "LLetterPost$Rule;") ∈ lw_all := lw_g (lw_at lw_m9 79 rfl) rfl
theorem q2142 : (Jvm.Cond.soleField "LetterPost" "threw") ∈ lw_all := lw_g (lw_at lw_m9 80 rfl) rfl
theorem q2143 : (Jvm.Cond.superclass "LetterPost" "java/lang/Object") ∈ lw_all := lw_g (lw_at lw_m9 81 rfl) rfl
theorem q2145 : (Jvm.Cond.instanceMethod ({ cls := "LetterPost", name := "count", desc := "(I)I" } : Jvm.MethodName)) ∈ lw_all := lw_g (lw_at lw_m9 83 rfl) rfl
theorem q2146 : (Jvm.Cond.selects "LetterPost" ({ cls := "LetterPost", name := "count", desc := "(I)I" } : Jvm.MethodName) ({ cls := "LetterPost", name := "count", desc := "(I)I" } : Jvm.MethodName)) ∈ lw_all := lw_g (lw_at lw_m9 84 rfl) rfl
theorem q2147 : (Jvm.Cond.code ({ cls := "LetterPost", name := "count", desc := "(I)I" } : Jvm.MethodName) prog_1_method_80_code (2 : Nat) (Option.some Jvm.ClassFile.FieldType.int)) ∈ lw_all := lw_g (lw_at lw_m9 85 rfl) rfl
theorem in_X0 : ∀ w ∈ wsX00, w ∈ lw_all := lw_in wsX00 [2085, 2087, 2089, 2091, 2093, 2095, 2097, 2099, 2101, 2103, 2105, 2107, 2109, 2111, 2113, 2115, 2117, 2119, 2121, 2123, 2125, 2127, 2129, 2131, 2133, 2135, 2137, 2139, 2141] (by decide +kernel) (by decide +kernel)
