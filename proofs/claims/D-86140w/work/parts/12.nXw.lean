theorem q142 : (Jvm.Cond.initialized "LetterPostLaw") ∈ lw_all := lw_g (lw_at lw_m1 0 rfl) rfl
set_option maxRecDepth 100000
theorem q194 : (Jvm.Cond.methodLink "LetterPostLaw" (15 : Nat) ({ cls := "LetterPost", name := "feed", desc := "(JI)I" } : Jvm.MethodName)) ∈ lw_all := lw_g (lw_at lw_m1 52 rfl) rfl
theorem q202 : (Jvm.Cond.methodLink "LetterPostLaw" (20 : Nat) ({ cls := "LetterPost", name := "read", desc := "()I" } : Jvm.MethodName)) ∈ lw_all := lw_g (lw_at lw_m1 60 rfl) rfl
theorem q1539 : (Jvm.Cond.methodLink "LetterPostLaw" (25 : Nat) ({ cls := "LetterPost", name := "fault", desc := "()I" } : Jvm.MethodName)) ∈ lw_all := lw_g (lw_at lw_m6 197 rfl) rfl
theorem q1543 : (Jvm.Cond.methodLink "LetterPostLaw" (29 : Nat) ({ cls := "LetterPost", name := "add", desc := "()I" } : Jvm.MethodName)) ∈ lw_all := lw_g (lw_at lw_m6 201 rfl) rfl
theorem q1547 : (Jvm.Cond.methodLink "LetterPostLaw" (33 : Nat) ({ cls := "LetterPost", name := "remake", desc := "(II)I" } : Jvm.MethodName)) ∈ lw_all := lw_g (lw_at lw_m6 205 rfl) rfl
theorem q1568 : (Jvm.Cond.methodLink "LetterPostLaw" (38 : Nat) ({ cls := "LetterPost", name := "kind", desc := "(II)I" } : Jvm.MethodName)) ∈ lw_all := lw_g (lw_at lw_m6 226 rfl) rfl
theorem q1573 : (Jvm.Cond.methodLink "LetterPostLaw" (42 : Nat) ({ cls := "LetterPost", name := "kindNamed", desc := "(J)I" } : Jvm.MethodName)) ∈ lw_all := lw_g (lw_at lw_m6 231 rfl) rfl
theorem q1577 : (Jvm.Cond.methodLink "LetterPostLaw" (47 : Nat) ({ cls := "LetterPost", name := "function", desc := "(II)I" } : Jvm.MethodName)) ∈ lw_all := lw_g (lw_at lw_m6 235 rfl) rfl
theorem q1594 : (Jvm.Cond.methodLink "LetterPostLaw" (51 : Nat) ({ cls := "LetterPost", name := "node", desc := "(III)I" } : Jvm.MethodName)) ∈ lw_all := lw_g (lw_at lw_m7 12 rfl) rfl
theorem q1663 : (Jvm.Cond.methodLink "LetterPostLaw" (56 : Nat) ({ cls := "LetterPost", name := "branch", desc := "(III)I" } : Jvm.MethodName)) ∈ lw_all := lw_g (lw_at lw_m7 81 rfl) rfl
theorem q1667 : (Jvm.Cond.methodLink "LetterPostLaw" (60 : Nat) ({ cls := "LetterPost", name := "missing", desc := "(I)I" } : Jvm.MethodName)) ∈ lw_all := lw_g (lw_at lw_m7 85 rfl) rfl
theorem q1685 : (Jvm.Cond.methodLink "LetterPostLaw" (65 : Nat) ({ cls := "LetterPost", name := "unreached", desc := "(II)I" } : Jvm.MethodName)) ∈ lw_all := lw_g (lw_at lw_m7 103 rfl) rfl
theorem q1689 : (Jvm.Cond.methodLink "LetterPostLaw" (69 : Nat) ({ cls := "LetterPost", name := "whole", desc := "(I)I" } : Jvm.MethodName)) ∈ lw_all := lw_g (lw_at lw_m7 107 rfl) rfl
theorem q1722 : (Jvm.Cond.methodLink "LetterPostLaw" (73 : Nat) ({ cls := "LetterPost", name := "truth", desc := "(I)I" } : Jvm.MethodName)) ∈ lw_all := lw_g (lw_at lw_m7 140 rfl) rfl
theorem q1736 : (Jvm.Cond.methodLink "LetterPostLaw" (77 : Nat) ({ cls := "LetterPost", name := "letters", desc := "(J)I" } : Jvm.MethodName)) ∈ lw_all := lw_g (lw_at lw_m7 154 rfl) rfl
theorem q1754 : (Jvm.Cond.methodLink "LetterPostLaw" (81 : Nat) ({ cls := "LetterPost", name := "nothing", desc := "()I" } : Jvm.MethodName)) ∈ lw_all := lw_g (lw_at lw_m7 172 rfl) rfl
theorem q1767 : (Jvm.Cond.methodLink "LetterPostLaw" (85 : Nat) ({ cls := "LetterPost", name := "make", desc := "(IIIII)I" } : Jvm.MethodName)) ∈ lw_all := lw_g (lw_at lw_m7 185 rfl) rfl
theorem q1828 : (Jvm.Cond.methodLink "LetterPostLaw" (90 : Nat) ({ cls := "LetterPost", name := "value", desc := "(II)I" } : Jvm.MethodName)) ∈ lw_all := lw_g (lw_at lw_m8 6 rfl) rfl
theorem q1848 : (Jvm.Cond.methodLink "LetterPostLaw" (94 : Nat) ({ cls := "LetterPost", name := "alike", desc := "(II)I" } : Jvm.MethodName)) ∈ lw_all := lw_g (lw_at lw_m8 26 rfl) rfl
theorem q1878 : (Jvm.Cond.methodLink "LetterPostLaw" (98 : Nat) ({ cls := "LetterPost", name := "sort", desc := "(IIII)I" } : Jvm.MethodName)) ∈ lw_all := lw_g (lw_at lw_m8 56 rfl) rfl
theorem q2031 : (Jvm.Cond.methodLink "LetterPostLaw" (103 : Nat) ({ cls := "LetterPost", name := "plain", desc := "(IIII)I" } : Jvm.MethodName)) ∈ lw_all := lw_g (lw_at lw_m8 209 rfl) rfl
theorem q2035 : (Jvm.Cond.methodLink "LetterPostLaw" (107 : Nat) ({ cls := "LetterPost", name := "told", desc := "(I)I" } : Jvm.MethodName)) ∈ lw_all := lw_g (lw_at lw_m8 213 rfl) rfl
theorem q2039 : (Jvm.Cond.methodLink "LetterPostLaw" (111 : Nat) ({ cls := "LetterPost", name := "guard", desc := "(I)I" } : Jvm.MethodName)) ∈ lw_all := lw_g (lw_at lw_m8 217 rfl) rfl
theorem q2043 : (Jvm.Cond.methodLink "LetterPostLaw" (115 : Nat) ({ cls := "LetterPost", name := "bound", desc := "(I)I" } : Jvm.MethodName)) ∈ lw_all := lw_g (lw_at lw_m8 221 rfl) rfl
theorem q2047 : (Jvm.Cond.classLink "LetterPostLaw" (7 : Nat) "LetterPost") ∈ lw_all := lw_g (lw_at lw_m8 225 rfl) rfl
theorem q2048 : (Jvm.Cond.methodLink "LetterPostLaw" (9 : Nat) ({ cls := "LetterPost", name := "<init>", desc := "()V" } : Jvm.MethodName)) ∈ lw_all := lw_g (lw_at lw_m8 226 rfl) rfl
theorem q2144 : (Jvm.Cond.methodLink "LetterPostLaw" (119 : Nat) ({ cls := "LetterPost", name := "count", desc := "(I)I" } : Jvm.MethodName)) ∈ lw_all := lw_g (lw_at lw_m9 82 rfl) rfl
theorem q2148 : (Jvm.Cond.classLink "LetterPostLaw" (10 : Nat) "LetterPostModel") ∈ lw_all := lw_g (lw_at lw_m9 86 rfl) rfl
theorem q2150 : (Jvm.Cond.methodLink "LetterPostLaw" (12 : Nat) ({ cls := "LetterPostModel", name := "<init>", desc := "()V" } : Jvm.MethodName)) ∈ lw_all := lw_g (lw_at lw_m9 88 rfl) rfl
theorem q2547 : (Jvm.Cond.methodLink "LetterPostLaw" (19 : Nat) ({ cls := "LetterPostModel", name := "feed", desc := "(JI)I" } : Jvm.MethodName)) ∈ lw_all := lw_g (lw_at lw_m11 5 rfl) rfl
theorem q2556 : (Jvm.Cond.methodLink "LetterPostLaw" (24 : Nat) ({ cls := "LetterPostModel", name := "read", desc := "()I" } : Jvm.MethodName)) ∈ lw_all := lw_g (lw_at lw_m11 14 rfl) rfl
theorem q2824 : (Jvm.Cond.methodLink "LetterPostLaw" (28 : Nat) ({ cls := "LetterPostModel", name := "fault", desc := "()I" } : Jvm.MethodName)) ∈ lw_all := lw_g (lw_at lw_m12 42 rfl) rfl
theorem q2828 : (Jvm.Cond.methodLink "LetterPostLaw" (32 : Nat) ({ cls := "LetterPostModel", name := "add", desc := "()I" } : Jvm.MethodName)) ∈ lw_all := lw_g (lw_at lw_m12 46 rfl) rfl
theorem q2832 : (Jvm.Cond.methodLink "LetterPostLaw" (37 : Nat) ({ cls := "LetterPostModel", name := "remake", desc := "(II)I" } : Jvm.MethodName)) ∈ lw_all := lw_g (lw_at lw_m12 50 rfl) rfl
theorem q2844 : (Jvm.Cond.methodLink "LetterPostLaw" (41 : Nat) ({ cls := "LetterPostModel", name := "kind", desc := "(II)I" } : Jvm.MethodName)) ∈ lw_all := lw_g (lw_at lw_m12 62 rfl) rfl
theorem q2852 : (Jvm.Cond.methodLink "LetterPostLaw" (46 : Nat) ({ cls := "LetterPostModel", name := "kindNamed", desc := "(J)I" } : Jvm.MethodName)) ∈ lw_all := lw_g (lw_at lw_m12 70 rfl) rfl
theorem q2856 : (Jvm.Cond.methodLink "LetterPostLaw" (50 : Nat) ({ cls := "LetterPostModel", name := "function", desc := "(II)I" } : Jvm.MethodName)) ∈ lw_all := lw_g (lw_at lw_m12 74 rfl) rfl
theorem q2864 : (Jvm.Cond.methodLink "LetterPostLaw" (55 : Nat) ({ cls := "LetterPostModel", name := "node", desc := "(III)I" } : Jvm.MethodName)) ∈ lw_all := lw_g (lw_at lw_m12 82 rfl) rfl
theorem q2869 : (Jvm.Cond.methodLink "LetterPostLaw" (59 : Nat) ({ cls := "LetterPostModel", name := "branch", desc := "(III)I" } : Jvm.MethodName)) ∈ lw_all := lw_g (lw_at lw_m12 87 rfl) rfl
theorem q2873 : (Jvm.Cond.methodLink "LetterPostLaw" (64 : Nat) ({ cls := "LetterPostModel", name := "missing", desc := "(I)I" } : Jvm.MethodName)) ∈ lw_all := lw_g (lw_at lw_m12 91 rfl) rfl
theorem q2877 : (Jvm.Cond.methodLink "LetterPostLaw" (68 : Nat) ({ cls := "LetterPostModel", name := "unreached", desc := "(II)I" } : Jvm.MethodName)) ∈ lw_all := lw_g (lw_at lw_m12 95 rfl) rfl
theorem q2881 : (Jvm.Cond.methodLink "LetterPostLaw" (72 : Nat) ({ cls := "LetterPostModel", name := "whole", desc := "(I)I" } : Jvm.MethodName)) ∈ lw_all := lw_g (lw_at lw_m12 99 rfl) rfl
theorem q2889 : (Jvm.Cond.methodLink "LetterPostLaw" (76 : Nat) ({ cls := "LetterPostModel", name := "truth", desc := "(I)I" } : Jvm.MethodName)) ∈ lw_all := lw_g (lw_at lw_m12 107 rfl) rfl
theorem q2893 : (Jvm.Cond.methodLink "LetterPostLaw" (80 : Nat) ({ cls := "LetterPostModel", name := "letters", desc := "(J)I" } : Jvm.MethodName)) ∈ lw_all := lw_g (lw_at lw_m12 111 rfl) rfl
theorem q2897 : (Jvm.Cond.methodLink "LetterPostLaw" (84 : Nat) ({ cls := "LetterPostModel", name := "nothing", desc := "()I" } : Jvm.MethodName)) ∈ lw_all := lw_g (lw_at lw_m12 115 rfl) rfl
theorem q2901 : (Jvm.Cond.methodLink "LetterPostLaw" (89 : Nat) ({ cls := "LetterPostModel", name := "make", desc := "(IIIII)I" } : Jvm.MethodName)) ∈ lw_all := lw_g (lw_at lw_m12 119 rfl) rfl
theorem q2913 : (Jvm.Cond.methodLink "LetterPostLaw" (93 : Nat) ({ cls := "LetterPostModel", name := "value", desc := "(II)I" } : Jvm.MethodName)) ∈ lw_all := lw_g (lw_at lw_m12 131 rfl) rfl
theorem q2918 : (Jvm.Cond.methodLink "LetterPostLaw" (97 : Nat) ({ cls := "LetterPostModel", name := "alike", desc := "(II)I" } : Jvm.MethodName)) ∈ lw_all := lw_g (lw_at lw_m12 136 rfl) rfl
theorem q2922 : (Jvm.Cond.methodLink "LetterPostLaw" (102 : Nat) ({ cls := "LetterPostModel", name := "sort", desc := "(IIII)I" } : Jvm.MethodName)) ∈ lw_all := lw_g (lw_at lw_m12 140 rfl) rfl
theorem q2970 : (Jvm.Cond.methodLink "LetterPostLaw" (106 : Nat) ({ cls := "LetterPostModel", name := "plain", desc := "(IIII)I" } : Jvm.MethodName)) ∈ lw_all := lw_g (lw_at lw_m12 188 rfl) rfl
theorem q2974 : (Jvm.Cond.methodLink "LetterPostLaw" (110 : Nat) ({ cls := "LetterPostModel", name := "told", desc := "(I)I" } : Jvm.MethodName)) ∈ lw_all := lw_g (lw_at lw_m12 192 rfl) rfl
theorem q2978 : (Jvm.Cond.methodLink "LetterPostLaw" (114 : Nat) ({ cls := "LetterPostModel", name := "guard", desc := "(I)I" } : Jvm.MethodName)) ∈ lw_all := lw_g (lw_at lw_m12 196 rfl) rfl
theorem q2982 : (Jvm.Cond.methodLink "LetterPostLaw" (118 : Nat) ({ cls := "LetterPostModel", name := "bound", desc := "(I)I" } : Jvm.MethodName)) ∈ lw_all := lw_g (lw_at lw_m12 200 rfl) rfl
theorem q2986 : (Jvm.Cond.methodLink "LetterPostLaw" (122 : Nat) ({ cls := "LetterPostModel", name := "count", desc := "(I)I" } : Jvm.MethodName)) ∈ lw_all := lw_g (lw_at lw_m12 204 rfl) rfl
theorem q2990 : (Jvm.Cond.constantLong "LetterPostLaw" (13 : Nat) (4294967295 : Int64)) ∈ lw_all := lw_g (lw_at lw_m12 208 rfl) rfl

theorem q378 : (Jvm.Cond.sameMethod "[B" "java/lang/Object" "clone" "()Ljava/lang/Object;") ∈ lw_all := lw_g (lw_at lw_m1 236 rfl) rfl
set_option maxRecDepth 100000
theorem q381 : (Jvm.Cond.selects "[B" ({ cls := "[B", name := "clone", desc := "()Ljava/lang/Object;" } : Jvm.MethodName) ({ cls := "java/lang/Object", name := "clone", desc := "()Ljava/lang/Object;" } : Jvm.MethodName)) ∈ lw_all := lw_g (lw_at lw_m1 239 rfl) rfl
theorem q382 : (Jvm.Cond.castable "[B" "java/lang/Cloneable") ∈ lw_tbl := lw_at lw_m2 0 rfl

theorem q557 : (Jvm.Cond.interfaceMethod "java/lang/CharSequence" "java/lang/CharSequence" "toString" "()Ljava/lang/String;") ∈ lw_tbl := lw_at lw_m2 175 rfl
set_option maxRecDepth 100000
theorem q558 : (Jvm.Cond.declares ({ cls := "java/lang/CharSequence", name := "toString", desc := "()Ljava/lang/String;" } : Jvm.MethodName)) ∈ lw_tbl := lw_at lw_m2 176 rfl

theorem q155 : (Jvm.Cond.initialized "java/lang/System") ∈ lw_all := lw_g (lw_at lw_m1 13 rfl) rfl
set_option maxRecDepth 100000
theorem q388 : (Jvm.Cond.static ({ cls := "java/lang/System", name := "arraycopy", desc := "(Ljava/lang/Object;ILjava/lang/Object;II)V" } : Jvm.MethodName)) ∈ lw_all := lw_g (lw_at lw_m2 6 rfl) rfl
theorem q389 : (Jvm.Cond.native ({ cls := "java/lang/System", name := "arraycopy", desc := "(Ljava/lang/Object;ILjava/lang/Object;II)V" } : Jvm.MethodName)) ∈ lw_all := lw_g (lw_at lw_m2 7 rfl) rfl

theorem q467 : (Jvm.Cond.arrayClass Jvm.ClassFile.FieldType.byte) ∈ lw_all := lw_g (lw_at lw_m2 85 rfl) rfl
set_option maxRecDepth 100000
theorem q708 : (Jvm.Cond.arrayClass Jvm.ClassFile.FieldType.int) ∈ lw_all := lw_g (lw_at lw_m3 86 rfl) rfl
theorem q740 : (Jvm.Cond.arrayOver (Jvm.ClassFile.FieldType.object "LetterPost$Rule")) ∈ lw_tbl := lw_at lw_m3 118 rfl
theorem q742 : (Jvm.Cond.arrayOver (Jvm.ClassFile.FieldType.object "LetterPost$Place")) ∈ lw_tbl := lw_at lw_m3 120 rfl
theorem q849 : (Jvm.Cond.arrayOver (Jvm.ClassFile.FieldType.object "LetterPost$Pattern")) ∈ lw_tbl := lw_at lw_m3 227 rfl
theorem q1093 : (Jvm.Cond.arrayOver (Jvm.ClassFile.FieldType.object "LetterPost$Row")) ∈ lw_tbl := lw_at lw_m4 231 rfl
theorem q1101 : (Jvm.Cond.arrayOver (Jvm.ClassFile.FieldType.object "LetterPost$Test")) ∈ lw_tbl := lw_at lw_m4 239 rfl
theorem q1217 : (Jvm.Cond.arrayOver (Jvm.ClassFile.FieldType.object "LetterPost$Kind")) ∈ lw_tbl := lw_at lw_m5 115 rfl
theorem q1261 : (Jvm.Cond.arrayClass Jvm.ClassFile.FieldType.long) ∈ lw_all := lw_g (lw_at lw_m5 159 rfl) rfl
theorem q1342 : (Jvm.Cond.arrayOver (Jvm.ClassFile.FieldType.object "LetterPost$Node")) ∈ lw_tbl := lw_at lw_m6 0 rfl
theorem q1772 : (Jvm.Cond.arrayOver (Jvm.ClassFile.FieldType.object "LetterPost$Value")) ∈ lw_tbl := lw_at lw_m7 190 rfl
theorem q2052 : (Jvm.Cond.arrayOver (Jvm.ClassFile.FieldType.object "LetterPost$Function")) ∈ lw_tbl := lw_at lw_m8 230 rfl
theorem q2546 : (Jvm.Cond.arrayClass Jvm.ClassFile.FieldType.boolean) ∈ lw_all := lw_g (lw_at lw_m11 4 rfl) rfl
